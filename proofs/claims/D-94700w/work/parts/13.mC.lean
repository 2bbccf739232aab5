/-! printed by gen.py: what the bytecode does -/
set_option maxRecDepth 100000
-- BracketRoomModel.<init>()V
abbrev Y_X8_init : JY := (cX8_init, yX8_init.cls, 2, 1, yX8_init.name, none, [])
noncomputable def X8_init_b320 (x0 : Nat) : JM Mem Unit :=
  jb (jgetA 7 19 x0) fun v36 =>
  jb (jast_i v36 0 2) fun _ =>
  jb (jgetA 7 19 x0) fun v37 =>
  jb (jast_i v37 1 1) fun _ =>
  jp ()
theorem j_X8_init_b320 (D : va_G) (dA : Nat → ClassId) (x0 : Nat) : J (PM D dA true) Y_X8_init [(0, .ref x0)] [] 320 (X8_init_b320 x0) (FRet injU) := by
  unfold X8_init_b320
  refine J_aload_n dX8_init_320 rfl 0 rfl ?_
  refine J_getA dX8_init_321 fl_X8_35 rfl (fun v36 => ?_)
  refine J_iconst (v := 0) dX8_init_324 (by decide) ?_
  refine J_iconst (v := 2) dX8_init_325 (by decide) ?_
  refine J_iast dX8_init_326 ?_
  refine J_aload_n dX8_init_327 rfl 0 rfl ?_
  refine J_getA dX8_init_328 fl_X8_35 rfl (fun v37 => ?_)
  refine J_iconst (v := 1) dX8_init_331 (by decide) ?_
  refine J_iconst (v := 1) dX8_init_332 (by decide) ?_
  refine J_iast dX8_init_333 ?_
  exact J_return dX8_init_334 rfl
noncomputable def X8_init_L302 (x0 : Nat) (x1 : Int32) : JM Mem (Unit ⊕ (Int32)) :=
  if 4 ≤ x1 then
    jinl (X8_init_b320 x0)
  else
  jb (jgetA 7 5 x0) fun v38 =>
  jb (jast_i v38 x1 (-1)) fun _ =>
  jcont (x1 + 1)
theorem j_X8_init_L302 (D : va_G) (dA : Nat → ClassId) (x0 : Nat) (x1 : Int32) : J (PM D dA true) Y_X8_init [(0, .ref x0), (1, .int x1)] [] 302 (X8_init_L302 x0 x1) (FLoop (FRet injU) 302 (fun (t : Int32) => [(0, .ref x0), (1, .int t)])) := by
  unfold X8_init_L302
  refine J_iload_n dX8_init_302 rfl 1 rfl ?_
  refine J_iconst (v := 4) dX8_init_303 (by decide) ?_
  refine J_icmp_ge (tgt := 320) dX8_init_304 rfl ?_ ?_
  · refine J_inl ?_
    refine J_sub [0] rfl ?_
    exact j_X8_init_b320 D dA x0
  refine J_aload_n dX8_init_307 rfl 0 rfl ?_
  refine J_getA dX8_init_308 fl_X8_17 rfl (fun v38 => ?_)
  refine J_iload_n dX8_init_311 rfl 1 rfl ?_
  refine J_iconst (v := (-1)) dX8_init_312 (by decide) ?_
  refine J_iast dX8_init_313 ?_
  refine J_iinc (v := x1 + 1) (env' := [(1, .int (x1 + 1)), (0, .ref x0)]) dX8_init_314 1 rfl rfl (by decide) rfl ?_
  refine J_goto (tgt := 302) dX8_init_317 rfl ?_
  exact J_cont [1, 0] rfl
noncomputable def f_X8_init (x0 : Nat) : JM Mem Unit :=
  jb (jputL 7 3 x0 1) fun _ =>
  jb (jnew (.inr (0, 4)) 4) fun v1 =>
  jb (jputO 7 4 x0 (some v1)) fun _ =>
  jb (jnew (.inr (0, 4)) 4) fun v2 =>
  jb (jputO 7 5 x0 (some v2)) fun _ =>
  jb (jnew (.inr (3, 240)) 240) fun v3 =>
  jb (jputO 7 6 x0 (some v3)) fun _ =>
  jb (jnew (.inr (1, 600)) 600) fun v4 =>
  jb (jputO 7 7 x0 (some v4)) fun _ =>
  jb (jputI 7 10 x0 (-1)) fun _ =>
  jb (jputI 7 11 x0 (-1)) fun _ =>
  jb (jnew (.inr (0, 3440)) 3440) fun v5 =>
  jb (jputO 7 19 x0 (some v5)) fun _ =>
  jb (jnew (.inr (0, 127)) 127) fun v6 =>
  jb (jputO 7 20 x0 (some v6)) fun _ =>
  jb (jnew (.inr (0, 127)) 127) fun v7 =>
  jb (jputO 7 21 x0 (some v7)) fun _ =>
  jb (jnew (.inr (0, 300)) 300) fun v8 =>
  jb (jputO 7 22 x0 (some v8)) fun _ =>
  jb (jnew (.inr (0, 25)) 25) fun v9 =>
  jb (jputO 7 28 x0 (some v9)) fun _ =>
  jb (jnew (.inr (0, 25)) 25) fun v10 =>
  jb (jputO 7 29 x0 (some v10)) fun _ =>
  jb (jnew (.inr (0, 25)) 25) fun v11 =>
  jb (jputO 7 30 x0 (some v11)) fun _ =>
  jb (jnew (.inr (0, 25)) 25) fun v12 =>
  jb (jputO 7 31 x0 (some v12)) fun _ =>
  jb (jnew (.inr (0, 25)) 25) fun v13 =>
  jb (jputO 7 32 x0 (some v13)) fun _ =>
  jb (jnew (.inr (0, 5)) 5) fun v14 =>
  jb (jputO 7 33 x0 (some v14)) fun _ =>
  jb (jnew (.inr (0, 5)) 5) fun v15 =>
  jb (jputO 7 34 x0 (some v15)) fun _ =>
  jb (jnew (.inr (0, 5)) 5) fun v16 =>
  jb (jputO 7 35 x0 (some v16)) fun _ =>
  jb (jnew (.inr (0, 5)) 5) fun v17 =>
  jb (jputO 7 36 x0 (some v17)) fun _ =>
  jb (jnew (.inr (0, 1800)) 1800) fun v18 =>
  jb (jputO 7 37 x0 (some v18)) fun _ =>
  jb (jnew (.inr (0, 30)) 30) fun v19 =>
  jb (jputO 7 38 x0 (some v19)) fun _ =>
  jb (jnew (.inr (0, 25)) 25) fun v20 =>
  jb (jputO 7 40 x0 (some v20)) fun _ =>
  jb (jnew (.inr (0, 125)) 125) fun v21 =>
  jb (jputO 7 41 x0 (some v21)) fun _ =>
  jb (jnew (.inr (0, 6)) 6) fun v22 =>
  jb (jputO 7 42 x0 (some v22)) fun _ =>
  jb (jputI 7 44 x0 (-1)) fun _ =>
  jb (jnew (.inr (0, 2)) 2) fun v23 =>
  jb (jputO 7 48 x0 (some v23)) fun _ =>
  jb (jnew (.inr (0, 5)) 5) fun v24 =>
  jb (jputO 7 54 x0 (some v24)) fun _ =>
  jb (jnew (.inr (0, 5)) 5) fun v25 =>
  jb (jputO 7 55 x0 (some v25)) fun _ =>
  jb (jnew (.inr (0, 5)) 5) fun v26 =>
  jb (jputO 7 56 x0 (some v26)) fun _ =>
  jb (jnew (.inr (0, 25)) 25) fun v27 =>
  jb (jputO 7 57 x0 (some v27)) fun _ =>
  jb (jnew (.inr (0, 25)) 25) fun v28 =>
  jb (jputO 7 58 x0 (some v28)) fun _ =>
  jb (jnew (.inr (0, 25)) 25) fun v29 =>
  jb (jputO 7 61 x0 (some v29)) fun _ =>
  jb (jnew (.inr (0, 25)) 25) fun v30 =>
  jb (jputO 7 62 x0 (some v30)) fun _ =>
  jb (jnew (.inr (0, 25)) 25) fun v31 =>
  jb (jputO 7 63 x0 (some v31)) fun _ =>
  jb (jnew (.inr (0, 25)) 25) fun v32 =>
  jb (jputO 7 66 x0 (some v32)) fun _ =>
  jb (jnew (.inr (0, 25)) 25) fun v33 =>
  jb (jputO 7 67 x0 (some v33)) fun _ =>
  jb (jnew (.inr (4, 512)) 512) fun v34 =>
  jb (jputO 7 68 x0 (some v34)) fun _ =>
  jb (jnew (.inr (0, 127)) 127) fun v35 =>
  jb (jputO 7 69 x0 (some v35)) fun _ =>
  jloop (fun (t : Int32) => X8_init_L302 x0 t) 0
theorem j_X8_init (D : va_G) (dA : Nat → ClassId) (x0 : Nat) : J (PM D dA true) Y_X8_init [(0, .ref x0)] [] 0 (f_X8_init x0) (FRet injU) := by
  unfold f_X8_init
  refine J_aload_n dX8_init_0 rfl 0 rfl ?_
  refine J_objInit dX8_init_1 (Nat.le_of_ble_eq_true rfl) (by decide) q1471 q217 q218 ?_
  refine J_aload_n dX8_init_4 rfl 0 rfl ?_
  refine J_lconst (v := 1) dX8_init_5 (by decide) ?_
  refine J_putL dX8_init_6 ⟨fl_X8_7, Or.inl rfl⟩ rfl ?_
  refine J_aload_n dX8_init_9 rfl 0 rfl ?_
  refine J_iconst (v := 4) dX8_init_10 (by decide) ?_
  refine J_newarray (t := 0) (N := 4) dX8_init_11 (by decide) rfl rfl q375 (by decide) (by decide) (by decide) (fun v1 => ?_)
  refine J_putO (x := (some v1)) dX8_init_13 ⟨fl_X8_13, Or.inr ⟨rfl, rfl, rfl, q1476⟩⟩ rfl ?_
  refine J_aload_n dX8_init_16 rfl 0 rfl ?_
  refine J_iconst (v := 4) dX8_init_17 (by decide) ?_
  refine J_newarray (t := 0) (N := 4) dX8_init_18 (by decide) rfl rfl q375 (by decide) (by decide) (by decide) (fun v2 => ?_)
  refine J_putO (x := (some v2)) dX8_init_20 ⟨fl_X8_17, Or.inr ⟨rfl, rfl, rfl, q1477⟩⟩ rfl ?_
  refine J_aload_n dX8_init_23 rfl 0 rfl ?_
  refine J_sipush (v := 240) dX8_init_24 (by decide) ?_
  refine J_newarray (t := 3) (N := 240) dX8_init_27 (by decide) rfl rfl q668 (by decide) (by decide) (by decide) (fun v3 => ?_)
  refine J_putO (x := (some v3)) dX8_init_29 ⟨fl_X8_20, Or.inr ⟨rfl, rfl, rfl, q1478⟩⟩ rfl ?_
  refine J_aload_n dX8_init_32 rfl 0 rfl ?_
  refine J_sipush (v := 600) dX8_init_33 (by decide) ?_
  refine J_newarray (t := 1) (N := 600) dX8_init_36 (by decide) rfl rfl q374 (by decide) (by decide) (by decide) (fun v4 => ?_)
  refine J_putO (x := (some v4)) dX8_init_38 ⟨fl_X8_24, Or.inr ⟨rfl, rfl, rfl, q1479⟩⟩ rfl ?_
  refine J_aload_n dX8_init_41 rfl 0 rfl ?_
  refine J_iconst (v := (-1)) dX8_init_42 (by decide) ?_
  refine J_putI dX8_init_43 ⟨fl_X8_28, Or.inl rfl⟩ rfl ?_
  refine J_aload_n dX8_init_46 rfl 0 rfl ?_
  refine J_iconst (v := (-1)) dX8_init_47 (by decide) ?_
  refine J_putI dX8_init_48 ⟨fl_X8_32, Or.inl rfl⟩ rfl ?_
  refine J_aload_n dX8_init_51 rfl 0 rfl ?_
  refine J_sipush (v := 3440) dX8_init_52 (by decide) ?_
  refine J_newarray (t := 0) (N := 3440) dX8_init_55 (by decide) rfl rfl q375 (by decide) (by decide) (by decide) (fun v5 => ?_)
  refine J_putO (x := (some v5)) dX8_init_57 ⟨fl_X8_35, Or.inr ⟨rfl, rfl, rfl, q1491⟩⟩ rfl ?_
  refine J_aload_n dX8_init_60 rfl 0 rfl ?_
  refine J_bipush (v := 127) dX8_init_61 (by decide) ?_
  refine J_newarray (t := 0) (N := 127) dX8_init_63 (by decide) rfl rfl q375 (by decide) (by decide) (by decide) (fun v6 => ?_)
  refine J_putO (x := (some v6)) dX8_init_65 ⟨fl_X8_38, Or.inr ⟨rfl, rfl, rfl, q1492⟩⟩ rfl ?_
  refine J_aload_n dX8_init_68 rfl 0 rfl ?_
  refine J_bipush (v := 127) dX8_init_69 (by decide) ?_
  refine J_newarray (t := 0) (N := 127) dX8_init_71 (by decide) rfl rfl q375 (by decide) (by decide) (by decide) (fun v7 => ?_)
  refine J_putO (x := (some v7)) dX8_init_73 ⟨fl_X8_41, Or.inr ⟨rfl, rfl, rfl, q1493⟩⟩ rfl ?_
  refine J_aload_n dX8_init_76 rfl 0 rfl ?_
  refine J_sipush (v := 300) dX8_init_77 (by decide) ?_
  refine J_newarray (t := 0) (N := 300) dX8_init_80 (by decide) rfl rfl q375 (by decide) (by decide) (by decide) (fun v8 => ?_)
  refine J_putO (x := (some v8)) dX8_init_82 ⟨fl_X8_44, Or.inr ⟨rfl, rfl, rfl, q1494⟩⟩ rfl ?_
  refine J_aload_n dX8_init_85 rfl 0 rfl ?_
  refine J_bipush (v := 25) dX8_init_86 (by decide) ?_
  refine J_newarray (t := 0) (N := 25) dX8_init_88 (by decide) rfl rfl q375 (by decide) (by decide) (by decide) (fun v9 => ?_)
  refine J_putO (x := (some v9)) dX8_init_90 ⟨fl_X8_47, Or.inr ⟨rfl, rfl, rfl, q1500⟩⟩ rfl ?_
  refine J_aload_n dX8_init_93 rfl 0 rfl ?_
  refine J_bipush (v := 25) dX8_init_94 (by decide) ?_
  refine J_newarray (t := 0) (N := 25) dX8_init_96 (by decide) rfl rfl q375 (by decide) (by decide) (by decide) (fun v10 => ?_)
  refine J_putO (x := (some v10)) dX8_init_98 ⟨fl_X8_50, Or.inr ⟨rfl, rfl, rfl, q1501⟩⟩ rfl ?_
  refine J_aload_n dX8_init_101 rfl 0 rfl ?_
  refine J_bipush (v := 25) dX8_init_102 (by decide) ?_
  refine J_newarray (t := 0) (N := 25) dX8_init_104 (by decide) rfl rfl q375 (by decide) (by decide) (by decide) (fun v11 => ?_)
  refine J_putO (x := (some v11)) dX8_init_106 ⟨fl_X8_53, Or.inr ⟨rfl, rfl, rfl, q1502⟩⟩ rfl ?_
  refine J_aload_n dX8_init_109 rfl 0 rfl ?_
  refine J_bipush (v := 25) dX8_init_110 (by decide) ?_
  refine J_newarray (t := 0) (N := 25) dX8_init_112 (by decide) rfl rfl q375 (by decide) (by decide) (by decide) (fun v12 => ?_)
  refine J_putO (x := (some v12)) dX8_init_114 ⟨fl_X8_56, Or.inr ⟨rfl, rfl, rfl, q1503⟩⟩ rfl ?_
  refine J_aload_n dX8_init_117 rfl 0 rfl ?_
  refine J_bipush (v := 25) dX8_init_118 (by decide) ?_
  refine J_newarray (t := 0) (N := 25) dX8_init_120 (by decide) rfl rfl q375 (by decide) (by decide) (by decide) (fun v13 => ?_)
  refine J_putO (x := (some v13)) dX8_init_122 ⟨fl_X8_59, Or.inr ⟨rfl, rfl, rfl, q1504⟩⟩ rfl ?_
  refine J_aload_n dX8_init_125 rfl 0 rfl ?_
  refine J_iconst (v := 5) dX8_init_126 (by decide) ?_
  refine J_newarray (t := 0) (N := 5) dX8_init_127 (by decide) rfl rfl q375 (by decide) (by decide) (by decide) (fun v14 => ?_)
  refine J_putO (x := (some v14)) dX8_init_129 ⟨fl_X8_62, Or.inr ⟨rfl, rfl, rfl, q1505⟩⟩ rfl ?_
  refine J_aload_n dX8_init_132 rfl 0 rfl ?_
  refine J_iconst (v := 5) dX8_init_133 (by decide) ?_
  refine J_newarray (t := 0) (N := 5) dX8_init_134 (by decide) rfl rfl q375 (by decide) (by decide) (by decide) (fun v15 => ?_)
  refine J_putO (x := (some v15)) dX8_init_136 ⟨fl_X8_65, Or.inr ⟨rfl, rfl, rfl, q1506⟩⟩ rfl ?_
  refine J_aload_n dX8_init_139 rfl 0 rfl ?_
  refine J_iconst (v := 5) dX8_init_140 (by decide) ?_
  refine J_newarray (t := 0) (N := 5) dX8_init_141 (by decide) rfl rfl q375 (by decide) (by decide) (by decide) (fun v16 => ?_)
  refine J_putO (x := (some v16)) dX8_init_143 ⟨fl_X8_68, Or.inr ⟨rfl, rfl, rfl, q1507⟩⟩ rfl ?_
  refine J_aload_n dX8_init_146 rfl 0 rfl ?_
  refine J_iconst (v := 5) dX8_init_147 (by decide) ?_
  refine J_newarray (t := 0) (N := 5) dX8_init_148 (by decide) rfl rfl q375 (by decide) (by decide) (by decide) (fun v17 => ?_)
  refine J_putO (x := (some v17)) dX8_init_150 ⟨fl_X8_71, Or.inr ⟨rfl, rfl, rfl, q1508⟩⟩ rfl ?_
  refine J_aload_n dX8_init_153 rfl 0 rfl ?_
  refine J_sipush (v := 1800) dX8_init_154 (by decide) ?_
  refine J_newarray (t := 0) (N := 1800) dX8_init_157 (by decide) rfl rfl q375 (by decide) (by decide) (by decide) (fun v18 => ?_)
  refine J_putO (x := (some v18)) dX8_init_159 ⟨fl_X8_74, Or.inr ⟨rfl, rfl, rfl, q1509⟩⟩ rfl ?_
  refine J_aload_n dX8_init_162 rfl 0 rfl ?_
  refine J_bipush (v := 30) dX8_init_163 (by decide) ?_
  refine J_newarray (t := 0) (N := 30) dX8_init_165 (by decide) rfl rfl q375 (by decide) (by decide) (by decide) (fun v19 => ?_)
  refine J_putO (x := (some v19)) dX8_init_167 ⟨fl_X8_77, Or.inr ⟨rfl, rfl, rfl, q1510⟩⟩ rfl ?_
  refine J_aload_n dX8_init_170 rfl 0 rfl ?_
  refine J_bipush (v := 25) dX8_init_171 (by decide) ?_
  refine J_newarray (t := 0) (N := 25) dX8_init_173 (by decide) rfl rfl q375 (by decide) (by decide) (by decide) (fun v20 => ?_)
  refine J_putO (x := (some v20)) dX8_init_175 ⟨fl_X8_80, Or.inr ⟨rfl, rfl, rfl, q1512⟩⟩ rfl ?_
  refine J_aload_n dX8_init_178 rfl 0 rfl ?_
  refine J_bipush (v := 125) dX8_init_179 (by decide) ?_
  refine J_newarray (t := 0) (N := 125) dX8_init_181 (by decide) rfl rfl q375 (by decide) (by decide) (by decide) (fun v21 => ?_)
  refine J_putO (x := (some v21)) dX8_init_183 ⟨fl_X8_83, Or.inr ⟨rfl, rfl, rfl, q1513⟩⟩ rfl ?_
  refine J_aload_n dX8_init_186 rfl 0 rfl ?_
  refine J_bipush (v := 6) dX8_init_187 (by decide) ?_
  refine J_newarray (t := 0) (N := 6) dX8_init_189 (by decide) rfl rfl q375 (by decide) (by decide) (by decide) (fun v22 => ?_)
  refine J_putO (x := (some v22)) dX8_init_191 ⟨fl_X8_86, Or.inr ⟨rfl, rfl, rfl, q1514⟩⟩ rfl ?_
  refine J_aload_n dX8_init_194 rfl 0 rfl ?_
  refine J_iconst (v := (-1)) dX8_init_195 (by decide) ?_
  refine J_putI dX8_init_196 ⟨fl_X8_89, Or.inl rfl⟩ rfl ?_
  refine J_aload_n dX8_init_199 rfl 0 rfl ?_
  refine J_iconst (v := 2) dX8_init_200 (by decide) ?_
  refine J_newarray (t := 0) (N := 2) dX8_init_201 (by decide) rfl rfl q375 (by decide) (by decide) (by decide) (fun v23 => ?_)
  refine J_putO (x := (some v23)) dX8_init_203 ⟨fl_X8_92, Or.inr ⟨rfl, rfl, rfl, q1520⟩⟩ rfl ?_
  refine J_aload_n dX8_init_206 rfl 0 rfl ?_
  refine J_iconst (v := 5) dX8_init_207 (by decide) ?_
  refine J_newarray (t := 0) (N := 5) dX8_init_208 (by decide) rfl rfl q375 (by decide) (by decide) (by decide) (fun v24 => ?_)
  refine J_putO (x := (some v24)) dX8_init_210 ⟨fl_X8_95, Or.inr ⟨rfl, rfl, rfl, q1526⟩⟩ rfl ?_
  refine J_aload_n dX8_init_213 rfl 0 rfl ?_
  refine J_iconst (v := 5) dX8_init_214 (by decide) ?_
  refine J_newarray (t := 0) (N := 5) dX8_init_215 (by decide) rfl rfl q375 (by decide) (by decide) (by decide) (fun v25 => ?_)
  refine J_putO (x := (some v25)) dX8_init_217 ⟨fl_X8_98, Or.inr ⟨rfl, rfl, rfl, q1527⟩⟩ rfl ?_
  refine J_aload_n dX8_init_220 rfl 0 rfl ?_
  refine J_iconst (v := 5) dX8_init_221 (by decide) ?_
  refine J_newarray (t := 0) (N := 5) dX8_init_222 (by decide) rfl rfl q375 (by decide) (by decide) (by decide) (fun v26 => ?_)
  refine J_putO (x := (some v26)) dX8_init_224 ⟨fl_X8_101, Or.inr ⟨rfl, rfl, rfl, q1528⟩⟩ rfl ?_
  refine J_aload_n dX8_init_227 rfl 0 rfl ?_
  refine J_bipush (v := 25) dX8_init_228 (by decide) ?_
  refine J_newarray (t := 0) (N := 25) dX8_init_230 (by decide) rfl rfl q375 (by decide) (by decide) (by decide) (fun v27 => ?_)
  refine J_putO (x := (some v27)) dX8_init_232 ⟨fl_X8_104, Or.inr ⟨rfl, rfl, rfl, q1529⟩⟩ rfl ?_
  refine J_aload_n dX8_init_235 rfl 0 rfl ?_
  refine J_bipush (v := 25) dX8_init_236 (by decide) ?_
  refine J_newarray (t := 0) (N := 25) dX8_init_238 (by decide) rfl rfl q375 (by decide) (by decide) (by decide) (fun v28 => ?_)
  refine J_putO (x := (some v28)) dX8_init_240 ⟨fl_X8_107, Or.inr ⟨rfl, rfl, rfl, q1530⟩⟩ rfl ?_
  refine J_aload_n dX8_init_243 rfl 0 rfl ?_
  refine J_bipush (v := 25) dX8_init_244 (by decide) ?_
  refine J_newarray (t := 0) (N := 25) dX8_init_246 (by decide) rfl rfl q375 (by decide) (by decide) (by decide) (fun v29 => ?_)
  refine J_putO (x := (some v29)) dX8_init_248 ⟨fl_X8_110, Or.inr ⟨rfl, rfl, rfl, q1533⟩⟩ rfl ?_
  refine J_aload_n dX8_init_251 rfl 0 rfl ?_
  refine J_bipush (v := 25) dX8_init_252 (by decide) ?_
  refine J_newarray (t := 0) (N := 25) dX8_init_254 (by decide) rfl rfl q375 (by decide) (by decide) (by decide) (fun v30 => ?_)
  refine J_putO (x := (some v30)) dX8_init_256 ⟨fl_X8_113, Or.inr ⟨rfl, rfl, rfl, q1534⟩⟩ rfl ?_
  refine J_aload_n dX8_init_259 rfl 0 rfl ?_
  refine J_bipush (v := 25) dX8_init_260 (by decide) ?_
  refine J_newarray (t := 0) (N := 25) dX8_init_262 (by decide) rfl rfl q375 (by decide) (by decide) (by decide) (fun v31 => ?_)
  refine J_putO (x := (some v31)) dX8_init_264 ⟨fl_X8_116, Or.inr ⟨rfl, rfl, rfl, q1535⟩⟩ rfl ?_
  refine J_aload_n dX8_init_267 rfl 0 rfl ?_
  refine J_bipush (v := 25) dX8_init_268 (by decide) ?_
  refine J_newarray (t := 0) (N := 25) dX8_init_270 (by decide) rfl rfl q375 (by decide) (by decide) (by decide) (fun v32 => ?_)
  refine J_putO (x := (some v32)) dX8_init_272 ⟨fl_X8_119, Or.inr ⟨rfl, rfl, rfl, q1538⟩⟩ rfl ?_
  refine J_aload_n dX8_init_275 rfl 0 rfl ?_
  refine J_bipush (v := 25) dX8_init_276 (by decide) ?_
  refine J_newarray (t := 0) (N := 25) dX8_init_278 (by decide) rfl rfl q375 (by decide) (by decide) (by decide) (fun v33 => ?_)
  refine J_putO (x := (some v33)) dX8_init_280 ⟨fl_X8_122, Or.inr ⟨rfl, rfl, rfl, q1539⟩⟩ rfl ?_
  refine J_aload_n dX8_init_283 rfl 0 rfl ?_
  refine J_sipush (v := 512) dX8_init_284 (by decide) ?_
  refine J_newarray (t := 4) (N := 512) dX8_init_287 (by decide) rfl rfl q423 (by decide) (by decide) (by decide) (fun v34 => ?_)
  refine J_putO (x := (some v34)) dX8_init_289 ⟨fl_X8_125, Or.inr ⟨rfl, rfl, rfl, q1540⟩⟩ rfl ?_
  refine J_aload_n dX8_init_292 rfl 0 rfl ?_
  refine J_bipush (v := 127) dX8_init_293 (by decide) ?_
  refine J_newarray (t := 0) (N := 127) dX8_init_295 (by decide) rfl rfl q375 (by decide) (by decide) (by decide) (fun v35 => ?_)
  refine J_putO (x := (some v35)) dX8_init_297 ⟨fl_X8_129, Or.inr ⟨rfl, rfl, rfl, q1541⟩⟩ rfl ?_
  refine J_iconst (v := 0) dX8_init_300 (by decide) ?_
  refine J_istore_n (env' := [(1, .int 0), (0, .ref x0)]) dX8_init_301 rfl (by decide) rfl ?_
  refine J_loop (he := fun (t : Int32) => [(0, .ref x0), (1, .int t)]) [1, 0] rfl (fun t => ?_)
  exact j_X8_init_L302 D dA x0 t
theorem i_X8_init (x0 : Nat) : Impl (ws_ yX8_init cX8_init 2 none) yX8_init 1 true 60 9000 [.ref x0] (f_X8_init x0) injU := impl_of (plainFor_of_name (by decide)) (Nat.le_of_ble_eq_true rfl) (fun D dA => j_X8_init D dA x0)
theorem cw_X8_init (Y : JY) (h : 2 ≤ Y.2.2.2.1) : JCw Y (ws_ yX8_init cX8_init 2 none) yX8_init cX8_init 2 none 1 := ⟨h, by decide, lw_meth q1470, q198, by decide, by decide⟩
theorem np_X8_init : JNp yX8_init.desc 0 := by decide +kernel
-- BracketRoomModel.status()I
abbrev Y_X8_status : JY := (cX8_status, yX8_status.cls, 1, 1, yX8_status.name, (some .int), [])
noncomputable def f_X8_status (x0 : Nat) : JM Mem Int32 :=
  jb (jputI 7 1 x0 0) fun _ =>
  jb (jgetI 7 0 x0) fun v1 =>
  jp v1
theorem j_X8_status (D : va_G) (dA : Nat → ClassId) (x0 : Nat) : J (PM D dA false) Y_X8_status [(0, .ref x0)] [] 0 (f_X8_status x0) (FRet injI) := by
  unfold f_X8_status
  refine J_aload_n dX8_status_0 rfl 0 rfl ?_
  refine J_iconst (v := 0) dX8_status_1 (by decide) ?_
  refine J_putI dX8_status_2 ⟨fl_X8_132, Or.inl rfl⟩ rfl ?_
  refine J_aload_n dX8_status_5 rfl 0 rfl ?_
  refine J_getI dX8_status_6 fl_X8_135 rfl (fun v1 => ?_)
  exact J_ireturn dX8_status_9 rfl
theorem i_X8_status (x0 : Nat) : Impl (ws_ yX8_status cX8_status 1 (some .int)) yX8_status 1 false 0 0 [.ref x0] (f_X8_status x0) injI := impl_of (plainFor_of_name (by decide)) (Nat.le_of_ble_eq_true rfl) (fun D dA => j_X8_status D dA x0)
theorem cw_X8_status (Y : JY) (h : 2 ≤ Y.2.2.2.1) : JCw Y (ws_ yX8_status cX8_status 1 (some .int)) yX8_status cX8_status 1 (some .int) 1 := ⟨h, by decide, lw_meth q1689, q198, by decide, by decide⟩
theorem np_X8_status : JNp yX8_status.desc 0 := by decide +kernel
-- BracketRoomModel.top()J
abbrev Y_X8_top : JY := (cX8_top, yX8_top.cls, 1, 1, yX8_top.name, (some .long), [])
noncomputable def f_X8_top (x0 : Nat) : JM Mem Int64 :=
  jb (jputI 7 1 x0 0) fun _ =>
  jb (jgetL 7 2 x0) fun v1 =>
  jp v1
theorem j_X8_top (D : va_G) (dA : Nat → ClassId) (x0 : Nat) : J (PM D dA false) Y_X8_top [(0, .ref x0)] [] 0 (f_X8_top x0) (FRet injL) := by
  unfold f_X8_top
  refine J_aload_n dX8_top_0 rfl 0 rfl ?_
  refine J_iconst (v := 0) dX8_top_1 (by decide) ?_
  refine J_putI dX8_top_2 ⟨fl_X8_132, Or.inl rfl⟩ rfl ?_
  refine J_aload_n dX8_top_5 rfl 0 rfl ?_
  refine J_getL dX8_top_6 fl_X8_138 rfl (fun v1 => ?_)
  exact J_lreturn dX8_top_9 rfl
theorem i_X8_top (x0 : Nat) : Impl (ws_ yX8_top cX8_top 1 (some .long)) yX8_top 1 false 0 0 [.ref x0] (f_X8_top x0) injL := impl_of (plainFor_of_name (by decide)) (Nat.le_of_ble_eq_true rfl) (fun D dA => j_X8_top D dA x0)
theorem cw_X8_top (Y : JY) (h : 2 ≤ Y.2.2.2.1) : JCw Y (ws_ yX8_top cX8_top 1 (some .long)) yX8_top cX8_top 1 (some .long) 1 := ⟨h, by decide, lw_meth q1693, q198, by decide, by decide⟩
theorem np_X8_top : JNp yX8_top.desc 0 := by decide +kernel
-- BracketRoomModel.bottom()J
abbrev Y_X8_bottom : JY := (cX8_bottom, yX8_bottom.cls, 1, 1, yX8_bottom.name, (some .long), [])
noncomputable def f_X8_bottom (x0 : Nat) : JM Mem Int64 :=
  jb (jputI 7 1 x0 0) fun _ =>
  jb (jgetL 7 3 x0) fun v1 =>
  jp v1
theorem j_X8_bottom (D : va_G) (dA : Nat → ClassId) (x0 : Nat) : J (PM D dA false) Y_X8_bottom [(0, .ref x0)] [] 0 (f_X8_bottom x0) (FRet injL) := by
  unfold f_X8_bottom
  refine J_aload_n dX8_bottom_0 rfl 0 rfl ?_
  refine J_iconst (v := 0) dX8_bottom_1 (by decide) ?_
  refine J_putI dX8_bottom_2 ⟨fl_X8_132, Or.inl rfl⟩ rfl ?_
  refine J_aload_n dX8_bottom_5 rfl 0 rfl ?_
  refine J_getL dX8_bottom_6 fl_X8_7 rfl (fun v1 => ?_)
  exact J_lreturn dX8_bottom_9 rfl
theorem i_X8_bottom (x0 : Nat) : Impl (ws_ yX8_bottom cX8_bottom 1 (some .long)) yX8_bottom 1 false 0 0 [.ref x0] (f_X8_bottom x0) injL := impl_of (plainFor_of_name (by decide)) (Nat.le_of_ble_eq_true rfl) (fun D dA => j_X8_bottom D dA x0)
theorem cw_X8_bottom (Y : JY) (h : 2 ≤ Y.2.2.2.1) : JCw Y (ws_ yX8_bottom cX8_bottom 1 (some .long)) yX8_bottom cX8_bottom 1 (some .long) 1 := ⟨h, by decide, lw_meth q1697, q198, by decide, by decide⟩
theorem np_X8_bottom : JNp yX8_bottom.desc 0 := by decide +kernel
-- BracketRoomModel.no(I)Z
abbrev Y_X8_no : JY := (cX8_no, yX8_no.cls, 2, 1, yX8_no.name, (some .boolean), [])
noncomputable def f_X8_no (x0 : Nat) (x1 : Int32) : JM Mem Int32 :=
  jb (jputI 7 0 x0 x1) fun _ =>
  jp 0
theorem j_X8_no (D : va_G) (dA : Nat → ClassId) (x0 : Nat) (x1 : Int32) : J (PM D dA false) Y_X8_no [(0, .ref x0), (1, .int x1)] [] 0 (f_X8_no x0 x1) (FRet injI) := by
  unfold f_X8_no
  refine J_aload_n dX8_no_0 rfl 0 rfl ?_
  refine J_iload_n dX8_no_1 rfl 1 rfl ?_
  refine J_putI dX8_no_2 ⟨fl_X8_135, Or.inl rfl⟩ rfl ?_
  refine J_iconst (v := 0) dX8_no_5 (by decide) ?_
  exact J_zreturn0 dX8_no_6 rfl
theorem i_X8_no (x0 : Nat) (x1 : Int32) : Impl (ws_ yX8_no cX8_no 2 (some .boolean)) yX8_no 1 false 0 0 [.ref x0, .int x1] (f_X8_no x0 x1) injI := impl_of (plainFor_of_name (by decide)) (Nat.le_of_ble_eq_true rfl) (fun D dA => j_X8_no D dA x0 x1)
theorem cw_X8_no (Y : JY) (h : 2 ≤ Y.2.2.2.1) : JCw Y (ws_ yX8_no cX8_no 2 (some .boolean)) yX8_no cX8_no 2 (some .boolean) 1 := ⟨h, by decide, lw_meth q1705, q198, by decide, by decide⟩
theorem np_X8_no : JNp yX8_no.desc 1 := by decide +kernel
-- BracketRoomModel.tray(III)Z
abbrev Y_X8_tray : JY := (cX8_tray, yX8_tray.cls, 5, 2, yX8_tray.name, (some .boolean), [])
noncomputable def X8_tray_b28 (x0 : Nat) : JM Mem Int32 :=
  jb (jcall 7 x0 (f_X8_no x0 1)) fun v1 =>
  jrz v1
theorem j_X8_tray_b28 (D : va_G) (dA : Nat → ClassId) (x0 : Nat) : J (PM D dA false) Y_X8_tray [(0, .ref x0)] [] 28 (X8_tray_b28 x0) (FRet injI) := by
  unfold X8_tray_b28
  refine J_aload_n dX8_tray_28 rfl 0 rfl ?_
  refine J_iconst (v := 1) dX8_tray_29 (by decide) ?_
  refine J_callVI (c := 7) (as := [.int 1]) dX8_tray_30 (by decide) rfl (Nat.le_of_ble_eq_true rfl) (cw_X8_no _ (by decide)) q1702 q1704 qs64 q1705 np_X8_no (i_X8_no x0 1) jad_id rfl (fun v1 => ?_)
  exact J_zreturn dX8_tray_33 rfl
noncomputable def X8_tray_L74 (x0 : Nat) (x1 : Int32) (x3 : Int32) (x4 : Int32) : JM Mem (Int32 ⊕ (Int32)) :=
  if x3 ≤ x4 then
    jinl (jp 1)
  else
  jb (jgetA 7 6 x0) fun v4 =>
  jb (jast_l v4 ((60 * x1) + x4) 0) fun _ =>
  jcont (x4 + 1)
theorem j_X8_tray_L74 (D : va_G) (dA : Nat → ClassId) (x0 : Nat) (x1 : Int32) (x3 : Int32) (x4 : Int32) : J (PM D dA false) Y_X8_tray [(0, .ref x0), (1, .int x1), (3, .int x3), (4, .int x4)] [] 74 (X8_tray_L74 x0 x1 x3 x4) (FLoop (FRet injI) 74 (fun (t : Int32) => [(0, .ref x0), (1, .int x1), (3, .int x3), (4, .int t)])) := by
  unfold X8_tray_L74
  refine J_iload dX8_tray_74 3 rfl ?_
  refine J_iload_n dX8_tray_76 rfl 2 rfl ?_
  refine J_icmp_ge (tgt := 99) dX8_tray_77 rfl ?_ ?_
  · refine J_inl ?_
    refine J_iconst (v := 1) dX8_tray_99 (by decide) ?_
    exact J_zreturn1 dX8_tray_100 rfl
  refine J_aload_n dX8_tray_80 rfl 0 rfl ?_
  refine J_getA dX8_tray_81 fl_X8_20 rfl (fun v4 => ?_)
  refine J_bipush (v := 60) dX8_tray_84 (by decide) ?_
  refine J_iload_n dX8_tray_86 rfl 1 rfl ?_
  refine J_imul dX8_tray_87 ?_
  refine J_iload dX8_tray_88 3 rfl ?_
  refine J_iadd dX8_tray_90 ?_
  refine J_lconst (v := 0) dX8_tray_91 (by decide) ?_
  refine J_last dX8_tray_92 ?_
  refine J_iinc (v := x4 + 1) (env' := [(4, .int (x4 + 1)), (0, .ref x0), (1, .int x1), (3, .int x3)]) dX8_tray_93 3 rfl rfl (by decide) rfl ?_
  refine J_goto (tgt := 74) dX8_tray_96 rfl ?_
  exact J_cont [1, 2, 3, 0] rfl
noncomputable def f_X8_tray (x0 : Nat) (x1 : Int32) (x2 : Int32) (x3 : Int32) : JM Mem Int32 :=
  jb (jputI 7 1 x0 0) fun _ =>
  jb (jputI 7 0 x0 0) fun _ =>
  if x1 < 0 then
    X8_tray_b28 x0
  else
  if 4 ≤ x1 then
    X8_tray_b28 x0
  else
  if x2 < 0 then
    X8_tray_b28 x0
  else
  if x2 ≤ 3 then
    if x3 ≤ 60 then
      if 0 ≤ x3 then
        jb (jgetA 7 4 x0) fun v2 =>
        jb (jast_i v2 x1 x2) fun _ =>
        jb (jgetA 7 5 x0) fun v3 =>
        jb (jast_i v3 x1 x3) fun _ =>
        jloop (fun (t : Int32) => X8_tray_L74 x0 x1 x3 t) 0
      else
      jb (jcall 7 x0 (f_X8_no x0 6)) fun v5 =>
      jrz v5
    else
    jb (jcall 7 x0 (f_X8_no x0 5)) fun v6 =>
    jrz v6
  else
    X8_tray_b28 x0
theorem j_X8_tray (D : va_G) (dA : Nat → ClassId) (x0 : Nat) (x1 : Int32) (x2 : Int32) (x3 : Int32) : J (PM D dA false) Y_X8_tray [(0, .ref x0), (1, .int x1), (2, .int x2), (3, .int x3)] [] 0 (f_X8_tray x0 x1 x2 x3) (FRet injI) := by
  unfold f_X8_tray
  refine J_aload_n dX8_tray_0 rfl 0 rfl ?_
  refine J_iconst (v := 0) dX8_tray_1 (by decide) ?_
  refine J_putI dX8_tray_2 ⟨fl_X8_132, Or.inl rfl⟩ rfl ?_
  refine J_aload_n dX8_tray_5 rfl 0 rfl ?_
  refine J_iconst (v := 0) dX8_tray_6 (by decide) ?_
  refine J_putI dX8_tray_7 ⟨fl_X8_135, Or.inl rfl⟩ rfl ?_
  refine J_iload_n dX8_tray_10 rfl 1 rfl ?_
  refine J_if_lt (tgt := 28) dX8_tray_11 rfl ?_ ?_
  · refine J_sub [0] rfl ?_
    exact j_X8_tray_b28 D dA x0
  refine J_iload_n dX8_tray_14 rfl 1 rfl ?_
  refine J_iconst (v := 4) dX8_tray_15 (by decide) ?_
  refine J_icmp_ge (tgt := 28) dX8_tray_16 rfl ?_ ?_
  · refine J_sub [0] rfl ?_
    exact j_X8_tray_b28 D dA x0
  refine J_iload_n dX8_tray_19 rfl 2 rfl ?_
  refine J_if_lt (tgt := 28) dX8_tray_20 rfl ?_ ?_
  · refine J_sub [0] rfl ?_
    exact j_X8_tray_b28 D dA x0
  refine J_iload_n dX8_tray_23 rfl 2 rfl ?_
  refine J_iconst (v := 3) dX8_tray_24 (by decide) ?_
  refine J_icmp_le (tgt := 34) dX8_tray_25 rfl ?_ ?_
  · refine J_iload_n dX8_tray_34 rfl 3 rfl ?_
    refine J_bipush (v := 60) dX8_tray_35 (by decide) ?_
    refine J_icmp_le (tgt := 46) dX8_tray_37 rfl ?_ ?_
    · refine J_iload_n dX8_tray_46 rfl 3 rfl ?_
      refine J_if_ge (tgt := 57) dX8_tray_47 rfl ?_ ?_
      · refine J_aload_n dX8_tray_57 rfl 0 rfl ?_
        refine J_getA dX8_tray_58 fl_X8_13 rfl (fun v2 => ?_)
        refine J_iload_n dX8_tray_61 rfl 1 rfl ?_
        refine J_iload_n dX8_tray_62 rfl 2 rfl ?_
        refine J_iast dX8_tray_63 ?_
        refine J_aload_n dX8_tray_64 rfl 0 rfl ?_
        refine J_getA dX8_tray_65 fl_X8_17 rfl (fun v3 => ?_)
        refine J_iload_n dX8_tray_68 rfl 1 rfl ?_
        refine J_iload_n dX8_tray_69 rfl 3 rfl ?_
        refine J_iast dX8_tray_70 ?_
        refine J_iconst (v := 0) dX8_tray_71 (by decide) ?_
        refine J_istore (env' := [(4, .int 0), (0, .ref x0), (1, .int x1), (2, .int x2), (3, .int x3)]) dX8_tray_72 (by decide) rfl ?_
        refine J_loop (he := fun (t : Int32) => [(0, .ref x0), (1, .int x1), (3, .int x3), (4, .int t)]) [1, 2, 4, 0] rfl (fun t => ?_)
        exact j_X8_tray_L74 D dA x0 x1 x3 t
      refine J_aload_n dX8_tray_50 rfl 0 rfl ?_
      refine J_bipush (v := 6) dX8_tray_51 (by decide) ?_
      refine J_callVI (c := 7) (as := [.int 6]) dX8_tray_53 (by decide) rfl (Nat.le_of_ble_eq_true rfl) (cw_X8_no _ (by decide)) q1702 q1704 qs64 q1705 np_X8_no (i_X8_no x0 6) jad_id rfl (fun v5 => ?_)
      exact J_zreturn dX8_tray_56 rfl
    refine J_aload_n dX8_tray_40 rfl 0 rfl ?_
    refine J_iconst (v := 5) dX8_tray_41 (by decide) ?_
    refine J_callVI (c := 7) (as := [.int 5]) dX8_tray_42 (by decide) rfl (Nat.le_of_ble_eq_true rfl) (cw_X8_no _ (by decide)) q1702 q1704 qs64 q1705 np_X8_no (i_X8_no x0 5) jad_id rfl (fun v6 => ?_)
    exact J_zreturn dX8_tray_45 rfl
  refine J_sub [0] rfl ?_
  exact j_X8_tray_b28 D dA x0
theorem i_X8_tray (x0 : Nat) (x1 : Int32) (x2 : Int32) (x3 : Int32) : Impl (ws_ yX8_tray cX8_tray 5 (some .boolean)) yX8_tray 2 false 0 0 [.ref x0, .int x1, .int x2, .int x3] (f_X8_tray x0 x1 x2 x3) injI := impl_of (plainFor_of_name (by decide)) (Nat.le_of_ble_eq_true rfl) (fun D dA => j_X8_tray D dA x0 x1 x2 x3)
theorem cw_X8_tray (Y : JY) (h : 3 ≤ Y.2.2.2.1) : JCw Y (ws_ yX8_tray cX8_tray 5 (some .boolean)) yX8_tray cX8_tray 5 (some .boolean) 2 := ⟨h, by decide, lw_meth q1701, q198, by decide, by decide⟩
theorem np_X8_tray : JNp yX8_tray.desc 3 := by decide +kernel
-- BracketRoomModel.trayed(I)I
abbrev Y_X8_trayed : JY := (cX8_trayed, yX8_trayed.cls, 2, 1, yX8_trayed.name, (some .int), [])
noncomputable def X8_trayed_b9 : JM Mem Int32 :=
  jp 1
theorem j_X8_trayed_b9 (D : va_G) (dA : Nat → ClassId) : J (PM D dA false) Y_X8_trayed [] [] 9 (X8_trayed_b9) (FRet injI) := by
  unfold X8_trayed_b9
  refine J_iconst (v := 1) dX8_trayed_9 (by decide) ?_
  refine J_goto (tgt := 27) dX8_trayed_10 rfl ?_
  exact J_ireturn dX8_trayed_27 rfl
noncomputable def f_X8_trayed (x0 : Nat) (x1 : Int32) : JM Mem Int32 :=
  if x1 < 0 then
    X8_trayed_b9
  else
  if x1 < 4 then
    jb (jgetA 7 5 x0) fun v1 =>
    jb (jald mI 0 v1 x1) fun v2 =>
    if 0 ≤ v2 then
      jp 0
    else
      jp 3
  else
    X8_trayed_b9
theorem j_X8_trayed (D : va_G) (dA : Nat → ClassId) (x0 : Nat) (x1 : Int32) : J (PM D dA false) Y_X8_trayed [(0, .ref x0), (1, .int x1)] [] 0 (f_X8_trayed x0 x1) (FRet injI) := by
  unfold f_X8_trayed
  refine J_iload_n dX8_trayed_0 rfl 1 rfl ?_
  refine J_if_lt (tgt := 9) dX8_trayed_1 rfl ?_ ?_
  · refine J_sub [] rfl ?_
    exact j_X8_trayed_b9 D dA
  refine J_iload_n dX8_trayed_4 rfl 1 rfl ?_
  refine J_iconst (v := 4) dX8_trayed_5 (by decide) ?_
  refine J_icmp_lt (tgt := 13) dX8_trayed_6 rfl ?_ ?_
  · refine J_aload_n dX8_trayed_13 rfl 0 rfl ?_
    refine J_getA dX8_trayed_14 fl_X8_17 rfl (fun v1 => ?_)
    refine J_iload_n dX8_trayed_17 rfl 1 rfl ?_
    refine J_iald dX8_trayed_18 (fun v2 => ?_)
    refine J_if_ge (tgt := 26) dX8_trayed_19 rfl ?_ ?_
    · refine J_iconst (v := 0) dX8_trayed_26 (by decide) ?_
      exact J_ireturn dX8_trayed_27 rfl
    refine J_iconst (v := 3) dX8_trayed_22 (by decide) ?_
    refine J_goto (tgt := 27) dX8_trayed_23 rfl ?_
    exact J_ireturn dX8_trayed_27 rfl
  refine J_sub [] rfl ?_
  exact j_X8_trayed_b9 D dA
theorem i_X8_trayed (x0 : Nat) (x1 : Int32) : Impl (ws_ yX8_trayed cX8_trayed 2 (some .int)) yX8_trayed 1 false 0 0 [.ref x0, .int x1] (f_X8_trayed x0 x1) injI := impl_of (plainFor_of_name (by decide)) (Nat.le_of_ble_eq_true rfl) (fun D dA => j_X8_trayed D dA x0 x1)
theorem cw_X8_trayed (Y : JY) (h : 2 ≤ Y.2.2.2.1) : JCw Y (ws_ yX8_trayed cX8_trayed 2 (some .int)) yX8_trayed cX8_trayed 2 (some .int) 1 := ⟨h, by decide, lw_meth q1717, q198, by decide, by decide⟩
theorem np_X8_trayed : JNp yX8_trayed.desc 1 := by decide +kernel
-- BracketRoomModel.placed(II)I
abbrev Y_X8_placed : JY := (cX8_placed, yX8_placed.cls, 4, 2, yX8_placed.name, (some .int), [])
noncomputable def X8_placed_b28 : JM Mem Int32 :=
  jp 4
theorem j_X8_placed_b28 (D : va_G) (dA : Nat → ClassId) : J (PM D dA false) Y_X8_placed [] [] 28 (X8_placed_b28) (FRet injI) := by
  unfold X8_placed_b28
  refine J_iconst (v := 4) dX8_placed_28 (by decide) ?_
  refine J_goto (tgt := 33) dX8_placed_29 rfl ?_
  exact J_ireturn dX8_placed_33 rfl
noncomputable def f_X8_placed (x0 : Nat) (x1 : Int32) (x2 : Int32) : JM Mem Int32 :=
  jb (jcall 7 x0 (f_X8_trayed x0 x1)) fun v1 =>
  if v1 ≤ 0 then
    if x2 < 0 then
      X8_placed_b28
    else
    jb (jgetA 7 5 x0) fun v2 =>
    jb (jald mI 0 v2 x1) fun v3 =>
    if x2 < v3 then
      jp 0
    else
      X8_placed_b28
  else
    jp v1
theorem j_X8_placed (D : va_G) (dA : Nat → ClassId) (x0 : Nat) (x1 : Int32) (x2 : Int32) : J (PM D dA false) Y_X8_placed [(0, .ref x0), (1, .int x1), (2, .int x2)] [] 0 (f_X8_placed x0 x1 x2) (FRet injI) := by
  unfold f_X8_placed
  refine J_aload_n dX8_placed_0 rfl 0 rfl ?_
  refine J_iload_n dX8_placed_1 rfl 1 rfl ?_
  refine J_callVI (c := 7) (as := [.int x1]) dX8_placed_2 (by decide) rfl (Nat.le_of_ble_eq_true rfl) (cw_X8_trayed _ (by decide)) q1714 q1716 qs66 q1717 np_X8_trayed (i_X8_trayed x0 x1) jad_id rfl (fun v1 => ?_)
  refine J_istore_n (env' := [(3, .int v1), (0, .ref x0), (1, .int x1), (2, .int x2)]) dX8_placed_5 rfl (by decide) rfl ?_
  refine J_iload_n dX8_placed_6 rfl 0 rfl ?_
  refine J_if_le (tgt := 14) dX8_placed_7 rfl ?_ ?_
  · refine J_iload_n dX8_placed_14 rfl 3 rfl ?_
    refine J_if_lt (tgt := 28) dX8_placed_15 rfl ?_ ?_
    · refine J_sub [] rfl ?_
      exact j_X8_placed_b28 D dA
    refine J_iload_n dX8_placed_18 rfl 3 rfl ?_
    refine J_aload_n dX8_placed_19 rfl 1 rfl ?_
    refine J_getA dX8_placed_20 fl_X8_17 rfl (fun v2 => ?_)
    refine J_iload_n dX8_placed_23 rfl 2 rfl ?_
    refine J_iald dX8_placed_24 (fun v3 => ?_)
    refine J_icmp_lt (tgt := 32) dX8_placed_25 rfl ?_ ?_
    · refine J_iconst (v := 0) dX8_placed_32 (by decide) ?_
      exact J_ireturn dX8_placed_33 rfl
    refine J_sub [] rfl ?_
    exact j_X8_placed_b28 D dA
  refine J_iload_n dX8_placed_10 rfl 0 rfl ?_
  refine J_goto (tgt := 33) dX8_placed_11 rfl ?_
  exact J_ireturn dX8_placed_33 rfl
theorem i_X8_placed (x0 : Nat) (x1 : Int32) (x2 : Int32) : Impl (ws_ yX8_placed cX8_placed 4 (some .int)) yX8_placed 2 false 0 0 [.ref x0, .int x1, .int x2] (f_X8_placed x0 x1 x2) injI := impl_of (plainFor_of_name (by decide)) (Nat.le_of_ble_eq_true rfl) (fun D dA => j_X8_placed D dA x0 x1 x2)
theorem cw_X8_placed (Y : JY) (h : 3 ≤ Y.2.2.2.1) : JCw Y (ws_ yX8_placed cX8_placed 4 (some .int)) yX8_placed cX8_placed 4 (some .int) 2 := ⟨h, by decide, lw_meth q1713, q198, by decide, by decide⟩
theorem np_X8_placed : JNp yX8_placed.desc 2 := by decide +kernel
-- BracketRoomModel.cut(IJ)J
abbrev Y_X8_cut : JY := (cX8_cut, yX8_cut.cls, 3, 1, yX8_cut.name, (some .long), [])
noncomputable def f_X8_cut (x0 : Int32) (x1 : Int64) : JM Mem Int64 :=
  if x0 = 0 then
    jp ((((x1 : Int64).toInt32 : Int32).toInt8.toInt32 : Int32).toInt64)
  else
  if x0 = 1 then
    jp ((((x1 : Int64).toInt32 : Int32).toInt16.toInt32 : Int32).toInt64)
  else
  if x0 = 2 then
    jp (((x1 : Int64).toInt32 : Int32).toInt64)
  else
    jp x1
theorem j_X8_cut (D : va_G) (dA : Nat → ClassId) (x0 : Int32) (x1 : Int64) : J (PM D dA false) Y_X8_cut [(0, .int x0), (1, .long x1)] [] 0 (f_X8_cut x0 x1) (FRet injL) := by
  unfold f_X8_cut
  refine J_iload_n dX8_cut_0 rfl 0 rfl ?_
  refine J_if_ne (tgt := 11) dX8_cut_1 rfl ?_ ?_
  · refine J_iload_n dX8_cut_11 rfl 0 rfl ?_
    refine J_iconst (v := 1) dX8_cut_12 (by decide) ?_
    refine J_icmp_ne (tgt := 23) dX8_cut_13 rfl ?_ ?_
    · refine J_iload_n dX8_cut_23 rfl 0 rfl ?_
      refine J_iconst (v := 2) dX8_cut_24 (by decide) ?_
      refine J_icmp_ne (tgt := 34) dX8_cut_25 rfl ?_ ?_
      · refine J_lload_n dX8_cut_34 rfl 1 rfl ?_
        exact J_lreturn dX8_cut_35 rfl
      refine J_lload_n dX8_cut_28 rfl 1 rfl ?_
      refine J_l2i dX8_cut_29 ?_
      refine J_i2l dX8_cut_30 ?_
      refine J_goto (tgt := 35) dX8_cut_31 rfl ?_
      exact J_lreturn dX8_cut_35 rfl
    refine J_lload_n dX8_cut_16 rfl 1 rfl ?_
    refine J_l2i dX8_cut_17 ?_
    refine J_i2s dX8_cut_18 ?_
    refine J_i2l dX8_cut_19 ?_
    refine J_goto (tgt := 35) dX8_cut_20 rfl ?_
    exact J_lreturn dX8_cut_35 rfl
  refine J_lload_n dX8_cut_4 rfl 1 rfl ?_
  refine J_l2i dX8_cut_5 ?_
  refine J_i2b dX8_cut_6 ?_
  refine J_i2l dX8_cut_7 ?_
  refine J_goto (tgt := 35) dX8_cut_8 rfl ?_
  exact J_lreturn dX8_cut_35 rfl
theorem i_X8_cut (x0 : Int32) (x1 : Int64) : Impl (ws_ yX8_cut cX8_cut 3 (some .long)) yX8_cut 1 false 0 0 [.int x0, .long x1] (f_X8_cut x0 x1) injL := impl_of (plainFor_of_name (by decide)) (Nat.le_of_ble_eq_true rfl) (fun D dA => j_X8_cut D dA x0 x1)
theorem cw_X8_cut (Y : JY) (h : 2 ≤ Y.2.2.2.1) : JCw Y (ws_ yX8_cut cX8_cut 3 (some .long)) yX8_cut cX8_cut 3 (some .long) 1 := ⟨h, by decide, lw_meth q1720, q198, by decide, by decide⟩
theorem np_X8_cut : JNp yX8_cut.desc 2 := by decide +kernel
-- BracketRoomModel.write(IIJ)Z
abbrev Y_X8_write : JY := (cX8_write, yX8_write.cls, 5, 3, yX8_write.name, (some .boolean), [])
noncomputable def f_X8_write (x0 : Nat) (x1 : Int32) (x2 : Int32) (x3 : Int64) : JM Mem Int32 :=
  jb (jputI 7 1 x0 0) fun _ =>
  jb (jcall 7 x0 (f_X8_placed x0 x1 x2)) fun v1 =>
  jb (jputI 7 0 x0 v1) fun _ =>
  jb (jgetI 7 0 x0) fun v2 =>
  if v2 ≤ 0 then
    jb (jgetA 7 6 x0) fun v3 =>
    jb (jgetA 7 4 x0) fun v4 =>
    jb (jald mI 0 v4 x1) fun v5 =>
    jb ((f_X8_cut v5 x3)) fun v6 =>
    jb (jast_l v3 ((60 * x1) + x2) v6) fun _ =>
    jp 1
  else
    jp 0
theorem j_X8_write (D : va_G) (dA : Nat → ClassId) (x0 : Nat) (x1 : Int32) (x2 : Int32) (x3 : Int64) : J (PM D dA false) Y_X8_write [(0, .ref x0), (1, .int x1), (2, .int x2), (3, .long x3)] [] 0 (f_X8_write x0 x1 x2 x3) (FRet injI) := by
  unfold f_X8_write
  refine J_aload_n dX8_write_0 rfl 0 rfl ?_
  refine J_iconst (v := 0) dX8_write_1 (by decide) ?_
  refine J_putI dX8_write_2 ⟨fl_X8_132, Or.inl rfl⟩ rfl ?_
  refine J_aload_n dX8_write_5 rfl 0 rfl ?_
  refine J_aload_n dX8_write_6 rfl 0 rfl ?_
  refine J_iload_n dX8_write_7 rfl 1 rfl ?_
  refine J_iload_n dX8_write_8 rfl 2 rfl ?_
  refine J_callVI (c := 7) (as := [.int x1, .int x2]) dX8_write_9 (by decide) rfl (Nat.le_of_ble_eq_true rfl) (cw_X8_placed _ (by decide)) q1710 q1712 qs65 q1713 np_X8_placed (i_X8_placed x0 x1 x2) jad_id rfl (fun v1 => ?_)
  refine J_putI dX8_write_12 ⟨fl_X8_135, Or.inl rfl⟩ rfl ?_
  refine J_aload_n dX8_write_15 rfl 0 rfl ?_
  refine J_getI dX8_write_16 fl_X8_135 rfl (fun v2 => ?_)
  refine J_if_le (tgt := 24) dX8_write_19 rfl ?_ ?_
  · refine J_aload_n dX8_write_24 rfl 0 rfl ?_
    refine J_getA dX8_write_25 fl_X8_20 rfl (fun v3 => ?_)
    refine J_bipush (v := 60) dX8_write_28 (by decide) ?_
    refine J_iload_n dX8_write_30 rfl 1 rfl ?_
    refine J_imul dX8_write_31 ?_
    refine J_iload_n dX8_write_32 rfl 2 rfl ?_
    refine J_iadd dX8_write_33 ?_
    refine J_aload_n dX8_write_34 rfl 0 rfl ?_
    refine J_getA dX8_write_35 fl_X8_13 rfl (fun v4 => ?_)
    refine J_iload_n dX8_write_38 rfl 1 rfl ?_
    refine J_iald dX8_write_39 (fun v5 => ?_)
    refine J_lload_n dX8_write_40 rfl 3 rfl ?_
    refine J_callSL (host := "") (as := [.int v5, .long x3]) dX8_write_41 rfl (Nat.le_of_ble_eq_true rfl) (cw_X8_cut _ (by decide)) q1718 q1719 q1720 np_X8_cut (i_X8_cut v5 x3) jad_id rfl (fun v6 => ?_)
    refine J_last dX8_write_44 ?_
    refine J_iconst (v := 1) dX8_write_45 (by decide) ?_
    exact J_zreturn1 dX8_write_46 rfl
  refine J_iconst (v := 0) dX8_write_22 (by decide) ?_
  exact J_zreturn0 dX8_write_23 rfl
theorem i_X8_write (x0 : Nat) (x1 : Int32) (x2 : Int32) (x3 : Int64) : Impl (ws_ yX8_write cX8_write 5 (some .boolean)) yX8_write 3 false 0 0 [.ref x0, .int x1, .int x2, .long x3] (f_X8_write x0 x1 x2 x3) injI := impl_of (plainFor_of_name (by decide)) (Nat.le_of_ble_eq_true rfl) (fun D dA => j_X8_write D dA x0 x1 x2 x3)
theorem cw_X8_write (Y : JY) (h : 4 ≤ Y.2.2.2.1) : JCw Y (ws_ yX8_write cX8_write 5 (some .boolean)) yX8_write cX8_write 5 (some .boolean) 3 := ⟨h, by decide, lw_meth q1709, q198, by decide, by decide⟩
theorem np_X8_write : JNp yX8_write.desc 3 := by decide +kernel
-- BracketRoomModel.read(II)J
abbrev Y_X8_read : JY := (cX8_read, yX8_read.cls, 3, 3, yX8_read.name, (some .long), [])
noncomputable def f_X8_read (x0 : Nat) (x1 : Int32) (x2 : Int32) : JM Mem Int64 :=
  jb (jputI 7 1 x0 0) fun _ =>
  jb (jcall 7 x0 (f_X8_placed x0 x1 x2)) fun v1 =>
  jb (jputI 7 0 x0 v1) fun _ =>
  jb (jgetI 7 0 x0) fun v2 =>
  if v2 ≤ 0 then
    jb (jgetA 7 6 x0) fun v3 =>
    jb (jald mL 3 v3 ((60 * x1) + x2)) fun v4 =>
    jp v4
  else
    jp (-1)
theorem j_X8_read (D : va_G) (dA : Nat → ClassId) (x0 : Nat) (x1 : Int32) (x2 : Int32) : J (PM D dA false) Y_X8_read [(0, .ref x0), (1, .int x1), (2, .int x2)] [] 0 (f_X8_read x0 x1 x2) (FRet injL) := by
  unfold f_X8_read
  refine J_aload_n dX8_read_0 rfl 0 rfl ?_
  refine J_iconst (v := 0) dX8_read_1 (by decide) ?_
  refine J_putI dX8_read_2 ⟨fl_X8_132, Or.inl rfl⟩ rfl ?_
  refine J_aload_n dX8_read_5 rfl 0 rfl ?_
  refine J_aload_n dX8_read_6 rfl 0 rfl ?_
  refine J_iload_n dX8_read_7 rfl 1 rfl ?_
  refine J_iload_n dX8_read_8 rfl 2 rfl ?_
  refine J_callVI (c := 7) (as := [.int x1, .int x2]) dX8_read_9 (by decide) rfl (Nat.le_of_ble_eq_true rfl) (cw_X8_placed _ (by decide)) q1710 q1712 qs65 q1713 np_X8_placed (i_X8_placed x0 x1 x2) jad_id rfl (fun v1 => ?_)
  refine J_putI dX8_read_12 ⟨fl_X8_135, Or.inl rfl⟩ rfl ?_
  refine J_aload_n dX8_read_15 rfl 0 rfl ?_
  refine J_getI dX8_read_16 fl_X8_135 rfl (fun v2 => ?_)
  refine J_if_le (tgt := 28) dX8_read_19 rfl ?_ ?_
  · refine J_aload_n dX8_read_28 rfl 0 rfl ?_
    refine J_getA dX8_read_29 fl_X8_20 rfl (fun v3 => ?_)
    refine J_bipush (v := 60) dX8_read_32 (by decide) ?_
    refine J_iload_n dX8_read_34 rfl 1 rfl ?_
    refine J_imul dX8_read_35 ?_
    refine J_iload_n dX8_read_36 rfl 2 rfl ?_
    refine J_iadd dX8_read_37 ?_
    refine J_lald dX8_read_38 (fun v4 => ?_)
    exact J_lreturn dX8_read_39 rfl
  refine J_ldc2 dX8_read_22 q1725 ?_
  refine J_goto (tgt := 39) dX8_read_25 rfl ?_
  exact J_lreturn dX8_read_39 rfl
theorem i_X8_read (x0 : Nat) (x1 : Int32) (x2 : Int32) : Impl (ws_ yX8_read cX8_read 3 (some .long)) yX8_read 3 false 0 0 [.ref x0, .int x1, .int x2] (f_X8_read x0 x1 x2) injL := impl_of (plainFor_of_name (by decide)) (Nat.le_of_ble_eq_true rfl) (fun D dA => j_X8_read D dA x0 x1 x2)
theorem cw_X8_read (Y : JY) (h : 4 ≤ Y.2.2.2.1) : JCw Y (ws_ yX8_read cX8_read 3 (some .long)) yX8_read cX8_read 3 (some .long) 3 := ⟨h, by decide, lw_meth q1724, q198, by decide, by decide⟩
theorem np_X8_read : JNp yX8_read.desc 2 := by decide +kernel
-- BracketRoomModel.pour(IIIII)Z
abbrev Y_X8_pour : JY := (cX8_pour, yX8_pour.cls, 9, 2, yX8_pour.name, (some .boolean), [])
noncomputable def X8_pour_b28 (x0 : Nat) : JM Mem Int32 :=
  jb (jcall 7 x0 (f_X8_no x0 1)) fun v1 =>
  jrz v1
theorem j_X8_pour_b28 (D : va_G) (dA : Nat → ClassId) (x0 : Nat) : J (PM D dA false) Y_X8_pour [(0, .ref x0)] [] 28 (X8_pour_b28 x0) (FRet injI) := by
  unfold X8_pour_b28
  refine J_aload_n dX8_pour_28 rfl 0 rfl ?_
  refine J_iconst (v := 1) dX8_pour_29 (by decide) ?_
  refine J_callVI (c := 7) (as := [.int 1]) dX8_pour_30 (by decide) rfl (Nat.le_of_ble_eq_true rfl) (cw_X8_no _ (by decide)) q1702 q1704 qs64 q1705 np_X8_no (i_X8_no x0 1) jad_id rfl (fun v1 => ?_)
  exact J_zreturn dX8_pour_33 rfl
noncomputable def X8_pour_b52 (x0 : Nat) : JM Mem Int32 :=
  jb (jcall 7 x0 (f_X8_no x0 3)) fun v4 =>
  jrz v4
theorem j_X8_pour_b52 (D : va_G) (dA : Nat → ClassId) (x0 : Nat) : J (PM D dA false) Y_X8_pour [(0, .ref x0)] [] 52 (X8_pour_b52 x0) (FRet injI) := by
  unfold X8_pour_b52
  refine J_aload_n dX8_pour_52 rfl 0 rfl ?_
  refine J_iconst (v := 3) dX8_pour_53 (by decide) ?_
  refine J_callVI (c := 7) (as := [.int 3]) dX8_pour_54 (by decide) rfl (Nat.le_of_ble_eq_true rfl) (cw_X8_no _ (by decide)) q1702 q1704 qs64 q1705 np_X8_no (i_X8_no x0 3) jad_id rfl (fun v4 => ?_)
  exact J_zreturn dX8_pour_57 rfl
noncomputable def X8_pour_b136 (x0 : Nat) : JM Mem Int32 :=
  jb (jcall 7 x0 (f_X8_no x0 4)) fun v11 =>
  jrz v11
theorem j_X8_pour_b136 (D : va_G) (dA : Nat → ClassId) (x0 : Nat) : J (PM D dA false) Y_X8_pour [(0, .ref x0)] [] 136 (X8_pour_b136 x0) (FRet injI) := by
  unfold X8_pour_b136
  refine J_aload_n dX8_pour_136 rfl 0 rfl ?_
  refine J_iconst (v := 4) dX8_pour_137 (by decide) ?_
  refine J_callVI (c := 7) (as := [.int 4]) dX8_pour_138 (by decide) rfl (Nat.le_of_ble_eq_true rfl) (cw_X8_no _ (by decide)) q1702 q1704 qs64 q1705 np_X8_no (i_X8_no x0 4) jad_id rfl (fun v11 => ?_)
  exact J_zreturn dX8_pour_141 rfl
noncomputable def X8_pour_b182 (x0 : Nat) (x1 : Int32) (x2 : Int32) (x3 : Int32) (x4 : Int32) (x5 : Int32) (x6 : Int32) (x7 : Int32) (s0 : Int32) : JM Mem (Int32 ⊕ (Int32)) :=
  jb (jgetA 7 6 x0) fun v16 =>
  jb (jgetA 7 6 x0) fun v17 =>
  jb (jald mL 3 v17 (((60 * x1) + x2) + s0)) fun v18 =>
  jb (jast_l v16 (((60 * x3) + x4) + s0) v18) fun _ =>
  jcont (x7 + 1)
theorem j_X8_pour_b182 (D : va_G) (dA : Nat → ClassId) (x0 : Nat) (x1 : Int32) (x2 : Int32) (x3 : Int32) (x4 : Int32) (x5 : Int32) (x6 : Int32) (x7 : Int32) (s0 : Int32) : J (PM D dA false) Y_X8_pour [(0, .ref x0), (1, .int x1), (2, .int x2), (3, .int x3), (4, .int x4), (5, .int x5), (6, .int x6), (7, .int x7)] [.int s0] 182 (X8_pour_b182 x0 x1 x2 x3 x4 x5 x6 x7 s0) (FLoop (FRet injI) 158 (fun (t : Int32) => [(0, .ref x0), (1, .int x1), (2, .int x2), (3, .int x3), (4, .int x4), (5, .int x5), (6, .int x6), (7, .int t)])) := by
  unfold X8_pour_b182
  refine J_istore (env' := [(8, .int s0), (0, .ref x0), (1, .int x1), (2, .int x2), (3, .int x3), (4, .int x4), (5, .int x5), (6, .int x6), (7, .int x7)]) dX8_pour_182 (by decide) rfl ?_
  refine J_aload_n dX8_pour_184 rfl 1 rfl ?_
  refine J_getA dX8_pour_185 fl_X8_20 rfl (fun v16 => ?_)
  refine J_bipush (v := 60) dX8_pour_188 (by decide) ?_
  refine J_iload_n dX8_pour_190 rfl 4 rfl ?_
  refine J_imul dX8_pour_191 ?_
  refine J_iload dX8_pour_192 5 rfl ?_
  refine J_iadd dX8_pour_194 ?_
  refine J_iload dX8_pour_195 0 rfl ?_
  refine J_iadd dX8_pour_197 ?_
  refine J_aload_n dX8_pour_198 rfl 1 rfl ?_
  refine J_getA dX8_pour_199 fl_X8_20 rfl (fun v17 => ?_)
  refine J_bipush (v := 60) dX8_pour_202 (by decide) ?_
  refine J_iload_n dX8_pour_204 rfl 2 rfl ?_
  refine J_imul dX8_pour_205 ?_
  refine J_iload_n dX8_pour_206 rfl 3 rfl ?_
  refine J_iadd dX8_pour_207 ?_
  refine J_iload dX8_pour_208 0 rfl ?_
  refine J_iadd dX8_pour_210 ?_
  refine J_lald dX8_pour_211 (fun v18 => ?_)
  refine J_last dX8_pour_212 ?_
  refine J_iinc (v := x7 + 1) (env' := [(7, .int (x7 + 1)), (8, .int s0), (0, .ref x0), (1, .int x1), (2, .int x2), (3, .int x3), (4, .int x4), (5, .int x5), (6, .int x6)]) dX8_pour_213 8 rfl rfl (by decide) rfl ?_
  refine J_goto (tgt := 158) dX8_pour_216 rfl ?_
  exact J_cont [2, 3, 4, 5, 6, 7, 8, 0] rfl
noncomputable def X8_pour_L158 (x0 : Nat) (x1 : Int32) (x2 : Int32) (x3 : Int32) (x4 : Int32) (x5 : Int32) (x6 : Int32) (x7 : Int32) : JM Mem (Int32 ⊕ (Int32)) :=
  if x5 ≤ x7 then
    jinl (jp 1)
  else
  if x6 = 0 then
    X8_pour_b182 x0 x1 x2 x3 x4 x5 x6 x7 x7
  else
    X8_pour_b182 x0 x1 x2 x3 x4 x5 x6 x7 ((x5 - 1) - x7)
theorem j_X8_pour_L158 (D : va_G) (dA : Nat → ClassId) (x0 : Nat) (x1 : Int32) (x2 : Int32) (x3 : Int32) (x4 : Int32) (x5 : Int32) (x6 : Int32) (x7 : Int32) : J (PM D dA false) Y_X8_pour [(0, .ref x0), (1, .int x1), (2, .int x2), (3, .int x3), (4, .int x4), (5, .int x5), (6, .int x6), (7, .int x7)] [] 158 (X8_pour_L158 x0 x1 x2 x3 x4 x5 x6 x7) (FLoop (FRet injI) 158 (fun (t : Int32) => [(0, .ref x0), (1, .int x1), (2, .int x2), (3, .int x3), (4, .int x4), (5, .int x5), (6, .int x6), (7, .int t)])) := by
  unfold X8_pour_L158
  refine J_iload dX8_pour_158 7 rfl ?_
  refine J_iload dX8_pour_160 5 rfl ?_
  refine J_icmp_ge (tgt := 219) dX8_pour_162 rfl ?_ ?_
  · refine J_inl ?_
    refine J_iconst (v := 1) dX8_pour_219 (by decide) ?_
    exact J_zreturn1 dX8_pour_220 rfl
  refine J_iload dX8_pour_165 6 rfl ?_
  refine J_if_eq (tgt := 180) dX8_pour_167 rfl ?_ ?_
  · refine J_iload dX8_pour_180 7 rfl ?_
    refine J_sub [0, 1, 2, 3, 4, 5, 6, 7] rfl ?_
    exact j_X8_pour_b182 D dA x0 x1 x2 x3 x4 x5 x6 x7 x7
  refine J_iload dX8_pour_170 5 rfl ?_
  refine J_iconst (v := 1) dX8_pour_172 (by decide) ?_
  refine J_isub dX8_pour_173 ?_
  refine J_iload dX8_pour_174 7 rfl ?_
  refine J_isub dX8_pour_176 ?_
  refine J_goto (tgt := 182) dX8_pour_177 rfl ?_
  refine J_sub [0, 1, 2, 3, 4, 5, 6, 7] rfl ?_
  exact j_X8_pour_b182 D dA x0 x1 x2 x3 x4 x5 x6 x7 ((x5 - 1) - x7)
noncomputable def X8_pour_b153 (x0 : Nat) (x1 : Int32) (x2 : Int32) (x3 : Int32) (x4 : Int32) (x5 : Int32) (s0 : Int32) : JM Mem Int32 :=
  jloop (fun (t : Int32) => X8_pour_L158 x0 x1 x2 x3 x4 x5 s0 t) 0
theorem j_X8_pour_b153 (D : va_G) (dA : Nat → ClassId) (x0 : Nat) (x1 : Int32) (x2 : Int32) (x3 : Int32) (x4 : Int32) (x5 : Int32) (s0 : Int32) : J (PM D dA false) Y_X8_pour [(0, .ref x0), (1, .int x1), (2, .int x2), (3, .int x3), (4, .int x4), (5, .int x5)] [.int s0] 153 (X8_pour_b153 x0 x1 x2 x3 x4 x5 s0) (FRet injI) := by
  unfold X8_pour_b153
  refine J_istore (env' := [(6, .int s0), (0, .ref x0), (1, .int x1), (2, .int x2), (3, .int x3), (4, .int x4), (5, .int x5)]) dX8_pour_153 (by decide) rfl ?_
  refine J_iconst (v := 0) dX8_pour_155 (by decide) ?_
  refine J_istore (env' := [(7, .int 0), (6, .int s0), (0, .ref x0), (1, .int x1), (2, .int x2), (3, .int x3), (4, .int x4), (5, .int x5)]) dX8_pour_156 (by decide) rfl ?_
  refine J_loop (he := fun (t : Int32) => [(0, .ref x0), (1, .int x1), (2, .int x2), (3, .int x3), (4, .int x4), (5, .int x5), (6, .int s0), (7, .int t)]) [2, 3, 4, 5, 6, 7, 1, 0] rfl (fun t => ?_)
  exact j_X8_pour_L158 D dA x0 x1 x2 x3 x4 x5 s0 t
noncomputable def f_X8_pour (x0 : Nat) (x1 : Int32) (x2 : Int32) (x3 : Int32) (x4 : Int32) (x5 : Int32) : JM Mem Int32 :=
  jb (jputI 7 1 x0 0) fun _ =>
  jb (jputI 7 0 x0 0) fun _ =>
  if x1 < 0 then
    X8_pour_b28 x0
  else
  if 4 ≤ x1 then
    X8_pour_b28 x0
  else
  if x3 < 0 then
    X8_pour_b28 x0
  else
  if x3 < 4 then
    jb (jgetA 7 5 x0) fun v2 =>
    jb (jald mI 0 v2 x1) fun v3 =>
    if v3 < 0 then
      X8_pour_b52 x0
    else
    jb (jgetA 7 5 x0) fun v5 =>
    jb (jald mI 0 v5 x3) fun v6 =>
    if 0 ≤ v6 then
      jb (jgetA 7 4 x0) fun v7 =>
      jb (jald mI 0 v7 x1) fun v8 =>
      jb (jgetA 7 4 x0) fun v9 =>
      jb (jald mI 0 v9 x3) fun v10 =>
      if v8 = v10 then
        if 0 ≤ x5 then
          if x2 < 0 then
            X8_pour_b136 x0
          else
          if x4 < 0 then
            X8_pour_b136 x0
          else
          jb (jgetA 7 5 x0) fun v12 =>
          jb (jald mI 0 v12 x1) fun v13 =>
          if (v13 : Int32).toInt64 < ((x2 : Int32).toInt64) + ((x5 : Int32).toInt64) then
            X8_pour_b136 x0
          else
          jb (jgetA 7 5 x0) fun v14 =>
          jb (jald mI 0 v14 x3) fun v15 =>
          if ((x4 : Int32).toInt64) + ((x5 : Int32).toInt64) ≤ (v15 : Int32).toInt64 then
            if x4 ≤ x2 then
              X8_pour_b153 x0 x1 x2 x3 x4 x5 0
            else
              X8_pour_b153 x0 x1 x2 x3 x4 x5 1
          else
            X8_pour_b136 x0
        else
        jb (jcall 7 x0 (f_X8_no x0 6)) fun v19 =>
        jrz v19
      else
      jb (jcall 7 x0 (f_X8_no x0 11)) fun v20 =>
      jrz v20
    else
      X8_pour_b52 x0
  else
    X8_pour_b28 x0
theorem j_X8_pour (D : va_G) (dA : Nat → ClassId) (x0 : Nat) (x1 : Int32) (x2 : Int32) (x3 : Int32) (x4 : Int32) (x5 : Int32) : J (PM D dA false) Y_X8_pour [(0, .ref x0), (1, .int x1), (2, .int x2), (3, .int x3), (4, .int x4), (5, .int x5)] [] 0 (f_X8_pour x0 x1 x2 x3 x4 x5) (FRet injI) := by
  unfold f_X8_pour
  refine J_aload_n dX8_pour_0 rfl 0 rfl ?_
  refine J_iconst (v := 0) dX8_pour_1 (by decide) ?_
  refine J_putI dX8_pour_2 ⟨fl_X8_132, Or.inl rfl⟩ rfl ?_
  refine J_aload_n dX8_pour_5 rfl 0 rfl ?_
  refine J_iconst (v := 0) dX8_pour_6 (by decide) ?_
  refine J_putI dX8_pour_7 ⟨fl_X8_135, Or.inl rfl⟩ rfl ?_
  refine J_iload_n dX8_pour_10 rfl 1 rfl ?_
  refine J_if_lt (tgt := 28) dX8_pour_11 rfl ?_ ?_
  · refine J_sub [0] rfl ?_
    exact j_X8_pour_b28 D dA x0
  refine J_iload_n dX8_pour_14 rfl 1 rfl ?_
  refine J_iconst (v := 4) dX8_pour_15 (by decide) ?_
  refine J_icmp_ge (tgt := 28) dX8_pour_16 rfl ?_ ?_
  · refine J_sub [0] rfl ?_
    exact j_X8_pour_b28 D dA x0
  refine J_iload_n dX8_pour_19 rfl 3 rfl ?_
  refine J_if_lt (tgt := 28) dX8_pour_20 rfl ?_ ?_
  · refine J_sub [0] rfl ?_
    exact j_X8_pour_b28 D dA x0
  refine J_iload_n dX8_pour_23 rfl 3 rfl ?_
  refine J_iconst (v := 4) dX8_pour_24 (by decide) ?_
  refine J_icmp_lt (tgt := 34) dX8_pour_25 rfl ?_ ?_
  · refine J_aload_n dX8_pour_34 rfl 0 rfl ?_
    refine J_getA dX8_pour_35 fl_X8_17 rfl (fun v2 => ?_)
    refine J_iload_n dX8_pour_38 rfl 1 rfl ?_
    refine J_iald dX8_pour_39 (fun v3 => ?_)
    refine J_if_lt (tgt := 52) dX8_pour_40 rfl ?_ ?_
    · refine J_sub [0] rfl ?_
      exact j_X8_pour_b52 D dA x0
    refine J_aload_n dX8_pour_43 rfl 0 rfl ?_
    refine J_getA dX8_pour_44 fl_X8_17 rfl (fun v5 => ?_)
    refine J_iload_n dX8_pour_47 rfl 3 rfl ?_
    refine J_iald dX8_pour_48 (fun v6 => ?_)
    refine J_if_ge (tgt := 58) dX8_pour_49 rfl ?_ ?_
    · refine J_aload_n dX8_pour_58 rfl 0 rfl ?_
      refine J_getA dX8_pour_59 fl_X8_13 rfl (fun v7 => ?_)
      refine J_iload_n dX8_pour_62 rfl 1 rfl ?_
      refine J_iald dX8_pour_63 (fun v8 => ?_)
      refine J_aload_n dX8_pour_64 rfl 0 rfl ?_
      refine J_getA dX8_pour_65 fl_X8_13 rfl (fun v9 => ?_)
      refine J_iload_n dX8_pour_68 rfl 3 rfl ?_
      refine J_iald dX8_pour_69 (fun v10 => ?_)
      refine J_icmp_eq (tgt := 80) dX8_pour_70 rfl ?_ ?_
      · refine J_iload dX8_pour_80 5 rfl ?_
        refine J_if_ge (tgt := 92) dX8_pour_82 rfl ?_ ?_
        · refine J_iload_n dX8_pour_92 rfl 2 rfl ?_
          refine J_if_lt (tgt := 136) dX8_pour_93 rfl ?_ ?_
          · refine J_sub [0] rfl ?_
            exact j_X8_pour_b136 D dA x0
          refine J_iload dX8_pour_96 4 rfl ?_
          refine J_if_lt (tgt := 136) dX8_pour_98 rfl ?_ ?_
          · refine J_sub [0] rfl ?_
            exact j_X8_pour_b136 D dA x0
          refine J_iload_n dX8_pour_101 rfl 2 rfl ?_
          refine J_i2l dX8_pour_102 ?_
          refine J_iload dX8_pour_103 5 rfl ?_
          refine J_i2l dX8_pour_105 ?_
          refine J_ladd dX8_pour_106 ?_
          refine J_aload_n dX8_pour_107 rfl 0 rfl ?_
          refine J_getA dX8_pour_108 fl_X8_17 rfl (fun v12 => ?_)
          refine J_iload_n dX8_pour_111 rfl 1 rfl ?_
          refine J_iald dX8_pour_112 (fun v13 => ?_)
          refine J_i2l dX8_pour_113 ?_
          refine J_lcmp_gt (tgt := 136) dX8_pour_114 dX8_pour_115 rfl ?_ ?_
          · refine J_sub [0] rfl ?_
            exact j_X8_pour_b136 D dA x0
          refine J_iload dX8_pour_118 4 rfl ?_
          refine J_i2l dX8_pour_120 ?_
          refine J_iload dX8_pour_121 5 rfl ?_
          refine J_i2l dX8_pour_123 ?_
          refine J_ladd dX8_pour_124 ?_
          refine J_aload_n dX8_pour_125 rfl 0 rfl ?_
          refine J_getA dX8_pour_126 fl_X8_17 rfl (fun v14 => ?_)
          refine J_iload_n dX8_pour_129 rfl 3 rfl ?_
          refine J_iald dX8_pour_130 (fun v15 => ?_)
          refine J_i2l dX8_pour_131 ?_
          refine J_lcmp_le (tgt := 142) dX8_pour_132 dX8_pour_133 rfl ?_ ?_
          · refine J_iload_n dX8_pour_142 rfl 2 rfl ?_
            refine J_iload dX8_pour_143 4 rfl ?_
            refine J_icmp_ge (tgt := 152) dX8_pour_145 rfl ?_ ?_
            · refine J_iconst (v := 0) dX8_pour_152 (by decide) ?_
              refine J_sub [0, 1, 2, 3, 4, 5] rfl ?_
              exact j_X8_pour_b153 D dA x0 x1 x2 x3 x4 x5 0
            refine J_iconst (v := 1) dX8_pour_148 (by decide) ?_
            refine J_goto (tgt := 153) dX8_pour_149 rfl ?_
            refine J_sub [0, 1, 2, 3, 4, 5] rfl ?_
            exact j_X8_pour_b153 D dA x0 x1 x2 x3 x4 x5 1
          refine J_sub [0] rfl ?_
          exact j_X8_pour_b136 D dA x0
        refine J_aload_n dX8_pour_85 rfl 0 rfl ?_
        refine J_bipush (v := 6) dX8_pour_86 (by decide) ?_
        refine J_callVI (c := 7) (as := [.int 6]) dX8_pour_88 (by decide) rfl (Nat.le_of_ble_eq_true rfl) (cw_X8_no _ (by decide)) q1702 q1704 qs64 q1705 np_X8_no (i_X8_no x0 6) jad_id rfl (fun v19 => ?_)
        exact J_zreturn dX8_pour_91 rfl
      refine J_aload_n dX8_pour_73 rfl 0 rfl ?_
      refine J_bipush (v := 11) dX8_pour_74 (by decide) ?_
      refine J_callVI (c := 7) (as := [.int 11]) dX8_pour_76 (by decide) rfl (Nat.le_of_ble_eq_true rfl) (cw_X8_no _ (by decide)) q1702 q1704 qs64 q1705 np_X8_no (i_X8_no x0 11) jad_id rfl (fun v20 => ?_)
      exact J_zreturn dX8_pour_79 rfl
    refine J_sub [0] rfl ?_
    exact j_X8_pour_b52 D dA x0
  refine J_sub [0] rfl ?_
  exact j_X8_pour_b28 D dA x0
theorem i_X8_pour (x0 : Nat) (x1 : Int32) (x2 : Int32) (x3 : Int32) (x4 : Int32) (x5 : Int32) : Impl (ws_ yX8_pour cX8_pour 9 (some .boolean)) yX8_pour 2 false 0 0 [.ref x0, .int x1, .int x2, .int x3, .int x4, .int x5] (f_X8_pour x0 x1 x2 x3 x4 x5) injI := impl_of (plainFor_of_name (by decide)) (Nat.le_of_ble_eq_true rfl) (fun D dA => j_X8_pour D dA x0 x1 x2 x3 x4 x5)
theorem cw_X8_pour (Y : JY) (h : 3 ≤ Y.2.2.2.1) : JCw Y (ws_ yX8_pour cX8_pour 9 (some .boolean)) yX8_pour cX8_pour 9 (some .boolean) 2 := ⟨h, by decide, lw_meth q1729, q198, by decide, by decide⟩
theorem np_X8_pour : JNp yX8_pour.desc 5 := by decide +kernel
-- BracketRoomModel.lay(I)V
abbrev Y_X8_lay : JY := (cX8_lay, yX8_lay.cls, 3, 1, yX8_lay.name, none, [])
noncomputable def X8_lay_L2 (x0 : Nat) (x1 : Int32) (x2 : Int32) : JM Mem (Unit ⊕ (Int32)) :=
  if x2 < 0 then
    jinl (jp ())
  else
  jb (jgetA 7 7 x0) fun v1 =>
  jb (jgetI 7 8 x0) fun v2 =>
  jb (jast_b v1 v2 ((x1 >>> ((8 * x2) &&& 31) : Int32).toInt8.toInt32)) fun _ =>
  jb (jgetI 7 8 x0) fun v3 =>
  jb (jputI 7 8 x0 (v3 + 1)) fun _ =>
  jcont (x2 + (-1))
theorem j_X8_lay_L2 (D : va_G) (dA : Nat → ClassId) (x0 : Nat) (x1 : Int32) (x2 : Int32) : J (PM D dA false) Y_X8_lay [(0, .ref x0), (1, .int x1), (2, .int x2)] [] 2 (X8_lay_L2 x0 x1 x2) (FLoop (FRet injU) 2 (fun (t : Int32) => [(0, .ref x0), (1, .int x1), (2, .int t)])) := by
  unfold X8_lay_L2
  refine J_iload_n dX8_lay_2 rfl 2 rfl ?_
  refine J_if_lt (tgt := 38) dX8_lay_3 rfl ?_ ?_
  · refine J_inl ?_
    exact J_return dX8_lay_38 rfl
  refine J_aload_n dX8_lay_6 rfl 0 rfl ?_
  refine J_getA dX8_lay_7 fl_X8_24 rfl (fun v1 => ?_)
  refine J_aload_n dX8_lay_10 rfl 0 rfl ?_
  refine J_getI dX8_lay_11 fl_X8_237 rfl (fun v2 => ?_)
  refine J_iload_n dX8_lay_14 rfl 1 rfl ?_
  refine J_bipush (v := 8) dX8_lay_15 (by decide) ?_
  refine J_iload_n dX8_lay_17 rfl 2 rfl ?_
  refine J_imul dX8_lay_18 ?_
  refine J_ishr dX8_lay_19 ?_
  refine J_i2b dX8_lay_20 ?_
  refine J_bast dX8_lay_21 ?_
  refine J_aload_n dX8_lay_22 rfl 0 rfl ?_
  refine J_dup dX8_lay_23 rfl ?_
  refine J_getI dX8_lay_24 fl_X8_237 rfl (fun v3 => ?_)
  refine J_iconst (v := 1) dX8_lay_27 (by decide) ?_
  refine J_iadd dX8_lay_28 ?_
  refine J_putI dX8_lay_29 ⟨fl_X8_237, Or.inl rfl⟩ rfl ?_
  refine J_iinc (v := x2 + (-1)) (env' := [(2, .int (x2 + (-1))), (0, .ref x0), (1, .int x1)]) dX8_lay_32 2 rfl rfl (by decide) rfl ?_
  refine J_goto (tgt := 2) dX8_lay_35 rfl ?_
  exact J_cont [1, 2, 0] rfl
noncomputable def f_X8_lay (x0 : Nat) (x1 : Int32) : JM Mem Unit :=
  jloop (fun (t : Int32) => X8_lay_L2 x0 x1 t) 3
theorem j_X8_lay (D : va_G) (dA : Nat → ClassId) (x0 : Nat) (x1 : Int32) : J (PM D dA false) Y_X8_lay [(0, .ref x0), (1, .int x1)] [] 0 (f_X8_lay x0 x1) (FRet injU) := by
  unfold f_X8_lay
  refine J_iconst (v := 3) dX8_lay_0 (by decide) ?_
  refine J_istore_n (env' := [(2, .int 3), (0, .ref x0), (1, .int x1)]) dX8_lay_1 rfl (by decide) rfl ?_
  refine J_loop (he := fun (t : Int32) => [(0, .ref x0), (1, .int x1), (2, .int t)]) [1, 2, 0] rfl (fun t => ?_)
  exact j_X8_lay_L2 D dA x0 x1 t
theorem i_X8_lay (x0 : Nat) (x1 : Int32) : Impl (ws_ yX8_lay cX8_lay 3 none) yX8_lay 1 false 0 0 [.ref x0, .int x1] (f_X8_lay x0 x1) injU := impl_of (plainFor_of_name (by decide)) (Nat.le_of_ble_eq_true rfl) (fun D dA => j_X8_lay D dA x0 x1)
theorem cw_X8_lay (Y : JY) (h : 2 ≤ Y.2.2.2.1) : JCw Y (ws_ yX8_lay cX8_lay 3 none) yX8_lay cX8_lay 3 none 1 := ⟨h, by decide, lw_meth q1737, q198, by decide, by decide⟩
theorem np_X8_lay : JNp yX8_lay.desc 1 := by decide +kernel
-- BracketRoomModel.feed(IIIII)I
abbrev Y_X8_feed : JY := (cX8_feed, yX8_feed.cls, 6, 2, yX8_feed.name, (some .int), [])
noncomputable def f_X8_feed (x0 : Nat) (x1 : Int32) (x2 : Int32) (x3 : Int32) (x4 : Int32) (x5 : Int32) : JM Mem Int32 :=
  jb (jputI 7 1 x0 0) fun _ =>
  jb (jgetI 7 8 x0) fun v1 =>
  if v1 + 20 ≤ 600 then
    jb (jcall 7 x0 (f_X8_lay x0 x1)) fun _ =>
    jb (jcall 7 x0 (f_X8_lay x0 x2)) fun _ =>
    jb (jcall 7 x0 (f_X8_lay x0 x3)) fun _ =>
    jb (jcall 7 x0 (f_X8_lay x0 x4)) fun _ =>
    jb (jcall 7 x0 (f_X8_lay x0 x5)) fun _ =>
    jb (jgetI 7 8 x0) fun v2 =>
    jp v2
  else
    jp (-1)
theorem j_X8_feed (D : va_G) (dA : Nat → ClassId) (x0 : Nat) (x1 : Int32) (x2 : Int32) (x3 : Int32) (x4 : Int32) (x5 : Int32) : J (PM D dA false) Y_X8_feed [(0, .ref x0), (1, .int x1), (2, .int x2), (3, .int x3), (4, .int x4), (5, .int x5)] [] 0 (f_X8_feed x0 x1 x2 x3 x4 x5) (FRet injI) := by
  unfold f_X8_feed
  refine J_aload_n dX8_feed_0 rfl 0 rfl ?_
  refine J_iconst (v := 0) dX8_feed_1 (by decide) ?_
  refine J_putI dX8_feed_2 ⟨fl_X8_132, Or.inl rfl⟩ rfl ?_
  refine J_aload_n dX8_feed_5 rfl 0 rfl ?_
  refine J_getI dX8_feed_6 fl_X8_237 rfl (fun v1 => ?_)
  refine J_bipush (v := 20) dX8_feed_9 (by decide) ?_
  refine J_iadd dX8_feed_11 ?_
  refine J_sipush (v := 600) dX8_feed_12 (by decide) ?_
  refine J_icmp_le (tgt := 20) dX8_feed_15 rfl ?_ ?_
  · refine J_aload_n dX8_feed_20 rfl 0 rfl ?_
    refine J_iload_n dX8_feed_21 rfl 1 rfl ?_
    refine J_callVV (c := 7) (as := [.int x1]) dX8_feed_22 (by decide) rfl (Nat.le_of_ble_eq_true rfl) (cw_X8_lay _ (by decide)) q1734 q1736 qs67 q1737 np_X8_lay (i_X8_lay x0 x1) jad_id rfl ?_
    refine J_aload_n dX8_feed_25 rfl 0 rfl ?_
    refine J_iload_n dX8_feed_26 rfl 2 rfl ?_
    refine J_callVV (c := 7) (as := [.int x2]) dX8_feed_27 (by decide) rfl (Nat.le_of_ble_eq_true rfl) (cw_X8_lay _ (by decide)) q1734 q1736 qs67 q1737 np_X8_lay (i_X8_lay x0 x2) jad_id rfl ?_
    refine J_aload_n dX8_feed_30 rfl 0 rfl ?_
    refine J_iload_n dX8_feed_31 rfl 3 rfl ?_
    refine J_callVV (c := 7) (as := [.int x3]) dX8_feed_32 (by decide) rfl (Nat.le_of_ble_eq_true rfl) (cw_X8_lay _ (by decide)) q1734 q1736 qs67 q1737 np_X8_lay (i_X8_lay x0 x3) jad_id rfl ?_
    refine J_aload_n dX8_feed_35 rfl 0 rfl ?_
    refine J_iload dX8_feed_36 4 rfl ?_
    refine J_callVV (c := 7) (as := [.int x4]) dX8_feed_38 (by decide) rfl (Nat.le_of_ble_eq_true rfl) (cw_X8_lay _ (by decide)) q1734 q1736 qs67 q1737 np_X8_lay (i_X8_lay x0 x4) jad_id rfl ?_
    refine J_aload_n dX8_feed_41 rfl 0 rfl ?_
    refine J_iload dX8_feed_42 5 rfl ?_
    refine J_callVV (c := 7) (as := [.int x5]) dX8_feed_44 (by decide) rfl (Nat.le_of_ble_eq_true rfl) (cw_X8_lay _ (by decide)) q1734 q1736 qs67 q1737 np_X8_lay (i_X8_lay x0 x5) jad_id rfl ?_
    refine J_aload_n dX8_feed_47 rfl 0 rfl ?_
    refine J_getI dX8_feed_48 fl_X8_237 rfl (fun v2 => ?_)
    exact J_ireturn dX8_feed_51 rfl
  refine J_iconst (v := (-1)) dX8_feed_18 (by decide) ?_
  exact J_ireturn dX8_feed_19 rfl
theorem i_X8_feed (x0 : Nat) (x1 : Int32) (x2 : Int32) (x3 : Int32) (x4 : Int32) (x5 : Int32) : Impl (ws_ yX8_feed cX8_feed 6 (some .int)) yX8_feed 2 false 0 0 [.ref x0, .int x1, .int x2, .int x3, .int x4, .int x5] (f_X8_feed x0 x1 x2 x3 x4 x5) injI := impl_of (plainFor_of_name (by decide)) (Nat.le_of_ble_eq_true rfl) (fun D dA => j_X8_feed D dA x0 x1 x2 x3 x4 x5)
theorem cw_X8_feed (Y : JY) (h : 3 ≤ Y.2.2.2.1) : JCw Y (ws_ yX8_feed cX8_feed 6 (some .int)) yX8_feed cX8_feed 6 (some .int) 2 := ⟨h, by decide, lw_meth q1733, q198, by decide, by decide⟩
theorem np_X8_feed : JNp yX8_feed.desc 5 := by decide +kernel
-- BracketRoomModel.fault(I)I
abbrev Y_X8_fault : JY := (cX8_fault, yX8_fault.cls, 2, 1, yX8_fault.name, (some .int), [])
noncomputable def f_X8_fault (x0 : Nat) (x1 : Int32) : JM Mem Int32 :=
  jb (jputI 7 1 x0 0) fun _ =>
  if x1 = 0 then
    jb (jgetI 7 10 x0) fun v2 =>
    jp v2
  else
  if x1 = 1 then
    jb (jgetI 7 11 x0) fun v1 =>
    jp v1
  else
    jp (-1)
theorem j_X8_fault (D : va_G) (dA : Nat → ClassId) (x0 : Nat) (x1 : Int32) : J (PM D dA false) Y_X8_fault [(0, .ref x0), (1, .int x1)] [] 0 (f_X8_fault x0 x1) (FRet injI) := by
  unfold f_X8_fault
  refine J_aload_n dX8_fault_0 rfl 0 rfl ?_
  refine J_iconst (v := 0) dX8_fault_1 (by decide) ?_
  refine J_putI dX8_fault_2 ⟨fl_X8_132, Or.inl rfl⟩ rfl ?_
  refine J_iload_n dX8_fault_5 rfl 1 rfl ?_
  refine J_if_ne (tgt := 16) dX8_fault_6 rfl ?_ ?_
  · refine J_iload_n dX8_fault_16 rfl 1 rfl ?_
    refine J_iconst (v := 1) dX8_fault_17 (by decide) ?_
    refine J_icmp_ne (tgt := 28) dX8_fault_18 rfl ?_ ?_
    · refine J_iconst (v := (-1)) dX8_fault_28 (by decide) ?_
      exact J_ireturn dX8_fault_29 rfl
    refine J_aload_n dX8_fault_21 rfl 0 rfl ?_
    refine J_getI dX8_fault_22 fl_X8_32 rfl (fun v1 => ?_)
    refine J_goto (tgt := 29) dX8_fault_25 rfl ?_
    exact J_ireturn dX8_fault_29 rfl
  refine J_aload_n dX8_fault_9 rfl 0 rfl ?_
  refine J_getI dX8_fault_10 fl_X8_28 rfl (fun v2 => ?_)
  refine J_goto (tgt := 29) dX8_fault_13 rfl ?_
  exact J_ireturn dX8_fault_29 rfl
theorem i_X8_fault (x0 : Nat) (x1 : Int32) : Impl (ws_ yX8_fault cX8_fault 2 (some .int)) yX8_fault 1 false 0 0 [.ref x0, .int x1] (f_X8_fault x0 x1) injI := impl_of (plainFor_of_name (by decide)) (Nat.le_of_ble_eq_true rfl) (fun D dA => j_X8_fault D dA x0 x1)
theorem cw_X8_fault (Y : JY) (h : 2 ≤ Y.2.2.2.1) : JCw Y (ws_ yX8_fault cX8_fault 2 (some .int)) yX8_fault cX8_fault 2 (some .int) 1 := ⟨h, by decide, lw_meth q1741, q198, by decide, by decide⟩
theorem np_X8_fault : JNp yX8_fault.desc 1 := by decide +kernel
-- BracketRoomModel.look2(I)I
abbrev Y_X8_look2 : JY := (cX8_look2, yX8_look2.cls, 2, 1, yX8_look2.name, (some .int), [])
noncomputable def f_X8_look2 (x0 : Nat) (x1 : Int32) : JM Mem Int32 :=
  jb (jgetI 7 9 x0) fun v1 =>
  if v1 ≤ x1 then
    jp 0
  else
  jb (jgetA 7 7 x0) fun v2 =>
  jb (jald mI 1 v2 x1) fun v3 =>
  jp (v3 &&& 255)
theorem j_X8_look2 (D : va_G) (dA : Nat → ClassId) (x0 : Nat) (x1 : Int32) : J (PM D dA false) Y_X8_look2 [(0, .ref x0), (1, .int x1)] [] 0 (f_X8_look2 x0 x1) (FRet injI) := by
  unfold f_X8_look2
  refine J_iload_n dX8_look2_0 rfl 1 rfl ?_
  refine J_aload_n dX8_look2_1 rfl 0 rfl ?_
  refine J_getI dX8_look2_2 fl_X8_171 rfl (fun v1 => ?_)
  refine J_icmp_ge (tgt := 21) dX8_look2_5 rfl ?_ ?_
  · refine J_iconst (v := 0) dX8_look2_21 (by decide) ?_
    exact J_ireturn dX8_look2_22 rfl
  refine J_aload_n dX8_look2_8 rfl 0 rfl ?_
  refine J_getA dX8_look2_9 fl_X8_24 rfl (fun v2 => ?_)
  refine J_iload_n dX8_look2_12 rfl 1 rfl ?_
  refine J_bald dX8_look2_13 (fun v3 => ?_)
  refine J_sipush (v := 255) dX8_look2_14 (by decide) ?_
  refine J_iand dX8_look2_17 ?_
  refine J_goto (tgt := 22) dX8_look2_18 rfl ?_
  exact J_ireturn dX8_look2_22 rfl
theorem i_X8_look2 (x0 : Nat) (x1 : Int32) : Impl (ws_ yX8_look2 cX8_look2 2 (some .int)) yX8_look2 1 false 0 0 [.ref x0, .int x1] (f_X8_look2 x0 x1) injI := impl_of (plainFor_of_name (by decide)) (Nat.le_of_ble_eq_true rfl) (fun D dA => j_X8_look2 D dA x0 x1)
theorem cw_X8_look2 (Y : JY) (h : 2 ≤ Y.2.2.2.1) : JCw Y (ws_ yX8_look2 cX8_look2 2 (some .int)) yX8_look2 cX8_look2 2 (some .int) 1 := ⟨h, by decide, lw_meth q1757, q198, by decide, by decide⟩
theorem np_X8_look2 : JNp yX8_look2.desc 1 := by decide +kernel
-- BracketRoomModel.isLetter(I)Z
abbrev Y_X8_isLetter : JY := (cX8_isLetter, yX8_isLetter.cls, 1, 1, yX8_isLetter.name, (some .boolean), [])
noncomputable def f_X8_isLetter (x0 : Int32) : JM Mem Int32 :=
  if x0 < 97 then
    jp 0
  else
  if 122 < x0 then
    jp 0
  else
    jp 1
theorem j_X8_isLetter (D : va_G) (dA : Nat → ClassId) (x0 : Int32) : J (PM D dA false) Y_X8_isLetter [(0, .int x0)] [] 0 (f_X8_isLetter x0) (FRet injI) := by
  unfold f_X8_isLetter
  refine J_iload_n dX8_isLetter_0 rfl 0 rfl ?_
  refine J_bipush (v := 97) dX8_isLetter_1 (by decide) ?_
  refine J_icmp_lt (tgt := 16) dX8_isLetter_3 rfl ?_ ?_
  · refine J_iconst (v := 0) dX8_isLetter_16 (by decide) ?_
    exact J_zreturn0 dX8_isLetter_17 rfl
  refine J_iload_n dX8_isLetter_6 rfl 0 rfl ?_
  refine J_bipush (v := 122) dX8_isLetter_7 (by decide) ?_
  refine J_icmp_gt (tgt := 16) dX8_isLetter_9 rfl ?_ ?_
  · refine J_iconst (v := 0) dX8_isLetter_16 (by decide) ?_
    exact J_zreturn0 dX8_isLetter_17 rfl
  refine J_iconst (v := 1) dX8_isLetter_12 (by decide) ?_
  refine J_goto (tgt := 17) dX8_isLetter_13 rfl ?_
  exact J_zreturn1 dX8_isLetter_17 rfl
theorem i_X8_isLetter (x0 : Int32) : Impl (ws_ yX8_isLetter cX8_isLetter 1 (some .boolean)) yX8_isLetter 1 false 0 0 [.int x0] (f_X8_isLetter x0) injI := impl_of (plainFor_of_name (by decide)) (Nat.le_of_ble_eq_true rfl) (fun D dA => j_X8_isLetter D dA x0)
theorem cw_X8_isLetter (Y : JY) (h : 2 ≤ Y.2.2.2.1) : JCw Y (ws_ yX8_isLetter cX8_isLetter 1 (some .boolean)) yX8_isLetter cX8_isLetter 1 (some .boolean) 1 := ⟨h, by decide, lw_meth q1760, q198, by decide, by decide⟩
theorem np_X8_isLetter : JNp yX8_isLetter.desc 1 := by decide +kernel
-- BracketRoomModel.isDigit(I)Z
abbrev Y_X8_isDigit : JY := (cX8_isDigit, yX8_isDigit.cls, 1, 1, yX8_isDigit.name, (some .boolean), [])
noncomputable def f_X8_isDigit (x0 : Int32) : JM Mem Int32 :=
  if x0 < 48 then
    jp 0
  else
  if 57 < x0 then
    jp 0
  else
    jp 1
theorem j_X8_isDigit (D : va_G) (dA : Nat → ClassId) (x0 : Int32) : J (PM D dA false) Y_X8_isDigit [(0, .int x0)] [] 0 (f_X8_isDigit x0) (FRet injI) := by
  unfold f_X8_isDigit
  refine J_iload_n dX8_isDigit_0 rfl 0 rfl ?_
  refine J_bipush (v := 48) dX8_isDigit_1 (by decide) ?_
  refine J_icmp_lt (tgt := 16) dX8_isDigit_3 rfl ?_ ?_
  · refine J_iconst (v := 0) dX8_isDigit_16 (by decide) ?_
    exact J_zreturn0 dX8_isDigit_17 rfl
  refine J_iload_n dX8_isDigit_6 rfl 0 rfl ?_
  refine J_bipush (v := 57) dX8_isDigit_7 (by decide) ?_
  refine J_icmp_gt (tgt := 16) dX8_isDigit_9 rfl ?_ ?_
  · refine J_iconst (v := 0) dX8_isDigit_16 (by decide) ?_
    exact J_zreturn0 dX8_isDigit_17 rfl
  refine J_iconst (v := 1) dX8_isDigit_12 (by decide) ?_
  refine J_goto (tgt := 17) dX8_isDigit_13 rfl ?_
  exact J_zreturn1 dX8_isDigit_17 rfl
theorem i_X8_isDigit (x0 : Int32) : Impl (ws_ yX8_isDigit cX8_isDigit 1 (some .boolean)) yX8_isDigit 1 false 0 0 [.int x0] (f_X8_isDigit x0) injI := impl_of (plainFor_of_name (by decide)) (Nat.le_of_ble_eq_true rfl) (fun D dA => j_X8_isDigit D dA x0)
theorem cw_X8_isDigit (Y : JY) (h : 2 ≤ Y.2.2.2.1) : JCw Y (ws_ yX8_isDigit cX8_isDigit 1 (some .boolean)) yX8_isDigit cX8_isDigit 1 (some .boolean) 1 := ⟨h, by decide, lw_meth q1765, q198, by decide, by decide⟩
theorem np_X8_isDigit : JNp yX8_isDigit.desc 1 := by decide +kernel
-- BracketRoomModel.isSignByte(I)Z
abbrev Y_X8_isSignByte : JY := (cX8_isSignByte, yX8_isSignByte.cls, 2, 1, yX8_isSignByte.name, (some .boolean), [])
noncomputable def X8_isSignByte_b24 : JM Mem Int32 :=
  jp 1
theorem j_X8_isSignByte_b24 (D : va_G) (dA : Nat → ClassId) : J (PM D dA false) Y_X8_isSignByte [] [] 24 (X8_isSignByte_b24) (FRet injI) := by
  unfold X8_isSignByte_b24
  refine J_iconst (v := 1) dX8_isSignByte_24 (by decide) ?_
  refine J_goto (tgt := 29) dX8_isSignByte_25 rfl ?_
  exact J_zreturn1 dX8_isSignByte_29 rfl
noncomputable def f_X8_isSignByte (x0 : Nat) (x1 : Int32) : JM Mem Int32 :=
  if x1 = 59 then
    X8_isSignByte_b24
  else
  if x1 = 60 then
    X8_isSignByte_b24
  else
  if x1 = 62 then
    X8_isSignByte_b24
  else
  if x1 = 61 then
    X8_isSignByte_b24
  else
    jp 0
theorem j_X8_isSignByte (D : va_G) (dA : Nat → ClassId) (x0 : Nat) (x1 : Int32) : J (PM D dA false) Y_X8_isSignByte [(0, .ref x0), (1, .int x1)] [] 0 (f_X8_isSignByte x0 x1) (FRet injI) := by
  unfold f_X8_isSignByte
  refine J_iload_n dX8_isSignByte_0 rfl 1 rfl ?_
  refine J_bipush (v := 59) dX8_isSignByte_1 (by decide) ?_
  refine J_icmp_eq (tgt := 24) dX8_isSignByte_3 rfl ?_ ?_
  · refine J_sub [] rfl ?_
    exact j_X8_isSignByte_b24 D dA
  refine J_iload_n dX8_isSignByte_6 rfl 1 rfl ?_
  refine J_bipush (v := 60) dX8_isSignByte_7 (by decide) ?_
  refine J_icmp_eq (tgt := 24) dX8_isSignByte_9 rfl ?_ ?_
  · refine J_sub [] rfl ?_
    exact j_X8_isSignByte_b24 D dA
  refine J_iload_n dX8_isSignByte_12 rfl 1 rfl ?_
  refine J_bipush (v := 62) dX8_isSignByte_13 (by decide) ?_
  refine J_icmp_eq (tgt := 24) dX8_isSignByte_15 rfl ?_ ?_
  · refine J_sub [] rfl ?_
    exact j_X8_isSignByte_b24 D dA
  refine J_iload_n dX8_isSignByte_18 rfl 1 rfl ?_
  refine J_bipush (v := 61) dX8_isSignByte_19 (by decide) ?_
  refine J_icmp_ne (tgt := 28) dX8_isSignByte_21 rfl ?_ ?_
  · refine J_iconst (v := 0) dX8_isSignByte_28 (by decide) ?_
    exact J_zreturn0 dX8_isSignByte_29 rfl
  refine J_sub [] rfl ?_
  exact j_X8_isSignByte_b24 D dA
theorem i_X8_isSignByte (x0 : Nat) (x1 : Int32) : Impl (ws_ yX8_isSignByte cX8_isSignByte 2 (some .boolean)) yX8_isSignByte 1 false 0 0 [.ref x0, .int x1] (f_X8_isSignByte x0 x1) injI := impl_of (plainFor_of_name (by decide)) (Nat.le_of_ble_eq_true rfl) (fun D dA => j_X8_isSignByte D dA x0 x1)
theorem cw_X8_isSignByte (Y : JY) (h : 2 ≤ Y.2.2.2.1) : JCw Y (ws_ yX8_isSignByte cX8_isSignByte 2 (some .boolean)) yX8_isSignByte cX8_isSignByte 2 (some .boolean) 1 := ⟨h, by decide, lw_meth q1769, q198, by decide, by decide⟩
theorem np_X8_isSignByte : JNp yX8_isSignByte.desc 1 := by decide +kernel
-- BracketRoomModel.next()V
abbrev Y_X8_next : JY := (cX8_next, yX8_next.cls, 2, 2, yX8_next.name, none, [])
noncomputable def X8_next_b311 (s0 : Nat) (s1 : Int32) : JM Mem Unit :=
  jb (jputI 7 14 s0 s1) fun _ =>
  jp ()
theorem j_X8_next_b311 (D : va_G) (dA : Nat → ClassId) (s0 : Nat) (s1 : Int32) : J (PM D dA false) Y_X8_next [] [.int s1, .ref s0] 311 (X8_next_b311 s0 s1) (FRet injU) := by
  unfold X8_next_b311
  refine J_putI dX8_next_311 ⟨fl_X8_183, Or.inl rfl⟩ rfl ?_
  exact J_return dX8_next_314 rfl
noncomputable def X8_next_b276 (s0 : Nat) (s1 : Int32) : JM Mem Unit :=
  jb (jputI 7 14 s0 s1) fun _ =>
  jp ()
theorem j_X8_next_b276 (D : va_G) (dA : Nat → ClassId) (s0 : Nat) (s1 : Int32) : J (PM D dA false) Y_X8_next [] [.int s1, .ref s0] 276 (X8_next_b276 s0 s1) (FRet injU) := by
  unfold X8_next_b276
  refine J_putI dX8_next_276 ⟨fl_X8_183, Or.inl rfl⟩ rfl ?_
  refine J_goto (tgt := 314) dX8_next_279 rfl ?_
  exact J_return dX8_next_314 rfl
noncomputable def X8_next_b257 (x0 : Nat) : JM Mem Unit :=
  jb (jgetI 7 16 x0) fun v16 =>
  jb (jgetI 7 15 x0) fun v17 =>
  if v16 - v17 ≤ 4 then
    X8_next_b276 x0 2
  else
    X8_next_b276 x0 4
theorem j_X8_next_b257 (D : va_G) (dA : Nat → ClassId) (x0 : Nat) : J (PM D dA false) Y_X8_next [(0, .ref x0)] [] 257 (X8_next_b257 x0) (FRet injU) := by
  unfold X8_next_b257
  refine J_aload_n dX8_next_257 rfl 0 rfl ?_
  refine J_aload_n dX8_next_258 rfl 0 rfl ?_
  refine J_getI dX8_next_259 fl_X8_174 rfl (fun v16 => ?_)
  refine J_aload_n dX8_next_262 rfl 0 rfl ?_
  refine J_getI dX8_next_263 fl_X8_177 rfl (fun v17 => ?_)
  refine J_isub dX8_next_266 ?_
  refine J_iconst (v := 4) dX8_next_267 (by decide) ?_
  refine J_icmp_le (tgt := 275) dX8_next_268 rfl ?_ ?_
  · refine J_iconst (v := 2) dX8_next_275 (by decide) ?_
    refine J_sub [] rfl ?_
    exact j_X8_next_b276 D dA x0 2
  refine J_iconst (v := 4) dX8_next_271 (by decide) ?_
  refine J_goto (tgt := 276) dX8_next_272 rfl ?_
  refine J_sub [] rfl ?_
  exact j_X8_next_b276 D dA x0 4
noncomputable def X8_next_b244 (x0 : Nat) : JM Mem (Unit ⊕ (Unit)) :=
  jb (jgetI 7 16 x0) fun v20 =>
  jb (jputI 7 16 x0 (v20 + 1)) fun _ =>
  jcont ()
theorem j_X8_next_b244 (D : va_G) (dA : Nat → ClassId) (x0 : Nat) : J (PM D dA false) Y_X8_next [(0, .ref x0)] [] 244 (X8_next_b244 x0) (FLoop (FRet injU) 194 (fun (t : Unit) => [(0, .ref x0)])) := by
  unfold X8_next_b244
  refine J_aload_n dX8_next_244 rfl 0 rfl ?_
  refine J_dup dX8_next_245 rfl ?_
  refine J_getI dX8_next_246 fl_X8_174 rfl (fun v20 => ?_)
  refine J_iconst (v := 1) dX8_next_249 (by decide) ?_
  refine J_iadd dX8_next_250 ?_
  refine J_putI dX8_next_251 ⟨fl_X8_174, Or.inl rfl⟩ rfl ?_
  refine J_goto (tgt := 194) dX8_next_254 rfl ?_
  exact J_cont [0] rfl
noncomputable def X8_next_L194 (x0 : Nat) : JM Mem (Unit ⊕ (Unit)) :=
  jb (jgetI 7 16 x0) fun v13 =>
  jb (jcall 7 x0 (f_X8_look2 x0 v13)) fun v14 =>
  jb ((f_X8_isDigit v14)) fun v15 =>
  if v15 = 0 then
    jinl (X8_next_b257 x0)
  else
  jb (jgetI 7 16 x0) fun v18 =>
  jb (jgetI 7 15 x0) fun v19 =>
  if 4 ≤ v18 - v19 then
    X8_next_b244 x0
  else
  jb (jgetI 7 17 x0) fun v21 =>
  jb (jgetI 7 16 x0) fun v22 =>
  jb (jcall 7 x0 (f_X8_look2 x0 v22)) fun v23 =>
  jb (jputI 7 17 x0 (((10 * v21) + v23) - 48)) fun _ =>
  X8_next_b244 x0
theorem j_X8_next_L194 (D : va_G) (dA : Nat → ClassId) (x0 : Nat) : J (PM D dA false) Y_X8_next [(0, .ref x0)] [] 194 (X8_next_L194 x0) (FLoop (FRet injU) 194 (fun (t : Unit) => [(0, .ref x0)])) := by
  unfold X8_next_L194
  refine J_aload_n dX8_next_194 rfl 0 rfl ?_
  refine J_aload_n dX8_next_195 rfl 0 rfl ?_
  refine J_getI dX8_next_196 fl_X8_174 rfl (fun v13 => ?_)
  refine J_callVI (c := 7) (as := [.int v13]) dX8_next_199 (by decide) rfl (Nat.le_of_ble_eq_true rfl) (cw_X8_look2 _ (by decide)) q1754 q1756 qs70 q1757 np_X8_look2 (i_X8_look2 x0 v13) jad_id rfl (fun v14 => ?_)
  refine J_callSI (host := "") (as := [.int v14]) dX8_next_202 rfl (Nat.le_of_ble_eq_true rfl) (cw_X8_isDigit _ (by decide)) q1763 q1764 q1765 np_X8_isDigit (i_X8_isDigit v14) jad_id rfl (fun v15 => ?_)
  refine J_if_eq (tgt := 257) dX8_next_205 rfl ?_ ?_
  · refine J_inl ?_
    refine J_sub [0] rfl ?_
    exact j_X8_next_b257 D dA x0
  refine J_aload_n dX8_next_208 rfl 0 rfl ?_
  refine J_getI dX8_next_209 fl_X8_174 rfl (fun v18 => ?_)
  refine J_aload_n dX8_next_212 rfl 0 rfl ?_
  refine J_getI dX8_next_213 fl_X8_177 rfl (fun v19 => ?_)
  refine J_isub dX8_next_216 ?_
  refine J_iconst (v := 4) dX8_next_217 (by decide) ?_
  refine J_icmp_ge (tgt := 244) dX8_next_218 rfl ?_ ?_
  · refine J_sub [0] rfl ?_
    exact j_X8_next_b244 D dA x0
  refine J_aload_n dX8_next_221 rfl 0 rfl ?_
  refine J_bipush (v := 10) dX8_next_222 (by decide) ?_
  refine J_aload_n dX8_next_224 rfl 0 rfl ?_
  refine J_getI dX8_next_225 fl_X8_199 rfl (fun v21 => ?_)
  refine J_imul dX8_next_228 ?_
  refine J_aload_n dX8_next_229 rfl 0 rfl ?_
  refine J_aload_n dX8_next_230 rfl 0 rfl ?_
  refine J_getI dX8_next_231 fl_X8_174 rfl (fun v22 => ?_)
  refine J_callVI (c := 7) (as := [.int v22]) dX8_next_234 (by decide) rfl (Nat.le_of_ble_eq_true rfl) (cw_X8_look2 _ (by decide)) q1754 q1756 qs70 q1757 np_X8_look2 (i_X8_look2 x0 v22) jad_id rfl (fun v23 => ?_)
  refine J_iadd dX8_next_237 ?_
  refine J_bipush (v := 48) dX8_next_238 (by decide) ?_
  refine J_isub dX8_next_240 ?_
  refine J_putI dX8_next_241 ⟨fl_X8_199, Or.inl rfl⟩ rfl ?_
  refine J_sub [0] rfl ?_
  exact j_X8_next_b244 D dA x0
noncomputable def X8_next_b166 (x0 : Nat) (s0 : Nat) (s1 : Int64) : JM Mem (Unit ⊕ (Unit)) :=
  jb (jputL 7 18 s0 s1) fun _ =>
  jb (jgetI 7 16 x0) fun v29 =>
  jb (jputI 7 16 x0 (v29 + 1)) fun _ =>
  jcont ()
theorem j_X8_next_b166 (D : va_G) (dA : Nat → ClassId) (x0 : Nat) (s0 : Nat) (s1 : Int64) : J (PM D dA false) Y_X8_next [(0, .ref x0)] [.long s1, .ref s0] 166 (X8_next_b166 x0 s0 s1) (FLoop (FRet injU) 109 (fun (t : Unit) => [(0, .ref x0)])) := by
  unfold X8_next_b166
  refine J_putL dX8_next_166 ⟨fl_X8_189, Or.inl rfl⟩ rfl ?_
  refine J_aload_n dX8_next_169 rfl 0 rfl ?_
  refine J_dup dX8_next_170 rfl ?_
  refine J_getI dX8_next_171 fl_X8_174 rfl (fun v29 => ?_)
  refine J_iconst (v := 1) dX8_next_174 (by decide) ?_
  refine J_iadd dX8_next_175 ?_
  refine J_putI dX8_next_176 ⟨fl_X8_174, Or.inl rfl⟩ rfl ?_
  refine J_goto (tgt := 109) dX8_next_179 rfl ?_
  exact J_cont [0] rfl
noncomputable def X8_next_L109 (x0 : Nat) : JM Mem (Unit ⊕ (Unit)) :=
  jb (jgetI 7 16 x0) fun v24 =>
  jb (jcall 7 x0 (f_X8_look2 x0 v24)) fun v25 =>
  jb ((f_X8_isLetter v25)) fun v26 =>
  if v26 = 0 then
    jinl (jp ())
  else
  jb (jgetI 7 16 x0) fun v27 =>
  jb (jgetI 7 15 x0) fun v28 =>
  if 9 ≤ v27 - v28 then
    X8_next_b166 x0 x0 (-1)
  else
  jb (jgetL 7 18 x0) fun v30 =>
  jb (jgetI 7 16 x0) fun v31 =>
  jb (jcall 7 x0 (f_X8_look2 x0 v31)) fun v32 =>
  X8_next_b166 x0 x0 (((v30 * 32) + ((v32 : Int32).toInt64)) - 96)
theorem j_X8_next_L109 (D : va_G) (dA : Nat → ClassId) (x0 : Nat) : J (PM D dA false) Y_X8_next [(0, .ref x0)] [] 109 (X8_next_L109 x0) (FLoop (FRet injU) 109 (fun (t : Unit) => [(0, .ref x0)])) := by
  unfold X8_next_L109
  refine J_aload_n dX8_next_109 rfl 0 rfl ?_
  refine J_aload_n dX8_next_110 rfl 0 rfl ?_
  refine J_getI dX8_next_111 fl_X8_174 rfl (fun v24 => ?_)
  refine J_callVI (c := 7) (as := [.int v24]) dX8_next_114 (by decide) rfl (Nat.le_of_ble_eq_true rfl) (cw_X8_look2 _ (by decide)) q1754 q1756 qs70 q1757 np_X8_look2 (i_X8_look2 x0 v24) jad_id rfl (fun v25 => ?_)
  refine J_callSI (host := "") (as := [.int v25]) dX8_next_117 rfl (Nat.le_of_ble_eq_true rfl) (cw_X8_isLetter _ (by decide)) q1758 q1759 q1760 np_X8_isLetter (i_X8_isLetter v25) jad_id rfl (fun v26 => ?_)
  refine J_if_eq (tgt := 314) dX8_next_120 rfl ?_ ?_
  · refine J_inl ?_
    exact J_return dX8_next_314 rfl
  refine J_aload_n dX8_next_123 rfl 0 rfl ?_
  refine J_aload_n dX8_next_124 rfl 0 rfl ?_
  refine J_getI dX8_next_125 fl_X8_174 rfl (fun v27 => ?_)
  refine J_aload_n dX8_next_128 rfl 0 rfl ?_
  refine J_getI dX8_next_129 fl_X8_177 rfl (fun v28 => ?_)
  refine J_isub dX8_next_132 ?_
  refine J_bipush (v := 9) dX8_next_133 (by decide) ?_
  refine J_icmp_ge (tgt := 163) dX8_next_135 rfl ?_ ?_
  · refine J_ldc2 dX8_next_163 q1725 ?_
    refine J_sub [0] rfl ?_
    exact j_X8_next_b166 D dA x0 x0 (-1)
  refine J_aload_n dX8_next_138 rfl 0 rfl ?_
  refine J_getL dX8_next_139 fl_X8_189 rfl (fun v30 => ?_)
  refine J_ldc2 dX8_next_142 q1761 ?_
  refine J_lmul dX8_next_145 ?_
  refine J_aload_n dX8_next_146 rfl 0 rfl ?_
  refine J_aload_n dX8_next_147 rfl 0 rfl ?_
  refine J_getI dX8_next_148 fl_X8_174 rfl (fun v31 => ?_)
  refine J_callVI (c := 7) (as := [.int v31]) dX8_next_151 (by decide) rfl (Nat.le_of_ble_eq_true rfl) (cw_X8_look2 _ (by decide)) q1754 q1756 qs70 q1757 np_X8_look2 (i_X8_look2 x0 v31) jad_id rfl (fun v32 => ?_)
  refine J_i2l dX8_next_154 ?_
  refine J_ladd dX8_next_155 ?_
  refine J_ldc2 dX8_next_156 q1762 ?_
  refine J_lsub dX8_next_159 ?_
  refine J_goto (tgt := 166) dX8_next_160 rfl ?_
  refine J_sub [0] rfl ?_
  exact j_X8_next_b166 D dA x0 x0 (((v30 * 32) + ((v32 : Int32).toInt64)) - 96)
noncomputable def X8_next_b58 (x0 : Nat) : JM Mem Unit :=
  jb (jgetI 7 15 x0) fun v4 =>
  jb (jputI 7 16 x0 v4) fun _ =>
  jb (jgetI 7 15 x0) fun v5 =>
  jb (jgetI 7 9 x0) fun v6 =>
  if v5 < v6 then
    jb (jgetI 7 15 x0) fun v7 =>
    jb (jcall 7 x0 (f_X8_look2 x0 v7)) fun v8 =>
    jb ((f_X8_isLetter v8)) fun v9 =>
    if v9 = 0 then
      jb ((f_X8_isDigit v8)) fun v10 =>
      if v10 = 0 then
        jb (jgetI 7 15 x0) fun v11 =>
        jb (jputI 7 16 x0 (v11 + 1)) fun _ =>
        jb (jputI 7 17 x0 v8) fun _ =>
        jb (jcall 7 x0 (f_X8_isSignByte x0 v8)) fun v12 =>
        if v12 = 0 then
          X8_next_b311 x0 4
        else
          X8_next_b311 x0 3
      else
      jb (jputI 7 17 x0 0) fun _ =>
      jloop (fun (t : Unit) => X8_next_L194 x0) ()
    else
    jb (jputI 7 14 x0 1) fun _ =>
    jb (jputL 7 18 x0 0) fun _ =>
    jloop (fun (t : Unit) => X8_next_L109 x0) ()
  else
  jb (jputI 7 14 x0 0) fun _ =>
  jp ()
theorem j_X8_next_b58 (D : va_G) (dA : Nat → ClassId) (x0 : Nat) : J (PM D dA false) Y_X8_next [(0, .ref x0)] [] 58 (X8_next_b58 x0) (FRet injU) := by
  unfold X8_next_b58
  refine J_aload_n dX8_next_58 rfl 0 rfl ?_
  refine J_aload_n dX8_next_59 rfl 0 rfl ?_
  refine J_getI dX8_next_60 fl_X8_177 rfl (fun v4 => ?_)
  refine J_putI dX8_next_63 ⟨fl_X8_174, Or.inl rfl⟩ rfl ?_
  refine J_aload_n dX8_next_66 rfl 0 rfl ?_
  refine J_getI dX8_next_67 fl_X8_177 rfl (fun v5 => ?_)
  refine J_aload_n dX8_next_70 rfl 0 rfl ?_
  refine J_getI dX8_next_71 fl_X8_171 rfl (fun v6 => ?_)
  refine J_icmp_lt (tgt := 83) dX8_next_74 rfl ?_ ?_
  · refine J_aload_n dX8_next_83 rfl 0 rfl ?_
    refine J_aload_n dX8_next_84 rfl 0 rfl ?_
    refine J_getI dX8_next_85 fl_X8_177 rfl (fun v7 => ?_)
    refine J_callVI (c := 7) (as := [.int v7]) dX8_next_88 (by decide) rfl (Nat.le_of_ble_eq_true rfl) (cw_X8_look2 _ (by decide)) q1754 q1756 qs70 q1757 np_X8_look2 (i_X8_look2 x0 v7) jad_id rfl (fun v8 => ?_)
    refine J_istore_n (env' := [(1, .int v8), (0, .ref x0)]) dX8_next_91 rfl (by decide) rfl ?_
    refine J_iload_n dX8_next_92 rfl 0 rfl ?_
    refine J_callSI (host := "") (as := [.int v8]) dX8_next_93 rfl (Nat.le_of_ble_eq_true rfl) (cw_X8_isLetter _ (by decide)) q1758 q1759 q1760 np_X8_isLetter (i_X8_isLetter v8) jad_id rfl (fun v9 => ?_)
    refine J_if_eq (tgt := 182) dX8_next_96 rfl ?_ ?_
    · refine J_iload_n dX8_next_182 rfl 0 rfl ?_
      refine J_callSI (host := "") (as := [.int v8]) dX8_next_183 rfl (Nat.le_of_ble_eq_true rfl) (cw_X8_isDigit _ (by decide)) q1763 q1764 q1765 np_X8_isDigit (i_X8_isDigit v8) jad_id rfl (fun v10 => ?_)
      refine J_if_eq (tgt := 282) dX8_next_186 rfl ?_ ?_
      · refine J_aload_n dX8_next_282 rfl 1 rfl ?_
        refine J_aload_n dX8_next_283 rfl 1 rfl ?_
        refine J_getI dX8_next_284 fl_X8_177 rfl (fun v11 => ?_)
        refine J_iconst (v := 1) dX8_next_287 (by decide) ?_
        refine J_iadd dX8_next_288 ?_
        refine J_putI dX8_next_289 ⟨fl_X8_174, Or.inl rfl⟩ rfl ?_
        refine J_aload_n dX8_next_292 rfl 1 rfl ?_
        refine J_iload_n dX8_next_293 rfl 0 rfl ?_
        refine J_putI dX8_next_294 ⟨fl_X8_199, Or.inl rfl⟩ rfl ?_
        refine J_aload_n dX8_next_297 rfl 1 rfl ?_
        refine J_aload_n dX8_next_298 rfl 1 rfl ?_
        refine J_iload_n dX8_next_299 rfl 0 rfl ?_
        refine J_callVI (c := 7) (as := [.int v8]) dX8_next_300 (by decide) rfl (Nat.le_of_ble_eq_true rfl) (cw_X8_isSignByte _ (by decide)) q1766 q1768 qs71 q1769 np_X8_isSignByte (i_X8_isSignByte x0 v8) jad_id rfl (fun v12 => ?_)
        refine J_if_eq (tgt := 310) dX8_next_303 rfl ?_ ?_
        · refine J_iconst (v := 4) dX8_next_310 (by decide) ?_
          refine J_sub [] rfl ?_
          exact j_X8_next_b311 D dA x0 4
        refine J_iconst (v := 3) dX8_next_306 (by decide) ?_
        refine J_goto (tgt := 311) dX8_next_307 rfl ?_
        refine J_sub [] rfl ?_
        exact j_X8_next_b311 D dA x0 3
      refine J_aload_n dX8_next_189 rfl 1 rfl ?_
      refine J_iconst (v := 0) dX8_next_190 (by decide) ?_
      refine J_putI dX8_next_191 ⟨fl_X8_199, Or.inl rfl⟩ rfl ?_
      refine J_loop (he := fun (t : Unit) => [(0, .ref x0)]) [1] rfl (fun t => ?_)
      exact j_X8_next_L194 D dA x0
    refine J_aload_n dX8_next_99 rfl 1 rfl ?_
    refine J_iconst (v := 1) dX8_next_100 (by decide) ?_
    refine J_putI dX8_next_101 ⟨fl_X8_183, Or.inl rfl⟩ rfl ?_
    refine J_aload_n dX8_next_104 rfl 1 rfl ?_
    refine J_lconst (v := 0) dX8_next_105 (by decide) ?_
    refine J_putL dX8_next_106 ⟨fl_X8_189, Or.inl rfl⟩ rfl ?_
    refine J_loop (he := fun (t : Unit) => [(0, .ref x0)]) [1] rfl (fun t => ?_)
    exact j_X8_next_L109 D dA x0
  refine J_aload_n dX8_next_77 rfl 0 rfl ?_
  refine J_iconst (v := 0) dX8_next_78 (by decide) ?_
  refine J_putI dX8_next_79 ⟨fl_X8_183, Or.inl rfl⟩ rfl ?_
  exact J_return dX8_next_82 rfl
noncomputable def X8_next_b45 (x0 : Nat) : JM Mem (Unit ⊕ (Unit)) :=
  jb (jgetI 7 15 x0) fun v35 =>
  jb (jputI 7 15 x0 (v35 + 1)) fun _ =>
  jcont ()
theorem j_X8_next_b45 (D : va_G) (dA : Nat → ClassId) (x0 : Nat) : J (PM D dA false) Y_X8_next [(0, .ref x0)] [] 45 (X8_next_b45 x0) (FLoop (FRet injU) 8 (fun (t : Unit) => [(0, .ref x0)])) := by
  unfold X8_next_b45
  refine J_aload_n dX8_next_45 rfl 0 rfl ?_
  refine J_dup dX8_next_46 rfl ?_
  refine J_getI dX8_next_47 fl_X8_177 rfl (fun v35 => ?_)
  refine J_iconst (v := 1) dX8_next_50 (by decide) ?_
  refine J_iadd dX8_next_51 ?_
  refine J_putI dX8_next_52 ⟨fl_X8_177, Or.inl rfl⟩ rfl ?_
  refine J_goto (tgt := 8) dX8_next_55 rfl ?_
  exact J_cont [0] rfl
noncomputable def X8_next_L8 (x0 : Nat) : JM Mem (Unit ⊕ (Unit)) :=
  jb (jgetI 7 15 x0) fun v2 =>
  jb (jgetI 7 9 x0) fun v3 =>
  if v3 ≤ v2 then
    jinl (X8_next_b58 x0)
  else
  jb (jgetI 7 15 x0) fun v33 =>
  jb (jcall 7 x0 (f_X8_look2 x0 v33)) fun v34 =>
  if v34 = 10 then
    X8_next_b45 x0
  else
  jb (jgetI 7 15 x0) fun v36 =>
  jb (jcall 7 x0 (f_X8_look2 x0 v36)) fun v37 =>
  if v37 = 32 then
    X8_next_b45 x0
  else
    jinl (X8_next_b58 x0)
theorem j_X8_next_L8 (D : va_G) (dA : Nat → ClassId) (x0 : Nat) : J (PM D dA false) Y_X8_next [(0, .ref x0)] [] 8 (X8_next_L8 x0) (FLoop (FRet injU) 8 (fun (t : Unit) => [(0, .ref x0)])) := by
  unfold X8_next_L8
  refine J_aload_n dX8_next_8 rfl 0 rfl ?_
  refine J_getI dX8_next_9 fl_X8_177 rfl (fun v2 => ?_)
  refine J_aload_n dX8_next_12 rfl 0 rfl ?_
  refine J_getI dX8_next_13 fl_X8_171 rfl (fun v3 => ?_)
  refine J_icmp_ge (tgt := 58) dX8_next_16 rfl ?_ ?_
  · refine J_inl ?_
    refine J_sub [0] rfl ?_
    exact j_X8_next_b58 D dA x0
  refine J_aload_n dX8_next_19 rfl 0 rfl ?_
  refine J_aload_n dX8_next_20 rfl 0 rfl ?_
  refine J_getI dX8_next_21 fl_X8_177 rfl (fun v33 => ?_)
  refine J_callVI (c := 7) (as := [.int v33]) dX8_next_24 (by decide) rfl (Nat.le_of_ble_eq_true rfl) (cw_X8_look2 _ (by decide)) q1754 q1756 qs70 q1757 np_X8_look2 (i_X8_look2 x0 v33) jad_id rfl (fun v34 => ?_)
  refine J_bipush (v := 10) dX8_next_27 (by decide) ?_
  refine J_icmp_eq (tgt := 45) dX8_next_29 rfl ?_ ?_
  · refine J_sub [0] rfl ?_
    exact j_X8_next_b45 D dA x0
  refine J_aload_n dX8_next_32 rfl 0 rfl ?_
  refine J_aload_n dX8_next_33 rfl 0 rfl ?_
  refine J_getI dX8_next_34 fl_X8_177 rfl (fun v36 => ?_)
  refine J_callVI (c := 7) (as := [.int v36]) dX8_next_37 (by decide) rfl (Nat.le_of_ble_eq_true rfl) (cw_X8_look2 _ (by decide)) q1754 q1756 qs70 q1757 np_X8_look2 (i_X8_look2 x0 v36) jad_id rfl (fun v37 => ?_)
  refine J_bipush (v := 32) dX8_next_40 (by decide) ?_
  refine J_icmp_ne (tgt := 58) dX8_next_42 rfl ?_ ?_
  · refine J_inl ?_
    refine J_sub [0] rfl ?_
    exact j_X8_next_b58 D dA x0
  refine J_sub [0] rfl ?_
  exact j_X8_next_b45 D dA x0
noncomputable def f_X8_next (x0 : Nat) : JM Mem Unit :=
  jb (jgetI 7 16 x0) fun v1 =>
  jb (jputI 7 15 x0 v1) fun _ =>
  jloop (fun (t : Unit) => X8_next_L8 x0) ()
theorem j_X8_next (D : va_G) (dA : Nat → ClassId) (x0 : Nat) : J (PM D dA false) Y_X8_next [(0, .ref x0)] [] 0 (f_X8_next x0) (FRet injU) := by
  unfold f_X8_next
  refine J_aload_n dX8_next_0 rfl 0 rfl ?_
  refine J_aload_n dX8_next_1 rfl 0 rfl ?_
  refine J_getI dX8_next_2 fl_X8_174 rfl (fun v1 => ?_)
  refine J_putI dX8_next_5 ⟨fl_X8_177, Or.inl rfl⟩ rfl ?_
  refine J_loop (he := fun (t : Unit) => [(0, .ref x0)]) [0] rfl (fun t => ?_)
  exact j_X8_next_L8 D dA x0
theorem i_X8_next (x0 : Nat) : Impl (ws_ yX8_next cX8_next 2 none) yX8_next 2 false 0 0 [.ref x0] (f_X8_next x0) injU := impl_of (plainFor_of_name (by decide)) (Nat.le_of_ble_eq_true rfl) (fun D dA => j_X8_next D dA x0)
theorem cw_X8_next (Y : JY) (h : 3 ≤ Y.2.2.2.1) : JCw Y (ws_ yX8_next cX8_next 2 none) yX8_next cX8_next 2 none 2 := ⟨h, by decide, lw_meth q1753, q198, by decide, by decide⟩
theorem np_X8_next : JNp yX8_next.desc 0 := by decide +kernel
-- BracketRoomModel.opens(II)Z
abbrev Y_X8_opens : JY := (cX8_opens, yX8_opens.cls, 3, 3, yX8_opens.name, (some .boolean), [])
noncomputable def X8_opens_b17 (x0 : Nat) : JM Mem Int32 :=
  jb (jcall 7 x0 (f_X8_no x0 5)) fun v1 =>
  jrz v1
theorem j_X8_opens_b17 (D : va_G) (dA : Nat → ClassId) (x0 : Nat) : J (PM D dA false) Y_X8_opens [(0, .ref x0)] [] 17 (X8_opens_b17 x0) (FRet injI) := by
  unfold X8_opens_b17
  refine J_aload_n dX8_opens_17 rfl 0 rfl ?_
  refine J_iconst (v := 5) dX8_opens_18 (by decide) ?_
  refine J_callVI (c := 7) (as := [.int 5]) dX8_opens_19 (by decide) rfl (Nat.le_of_ble_eq_true rfl) (cw_X8_no _ (by decide)) q1702 q1704 qs64 q1705 np_X8_no (i_X8_no x0 5) jad_id rfl (fun v1 => ?_)
  exact J_zreturn dX8_opens_22 rfl
noncomputable def f_X8_opens (x0 : Nat) (x1 : Int32) (x2 : Int32) : JM Mem Int32 :=
  if x1 < 0 then
    X8_opens_b17 x0
  else
  jb (jgetI 7 8 x0) fun v2 =>
  if v2 < x1 then
    X8_opens_b17 x0
  else
  if x1 ≤ x2 then
    jb (jputI 7 9 x0 x1) fun _ =>
    jb (jputI 7 8 x0 0) fun _ =>
    jb (jputI 7 16 x0 0) fun _ =>
    jb (jputI 7 12 x0 0) fun _ =>
    jb (jcall 7 x0 (f_X8_next x0)) fun _ =>
    jp 1
  else
    X8_opens_b17 x0
theorem j_X8_opens (D : va_G) (dA : Nat → ClassId) (x0 : Nat) (x1 : Int32) (x2 : Int32) : J (PM D dA false) Y_X8_opens [(0, .ref x0), (1, .int x1), (2, .int x2)] [] 0 (f_X8_opens x0 x1 x2) (FRet injI) := by
  unfold f_X8_opens
  refine J_iload_n dX8_opens_0 rfl 1 rfl ?_
  refine J_if_lt (tgt := 17) dX8_opens_1 rfl ?_ ?_
  · refine J_sub [0] rfl ?_
    exact j_X8_opens_b17 D dA x0
  refine J_iload_n dX8_opens_4 rfl 1 rfl ?_
  refine J_aload_n dX8_opens_5 rfl 0 rfl ?_
  refine J_getI dX8_opens_6 fl_X8_237 rfl (fun v2 => ?_)
  refine J_icmp_gt (tgt := 17) dX8_opens_9 rfl ?_ ?_
  · refine J_sub [0] rfl ?_
    exact j_X8_opens_b17 D dA x0
  refine J_iload_n dX8_opens_12 rfl 1 rfl ?_
  refine J_iload_n dX8_opens_13 rfl 2 rfl ?_
  refine J_icmp_le (tgt := 23) dX8_opens_14 rfl ?_ ?_
  · refine J_aload_n dX8_opens_23 rfl 0 rfl ?_
    refine J_iload_n dX8_opens_24 rfl 1 rfl ?_
    refine J_putI dX8_opens_25 ⟨fl_X8_171, Or.inl rfl⟩ rfl ?_
    refine J_aload_n dX8_opens_28 rfl 0 rfl ?_
    refine J_iconst (v := 0) dX8_opens_29 (by decide) ?_
    refine J_putI dX8_opens_30 ⟨fl_X8_237, Or.inl rfl⟩ rfl ?_
    refine J_aload_n dX8_opens_33 rfl 0 rfl ?_
    refine J_iconst (v := 0) dX8_opens_34 (by decide) ?_
    refine J_putI dX8_opens_35 ⟨fl_X8_174, Or.inl rfl⟩ rfl ?_
    refine J_aload_n dX8_opens_38 rfl 0 rfl ?_
    refine J_iconst (v := 0) dX8_opens_39 (by decide) ?_
    refine J_putI dX8_opens_40 ⟨fl_X8_221, Or.inl rfl⟩ rfl ?_
    refine J_aload_n dX8_opens_43 rfl 0 rfl ?_
    refine J_callVV (c := 7) (as := []) dX8_opens_44 (by decide) rfl (Nat.le_of_ble_eq_true rfl) (cw_X8_next _ (by decide)) q1750 q1752 qs69 q1753 np_X8_next (i_X8_next x0) jad_id rfl ?_
    refine J_iconst (v := 1) dX8_opens_47 (by decide) ?_
    exact J_zreturn1 dX8_opens_48 rfl
  refine J_sub [0] rfl ?_
  exact j_X8_opens_b17 D dA x0
theorem i_X8_opens (x0 : Nat) (x1 : Int32) (x2 : Int32) : Impl (ws_ yX8_opens cX8_opens 3 (some .boolean)) yX8_opens 3 false 0 0 [.ref x0, .int x1, .int x2] (f_X8_opens x0 x1 x2) injI := impl_of (plainFor_of_name (by decide)) (Nat.le_of_ble_eq_true rfl) (fun D dA => j_X8_opens D dA x0 x1 x2)
theorem cw_X8_opens (Y : JY) (h : 4 ≤ Y.2.2.2.1) : JCw Y (ws_ yX8_opens cX8_opens 3 (some .boolean)) yX8_opens cX8_opens 3 (some .boolean) 3 := ⟨h, by decide, lw_meth q1749, q198, by decide, by decide⟩
theorem np_X8_opens : JNp yX8_opens.desc 2 := by decide +kernel
-- BracketRoomModel.spelled(IIIIII)J
abbrev Y_X8_spelled : JY := (cX8_spelled, yX8_spelled.cls, 8, 1, yX8_spelled.name, (some .long), [])
noncomputable def X8_spelled_b91 (x5 : Int32) (s0 : Int64) : JM Mem Int64 :=
  if x5 ≤ 0 then
    jp s0
  else
    jp (((s0 * 32) + ((x5 : Int32).toInt64)) - 96)
theorem j_X8_spelled_b91 (D : va_G) (dA : Nat → ClassId) (x5 : Int32) (s0 : Int64) : J (PM D dA false) Y_X8_spelled [(5, .int x5)] [.long s0] 91 (X8_spelled_b91 x5 s0) (FRet injL) := by
  unfold X8_spelled_b91
  refine J_lstore (env' := [(6, .long s0), (5, .int x5)]) dX8_spelled_91 (by decide) rfl ?_
  refine J_iload dX8_spelled_93 1 rfl ?_
  refine J_if_le (tgt := 115) dX8_spelled_95 rfl ?_ ?_
  · refine J_lload dX8_spelled_115 0 rfl ?_
    exact J_lreturn dX8_spelled_117 rfl
  refine J_lload dX8_spelled_98 0 rfl ?_
  refine J_ldc2 dX8_spelled_100 q1761 ?_
  refine J_lmul dX8_spelled_103 ?_
  refine J_iload dX8_spelled_104 1 rfl ?_
  refine J_i2l dX8_spelled_106 ?_
  refine J_ladd dX8_spelled_107 ?_
  refine J_ldc2 dX8_spelled_108 q1762 ?_
  refine J_lsub dX8_spelled_111 ?_
  refine J_goto (tgt := 117) dX8_spelled_112 rfl ?_
  exact J_lreturn dX8_spelled_117 rfl
noncomputable def X8_spelled_b65 (x4 : Int32) (x5 : Int32) (s0 : Int64) : JM Mem Int64 :=
  if x4 ≤ 0 then
    X8_spelled_b91 x5 s0
  else
    X8_spelled_b91 x5 (((s0 * 32) + ((x4 : Int32).toInt64)) - 96)
theorem j_X8_spelled_b65 (D : va_G) (dA : Nat → ClassId) (x4 : Int32) (x5 : Int32) (s0 : Int64) : J (PM D dA false) Y_X8_spelled [(4, .int x4), (5, .int x5)] [.long s0] 65 (X8_spelled_b65 x4 x5 s0) (FRet injL) := by
  unfold X8_spelled_b65
  refine J_lstore (env' := [(6, .long s0), (4, .int x4), (5, .int x5)]) dX8_spelled_65 (by decide) rfl ?_
  refine J_iload dX8_spelled_67 1 rfl ?_
  refine J_if_le (tgt := 89) dX8_spelled_69 rfl ?_ ?_
  · refine J_lload dX8_spelled_89 0 rfl ?_
    refine J_sub [2] rfl ?_
    exact j_X8_spelled_b91 D dA x5 s0
  refine J_lload dX8_spelled_72 0 rfl ?_
  refine J_ldc2 dX8_spelled_74 q1761 ?_
  refine J_lmul dX8_spelled_77 ?_
  refine J_iload dX8_spelled_78 1 rfl ?_
  refine J_i2l dX8_spelled_80 ?_
  refine J_ladd dX8_spelled_81 ?_
  refine J_ldc2 dX8_spelled_82 q1762 ?_
  refine J_lsub dX8_spelled_85 ?_
  refine J_goto (tgt := 91) dX8_spelled_86 rfl ?_
  refine J_sub [2] rfl ?_
  exact j_X8_spelled_b91 D dA x5 (((s0 * 32) + ((x4 : Int32).toInt64)) - 96)
noncomputable def X8_spelled_b41 (x3 : Int32) (x4 : Int32) (x5 : Int32) (s0 : Int64) : JM Mem Int64 :=
  if x3 ≤ 0 then
    X8_spelled_b65 x4 x5 s0
  else
    X8_spelled_b65 x4 x5 (((s0 * 32) + ((x3 : Int32).toInt64)) - 96)
theorem j_X8_spelled_b41 (D : va_G) (dA : Nat → ClassId) (x3 : Int32) (x4 : Int32) (x5 : Int32) (s0 : Int64) : J (PM D dA false) Y_X8_spelled [(3, .int x3), (4, .int x4), (5, .int x5)] [.long s0] 41 (X8_spelled_b41 x3 x4 x5 s0) (FRet injL) := by
  unfold X8_spelled_b41
  refine J_lstore (env' := [(6, .long s0), (3, .int x3), (4, .int x4), (5, .int x5)]) dX8_spelled_41 (by decide) rfl ?_
  refine J_iload_n dX8_spelled_43 rfl 1 rfl ?_
  refine J_if_le (tgt := 63) dX8_spelled_44 rfl ?_ ?_
  · refine J_lload dX8_spelled_63 0 rfl ?_
    refine J_sub [2, 3] rfl ?_
    exact j_X8_spelled_b65 D dA x4 x5 s0
  refine J_lload dX8_spelled_47 0 rfl ?_
  refine J_ldc2 dX8_spelled_49 q1761 ?_
  refine J_lmul dX8_spelled_52 ?_
  refine J_iload_n dX8_spelled_53 rfl 1 rfl ?_
  refine J_i2l dX8_spelled_54 ?_
  refine J_ladd dX8_spelled_55 ?_
  refine J_ldc2 dX8_spelled_56 q1762 ?_
  refine J_lsub dX8_spelled_59 ?_
  refine J_goto (tgt := 65) dX8_spelled_60 rfl ?_
  refine J_sub [2, 3] rfl ?_
  exact j_X8_spelled_b65 D dA x4 x5 (((s0 * 32) + ((x3 : Int32).toInt64)) - 96)
noncomputable def f_X8_spelled (x0 : Int32) (x1 : Int32) (x2 : Int32) (x3 : Int32) (x4 : Int32) (x5 : Int32) : JM Mem Int64 :=
  jlet ((((((x0 : Int32).toInt64) - 96) * 32) + ((x1 : Int32).toInt64)) - 96) fun y1 =>
  if x2 ≤ 0 then
    X8_spelled_b41 x3 x4 x5 y1
  else
    X8_spelled_b41 x3 x4 x5 (((y1 * 32) + ((x2 : Int32).toInt64)) - 96)
theorem j_X8_spelled (D : va_G) (dA : Nat → ClassId) (x0 : Int32) (x1 : Int32) (x2 : Int32) (x3 : Int32) (x4 : Int32) (x5 : Int32) : J (PM D dA false) Y_X8_spelled [(0, .int x0), (1, .int x1), (2, .int x2), (3, .int x3), (4, .int x4), (5, .int x5)] [] 0 (f_X8_spelled x0 x1 x2 x3 x4 x5) (FRet injL) := by
  unfold f_X8_spelled
  refine J_iload_n dX8_spelled_0 rfl 0 rfl ?_
  refine J_i2l dX8_spelled_1 ?_
  refine J_ldc2 dX8_spelled_2 q1762 ?_
  refine J_lsub dX8_spelled_5 ?_
  refine J_ldc2 dX8_spelled_6 q1761 ?_
  refine J_lmul dX8_spelled_9 ?_
  refine J_iload_n dX8_spelled_10 rfl 1 rfl ?_
  refine J_i2l dX8_spelled_11 ?_
  refine J_ladd dX8_spelled_12 ?_
  refine J_ldc2 dX8_spelled_13 q1762 ?_
  refine J_lsub dX8_spelled_16 ?_
  refine J_letL (fun y1 => ?_)
  refine J_lstore (env' := [(6, .long y1), (0, .int x0), (1, .int x1), (2, .int x2), (3, .int x3), (4, .int x4), (5, .int x5)]) dX8_spelled_17 (by decide) rfl ?_
  refine J_iload_n dX8_spelled_19 rfl 3 rfl ?_
  refine J_if_le (tgt := 39) dX8_spelled_20 rfl ?_ ?_
  · refine J_lload dX8_spelled_39 0 rfl ?_
    refine J_sub [4, 5, 6] rfl ?_
    exact j_X8_spelled_b41 D dA x3 x4 x5 y1
  refine J_lload dX8_spelled_23 0 rfl ?_
  refine J_ldc2 dX8_spelled_25 q1761 ?_
  refine J_lmul dX8_spelled_28 ?_
  refine J_iload_n dX8_spelled_29 rfl 3 rfl ?_
  refine J_i2l dX8_spelled_30 ?_
  refine J_ladd dX8_spelled_31 ?_
  refine J_ldc2 dX8_spelled_32 q1762 ?_
  refine J_lsub dX8_spelled_35 ?_
  refine J_goto (tgt := 41) dX8_spelled_36 rfl ?_
  refine J_sub [4, 5, 6] rfl ?_
  exact j_X8_spelled_b41 D dA x3 x4 x5 (((y1 * 32) + ((x2 : Int32).toInt64)) - 96)
theorem i_X8_spelled (x0 : Int32) (x1 : Int32) (x2 : Int32) (x3 : Int32) (x4 : Int32) (x5 : Int32) : Impl (ws_ yX8_spelled cX8_spelled 8 (some .long)) yX8_spelled 1 false 0 0 [.int x0, .int x1, .int x2, .int x3, .int x4, .int x5] (f_X8_spelled x0 x1 x2 x3 x4 x5) injL := impl_of (plainFor_of_name (by decide)) (Nat.le_of_ble_eq_true rfl) (fun D dA => j_X8_spelled D dA x0 x1 x2 x3 x4 x5)
theorem cw_X8_spelled (Y : JY) (h : 2 ≤ Y.2.2.2.1) : JCw Y (ws_ yX8_spelled cX8_spelled 8 (some .long)) yX8_spelled cX8_spelled 8 (some .long) 1 := ⟨h, by decide, lw_meth q1776, q198, by decide, by decide⟩
theorem np_X8_spelled : JNp yX8_spelled.desc 6 := by decide +kernel
-- BracketRoomModel.isWord(J)Z
abbrev Y_X8_isWord : JY := (cX8_isWord, yX8_isWord.cls, 3, 1, yX8_isWord.name, (some .boolean), [])
noncomputable def f_X8_isWord (x0 : Nat) (x1 : Int64) : JM Mem Int32 :=
  jb (jgetI 7 14 x0) fun v1 =>
  if v1 = 1 then
    jb (jgetL 7 18 x0) fun v2 =>
    if v2 = x1 then
      jp 1
    else
      jp 0
  else
    jp 0
theorem j_X8_isWord (D : va_G) (dA : Nat → ClassId) (x0 : Nat) (x1 : Int64) : J (PM D dA false) Y_X8_isWord [(0, .ref x0), (1, .long x1)] [] 0 (f_X8_isWord x0 x1) (FRet injI) := by
  unfold f_X8_isWord
  refine J_aload_n dX8_isWord_0 rfl 0 rfl ?_
  refine J_getI dX8_isWord_1 fl_X8_183 rfl (fun v1 => ?_)
  refine J_iconst (v := 1) dX8_isWord_4 (by decide) ?_
  refine J_icmp_ne (tgt := 21) dX8_isWord_5 rfl ?_ ?_
  · refine J_iconst (v := 0) dX8_isWord_21 (by decide) ?_
    exact J_zreturn0 dX8_isWord_22 rfl
  refine J_aload_n dX8_isWord_8 rfl 0 rfl ?_
  refine J_getL dX8_isWord_9 fl_X8_189 rfl (fun v2 => ?_)
  refine J_lload_n dX8_isWord_12 rfl 1 rfl ?_
  refine J_lcmp_ne (tgt := 21) dX8_isWord_13 dX8_isWord_14 rfl ?_ ?_
  · refine J_iconst (v := 0) dX8_isWord_21 (by decide) ?_
    exact J_zreturn0 dX8_isWord_22 rfl
  refine J_iconst (v := 1) dX8_isWord_17 (by decide) ?_
  refine J_goto (tgt := 22) dX8_isWord_18 rfl ?_
  exact J_zreturn1 dX8_isWord_22 rfl
theorem i_X8_isWord (x0 : Nat) (x1 : Int64) : Impl (ws_ yX8_isWord cX8_isWord 3 (some .boolean)) yX8_isWord 1 false 0 0 [.ref x0, .long x1] (f_X8_isWord x0 x1) injI := impl_of (plainFor_of_name (by decide)) (Nat.le_of_ble_eq_true rfl) (fun D dA => j_X8_isWord D dA x0 x1)
theorem cw_X8_isWord (Y : JY) (h : 2 ≤ Y.2.2.2.1) : JCw Y (ws_ yX8_isWord cX8_isWord 3 (some .boolean)) yX8_isWord cX8_isWord 3 (some .boolean) 1 := ⟨h, by decide, lw_meth q1780, q198, by decide, by decide⟩
theorem np_X8_isWord : JNp yX8_isWord.desc 1 := by decide +kernel
-- BracketRoomModel.isPrime()Z
abbrev Y_X8_isPrime : JY := (cX8_isPrime, yX8_isPrime.cls, 1, 2, yX8_isPrime.name, (some .boolean), [])
noncomputable def f_X8_isPrime (x0 : Nat) : JM Mem Int32 :=
  jb ((f_X8_spelled 112 114 105 109 101 0)) fun v1 =>
  jb (jcall 7 x0 (f_X8_isWord x0 v1)) fun v2 =>
  jrz v2
theorem j_X8_isPrime (D : va_G) (dA : Nat → ClassId) (x0 : Nat) : J (PM D dA false) Y_X8_isPrime [(0, .ref x0)] [] 0 (f_X8_isPrime x0) (FRet injI) := by
  unfold f_X8_isPrime
  refine J_aload_n dX8_isPrime_0 rfl 0 rfl ?_
  refine J_bipush (v := 112) dX8_isPrime_1 (by decide) ?_
  refine J_bipush (v := 114) dX8_isPrime_3 (by decide) ?_
  refine J_bipush (v := 105) dX8_isPrime_5 (by decide) ?_
  refine J_bipush (v := 109) dX8_isPrime_7 (by decide) ?_
  refine J_bipush (v := 101) dX8_isPrime_9 (by decide) ?_
  refine J_iconst (v := 0) dX8_isPrime_11 (by decide) ?_
  refine J_callSL (host := "") (as := [.int 112, .int 114, .int 105, .int 109, .int 101, .int 0]) dX8_isPrime_12 rfl (Nat.le_of_ble_eq_true rfl) (cw_X8_spelled _ (by decide)) q1774 q1775 q1776 np_X8_spelled (i_X8_spelled 112 114 105 109 101 0) jad_id rfl (fun v1 => ?_)
  refine J_callVI (c := 7) (as := [.long v1]) dX8_isPrime_15 (by decide) rfl (Nat.le_of_ble_eq_true rfl) (cw_X8_isWord _ (by decide)) q1777 q1779 qs73 q1780 np_X8_isWord (i_X8_isWord x0 v1) jad_id rfl (fun v2 => ?_)
  exact J_zreturn dX8_isPrime_18 rfl
theorem i_X8_isPrime (x0 : Nat) : Impl (ws_ yX8_isPrime cX8_isPrime 1 (some .boolean)) yX8_isPrime 2 false 0 0 [.ref x0] (f_X8_isPrime x0) injI := impl_of (plainFor_of_name (by decide)) (Nat.le_of_ble_eq_true rfl) (fun D dA => j_X8_isPrime D dA x0)
theorem cw_X8_isPrime (Y : JY) (h : 3 ≤ Y.2.2.2.1) : JCw Y (ws_ yX8_isPrime cX8_isPrime 1 (some .boolean)) yX8_isPrime cX8_isPrime 1 (some .boolean) 2 := ⟨h, by decide, lw_meth q1773, q198, by decide, by decide⟩
theorem np_X8_isPrime : JNp yX8_isPrime.desc 0 := by decide +kernel
-- BracketRoomModel.fail(II)V
abbrev Y_X8_fail : JY := (cX8_fail, yX8_fail.cls, 3, 1, yX8_fail.name, none, [])
noncomputable def f_X8_fail (x0 : Nat) (x1 : Int32) (x2 : Int32) : JM Mem Unit :=
  jb (jgetI 7 12 x0) fun v1 =>
  if v1 ≤ 0 then
    jb (jputI 7 12 x0 x1) fun _ =>
    jb (jputI 7 13 x0 x2) fun _ =>
    jp ()
  else
    jp ()
theorem j_X8_fail (D : va_G) (dA : Nat → ClassId) (x0 : Nat) (x1 : Int32) (x2 : Int32) : J (PM D dA false) Y_X8_fail [(0, .ref x0), (1, .int x1), (2, .int x2)] [] 0 (f_X8_fail x0 x1 x2) (FRet injU) := by
  unfold f_X8_fail
  refine J_aload_n dX8_fail_0 rfl 0 rfl ?_
  refine J_getI dX8_fail_1 fl_X8_221 rfl (fun v1 => ?_)
  refine J_if_le (tgt := 8) dX8_fail_4 rfl ?_ ?_
  · refine J_aload_n dX8_fail_8 rfl 0 rfl ?_
    refine J_iload_n dX8_fail_9 rfl 1 rfl ?_
    refine J_putI dX8_fail_10 ⟨fl_X8_221, Or.inl rfl⟩ rfl ?_
    refine J_aload_n dX8_fail_13 rfl 0 rfl ?_
    refine J_iload_n dX8_fail_14 rfl 2 rfl ?_
    refine J_putI dX8_fail_15 ⟨fl_X8_224, Or.inl rfl⟩ rfl ?_
    exact J_return dX8_fail_18 rfl
  exact J_return dX8_fail_7 rfl
theorem i_X8_fail (x0 : Nat) (x1 : Int32) (x2 : Int32) : Impl (ws_ yX8_fail cX8_fail 3 none) yX8_fail 1 false 0 0 [.ref x0, .int x1, .int x2] (f_X8_fail x0 x1 x2) injU := impl_of (plainFor_of_name (by decide)) (Nat.le_of_ble_eq_true rfl) (fun D dA => j_X8_fail D dA x0 x1 x2)
theorem cw_X8_fail (Y : JY) (h : 2 ≤ Y.2.2.2.1) : JCw Y (ws_ yX8_fail cX8_fail 3 none) yX8_fail cX8_fail 3 none 1 := ⟨h, by decide, lw_meth q1792, q198, by decide, by decide⟩
theorem np_X8_fail : JNp yX8_fail.desc 2 := by decide +kernel
-- BracketRoomModel.wrong()V
abbrev Y_X8_wrong : JY := (cX8_wrong, yX8_wrong.cls, 1, 2, yX8_wrong.name, none, [])
noncomputable def X8_wrong_b14 (x0 : Nat) (s0 : Nat) (s1 : Int32) : JM Mem Unit :=
  jb (jgetI 7 15 x0) fun v2 =>
  jb (jcall 7 s0 (f_X8_fail s0 s1 v2)) fun _ =>
  jp ()
theorem j_X8_wrong_b14 (D : va_G) (dA : Nat → ClassId) (x0 : Nat) (s0 : Nat) (s1 : Int32) : J (PM D dA false) Y_X8_wrong [(0, .ref x0)] [.int s1, .ref s0] 14 (X8_wrong_b14 x0 s0 s1) (FRet injU) := by
  unfold X8_wrong_b14
  refine J_aload_n dX8_wrong_14 rfl 0 rfl ?_
  refine J_getI dX8_wrong_15 fl_X8_177 rfl (fun v2 => ?_)
  refine J_callVV (c := 7) (as := [.int s1, .int v2]) dX8_wrong_18 (by decide) rfl (Nat.le_of_ble_eq_true rfl) (cw_X8_fail _ (by decide)) q1789 q1791 qs76 q1792 np_X8_fail (i_X8_fail s0 s1 v2) jad_id rfl ?_
  exact J_return dX8_wrong_21 rfl
noncomputable def f_X8_wrong (x0 : Nat) : JM Mem Unit :=
  jb (jgetI 7 14 x0) fun v1 =>
  if v1 = 4 then
    X8_wrong_b14 x0 x0 1
  else
    X8_wrong_b14 x0 x0 2
theorem j_X8_wrong (D : va_G) (dA : Nat → ClassId) (x0 : Nat) : J (PM D dA false) Y_X8_wrong [(0, .ref x0)] [] 0 (f_X8_wrong x0) (FRet injU) := by
  unfold f_X8_wrong
  refine J_aload_n dX8_wrong_0 rfl 0 rfl ?_
  refine J_aload_n dX8_wrong_1 rfl 0 rfl ?_
  refine J_getI dX8_wrong_2 fl_X8_183 rfl (fun v1 => ?_)
  refine J_iconst (v := 4) dX8_wrong_5 (by decide) ?_
  refine J_icmp_ne (tgt := 13) dX8_wrong_6 rfl ?_ ?_
  · refine J_iconst (v := 2) dX8_wrong_13 (by decide) ?_
    refine J_sub [0] rfl ?_
    exact j_X8_wrong_b14 D dA x0 x0 2
  refine J_iconst (v := 1) dX8_wrong_9 (by decide) ?_
  refine J_goto (tgt := 14) dX8_wrong_10 rfl ?_
  refine J_sub [0] rfl ?_
  exact j_X8_wrong_b14 D dA x0 x0 1
theorem i_X8_wrong (x0 : Nat) : Impl (ws_ yX8_wrong cX8_wrong 1 none) yX8_wrong 2 false 0 0 [.ref x0] (f_X8_wrong x0) injU := impl_of (plainFor_of_name (by decide)) (Nat.le_of_ble_eq_true rfl) (fun D dA => j_X8_wrong D dA x0)
theorem cw_X8_wrong (Y : JY) (h : 3 ≤ Y.2.2.2.1) : JCw Y (ws_ yX8_wrong cX8_wrong 1 none) yX8_wrong cX8_wrong 1 none 2 := ⟨h, by decide, lw_meth q1788, q198, by decide, by decide⟩
theorem np_X8_wrong : JNp yX8_wrong.desc 0 := by decide +kernel
-- BracketRoomModel.must(Z)V
abbrev Y_X8_must : JY := (cX8_must, yX8_must.cls, 2, 3, yX8_must.name, none, [])
noncomputable def f_X8_must (x0 : Nat) (x1 : Int32) : JM Mem Unit :=
  jb (jgetI 7 12 x0) fun v1 =>
  if v1 ≤ 0 then
    if x1 = 0 then
      jb (jcall 7 x0 (f_X8_wrong x0)) fun _ =>
      jp ()
    else
    jb (jcall 7 x0 (f_X8_next x0)) fun _ =>
    jp ()
  else
    jp ()
theorem j_X8_must (D : va_G) (dA : Nat → ClassId) (x0 : Nat) (x1 : Int32) : J (PM D dA false) Y_X8_must [(0, .ref x0), (1, .int x1)] [] 0 (f_X8_must x0 x1) (FRet injU) := by
  unfold f_X8_must
  refine J_aload_n dX8_must_0 rfl 0 rfl ?_
  refine J_getI dX8_must_1 fl_X8_221 rfl (fun v1 => ?_)
  refine J_if_le (tgt := 8) dX8_must_4 rfl ?_ ?_
  · refine J_iload_n dX8_must_8 rfl 1 rfl ?_
    refine J_if_eq (tgt := 19) dX8_must_9 rfl ?_ ?_
    · refine J_aload_n dX8_must_19 rfl 0 rfl ?_
      refine J_callVV (c := 7) (as := []) dX8_must_20 (by decide) rfl (Nat.le_of_ble_eq_true rfl) (cw_X8_wrong _ (by decide)) q1785 q1787 qs75 q1788 np_X8_wrong (i_X8_wrong x0) jad_id rfl ?_
      exact J_return dX8_must_23 rfl
    refine J_aload_n dX8_must_12 rfl 0 rfl ?_
    refine J_callVV (c := 7) (as := []) dX8_must_13 (by decide) rfl (Nat.le_of_ble_eq_true rfl) (cw_X8_next _ (by decide)) q1750 q1752 qs69 q1753 np_X8_next (i_X8_next x0) jad_id rfl ?_
    refine J_goto (tgt := 23) dX8_must_16 rfl ?_
    exact J_return dX8_must_23 rfl
  exact J_return dX8_must_7 rfl
theorem i_X8_must (x0 : Nat) (x1 : Int32) : Impl (ws_ yX8_must cX8_must 2 none) yX8_must 3 false 0 0 [.ref x0, .int x1] (f_X8_must x0 x1) injU := impl_of (plainFor_of_name (by decide)) (Nat.le_of_ble_eq_true rfl) (fun D dA => j_X8_must D dA x0 x1)
theorem cw_X8_must (Y : JY) (h : 4 ≤ Y.2.2.2.1) : JCw Y (ws_ yX8_must cX8_must 2 none) yX8_must cX8_must 2 none 3 := ⟨h, by decide, lw_meth q1784, q198, by decide, by decide⟩
theorem np_X8_must : JNp yX8_must.desc 1 := by decide +kernel
-- BracketRoomModel.isPrimeNumber(I)Z
abbrev Y_X8_isPrimeNumber : JY := (cX8_isPrimeNumber, yX8_isPrimeNumber.cls, 2, 1, yX8_isPrimeNumber.name, (some .boolean), [])
noncomputable def X8_isPrimeNumber_b21 : JM Mem Int32 :=
  jp 1
theorem j_X8_isPrimeNumber_b21 (D : va_G) (dA : Nat → ClassId) : J (PM D dA false) Y_X8_isPrimeNumber [] [] 21 (X8_isPrimeNumber_b21) (FRet injI) := by
  unfold X8_isPrimeNumber_b21
  refine J_iconst (v := 1) dX8_isPrimeNumber_21 (by decide) ?_
  refine J_goto (tgt := 26) dX8_isPrimeNumber_22 rfl ?_
  exact J_zreturn1 dX8_isPrimeNumber_26 rfl
noncomputable def f_X8_isPrimeNumber (x0 : Nat) (x1 : Int32) : JM Mem Int32 :=
  if x1 = 2 then
    X8_isPrimeNumber_b21
  else
  if x1 = 3 then
    X8_isPrimeNumber_b21
  else
  if x1 = 5 then
    X8_isPrimeNumber_b21
  else
  if x1 = 7 then
    X8_isPrimeNumber_b21
  else
    jp 0
theorem j_X8_isPrimeNumber (D : va_G) (dA : Nat → ClassId) (x0 : Nat) (x1 : Int32) : J (PM D dA false) Y_X8_isPrimeNumber [(0, .ref x0), (1, .int x1)] [] 0 (f_X8_isPrimeNumber x0 x1) (FRet injI) := by
  unfold f_X8_isPrimeNumber
  refine J_iload_n dX8_isPrimeNumber_0 rfl 1 rfl ?_
  refine J_iconst (v := 2) dX8_isPrimeNumber_1 (by decide) ?_
  refine J_icmp_eq (tgt := 21) dX8_isPrimeNumber_2 rfl ?_ ?_
  · refine J_sub [] rfl ?_
    exact j_X8_isPrimeNumber_b21 D dA
  refine J_iload_n dX8_isPrimeNumber_5 rfl 1 rfl ?_
  refine J_iconst (v := 3) dX8_isPrimeNumber_6 (by decide) ?_
  refine J_icmp_eq (tgt := 21) dX8_isPrimeNumber_7 rfl ?_ ?_
  · refine J_sub [] rfl ?_
    exact j_X8_isPrimeNumber_b21 D dA
  refine J_iload_n dX8_isPrimeNumber_10 rfl 1 rfl ?_
  refine J_iconst (v := 5) dX8_isPrimeNumber_11 (by decide) ?_
  refine J_icmp_eq (tgt := 21) dX8_isPrimeNumber_12 rfl ?_ ?_
  · refine J_sub [] rfl ?_
    exact j_X8_isPrimeNumber_b21 D dA
  refine J_iload_n dX8_isPrimeNumber_15 rfl 1 rfl ?_
  refine J_bipush (v := 7) dX8_isPrimeNumber_16 (by decide) ?_
  refine J_icmp_ne (tgt := 25) dX8_isPrimeNumber_18 rfl ?_ ?_
  · refine J_iconst (v := 0) dX8_isPrimeNumber_25 (by decide) ?_
    exact J_zreturn0 dX8_isPrimeNumber_26 rfl
  refine J_sub [] rfl ?_
  exact j_X8_isPrimeNumber_b21 D dA
theorem i_X8_isPrimeNumber (x0 : Nat) (x1 : Int32) : Impl (ws_ yX8_isPrimeNumber cX8_isPrimeNumber 2 (some .boolean)) yX8_isPrimeNumber 1 false 0 0 [.ref x0, .int x1] (f_X8_isPrimeNumber x0 x1) injI := impl_of (plainFor_of_name (by decide)) (Nat.le_of_ble_eq_true rfl) (fun D dA => j_X8_isPrimeNumber D dA x0 x1)
theorem cw_X8_isPrimeNumber (Y : JY) (h : 2 ≤ Y.2.2.2.1) : JCw Y (ws_ yX8_isPrimeNumber cX8_isPrimeNumber 2 (some .boolean)) yX8_isPrimeNumber cX8_isPrimeNumber 2 (some .boolean) 1 := ⟨h, by decide, lw_meth q1796, q198, by decide, by decide⟩
theorem np_X8_isPrimeNumber : JNp yX8_isPrimeNumber.desc 1 := by decide +kernel
-- BracketRoomModel.isIn(JJJ)Z
abbrev Y_X8_isIn : JY := (cX8_isIn, yX8_isIn.cls, 6, 1, yX8_isIn.name, (some .boolean), [])
noncomputable def f_X8_isIn (x0 : Int64) (x2 : Int64) (x4 : Int64) : JM Mem Int32 :=
  if x0 < x2 then
    jp 0
  else
  if x4 < x0 then
    jp 0
  else
    jp 1
theorem j_X8_isIn (D : va_G) (dA : Nat → ClassId) (x0 : Int64) (x2 : Int64) (x4 : Int64) : J (PM D dA false) Y_X8_isIn [(0, .long x0), (2, .long x2), (4, .long x4)] [] 0 (f_X8_isIn x0 x2 x4) (FRet injI) := by
  unfold f_X8_isIn
  refine J_lload_n dX8_isIn_0 rfl 0 rfl ?_
  refine J_lload_n dX8_isIn_1 rfl 1 rfl ?_
  refine J_lcmp_lt (tgt := 17) dX8_isIn_2 dX8_isIn_3 rfl ?_ ?_
  · refine J_iconst (v := 0) dX8_isIn_17 (by decide) ?_
    exact J_zreturn0 dX8_isIn_18 rfl
  refine J_lload_n dX8_isIn_6 rfl 0 rfl ?_
  refine J_lload dX8_isIn_7 2 rfl ?_
  refine J_lcmp_gt (tgt := 17) dX8_isIn_9 dX8_isIn_10 rfl ?_ ?_
  · refine J_iconst (v := 0) dX8_isIn_17 (by decide) ?_
    exact J_zreturn0 dX8_isIn_18 rfl
  refine J_iconst (v := 1) dX8_isIn_13 (by decide) ?_
  refine J_goto (tgt := 18) dX8_isIn_14 rfl ?_
  exact J_zreturn1 dX8_isIn_18 rfl
theorem i_X8_isIn (x0 : Int64) (x2 : Int64) (x4 : Int64) : Impl (ws_ yX8_isIn cX8_isIn 6 (some .boolean)) yX8_isIn 1 false 0 0 [.long x0, .long x2, .long x4] (f_X8_isIn x0 x2 x4) injI := impl_of (plainFor_of_name (by decide)) (Nat.le_of_ble_eq_true rfl) (fun D dA => j_X8_isIn D dA x0 x2 x4)
theorem cw_X8_isIn (Y : JY) (h : 2 ≤ Y.2.2.2.1) : JCw Y (ws_ yX8_isIn cX8_isIn 6 (some .boolean)) yX8_isIn cX8_isIn 6 (some .boolean) 1 := ⟨h, by decide, lw_meth q1803, q198, by decide, by decide⟩
theorem np_X8_isIn : JNp yX8_isIn.desc 3 := by decide +kernel
-- BracketRoomModel.count(II)I
abbrev Y_X8_count : JY := (cX8_count, yX8_count.cls, 4, 3, yX8_count.name, (some .int), [])
noncomputable def X8_count_b50 (x0 : Nat) : JM Mem Int32 :=
  jb (jgetI 7 12 x0) fun v3 =>
  if v3 ≤ 0 then
    jb (jgetI 7 17 x0) fun v4 =>
    jb (jcall 7 x0 (f_X8_next x0)) fun _ =>
    jp v4
  else
    jp 0
theorem j_X8_count_b50 (D : va_G) (dA : Nat → ClassId) (x0 : Nat) : J (PM D dA false) Y_X8_count [(0, .ref x0)] [] 50 (X8_count_b50 x0) (FRet injI) := by
  unfold X8_count_b50
  refine J_aload_n dX8_count_50 rfl 0 rfl ?_
  refine J_getI dX8_count_51 fl_X8_221 rfl (fun v3 => ?_)
  refine J_if_le (tgt := 59) dX8_count_54 rfl ?_ ?_
  · refine J_aload_n dX8_count_59 rfl 0 rfl ?_
    refine J_getI dX8_count_60 fl_X8_199 rfl (fun v4 => ?_)
    refine J_istore_n (env' := [(3, .int v4), (0, .ref x0)]) dX8_count_63 rfl (by decide) rfl ?_
    refine J_aload_n dX8_count_64 rfl 1 rfl ?_
    refine J_callVV (c := 7) (as := []) dX8_count_65 (by decide) rfl (Nat.le_of_ble_eq_true rfl) (cw_X8_next _ (by decide)) q1750 q1752 qs69 q1753 np_X8_next (i_X8_next x0) jad_id rfl ?_
    refine J_iload_n dX8_count_68 rfl 0 rfl ?_
    exact J_ireturn dX8_count_69 rfl
  refine J_iconst (v := 0) dX8_count_57 (by decide) ?_
  exact J_ireturn dX8_count_58 rfl
noncomputable def X8_count_b19 (x0 : Nat) (x1 : Int32) (x2 : Int32) : JM Mem Int32 :=
  jb (jgetI 7 12 x0) fun v2 =>
  if v2 = 0 then
    jb (jgetI 7 17 x0) fun v5 =>
    jb ((f_X8_isIn ((v5 : Int32).toInt64) ((x1 : Int32).toInt64) ((x2 : Int32).toInt64))) fun v6 =>
    if v6 = 0 then
      jb (jgetI 7 15 x0) fun v7 =>
      jb (jcall 7 x0 (f_X8_fail x0 4 v7)) fun _ =>
      X8_count_b50 x0
    else
      X8_count_b50 x0
  else
    X8_count_b50 x0
theorem j_X8_count_b19 (D : va_G) (dA : Nat → ClassId) (x0 : Nat) (x1 : Int32) (x2 : Int32) : J (PM D dA false) Y_X8_count [(0, .ref x0), (1, .int x1), (2, .int x2)] [] 19 (X8_count_b19 x0 x1 x2) (FRet injI) := by
  unfold X8_count_b19
  refine J_aload_n dX8_count_19 rfl 0 rfl ?_
  refine J_getI dX8_count_20 fl_X8_221 rfl (fun v2 => ?_)
  refine J_if_ne (tgt := 50) dX8_count_23 rfl ?_ ?_
  · refine J_sub [0] rfl ?_
    exact j_X8_count_b50 D dA x0
  refine J_aload_n dX8_count_26 rfl 0 rfl ?_
  refine J_getI dX8_count_27 fl_X8_199 rfl (fun v5 => ?_)
  refine J_i2l dX8_count_30 ?_
  refine J_iload_n dX8_count_31 rfl 1 rfl ?_
  refine J_i2l dX8_count_32 ?_
  refine J_iload_n dX8_count_33 rfl 2 rfl ?_
  refine J_i2l dX8_count_34 ?_
  refine J_callSI (host := "") (as := [.long ((v5 : Int32).toInt64), .long ((x1 : Int32).toInt64), .long ((x2 : Int32).toInt64)]) dX8_count_35 rfl (Nat.le_of_ble_eq_true rfl) (cw_X8_isIn _ (by decide)) q1801 q1802 q1803 np_X8_isIn (i_X8_isIn ((v5 : Int32).toInt64) ((x1 : Int32).toInt64) ((x2 : Int32).toInt64)) jad_id rfl (fun v6 => ?_)
  refine J_if_ne (tgt := 50) dX8_count_38 rfl ?_ ?_
  · refine J_sub [0] rfl ?_
    exact j_X8_count_b50 D dA x0
  refine J_aload_n dX8_count_41 rfl 0 rfl ?_
  refine J_iconst (v := 4) dX8_count_42 (by decide) ?_
  refine J_aload_n dX8_count_43 rfl 0 rfl ?_
  refine J_getI dX8_count_44 fl_X8_177 rfl (fun v7 => ?_)
  refine J_callVV (c := 7) (as := [.int 4, .int v7]) dX8_count_47 (by decide) rfl (Nat.le_of_ble_eq_true rfl) (cw_X8_fail _ (by decide)) q1789 q1791 qs76 q1792 np_X8_fail (i_X8_fail x0 4 v7) jad_id rfl ?_
  refine J_sub [0] rfl ?_
  exact j_X8_count_b50 D dA x0
noncomputable def f_X8_count (x0 : Nat) (x1 : Int32) (x2 : Int32) : JM Mem Int32 :=
  jb (jgetI 7 12 x0) fun v1 =>
  if v1 = 0 then
    jb (jgetI 7 14 x0) fun v8 =>
    if v8 = 2 then
      X8_count_b19 x0 x1 x2
    else
    jb (jcall 7 x0 (f_X8_wrong x0)) fun _ =>
    X8_count_b19 x0 x1 x2
  else
    X8_count_b19 x0 x1 x2
theorem j_X8_count (D : va_G) (dA : Nat → ClassId) (x0 : Nat) (x1 : Int32) (x2 : Int32) : J (PM D dA false) Y_X8_count [(0, .ref x0), (1, .int x1), (2, .int x2)] [] 0 (f_X8_count x0 x1 x2) (FRet injI) := by
  unfold f_X8_count
  refine J_aload_n dX8_count_0 rfl 0 rfl ?_
  refine J_getI dX8_count_1 fl_X8_221 rfl (fun v1 => ?_)
  refine J_if_ne (tgt := 19) dX8_count_4 rfl ?_ ?_
  · refine J_sub [0, 1, 2] rfl ?_
    exact j_X8_count_b19 D dA x0 x1 x2
  refine J_aload_n dX8_count_7 rfl 0 rfl ?_
  refine J_getI dX8_count_8 fl_X8_183 rfl (fun v8 => ?_)
  refine J_iconst (v := 2) dX8_count_11 (by decide) ?_
  refine J_icmp_eq (tgt := 19) dX8_count_12 rfl ?_ ?_
  · refine J_sub [0, 1, 2] rfl ?_
    exact j_X8_count_b19 D dA x0 x1 x2
  refine J_aload_n dX8_count_15 rfl 0 rfl ?_
  refine J_callVV (c := 7) (as := []) dX8_count_16 (by decide) rfl (Nat.le_of_ble_eq_true rfl) (cw_X8_wrong _ (by decide)) q1785 q1787 qs75 q1788 np_X8_wrong (i_X8_wrong x0) jad_id rfl ?_
  refine J_sub [0, 1, 2] rfl ?_
  exact j_X8_count_b19 D dA x0 x1 x2
theorem i_X8_count (x0 : Nat) (x1 : Int32) (x2 : Int32) : Impl (ws_ yX8_count cX8_count 4 (some .int)) yX8_count 3 false 0 0 [.ref x0, .int x1, .int x2] (f_X8_count x0 x1 x2) injI := impl_of (plainFor_of_name (by decide)) (Nat.le_of_ble_eq_true rfl) (fun D dA => j_X8_count D dA x0 x1 x2)
theorem cw_X8_count (Y : JY) (h : 4 ≤ Y.2.2.2.1) : JCw Y (ws_ yX8_count cX8_count 4 (some .int)) yX8_count cX8_count 4 (some .int) 3 := ⟨h, by decide, lw_meth q1800, q198, by decide, by decide⟩
theorem np_X8_count : JNp yX8_count.desc 2 := by decide +kernel
-- BracketRoomModel.isSign(I)Z
abbrev Y_X8_isSign : JY := (cX8_isSign, yX8_isSign.cls, 2, 1, yX8_isSign.name, (some .boolean), [])
noncomputable def f_X8_isSign (x0 : Nat) (x1 : Int32) : JM Mem Int32 :=
  jb (jgetI 7 14 x0) fun v1 =>
  if v1 = 3 then
    jb (jgetI 7 17 x0) fun v2 =>
    if v2 = x1 then
      jp 1
    else
      jp 0
  else
    jp 0
theorem j_X8_isSign (D : va_G) (dA : Nat → ClassId) (x0 : Nat) (x1 : Int32) : J (PM D dA false) Y_X8_isSign [(0, .ref x0), (1, .int x1)] [] 0 (f_X8_isSign x0 x1) (FRet injI) := by
  unfold f_X8_isSign
  refine J_aload_n dX8_isSign_0 rfl 0 rfl ?_
  refine J_getI dX8_isSign_1 fl_X8_183 rfl (fun v1 => ?_)
  refine J_iconst (v := 3) dX8_isSign_4 (by decide) ?_
  refine J_icmp_ne (tgt := 20) dX8_isSign_5 rfl ?_ ?_
  · refine J_iconst (v := 0) dX8_isSign_20 (by decide) ?_
    exact J_zreturn0 dX8_isSign_21 rfl
  refine J_aload_n dX8_isSign_8 rfl 0 rfl ?_
  refine J_getI dX8_isSign_9 fl_X8_199 rfl (fun v2 => ?_)
  refine J_iload_n dX8_isSign_12 rfl 1 rfl ?_
  refine J_icmp_ne (tgt := 20) dX8_isSign_13 rfl ?_ ?_
  · refine J_iconst (v := 0) dX8_isSign_20 (by decide) ?_
    exact J_zreturn0 dX8_isSign_21 rfl
  refine J_iconst (v := 1) dX8_isSign_16 (by decide) ?_
  refine J_goto (tgt := 21) dX8_isSign_17 rfl ?_
  exact J_zreturn1 dX8_isSign_21 rfl
theorem i_X8_isSign (x0 : Nat) (x1 : Int32) : Impl (ws_ yX8_isSign cX8_isSign 2 (some .boolean)) yX8_isSign 1 false 0 0 [.ref x0, .int x1] (f_X8_isSign x0 x1) injI := impl_of (plainFor_of_name (by decide)) (Nat.le_of_ble_eq_true rfl) (fun D dA => j_X8_isSign D dA x0 x1)
theorem cw_X8_isSign (Y : JY) (h : 2 ≤ Y.2.2.2.1) : JCw Y (ws_ yX8_isSign cX8_isSign 2 (some .boolean)) yX8_isSign cX8_isSign 2 (some .boolean) 1 := ⟨h, by decide, lw_meth q1807, q198, by decide, by decide⟩
theorem np_X8_isSign : JNp yX8_isSign.desc 1 := by decide +kernel
-- BracketRoomModel.isSizeWord()Z
abbrev Y_X8_isSizeWord : JY := (cX8_isSizeWord, yX8_isSizeWord.cls, 1, 2, yX8_isSizeWord.name, (some .boolean), [])
noncomputable def f_X8_isSizeWord (x0 : Nat) : JM Mem Int32 :=
  jb ((f_X8_spelled 115 105 122 101 0 0)) fun v1 =>
  jb (jcall 7 x0 (f_X8_isWord x0 v1)) fun v2 =>
  jrz v2
theorem j_X8_isSizeWord (D : va_G) (dA : Nat → ClassId) (x0 : Nat) : J (PM D dA false) Y_X8_isSizeWord [(0, .ref x0)] [] 0 (f_X8_isSizeWord x0) (FRet injI) := by
  unfold f_X8_isSizeWord
  refine J_aload_n dX8_isSizeWord_0 rfl 0 rfl ?_
  refine J_bipush (v := 115) dX8_isSizeWord_1 (by decide) ?_
  refine J_bipush (v := 105) dX8_isSizeWord_3 (by decide) ?_
  refine J_bipush (v := 122) dX8_isSizeWord_5 (by decide) ?_
  refine J_bipush (v := 101) dX8_isSizeWord_7 (by decide) ?_
  refine J_iconst (v := 0) dX8_isSizeWord_9 (by decide) ?_
  refine J_iconst (v := 0) dX8_isSizeWord_10 (by decide) ?_
  refine J_callSL (host := "") (as := [.int 115, .int 105, .int 122, .int 101, .int 0, .int 0]) dX8_isSizeWord_11 rfl (Nat.le_of_ble_eq_true rfl) (cw_X8_spelled _ (by decide)) q1774 q1775 q1776 np_X8_spelled (i_X8_spelled 115 105 122 101 0 0) jad_id rfl (fun v1 => ?_)
  refine J_callVI (c := 7) (as := [.long v1]) dX8_isSizeWord_14 (by decide) rfl (Nat.le_of_ble_eq_true rfl) (cw_X8_isWord _ (by decide)) q1777 q1779 qs73 q1780 np_X8_isWord (i_X8_isWord x0 v1) jad_id rfl (fun v2 => ?_)
  exact J_zreturn dX8_isSizeWord_17 rfl
theorem i_X8_isSizeWord (x0 : Nat) : Impl (ws_ yX8_isSizeWord cX8_isSizeWord 1 (some .boolean)) yX8_isSizeWord 2 false 0 0 [.ref x0] (f_X8_isSizeWord x0) injI := impl_of (plainFor_of_name (by decide)) (Nat.le_of_ble_eq_true rfl) (fun D dA => j_X8_isSizeWord D dA x0)
theorem cw_X8_isSizeWord (Y : JY) (h : 3 ≤ Y.2.2.2.1) : JCw Y (ws_ yX8_isSizeWord cX8_isSizeWord 1 (some .boolean)) yX8_isSizeWord cX8_isSizeWord 1 (some .boolean) 2 := ⟨h, by decide, lw_meth q1811, q198, by decide, by decide⟩
theorem np_X8_isSizeWord : JNp yX8_isSizeWord.desc 0 := by decide +kernel
-- BracketRoomModel.greatest(I)I
abbrev Y_X8_greatest : JY := (cX8_greatest, yX8_greatest.cls, 1, 1, yX8_greatest.name, (some .int), [])
noncomputable def f_X8_greatest (x0 : Int32) : JM Mem Int32 :=
  if x0 = 5 then
    jp 4
  else
  if x0 = 7 then
    jp 3
  else
    jp 5
theorem j_X8_greatest (D : va_G) (dA : Nat → ClassId) (x0 : Int32) : J (PM D dA false) Y_X8_greatest [(0, .int x0)] [] 0 (f_X8_greatest x0) (FRet injI) := by
  unfold f_X8_greatest
  refine J_iload_n dX8_greatest_0 rfl 0 rfl ?_
  refine J_iconst (v := 5) dX8_greatest_1 (by decide) ?_
  refine J_icmp_ne (tgt := 9) dX8_greatest_2 rfl ?_ ?_
  · refine J_iload_n dX8_greatest_9 rfl 0 rfl ?_
    refine J_bipush (v := 7) dX8_greatest_10 (by decide) ?_
    refine J_icmp_ne (tgt := 19) dX8_greatest_12 rfl ?_ ?_
    · refine J_iconst (v := 5) dX8_greatest_19 (by decide) ?_
      exact J_ireturn dX8_greatest_20 rfl
    refine J_iconst (v := 3) dX8_greatest_15 (by decide) ?_
    refine J_goto (tgt := 20) dX8_greatest_16 rfl ?_
    exact J_ireturn dX8_greatest_20 rfl
  refine J_iconst (v := 4) dX8_greatest_5 (by decide) ?_
  refine J_goto (tgt := 20) dX8_greatest_6 rfl ?_
  exact J_ireturn dX8_greatest_20 rfl
theorem i_X8_greatest (x0 : Int32) : Impl (ws_ yX8_greatest cX8_greatest 1 (some .int)) yX8_greatest 1 false 0 0 [.int x0] (f_X8_greatest x0) injI := impl_of (plainFor_of_name (by decide)) (Nat.le_of_ble_eq_true rfl) (fun D dA => j_X8_greatest D dA x0)
theorem cw_X8_greatest (Y : JY) (h : 2 ≤ Y.2.2.2.1) : JCw Y (ws_ yX8_greatest cX8_greatest 1 (some .int)) yX8_greatest cX8_greatest 1 (some .int) 1 := ⟨h, by decide, lw_meth q1814, q198, by decide, by decide⟩
theorem np_X8_greatest : JNp yX8_greatest.desc 1 := by decide +kernel
-- BracketRoomModel.clear([IIII)V
abbrev Y_X8_clear : JY := (cX8_clear, yX8_clear.cls, 5, 1, yX8_clear.name, none, [])
noncomputable def X8_clear_b23 (x0 : Nat) (x1 : Int32) (x2 : Int32) (x3 : Int32) : JM Mem Unit :=
  jb (jast_i x0 x1 x2) fun _ =>
  jb (jast_i x0 (x1 + 1) x3) fun _ =>
  jp ()
theorem j_X8_clear_b23 (D : va_G) (dA : Nat → ClassId) (x0 : Nat) (x1 : Int32) (x2 : Int32) (x3 : Int32) : J (PM D dA false) Y_X8_clear [(0, .ref x0), (1, .int x1), (2, .int x2), (3, .int x3)] [] 23 (X8_clear_b23 x0 x1 x2 x3) (FRet injU) := by
  unfold X8_clear_b23
  refine J_aload_n dX8_clear_23 rfl 0 rfl ?_
  refine J_iload_n dX8_clear_24 rfl 1 rfl ?_
  refine J_iload_n dX8_clear_25 rfl 2 rfl ?_
  refine J_iast dX8_clear_26 ?_
  refine J_aload_n dX8_clear_27 rfl 0 rfl ?_
  refine J_iload_n dX8_clear_28 rfl 1 rfl ?_
  refine J_iconst (v := 1) dX8_clear_29 (by decide) ?_
  refine J_iadd dX8_clear_30 ?_
  refine J_iload_n dX8_clear_31 rfl 3 rfl ?_
  refine J_iast dX8_clear_32 ?_
  exact J_return dX8_clear_33 rfl
noncomputable def X8_clear_L3 (x0 : Nat) (x1 : Int32) (x2 : Int32) (x3 : Int32) (x4 : Int32) : JM Mem (Unit ⊕ (Int32)) :=
  if 127 ≤ x4 then
    jinl (X8_clear_b23 x0 x1 x2 x3)
  else
  jb (jast_i x0 (x1 + x4) 0) fun _ =>
  jcont (x4 + 1)
theorem j_X8_clear_L3 (D : va_G) (dA : Nat → ClassId) (x0 : Nat) (x1 : Int32) (x2 : Int32) (x3 : Int32) (x4 : Int32) : J (PM D dA false) Y_X8_clear [(0, .ref x0), (1, .int x1), (2, .int x2), (3, .int x3), (4, .int x4)] [] 3 (X8_clear_L3 x0 x1 x2 x3 x4) (FLoop (FRet injU) 3 (fun (t : Int32) => [(0, .ref x0), (1, .int x1), (2, .int x2), (3, .int x3), (4, .int t)])) := by
  unfold X8_clear_L3
  refine J_iload dX8_clear_3 4 rfl ?_
  refine J_bipush (v := 127) dX8_clear_5 (by decide) ?_
  refine J_icmp_ge (tgt := 23) dX8_clear_7 rfl ?_ ?_
  · refine J_inl ?_
    refine J_sub [0, 1, 2, 3] rfl ?_
    exact j_X8_clear_b23 D dA x0 x1 x2 x3
  refine J_aload_n dX8_clear_10 rfl 0 rfl ?_
  refine J_iload_n dX8_clear_11 rfl 1 rfl ?_
  refine J_iload dX8_clear_12 4 rfl ?_
  refine J_iadd dX8_clear_14 ?_
  refine J_iconst (v := 0) dX8_clear_15 (by decide) ?_
  refine J_iast dX8_clear_16 ?_
  refine J_iinc (v := x4 + 1) (env' := [(4, .int (x4 + 1)), (0, .ref x0), (1, .int x1), (2, .int x2), (3, .int x3)]) dX8_clear_17 4 rfl rfl (by decide) rfl ?_
  refine J_goto (tgt := 3) dX8_clear_20 rfl ?_
  exact J_cont [1, 2, 3, 4, 0] rfl
noncomputable def f_X8_clear (x0 : Nat) (x1 : Int32) (x2 : Int32) (x3 : Int32) : JM Mem Unit :=
  jloop (fun (t : Int32) => X8_clear_L3 x0 x1 x2 x3 t) 0
theorem j_X8_clear (D : va_G) (dA : Nat → ClassId) (x0 : Nat) (x1 : Int32) (x2 : Int32) (x3 : Int32) : J (PM D dA false) Y_X8_clear [(0, .ref x0), (1, .int x1), (2, .int x2), (3, .int x3)] [] 0 (f_X8_clear x0 x1 x2 x3) (FRet injU) := by
  unfold f_X8_clear
  refine J_iconst (v := 0) dX8_clear_0 (by decide) ?_
  refine J_istore (env' := [(4, .int 0), (0, .ref x0), (1, .int x1), (2, .int x2), (3, .int x3)]) dX8_clear_1 (by decide) rfl ?_
  refine J_loop (he := fun (t : Int32) => [(0, .ref x0), (1, .int x1), (2, .int x2), (3, .int x3), (4, .int t)]) [1, 2, 3, 4, 0] rfl (fun t => ?_)
  exact j_X8_clear_L3 D dA x0 x1 x2 x3 t
theorem i_X8_clear (x0 : Nat) (x1 : Int32) (x2 : Int32) (x3 : Int32) : Impl (ws_ yX8_clear cX8_clear 5 none) yX8_clear 1 false 0 0 [.ref x0, .int x1, .int x2, .int x3] (f_X8_clear x0 x1 x2 x3) injU := impl_of (plainFor_of_name (by decide)) (Nat.le_of_ble_eq_true rfl) (fun D dA => j_X8_clear D dA x0 x1 x2 x3)
theorem cw_X8_clear (Y : JY) (h : 2 ≤ Y.2.2.2.1) : JCw Y (ws_ yX8_clear cX8_clear 5 none) yX8_clear cX8_clear 5 none 1 := ⟨h, by decide, lw_meth q1817, q198, by decide, by decide⟩
theorem np_X8_clear : JNp yX8_clear.desc 4 := by decide +kernel
-- BracketRoomModel.longer(JIII)J
abbrev Y_X8_longer : JY := (cX8_longer, yX8_longer.cls, 7, 1, yX8_longer.name, (some .long), [])
noncomputable def X8_longer_b36 (x4 : Int32) (s0 : Int64) : JM Mem Int64 :=
  if x4 ≤ 0 then
    jp s0
  else
    jp (((s0 * 32) + ((x4 : Int32).toInt64)) - 96)
theorem j_X8_longer_b36 (D : va_G) (dA : Nat → ClassId) (x4 : Int32) (s0 : Int64) : J (PM D dA false) Y_X8_longer [(4, .int x4)] [.long s0] 36 (X8_longer_b36 x4 s0) (FRet injL) := by
  unfold X8_longer_b36
  refine J_lstore (env' := [(5, .long s0), (4, .int x4)]) dX8_longer_36 (by decide) rfl ?_
  refine J_iload dX8_longer_38 1 rfl ?_
  refine J_if_le (tgt := 60) dX8_longer_40 rfl ?_ ?_
  · refine J_lload dX8_longer_60 0 rfl ?_
    exact J_lreturn dX8_longer_62 rfl
  refine J_lload dX8_longer_43 0 rfl ?_
  refine J_ldc2 dX8_longer_45 q1761 ?_
  refine J_lmul dX8_longer_48 ?_
  refine J_iload dX8_longer_49 1 rfl ?_
  refine J_i2l dX8_longer_51 ?_
  refine J_ladd dX8_longer_52 ?_
  refine J_ldc2 dX8_longer_53 q1762 ?_
  refine J_lsub dX8_longer_56 ?_
  refine J_goto (tgt := 62) dX8_longer_57 rfl ?_
  exact J_lreturn dX8_longer_62 rfl
noncomputable def f_X8_longer (x0 : Int64) (x2 : Int32) (x3 : Int32) (x4 : Int32) : JM Mem Int64 :=
  jlet (((x0 * 32) + ((x2 : Int32).toInt64)) - 96) fun y1 =>
  if x3 ≤ 0 then
    X8_longer_b36 x4 y1
  else
    X8_longer_b36 x4 (((y1 * 32) + ((x3 : Int32).toInt64)) - 96)
theorem j_X8_longer (D : va_G) (dA : Nat → ClassId) (x0 : Int64) (x2 : Int32) (x3 : Int32) (x4 : Int32) : J (PM D dA false) Y_X8_longer [(0, .long x0), (2, .int x2), (3, .int x3), (4, .int x4)] [] 0 (f_X8_longer x0 x2 x3 x4) (FRet injL) := by
  unfold f_X8_longer
  refine J_lload_n dX8_longer_0 rfl 0 rfl ?_
  refine J_ldc2 dX8_longer_1 q1761 ?_
  refine J_lmul dX8_longer_4 ?_
  refine J_iload_n dX8_longer_5 rfl 1 rfl ?_
  refine J_i2l dX8_longer_6 ?_
  refine J_ladd dX8_longer_7 ?_
  refine J_ldc2 dX8_longer_8 q1762 ?_
  refine J_lsub dX8_longer_11 ?_
  refine J_letL (fun y1 => ?_)
  refine J_lstore (env' := [(5, .long y1), (0, .long x0), (2, .int x2), (3, .int x3), (4, .int x4)]) dX8_longer_12 (by decide) rfl ?_
  refine J_iload_n dX8_longer_14 rfl 3 rfl ?_
  refine J_if_le (tgt := 34) dX8_longer_15 rfl ?_ ?_
  · refine J_lload dX8_longer_34 0 rfl ?_
    refine J_sub [4] rfl ?_
    exact j_X8_longer_b36 D dA x4 y1
  refine J_lload dX8_longer_18 0 rfl ?_
  refine J_ldc2 dX8_longer_20 q1761 ?_
  refine J_lmul dX8_longer_23 ?_
  refine J_iload_n dX8_longer_24 rfl 3 rfl ?_
  refine J_i2l dX8_longer_25 ?_
  refine J_ladd dX8_longer_26 ?_
  refine J_ldc2 dX8_longer_27 q1762 ?_
  refine J_lsub dX8_longer_30 ?_
  refine J_goto (tgt := 36) dX8_longer_31 rfl ?_
  refine J_sub [4] rfl ?_
  exact j_X8_longer_b36 D dA x4 (((y1 * 32) + ((x3 : Int32).toInt64)) - 96)
theorem i_X8_longer (x0 : Int64) (x2 : Int32) (x3 : Int32) (x4 : Int32) : Impl (ws_ yX8_longer cX8_longer 7 (some .long)) yX8_longer 1 false 0 0 [.long x0, .int x2, .int x3, .int x4] (f_X8_longer x0 x2 x3 x4) injL := impl_of (plainFor_of_name (by decide)) (Nat.le_of_ble_eq_true rfl) (fun D dA => j_X8_longer D dA x0 x2 x3 x4)
theorem cw_X8_longer (Y : JY) (h : 2 ≤ Y.2.2.2.1) : JCw Y (ws_ yX8_longer cX8_longer 7 (some .long)) yX8_longer cX8_longer 7 (some .long) 1 := ⟨h, by decide, lw_meth q1824, q198, by decide, by decide⟩
theorem np_X8_longer : JNp yX8_longer.desc 4 := by decide +kernel
-- BracketRoomModel.isBracket()Z
abbrev Y_X8_isBracket : JY := (cX8_isBracket, yX8_isBracket.cls, 1, 2, yX8_isBracket.name, (some .boolean), [])
noncomputable def f_X8_isBracket (x0 : Nat) : JM Mem Int32 :=
  jb ((f_X8_spelled 98 114 97 99 107 101)) fun v1 =>
  jb ((f_X8_longer v1 116 0 0)) fun v2 =>
  jb (jcall 7 x0 (f_X8_isWord x0 v2)) fun v3 =>
  jrz v3
theorem j_X8_isBracket (D : va_G) (dA : Nat → ClassId) (x0 : Nat) : J (PM D dA false) Y_X8_isBracket [(0, .ref x0)] [] 0 (f_X8_isBracket x0) (FRet injI) := by
  unfold f_X8_isBracket
  refine J_aload_n dX8_isBracket_0 rfl 0 rfl ?_
  refine J_bipush (v := 98) dX8_isBracket_1 (by decide) ?_
  refine J_bipush (v := 114) dX8_isBracket_3 (by decide) ?_
  refine J_bipush (v := 97) dX8_isBracket_5 (by decide) ?_
  refine J_bipush (v := 99) dX8_isBracket_7 (by decide) ?_
  refine J_bipush (v := 107) dX8_isBracket_9 (by decide) ?_
  refine J_bipush (v := 101) dX8_isBracket_11 (by decide) ?_
  refine J_callSL (host := "") (as := [.int 98, .int 114, .int 97, .int 99, .int 107, .int 101]) dX8_isBracket_13 rfl (Nat.le_of_ble_eq_true rfl) (cw_X8_spelled _ (by decide)) q1774 q1775 q1776 np_X8_spelled (i_X8_spelled 98 114 97 99 107 101) jad_id rfl (fun v1 => ?_)
  refine J_bipush (v := 116) dX8_isBracket_16 (by decide) ?_
  refine J_iconst (v := 0) dX8_isBracket_18 (by decide) ?_
  refine J_iconst (v := 0) dX8_isBracket_19 (by decide) ?_
  refine J_callSL (host := "") (as := [.long v1, .int 116, .int 0, .int 0]) dX8_isBracket_20 rfl (Nat.le_of_ble_eq_true rfl) (cw_X8_longer _ (by decide)) q1822 q1823 q1824 np_X8_longer (i_X8_longer v1 116 0 0) jad_id rfl (fun v2 => ?_)
  refine J_callVI (c := 7) (as := [.long v2]) dX8_isBracket_23 (by decide) rfl (Nat.le_of_ble_eq_true rfl) (cw_X8_isWord _ (by decide)) q1777 q1779 qs73 q1780 np_X8_isWord (i_X8_isWord x0 v2) jad_id rfl (fun v3 => ?_)
  exact J_zreturn dX8_isBracket_26 rfl
theorem i_X8_isBracket (x0 : Nat) : Impl (ws_ yX8_isBracket cX8_isBracket 1 (some .boolean)) yX8_isBracket 2 false 0 0 [.ref x0] (f_X8_isBracket x0) injI := impl_of (plainFor_of_name (by decide)) (Nat.le_of_ble_eq_true rfl) (fun D dA => j_X8_isBracket D dA x0)
theorem cw_X8_isBracket (Y : JY) (h : 3 ≤ Y.2.2.2.1) : JCw Y (ws_ yX8_isBracket cX8_isBracket 1 (some .boolean)) yX8_isBracket cX8_isBracket 1 (some .boolean) 2 := ⟨h, by decide, lw_meth q1821, q198, by decide, by decide⟩
theorem np_X8_isBracket : JNp yX8_isBracket.desc 0 := by decide +kernel
-- BracketRoomModel.cell(III)I
abbrev Y_X8_cell : JY := (cX8_cell, yX8_cell.cls, 3, 1, yX8_cell.name, (some .int), [])
noncomputable def f_X8_cell (x0 : Int32) (x1 : Int32) (x2 : Int32) : JM Mem Int32 :=
  jp (((2 + (25 * x0)) + (5 * x1)) + x2)
theorem j_X8_cell (D : va_G) (dA : Nat → ClassId) (x0 : Int32) (x1 : Int32) (x2 : Int32) : J (PM D dA false) Y_X8_cell [(0, .int x0), (1, .int x1), (2, .int x2)] [] 0 (f_X8_cell x0 x1 x2) (FRet injI) := by
  unfold f_X8_cell
  refine J_iconst (v := 2) dX8_cell_0 (by decide) ?_
  refine J_bipush (v := 25) dX8_cell_1 (by decide) ?_
  refine J_iload_n dX8_cell_3 rfl 0 rfl ?_
  refine J_imul dX8_cell_4 ?_
  refine J_iadd dX8_cell_5 ?_
  refine J_iconst (v := 5) dX8_cell_6 (by decide) ?_
  refine J_iload_n dX8_cell_7 rfl 1 rfl ?_
  refine J_imul dX8_cell_8 ?_
  refine J_iadd dX8_cell_9 ?_
  refine J_iload_n dX8_cell_10 rfl 2 rfl ?_
  refine J_iadd dX8_cell_11 ?_
  exact J_ireturn dX8_cell_12 rfl
theorem i_X8_cell (x0 : Int32) (x1 : Int32) (x2 : Int32) : Impl (ws_ yX8_cell cX8_cell 3 (some .int)) yX8_cell 1 false 0 0 [.int x0, .int x1, .int x2] (f_X8_cell x0 x1 x2) injI := impl_of (plainFor_of_name (by decide)) (Nat.le_of_ble_eq_true rfl) (fun D dA => j_X8_cell D dA x0 x1 x2)
theorem cw_X8_cell (Y : JY) (h : 2 ≤ Y.2.2.2.1) : JCw Y (ws_ yX8_cell cX8_cell 3 (some .int)) yX8_cell cX8_cell 3 (some .int) 1 := ⟨h, by decide, lw_meth q1831, q198, by decide, by decide⟩
theorem np_X8_cell : JNp yX8_cell.desc 3 := by decide +kernel
-- BracketRoomModel.isGives()Z
abbrev Y_X8_isGives : JY := (cX8_isGives, yX8_isGives.cls, 1, 2, yX8_isGives.name, (some .boolean), [])
noncomputable def f_X8_isGives (x0 : Nat) : JM Mem Int32 :=
  jb ((f_X8_spelled 103 105 118 101 115 0)) fun v1 =>
  jb (jcall 7 x0 (f_X8_isWord x0 v1)) fun v2 =>
  jrz v2
theorem j_X8_isGives (D : va_G) (dA : Nat → ClassId) (x0 : Nat) : J (PM D dA false) Y_X8_isGives [(0, .ref x0)] [] 0 (f_X8_isGives x0) (FRet injI) := by
  unfold f_X8_isGives
  refine J_aload_n dX8_isGives_0 rfl 0 rfl ?_
  refine J_bipush (v := 103) dX8_isGives_1 (by decide) ?_
  refine J_bipush (v := 105) dX8_isGives_3 (by decide) ?_
  refine J_bipush (v := 118) dX8_isGives_5 (by decide) ?_
  refine J_bipush (v := 101) dX8_isGives_7 (by decide) ?_
  refine J_bipush (v := 115) dX8_isGives_9 (by decide) ?_
  refine J_iconst (v := 0) dX8_isGives_11 (by decide) ?_
  refine J_callSL (host := "") (as := [.int 103, .int 105, .int 118, .int 101, .int 115, .int 0]) dX8_isGives_12 rfl (Nat.le_of_ble_eq_true rfl) (cw_X8_spelled _ (by decide)) q1774 q1775 q1776 np_X8_spelled (i_X8_spelled 103 105 118 101 115 0) jad_id rfl (fun v1 => ?_)
  refine J_callVI (c := 7) (as := [.long v1]) dX8_isGives_15 (by decide) rfl (Nat.le_of_ble_eq_true rfl) (cw_X8_isWord _ (by decide)) q1777 q1779 qs73 q1780 np_X8_isWord (i_X8_isWord x0 v1) jad_id rfl (fun v2 => ?_)
  exact J_zreturn dX8_isGives_18 rfl
theorem i_X8_isGives (x0 : Nat) : Impl (ws_ yX8_isGives cX8_isGives 1 (some .boolean)) yX8_isGives 2 false 0 0 [.ref x0] (f_X8_isGives x0) injI := impl_of (plainFor_of_name (by decide)) (Nat.le_of_ble_eq_true rfl) (fun D dA => j_X8_isGives D dA x0)
theorem cw_X8_isGives (Y : JY) (h : 3 ≤ Y.2.2.2.1) : JCw Y (ws_ yX8_isGives cX8_isGives 1 (some .boolean)) yX8_isGives cX8_isGives 1 (some .boolean) 2 := ⟨h, by decide, lw_meth q1835, q198, by decide, by decide⟩
theorem np_X8_isGives : JNp yX8_isGives.desc 0 := by decide +kernel
-- BracketRoomModel.isLess()Z
abbrev Y_X8_isLess : JY := (cX8_isLess, yX8_isLess.cls, 1, 2, yX8_isLess.name, (some .boolean), [])
noncomputable def f_X8_isLess (x0 : Nat) : JM Mem Int32 :=
  jb ((f_X8_spelled 108 101 115 115 0 0)) fun v1 =>
  jb (jcall 7 x0 (f_X8_isWord x0 v1)) fun v2 =>
  jrz v2
theorem j_X8_isLess (D : va_G) (dA : Nat → ClassId) (x0 : Nat) : J (PM D dA false) Y_X8_isLess [(0, .ref x0)] [] 0 (f_X8_isLess x0) (FRet injI) := by
  unfold f_X8_isLess
  refine J_aload_n dX8_isLess_0 rfl 0 rfl ?_
  refine J_bipush (v := 108) dX8_isLess_1 (by decide) ?_
  refine J_bipush (v := 101) dX8_isLess_3 (by decide) ?_
  refine J_bipush (v := 115) dX8_isLess_5 (by decide) ?_
  refine J_bipush (v := 115) dX8_isLess_7 (by decide) ?_
  refine J_iconst (v := 0) dX8_isLess_9 (by decide) ?_
  refine J_iconst (v := 0) dX8_isLess_10 (by decide) ?_
  refine J_callSL (host := "") (as := [.int 108, .int 101, .int 115, .int 115, .int 0, .int 0]) dX8_isLess_11 rfl (Nat.le_of_ble_eq_true rfl) (cw_X8_spelled _ (by decide)) q1774 q1775 q1776 np_X8_spelled (i_X8_spelled 108 101 115 115 0 0) jad_id rfl (fun v1 => ?_)
  refine J_callVI (c := 7) (as := [.long v1]) dX8_isLess_14 (by decide) rfl (Nat.le_of_ble_eq_true rfl) (cw_X8_isWord _ (by decide)) q1777 q1779 qs73 q1780 np_X8_isWord (i_X8_isWord x0 v1) jad_id rfl (fun v2 => ?_)
  exact J_zreturn dX8_isLess_17 rfl
theorem i_X8_isLess (x0 : Nat) : Impl (ws_ yX8_isLess cX8_isLess 1 (some .boolean)) yX8_isLess 2 false 0 0 [.ref x0] (f_X8_isLess x0) injI := impl_of (plainFor_of_name (by decide)) (Nat.le_of_ble_eq_true rfl) (fun D dA => j_X8_isLess D dA x0)
theorem cw_X8_isLess (Y : JY) (h : 3 ≤ Y.2.2.2.1) : JCw Y (ws_ yX8_isLess cX8_isLess 1 (some .boolean)) yX8_isLess cX8_isLess 1 (some .boolean) 2 := ⟨h, by decide, lw_meth q1839, q198, by decide, by decide⟩
theorem np_X8_isLess : JNp yX8_isLess.desc 0 := by decide +kernel
-- BracketRoomModel.isOf()Z
abbrev Y_X8_isOf : JY := (cX8_isOf, yX8_isOf.cls, 1, 2, yX8_isOf.name, (some .boolean), [])
noncomputable def f_X8_isOf (x0 : Nat) : JM Mem Int32 :=
  jb ((f_X8_spelled 111 102 0 0 0 0)) fun v1 =>
  jb (jcall 7 x0 (f_X8_isWord x0 v1)) fun v2 =>
  jrz v2
theorem j_X8_isOf (D : va_G) (dA : Nat → ClassId) (x0 : Nat) : J (PM D dA false) Y_X8_isOf [(0, .ref x0)] [] 0 (f_X8_isOf x0) (FRet injI) := by
  unfold f_X8_isOf
  refine J_aload_n dX8_isOf_0 rfl 0 rfl ?_
  refine J_bipush (v := 111) dX8_isOf_1 (by decide) ?_
  refine J_bipush (v := 102) dX8_isOf_3 (by decide) ?_
  refine J_iconst (v := 0) dX8_isOf_5 (by decide) ?_
  refine J_iconst (v := 0) dX8_isOf_6 (by decide) ?_
  refine J_iconst (v := 0) dX8_isOf_7 (by decide) ?_
  refine J_iconst (v := 0) dX8_isOf_8 (by decide) ?_
  refine J_callSL (host := "") (as := [.int 111, .int 102, .int 0, .int 0, .int 0, .int 0]) dX8_isOf_9 rfl (Nat.le_of_ble_eq_true rfl) (cw_X8_spelled _ (by decide)) q1774 q1775 q1776 np_X8_spelled (i_X8_spelled 111 102 0 0 0 0) jad_id rfl (fun v1 => ?_)
  refine J_callVI (c := 7) (as := [.long v1]) dX8_isOf_12 (by decide) rfl (Nat.le_of_ble_eq_true rfl) (cw_X8_isWord _ (by decide)) q1777 q1779 qs73 q1780 np_X8_isWord (i_X8_isWord x0 v1) jad_id rfl (fun v2 => ?_)
  exact J_zreturn dX8_isOf_15 rfl
theorem i_X8_isOf (x0 : Nat) : Impl (ws_ yX8_isOf cX8_isOf 1 (some .boolean)) yX8_isOf 2 false 0 0 [.ref x0] (f_X8_isOf x0) injI := impl_of (plainFor_of_name (by decide)) (Nat.le_of_ble_eq_true rfl) (fun D dA => j_X8_isOf D dA x0)
theorem cw_X8_isOf (Y : JY) (h : 3 ≤ Y.2.2.2.1) : JCw Y (ws_ yX8_isOf cX8_isOf 1 (some .boolean)) yX8_isOf cX8_isOf 1 (some .boolean) 2 := ⟨h, by decide, lw_meth q1843, q198, by decide, by decide⟩
theorem np_X8_isOf : JNp yX8_isOf.desc 0 := by decide +kernel
-- BracketRoomModel.left(II)I
abbrev Y_X8_left : JY := (cX8_left, yX8_left.cls, 2, 1, yX8_left.name, (some .int), [])
noncomputable def f_X8_left (x0 : Int32) (x1 : Int32) : JM Mem Int32 :=
  jb (jrem x0 x1) fun v1 =>
  jb (jrem (v1 + x1) x1) fun v2 =>
  jp v2
theorem j_X8_left (D : va_G) (dA : Nat → ClassId) (x0 : Int32) (x1 : Int32) : J (PM D dA false) Y_X8_left [(0, .int x0), (1, .int x1)] [] 0 (f_X8_left x0 x1) (FRet injI) := by
  unfold f_X8_left
  refine J_iload_n dX8_left_0 rfl 0 rfl ?_
  refine J_iload_n dX8_left_1 rfl 1 rfl ?_
  refine J_irem dX8_left_2 (fun v1 => ?_)
  refine J_iload_n dX8_left_3 rfl 1 rfl ?_
  refine J_iadd dX8_left_4 ?_
  refine J_iload_n dX8_left_5 rfl 1 rfl ?_
  refine J_irem dX8_left_6 (fun v2 => ?_)
  exact J_ireturn dX8_left_7 rfl
theorem i_X8_left (x0 : Int32) (x1 : Int32) : Impl (ws_ yX8_left cX8_left 2 (some .int)) yX8_left 1 false 0 0 [.int x0, .int x1] (f_X8_left x0 x1) injI := impl_of (plainFor_of_name (by decide)) (Nat.le_of_ble_eq_true rfl) (fun D dA => j_X8_left D dA x0 x1)
theorem cw_X8_left (Y : JY) (h : 2 ≤ Y.2.2.2.1) : JCw Y (ws_ yX8_left cX8_left 2 (some .int)) yX8_left cX8_left 2 (some .int) 1 := ⟨h, by decide, lw_meth q1849, q198, by decide, by decide⟩
theorem np_X8_left : JNp yX8_left.desc 2 := by decide +kernel
-- BracketRoomModel.set([IIIIII)V
abbrev Y_X8_set : JY := (cX8_set, yX8_set.cls, 7, 2, yX8_set.name, none, [])
noncomputable def f_X8_set (x0 : Nat) (x1 : Int32) (x2 : Int32) (x3 : Int32) (x4 : Int32) (x5 : Int32) : JM Mem Unit :=
  jb (jald mI 0 x0 x1) fun v1 =>
  jb ((f_X8_cell x2 x3 x4)) fun v2 =>
  jb ((f_X8_left x5 v1)) fun v3 =>
  jb (jast_i x0 (x1 + v2) v3) fun _ =>
  jb ((f_X8_cell x3 x2 x4)) fun v4 =>
  jb ((f_X8_left (-x5) v1)) fun v5 =>
  jb (jast_i x0 (x1 + v4) v5) fun _ =>
  jp ()
theorem j_X8_set (D : va_G) (dA : Nat → ClassId) (x0 : Nat) (x1 : Int32) (x2 : Int32) (x3 : Int32) (x4 : Int32) (x5 : Int32) : J (PM D dA false) Y_X8_set [(0, .ref x0), (1, .int x1), (2, .int x2), (3, .int x3), (4, .int x4), (5, .int x5)] [] 0 (f_X8_set x0 x1 x2 x3 x4 x5) (FRet injU) := by
  unfold f_X8_set
  refine J_aload_n dX8_set_0 rfl 0 rfl ?_
  refine J_iload_n dX8_set_1 rfl 1 rfl ?_
  refine J_iald dX8_set_2 (fun v1 => ?_)
  refine J_istore (env' := [(6, .int v1), (0, .ref x0), (1, .int x1), (2, .int x2), (3, .int x3), (4, .int x4), (5, .int x5)]) dX8_set_3 (by decide) rfl ?_
  refine J_aload_n dX8_set_5 rfl 1 rfl ?_
  refine J_iload_n dX8_set_6 rfl 2 rfl ?_
  refine J_iload_n dX8_set_7 rfl 3 rfl ?_
  refine J_iload_n dX8_set_8 rfl 4 rfl ?_
  refine J_iload dX8_set_9 5 rfl ?_
  refine J_callSI (host := "") (as := [.int x2, .int x3, .int x4]) dX8_set_11 rfl (Nat.le_of_ble_eq_true rfl) (cw_X8_cell _ (by decide)) q1829 q1830 q1831 np_X8_cell (i_X8_cell x2 x3 x4) jad_id rfl (fun v2 => ?_)
  refine J_iadd dX8_set_14 ?_
  refine J_iload dX8_set_15 6 rfl ?_
  refine J_iload dX8_set_17 0 rfl ?_
  refine J_callSI (host := "") (as := [.int x5, .int v1]) dX8_set_19 rfl (Nat.le_of_ble_eq_true rfl) (cw_X8_left _ (by decide)) q1847 q1848 q1849 np_X8_left (i_X8_left x5 v1) jad_id rfl (fun v3 => ?_)
  refine J_iast dX8_set_22 ?_
  refine J_aload_n dX8_set_23 rfl 1 rfl ?_
  refine J_iload_n dX8_set_24 rfl 2 rfl ?_
  refine J_iload_n dX8_set_25 rfl 4 rfl ?_
  refine J_iload_n dX8_set_26 rfl 3 rfl ?_
  refine J_iload dX8_set_27 5 rfl ?_
  refine J_callSI (host := "") (as := [.int x3, .int x2, .int x4]) dX8_set_29 rfl (Nat.le_of_ble_eq_true rfl) (cw_X8_cell _ (by decide)) q1829 q1830 q1831 np_X8_cell (i_X8_cell x3 x2 x4) jad_id rfl (fun v4 => ?_)
  refine J_iadd dX8_set_32 ?_
  refine J_iload dX8_set_33 6 rfl ?_
  refine J_ineg dX8_set_35 ?_
  refine J_iload dX8_set_36 0 rfl ?_
  refine J_callSI (host := "") (as := [.int (-x5), .int v1]) dX8_set_38 rfl (Nat.le_of_ble_eq_true rfl) (cw_X8_left _ (by decide)) q1847 q1848 q1849 np_X8_left (i_X8_left (-x5) v1) jad_id rfl (fun v5 => ?_)
  refine J_iast dX8_set_41 ?_
  exact J_return dX8_set_42 rfl
theorem i_X8_set (x0 : Nat) (x1 : Int32) (x2 : Int32) (x3 : Int32) (x4 : Int32) (x5 : Int32) : Impl (ws_ yX8_set cX8_set 7 none) yX8_set 2 false 0 0 [.ref x0, .int x1, .int x2, .int x3, .int x4, .int x5] (f_X8_set x0 x1 x2 x3 x4 x5) injU := impl_of (plainFor_of_name (by decide)) (Nat.le_of_ble_eq_true rfl) (fun D dA => j_X8_set D dA x0 x1 x2 x3 x4 x5)
theorem cw_X8_set (Y : JY) (h : 3 ≤ Y.2.2.2.1) : JCw Y (ws_ yX8_set cX8_set 7 none) yX8_set cX8_set 7 none 2 := ⟨h, by decide, lw_meth q1846, q198, by decide, by decide⟩
theorem np_X8_set : JNp yX8_set.desc 6 := by decide +kernel
-- BracketRoomModel.readBracket()V
abbrev Y_X8_readBracket : JY := (cX8_readBracket, yX8_readBracket.cls, 11, 4, yX8_readBracket.name, none, [])
noncomputable def X8_readBracket_b257 (x0 : Nat) (x1 : Int32) (x2 : Int32) (x4 : Int32) (x5 : Int32) (s0 : Int32) : JM Mem (Unit ⊕ (Int32 × Int32)) :=
  jcont (x5, s0)
theorem j_X8_readBracket_b257 (D : va_G) (dA : Nat → ClassId) (x0 : Nat) (x1 : Int32) (x2 : Int32) (x4 : Int32) (x5 : Int32) (s0 : Int32) : J (PM D dA false) Y_X8_readBracket [(0, .ref x0), (1, .int x1), (2, .int x2), (4, .int x4), (5, .int x5)] [.int s0] 257 (X8_readBracket_b257 x0 x1 x2 x4 x5 s0) (FLoop (FRet injU) 103 (fun (t : Int32 × Int32) => [(0, .ref x0), (1, .int x1), (2, .int x2), (4, .int x4), (5, .int t.1), (6, .int t.2)])) := by
  unfold X8_readBracket_b257
  refine J_istore (env' := [(6, .int s0), (0, .ref x0), (1, .int x1), (2, .int x2), (4, .int x4), (5, .int x5)]) dX8_readBracket_257 (by decide) rfl ?_
  refine J_goto (tgt := 103) dX8_readBracket_259 rfl ?_
  exact J_cont [1, 2, 3, 4, 5, 0] rfl
noncomputable def X8_readBracket_b252 (x0 : Nat) (x1 : Int32) (x2 : Int32) (x4 : Int32) (x5 : Int32) : JM Mem (Unit ⊕ (Int32 × Int32)) :=
  X8_readBracket_b257 x0 x1 x2 x4 x5 1
theorem j_X8_readBracket_b252 (D : va_G) (dA : Nat → ClassId) (x0 : Nat) (x1 : Int32) (x2 : Int32) (x4 : Int32) (x5 : Int32) : J (PM D dA false) Y_X8_readBracket [(0, .ref x0), (1, .int x1), (2, .int x2), (4, .int x4), (5, .int x5)] [] 252 (X8_readBracket_b252 x0 x1 x2 x4 x5) (FLoop (FRet injU) 103 (fun (t : Int32 × Int32) => [(0, .ref x0), (1, .int x1), (2, .int x2), (4, .int x4), (5, .int t.1), (6, .int t.2)])) := by
  unfold X8_readBracket_b252
  refine J_iconst (v := 1) dX8_readBracket_252 (by decide) ?_
  refine J_goto (tgt := 257) dX8_readBracket_253 rfl ?_
  refine J_sub [0, 1, 2, 3, 4] rfl ?_
  exact j_X8_readBracket_b257 D dA x0 x1 x2 x4 x5 1
noncomputable def X8_readBracket_b234 (x0 : Nat) (x1 : Int32) (x2 : Int32) (x4 : Int32) (x5 : Int32) (s0 : Nat) (s1 : Int32) (s2 : Int32) (s3 : Int32) (s4 : Int32) (s5 : Int32) : JM Mem (Unit ⊕ (Int32 × Int32)) :=
  jb ((f_X8_set s0 s1 s2 s3 s4 s5)) fun _ =>
  jb (jcall 7 x0 (f_X8_isLess x0)) fun v23 =>
  if v23 = 0 then
    jb (jgetI 7 14 x0) fun v24 =>
    if v24 = 2 then
      X8_readBracket_b252 x0 x1 x2 x4 x5
    else
      X8_readBracket_b257 x0 x1 x2 x4 x5 0
  else
    X8_readBracket_b252 x0 x1 x2 x4 x5
theorem j_X8_readBracket_b234 (D : va_G) (dA : Nat → ClassId) (x0 : Nat) (x1 : Int32) (x2 : Int32) (x4 : Int32) (x5 : Int32) (s0 : Nat) (s1 : Int32) (s2 : Int32) (s3 : Int32) (s4 : Int32) (s5 : Int32) : J (PM D dA false) Y_X8_readBracket [(0, .ref x0), (1, .int x1), (2, .int x2), (4, .int x4), (5, .int x5)] [.int s5, .int s4, .int s3, .int s2, .int s1, .ref s0] 234 (X8_readBracket_b234 x0 x1 x2 x4 x5 s0 s1 s2 s3 s4 s5) (FLoop (FRet injU) 103 (fun (t : Int32 × Int32) => [(0, .ref x0), (1, .int x1), (2, .int x2), (4, .int x4), (5, .int t.1), (6, .int t.2)])) := by
  unfold X8_readBracket_b234
  refine J_callSV (host := "") (as := [.ref s0, .int s1, .int s2, .int s3, .int s4, .int s5]) dX8_readBracket_234 rfl (Nat.le_of_ble_eq_true rfl) (cw_X8_set _ (by decide)) q1844 q1845 q1846 np_X8_set (i_X8_set s0 s1 s2 s3 s4 s5) jad_id rfl ?_
  refine J_aload_n dX8_readBracket_237 rfl 0 rfl ?_
  refine J_callVI (c := 7) (as := []) dX8_readBracket_238 (by decide) rfl (Nat.le_of_ble_eq_true rfl) (cw_X8_isLess _ (by decide)) q1836 q1838 qs84 q1839 np_X8_isLess (i_X8_isLess x0) jad_id rfl (fun v23 => ?_)
  refine J_if_ne (tgt := 252) dX8_readBracket_241 rfl ?_ ?_
  · refine J_sub [0, 1, 2, 3, 4] rfl ?_
    exact j_X8_readBracket_b252 D dA x0 x1 x2 x4 x5
  refine J_aload_n dX8_readBracket_244 rfl 0 rfl ?_
  refine J_getI dX8_readBracket_245 fl_X8_183 rfl (fun v24 => ?_)
  refine J_iconst (v := 2) dX8_readBracket_248 (by decide) ?_
  refine J_icmp_ne (tgt := 256) dX8_readBracket_249 rfl ?_ ?_
  · refine J_iconst (v := 0) dX8_readBracket_256 (by decide) ?_
    refine J_sub [0, 1, 2, 3, 4] rfl ?_
    exact j_X8_readBracket_b257 D dA x0 x1 x2 x4 x5 0
  refine J_sub [0, 1, 2, 3, 4] rfl ?_
  exact j_X8_readBracket_b252 D dA x0 x1 x2 x4 x5
noncomputable def X8_readBracket_b194 (x0 : Nat) (x1 : Int32) (x2 : Int32) (x4 : Int32) (x5 : Int32) (x7 : Int32) (x8 : Int32) (x10 : Int32) : JM Mem (Unit ⊕ (Int32 × Int32)) :=
  jb (jgetI 7 12 x0) fun v20 =>
  if v20 ≤ 0 then
    jlet (x5 ||| ((1 : Int32) <<< (x10 &&& 31))) fun y21 =>
    jb (jgetA 7 20 x0) fun v22 =>
    if x7 = 0 then
      X8_readBracket_b234 x0 x1 x2 x4 y21 v22 0 x2 x4 x10 x8
    else
      X8_readBracket_b234 x0 x1 x2 x4 y21 v22 0 x2 x4 x10 (-x8)
  else
    jinl (jp ())
theorem j_X8_readBracket_b194 (D : va_G) (dA : Nat → ClassId) (x0 : Nat) (x1 : Int32) (x2 : Int32) (x4 : Int32) (x5 : Int32) (x7 : Int32) (x8 : Int32) (x10 : Int32) : J (PM D dA false) Y_X8_readBracket [(0, .ref x0), (1, .int x1), (2, .int x2), (4, .int x4), (5, .int x5), (7, .int x7), (8, .int x8), (10, .int x10)] [] 194 (X8_readBracket_b194 x0 x1 x2 x4 x5 x7 x8 x10) (FLoop (FRet injU) 103 (fun (t : Int32 × Int32) => [(0, .ref x0), (1, .int x1), (2, .int x2), (4, .int x4), (5, .int t.1), (6, .int t.2)])) := by
  unfold X8_readBracket_b194
  refine J_aload_n dX8_readBracket_194 rfl 0 rfl ?_
  refine J_getI dX8_readBracket_195 fl_X8_221 rfl (fun v20 => ?_)
  refine J_if_le (tgt := 202) dX8_readBracket_198 rfl ?_ ?_
  · refine J_iload dX8_readBracket_202 4 rfl ?_
    refine J_iconst (v := 1) dX8_readBracket_204 (by decide) ?_
    refine J_iload dX8_readBracket_205 7 rfl ?_
    refine J_ishl dX8_readBracket_207 ?_
    refine J_ior dX8_readBracket_208 ?_
    refine J_letI (fun y21 => ?_)
    refine J_istore (env' := [(5, .int y21), (0, .ref x0), (1, .int x1), (2, .int x2), (4, .int x4), (7, .int x7), (8, .int x8), (10, .int x10)]) dX8_readBracket_209 (by decide) rfl ?_
    refine J_aload_n dX8_readBracket_211 rfl 1 rfl ?_
    refine J_getA dX8_readBracket_212 fl_X8_38 rfl (fun v22 => ?_)
    refine J_iconst (v := 0) dX8_readBracket_215 (by decide) ?_
    refine J_iload_n dX8_readBracket_216 rfl 3 rfl ?_
    refine J_iload dX8_readBracket_217 4 rfl ?_
    refine J_iload dX8_readBracket_219 7 rfl ?_
    refine J_iload dX8_readBracket_221 5 rfl ?_
    refine J_if_eq (tgt := 232) dX8_readBracket_223 rfl ?_ ?_
    · refine J_iload dX8_readBracket_232 6 rfl ?_
      refine J_sub [1, 2, 3, 4, 0] rfl ?_
      exact j_X8_readBracket_b234 D dA x0 x1 x2 x4 y21 v22 0 x2 x4 x10 x8
    refine J_iload dX8_readBracket_226 6 rfl ?_
    refine J_ineg dX8_readBracket_228 ?_
    refine J_goto (tgt := 234) dX8_readBracket_229 rfl ?_
    refine J_sub [1, 2, 3, 4, 0] rfl ?_
    exact j_X8_readBracket_b234 D dA x0 x1 x2 x4 y21 v22 0 x2 x4 x10 (-x8)
  refine J_inl ?_
  exact J_return dX8_readBracket_201 rfl
noncomputable def X8_readBracket_b130 (x0 : Nat) (x1 : Int32) (x2 : Int32) (x4 : Int32) (x5 : Int32) (x7 : Int32) : JM Mem (Unit ⊕ (Int32 × Int32)) :=
  jb (jgetA 7 20 x0) fun v13 =>
  jb (jald mI 0 v13 0) fun v14 =>
  jb (jcall 7 x0 (f_X8_count x0 1 (v14 - 1))) fun v15 =>
  jb (jcall 7 x0 (f_X8_isOf x0)) fun v16 =>
  jb (jcall 7 x0 (f_X8_must x0 v16)) fun _ =>
  jb (jgetI 7 15 x0) fun v17 =>
  jb (jcall 7 x0 (f_X8_count x0 0 (x1 - 1))) fun v18 =>
  jb (jgetI 7 12 x0) fun v19 =>
  if v19 = 0 then
    if (x5 >>> (v18 &&& 31)) &&& 1 = 1 then
      jb (jcall 7 x0 (f_X8_fail x0 5 v17)) fun _ =>
      X8_readBracket_b194 x0 x1 x2 x4 x5 x7 v15 v18
    else
      X8_readBracket_b194 x0 x1 x2 x4 x5 x7 v15 v18
  else
    X8_readBracket_b194 x0 x1 x2 x4 x5 x7 v15 v18
theorem j_X8_readBracket_b130 (D : va_G) (dA : Nat → ClassId) (x0 : Nat) (x1 : Int32) (x2 : Int32) (x4 : Int32) (x5 : Int32) (x7 : Int32) : J (PM D dA false) Y_X8_readBracket [(0, .ref x0), (1, .int x1), (2, .int x2), (4, .int x4), (5, .int x5), (7, .int x7)] [] 130 (X8_readBracket_b130 x0 x1 x2 x4 x5 x7) (FLoop (FRet injU) 103 (fun (t : Int32 × Int32) => [(0, .ref x0), (1, .int x1), (2, .int x2), (4, .int x4), (5, .int t.1), (6, .int t.2)])) := by
  unfold X8_readBracket_b130
  refine J_aload_n dX8_readBracket_130 rfl 0 rfl ?_
  refine J_iconst (v := 1) dX8_readBracket_131 (by decide) ?_
  refine J_aload_n dX8_readBracket_132 rfl 0 rfl ?_
  refine J_getA dX8_readBracket_133 fl_X8_38 rfl (fun v13 => ?_)
  refine J_iconst (v := 0) dX8_readBracket_136 (by decide) ?_
  refine J_iald dX8_readBracket_137 (fun v14 => ?_)
  refine J_iconst (v := 1) dX8_readBracket_138 (by decide) ?_
  refine J_isub dX8_readBracket_139 ?_
  refine J_callVI (c := 7) (as := [.int 1, .int (v14 - 1)]) dX8_readBracket_140 (by decide) rfl (Nat.le_of_ble_eq_true rfl) (cw_X8_count _ (by decide)) q1797 q1799 qs78 q1800 np_X8_count (i_X8_count x0 1 (v14 - 1)) jad_id rfl (fun v15 => ?_)
  refine J_istore (env' := [(8, .int v15), (0, .ref x0), (1, .int x1), (2, .int x2), (4, .int x4), (5, .int x5), (7, .int x7)]) dX8_readBracket_143 (by decide) rfl ?_
  refine J_aload_n dX8_readBracket_145 rfl 1 rfl ?_
  refine J_aload_n dX8_readBracket_146 rfl 1 rfl ?_
  refine J_callVI (c := 7) (as := []) dX8_readBracket_147 (by decide) rfl (Nat.le_of_ble_eq_true rfl) (cw_X8_isOf _ (by decide)) q1840 q1842 qs85 q1843 np_X8_isOf (i_X8_isOf x0) jad_id rfl (fun v16 => ?_)
  refine J_callVV (c := 7) (as := [.int v16]) dX8_readBracket_150 (by decide) rfl (Nat.le_of_ble_eq_true rfl) (cw_X8_must _ (by decide)) q1781 q1783 qs74 q1784 np_X8_must (i_X8_must x0 v16) jad_id rfl ?_
  refine J_aload_n dX8_readBracket_153 rfl 1 rfl ?_
  refine J_getI dX8_readBracket_154 fl_X8_177 rfl (fun v17 => ?_)
  refine J_istore (env' := [(9, .int v17), (8, .int v15), (0, .ref x0), (1, .int x1), (2, .int x2), (4, .int x4), (5, .int x5), (7, .int x7)]) dX8_readBracket_157 (by decide) rfl ?_
  refine J_aload_n dX8_readBracket_159 rfl 2 rfl ?_
  refine J_iconst (v := 0) dX8_readBracket_160 (by decide) ?_
  refine J_iload_n dX8_readBracket_161 rfl 3 rfl ?_
  refine J_iconst (v := 1) dX8_readBracket_162 (by decide) ?_
  refine J_isub dX8_readBracket_163 ?_
  refine J_callVI (c := 7) (as := [.int 0, .int (x1 - 1)]) dX8_readBracket_164 (by decide) rfl (Nat.le_of_ble_eq_true rfl) (cw_X8_count _ (by decide)) q1797 q1799 qs78 q1800 np_X8_count (i_X8_count x0 0 (x1 - 1)) jad_id rfl (fun v18 => ?_)
  refine J_istore (env' := [(10, .int v18), (9, .int v17), (8, .int v15), (0, .ref x0), (1, .int x1), (2, .int x2), (4, .int x4), (5, .int x5), (7, .int x7)]) dX8_readBracket_167 (by decide) rfl ?_
  refine J_aload_n dX8_readBracket_169 rfl 3 rfl ?_
  refine J_getI dX8_readBracket_170 fl_X8_221 rfl (fun v19 => ?_)
  refine J_if_ne (tgt := 194) dX8_readBracket_173 rfl ?_ ?_
  · refine J_sub [3, 4, 5, 6, 7, 8, 2, 0] rfl ?_
    exact j_X8_readBracket_b194 D dA x0 x1 x2 x4 x5 x7 v15 v18
  refine J_iload dX8_readBracket_176 7 rfl ?_
  refine J_iload dX8_readBracket_178 0 rfl ?_
  refine J_ishr dX8_readBracket_180 ?_
  refine J_iconst (v := 1) dX8_readBracket_181 (by decide) ?_
  refine J_iand dX8_readBracket_182 ?_
  refine J_iconst (v := 1) dX8_readBracket_183 (by decide) ?_
  refine J_icmp_ne (tgt := 194) dX8_readBracket_184 rfl ?_ ?_
  · refine J_sub [3, 4, 5, 6, 7, 8, 2, 0] rfl ?_
    exact j_X8_readBracket_b194 D dA x0 x1 x2 x4 x5 x7 v15 v18
  refine J_aload_n dX8_readBracket_187 rfl 3 rfl ?_
  refine J_iconst (v := 5) dX8_readBracket_188 (by decide) ?_
  refine J_iload dX8_readBracket_189 1 rfl ?_
  refine J_callVV (c := 7) (as := [.int 5, .int v17]) dX8_readBracket_191 (by decide) rfl (Nat.le_of_ble_eq_true rfl) (cw_X8_fail _ (by decide)) q1789 q1791 qs76 q1792 np_X8_fail (i_X8_fail x0 5 v17) jad_id rfl ?_
  refine J_sub [3, 4, 5, 6, 7, 8, 2, 0] rfl ?_
  exact j_X8_readBracket_b194 D dA x0 x1 x2 x4 x5 x7 v15 v18
noncomputable def X8_readBracket_L103 (x0 : Nat) (x1 : Int32) (x2 : Int32) (x4 : Int32) (x5 : Int32) (x6 : Int32) : JM Mem (Unit ⊕ (Int32 × Int32)) :=
  if x6 = 0 then
    jinl (jp ())
  else
  jb (jgetI 7 12 x0) fun v11 =>
  if v11 = 0 then
    jb (jcall 7 x0 (f_X8_isLess x0)) fun v12 =>
    if v12 = 0 then
      X8_readBracket_b130 x0 x1 x2 x4 x5 v12
    else
    jb (jcall 7 x0 (f_X8_next x0)) fun _ =>
    X8_readBracket_b130 x0 x1 x2 x4 x5 v12
  else
    jinl (jp ())
theorem j_X8_readBracket_L103 (D : va_G) (dA : Nat → ClassId) (x0 : Nat) (x1 : Int32) (x2 : Int32) (x4 : Int32) (x5 : Int32) (x6 : Int32) : J (PM D dA false) Y_X8_readBracket [(0, .ref x0), (1, .int x1), (2, .int x2), (4, .int x4), (5, .int x5), (6, .int x6)] [] 103 (X8_readBracket_L103 x0 x1 x2 x4 x5 x6) (FLoop (FRet injU) 103 (fun (t : Int32 × Int32) => [(0, .ref x0), (1, .int x1), (2, .int x2), (4, .int x4), (5, .int t.1), (6, .int t.2)])) := by
  unfold X8_readBracket_L103
  refine J_iload dX8_readBracket_103 5 rfl ?_
  refine J_if_eq (tgt := 262) dX8_readBracket_105 rfl ?_ ?_
  · refine J_inl ?_
    exact J_return dX8_readBracket_262 rfl
  refine J_aload_n dX8_readBracket_108 rfl 0 rfl ?_
  refine J_getI dX8_readBracket_109 fl_X8_221 rfl (fun v11 => ?_)
  refine J_if_ne (tgt := 262) dX8_readBracket_112 rfl ?_ ?_
  · refine J_inl ?_
    exact J_return dX8_readBracket_262 rfl
  refine J_aload_n dX8_readBracket_115 rfl 0 rfl ?_
  refine J_callVI (c := 7) (as := []) dX8_readBracket_116 (by decide) rfl (Nat.le_of_ble_eq_true rfl) (cw_X8_isLess _ (by decide)) q1836 q1838 qs84 q1839 np_X8_isLess (i_X8_isLess x0) jad_id rfl (fun v12 => ?_)
  refine J_istore (env' := [(7, .int v12), (0, .ref x0), (1, .int x1), (2, .int x2), (4, .int x4), (5, .int x5), (6, .int x6)]) dX8_readBracket_119 (by decide) rfl ?_
  refine J_iload dX8_readBracket_121 0 rfl ?_
  refine J_if_eq (tgt := 130) dX8_readBracket_123 rfl ?_ ?_
  · refine J_sub [1, 2, 3, 4, 5, 0] rfl ?_
    exact j_X8_readBracket_b130 D dA x0 x1 x2 x4 x5 v12
  refine J_aload_n dX8_readBracket_126 rfl 1 rfl ?_
  refine J_callVV (c := 7) (as := []) dX8_readBracket_127 (by decide) rfl (Nat.le_of_ble_eq_true rfl) (cw_X8_next _ (by decide)) q1750 q1752 qs69 q1753 np_X8_next (i_X8_next x0) jad_id rfl ?_
  refine J_sub [1, 2, 3, 4, 5, 0] rfl ?_
  exact j_X8_readBracket_b130 D dA x0 x1 x2 x4 x5 v12
noncomputable def X8_readBracket_b67 (x0 : Nat) (x1 : Int32) (x2 : Int32) (x4 : Int32) : JM Mem Unit :=
  jb (jgetI 7 12 x0) fun v7 =>
  if v7 ≤ 0 then
    jb (jgetA 7 20 x0) fun v8 =>
    jb ((f_X8_cell x4 x4 x2)) fun v9 =>
    jb (jast_i v8 v9 1) fun _ =>
    jb (jcall 7 x0 (f_X8_isGives x0)) fun v10 =>
    jb (jcall 7 x0 (f_X8_must x0 v10)) fun _ =>
    jloop (fun (t : Int32 × Int32) => X8_readBracket_L103 x0 x1 x2 x4 t.1 t.2) (0, 1)
  else
    jp ()
theorem j_X8_readBracket_b67 (D : va_G) (dA : Nat → ClassId) (x0 : Nat) (x1 : Int32) (x2 : Int32) (x4 : Int32) : J (PM D dA false) Y_X8_readBracket [(0, .ref x0), (1, .int x1), (2, .int x2), (4, .int x4)] [] 67 (X8_readBracket_b67 x0 x1 x2 x4) (FRet injU) := by
  unfold X8_readBracket_b67
  refine J_aload_n dX8_readBracket_67 rfl 0 rfl ?_
  refine J_getI dX8_readBracket_68 fl_X8_221 rfl (fun v7 => ?_)
  refine J_if_le (tgt := 75) dX8_readBracket_71 rfl ?_ ?_
  · refine J_aload_n dX8_readBracket_75 rfl 0 rfl ?_
    refine J_getA dX8_readBracket_76 fl_X8_38 rfl (fun v8 => ?_)
    refine J_iload dX8_readBracket_79 3 rfl ?_
    refine J_iload dX8_readBracket_81 3 rfl ?_
    refine J_iload_n dX8_readBracket_83 rfl 2 rfl ?_
    refine J_callSI (host := "") (as := [.int x4, .int x4, .int x2]) dX8_readBracket_84 rfl (Nat.le_of_ble_eq_true rfl) (cw_X8_cell _ (by decide)) q1829 q1830 q1831 np_X8_cell (i_X8_cell x4 x4 x2) jad_id rfl (fun v9 => ?_)
    refine J_iconst (v := 1) dX8_readBracket_87 (by decide) ?_
    refine J_iast dX8_readBracket_88 ?_
    refine J_aload_n dX8_readBracket_89 rfl 0 rfl ?_
    refine J_aload_n dX8_readBracket_90 rfl 0 rfl ?_
    refine J_callVI (c := 7) (as := []) dX8_readBracket_91 (by decide) rfl (Nat.le_of_ble_eq_true rfl) (cw_X8_isGives _ (by decide)) q1832 q1834 qs83 q1835 np_X8_isGives (i_X8_isGives x0) jad_id rfl (fun v10 => ?_)
    refine J_callVV (c := 7) (as := [.int v10]) dX8_readBracket_94 (by decide) rfl (Nat.le_of_ble_eq_true rfl) (cw_X8_must _ (by decide)) q1781 q1783 qs74 q1784 np_X8_must (i_X8_must x0 v10) jad_id rfl ?_
    refine J_iconst (v := 0) dX8_readBracket_97 (by decide) ?_
    refine J_istore (env' := [(5, .int 0), (0, .ref x0), (1, .int x1), (2, .int x2), (4, .int x4)]) dX8_readBracket_98 (by decide) rfl ?_
    refine J_iconst (v := 1) dX8_readBracket_100 (by decide) ?_
    refine J_istore (env' := [(6, .int 1), (5, .int 0), (0, .ref x0), (1, .int x1), (2, .int x2), (4, .int x4)]) dX8_readBracket_101 (by decide) rfl ?_
    refine J_loop (he := fun (t : Int32 × Int32) => [(0, .ref x0), (1, .int x1), (2, .int x2), (4, .int x4), (5, .int t.1), (6, .int t.2)]) [2, 3, 4, 5, 1, 0] rfl (fun t => ?_)
    exact j_X8_readBracket_L103 D dA x0 x1 x2 x4 t.1 t.2
  exact J_return dX8_readBracket_74 rfl
noncomputable def f_X8_readBracket (x0 : Nat) : JM Mem Unit :=
  jb (jcall 7 x0 (f_X8_next x0)) fun _ =>
  jb (jgetA 7 20 x0) fun v1 =>
  jb (jald mI 0 v1 1) fun v2 =>
  jb (jcall 7 x0 (f_X8_count x0 0 (v2 - 1))) fun v3 =>
  jb (jgetI 7 15 x0) fun v4 =>
  jb (jcall 7 x0 (f_X8_count x0 (v3 + 1) (v2 - 1))) fun v5 =>
  jb (jgetI 7 12 x0) fun v6 =>
  if v6 = 0 then
    jb (jgetA 7 20 x0) fun v25 =>
    jb ((f_X8_cell v5 v5 v3)) fun v26 =>
    jb (jald mI 0 v25 v26) fun v27 =>
    if v27 = 1 then
      jb (jcall 7 x0 (f_X8_fail x0 5 v4)) fun _ =>
      X8_readBracket_b67 x0 v2 v3 v5
    else
      X8_readBracket_b67 x0 v2 v3 v5
  else
    X8_readBracket_b67 x0 v2 v3 v5
theorem j_X8_readBracket (D : va_G) (dA : Nat → ClassId) (x0 : Nat) : J (PM D dA false) Y_X8_readBracket [(0, .ref x0)] [] 0 (f_X8_readBracket x0) (FRet injU) := by
  unfold f_X8_readBracket
  refine J_aload_n dX8_readBracket_0 rfl 0 rfl ?_
  refine J_callVV (c := 7) (as := []) dX8_readBracket_1 (by decide) rfl (Nat.le_of_ble_eq_true rfl) (cw_X8_next _ (by decide)) q1750 q1752 qs69 q1753 np_X8_next (i_X8_next x0) jad_id rfl ?_
  refine J_aload_n dX8_readBracket_4 rfl 0 rfl ?_
  refine J_getA dX8_readBracket_5 fl_X8_38 rfl (fun v1 => ?_)
  refine J_iconst (v := 1) dX8_readBracket_8 (by decide) ?_
  refine J_iald dX8_readBracket_9 (fun v2 => ?_)
  refine J_istore_n (env' := [(1, .int v2), (0, .ref x0)]) dX8_readBracket_10 rfl (by decide) rfl ?_
  refine J_aload_n dX8_readBracket_11 rfl 1 rfl ?_
  refine J_iconst (v := 0) dX8_readBracket_12 (by decide) ?_
  refine J_iload_n dX8_readBracket_13 rfl 0 rfl ?_
  refine J_iconst (v := 1) dX8_readBracket_14 (by decide) ?_
  refine J_isub dX8_readBracket_15 ?_
  refine J_callVI (c := 7) (as := [.int 0, .int (v2 - 1)]) dX8_readBracket_16 (by decide) rfl (Nat.le_of_ble_eq_true rfl) (cw_X8_count _ (by decide)) q1797 q1799 qs78 q1800 np_X8_count (i_X8_count x0 0 (v2 - 1)) jad_id rfl (fun v3 => ?_)
  refine J_istore_n (env' := [(2, .int v3), (1, .int v2), (0, .ref x0)]) dX8_readBracket_19 rfl (by decide) rfl ?_
  refine J_aload_n dX8_readBracket_20 rfl 2 rfl ?_
  refine J_getI dX8_readBracket_21 fl_X8_177 rfl (fun v4 => ?_)
  refine J_istore_n (env' := [(3, .int v4), (2, .int v3), (1, .int v2), (0, .ref x0)]) dX8_readBracket_24 rfl (by decide) rfl ?_
  refine J_aload_n dX8_readBracket_25 rfl 3 rfl ?_
  refine J_iload_n dX8_readBracket_26 rfl 1 rfl ?_
  refine J_iconst (v := 1) dX8_readBracket_27 (by decide) ?_
  refine J_iadd dX8_readBracket_28 ?_
  refine J_iload_n dX8_readBracket_29 rfl 2 rfl ?_
  refine J_iconst (v := 1) dX8_readBracket_30 (by decide) ?_
  refine J_isub dX8_readBracket_31 ?_
  refine J_callVI (c := 7) (as := [.int (v3 + 1), .int (v2 - 1)]) dX8_readBracket_32 (by decide) rfl (Nat.le_of_ble_eq_true rfl) (cw_X8_count _ (by decide)) q1797 q1799 qs78 q1800 np_X8_count (i_X8_count x0 (v3 + 1) (v2 - 1)) jad_id rfl (fun v5 => ?_)
  refine J_istore (env' := [(4, .int v5), (3, .int v4), (2, .int v3), (1, .int v2), (0, .ref x0)]) dX8_readBracket_35 (by decide) rfl ?_
  refine J_aload_n dX8_readBracket_37 rfl 4 rfl ?_
  refine J_getI dX8_readBracket_38 fl_X8_221 rfl (fun v6 => ?_)
  refine J_if_ne (tgt := 67) dX8_readBracket_41 rfl ?_ ?_
  · refine J_sub [4, 3, 2, 0] rfl ?_
    exact j_X8_readBracket_b67 D dA x0 v2 v3 v5
  refine J_aload_n dX8_readBracket_44 rfl 4 rfl ?_
  refine J_getA dX8_readBracket_45 fl_X8_38 rfl (fun v25 => ?_)
  refine J_iload dX8_readBracket_48 0 rfl ?_
  refine J_iload dX8_readBracket_50 0 rfl ?_
  refine J_iload_n dX8_readBracket_52 rfl 2 rfl ?_
  refine J_callSI (host := "") (as := [.int v5, .int v5, .int v3]) dX8_readBracket_53 rfl (Nat.le_of_ble_eq_true rfl) (cw_X8_cell _ (by decide)) q1829 q1830 q1831 np_X8_cell (i_X8_cell v5 v5 v3) jad_id rfl (fun v26 => ?_)
  refine J_iald dX8_readBracket_56 (fun v27 => ?_)
  refine J_iconst (v := 1) dX8_readBracket_57 (by decide) ?_
  refine J_icmp_ne (tgt := 67) dX8_readBracket_58 rfl ?_ ?_
  · refine J_sub [4, 3, 2, 0] rfl ?_
    exact j_X8_readBracket_b67 D dA x0 v2 v3 v5
  refine J_aload_n dX8_readBracket_61 rfl 4 rfl ?_
  refine J_iconst (v := 5) dX8_readBracket_62 (by decide) ?_
  refine J_iload_n dX8_readBracket_63 rfl 1 rfl ?_
  refine J_callVV (c := 7) (as := [.int 5, .int v4]) dX8_readBracket_64 (by decide) rfl (Nat.le_of_ble_eq_true rfl) (cw_X8_fail _ (by decide)) q1789 q1791 qs76 q1792 np_X8_fail (i_X8_fail x0 5 v4) jad_id rfl ?_
  refine J_sub [4, 3, 2, 0] rfl ?_
  exact j_X8_readBracket_b67 D dA x0 v2 v3 v5
theorem i_X8_readBracket (x0 : Nat) : Impl (ws_ yX8_readBracket cX8_readBracket 11 none) yX8_readBracket 4 false 0 0 [.ref x0] (f_X8_readBracket x0) injU := impl_of (plainFor_of_name (by decide)) (Nat.le_of_ble_eq_true rfl) (fun D dA => j_X8_readBracket D dA x0)
theorem cw_X8_readBracket (Y : JY) (h : 5 ≤ Y.2.2.2.1) : JCw Y (ws_ yX8_readBracket cX8_readBracket 11 none) yX8_readBracket cX8_readBracket 11 none 4 := ⟨h, by decide, lw_meth q1828, q198, by decide, by decide⟩
theorem np_X8_readBracket : JNp yX8_readBracket.desc 0 := by decide +kernel
-- BracketRoomModel.isWell()Z
abbrev Y_X8_isWell : JY := (cX8_isWell, yX8_isWell.cls, 1, 2, yX8_isWell.name, (some .boolean), [])
noncomputable def X8_isWell_b43 : JM Mem Int32 :=
  jp 1
theorem j_X8_isWell_b43 (D : va_G) (dA : Nat → ClassId) : J (PM D dA false) Y_X8_isWell [] [] 43 (X8_isWell_b43) (FRet injI) := by
  unfold X8_isWell_b43
  refine J_iconst (v := 1) dX8_isWell_43 (by decide) ?_
  refine J_goto (tgt := 48) dX8_isWell_44 rfl ?_
  exact J_zreturn1 dX8_isWell_48 rfl
noncomputable def X8_isWell_b24 (x0 : Nat) (s0 : Nat) (s1 : Int32) : JM Mem Int32 :=
  jb (jputI 7 11 s0 s1) fun _ =>
  jb (jgetI 7 12 x0) fun v4 =>
  if v4 = 0 then
    X8_isWell_b43
  else
  jb (jcall 7 x0 (f_X8_no x0 10)) fun v5 =>
  if v5 = 0 then
    jp 0
  else
    X8_isWell_b43
theorem j_X8_isWell_b24 (D : va_G) (dA : Nat → ClassId) (x0 : Nat) (s0 : Nat) (s1 : Int32) : J (PM D dA false) Y_X8_isWell [(0, .ref x0)] [.int s1, .ref s0] 24 (X8_isWell_b24 x0 s0 s1) (FRet injI) := by
  unfold X8_isWell_b24
  refine J_putI dX8_isWell_24 ⟨fl_X8_32, Or.inl rfl⟩ rfl ?_
  refine J_aload_n dX8_isWell_27 rfl 0 rfl ?_
  refine J_getI dX8_isWell_28 fl_X8_221 rfl (fun v4 => ?_)
  refine J_if_eq (tgt := 43) dX8_isWell_31 rfl ?_ ?_
  · refine J_sub [] rfl ?_
    exact j_X8_isWell_b43 D dA
  refine J_aload_n dX8_isWell_34 rfl 0 rfl ?_
  refine J_bipush (v := 10) dX8_isWell_35 (by decide) ?_
  refine J_callVI (c := 7) (as := [.int 10]) dX8_isWell_37 (by decide) rfl (Nat.le_of_ble_eq_true rfl) (cw_X8_no _ (by decide)) q1702 q1704 qs64 q1705 np_X8_no (i_X8_no x0 10) jad_id rfl (fun v5 => ?_)
  refine J_if_eq (tgt := 47) dX8_isWell_40 rfl ?_ ?_
  · refine J_iconst (v := 0) dX8_isWell_47 (by decide) ?_
    exact J_zreturn0 dX8_isWell_48 rfl
  refine J_sub [] rfl ?_
  exact j_X8_isWell_b43 D dA
noncomputable def f_X8_isWell (x0 : Nat) : JM Mem Int32 :=
  jb (jgetI 7 12 x0) fun v1 =>
  jb (jputI 7 10 x0 v1) fun _ =>
  jb (jgetI 7 12 x0) fun v2 =>
  if v2 = 0 then
    X8_isWell_b24 x0 x0 (-1)
  else
  jb (jgetI 7 13 x0) fun v3 =>
  X8_isWell_b24 x0 x0 v3
theorem j_X8_isWell (D : va_G) (dA : Nat → ClassId) (x0 : Nat) : J (PM D dA false) Y_X8_isWell [(0, .ref x0)] [] 0 (f_X8_isWell x0) (FRet injI) := by
  unfold f_X8_isWell
  refine J_aload_n dX8_isWell_0 rfl 0 rfl ?_
  refine J_aload_n dX8_isWell_1 rfl 0 rfl ?_
  refine J_getI dX8_isWell_2 fl_X8_221 rfl (fun v1 => ?_)
  refine J_putI dX8_isWell_5 ⟨fl_X8_28, Or.inl rfl⟩ rfl ?_
  refine J_aload_n dX8_isWell_8 rfl 0 rfl ?_
  refine J_aload_n dX8_isWell_9 rfl 0 rfl ?_
  refine J_getI dX8_isWell_10 fl_X8_221 rfl (fun v2 => ?_)
  refine J_if_ne (tgt := 20) dX8_isWell_13 rfl ?_ ?_
  · refine J_aload_n dX8_isWell_20 rfl 0 rfl ?_
    refine J_getI dX8_isWell_21 fl_X8_224 rfl (fun v3 => ?_)
    refine J_sub [0] rfl ?_
    exact j_X8_isWell_b24 D dA x0 x0 v3
  refine J_iconst (v := (-1)) dX8_isWell_16 (by decide) ?_
  refine J_goto (tgt := 24) dX8_isWell_17 rfl ?_
  refine J_sub [0] rfl ?_
  exact j_X8_isWell_b24 D dA x0 x0 (-1)
theorem i_X8_isWell (x0 : Nat) : Impl (ws_ yX8_isWell cX8_isWell 1 (some .boolean)) yX8_isWell 2 false 0 0 [.ref x0] (f_X8_isWell x0) injI := impl_of (plainFor_of_name (by decide)) (Nat.le_of_ble_eq_true rfl) (fun D dA => j_X8_isWell D dA x0)
theorem cw_X8_isWell (Y : JY) (h : 3 ≤ Y.2.2.2.1) : JCw Y (ws_ yX8_isWell cX8_isWell 1 (some .boolean)) yX8_isWell cX8_isWell 1 (some .boolean) 2 := ⟨h, by decide, lw_meth q1853, q198, by decide, by decide⟩
theorem np_X8_isWell : JNp yX8_isWell.desc 0 := by decide +kernel
-- BracketRoomModel.move([II[II)V
abbrev Y_X8_move : JY := (cX8_move, yX8_move.cls, 6, 1, yX8_move.name, none, [])
noncomputable def X8_move_L3 (x1 : Nat) (x2 : Int32) (x3 : Nat) (x4 : Int32) (x5 : Int32) : JM Mem (Unit ⊕ (Int32)) :=
  if 127 ≤ x5 then
    jinl (jp ())
  else
  jb (jald mI 0 x1 (x2 + x5)) fun v1 =>
  jb (jast_i x3 (x4 + x5) v1) fun _ =>
  jcont (x5 + 1)
theorem j_X8_move_L3 (D : va_G) (dA : Nat → ClassId) (x1 : Nat) (x2 : Int32) (x3 : Nat) (x4 : Int32) (x5 : Int32) : J (PM D dA false) Y_X8_move [(1, .ref x1), (2, .int x2), (3, .ref x3), (4, .int x4), (5, .int x5)] [] 3 (X8_move_L3 x1 x2 x3 x4 x5) (FLoop (FRet injU) 3 (fun (t : Int32) => [(1, .ref x1), (2, .int x2), (3, .ref x3), (4, .int x4), (5, .int t)])) := by
  unfold X8_move_L3
  refine J_iload dX8_move_3 4 rfl ?_
  refine J_bipush (v := 127) dX8_move_5 (by decide) ?_
  refine J_icmp_ge (tgt := 29) dX8_move_7 rfl ?_ ?_
  · refine J_inl ?_
    exact J_return dX8_move_29 rfl
  refine J_aload_n dX8_move_10 rfl 2 rfl ?_
  refine J_iload dX8_move_11 3 rfl ?_
  refine J_iload dX8_move_13 4 rfl ?_
  refine J_iadd dX8_move_15 ?_
  refine J_aload_n dX8_move_16 rfl 0 rfl ?_
  refine J_iload_n dX8_move_17 rfl 1 rfl ?_
  refine J_iload dX8_move_18 4 rfl ?_
  refine J_iadd dX8_move_20 ?_
  refine J_iald dX8_move_21 (fun v1 => ?_)
  refine J_iast dX8_move_22 ?_
  refine J_iinc (v := x5 + 1) (env' := [(5, .int (x5 + 1)), (1, .ref x1), (2, .int x2), (3, .ref x3), (4, .int x4)]) dX8_move_23 4 rfl rfl (by decide) rfl ?_
  refine J_goto (tgt := 3) dX8_move_26 rfl ?_
  exact J_cont [1, 2, 3, 4, 0] rfl
noncomputable def f_X8_move (x0 : Nat) (x1 : Nat) (x2 : Int32) (x3 : Nat) (x4 : Int32) : JM Mem Unit :=
  jloop (fun (t : Int32) => X8_move_L3 x1 x2 x3 x4 t) 0
theorem j_X8_move (D : va_G) (dA : Nat → ClassId) (x0 : Nat) (x1 : Nat) (x2 : Int32) (x3 : Nat) (x4 : Int32) : J (PM D dA false) Y_X8_move [(0, .ref x0), (1, .ref x1), (2, .int x2), (3, .ref x3), (4, .int x4)] [] 0 (f_X8_move x0 x1 x2 x3 x4) (FRet injU) := by
  unfold f_X8_move
  refine J_iconst (v := 0) dX8_move_0 (by decide) ?_
  refine J_istore (env' := [(5, .int 0), (0, .ref x0), (1, .ref x1), (2, .int x2), (3, .ref x3), (4, .int x4)]) dX8_move_1 (by decide) rfl ?_
  refine J_loop (he := fun (t : Int32) => [(1, .ref x1), (2, .int x2), (3, .ref x3), (4, .int x4), (5, .int t)]) [2, 3, 4, 5, 0] rfl (fun t => ?_)
  exact j_X8_move_L3 D dA x1 x2 x3 x4 t
theorem i_X8_move (x0 : Nat) (x1 : Nat) (x2 : Int32) (x3 : Nat) (x4 : Int32) : Impl (ws_ yX8_move cX8_move 6 none) yX8_move 1 false 0 0 [.ref x0, .ref x1, .int x2, .ref x3, .int x4] (f_X8_move x0 x1 x2 x3 x4) injU := impl_of (plainFor_of_name (by decide)) (Nat.le_of_ble_eq_true rfl) (fun D dA => j_X8_move D dA x0 x1 x2 x3 x4)
theorem cw_X8_move (Y : JY) (h : 2 ≤ Y.2.2.2.1) : JCw Y (ws_ yX8_move cX8_move 6 none) yX8_move cX8_move 6 none 1 := ⟨h, by decide, lw_meth q1857, q198, by decide, by decide⟩
theorem np_X8_move : JNp yX8_move.desc 4 := by decide +kernel
-- BracketRoomModel.world(I)I
abbrev Y_X8_world : JY := (cX8_world, yX8_world.cls, 6, 5, yX8_world.name, (some .int), [])
noncomputable def X8_world_b221 (x0 : Nat) (x3 : Int32) : JM Mem Int32 :=
  jb (jgetA 7 20 x0) fun v13 =>
  jb (jgetA 7 19 x0) fun v14 =>
  jb (jcall 7 x0 (f_X8_move x0 v13 0 v14 0)) fun _ =>
  jp x3
theorem j_X8_world_b221 (D : va_G) (dA : Nat → ClassId) (x0 : Nat) (x3 : Int32) : J (PM D dA false) Y_X8_world [(0, .ref x0), (3, .int x3)] [] 221 (X8_world_b221 x0 x3) (FRet injI) := by
  unfold X8_world_b221
  refine J_aload_n dX8_world_221 rfl 0 rfl ?_
  refine J_aload_n dX8_world_222 rfl 0 rfl ?_
  refine J_getA dX8_world_223 fl_X8_38 rfl (fun v13 => ?_)
  refine J_iconst (v := 0) dX8_world_226 (by decide) ?_
  refine J_aload_n dX8_world_227 rfl 0 rfl ?_
  refine J_getA dX8_world_228 fl_X8_35 rfl (fun v14 => ?_)
  refine J_iconst (v := 0) dX8_world_231 (by decide) ?_
  refine J_callVV (c := 7) (as := [.ref v13, .int 0, .ref v14, .int 0]) dX8_world_232 (by decide) rfl (Nat.le_of_ble_eq_true rfl) (cw_X8_move _ (by decide)) q1854 q1856 qs87 q1857 np_X8_move (i_X8_move x0 v13 0 v14 0) jad_id rfl ?_
  refine J_iload_n dX8_world_235 rfl 1 rfl ?_
  exact J_ireturn dX8_world_236 rfl
noncomputable def X8_world_b215 (x0 : Nat) (x3 : Int32) (x4 : Int32) : JM Mem (Int32 ⊕ (Int32)) :=
  jcont (x4 + 1)
theorem j_X8_world_b215 (D : va_G) (dA : Nat → ClassId) (x0 : Nat) (x3 : Int32) (x4 : Int32) : J (PM D dA false) Y_X8_world [(0, .ref x0), (3, .int x3), (4, .int x4)] [] 215 (X8_world_b215 x0 x3 x4) (FLoop (FRet injI) 179 (fun (t : Int32) => [(0, .ref x0), (3, .int x3), (4, .int t)])) := by
  unfold X8_world_b215
  refine J_iinc (v := x4 + 1) (env' := [(4, .int (x4 + 1)), (0, .ref x0), (3, .int x3)]) dX8_world_215 2 rfl rfl (by decide) rfl ?_
  refine J_goto (tgt := 179) dX8_world_218 rfl ?_
  exact J_cont [1, 2, 0] rfl
noncomputable def X8_world_L188 (x0 : Nat) (x3 : Int32) (x4 : Int32) (x5 : Int32) : JM Mem ((Int32 ⊕ (Int32)) ⊕ (Int32)) :=
  if 5 ≤ x5 then
    jinl (X8_world_b215 x0 x3 x4)
  else
  jb (jgetA 7 20 x0) fun v15 =>
  jb ((f_X8_cell x4 x4 x5)) fun v16 =>
  jb (jast_i v15 v16 0) fun _ =>
  jcont (x5 + 1)
theorem j_X8_world_L188 (D : va_G) (dA : Nat → ClassId) (x0 : Nat) (x3 : Int32) (x4 : Int32) (x5 : Int32) : J (PM D dA false) Y_X8_world [(0, .ref x0), (3, .int x3), (4, .int x4), (5, .int x5)] [] 188 (X8_world_L188 x0 x3 x4 x5) (FLoop (FLoop (FRet injI) 179 (fun (t : Int32) => [(0, .ref x0), (3, .int x3), (4, .int t)])) 188 (fun (t : Int32) => [(0, .ref x0), (3, .int x3), (4, .int x4), (5, .int t)])) := by
  unfold X8_world_L188
  refine J_iload dX8_world_188 3 rfl ?_
  refine J_iconst (v := 5) dX8_world_190 (by decide) ?_
  refine J_icmp_ge (tgt := 215) dX8_world_191 rfl ?_ ?_
  · refine J_inl ?_
    refine J_sub [0, 1, 2] rfl ?_
    exact j_X8_world_b215 D dA x0 x3 x4
  refine J_aload_n dX8_world_194 rfl 0 rfl ?_
  refine J_getA dX8_world_195 fl_X8_38 rfl (fun v15 => ?_)
  refine J_iload dX8_world_198 2 rfl ?_
  refine J_iload dX8_world_200 2 rfl ?_
  refine J_iload dX8_world_202 3 rfl ?_
  refine J_callSI (host := "") (as := [.int x4, .int x4, .int x5]) dX8_world_204 rfl (Nat.le_of_ble_eq_true rfl) (cw_X8_cell _ (by decide)) q1829 q1830 q1831 np_X8_cell (i_X8_cell x4 x4 x5) jad_id rfl (fun v16 => ?_)
  refine J_iconst (v := 0) dX8_world_207 (by decide) ?_
  refine J_iast dX8_world_208 ?_
  refine J_iinc (v := x5 + 1) (env' := [(5, .int (x5 + 1)), (0, .ref x0), (3, .int x3), (4, .int x4)]) dX8_world_209 3 rfl rfl (by decide) rfl ?_
  refine J_goto (tgt := 188) dX8_world_212 rfl ?_
  exact J_cont [1, 2, 3, 0] rfl
noncomputable def X8_world_L179 (x0 : Nat) (x3 : Int32) (x4 : Int32) : JM Mem (Int32 ⊕ (Int32)) :=
  if 5 ≤ x4 then
    jinl (X8_world_b221 x0 x3)
  else
    jloop (fun (t : Int32) => X8_world_L188 x0 x3 x4 t) 0
theorem j_X8_world_L179 (D : va_G) (dA : Nat → ClassId) (x0 : Nat) (x3 : Int32) (x4 : Int32) : J (PM D dA false) Y_X8_world [(0, .ref x0), (3, .int x3), (4, .int x4)] [] 179 (X8_world_L179 x0 x3 x4) (FLoop (FRet injI) 179 (fun (t : Int32) => [(0, .ref x0), (3, .int x3), (4, .int t)])) := by
  unfold X8_world_L179
  refine J_iload dX8_world_179 2 rfl ?_
  refine J_iconst (v := 5) dX8_world_181 (by decide) ?_
  refine J_icmp_ge (tgt := 221) dX8_world_182 rfl ?_ ?_
  · refine J_inl ?_
    refine J_sub [0, 1] rfl ?_
    exact j_X8_world_b221 D dA x0 x3
  refine J_iconst (v := 0) dX8_world_185 (by decide) ?_
  refine J_istore (env' := [(5, .int 0), (0, .ref x0), (3, .int x3), (4, .int x4)]) dX8_world_186 (by decide) rfl ?_
  refine J_loop (he := fun (t : Int32) => [(0, .ref x0), (3, .int x3), (4, .int x4), (5, .int t)]) [1, 2, 3, 0] rfl (fun t => ?_)
  exact j_X8_world_L188 D dA x0 x3 x4 t
noncomputable def X8_world_b167 (x0 : Nat) (x3 : Int32) : JM Mem Int32 :=
  jb (jcall 7 x0 (f_X8_isWell x0)) fun v12 =>
  if v12 = 0 then
    jp (-1)
  else
    jloop (fun (t : Int32) => X8_world_L179 x0 x3 t) 0
theorem j_X8_world_b167 (D : va_G) (dA : Nat → ClassId) (x0 : Nat) (x3 : Int32) : J (PM D dA false) Y_X8_world [(0, .ref x0), (3, .int x3)] [] 167 (X8_world_b167 x0 x3) (FRet injI) := by
  unfold X8_world_b167
  refine J_aload_n dX8_world_167 rfl 0 rfl ?_
  refine J_callVI (c := 7) (as := []) dX8_world_168 (by decide) rfl (Nat.le_of_ble_eq_true rfl) (cw_X8_isWell _ (by decide)) q1850 q1852 qs86 q1853 np_X8_isWell (i_X8_isWell x0) jad_id rfl (fun v12 => ?_)
  refine J_if_ne (tgt := 176) dX8_world_171 rfl ?_ ?_
  · refine J_iconst (v := 0) dX8_world_176 (by decide) ?_
    refine J_istore (env' := [(4, .int 0), (0, .ref x0), (3, .int x3)]) dX8_world_177 (by decide) rfl ?_
    refine J_loop (he := fun (t : Int32) => [(0, .ref x0), (3, .int x3), (4, .int t)]) [1, 2, 0] rfl (fun t => ?_)
    exact j_X8_world_L179 D dA x0 x3 t
  refine J_iconst (v := (-1)) dX8_world_174 (by decide) ?_
  exact J_ireturn dX8_world_175 rfl
noncomputable def X8_world_b154 (x0 : Nat) (x3 : Int32) : JM Mem (Int32 ⊕ (Unit)) :=
  jb (jcall 7 x0 (f_X8_isSign x0 59)) fun v19 =>
  jb (jcall 7 x0 (f_X8_must x0 v19)) fun _ =>
  jcont ()
theorem j_X8_world_b154 (D : va_G) (dA : Nat → ClassId) (x0 : Nat) (x3 : Int32) : J (PM D dA false) Y_X8_world [(0, .ref x0), (3, .int x3)] [] 154 (X8_world_b154 x0 x3) (FLoop (FRet injI) 122 (fun (t : Unit) => [(0, .ref x0), (3, .int x3)])) := by
  unfold X8_world_b154
  refine J_aload_n dX8_world_154 rfl 0 rfl ?_
  refine J_aload_n dX8_world_155 rfl 0 rfl ?_
  refine J_bipush (v := 59) dX8_world_156 (by decide) ?_
  refine J_callVI (c := 7) (as := [.int 59]) dX8_world_158 (by decide) rfl (Nat.le_of_ble_eq_true rfl) (cw_X8_isSign _ (by decide)) q1804 q1806 qs79 q1807 np_X8_isSign (i_X8_isSign x0 59) jad_id rfl (fun v19 => ?_)
  refine J_callVV (c := 7) (as := [.int v19]) dX8_world_161 (by decide) rfl (Nat.le_of_ble_eq_true rfl) (cw_X8_must _ (by decide)) q1781 q1783 qs74 q1784 np_X8_must (i_X8_must x0 v19) jad_id rfl ?_
  refine J_goto (tgt := 122) dX8_world_164 rfl ?_
  exact J_cont [0, 1] rfl
noncomputable def X8_world_L122 (x0 : Nat) (x3 : Int32) : JM Mem (Int32 ⊕ (Unit)) :=
  jb (jgetI 7 12 x0) fun v11 =>
  if v11 = 0 then
    jb (jgetI 7 14 x0) fun v17 =>
    if v17 = 0 then
      jinl (X8_world_b167 x0 x3)
    else
    jb (jcall 7 x0 (f_X8_isBracket x0)) fun v18 =>
    if v18 = 0 then
      jb (jcall 7 x0 (f_X8_wrong x0)) fun _ =>
      X8_world_b154 x0 x3
    else
    jb (jcall 7 x0 (f_X8_readBracket x0)) fun _ =>
    X8_world_b154 x0 x3
  else
    jinl (X8_world_b167 x0 x3)
theorem j_X8_world_L122 (D : va_G) (dA : Nat → ClassId) (x0 : Nat) (x3 : Int32) : J (PM D dA false) Y_X8_world [(0, .ref x0), (3, .int x3)] [] 122 (X8_world_L122 x0 x3) (FLoop (FRet injI) 122 (fun (t : Unit) => [(0, .ref x0), (3, .int x3)])) := by
  unfold X8_world_L122
  refine J_aload_n dX8_world_122 rfl 0 rfl ?_
  refine J_getI dX8_world_123 fl_X8_221 rfl (fun v11 => ?_)
  refine J_if_ne (tgt := 167) dX8_world_126 rfl ?_ ?_
  · refine J_inl ?_
    refine J_sub [0, 1] rfl ?_
    exact j_X8_world_b167 D dA x0 x3
  refine J_aload_n dX8_world_129 rfl 0 rfl ?_
  refine J_getI dX8_world_130 fl_X8_183 rfl (fun v17 => ?_)
  refine J_if_eq (tgt := 167) dX8_world_133 rfl ?_ ?_
  · refine J_inl ?_
    refine J_sub [0, 1] rfl ?_
    exact j_X8_world_b167 D dA x0 x3
  refine J_aload_n dX8_world_136 rfl 0 rfl ?_
  refine J_callVI (c := 7) (as := []) dX8_world_137 (by decide) rfl (Nat.le_of_ble_eq_true rfl) (cw_X8_isBracket _ (by decide)) q1818 q1820 qs81 q1821 np_X8_isBracket (i_X8_isBracket x0) jad_id rfl (fun v18 => ?_)
  refine J_if_eq (tgt := 150) dX8_world_140 rfl ?_ ?_
  · refine J_aload_n dX8_world_150 rfl 0 rfl ?_
    refine J_callVV (c := 7) (as := []) dX8_world_151 (by decide) rfl (Nat.le_of_ble_eq_true rfl) (cw_X8_wrong _ (by decide)) q1785 q1787 qs75 q1788 np_X8_wrong (i_X8_wrong x0) jad_id rfl ?_
    refine J_sub [0, 1] rfl ?_
    exact j_X8_world_b154 D dA x0 x3
  refine J_aload_n dX8_world_143 rfl 0 rfl ?_
  refine J_callVV (c := 7) (as := []) dX8_world_144 (by decide) rfl (Nat.le_of_ble_eq_true rfl) (cw_X8_readBracket _ (by decide)) q1825 q1827 qs82 q1828 np_X8_readBracket (i_X8_readBracket x0) jad_id rfl ?_
  refine J_goto (tgt := 154) dX8_world_147 rfl ?_
  refine J_sub [0, 1] rfl ?_
  exact j_X8_world_b154 D dA x0 x3
noncomputable def X8_world_b66 (x0 : Nat) : JM Mem Int32 :=
  jb (jcall 7 x0 (f_X8_count x0 2 7)) fun v4 =>
  jb (jcall 7 x0 (f_X8_isSign x0 59)) fun v5 =>
  jb (jcall 7 x0 (f_X8_must x0 v5)) fun _ =>
  jb (jcall 7 x0 (f_X8_isSizeWord x0)) fun v6 =>
  jb (jcall 7 x0 (f_X8_must x0 v6)) fun _ =>
  jb ((f_X8_greatest v4)) fun v7 =>
  jb (jcall 7 x0 (f_X8_count x0 1 v7)) fun v8 =>
  jb (jcall 7 x0 (f_X8_isSign x0 59)) fun v9 =>
  jb (jcall 7 x0 (f_X8_must x0 v9)) fun _ =>
  jb (jgetA 7 20 x0) fun v10 =>
  jb ((f_X8_clear v10 0 v4 v8)) fun _ =>
  jloop (fun (t : Unit) => X8_world_L122 x0 v8) ()
theorem j_X8_world_b66 (D : va_G) (dA : Nat → ClassId) (x0 : Nat) : J (PM D dA false) Y_X8_world [(0, .ref x0)] [] 66 (X8_world_b66 x0) (FRet injI) := by
  unfold X8_world_b66
  refine J_aload_n dX8_world_66 rfl 0 rfl ?_
  refine J_iconst (v := 2) dX8_world_67 (by decide) ?_
  refine J_bipush (v := 7) dX8_world_68 (by decide) ?_
  refine J_callVI (c := 7) (as := [.int 2, .int 7]) dX8_world_70 (by decide) rfl (Nat.le_of_ble_eq_true rfl) (cw_X8_count _ (by decide)) q1797 q1799 qs78 q1800 np_X8_count (i_X8_count x0 2 7) jad_id rfl (fun v4 => ?_)
  refine J_istore_n (env' := [(2, .int v4), (0, .ref x0)]) dX8_world_73 rfl (by decide) rfl ?_
  refine J_aload_n dX8_world_74 rfl 1 rfl ?_
  refine J_aload_n dX8_world_75 rfl 1 rfl ?_
  refine J_bipush (v := 59) dX8_world_76 (by decide) ?_
  refine J_callVI (c := 7) (as := [.int 59]) dX8_world_78 (by decide) rfl (Nat.le_of_ble_eq_true rfl) (cw_X8_isSign _ (by decide)) q1804 q1806 qs79 q1807 np_X8_isSign (i_X8_isSign x0 59) jad_id rfl (fun v5 => ?_)
  refine J_callVV (c := 7) (as := [.int v5]) dX8_world_81 (by decide) rfl (Nat.le_of_ble_eq_true rfl) (cw_X8_must _ (by decide)) q1781 q1783 qs74 q1784 np_X8_must (i_X8_must x0 v5) jad_id rfl ?_
  refine J_aload_n dX8_world_84 rfl 1 rfl ?_
  refine J_aload_n dX8_world_85 rfl 1 rfl ?_
  refine J_callVI (c := 7) (as := []) dX8_world_86 (by decide) rfl (Nat.le_of_ble_eq_true rfl) (cw_X8_isSizeWord _ (by decide)) q1808 q1810 qs80 q1811 np_X8_isSizeWord (i_X8_isSizeWord x0) jad_id rfl (fun v6 => ?_)
  refine J_callVV (c := 7) (as := [.int v6]) dX8_world_89 (by decide) rfl (Nat.le_of_ble_eq_true rfl) (cw_X8_must _ (by decide)) q1781 q1783 qs74 q1784 np_X8_must (i_X8_must x0 v6) jad_id rfl ?_
  refine J_aload_n dX8_world_92 rfl 1 rfl ?_
  refine J_iconst (v := 1) dX8_world_93 (by decide) ?_
  refine J_iload_n dX8_world_94 rfl 0 rfl ?_
  refine J_callSI (host := "") (as := [.int v4]) dX8_world_95 rfl (Nat.le_of_ble_eq_true rfl) (cw_X8_greatest _ (by decide)) q1812 q1813 q1814 np_X8_greatest (i_X8_greatest v4) jad_id rfl (fun v7 => ?_)
  refine J_callVI (c := 7) (as := [.int 1, .int v7]) dX8_world_98 (by decide) rfl (Nat.le_of_ble_eq_true rfl) (cw_X8_count _ (by decide)) q1797 q1799 qs78 q1800 np_X8_count (i_X8_count x0 1 v7) jad_id rfl (fun v8 => ?_)
  refine J_istore_n (env' := [(3, .int v8), (2, .int v4), (0, .ref x0)]) dX8_world_101 rfl (by decide) rfl ?_
  refine J_aload_n dX8_world_102 rfl 2 rfl ?_
  refine J_aload_n dX8_world_103 rfl 2 rfl ?_
  refine J_bipush (v := 59) dX8_world_104 (by decide) ?_
  refine J_callVI (c := 7) (as := [.int 59]) dX8_world_106 (by decide) rfl (Nat.le_of_ble_eq_true rfl) (cw_X8_isSign _ (by decide)) q1804 q1806 qs79 q1807 np_X8_isSign (i_X8_isSign x0 59) jad_id rfl (fun v9 => ?_)
  refine J_callVV (c := 7) (as := [.int v9]) dX8_world_109 (by decide) rfl (Nat.le_of_ble_eq_true rfl) (cw_X8_must _ (by decide)) q1781 q1783 qs74 q1784 np_X8_must (i_X8_must x0 v9) jad_id rfl ?_
  refine J_aload_n dX8_world_112 rfl 2 rfl ?_
  refine J_getA dX8_world_113 fl_X8_38 rfl (fun v10 => ?_)
  refine J_iconst (v := 0) dX8_world_116 (by decide) ?_
  refine J_iload_n dX8_world_117 rfl 1 rfl ?_
  refine J_iload_n dX8_world_118 rfl 0 rfl ?_
  refine J_callSV (host := "") (as := [.ref v10, .int 0, .int v4, .int v8]) dX8_world_119 rfl (Nat.le_of_ble_eq_true rfl) (cw_X8_clear _ (by decide)) q1815 q1816 q1817 np_X8_clear (i_X8_clear v10 0 v4 v8) jad_id rfl ?_
  refine J_loop (he := fun (t : Unit) => [(0, .ref x0), (3, .int v8)]) [2, 0] rfl (fun t => ?_)
  exact j_X8_world_L122 D dA x0 v8
noncomputable def f_X8_world (x0 : Nat) (x1 : Int32) : JM Mem Int32 :=
  jb (jputI 7 1 x0 0) fun _ =>
  jb (jputI 7 0 x0 0) fun _ =>
  jb (jcall 7 x0 (f_X8_opens x0 x1 600)) fun v1 =>
  if v1 = 0 then
    jp (-1)
  else
  jb (jcall 7 x0 (f_X8_isPrime x0)) fun v2 =>
  jb (jcall 7 x0 (f_X8_must x0 v2)) fun _ =>
  jb (jgetI 7 12 x0) fun v3 =>
  if v3 = 0 then
    jb (jgetI 7 14 x0) fun v20 =>
    if v20 = 2 then
      jb (jgetI 7 17 x0) fun v21 =>
      jb (jcall 7 x0 (f_X8_isPrimeNumber x0 v21)) fun v22 =>
      if v22 = 0 then
        jb (jgetI 7 15 x0) fun v23 =>
        jb (jcall 7 x0 (f_X8_fail x0 4 v23)) fun _ =>
        X8_world_b66 x0
      else
        X8_world_b66 x0
    else
      X8_world_b66 x0
  else
    X8_world_b66 x0
theorem j_X8_world (D : va_G) (dA : Nat → ClassId) (x0 : Nat) (x1 : Int32) : J (PM D dA false) Y_X8_world [(0, .ref x0), (1, .int x1)] [] 0 (f_X8_world x0 x1) (FRet injI) := by
  unfold f_X8_world
  refine J_aload_n dX8_world_0 rfl 0 rfl ?_
  refine J_iconst (v := 0) dX8_world_1 (by decide) ?_
  refine J_putI dX8_world_2 ⟨fl_X8_132, Or.inl rfl⟩ rfl ?_
  refine J_aload_n dX8_world_5 rfl 0 rfl ?_
  refine J_iconst (v := 0) dX8_world_6 (by decide) ?_
  refine J_putI dX8_world_7 ⟨fl_X8_135, Or.inl rfl⟩ rfl ?_
  refine J_aload_n dX8_world_10 rfl 0 rfl ?_
  refine J_iload_n dX8_world_11 rfl 1 rfl ?_
  refine J_sipush (v := 600) dX8_world_12 (by decide) ?_
  refine J_callVI (c := 7) (as := [.int x1, .int 600]) dX8_world_15 (by decide) rfl (Nat.le_of_ble_eq_true rfl) (cw_X8_opens _ (by decide)) q1746 q1748 qs68 q1749 np_X8_opens (i_X8_opens x0 x1 600) jad_id rfl (fun v1 => ?_)
  refine J_if_ne (tgt := 23) dX8_world_18 rfl ?_ ?_
  · refine J_aload_n dX8_world_23 rfl 0 rfl ?_
    refine J_aload_n dX8_world_24 rfl 0 rfl ?_
    refine J_callVI (c := 7) (as := []) dX8_world_25 (by decide) rfl (Nat.le_of_ble_eq_true rfl) (cw_X8_isPrime _ (by decide)) q1770 q1772 qs72 q1773 np_X8_isPrime (i_X8_isPrime x0) jad_id rfl (fun v2 => ?_)
    refine J_callVV (c := 7) (as := [.int v2]) dX8_world_28 (by decide) rfl (Nat.le_of_ble_eq_true rfl) (cw_X8_must _ (by decide)) q1781 q1783 qs74 q1784 np_X8_must (i_X8_must x0 v2) jad_id rfl ?_
    refine J_aload_n dX8_world_31 rfl 0 rfl ?_
    refine J_getI dX8_world_32 fl_X8_221 rfl (fun v3 => ?_)
    refine J_if_ne (tgt := 66) dX8_world_35 rfl ?_ ?_
    · refine J_sub [0] rfl ?_
      exact j_X8_world_b66 D dA x0
    refine J_aload_n dX8_world_38 rfl 0 rfl ?_
    refine J_getI dX8_world_39 fl_X8_183 rfl (fun v20 => ?_)
    refine J_iconst (v := 2) dX8_world_42 (by decide) ?_
    refine J_icmp_ne (tgt := 66) dX8_world_43 rfl ?_ ?_
    · refine J_sub [0] rfl ?_
      exact j_X8_world_b66 D dA x0
    refine J_aload_n dX8_world_46 rfl 0 rfl ?_
    refine J_aload_n dX8_world_47 rfl 0 rfl ?_
    refine J_getI dX8_world_48 fl_X8_199 rfl (fun v21 => ?_)
    refine J_callVI (c := 7) (as := [.int v21]) dX8_world_51 (by decide) rfl (Nat.le_of_ble_eq_true rfl) (cw_X8_isPrimeNumber _ (by decide)) q1793 q1795 qs77 q1796 np_X8_isPrimeNumber (i_X8_isPrimeNumber x0 v21) jad_id rfl (fun v22 => ?_)
    refine J_if_ne (tgt := 66) dX8_world_54 rfl ?_ ?_
    · refine J_sub [0] rfl ?_
      exact j_X8_world_b66 D dA x0
    refine J_aload_n dX8_world_57 rfl 0 rfl ?_
    refine J_iconst (v := 4) dX8_world_58 (by decide) ?_
    refine J_aload_n dX8_world_59 rfl 0 rfl ?_
    refine J_getI dX8_world_60 fl_X8_177 rfl (fun v23 => ?_)
    refine J_callVV (c := 7) (as := [.int 4, .int v23]) dX8_world_63 (by decide) rfl (Nat.le_of_ble_eq_true rfl) (cw_X8_fail _ (by decide)) q1789 q1791 qs76 q1792 np_X8_fail (i_X8_fail x0 4 v23) jad_id rfl ?_
    refine J_sub [0] rfl ?_
    exact j_X8_world_b66 D dA x0
  refine J_iconst (v := (-1)) dX8_world_21 (by decide) ?_
  exact J_ireturn dX8_world_22 rfl
theorem i_X8_world (x0 : Nat) (x1 : Int32) : Impl (ws_ yX8_world cX8_world 6 (some .int)) yX8_world 5 false 0 0 [.ref x0, .int x1] (f_X8_world x0 x1) injI := impl_of (plainFor_of_name (by decide)) (Nat.le_of_ble_eq_true rfl) (fun D dA => j_X8_world D dA x0 x1)
theorem cw_X8_world (Y : JY) (h : 6 ≤ Y.2.2.2.1) : JCw Y (ws_ yX8_world cX8_world 6 (some .int)) yX8_world cX8_world 6 (some .int) 5 := ⟨h, by decide, lw_meth q1745, q198, by decide, by decide⟩
theorem np_X8_world : JNp yX8_world.desc 1 := by decide +kernel
-- BracketRoomModel.ask([II)V
abbrev Y_X8_ask : JY := (cX8_ask, yX8_ask.cls, 3, 1, yX8_ask.name, none, [])
noncomputable def f_X8_ask (x0 : Nat) (x1 : Nat) (x2 : Int32) : JM Mem Unit :=
  jb (jputO 7 24 x0 (some x1)) fun _ =>
  jb (jputI 7 25 x0 x2) fun _ =>
  jb (jald mI 0 x1 x2) fun v1 =>
  jb (jputI 7 26 x0 v1) fun _ =>
  jb (jald mI 0 x1 (x2 + 1)) fun v2 =>
  jb (jputI 7 27 x0 v2) fun _ =>
  jp ()
theorem j_X8_ask (D : va_G) (dA : Nat → ClassId) (x0 : Nat) (x1 : Nat) (x2 : Int32) : J (PM D dA false) Y_X8_ask [(0, .ref x0), (1, .ref x1), (2, .int x2)] [] 0 (f_X8_ask x0 x1 x2) (FRet injU) := by
  unfold f_X8_ask
  refine J_aload_n dX8_ask_0 rfl 0 rfl ?_
  refine J_aload_n dX8_ask_1 rfl 1 rfl ?_
  refine J_putO (x := (some x1)) dX8_ask_2 ⟨fl_X8_244, Or.inl rfl⟩ rfl ?_
  refine J_aload_n dX8_ask_5 rfl 0 rfl ?_
  refine J_iload_n dX8_ask_6 rfl 2 rfl ?_
  refine J_putI dX8_ask_7 ⟨fl_X8_247, Or.inl rfl⟩ rfl ?_
  refine J_aload_n dX8_ask_10 rfl 0 rfl ?_
  refine J_aload_n dX8_ask_11 rfl 1 rfl ?_
  refine J_iload_n dX8_ask_12 rfl 2 rfl ?_
  refine J_iald dX8_ask_13 (fun v1 => ?_)
  refine J_putI dX8_ask_14 ⟨fl_X8_250, Or.inl rfl⟩ rfl ?_
  refine J_aload_n dX8_ask_17 rfl 0 rfl ?_
  refine J_aload_n dX8_ask_18 rfl 1 rfl ?_
  refine J_iload_n dX8_ask_19 rfl 2 rfl ?_
  refine J_iconst (v := 1) dX8_ask_20 (by decide) ?_
  refine J_iadd dX8_ask_21 ?_
  refine J_iald dX8_ask_22 (fun v2 => ?_)
  refine J_putI dX8_ask_23 ⟨fl_X8_253, Or.inl rfl⟩ rfl ?_
  exact J_return dX8_ask_26 rfl
theorem i_X8_ask (x0 : Nat) (x1 : Nat) (x2 : Int32) : Impl (ws_ yX8_ask cX8_ask 3 none) yX8_ask 1 false 0 0 [.ref x0, .ref x1, .int x2] (f_X8_ask x0 x1 x2) injU := impl_of (plainFor_of_name (by decide)) (Nat.le_of_ble_eq_true rfl) (fun D dA => j_X8_ask D dA x0 x1 x2)
theorem cw_X8_ask (Y : JY) (h : 2 ≤ Y.2.2.2.1) : JCw Y (ws_ yX8_ask cX8_ask 3 none) yX8_ask cX8_ask 3 none 1 := ⟨h, by decide, lw_meth q1869, q198, by decide, by decide⟩
theorem np_X8_ask : JNp yX8_ask.desc 2 := by decide +kernel
-- BracketRoomModel.askNow()V
abbrev Y_X8_askNow : JY := (cX8_askNow, yX8_askNow.cls, 1, 2, yX8_askNow.name, none, [])
noncomputable def f_X8_askNow (x0 : Nat) : JM Mem Unit :=
  jb (jgetA 7 19 x0) fun v1 =>
  jb (jcall 7 x0 (f_X8_ask x0 v1 0)) fun _ =>
  jp ()
theorem j_X8_askNow (D : va_G) (dA : Nat → ClassId) (x0 : Nat) : J (PM D dA false) Y_X8_askNow [(0, .ref x0)] [] 0 (f_X8_askNow x0) (FRet injU) := by
  unfold f_X8_askNow
  refine J_aload_n dX8_askNow_0 rfl 0 rfl ?_
  refine J_aload_n dX8_askNow_1 rfl 0 rfl ?_
  refine J_getA dX8_askNow_2 fl_X8_35 rfl (fun v1 => ?_)
  refine J_iconst (v := 0) dX8_askNow_5 (by decide) ?_
  refine J_callVV (c := 7) (as := [.ref v1, .int 0]) dX8_askNow_6 (by decide) rfl (Nat.le_of_ble_eq_true rfl) (cw_X8_ask _ (by decide)) q1866 q1868 qs89 q1869 np_X8_ask (i_X8_ask x0 v1 0) jad_id rfl ?_
  exact J_return dX8_askNow_9 rfl
theorem i_X8_askNow (x0 : Nat) : Impl (ws_ yX8_askNow cX8_askNow 1 none) yX8_askNow 2 false 0 0 [.ref x0] (f_X8_askNow x0) injU := impl_of (plainFor_of_name (by decide)) (Nat.le_of_ble_eq_true rfl) (fun D dA => j_X8_askNow D dA x0)
theorem cw_X8_askNow (Y : JY) (h : 3 ≤ Y.2.2.2.1) : JCw Y (ws_ yX8_askNow cX8_askNow 1 none) yX8_askNow cX8_askNow 1 none 2 := ⟨h, by decide, lw_meth q1865, q198, by decide, by decide⟩
theorem np_X8_askNow : JNp yX8_askNow.desc 0 := by decide +kernel
-- BracketRoomModel.refuse(I)I
abbrev Y_X8_refuse : JY := (cX8_refuse, yX8_refuse.cls, 2, 1, yX8_refuse.name, (some .int), [])
noncomputable def f_X8_refuse (x0 : Nat) (x1 : Int32) : JM Mem Int32 :=
  jb (jputI 7 0 x0 x1) fun _ =>
  jp (-1)
theorem j_X8_refuse (D : va_G) (dA : Nat → ClassId) (x0 : Nat) (x1 : Int32) : J (PM D dA false) Y_X8_refuse [(0, .ref x0), (1, .int x1)] [] 0 (f_X8_refuse x0 x1) (FRet injI) := by
  unfold f_X8_refuse
  refine J_aload_n dX8_refuse_0 rfl 0 rfl ?_
  refine J_iload_n dX8_refuse_1 rfl 1 rfl ?_
  refine J_putI dX8_refuse_2 ⟨fl_X8_135, Or.inl rfl⟩ rfl ?_
  refine J_iconst (v := (-1)) dX8_refuse_5 (by decide) ?_
  exact J_ireturn dX8_refuse_6 rfl
theorem i_X8_refuse (x0 : Nat) (x1 : Int32) : Impl (ws_ yX8_refuse cX8_refuse 2 (some .int)) yX8_refuse 1 false 0 0 [.ref x0, .int x1] (f_X8_refuse x0 x1) injI := impl_of (plainFor_of_name (by decide)) (Nat.le_of_ble_eq_true rfl) (fun D dA => j_X8_refuse D dA x0 x1)
theorem cw_X8_refuse (Y : JY) (h : 2 ≤ Y.2.2.2.1) : JCw Y (ws_ yX8_refuse cX8_refuse 2 (some .int)) yX8_refuse cX8_refuse 2 (some .int) 1 := ⟨h, by decide, lw_meth q1874, q198, by decide, by decide⟩
theorem np_X8_refuse : JNp yX8_refuse.desc 1 := by decide +kernel
-- BracketRoomModel.table(III)I
abbrev Y_X8_table : JY := (cX8_table, yX8_table.cls, 4, 2, yX8_table.name, (some .int), [])
noncomputable def f_X8_table (x0 : Nat) (x1 : Int32) (x2 : Int32) (x3 : Int32) : JM Mem Int32 :=
  jb (jgetA 7 24 x0) fun v1 =>
  jb (jgetI 7 25 x0) fun v2 =>
  jb ((f_X8_cell x1 x2 x3)) fun v3 =>
  jb (jald mI 0 v1 (v2 + v3)) fun v4 =>
  jp v4
theorem j_X8_table (D : va_G) (dA : Nat → ClassId) (x0 : Nat) (x1 : Int32) (x2 : Int32) (x3 : Int32) : J (PM D dA false) Y_X8_table [(0, .ref x0), (1, .int x1), (2, .int x2), (3, .int x3)] [] 0 (f_X8_table x0 x1 x2 x3) (FRet injI) := by
  unfold f_X8_table
  refine J_aload_n dX8_table_0 rfl 0 rfl ?_
  refine J_getA dX8_table_1 fl_X8_244 rfl (fun v1 => ?_)
  refine J_aload_n dX8_table_4 rfl 0 rfl ?_
  refine J_getI dX8_table_5 fl_X8_247 rfl (fun v2 => ?_)
  refine J_iload_n dX8_table_8 rfl 1 rfl ?_
  refine J_iload_n dX8_table_9 rfl 2 rfl ?_
  refine J_iload_n dX8_table_10 rfl 3 rfl ?_
  refine J_callSI (host := "") (as := [.int x1, .int x2, .int x3]) dX8_table_11 rfl (Nat.le_of_ble_eq_true rfl) (cw_X8_cell _ (by decide)) q1829 q1830 q1831 np_X8_cell (i_X8_cell x1 x2 x3) jad_id rfl (fun v3 => ?_)
  refine J_iadd dX8_table_14 ?_
  refine J_iald dX8_table_15 (fun v4 => ?_)
  exact J_ireturn dX8_table_16 rfl
theorem i_X8_table (x0 : Nat) (x1 : Int32) (x2 : Int32) (x3 : Int32) : Impl (ws_ yX8_table cX8_table 4 (some .int)) yX8_table 2 false 0 0 [.ref x0, .int x1, .int x2, .int x3] (f_X8_table x0 x1 x2 x3) injI := impl_of (plainFor_of_name (by decide)) (Nat.le_of_ble_eq_true rfl) (fun D dA => j_X8_table D dA x0 x1 x2 x3)
theorem cw_X8_table (Y : JY) (h : 3 ≤ Y.2.2.2.1) : JCw Y (ws_ yX8_table cX8_table 4 (some .int)) yX8_table cX8_table 4 (some .int) 2 := ⟨h, by decide, lw_meth q1878, q198, by decide, by decide⟩
theorem np_X8_table : JNp yX8_table.desc 3 := by decide +kernel
-- BracketRoomModel.many(I)I
abbrev Y_X8_many : JY := (cX8_many, yX8_many.cls, 6, 3, yX8_many.name, (some .int), [])
noncomputable def X8_many_b168 (x0 : Nat) (x3 : Int32) (s0 : Int32) (s1 : Int32) : JM Mem (Int32 ⊕ (Int32 × Int32)) :=
  jlet (s0 ||| s1) fun y4 =>
  jcont (y4, x3 + 1)
theorem j_X8_many_b168 (D : va_G) (dA : Nat → ClassId) (x0 : Nat) (x3 : Int32) (s0 : Int32) (s1 : Int32) : J (PM D dA false) Y_X8_many [(0, .ref x0), (3, .int x3)] [.int s1, .int s0] 168 (X8_many_b168 x0 x3 s0 s1) (FLoop (FRet injI) 141 (fun (t : Int32 × Int32) => [(0, .ref x0), (2, .int t.1), (3, .int t.2)])) := by
  unfold X8_many_b168
  refine J_ior dX8_many_168 ?_
  refine J_letI (fun y4 => ?_)
  refine J_istore_n (env' := [(2, .int y4), (0, .ref x0), (3, .int x3)]) dX8_many_169 rfl (by decide) rfl ?_
  refine J_iinc (v := x3 + 1) (env' := [(3, .int (x3 + 1)), (2, .int y4), (0, .ref x0)]) dX8_many_170 2 rfl rfl (by decide) rfl ?_
  refine J_goto (tgt := 141) dX8_many_173 rfl ?_
  exact J_cont [2, 1, 0] rfl
noncomputable def X8_many_L141 (x0 : Nat) (x2 : Int32) (x3 : Int32) : JM Mem (Int32 ⊕ (Int32 × Int32)) :=
  if 4 ≤ x3 then
    jinl (jp x2)
  else
  jb (jgetA 7 19 x0) fun v2 =>
  jb (jald mI 0 v2 (127 * (x3 + 1))) fun v3 =>
  if v3 = 0 then
    X8_many_b168 x0 x3 x2 0
  else
    X8_many_b168 x0 x3 x2 ((1 : Int32) <<< (x3 &&& 31))
theorem j_X8_many_L141 (D : va_G) (dA : Nat → ClassId) (x0 : Nat) (x2 : Int32) (x3 : Int32) : J (PM D dA false) Y_X8_many [(0, .ref x0), (2, .int x2), (3, .int x3)] [] 141 (X8_many_L141 x0 x2 x3) (FLoop (FRet injI) 141 (fun (t : Int32 × Int32) => [(0, .ref x0), (2, .int t.1), (3, .int t.2)])) := by
  unfold X8_many_L141
  refine J_iload_n dX8_many_141 rfl 2 rfl ?_
  refine J_iconst (v := 4) dX8_many_142 (by decide) ?_
  refine J_icmp_ge (tgt := 176) dX8_many_143 rfl ?_ ?_
  · refine J_inl ?_
    refine J_iload_n dX8_many_176 rfl 1 rfl ?_
    exact J_ireturn dX8_many_177 rfl
  refine J_iload_n dX8_many_146 rfl 1 rfl ?_
  refine J_aload_n dX8_many_147 rfl 0 rfl ?_
  refine J_getA dX8_many_148 fl_X8_35 rfl (fun v2 => ?_)
  refine J_bipush (v := 127) dX8_many_151 (by decide) ?_
  refine J_iload_n dX8_many_153 rfl 2 rfl ?_
  refine J_iconst (v := 1) dX8_many_154 (by decide) ?_
  refine J_iadd dX8_many_155 ?_
  refine J_imul dX8_many_156 ?_
  refine J_iald dX8_many_157 (fun v3 => ?_)
  refine J_if_ne (tgt := 165) dX8_many_158 rfl ?_ ?_
  · refine J_iconst (v := 1) dX8_many_165 (by decide) ?_
    refine J_iload_n dX8_many_166 rfl 2 rfl ?_
    refine J_ishl dX8_many_167 ?_
    refine J_sub [0, 2] rfl ?_
    exact j_X8_many_b168 D dA x0 x3 x2 ((1 : Int32) <<< (x3 &&& 31))
  refine J_iconst (v := 0) dX8_many_161 (by decide) ?_
  refine J_goto (tgt := 168) dX8_many_162 rfl ?_
  refine J_sub [0, 2] rfl ?_
  exact j_X8_many_b168 D dA x0 x3 x2 0
noncomputable def X8_many_b134 (x0 : Nat) (x1 : Int32) (x2 : Int32) : JM Mem Int32 :=
  if x1 = 3 then
    jloop (fun (t : Int32 × Int32) => X8_many_L141 x0 t.1 t.2) (x2, 0)
  else
    jp x2
theorem j_X8_many_b134 (D : va_G) (dA : Nat → ClassId) (x0 : Nat) (x1 : Int32) (x2 : Int32) : J (PM D dA false) Y_X8_many [(0, .ref x0), (1, .int x1), (2, .int x2)] [] 134 (X8_many_b134 x0 x1 x2) (FRet injI) := by
  unfold X8_many_b134
  refine J_iload_n dX8_many_134 rfl 1 rfl ?_
  refine J_iconst (v := 3) dX8_many_135 (by decide) ?_
  refine J_icmp_ne (tgt := 176) dX8_many_136 rfl ?_ ?_
  · refine J_iload_n dX8_many_176 rfl 2 rfl ?_
    exact J_ireturn dX8_many_177 rfl
  refine J_iconst (v := 0) dX8_many_139 (by decide) ?_
  refine J_istore_n (env' := [(3, .int 0), (0, .ref x0), (1, .int x1), (2, .int x2)]) dX8_many_140 rfl (by decide) rfl ?_
  refine J_loop (he := fun (t : Int32 × Int32) => [(0, .ref x0), (2, .int t.1), (3, .int t.2)]) [1, 3, 0] rfl (fun t => ?_)
  exact j_X8_many_L141 D dA x0 t.1 t.2
noncomputable def X8_many_b128 (x0 : Nat) (x1 : Int32) (x2 : Int32) (x3 : Int32) : JM Mem (Int32 ⊕ (Int32 × Int32)) :=
  jcont (x2, x3 + 1)
theorem j_X8_many_b128 (D : va_G) (dA : Nat → ClassId) (x0 : Nat) (x1 : Int32) (x2 : Int32) (x3 : Int32) : J (PM D dA false) Y_X8_many [(0, .ref x0), (1, .int x1), (2, .int x2), (3, .int x3)] [] 128 (X8_many_b128 x0 x1 x2 x3) (FLoop (FRet injI) 62 (fun (t : Int32 × Int32) => [(0, .ref x0), (1, .int x1), (2, .int t.1), (3, .int t.2)])) := by
  unfold X8_many_b128
  refine J_iinc (v := x3 + 1) (env' := [(3, .int (x3 + 1)), (0, .ref x0), (1, .int x1), (2, .int x2)]) dX8_many_128 3 rfl rfl (by decide) rfl ?_
  refine J_goto (tgt := 62) dX8_many_131 rfl ?_
  exact J_cont [1, 2, 3, 0] rfl
noncomputable def X8_many_b122 (x0 : Nat) (x1 : Int32) (x2 : Int32) (x3 : Int32) (x4 : Int32) : JM Mem ((Int32 ⊕ (Int32 × Int32)) ⊕ (Int32 × Int32)) :=
  jcont (x2, x4 + 1)
theorem j_X8_many_b122 (D : va_G) (dA : Nat → ClassId) (x0 : Nat) (x1 : Int32) (x2 : Int32) (x3 : Int32) (x4 : Int32) : J (PM D dA false) Y_X8_many [(0, .ref x0), (1, .int x1), (2, .int x2), (3, .int x3), (4, .int x4)] [] 122 (X8_many_b122 x0 x1 x2 x3 x4) (FLoop (FLoop (FRet injI) 62 (fun (t : Int32 × Int32) => [(0, .ref x0), (1, .int x1), (2, .int t.1), (3, .int t.2)])) 75 (fun (t : Int32 × Int32) => [(0, .ref x0), (1, .int x1), (2, .int t.1), (3, .int x3), (4, .int t.2)])) := by
  unfold X8_many_b122
  refine J_iinc (v := x4 + 1) (env' := [(4, .int (x4 + 1)), (0, .ref x0), (1, .int x1), (2, .int x2), (3, .int x3)]) dX8_many_122 4 rfl rfl (by decide) rfl ?_
  refine J_goto (tgt := 75) dX8_many_125 rfl ?_
  exact J_cont [1, 2, 3, 4, 0] rfl
noncomputable def X8_many_b114 (x0 : Nat) (x1 : Int32) (x3 : Int32) (x4 : Int32) (x5 : Int32) (s0 : Int32) (s1 : Int32) : JM Mem (((Int32 ⊕ (Int32 × Int32)) ⊕ (Int32 × Int32)) ⊕ (Int32 × Int32)) :=
  jlet (s0 + s1) fun y10 =>
  jcont (y10, x5 + 1)
theorem j_X8_many_b114 (D : va_G) (dA : Nat → ClassId) (x0 : Nat) (x1 : Int32) (x3 : Int32) (x4 : Int32) (x5 : Int32) (s0 : Int32) (s1 : Int32) : J (PM D dA false) Y_X8_many [(0, .ref x0), (1, .int x1), (3, .int x3), (4, .int x4), (5, .int x5)] [.int s1, .int s0] 114 (X8_many_b114 x0 x1 x3 x4 x5 s0 s1) (FLoop (FLoop (FLoop (FRet injI) 62 (fun (t : Int32 × Int32) => [(0, .ref x0), (1, .int x1), (2, .int t.1), (3, .int t.2)])) 75 (fun (t : Int32 × Int32) => [(0, .ref x0), (1, .int x1), (2, .int t.1), (3, .int x3), (4, .int t.2)])) 87 (fun (t : Int32 × Int32) => [(0, .ref x0), (1, .int x1), (2, .int t.1), (3, .int x3), (4, .int x4), (5, .int t.2)])) := by
  unfold X8_many_b114
  refine J_iadd dX8_many_114 ?_
  refine J_letI (fun y10 => ?_)
  refine J_istore_n (env' := [(2, .int y10), (0, .ref x0), (1, .int x1), (3, .int x3), (4, .int x4), (5, .int x5)]) dX8_many_115 rfl (by decide) rfl ?_
  refine J_iinc (v := x5 + 1) (env' := [(5, .int (x5 + 1)), (2, .int y10), (0, .ref x0), (1, .int x1), (3, .int x3), (4, .int x4)]) dX8_many_116 5 rfl rfl (by decide) rfl ?_
  refine J_goto (tgt := 87) dX8_many_119 rfl ?_
  exact J_cont [2, 3, 1, 4, 5, 0] rfl
noncomputable def X8_many_L87 (x0 : Nat) (x1 : Int32) (x3 : Int32) (x4 : Int32) (x2 : Int32) (x5 : Int32) : JM Mem (((Int32 ⊕ (Int32 × Int32)) ⊕ (Int32 × Int32)) ⊕ (Int32 × Int32)) :=
  jb (jgetI 7 27 x0) fun v8 =>
  if v8 ≤ x5 then
    jinl (X8_many_b122 x0 x1 x2 x3 x4)
  else
  jb (jcall 7 x0 (f_X8_table x0 x3 x4 x5)) fun v9 =>
  if v9 = 0 then
    X8_many_b114 x0 x1 x3 x4 x5 x2 0
  else
    X8_many_b114 x0 x1 x3 x4 x5 x2 1
theorem j_X8_many_L87 (D : va_G) (dA : Nat → ClassId) (x0 : Nat) (x1 : Int32) (x3 : Int32) (x4 : Int32) (x2 : Int32) (x5 : Int32) : J (PM D dA false) Y_X8_many [(0, .ref x0), (1, .int x1), (2, .int x2), (3, .int x3), (4, .int x4), (5, .int x5)] [] 87 (X8_many_L87 x0 x1 x3 x4 x2 x5) (FLoop (FLoop (FLoop (FRet injI) 62 (fun (t : Int32 × Int32) => [(0, .ref x0), (1, .int x1), (2, .int t.1), (3, .int t.2)])) 75 (fun (t : Int32 × Int32) => [(0, .ref x0), (1, .int x1), (2, .int t.1), (3, .int x3), (4, .int t.2)])) 87 (fun (t : Int32 × Int32) => [(0, .ref x0), (1, .int x1), (2, .int t.1), (3, .int x3), (4, .int x4), (5, .int t.2)])) := by
  unfold X8_many_L87
  refine J_iload dX8_many_87 5 rfl ?_
  refine J_aload_n dX8_many_89 rfl 0 rfl ?_
  refine J_getI dX8_many_90 fl_X8_253 rfl (fun v8 => ?_)
  refine J_icmp_ge (tgt := 122) dX8_many_93 rfl ?_ ?_
  · refine J_inl ?_
    refine J_sub [0, 1, 2, 3, 4] rfl ?_
    exact j_X8_many_b122 D dA x0 x1 x2 x3 x4
  refine J_iload_n dX8_many_96 rfl 2 rfl ?_
  refine J_aload_n dX8_many_97 rfl 0 rfl ?_
  refine J_iload_n dX8_many_98 rfl 3 rfl ?_
  refine J_iload dX8_many_99 4 rfl ?_
  refine J_iload dX8_many_101 5 rfl ?_
  refine J_callVI (c := 7) (as := [.int x3, .int x4, .int x5]) dX8_many_103 (by decide) rfl (Nat.le_of_ble_eq_true rfl) (cw_X8_table _ (by decide)) q1875 q1877 qs91 q1878 np_X8_table (i_X8_table x0 x3 x4 x5) jad_id rfl (fun v9 => ?_)
  refine J_if_ne (tgt := 113) dX8_many_106 rfl ?_ ?_
  · refine J_iconst (v := 1) dX8_many_113 (by decide) ?_
    refine J_sub [0, 1, 3, 4, 5] rfl ?_
    exact j_X8_many_b114 D dA x0 x1 x3 x4 x5 x2 1
  refine J_iconst (v := 0) dX8_many_109 (by decide) ?_
  refine J_goto (tgt := 114) dX8_many_110 rfl ?_
  refine J_sub [0, 1, 3, 4, 5] rfl ?_
  exact j_X8_many_b114 D dA x0 x1 x3 x4 x5 x2 0
noncomputable def X8_many_L75 (x0 : Nat) (x1 : Int32) (x3 : Int32) (x2 : Int32) (x4 : Int32) : JM Mem ((Int32 ⊕ (Int32 × Int32)) ⊕ (Int32 × Int32)) :=
  jb (jgetI 7 27 x0) fun v7 =>
  if v7 ≤ x4 then
    jinl (X8_many_b128 x0 x1 x2 x3)
  else
    jloop (fun (t : Int32 × Int32) => X8_many_L87 x0 x1 x3 x4 t.1 t.2) (x2, 0)
theorem j_X8_many_L75 (D : va_G) (dA : Nat → ClassId) (x0 : Nat) (x1 : Int32) (x3 : Int32) (x2 : Int32) (x4 : Int32) : J (PM D dA false) Y_X8_many [(0, .ref x0), (1, .int x1), (2, .int x2), (3, .int x3), (4, .int x4)] [] 75 (X8_many_L75 x0 x1 x3 x2 x4) (FLoop (FLoop (FRet injI) 62 (fun (t : Int32 × Int32) => [(0, .ref x0), (1, .int x1), (2, .int t.1), (3, .int t.2)])) 75 (fun (t : Int32 × Int32) => [(0, .ref x0), (1, .int x1), (2, .int t.1), (3, .int x3), (4, .int t.2)])) := by
  unfold X8_many_L75
  refine J_iload dX8_many_75 4 rfl ?_
  refine J_aload_n dX8_many_77 rfl 0 rfl ?_
  refine J_getI dX8_many_78 fl_X8_253 rfl (fun v7 => ?_)
  refine J_icmp_ge (tgt := 128) dX8_many_81 rfl ?_ ?_
  · refine J_inl ?_
    refine J_sub [0, 1, 2, 3] rfl ?_
    exact j_X8_many_b128 D dA x0 x1 x2 x3
  refine J_iconst (v := 0) dX8_many_84 (by decide) ?_
  refine J_istore (env' := [(5, .int 0), (0, .ref x0), (1, .int x1), (2, .int x2), (3, .int x3), (4, .int x4)]) dX8_many_85 (by decide) rfl ?_
  refine J_loop (he := fun (t : Int32 × Int32) => [(0, .ref x0), (1, .int x1), (2, .int t.1), (3, .int x3), (4, .int x4), (5, .int t.2)]) [1, 2, 3, 4, 5, 0] rfl (fun t => ?_)
  exact j_X8_many_L87 D dA x0 x1 x3 x4 t.1 t.2
noncomputable def X8_many_L62 (x0 : Nat) (x1 : Int32) (x2 : Int32) (x3 : Int32) : JM Mem (Int32 ⊕ (Int32 × Int32)) :=
  jb (jgetI 7 27 x0) fun v5 =>
  if v5 ≤ x3 then
    jinl (X8_many_b134 x0 x1 x2)
  else
  jlet (x3 + 1) fun y6 =>
  jloop (fun (t : Int32 × Int32) => X8_many_L75 x0 x1 x3 t.1 t.2) (x2, y6)
theorem j_X8_many_L62 (D : va_G) (dA : Nat → ClassId) (x0 : Nat) (x1 : Int32) (x2 : Int32) (x3 : Int32) : J (PM D dA false) Y_X8_many [(0, .ref x0), (1, .int x1), (2, .int x2), (3, .int x3)] [] 62 (X8_many_L62 x0 x1 x2 x3) (FLoop (FRet injI) 62 (fun (t : Int32 × Int32) => [(0, .ref x0), (1, .int x1), (2, .int t.1), (3, .int t.2)])) := by
  unfold X8_many_L62
  refine J_iload_n dX8_many_62 rfl 3 rfl ?_
  refine J_aload_n dX8_many_63 rfl 0 rfl ?_
  refine J_getI dX8_many_64 fl_X8_253 rfl (fun v5 => ?_)
  refine J_icmp_ge (tgt := 134) dX8_many_67 rfl ?_ ?_
  · refine J_inl ?_
    refine J_sub [0, 1, 2] rfl ?_
    exact j_X8_many_b134 D dA x0 x1 x2
  refine J_iload_n dX8_many_70 rfl 3 rfl ?_
  refine J_iconst (v := 1) dX8_many_71 (by decide) ?_
  refine J_iadd dX8_many_72 ?_
  refine J_letI (fun y6 => ?_)
  refine J_istore (env' := [(4, .int y6), (0, .ref x0), (1, .int x1), (2, .int x2), (3, .int x3)]) dX8_many_73 (by decide) rfl ?_
  refine J_loop (he := fun (t : Int32 × Int32) => [(0, .ref x0), (1, .int x1), (2, .int t.1), (3, .int x3), (4, .int t.2)]) [1, 2, 3, 4, 0] rfl (fun t => ?_)
  exact j_X8_many_L75 D dA x0 x1 x3 t.1 t.2
noncomputable def f_X8_many (x0 : Nat) (x1 : Int32) : JM Mem Int32 :=
  jb (jputI 7 1 x0 0) fun _ =>
  jb (jputI 7 0 x0 0) fun _ =>
  jb (jcall 7 x0 (f_X8_askNow x0)) fun _ =>
  jb ((f_X8_isIn ((x1 : Int32).toInt64) 0 3)) fun v1 =>
  if v1 = 0 then
    jb (jcall 7 x0 (f_X8_refuse x0 5)) fun v13 =>
    jp v13
  else
  if 2 ≤ x1 then
    if x1 = 2 then
      jloop (fun (t : Int32 × Int32) => X8_many_L62 x0 x1 t.1 t.2) (0, 0)
    else
      X8_many_b134 x0 x1 0
  else
  if x1 = 0 then
    jb (jgetI 7 26 x0) fun v12 =>
    jp v12
  else
  jb (jgetI 7 27 x0) fun v11 =>
  jp v11
theorem j_X8_many (D : va_G) (dA : Nat → ClassId) (x0 : Nat) (x1 : Int32) : J (PM D dA false) Y_X8_many [(0, .ref x0), (1, .int x1)] [] 0 (f_X8_many x0 x1) (FRet injI) := by
  unfold f_X8_many
  refine J_aload_n dX8_many_0 rfl 0 rfl ?_
  refine J_iconst (v := 0) dX8_many_1 (by decide) ?_
  refine J_putI dX8_many_2 ⟨fl_X8_132, Or.inl rfl⟩ rfl ?_
  refine J_aload_n dX8_many_5 rfl 0 rfl ?_
  refine J_iconst (v := 0) dX8_many_6 (by decide) ?_
  refine J_putI dX8_many_7 ⟨fl_X8_135, Or.inl rfl⟩ rfl ?_
  refine J_aload_n dX8_many_10 rfl 0 rfl ?_
  refine J_callVV (c := 7) (as := []) dX8_many_11 (by decide) rfl (Nat.le_of_ble_eq_true rfl) (cw_X8_askNow _ (by decide)) q1862 q1864 qs88 q1865 np_X8_askNow (i_X8_askNow x0) jad_id rfl ?_
  refine J_iload_n dX8_many_14 rfl 1 rfl ?_
  refine J_i2l dX8_many_15 ?_
  refine J_lconst (v := 0) dX8_many_16 (by decide) ?_
  refine J_ldc2 dX8_many_17 q1870 ?_
  refine J_callSI (host := "") (as := [.long ((x1 : Int32).toInt64), .long 0, .long 3]) dX8_many_20 rfl (Nat.le_of_ble_eq_true rfl) (cw_X8_isIn _ (by decide)) q1801 q1802 q1803 np_X8_isIn (i_X8_isIn ((x1 : Int32).toInt64) 0 3) jad_id rfl (fun v1 => ?_)
  refine J_if_ne (tgt := 32) dX8_many_23 rfl ?_ ?_
  · refine J_iload_n dX8_many_32 rfl 1 rfl ?_
    refine J_iconst (v := 2) dX8_many_33 (by decide) ?_
    refine J_icmp_ge (tgt := 53) dX8_many_34 rfl ?_ ?_
    · refine J_iconst (v := 0) dX8_many_53 (by decide) ?_
      refine J_istore_n (env' := [(2, .int 0), (0, .ref x0), (1, .int x1)]) dX8_many_54 rfl (by decide) rfl ?_
      refine J_iload_n dX8_many_55 rfl 2 rfl ?_
      refine J_iconst (v := 2) dX8_many_56 (by decide) ?_
      refine J_icmp_ne (tgt := 134) dX8_many_57 rfl ?_ ?_
      · refine J_sub [1, 2, 0] rfl ?_
        exact j_X8_many_b134 D dA x0 x1 0
      refine J_iconst (v := 0) dX8_many_60 (by decide) ?_
      refine J_istore_n (env' := [(3, .int 0), (2, .int 0), (0, .ref x0), (1, .int x1)]) dX8_many_61 rfl (by decide) rfl ?_
      refine J_loop (he := fun (t : Int32 × Int32) => [(0, .ref x0), (1, .int x1), (2, .int t.1), (3, .int t.2)]) [2, 3, 1, 0] rfl (fun t => ?_)
      exact j_X8_many_L62 D dA x0 x1 t.1 t.2
    refine J_iload_n dX8_many_37 rfl 1 rfl ?_
    refine J_if_ne (tgt := 48) dX8_many_38 rfl ?_ ?_
    · refine J_aload_n dX8_many_48 rfl 0 rfl ?_
      refine J_getI dX8_many_49 fl_X8_253 rfl (fun v11 => ?_)
      exact J_ireturn dX8_many_52 rfl
    refine J_aload_n dX8_many_41 rfl 0 rfl ?_
    refine J_getI dX8_many_42 fl_X8_250 rfl (fun v12 => ?_)
    refine J_goto (tgt := 52) dX8_many_45 rfl ?_
    exact J_ireturn dX8_many_52 rfl
  refine J_aload_n dX8_many_26 rfl 0 rfl ?_
  refine J_iconst (v := 5) dX8_many_27 (by decide) ?_
  refine J_callVI (c := 7) (as := [.int 5]) dX8_many_28 (by decide) rfl (Nat.le_of_ble_eq_true rfl) (cw_X8_refuse _ (by decide)) q1871 q1873 qs90 q1874 np_X8_refuse (i_X8_refuse x0 5) jad_id rfl (fun v13 => ?_)
  exact J_ireturn dX8_many_31 rfl
theorem i_X8_many (x0 : Nat) (x1 : Int32) : Impl (ws_ yX8_many cX8_many 6 (some .int)) yX8_many 3 false 0 0 [.ref x0, .int x1] (f_X8_many x0 x1) injI := impl_of (plainFor_of_name (by decide)) (Nat.le_of_ble_eq_true rfl) (fun D dA => j_X8_many D dA x0 x1)
theorem cw_X8_many (Y : JY) (h : 4 ≤ Y.2.2.2.1) : JCw Y (ws_ yX8_many cX8_many 6 (some .int)) yX8_many cX8_many 6 (some .int) 3 := ⟨h, by decide, lw_meth q1861, q198, by decide, by decide⟩
theorem np_X8_many : JNp yX8_many.desc 1 := by decide +kernel
-- BracketRoomModel.isBase(I)Z
abbrev Y_X8_isBase : JY := (cX8_isBase, yX8_isBase.cls, 2, 2, yX8_isBase.name, (some .boolean), [])
noncomputable def f_X8_isBase (x0 : Nat) (x1 : Int32) : JM Mem Int32 :=
  jb (jgetI 7 27 x0) fun v1 =>
  jb ((f_X8_isIn ((x1 : Int32).toInt64) 0 ((v1 - 1 : Int32).toInt64))) fun v2 =>
  jrz v2
theorem j_X8_isBase (D : va_G) (dA : Nat → ClassId) (x0 : Nat) (x1 : Int32) : J (PM D dA false) Y_X8_isBase [(0, .ref x0), (1, .int x1)] [] 0 (f_X8_isBase x0 x1) (FRet injI) := by
  unfold f_X8_isBase
  refine J_iload_n dX8_isBase_0 rfl 1 rfl ?_
  refine J_i2l dX8_isBase_1 ?_
  refine J_lconst (v := 0) dX8_isBase_2 (by decide) ?_
  refine J_aload_n dX8_isBase_3 rfl 0 rfl ?_
  refine J_getI dX8_isBase_4 fl_X8_253 rfl (fun v1 => ?_)
  refine J_iconst (v := 1) dX8_isBase_7 (by decide) ?_
  refine J_isub dX8_isBase_8 ?_
  refine J_i2l dX8_isBase_9 ?_
  refine J_callSI (host := "") (as := [.long ((x1 : Int32).toInt64), .long 0, .long ((v1 - 1 : Int32).toInt64)]) dX8_isBase_10 rfl (Nat.le_of_ble_eq_true rfl) (cw_X8_isIn _ (by decide)) q1801 q1802 q1803 np_X8_isIn (i_X8_isIn ((x1 : Int32).toInt64) 0 ((v1 - 1 : Int32).toInt64)) jad_id rfl (fun v2 => ?_)
  exact J_zreturn dX8_isBase_13 rfl
theorem i_X8_isBase (x0 : Nat) (x1 : Int32) : Impl (ws_ yX8_isBase cX8_isBase 2 (some .boolean)) yX8_isBase 2 false 0 0 [.ref x0, .int x1] (f_X8_isBase x0 x1) injI := impl_of (plainFor_of_name (by decide)) (Nat.le_of_ble_eq_true rfl) (fun D dA => j_X8_isBase D dA x0 x1)
theorem cw_X8_isBase (Y : JY) (h : 3 ≤ Y.2.2.2.1) : JCw Y (ws_ yX8_isBase cX8_isBase 2 (some .boolean)) yX8_isBase cX8_isBase 2 (some .boolean) 2 := ⟨h, by decide, lw_meth q1886, q198, by decide, by decide⟩
theorem np_X8_isBase : JNp yX8_isBase.desc 1 := by decide +kernel
-- BracketRoomModel.constant(III)I
abbrev Y_X8_constant : JY := (cX8_constant, yX8_constant.cls, 4, 3, yX8_constant.name, (some .int), [])
noncomputable def X8_constant_b48 (x0 : Nat) : JM Mem Int32 :=
  jb (jcall 7 x0 (f_X8_refuse x0 2)) fun v2 =>
  jp v2
theorem j_X8_constant_b48 (D : va_G) (dA : Nat → ClassId) (x0 : Nat) : J (PM D dA false) Y_X8_constant [(0, .ref x0)] [] 48 (X8_constant_b48 x0) (FRet injI) := by
  unfold X8_constant_b48
  refine J_aload_n dX8_constant_48 rfl 0 rfl ?_
  refine J_iconst (v := 2) dX8_constant_49 (by decide) ?_
  refine J_callVI (c := 7) (as := [.int 2]) dX8_constant_50 (by decide) rfl (Nat.le_of_ble_eq_true rfl) (cw_X8_refuse _ (by decide)) q1871 q1873 qs90 q1874 np_X8_refuse (i_X8_refuse x0 2) jad_id rfl (fun v2 => ?_)
  exact J_ireturn dX8_constant_53 rfl
noncomputable def f_X8_constant (x0 : Nat) (x1 : Int32) (x2 : Int32) (x3 : Int32) : JM Mem Int32 :=
  jb (jputI 7 1 x0 0) fun _ =>
  jb (jputI 7 0 x0 0) fun _ =>
  jb (jcall 7 x0 (f_X8_askNow x0)) fun _ =>
  jb (jcall 7 x0 (f_X8_isBase x0 x1)) fun v1 =>
  if v1 = 0 then
    X8_constant_b48 x0
  else
  jb (jcall 7 x0 (f_X8_isBase x0 x2)) fun v3 =>
  if v3 = 0 then
    X8_constant_b48 x0
  else
  jb (jcall 7 x0 (f_X8_isBase x0 x3)) fun v4 =>
  if v4 = 0 then
    X8_constant_b48 x0
  else
  jb (jcall 7 x0 (f_X8_table x0 x1 x2 x3)) fun v5 =>
  jp v5
theorem j_X8_constant (D : va_G) (dA : Nat → ClassId) (x0 : Nat) (x1 : Int32) (x2 : Int32) (x3 : Int32) : J (PM D dA false) Y_X8_constant [(0, .ref x0), (1, .int x1), (2, .int x2), (3, .int x3)] [] 0 (f_X8_constant x0 x1 x2 x3) (FRet injI) := by
  unfold f_X8_constant
  refine J_aload_n dX8_constant_0 rfl 0 rfl ?_
  refine J_iconst (v := 0) dX8_constant_1 (by decide) ?_
  refine J_putI dX8_constant_2 ⟨fl_X8_132, Or.inl rfl⟩ rfl ?_
  refine J_aload_n dX8_constant_5 rfl 0 rfl ?_
  refine J_iconst (v := 0) dX8_constant_6 (by decide) ?_
  refine J_putI dX8_constant_7 ⟨fl_X8_135, Or.inl rfl⟩ rfl ?_
  refine J_aload_n dX8_constant_10 rfl 0 rfl ?_
  refine J_callVV (c := 7) (as := []) dX8_constant_11 (by decide) rfl (Nat.le_of_ble_eq_true rfl) (cw_X8_askNow _ (by decide)) q1862 q1864 qs88 q1865 np_X8_askNow (i_X8_askNow x0) jad_id rfl ?_
  refine J_aload_n dX8_constant_14 rfl 0 rfl ?_
  refine J_iload_n dX8_constant_15 rfl 1 rfl ?_
  refine J_callVI (c := 7) (as := [.int x1]) dX8_constant_16 (by decide) rfl (Nat.le_of_ble_eq_true rfl) (cw_X8_isBase _ (by decide)) q1883 q1885 qs92 q1886 np_X8_isBase (i_X8_isBase x0 x1) jad_id rfl (fun v1 => ?_)
  refine J_if_eq (tgt := 48) dX8_constant_19 rfl ?_ ?_
  · refine J_sub [0] rfl ?_
    exact j_X8_constant_b48 D dA x0
  refine J_aload_n dX8_constant_22 rfl 0 rfl ?_
  refine J_iload_n dX8_constant_23 rfl 2 rfl ?_
  refine J_callVI (c := 7) (as := [.int x2]) dX8_constant_24 (by decide) rfl (Nat.le_of_ble_eq_true rfl) (cw_X8_isBase _ (by decide)) q1883 q1885 qs92 q1886 np_X8_isBase (i_X8_isBase x0 x2) jad_id rfl (fun v3 => ?_)
  refine J_if_eq (tgt := 48) dX8_constant_27 rfl ?_ ?_
  · refine J_sub [0] rfl ?_
    exact j_X8_constant_b48 D dA x0
  refine J_aload_n dX8_constant_30 rfl 0 rfl ?_
  refine J_iload_n dX8_constant_31 rfl 3 rfl ?_
  refine J_callVI (c := 7) (as := [.int x3]) dX8_constant_32 (by decide) rfl (Nat.le_of_ble_eq_true rfl) (cw_X8_isBase _ (by decide)) q1883 q1885 qs92 q1886 np_X8_isBase (i_X8_isBase x0 x3) jad_id rfl (fun v4 => ?_)
  refine J_if_eq (tgt := 48) dX8_constant_35 rfl ?_ ?_
  · refine J_sub [0] rfl ?_
    exact j_X8_constant_b48 D dA x0
  refine J_aload_n dX8_constant_38 rfl 0 rfl ?_
  refine J_iload_n dX8_constant_39 rfl 1 rfl ?_
  refine J_iload_n dX8_constant_40 rfl 2 rfl ?_
  refine J_iload_n dX8_constant_41 rfl 3 rfl ?_
  refine J_callVI (c := 7) (as := [.int x1, .int x2, .int x3]) dX8_constant_42 (by decide) rfl (Nat.le_of_ble_eq_true rfl) (cw_X8_table _ (by decide)) q1875 q1877 qs91 q1878 np_X8_table (i_X8_table x0 x1 x2 x3) jad_id rfl (fun v5 => ?_)
  refine J_goto (tgt := 53) dX8_constant_45 rfl ?_
  exact J_ireturn dX8_constant_53 rfl
theorem i_X8_constant (x0 : Nat) (x1 : Int32) (x2 : Int32) (x3 : Int32) : Impl (ws_ yX8_constant cX8_constant 4 (some .int)) yX8_constant 3 false 0 0 [.ref x0, .int x1, .int x2, .int x3] (f_X8_constant x0 x1 x2 x3) injI := impl_of (plainFor_of_name (by decide)) (Nat.le_of_ble_eq_true rfl) (fun D dA => j_X8_constant D dA x0 x1 x2 x3)
theorem cw_X8_constant (Y : JY) (h : 4 ≤ Y.2.2.2.1) : JCw Y (ws_ yX8_constant cX8_constant 4 (some .int)) yX8_constant cX8_constant 4 (some .int) 3 := ⟨h, by decide, lw_meth q1882, q198, by decide, by decide⟩
theorem np_X8_constant : JNp yX8_constant.desc 3 := by decide +kernel
-- BracketRoomModel.put(IIII)Z
abbrev Y_X8_put : JY := (cX8_put, yX8_put.cls, 5, 3, yX8_put.name, (some .boolean), [])
noncomputable def X8_put_b38 (x0 : Nat) : JM Mem Int32 :=
  jb (jcall 7 x0 (f_X8_no x0 2)) fun v2 =>
  jrz v2
theorem j_X8_put_b38 (D : va_G) (dA : Nat → ClassId) (x0 : Nat) : J (PM D dA false) Y_X8_put [(0, .ref x0)] [] 38 (X8_put_b38 x0) (FRet injI) := by
  unfold X8_put_b38
  refine J_aload_n dX8_put_38 rfl 0 rfl ?_
  refine J_iconst (v := 2) dX8_put_39 (by decide) ?_
  refine J_callVI (c := 7) (as := [.int 2]) dX8_put_40 (by decide) rfl (Nat.le_of_ble_eq_true rfl) (cw_X8_no _ (by decide)) q1702 q1704 qs64 q1705 np_X8_no (i_X8_no x0 2) jad_id rfl (fun v2 => ?_)
  exact J_zreturn dX8_put_43 rfl
noncomputable def X8_put_b66 (x0 : Nat) : JM Mem Int32 :=
  jb (jcall 7 x0 (f_X8_no x0 5)) fun v5 =>
  jrz v5
theorem j_X8_put_b66 (D : va_G) (dA : Nat → ClassId) (x0 : Nat) : J (PM D dA false) Y_X8_put [(0, .ref x0)] [] 66 (X8_put_b66 x0) (FRet injI) := by
  unfold X8_put_b66
  refine J_aload_n dX8_put_66 rfl 0 rfl ?_
  refine J_iconst (v := 5) dX8_put_67 (by decide) ?_
  refine J_callVI (c := 7) (as := [.int 5]) dX8_put_68 (by decide) rfl (Nat.le_of_ble_eq_true rfl) (cw_X8_no _ (by decide)) q1702 q1704 qs64 q1705 np_X8_no (i_X8_no x0 5) jad_id rfl (fun v5 => ?_)
  exact J_zreturn dX8_put_71 rfl
noncomputable def f_X8_put (x0 : Nat) (x1 : Int32) (x2 : Int32) (x3 : Int32) (x4 : Int32) : JM Mem Int32 :=
  jb (jputI 7 1 x0 0) fun _ =>
  jb (jputI 7 0 x0 0) fun _ =>
  jb (jcall 7 x0 (f_X8_askNow x0)) fun _ =>
  jb (jcall 7 x0 (f_X8_isBase x0 x1)) fun v1 =>
  if v1 = 0 then
    X8_put_b38 x0
  else
  jb (jcall 7 x0 (f_X8_isBase x0 x2)) fun v3 =>
  if v3 = 0 then
    X8_put_b38 x0
  else
  jb (jcall 7 x0 (f_X8_isBase x0 x3)) fun v4 =>
  if v4 = 0 then
    X8_put_b38 x0
  else
  if x2 ≤ x1 then
    X8_put_b66 x0
  else
  jb (jgetI 7 26 x0) fun v6 =>
  jb ((f_X8_isIn ((x4 : Int32).toInt64) 0 ((v6 - 1 : Int32).toInt64))) fun v7 =>
  if v7 = 0 then
    X8_put_b66 x0
  else
  jb (jgetA 7 19 x0) fun v8 =>
  jb ((f_X8_set v8 0 x1 x2 x3 x4)) fun _ =>
  jp 1
theorem j_X8_put (D : va_G) (dA : Nat → ClassId) (x0 : Nat) (x1 : Int32) (x2 : Int32) (x3 : Int32) (x4 : Int32) : J (PM D dA false) Y_X8_put [(0, .ref x0), (1, .int x1), (2, .int x2), (3, .int x3), (4, .int x4)] [] 0 (f_X8_put x0 x1 x2 x3 x4) (FRet injI) := by
  unfold f_X8_put
  refine J_aload_n dX8_put_0 rfl 0 rfl ?_
  refine J_iconst (v := 0) dX8_put_1 (by decide) ?_
  refine J_putI dX8_put_2 ⟨fl_X8_132, Or.inl rfl⟩ rfl ?_
  refine J_aload_n dX8_put_5 rfl 0 rfl ?_
  refine J_iconst (v := 0) dX8_put_6 (by decide) ?_
  refine J_putI dX8_put_7 ⟨fl_X8_135, Or.inl rfl⟩ rfl ?_
  refine J_aload_n dX8_put_10 rfl 0 rfl ?_
  refine J_callVV (c := 7) (as := []) dX8_put_11 (by decide) rfl (Nat.le_of_ble_eq_true rfl) (cw_X8_askNow _ (by decide)) q1862 q1864 qs88 q1865 np_X8_askNow (i_X8_askNow x0) jad_id rfl ?_
  refine J_aload_n dX8_put_14 rfl 0 rfl ?_
  refine J_iload_n dX8_put_15 rfl 1 rfl ?_
  refine J_callVI (c := 7) (as := [.int x1]) dX8_put_16 (by decide) rfl (Nat.le_of_ble_eq_true rfl) (cw_X8_isBase _ (by decide)) q1883 q1885 qs92 q1886 np_X8_isBase (i_X8_isBase x0 x1) jad_id rfl (fun v1 => ?_)
  refine J_if_eq (tgt := 38) dX8_put_19 rfl ?_ ?_
  · refine J_sub [0] rfl ?_
    exact j_X8_put_b38 D dA x0
  refine J_aload_n dX8_put_22 rfl 0 rfl ?_
  refine J_iload_n dX8_put_23 rfl 2 rfl ?_
  refine J_callVI (c := 7) (as := [.int x2]) dX8_put_24 (by decide) rfl (Nat.le_of_ble_eq_true rfl) (cw_X8_isBase _ (by decide)) q1883 q1885 qs92 q1886 np_X8_isBase (i_X8_isBase x0 x2) jad_id rfl (fun v3 => ?_)
  refine J_if_eq (tgt := 38) dX8_put_27 rfl ?_ ?_
  · refine J_sub [0] rfl ?_
    exact j_X8_put_b38 D dA x0
  refine J_aload_n dX8_put_30 rfl 0 rfl ?_
  refine J_iload_n dX8_put_31 rfl 3 rfl ?_
  refine J_callVI (c := 7) (as := [.int x3]) dX8_put_32 (by decide) rfl (Nat.le_of_ble_eq_true rfl) (cw_X8_isBase _ (by decide)) q1883 q1885 qs92 q1886 np_X8_isBase (i_X8_isBase x0 x3) jad_id rfl (fun v4 => ?_)
  refine J_if_ne (tgt := 44) dX8_put_35 rfl ?_ ?_
  · refine J_iload_n dX8_put_44 rfl 1 rfl ?_
    refine J_iload_n dX8_put_45 rfl 2 rfl ?_
    refine J_icmp_ge (tgt := 66) dX8_put_46 rfl ?_ ?_
    · refine J_sub [0] rfl ?_
      exact j_X8_put_b66 D dA x0
    refine J_iload dX8_put_49 4 rfl ?_
    refine J_i2l dX8_put_51 ?_
    refine J_lconst (v := 0) dX8_put_52 (by decide) ?_
    refine J_aload_n dX8_put_53 rfl 0 rfl ?_
    refine J_getI dX8_put_54 fl_X8_250 rfl (fun v6 => ?_)
    refine J_iconst (v := 1) dX8_put_57 (by decide) ?_
    refine J_isub dX8_put_58 ?_
    refine J_i2l dX8_put_59 ?_
    refine J_callSI (host := "") (as := [.long ((x4 : Int32).toInt64), .long 0, .long ((v6 - 1 : Int32).toInt64)]) dX8_put_60 rfl (Nat.le_of_ble_eq_true rfl) (cw_X8_isIn _ (by decide)) q1801 q1802 q1803 np_X8_isIn (i_X8_isIn ((x4 : Int32).toInt64) 0 ((v6 - 1 : Int32).toInt64)) jad_id rfl (fun v7 => ?_)
    refine J_if_ne (tgt := 72) dX8_put_63 rfl ?_ ?_
    · refine J_aload_n dX8_put_72 rfl 0 rfl ?_
      refine J_getA dX8_put_73 fl_X8_35 rfl (fun v8 => ?_)
      refine J_iconst (v := 0) dX8_put_76 (by decide) ?_
      refine J_iload_n dX8_put_77 rfl 1 rfl ?_
      refine J_iload_n dX8_put_78 rfl 2 rfl ?_
      refine J_iload_n dX8_put_79 rfl 3 rfl ?_
      refine J_iload dX8_put_80 4 rfl ?_
      refine J_callSV (host := "") (as := [.ref v8, .int 0, .int x1, .int x2, .int x3, .int x4]) dX8_put_82 rfl (Nat.le_of_ble_eq_true rfl) (cw_X8_set _ (by decide)) q1844 q1845 q1846 np_X8_set (i_X8_set v8 0 x1 x2 x3 x4) jad_id rfl ?_
      refine J_iconst (v := 1) dX8_put_85 (by decide) ?_
      exact J_zreturn1 dX8_put_86 rfl
    refine J_sub [0] rfl ?_
    exact j_X8_put_b66 D dA x0
  refine J_sub [0] rfl ?_
  exact j_X8_put_b38 D dA x0
theorem i_X8_put (x0 : Nat) (x1 : Int32) (x2 : Int32) (x3 : Int32) (x4 : Int32) : Impl (ws_ yX8_put cX8_put 5 (some .boolean)) yX8_put 3 false 0 0 [.ref x0, .int x1, .int x2, .int x3, .int x4] (f_X8_put x0 x1 x2 x3 x4) injI := impl_of (plainFor_of_name (by decide)) (Nat.le_of_ble_eq_true rfl) (fun D dA => j_X8_put D dA x0 x1 x2 x3 x4)
theorem cw_X8_put (Y : JY) (h : 4 ≤ Y.2.2.2.1) : JCw Y (ws_ yX8_put cX8_put 5 (some .boolean)) yX8_put cX8_put 5 (some .boolean) 3 := ⟨h, by decide, lw_meth q1890, q198, by decide, by decide⟩
theorem np_X8_put : JNp yX8_put.desc 4 := by decide +kernel
-- BracketRoomModel.powerOf(I)I
abbrev Y_X8_powerOf : JY := (cX8_powerOf, yX8_powerOf.cls, 4, 1, yX8_powerOf.name, (some .int), [])
noncomputable def X8_powerOf_L4 (x0 : Nat) (x1 : Int32) (x2 : Int32) (x3 : Int32) : JM Mem (Int32 ⊕ (Int32 × Int32)) :=
  if x1 ≤ x3 then
    jinl (jp x2)
  else
  jb (jgetI 7 26 x0) fun v1 =>
  jlet (x2 * v1) fun y2 =>
  jcont (y2, x3 + 1)
theorem j_X8_powerOf_L4 (D : va_G) (dA : Nat → ClassId) (x0 : Nat) (x1 : Int32) (x2 : Int32) (x3 : Int32) : J (PM D dA false) Y_X8_powerOf [(0, .ref x0), (1, .int x1), (2, .int x2), (3, .int x3)] [] 4 (X8_powerOf_L4 x0 x1 x2 x3) (FLoop (FRet injI) 4 (fun (t : Int32 × Int32) => [(0, .ref x0), (1, .int x1), (2, .int t.1), (3, .int t.2)])) := by
  unfold X8_powerOf_L4
  refine J_iload_n dX8_powerOf_4 rfl 3 rfl ?_
  refine J_iload_n dX8_powerOf_5 rfl 1 rfl ?_
  refine J_icmp_ge (tgt := 22) dX8_powerOf_6 rfl ?_ ?_
  · refine J_inl ?_
    refine J_iload_n dX8_powerOf_22 rfl 2 rfl ?_
    exact J_ireturn dX8_powerOf_23 rfl
  refine J_iload_n dX8_powerOf_9 rfl 2 rfl ?_
  refine J_aload_n dX8_powerOf_10 rfl 0 rfl ?_
  refine J_getI dX8_powerOf_11 fl_X8_250 rfl (fun v1 => ?_)
  refine J_imul dX8_powerOf_14 ?_
  refine J_letI (fun y2 => ?_)
  refine J_istore_n (env' := [(2, .int y2), (0, .ref x0), (1, .int x1), (3, .int x3)]) dX8_powerOf_15 rfl (by decide) rfl ?_
  refine J_iinc (v := x3 + 1) (env' := [(3, .int (x3 + 1)), (2, .int y2), (0, .ref x0), (1, .int x1)]) dX8_powerOf_16 3 rfl rfl (by decide) rfl ?_
  refine J_goto (tgt := 4) dX8_powerOf_19 rfl ?_
  exact J_cont [2, 3, 1, 0] rfl
noncomputable def f_X8_powerOf (x0 : Nat) (x1 : Int32) : JM Mem Int32 :=
  jloop (fun (t : Int32 × Int32) => X8_powerOf_L4 x0 x1 t.1 t.2) (1, 0)
theorem j_X8_powerOf (D : va_G) (dA : Nat → ClassId) (x0 : Nat) (x1 : Int32) : J (PM D dA false) Y_X8_powerOf [(0, .ref x0), (1, .int x1)] [] 0 (f_X8_powerOf x0 x1) (FRet injI) := by
  unfold f_X8_powerOf
  refine J_iconst (v := 1) dX8_powerOf_0 (by decide) ?_
  refine J_istore_n (env' := [(2, .int 1), (0, .ref x0), (1, .int x1)]) dX8_powerOf_1 rfl (by decide) rfl ?_
  refine J_iconst (v := 0) dX8_powerOf_2 (by decide) ?_
  refine J_istore_n (env' := [(3, .int 0), (2, .int 1), (0, .ref x0), (1, .int x1)]) dX8_powerOf_3 rfl (by decide) rfl ?_
  refine J_loop (he := fun (t : Int32 × Int32) => [(0, .ref x0), (1, .int x1), (2, .int t.1), (3, .int t.2)]) [2, 3, 1, 0] rfl (fun t => ?_)
  exact j_X8_powerOf_L4 D dA x0 x1 t.1 t.2
theorem i_X8_powerOf (x0 : Nat) (x1 : Int32) : Impl (ws_ yX8_powerOf cX8_powerOf 4 (some .int)) yX8_powerOf 1 false 0 0 [.ref x0, .int x1] (f_X8_powerOf x0 x1) injI := impl_of (plainFor_of_name (by decide)) (Nat.le_of_ble_eq_true rfl) (fun D dA => j_X8_powerOf D dA x0 x1)
theorem cw_X8_powerOf (Y : JY) (h : 2 ≤ Y.2.2.2.1) : JCw Y (ws_ yX8_powerOf cX8_powerOf 4 (some .int)) yX8_powerOf cX8_powerOf 4 (some .int) 1 := ⟨h, by decide, lw_meth q1906, q198, by decide, by decide⟩
theorem np_X8_powerOf : JNp yX8_powerOf.desc 1 := by decide +kernel
-- BracketRoomModel.vectors()I
abbrev Y_X8_vectors : JY := (cX8_vectors, yX8_vectors.cls, 1, 2, yX8_vectors.name, (some .int), [])
noncomputable def f_X8_vectors (x0 : Nat) : JM Mem Int32 :=
  jb (jgetI 7 27 x0) fun v1 =>
  jb (jcall 7 x0 (f_X8_powerOf x0 v1)) fun v2 =>
  jp v2
theorem j_X8_vectors (D : va_G) (dA : Nat → ClassId) (x0 : Nat) : J (PM D dA false) Y_X8_vectors [(0, .ref x0)] [] 0 (f_X8_vectors x0) (FRet injI) := by
  unfold f_X8_vectors
  refine J_aload_n dX8_vectors_0 rfl 0 rfl ?_
  refine J_aload_n dX8_vectors_1 rfl 0 rfl ?_
  refine J_getI dX8_vectors_2 fl_X8_253 rfl (fun v1 => ?_)
  refine J_callVI (c := 7) (as := [.int v1]) dX8_vectors_5 (by decide) rfl (Nat.le_of_ble_eq_true rfl) (cw_X8_powerOf _ (by decide)) q1903 q1905 qs95 q1906 np_X8_powerOf (i_X8_powerOf x0 v1) jad_id rfl (fun v2 => ?_)
  exact J_ireturn dX8_vectors_8 rfl
theorem i_X8_vectors (x0 : Nat) : Impl (ws_ yX8_vectors cX8_vectors 1 (some .int)) yX8_vectors 2 false 0 0 [.ref x0] (f_X8_vectors x0) injI := impl_of (plainFor_of_name (by decide)) (Nat.le_of_ble_eq_true rfl) (fun D dA => j_X8_vectors D dA x0)
theorem cw_X8_vectors (Y : JY) (h : 3 ≤ Y.2.2.2.1) : JCw Y (ws_ yX8_vectors cX8_vectors 1 (some .int)) yX8_vectors cX8_vectors 1 (some .int) 2 := ⟨h, by decide, lw_meth q1902, q198, by decide, by decide⟩
theorem np_X8_vectors : JNp yX8_vectors.desc 0 := by decide +kernel
-- BracketRoomModel.isVector(J)Z
abbrev Y_X8_isVector : JY := (cX8_isVector, yX8_isVector.cls, 3, 3, yX8_isVector.name, (some .boolean), [])
noncomputable def f_X8_isVector (x0 : Nat) (x1 : Int64) : JM Mem Int32 :=
  jb (jcall 7 x0 (f_X8_vectors x0)) fun v1 =>
  jb ((f_X8_isIn x1 0 ((v1 - 1 : Int32).toInt64))) fun v2 =>
  jrz v2
theorem j_X8_isVector (D : va_G) (dA : Nat → ClassId) (x0 : Nat) (x1 : Int64) : J (PM D dA false) Y_X8_isVector [(0, .ref x0), (1, .long x1)] [] 0 (f_X8_isVector x0 x1) (FRet injI) := by
  unfold f_X8_isVector
  refine J_lload_n dX8_isVector_0 rfl 1 rfl ?_
  refine J_lconst (v := 0) dX8_isVector_1 (by decide) ?_
  refine J_aload_n dX8_isVector_2 rfl 0 rfl ?_
  refine J_callVI (c := 7) (as := []) dX8_isVector_3 (by decide) rfl (Nat.le_of_ble_eq_true rfl) (cw_X8_vectors _ (by decide)) q1899 q1901 qs94 q1902 np_X8_vectors (i_X8_vectors x0) jad_id rfl (fun v1 => ?_)
  refine J_iconst (v := 1) dX8_isVector_6 (by decide) ?_
  refine J_isub dX8_isVector_7 ?_
  refine J_i2l dX8_isVector_8 ?_
  refine J_callSI (host := "") (as := [.long x1, .long 0, .long ((v1 - 1 : Int32).toInt64)]) dX8_isVector_9 rfl (Nat.le_of_ble_eq_true rfl) (cw_X8_isIn _ (by decide)) q1801 q1802 q1803 np_X8_isIn (i_X8_isIn x1 0 ((v1 - 1 : Int32).toInt64)) jad_id rfl (fun v2 => ?_)
  exact J_zreturn dX8_isVector_12 rfl
theorem i_X8_isVector (x0 : Nat) (x1 : Int64) : Impl (ws_ yX8_isVector cX8_isVector 3 (some .boolean)) yX8_isVector 3 false 0 0 [.ref x0, .long x1] (f_X8_isVector x0 x1) injI := impl_of (plainFor_of_name (by decide)) (Nat.le_of_ble_eq_true rfl) (fun D dA => j_X8_isVector D dA x0 x1)
theorem cw_X8_isVector (Y : JY) (h : 4 ≤ Y.2.2.2.1) : JCw Y (ws_ yX8_isVector cX8_isVector 3 (some .boolean)) yX8_isVector cX8_isVector 3 (some .boolean) 3 := ⟨h, by decide, lw_meth q1898, q198, by decide, by decide⟩
theorem np_X8_isVector : JNp yX8_isVector.desc 1 := by decide +kernel
-- BracketRoomModel.parts2(I[II)V
abbrev Y_X8_parts2 : JY := (cX8_parts2, yX8_parts2.cls, 6, 1, yX8_parts2.name, none, [])
noncomputable def X8_parts2_L6 (x0 : Nat) (x2 : Nat) (x3 : Int32) (x4 : Int32) (x5 : Int32) : JM Mem (Unit ⊕ (Int32 × Int32)) :=
  jb (jgetI 7 27 x0) fun v1 =>
  if v1 ≤ x5 then
    jinl (jp ())
  else
  jb (jgetI 7 26 x0) fun v2 =>
  jb (jrem x4 v2) fun v3 =>
  jb (jast_i x2 (x3 + x5) v3) fun _ =>
  jb (jgetI 7 26 x0) fun v4 =>
  jb (jdiv x4 v4) fun v5 =>
  jcont (v5, x5 + 1)
theorem j_X8_parts2_L6 (D : va_G) (dA : Nat → ClassId) (x0 : Nat) (x2 : Nat) (x3 : Int32) (x4 : Int32) (x5 : Int32) : J (PM D dA false) Y_X8_parts2 [(0, .ref x0), (2, .ref x2), (3, .int x3), (4, .int x4), (5, .int x5)] [] 6 (X8_parts2_L6 x0 x2 x3 x4 x5) (FLoop (FRet injU) 6 (fun (t : Int32 × Int32) => [(0, .ref x0), (2, .ref x2), (3, .int x3), (4, .int t.1), (5, .int t.2)])) := by
  unfold X8_parts2_L6
  refine J_iload dX8_parts2_6 4 rfl ?_
  refine J_aload_n dX8_parts2_8 rfl 0 rfl ?_
  refine J_getI dX8_parts2_9 fl_X8_253 rfl (fun v1 => ?_)
  refine J_icmp_ge (tgt := 43) dX8_parts2_12 rfl ?_ ?_
  · refine J_inl ?_
    exact J_return dX8_parts2_43 rfl
  refine J_aload_n dX8_parts2_15 rfl 1 rfl ?_
  refine J_iload_n dX8_parts2_16 rfl 2 rfl ?_
  refine J_iload dX8_parts2_17 4 rfl ?_
  refine J_iadd dX8_parts2_19 ?_
  refine J_iload dX8_parts2_20 3 rfl ?_
  refine J_aload_n dX8_parts2_22 rfl 0 rfl ?_
  refine J_getI dX8_parts2_23 fl_X8_250 rfl (fun v2 => ?_)
  refine J_irem dX8_parts2_26 (fun v3 => ?_)
  refine J_iast dX8_parts2_27 ?_
  refine J_iload dX8_parts2_28 3 rfl ?_
  refine J_aload_n dX8_parts2_30 rfl 0 rfl ?_
  refine J_getI dX8_parts2_31 fl_X8_250 rfl (fun v4 => ?_)
  refine J_idiv dX8_parts2_34 (fun v5 => ?_)
  refine J_istore (env' := [(4, .int v5), (0, .ref x0), (2, .ref x2), (3, .int x3), (5, .int x5)]) dX8_parts2_35 (by decide) rfl ?_
  refine J_iinc (v := x5 + 1) (env' := [(5, .int (x5 + 1)), (4, .int v5), (0, .ref x0), (2, .ref x2), (3, .int x3)]) dX8_parts2_37 4 rfl rfl (by decide) rfl ?_
  refine J_goto (tgt := 6) dX8_parts2_40 rfl ?_
  exact J_cont [2, 3, 4, 1, 0] rfl
noncomputable def f_X8_parts2 (x0 : Nat) (x1 : Int32) (x2 : Nat) (x3 : Int32) : JM Mem Unit :=
  jloop (fun (t : Int32 × Int32) => X8_parts2_L6 x0 x2 x3 t.1 t.2) (x1, 0)
theorem j_X8_parts2 (D : va_G) (dA : Nat → ClassId) (x0 : Nat) (x1 : Int32) (x2 : Nat) (x3 : Int32) : J (PM D dA false) Y_X8_parts2 [(0, .ref x0), (1, .int x1), (2, .ref x2), (3, .int x3)] [] 0 (f_X8_parts2 x0 x1 x2 x3) (FRet injU) := by
  unfold f_X8_parts2
  refine J_iload_n dX8_parts2_0 rfl 1 rfl ?_
  refine J_istore (env' := [(4, .int x1), (0, .ref x0), (1, .int x1), (2, .ref x2), (3, .int x3)]) dX8_parts2_1 (by decide) rfl ?_
  refine J_iconst (v := 0) dX8_parts2_3 (by decide) ?_
  refine J_istore (env' := [(5, .int 0), (4, .int x1), (0, .ref x0), (1, .int x1), (2, .ref x2), (3, .int x3)]) dX8_parts2_4 (by decide) rfl ?_
  refine J_loop (he := fun (t : Int32 × Int32) => [(0, .ref x0), (2, .ref x2), (3, .int x3), (4, .int t.1), (5, .int t.2)]) [2, 4, 5, 1, 0] rfl (fun t => ?_)
  exact j_X8_parts2_L6 D dA x0 x2 x3 t.1 t.2
theorem i_X8_parts2 (x0 : Nat) (x1 : Int32) (x2 : Nat) (x3 : Int32) : Impl (ws_ yX8_parts2 cX8_parts2 6 none) yX8_parts2 1 false 0 0 [.ref x0, .int x1, .ref x2, .int x3] (f_X8_parts2 x0 x1 x2 x3) injU := impl_of (plainFor_of_name (by decide)) (Nat.le_of_ble_eq_true rfl) (fun D dA => j_X8_parts2 D dA x0 x1 x2 x3)
theorem cw_X8_parts2 (Y : JY) (h : 2 ≤ Y.2.2.2.1) : JCw Y (ws_ yX8_parts2 cX8_parts2 6 none) yX8_parts2 cX8_parts2 6 none 1 := ⟨h, by decide, lw_meth q1910, q198, by decide, by decide⟩
theorem np_X8_parts2 : JNp yX8_parts2.desc 3 := by decide +kernel
-- BracketRoomModel.bracketOf([II[II[I)V
abbrev Y_X8_bracketOf : JY := (cX8_bracketOf, yX8_bracketOf.cls, 10, 3, yX8_bracketOf.name, none, [])
noncomputable def X8_bracketOf_b81 (x0 : Nat) (x1 : Nat) (x2 : Int32) (x3 : Nat) (x4 : Int32) (x5 : Nat) (x6 : Int32) (x7 : Int32) : JM Mem (Unit ⊕ (Int32)) :=
  jb (jgetI 7 26 x0) fun v3 =>
  jb (jrem x7 v3) fun v4 =>
  jb (jast_i x5 x6 v4) fun _ =>
  jcont (x6 + 1)
theorem j_X8_bracketOf_b81 (D : va_G) (dA : Nat → ClassId) (x0 : Nat) (x1 : Nat) (x2 : Int32) (x3 : Nat) (x4 : Int32) (x5 : Nat) (x6 : Int32) (x7 : Int32) : J (PM D dA false) Y_X8_bracketOf [(0, .ref x0), (1, .ref x1), (2, .int x2), (3, .ref x3), (4, .int x4), (5, .ref x5), (6, .int x6), (7, .int x7)] [] 81 (X8_bracketOf_b81 x0 x1 x2 x3 x4 x5 x6 x7) (FLoop (FRet injU) 3 (fun (t : Int32) => [(0, .ref x0), (1, .ref x1), (2, .int x2), (3, .ref x3), (4, .int x4), (5, .ref x5), (6, .int t)])) := by
  unfold X8_bracketOf_b81
  refine J_aload dX8_bracketOf_81 5 rfl ?_
  refine J_iload dX8_bracketOf_83 6 rfl ?_
  refine J_iload dX8_bracketOf_85 7 rfl ?_
  refine J_aload_n dX8_bracketOf_87 rfl 0 rfl ?_
  refine J_getI dX8_bracketOf_88 fl_X8_250 rfl (fun v3 => ?_)
  refine J_irem dX8_bracketOf_91 (fun v4 => ?_)
  refine J_iast dX8_bracketOf_92 ?_
  refine J_iinc (v := x6 + 1) (env' := [(6, .int (x6 + 1)), (0, .ref x0), (1, .ref x1), (2, .int x2), (3, .ref x3), (4, .int x4), (5, .ref x5), (7, .int x7)]) dX8_bracketOf_93 6 rfl rfl (by decide) rfl ?_
  refine J_goto (tgt := 3) dX8_bracketOf_96 rfl ?_
  exact J_cont [1, 2, 3, 4, 5, 6, 0] rfl
noncomputable def X8_bracketOf_b75 (x0 : Nat) (x1 : Nat) (x2 : Int32) (x3 : Nat) (x4 : Int32) (x5 : Nat) (x6 : Int32) (x7 : Int32) (x8 : Int32) : JM Mem ((Unit ⊕ (Int32)) ⊕ (Int32 × Int32)) :=
  jcont (x7, x8 + 1)
theorem j_X8_bracketOf_b75 (D : va_G) (dA : Nat → ClassId) (x0 : Nat) (x1 : Nat) (x2 : Int32) (x3 : Nat) (x4 : Int32) (x5 : Nat) (x6 : Int32) (x7 : Int32) (x8 : Int32) : J (PM D dA false) Y_X8_bracketOf [(0, .ref x0), (1, .ref x1), (2, .int x2), (3, .ref x3), (4, .int x4), (5, .ref x5), (6, .int x6), (7, .int x7), (8, .int x8)] [] 75 (X8_bracketOf_b75 x0 x1 x2 x3 x4 x5 x6 x7 x8) (FLoop (FLoop (FRet injU) 3 (fun (t : Int32) => [(0, .ref x0), (1, .ref x1), (2, .int x2), (3, .ref x3), (4, .int x4), (5, .ref x5), (6, .int t)])) 18 (fun (t : Int32 × Int32) => [(0, .ref x0), (1, .ref x1), (2, .int x2), (3, .ref x3), (4, .int x4), (5, .ref x5), (6, .int x6), (7, .int t.1), (8, .int t.2)])) := by
  unfold X8_bracketOf_b75
  refine J_iinc (v := x8 + 1) (env' := [(8, .int (x8 + 1)), (0, .ref x0), (1, .ref x1), (2, .int x2), (3, .ref x3), (4, .int x4), (5, .ref x5), (6, .int x6), (7, .int x7)]) dX8_bracketOf_75 8 rfl rfl (by decide) rfl ?_
  refine J_goto (tgt := 18) dX8_bracketOf_78 rfl ?_
  exact J_cont [1, 2, 3, 4, 5, 6, 7, 8, 0] rfl
noncomputable def X8_bracketOf_L30 (x0 : Nat) (x1 : Nat) (x2 : Int32) (x3 : Nat) (x4 : Int32) (x5 : Nat) (x6 : Int32) (x8 : Int32) (x7 : Int32) (x9 : Int32) : JM Mem (((Unit ⊕ (Int32)) ⊕ (Int32 × Int32)) ⊕ (Int32 × Int32)) :=
  jb (jgetI 7 27 x0) fun v5 =>
  if v5 ≤ x9 then
    jinl (X8_bracketOf_b75 x0 x1 x2 x3 x4 x5 x6 x7 x8)
  else
  jb (jald mI 0 x1 (x2 + x8)) fun v6 =>
  jb (jald mI 0 x3 (x4 + x9)) fun v7 =>
  jb (jcall 7 x0 (f_X8_table x0 x8 x9 x6)) fun v8 =>
  jlet (x7 + ((v6 * v7) * v8)) fun y9 =>
  jcont (y9, x9 + 1)
theorem j_X8_bracketOf_L30 (D : va_G) (dA : Nat → ClassId) (x0 : Nat) (x1 : Nat) (x2 : Int32) (x3 : Nat) (x4 : Int32) (x5 : Nat) (x6 : Int32) (x8 : Int32) (x7 : Int32) (x9 : Int32) : J (PM D dA false) Y_X8_bracketOf [(0, .ref x0), (1, .ref x1), (2, .int x2), (3, .ref x3), (4, .int x4), (5, .ref x5), (6, .int x6), (7, .int x7), (8, .int x8), (9, .int x9)] [] 30 (X8_bracketOf_L30 x0 x1 x2 x3 x4 x5 x6 x8 x7 x9) (FLoop (FLoop (FLoop (FRet injU) 3 (fun (t : Int32) => [(0, .ref x0), (1, .ref x1), (2, .int x2), (3, .ref x3), (4, .int x4), (5, .ref x5), (6, .int t)])) 18 (fun (t : Int32 × Int32) => [(0, .ref x0), (1, .ref x1), (2, .int x2), (3, .ref x3), (4, .int x4), (5, .ref x5), (6, .int x6), (7, .int t.1), (8, .int t.2)])) 30 (fun (t : Int32 × Int32) => [(0, .ref x0), (1, .ref x1), (2, .int x2), (3, .ref x3), (4, .int x4), (5, .ref x5), (6, .int x6), (7, .int t.1), (8, .int x8), (9, .int t.2)])) := by
  unfold X8_bracketOf_L30
  refine J_iload dX8_bracketOf_30 9 rfl ?_
  refine J_aload_n dX8_bracketOf_32 rfl 0 rfl ?_
  refine J_getI dX8_bracketOf_33 fl_X8_253 rfl (fun v5 => ?_)
  refine J_icmp_ge (tgt := 75) dX8_bracketOf_36 rfl ?_ ?_
  · refine J_inl ?_
    refine J_sub [0, 1, 2, 3, 4, 5, 6, 7, 8] rfl ?_
    exact j_X8_bracketOf_b75 D dA x0 x1 x2 x3 x4 x5 x6 x7 x8
  refine J_iload dX8_bracketOf_39 7 rfl ?_
  refine J_aload_n dX8_bracketOf_41 rfl 1 rfl ?_
  refine J_iload_n dX8_bracketOf_42 rfl 2 rfl ?_
  refine J_iload dX8_bracketOf_43 8 rfl ?_
  refine J_iadd dX8_bracketOf_45 ?_
  refine J_iald dX8_bracketOf_46 (fun v6 => ?_)
  refine J_aload_n dX8_bracketOf_47 rfl 3 rfl ?_
  refine J_iload dX8_bracketOf_48 4 rfl ?_
  refine J_iload dX8_bracketOf_50 9 rfl ?_
  refine J_iadd dX8_bracketOf_52 ?_
  refine J_iald dX8_bracketOf_53 (fun v7 => ?_)
  refine J_imul dX8_bracketOf_54 ?_
  refine J_aload_n dX8_bracketOf_55 rfl 0 rfl ?_
  refine J_iload dX8_bracketOf_56 8 rfl ?_
  refine J_iload dX8_bracketOf_58 9 rfl ?_
  refine J_iload dX8_bracketOf_60 6 rfl ?_
  refine J_callVI (c := 7) (as := [.int x8, .int x9, .int x6]) dX8_bracketOf_62 (by decide) rfl (Nat.le_of_ble_eq_true rfl) (cw_X8_table _ (by decide)) q1875 q1877 qs91 q1878 np_X8_table (i_X8_table x0 x8 x9 x6) jad_id rfl (fun v8 => ?_)
  refine J_imul dX8_bracketOf_65 ?_
  refine J_iadd dX8_bracketOf_66 ?_
  refine J_letI (fun y9 => ?_)
  refine J_istore (env' := [(7, .int y9), (0, .ref x0), (1, .ref x1), (2, .int x2), (3, .ref x3), (4, .int x4), (5, .ref x5), (6, .int x6), (8, .int x8), (9, .int x9)]) dX8_bracketOf_67 (by decide) rfl ?_
  refine J_iinc (v := x9 + 1) (env' := [(9, .int (x9 + 1)), (7, .int y9), (0, .ref x0), (1, .ref x1), (2, .int x2), (3, .ref x3), (4, .int x4), (5, .ref x5), (6, .int x6), (8, .int x8)]) dX8_bracketOf_69 9 rfl rfl (by decide) rfl ?_
  refine J_goto (tgt := 30) dX8_bracketOf_72 rfl ?_
  exact J_cont [2, 3, 4, 5, 6, 7, 8, 1, 9, 0] rfl
noncomputable def X8_bracketOf_L18 (x0 : Nat) (x1 : Nat) (x2 : Int32) (x3 : Nat) (x4 : Int32) (x5 : Nat) (x6 : Int32) (x7 : Int32) (x8 : Int32) : JM Mem ((Unit ⊕ (Int32)) ⊕ (Int32 × Int32)) :=
  jb (jgetI 7 27 x0) fun v2 =>
  if v2 ≤ x8 then
    jinl (X8_bracketOf_b81 x0 x1 x2 x3 x4 x5 x6 x7)
  else
    jloop (fun (t : Int32 × Int32) => X8_bracketOf_L30 x0 x1 x2 x3 x4 x5 x6 x8 t.1 t.2) (x7, 0)
theorem j_X8_bracketOf_L18 (D : va_G) (dA : Nat → ClassId) (x0 : Nat) (x1 : Nat) (x2 : Int32) (x3 : Nat) (x4 : Int32) (x5 : Nat) (x6 : Int32) (x7 : Int32) (x8 : Int32) : J (PM D dA false) Y_X8_bracketOf [(0, .ref x0), (1, .ref x1), (2, .int x2), (3, .ref x3), (4, .int x4), (5, .ref x5), (6, .int x6), (7, .int x7), (8, .int x8)] [] 18 (X8_bracketOf_L18 x0 x1 x2 x3 x4 x5 x6 x7 x8) (FLoop (FLoop (FRet injU) 3 (fun (t : Int32) => [(0, .ref x0), (1, .ref x1), (2, .int x2), (3, .ref x3), (4, .int x4), (5, .ref x5), (6, .int t)])) 18 (fun (t : Int32 × Int32) => [(0, .ref x0), (1, .ref x1), (2, .int x2), (3, .ref x3), (4, .int x4), (5, .ref x5), (6, .int x6), (7, .int t.1), (8, .int t.2)])) := by
  unfold X8_bracketOf_L18
  refine J_iload dX8_bracketOf_18 8 rfl ?_
  refine J_aload_n dX8_bracketOf_20 rfl 0 rfl ?_
  refine J_getI dX8_bracketOf_21 fl_X8_253 rfl (fun v2 => ?_)
  refine J_icmp_ge (tgt := 81) dX8_bracketOf_24 rfl ?_ ?_
  · refine J_inl ?_
    refine J_sub [0, 1, 2, 3, 4, 5, 6, 7] rfl ?_
    exact j_X8_bracketOf_b81 D dA x0 x1 x2 x3 x4 x5 x6 x7
  refine J_iconst (v := 0) dX8_bracketOf_27 (by decide) ?_
  refine J_istore (env' := [(9, .int 0), (0, .ref x0), (1, .ref x1), (2, .int x2), (3, .ref x3), (4, .int x4), (5, .ref x5), (6, .int x6), (7, .int x7), (8, .int x8)]) dX8_bracketOf_28 (by decide) rfl ?_
  refine J_loop (he := fun (t : Int32 × Int32) => [(0, .ref x0), (1, .ref x1), (2, .int x2), (3, .ref x3), (4, .int x4), (5, .ref x5), (6, .int x6), (7, .int t.1), (8, .int x8), (9, .int t.2)]) [1, 2, 3, 4, 5, 6, 7, 8, 9, 0] rfl (fun t => ?_)
  exact j_X8_bracketOf_L30 D dA x0 x1 x2 x3 x4 x5 x6 x8 t.1 t.2
noncomputable def X8_bracketOf_L3 (x0 : Nat) (x1 : Nat) (x2 : Int32) (x3 : Nat) (x4 : Int32) (x5 : Nat) (x6 : Int32) : JM Mem (Unit ⊕ (Int32)) :=
  jb (jgetI 7 27 x0) fun v1 =>
  if v1 ≤ x6 then
    jinl (jp ())
  else
    jloop (fun (t : Int32 × Int32) => X8_bracketOf_L18 x0 x1 x2 x3 x4 x5 x6 t.1 t.2) (0, 0)
theorem j_X8_bracketOf_L3 (D : va_G) (dA : Nat → ClassId) (x0 : Nat) (x1 : Nat) (x2 : Int32) (x3 : Nat) (x4 : Int32) (x5 : Nat) (x6 : Int32) : J (PM D dA false) Y_X8_bracketOf [(0, .ref x0), (1, .ref x1), (2, .int x2), (3, .ref x3), (4, .int x4), (5, .ref x5), (6, .int x6)] [] 3 (X8_bracketOf_L3 x0 x1 x2 x3 x4 x5 x6) (FLoop (FRet injU) 3 (fun (t : Int32) => [(0, .ref x0), (1, .ref x1), (2, .int x2), (3, .ref x3), (4, .int x4), (5, .ref x5), (6, .int t)])) := by
  unfold X8_bracketOf_L3
  refine J_iload dX8_bracketOf_3 6 rfl ?_
  refine J_aload_n dX8_bracketOf_5 rfl 0 rfl ?_
  refine J_getI dX8_bracketOf_6 fl_X8_253 rfl (fun v1 => ?_)
  refine J_icmp_ge (tgt := 99) dX8_bracketOf_9 rfl ?_ ?_
  · refine J_inl ?_
    exact J_return dX8_bracketOf_99 rfl
  refine J_iconst (v := 0) dX8_bracketOf_12 (by decide) ?_
  refine J_istore (env' := [(7, .int 0), (0, .ref x0), (1, .ref x1), (2, .int x2), (3, .ref x3), (4, .int x4), (5, .ref x5), (6, .int x6)]) dX8_bracketOf_13 (by decide) rfl ?_
  refine J_iconst (v := 0) dX8_bracketOf_15 (by decide) ?_
  refine J_istore (env' := [(8, .int 0), (7, .int 0), (0, .ref x0), (1, .ref x1), (2, .int x2), (3, .ref x3), (4, .int x4), (5, .ref x5), (6, .int x6)]) dX8_bracketOf_16 (by decide) rfl ?_
  refine J_loop (he := fun (t : Int32 × Int32) => [(0, .ref x0), (1, .ref x1), (2, .int x2), (3, .ref x3), (4, .int x4), (5, .ref x5), (6, .int x6), (7, .int t.1), (8, .int t.2)]) [2, 3, 4, 5, 6, 7, 8, 1, 0] rfl (fun t => ?_)
  exact j_X8_bracketOf_L18 D dA x0 x1 x2 x3 x4 x5 x6 t.1 t.2
noncomputable def f_X8_bracketOf (x0 : Nat) (x1 : Nat) (x2 : Int32) (x3 : Nat) (x4 : Int32) (x5 : Nat) : JM Mem Unit :=
  jloop (fun (t : Int32) => X8_bracketOf_L3 x0 x1 x2 x3 x4 x5 t) 0
theorem j_X8_bracketOf (D : va_G) (dA : Nat → ClassId) (x0 : Nat) (x1 : Nat) (x2 : Int32) (x3 : Nat) (x4 : Int32) (x5 : Nat) : J (PM D dA false) Y_X8_bracketOf [(0, .ref x0), (1, .ref x1), (2, .int x2), (3, .ref x3), (4, .int x4), (5, .ref x5)] [] 0 (f_X8_bracketOf x0 x1 x2 x3 x4 x5) (FRet injU) := by
  unfold f_X8_bracketOf
  refine J_iconst (v := 0) dX8_bracketOf_0 (by decide) ?_
  refine J_istore (env' := [(6, .int 0), (0, .ref x0), (1, .ref x1), (2, .int x2), (3, .ref x3), (4, .int x4), (5, .ref x5)]) dX8_bracketOf_1 (by decide) rfl ?_
  refine J_loop (he := fun (t : Int32) => [(0, .ref x0), (1, .ref x1), (2, .int x2), (3, .ref x3), (4, .int x4), (5, .ref x5), (6, .int t)]) [1, 2, 3, 4, 5, 6, 0] rfl (fun t => ?_)
  exact j_X8_bracketOf_L3 D dA x0 x1 x2 x3 x4 x5 t
theorem i_X8_bracketOf (x0 : Nat) (x1 : Nat) (x2 : Int32) (x3 : Nat) (x4 : Int32) (x5 : Nat) : Impl (ws_ yX8_bracketOf cX8_bracketOf 10 none) yX8_bracketOf 3 false 0 0 [.ref x0, .ref x1, .int x2, .ref x3, .int x4, .ref x5] (f_X8_bracketOf x0 x1 x2 x3 x4 x5) injU := impl_of (plainFor_of_name (by decide)) (Nat.le_of_ble_eq_true rfl) (fun D dA => j_X8_bracketOf D dA x0 x1 x2 x3 x4 x5)
theorem cw_X8_bracketOf (Y : JY) (h : 4 ≤ Y.2.2.2.1) : JCw Y (ws_ yX8_bracketOf cX8_bracketOf 10 none) yX8_bracketOf cX8_bracketOf 10 none 3 := ⟨h, by decide, lw_meth q1914, q198, by decide, by decide⟩
theorem np_X8_bracketOf : JNp yX8_bracketOf.desc 5 := by decide +kernel
-- BracketRoomModel.numberOfVector([II)I
abbrev Y_X8_numberOfVector : JY := (cX8_numberOfVector, yX8_numberOfVector.cls, 5, 1, yX8_numberOfVector.name, (some .int), [])
noncomputable def X8_numberOfVector_L10 (x0 : Nat) (x1 : Nat) (x2 : Int32) (x3 : Int32) (x4 : Int32) : JM Mem (Int32 ⊕ (Int32 × Int32)) :=
  if x4 < 0 then
    jinl (jp x3)
  else
  jb (jgetI 7 26 x0) fun v3 =>
  jb (jald mI 0 x1 (x2 + x4)) fun v4 =>
  jlet ((x3 * v3) + v4) fun y5 =>
  jcont (y5, x4 + (-1))
theorem j_X8_numberOfVector_L10 (D : va_G) (dA : Nat → ClassId) (x0 : Nat) (x1 : Nat) (x2 : Int32) (x3 : Int32) (x4 : Int32) : J (PM D dA false) Y_X8_numberOfVector [(0, .ref x0), (1, .ref x1), (2, .int x2), (3, .int x3), (4, .int x4)] [] 10 (X8_numberOfVector_L10 x0 x1 x2 x3 x4) (FLoop (FRet injI) 10 (fun (t : Int32 × Int32) => [(0, .ref x0), (1, .ref x1), (2, .int x2), (3, .int t.1), (4, .int t.2)])) := by
  unfold X8_numberOfVector_L10
  refine J_iload dX8_numberOfVector_10 4 rfl ?_
  refine J_if_lt (tgt := 35) dX8_numberOfVector_12 rfl ?_ ?_
  · refine J_inl ?_
    refine J_iload_n dX8_numberOfVector_35 rfl 3 rfl ?_
    exact J_ireturn dX8_numberOfVector_36 rfl
  refine J_iload_n dX8_numberOfVector_15 rfl 3 rfl ?_
  refine J_aload_n dX8_numberOfVector_16 rfl 0 rfl ?_
  refine J_getI dX8_numberOfVector_17 fl_X8_250 rfl (fun v3 => ?_)
  refine J_imul dX8_numberOfVector_20 ?_
  refine J_aload_n dX8_numberOfVector_21 rfl 1 rfl ?_
  refine J_iload_n dX8_numberOfVector_22 rfl 2 rfl ?_
  refine J_iload dX8_numberOfVector_23 4 rfl ?_
  refine J_iadd dX8_numberOfVector_25 ?_
  refine J_iald dX8_numberOfVector_26 (fun v4 => ?_)
  refine J_iadd dX8_numberOfVector_27 ?_
  refine J_letI (fun y5 => ?_)
  refine J_istore_n (env' := [(3, .int y5), (0, .ref x0), (1, .ref x1), (2, .int x2), (4, .int x4)]) dX8_numberOfVector_28 rfl (by decide) rfl ?_
  refine J_iinc (v := x4 + (-1)) (env' := [(4, .int (x4 + (-1))), (3, .int y5), (0, .ref x0), (1, .ref x1), (2, .int x2)]) dX8_numberOfVector_29 4 rfl rfl (by decide) rfl ?_
  refine J_goto (tgt := 10) dX8_numberOfVector_32 rfl ?_
  exact J_cont [2, 3, 4, 1, 0] rfl
noncomputable def f_X8_numberOfVector (x0 : Nat) (x1 : Nat) (x2 : Int32) : JM Mem Int32 :=
  jb (jgetI 7 27 x0) fun v1 =>
  jlet (v1 - 1) fun y2 =>
  jloop (fun (t : Int32 × Int32) => X8_numberOfVector_L10 x0 x1 x2 t.1 t.2) (0, y2)
theorem j_X8_numberOfVector (D : va_G) (dA : Nat → ClassId) (x0 : Nat) (x1 : Nat) (x2 : Int32) : J (PM D dA false) Y_X8_numberOfVector [(0, .ref x0), (1, .ref x1), (2, .int x2)] [] 0 (f_X8_numberOfVector x0 x1 x2) (FRet injI) := by
  unfold f_X8_numberOfVector
  refine J_iconst (v := 0) dX8_numberOfVector_0 (by decide) ?_
  refine J_istore_n (env' := [(3, .int 0), (0, .ref x0), (1, .ref x1), (2, .int x2)]) dX8_numberOfVector_1 rfl (by decide) rfl ?_
  refine J_aload_n dX8_numberOfVector_2 rfl 1 rfl ?_
  refine J_getI dX8_numberOfVector_3 fl_X8_253 rfl (fun v1 => ?_)
  refine J_iconst (v := 1) dX8_numberOfVector_6 (by decide) ?_
  refine J_isub dX8_numberOfVector_7 ?_
  refine J_letI (fun y2 => ?_)
  refine J_istore (env' := [(4, .int y2), (3, .int 0), (0, .ref x0), (1, .ref x1), (2, .int x2)]) dX8_numberOfVector_8 (by decide) rfl ?_
  refine J_loop (he := fun (t : Int32 × Int32) => [(0, .ref x0), (1, .ref x1), (2, .int x2), (3, .int t.1), (4, .int t.2)]) [2, 3, 4, 1, 0] rfl (fun t => ?_)
  exact j_X8_numberOfVector_L10 D dA x0 x1 x2 t.1 t.2
theorem i_X8_numberOfVector (x0 : Nat) (x1 : Nat) (x2 : Int32) : Impl (ws_ yX8_numberOfVector cX8_numberOfVector 5 (some .int)) yX8_numberOfVector 1 false 0 0 [.ref x0, .ref x1, .int x2] (f_X8_numberOfVector x0 x1 x2) injI := impl_of (plainFor_of_name (by decide)) (Nat.le_of_ble_eq_true rfl) (fun D dA => j_X8_numberOfVector D dA x0 x1 x2)
theorem cw_X8_numberOfVector (Y : JY) (h : 2 ≤ Y.2.2.2.1) : JCw Y (ws_ yX8_numberOfVector cX8_numberOfVector 5 (some .int)) yX8_numberOfVector cX8_numberOfVector 5 (some .int) 1 := ⟨h, by decide, lw_meth q1918, q198, by decide, by decide⟩
theorem np_X8_numberOfVector : JNp yX8_numberOfVector.desc 2 := by decide +kernel
-- BracketRoomModel.bracket(II)I
abbrev Y_X8_bracket : JY := (cX8_bracket, yX8_bracket.cls, 3, 4, yX8_bracket.name, (some .int), [])
noncomputable def X8_bracket_b32 (x0 : Nat) : JM Mem Int32 :=
  jb (jcall 7 x0 (f_X8_refuse x0 2)) fun v2 =>
  jp v2
theorem j_X8_bracket_b32 (D : va_G) (dA : Nat → ClassId) (x0 : Nat) : J (PM D dA false) Y_X8_bracket [(0, .ref x0)] [] 32 (X8_bracket_b32 x0) (FRet injI) := by
  unfold X8_bracket_b32
  refine J_aload_n dX8_bracket_32 rfl 0 rfl ?_
  refine J_iconst (v := 2) dX8_bracket_33 (by decide) ?_
  refine J_callVI (c := 7) (as := [.int 2]) dX8_bracket_34 (by decide) rfl (Nat.le_of_ble_eq_true rfl) (cw_X8_refuse _ (by decide)) q1871 q1873 qs90 q1874 np_X8_refuse (i_X8_refuse x0 2) jad_id rfl (fun v2 => ?_)
  exact J_ireturn dX8_bracket_37 rfl
noncomputable def f_X8_bracket (x0 : Nat) (x1 : Int32) (x2 : Int32) : JM Mem Int32 :=
  jb (jputI 7 1 x0 0) fun _ =>
  jb (jputI 7 0 x0 0) fun _ =>
  jb (jcall 7 x0 (f_X8_askNow x0)) fun _ =>
  jb (jcall 7 x0 (f_X8_isVector x0 ((x1 : Int32).toInt64))) fun v1 =>
  if v1 = 0 then
    X8_bracket_b32 x0
  else
  jb (jcall 7 x0 (f_X8_isVector x0 ((x2 : Int32).toInt64))) fun v3 =>
  if v3 = 0 then
    X8_bracket_b32 x0
  else
  jb (jgetA 7 33 x0) fun v4 =>
  jb (jcall 7 x0 (f_X8_parts2 x0 x1 v4 0)) fun _ =>
  jb (jgetA 7 34 x0) fun v5 =>
  jb (jcall 7 x0 (f_X8_parts2 x0 x2 v5 0)) fun _ =>
  jb (jgetA 7 33 x0) fun v6 =>
  jb (jgetA 7 34 x0) fun v7 =>
  jb (jgetA 7 35 x0) fun v8 =>
  jb (jcall 7 x0 (f_X8_bracketOf x0 v6 0 v7 0 v8)) fun _ =>
  jb (jgetA 7 35 x0) fun v9 =>
  jb (jcall 7 x0 (f_X8_numberOfVector x0 v9 0)) fun v10 =>
  jp v10
theorem j_X8_bracket (D : va_G) (dA : Nat → ClassId) (x0 : Nat) (x1 : Int32) (x2 : Int32) : J (PM D dA false) Y_X8_bracket [(0, .ref x0), (1, .int x1), (2, .int x2)] [] 0 (f_X8_bracket x0 x1 x2) (FRet injI) := by
  unfold f_X8_bracket
  refine J_aload_n dX8_bracket_0 rfl 0 rfl ?_
  refine J_iconst (v := 0) dX8_bracket_1 (by decide) ?_
  refine J_putI dX8_bracket_2 ⟨fl_X8_132, Or.inl rfl⟩ rfl ?_
  refine J_aload_n dX8_bracket_5 rfl 0 rfl ?_
  refine J_iconst (v := 0) dX8_bracket_6 (by decide) ?_
  refine J_putI dX8_bracket_7 ⟨fl_X8_135, Or.inl rfl⟩ rfl ?_
  refine J_aload_n dX8_bracket_10 rfl 0 rfl ?_
  refine J_callVV (c := 7) (as := []) dX8_bracket_11 (by decide) rfl (Nat.le_of_ble_eq_true rfl) (cw_X8_askNow _ (by decide)) q1862 q1864 qs88 q1865 np_X8_askNow (i_X8_askNow x0) jad_id rfl ?_
  refine J_aload_n dX8_bracket_14 rfl 0 rfl ?_
  refine J_iload_n dX8_bracket_15 rfl 1 rfl ?_
  refine J_i2l dX8_bracket_16 ?_
  refine J_callVI (c := 7) (as := [.long ((x1 : Int32).toInt64)]) dX8_bracket_17 (by decide) rfl (Nat.le_of_ble_eq_true rfl) (cw_X8_isVector _ (by decide)) q1895 q1897 qs93 q1898 np_X8_isVector (i_X8_isVector x0 ((x1 : Int32).toInt64)) jad_id rfl (fun v1 => ?_)
  refine J_if_eq (tgt := 32) dX8_bracket_20 rfl ?_ ?_
  · refine J_sub [0] rfl ?_
    exact j_X8_bracket_b32 D dA x0
  refine J_aload_n dX8_bracket_23 rfl 0 rfl ?_
  refine J_iload_n dX8_bracket_24 rfl 2 rfl ?_
  refine J_i2l dX8_bracket_25 ?_
  refine J_callVI (c := 7) (as := [.long ((x2 : Int32).toInt64)]) dX8_bracket_26 (by decide) rfl (Nat.le_of_ble_eq_true rfl) (cw_X8_isVector _ (by decide)) q1895 q1897 qs93 q1898 np_X8_isVector (i_X8_isVector x0 ((x2 : Int32).toInt64)) jad_id rfl (fun v3 => ?_)
  refine J_if_ne (tgt := 38) dX8_bracket_29 rfl ?_ ?_
  · refine J_aload_n dX8_bracket_38 rfl 0 rfl ?_
    refine J_iload_n dX8_bracket_39 rfl 1 rfl ?_
    refine J_aload_n dX8_bracket_40 rfl 0 rfl ?_
    refine J_getA dX8_bracket_41 fl_X8_62 rfl (fun v4 => ?_)
    refine J_iconst (v := 0) dX8_bracket_44 (by decide) ?_
    refine J_callVV (c := 7) (as := [.int x1, .ref v4, .int 0]) dX8_bracket_45 (by decide) rfl (Nat.le_of_ble_eq_true rfl) (cw_X8_parts2 _ (by decide)) q1907 q1909 qs96 q1910 np_X8_parts2 (i_X8_parts2 x0 x1 v4 0) jad_id rfl ?_
    refine J_aload_n dX8_bracket_48 rfl 0 rfl ?_
    refine J_iload_n dX8_bracket_49 rfl 2 rfl ?_
    refine J_aload_n dX8_bracket_50 rfl 0 rfl ?_
    refine J_getA dX8_bracket_51 fl_X8_65 rfl (fun v5 => ?_)
    refine J_iconst (v := 0) dX8_bracket_54 (by decide) ?_
    refine J_callVV (c := 7) (as := [.int x2, .ref v5, .int 0]) dX8_bracket_55 (by decide) rfl (Nat.le_of_ble_eq_true rfl) (cw_X8_parts2 _ (by decide)) q1907 q1909 qs96 q1910 np_X8_parts2 (i_X8_parts2 x0 x2 v5 0) jad_id rfl ?_
    refine J_aload_n dX8_bracket_58 rfl 0 rfl ?_
    refine J_aload_n dX8_bracket_59 rfl 0 rfl ?_
    refine J_getA dX8_bracket_60 fl_X8_62 rfl (fun v6 => ?_)
    refine J_iconst (v := 0) dX8_bracket_63 (by decide) ?_
    refine J_aload_n dX8_bracket_64 rfl 0 rfl ?_
    refine J_getA dX8_bracket_65 fl_X8_65 rfl (fun v7 => ?_)
    refine J_iconst (v := 0) dX8_bracket_68 (by decide) ?_
    refine J_aload_n dX8_bracket_69 rfl 0 rfl ?_
    refine J_getA dX8_bracket_70 fl_X8_68 rfl (fun v8 => ?_)
    refine J_callVV (c := 7) (as := [.ref v6, .int 0, .ref v7, .int 0, .ref v8]) dX8_bracket_73 (by decide) rfl (Nat.le_of_ble_eq_true rfl) (cw_X8_bracketOf _ (by decide)) q1911 q1913 qs97 q1914 np_X8_bracketOf (i_X8_bracketOf x0 v6 0 v7 0 v8) jad_id rfl ?_
    refine J_aload_n dX8_bracket_76 rfl 0 rfl ?_
    refine J_aload_n dX8_bracket_77 rfl 0 rfl ?_
    refine J_getA dX8_bracket_78 fl_X8_68 rfl (fun v9 => ?_)
    refine J_iconst (v := 0) dX8_bracket_81 (by decide) ?_
    refine J_callVI (c := 7) (as := [.ref v9, .int 0]) dX8_bracket_82 (by decide) rfl (Nat.le_of_ble_eq_true rfl) (cw_X8_numberOfVector _ (by decide)) q1915 q1917 qs98 q1918 np_X8_numberOfVector (i_X8_numberOfVector x0 v9 0) jad_id rfl (fun v10 => ?_)
    exact J_ireturn dX8_bracket_85 rfl
  refine J_sub [0] rfl ?_
  exact j_X8_bracket_b32 D dA x0
theorem i_X8_bracket (x0 : Nat) (x1 : Int32) (x2 : Int32) : Impl (ws_ yX8_bracket cX8_bracket 3 (some .int)) yX8_bracket 4 false 0 0 [.ref x0, .int x1, .int x2] (f_X8_bracket x0 x1 x2) injI := impl_of (plainFor_of_name (by decide)) (Nat.le_of_ble_eq_true rfl) (fun D dA => j_X8_bracket D dA x0 x1 x2)
theorem cw_X8_bracket (Y : JY) (h : 5 ≤ Y.2.2.2.1) : JCw Y (ws_ yX8_bracket cX8_bracket 3 (some .int)) yX8_bracket cX8_bracket 3 (some .int) 4 := ⟨h, by decide, lw_meth q1894, q198, by decide, by decide⟩
theorem np_X8_bracket : JNp yX8_bracket.desc 2 := by decide +kernel
-- BracketRoomModel.unit(I[I)V
abbrev Y_X8_unit : JY := (cX8_unit, yX8_unit.cls, 4, 1, yX8_unit.name, none, [])
noncomputable def X8_unit_b22 (x0 : Nat) (x1 : Int32) (x2 : Nat) (x3 : Int32) (s0 : Nat) (s1 : Int32) (s2 : Int32) : JM Mem (Unit ⊕ (Int32)) :=
  jb (jast_i s0 s1 s2) fun _ =>
  jcont (x3 + 1)
theorem j_X8_unit_b22 (D : va_G) (dA : Nat → ClassId) (x0 : Nat) (x1 : Int32) (x2 : Nat) (x3 : Int32) (s0 : Nat) (s1 : Int32) (s2 : Int32) : J (PM D dA false) Y_X8_unit [(0, .ref x0), (1, .int x1), (2, .ref x2), (3, .int x3)] [.int s2, .int s1, .ref s0] 22 (X8_unit_b22 x0 x1 x2 x3 s0 s1 s2) (FLoop (FRet injU) 2 (fun (t : Int32) => [(0, .ref x0), (1, .int x1), (2, .ref x2), (3, .int t)])) := by
  unfold X8_unit_b22
  refine J_iast dX8_unit_22 ?_
  refine J_iinc (v := x3 + 1) (env' := [(3, .int (x3 + 1)), (0, .ref x0), (1, .int x1), (2, .ref x2)]) dX8_unit_23 3 rfl rfl (by decide) rfl ?_
  refine J_goto (tgt := 2) dX8_unit_26 rfl ?_
  exact J_cont [1, 2, 3, 0] rfl
noncomputable def X8_unit_L2 (x0 : Nat) (x1 : Int32) (x2 : Nat) (x3 : Int32) : JM Mem (Unit ⊕ (Int32)) :=
  jb (jgetI 7 27 x0) fun v1 =>
  if v1 ≤ x3 then
    jinl (jp ())
  else
  if x3 = x1 then
    X8_unit_b22 x0 x1 x2 x3 x2 x3 1
  else
    X8_unit_b22 x0 x1 x2 x3 x2 x3 0
theorem j_X8_unit_L2 (D : va_G) (dA : Nat → ClassId) (x0 : Nat) (x1 : Int32) (x2 : Nat) (x3 : Int32) : J (PM D dA false) Y_X8_unit [(0, .ref x0), (1, .int x1), (2, .ref x2), (3, .int x3)] [] 2 (X8_unit_L2 x0 x1 x2 x3) (FLoop (FRet injU) 2 (fun (t : Int32) => [(0, .ref x0), (1, .int x1), (2, .ref x2), (3, .int t)])) := by
  unfold X8_unit_L2
  refine J_iload_n dX8_unit_2 rfl 3 rfl ?_
  refine J_aload_n dX8_unit_3 rfl 0 rfl ?_
  refine J_getI dX8_unit_4 fl_X8_253 rfl (fun v1 => ?_)
  refine J_icmp_ge (tgt := 29) dX8_unit_7 rfl ?_ ?_
  · refine J_inl ?_
    exact J_return dX8_unit_29 rfl
  refine J_aload_n dX8_unit_10 rfl 2 rfl ?_
  refine J_iload_n dX8_unit_11 rfl 3 rfl ?_
  refine J_iload_n dX8_unit_12 rfl 3 rfl ?_
  refine J_iload_n dX8_unit_13 rfl 1 rfl ?_
  refine J_icmp_ne (tgt := 21) dX8_unit_14 rfl ?_ ?_
  · refine J_iconst (v := 0) dX8_unit_21 (by decide) ?_
    refine J_sub [0, 1, 2, 3] rfl ?_
    exact j_X8_unit_b22 D dA x0 x1 x2 x3 x2 x3 0
  refine J_iconst (v := 1) dX8_unit_17 (by decide) ?_
  refine J_goto (tgt := 22) dX8_unit_18 rfl ?_
  refine J_sub [0, 1, 2, 3] rfl ?_
  exact j_X8_unit_b22 D dA x0 x1 x2 x3 x2 x3 1
noncomputable def f_X8_unit (x0 : Nat) (x1 : Int32) (x2 : Nat) : JM Mem Unit :=
  jloop (fun (t : Int32) => X8_unit_L2 x0 x1 x2 t) 0
theorem j_X8_unit (D : va_G) (dA : Nat → ClassId) (x0 : Nat) (x1 : Int32) (x2 : Nat) : J (PM D dA false) Y_X8_unit [(0, .ref x0), (1, .int x1), (2, .ref x2)] [] 0 (f_X8_unit x0 x1 x2) (FRet injU) := by
  unfold f_X8_unit
  refine J_iconst (v := 0) dX8_unit_0 (by decide) ?_
  refine J_istore_n (env' := [(3, .int 0), (0, .ref x0), (1, .int x1), (2, .ref x2)]) dX8_unit_1 rfl (by decide) rfl ?_
  refine J_loop (he := fun (t : Int32) => [(0, .ref x0), (1, .int x1), (2, .ref x2), (3, .int t)]) [1, 2, 3, 0] rfl (fun t => ?_)
  exact j_X8_unit_L2 D dA x0 x1 x2 t
theorem i_X8_unit (x0 : Nat) (x1 : Int32) (x2 : Nat) : Impl (ws_ yX8_unit cX8_unit 4 none) yX8_unit 1 false 0 0 [.ref x0, .int x1, .ref x2] (f_X8_unit x0 x1 x2) injU := impl_of (plainFor_of_name (by decide)) (Nat.le_of_ble_eq_true rfl) (fun D dA => j_X8_unit D dA x0 x1 x2)
theorem cw_X8_unit (Y : JY) (h : 2 ≤ Y.2.2.2.1) : JCw Y (ws_ yX8_unit cX8_unit 4 none) yX8_unit cX8_unit 4 none 1 := ⟨h, by decide, lw_meth q1938, q198, by decide, by decide⟩
theorem np_X8_unit : JNp yX8_unit.desc 2 := by decide +kernel
-- BracketRoomModel.addJacobi(III[I)V
abbrev Y_X8_addJacobi : JY := (cX8_addJacobi, yX8_addJacobi.cls, 6, 4, yX8_addJacobi.name, none, [])
noncomputable def X8_addJacobi_L66 (x0 : Nat) (x4 : Nat) (x5 : Int32) : JM Mem (Unit ⊕ (Int32)) :=
  jb (jgetI 7 27 x0) fun v10 =>
  if v10 ≤ x5 then
    jinl (jp ())
  else
  jb (jald mI 0 x4 x5) fun v11 =>
  jb (jgetA 7 36 x0) fun v12 =>
  jb (jald mI 0 v12 x5) fun v13 =>
  jb (jgetI 7 26 x0) fun v14 =>
  jb (jrem (v11 + v13) v14) fun v15 =>
  jb (jast_i x4 x5 v15) fun _ =>
  jcont (x5 + 1)
theorem j_X8_addJacobi_L66 (D : va_G) (dA : Nat → ClassId) (x0 : Nat) (x4 : Nat) (x5 : Int32) : J (PM D dA false) Y_X8_addJacobi [(0, .ref x0), (4, .ref x4), (5, .int x5)] [] 66 (X8_addJacobi_L66 x0 x4 x5) (FLoop (FRet injU) 66 (fun (t : Int32) => [(0, .ref x0), (4, .ref x4), (5, .int t)])) := by
  unfold X8_addJacobi_L66
  refine J_iload dX8_addJacobi_66 2 rfl ?_
  refine J_aload_n dX8_addJacobi_68 rfl 0 rfl ?_
  refine J_getI dX8_addJacobi_69 fl_X8_253 rfl (fun v10 => ?_)
  refine J_icmp_ge (tgt := 104) dX8_addJacobi_72 rfl ?_ ?_
  · refine J_inl ?_
    exact J_return dX8_addJacobi_104 rfl
  refine J_aload dX8_addJacobi_75 1 rfl ?_
  refine J_iload dX8_addJacobi_77 2 rfl ?_
  refine J_aload dX8_addJacobi_79 1 rfl ?_
  refine J_iload dX8_addJacobi_81 2 rfl ?_
  refine J_iald dX8_addJacobi_83 (fun v11 => ?_)
  refine J_aload_n dX8_addJacobi_84 rfl 0 rfl ?_
  refine J_getA dX8_addJacobi_85 fl_X8_71 rfl (fun v12 => ?_)
  refine J_iload dX8_addJacobi_88 2 rfl ?_
  refine J_iald dX8_addJacobi_90 (fun v13 => ?_)
  refine J_iadd dX8_addJacobi_91 ?_
  refine J_aload_n dX8_addJacobi_92 rfl 0 rfl ?_
  refine J_getI dX8_addJacobi_93 fl_X8_250 rfl (fun v14 => ?_)
  refine J_irem dX8_addJacobi_96 (fun v15 => ?_)
  refine J_iast dX8_addJacobi_97 ?_
  refine J_iinc (v := x5 + 1) (env' := [(5, .int (x5 + 1)), (0, .ref x0), (4, .ref x4)]) dX8_addJacobi_98 2 rfl rfl (by decide) rfl ?_
  refine J_goto (tgt := 66) dX8_addJacobi_101 rfl ?_
  exact J_cont [1, 2, 0] rfl
noncomputable def f_X8_addJacobi (x0 : Nat) (x1 : Int32) (x2 : Int32) (x3 : Int32) (x4 : Nat) : JM Mem Unit :=
  jb (jgetA 7 33 x0) fun v1 =>
  jb (jcall 7 x0 (f_X8_unit x0 x2 v1)) fun _ =>
  jb (jgetA 7 34 x0) fun v2 =>
  jb (jcall 7 x0 (f_X8_unit x0 x3 v2)) fun _ =>
  jb (jgetA 7 33 x0) fun v3 =>
  jb (jgetA 7 34 x0) fun v4 =>
  jb (jgetA 7 35 x0) fun v5 =>
  jb (jcall 7 x0 (f_X8_bracketOf x0 v3 0 v4 0 v5)) fun _ =>
  jb (jgetA 7 33 x0) fun v6 =>
  jb (jcall 7 x0 (f_X8_unit x0 x1 v6)) fun _ =>
  jb (jgetA 7 33 x0) fun v7 =>
  jb (jgetA 7 35 x0) fun v8 =>
  jb (jgetA 7 36 x0) fun v9 =>
  jb (jcall 7 x0 (f_X8_bracketOf x0 v7 0 v8 0 v9)) fun _ =>
  jloop (fun (t : Int32) => X8_addJacobi_L66 x0 x4 t) 0
theorem j_X8_addJacobi (D : va_G) (dA : Nat → ClassId) (x0 : Nat) (x1 : Int32) (x2 : Int32) (x3 : Int32) (x4 : Nat) : J (PM D dA false) Y_X8_addJacobi [(0, .ref x0), (1, .int x1), (2, .int x2), (3, .int x3), (4, .ref x4)] [] 0 (f_X8_addJacobi x0 x1 x2 x3 x4) (FRet injU) := by
  unfold f_X8_addJacobi
  refine J_aload_n dX8_addJacobi_0 rfl 0 rfl ?_
  refine J_iload_n dX8_addJacobi_1 rfl 2 rfl ?_
  refine J_aload_n dX8_addJacobi_2 rfl 0 rfl ?_
  refine J_getA dX8_addJacobi_3 fl_X8_62 rfl (fun v1 => ?_)
  refine J_callVV (c := 7) (as := [.int x2, .ref v1]) dX8_addJacobi_6 (by decide) rfl (Nat.le_of_ble_eq_true rfl) (cw_X8_unit _ (by decide)) q1935 q1937 qs102 q1938 np_X8_unit (i_X8_unit x0 x2 v1) jad_id rfl ?_
  refine J_aload_n dX8_addJacobi_9 rfl 0 rfl ?_
  refine J_iload_n dX8_addJacobi_10 rfl 3 rfl ?_
  refine J_aload_n dX8_addJacobi_11 rfl 0 rfl ?_
  refine J_getA dX8_addJacobi_12 fl_X8_65 rfl (fun v2 => ?_)
  refine J_callVV (c := 7) (as := [.int x3, .ref v2]) dX8_addJacobi_15 (by decide) rfl (Nat.le_of_ble_eq_true rfl) (cw_X8_unit _ (by decide)) q1935 q1937 qs102 q1938 np_X8_unit (i_X8_unit x0 x3 v2) jad_id rfl ?_
  refine J_aload_n dX8_addJacobi_18 rfl 0 rfl ?_
  refine J_aload_n dX8_addJacobi_19 rfl 0 rfl ?_
  refine J_getA dX8_addJacobi_20 fl_X8_62 rfl (fun v3 => ?_)
  refine J_iconst (v := 0) dX8_addJacobi_23 (by decide) ?_
  refine J_aload_n dX8_addJacobi_24 rfl 0 rfl ?_
  refine J_getA dX8_addJacobi_25 fl_X8_65 rfl (fun v4 => ?_)
  refine J_iconst (v := 0) dX8_addJacobi_28 (by decide) ?_
  refine J_aload_n dX8_addJacobi_29 rfl 0 rfl ?_
  refine J_getA dX8_addJacobi_30 fl_X8_68 rfl (fun v5 => ?_)
  refine J_callVV (c := 7) (as := [.ref v3, .int 0, .ref v4, .int 0, .ref v5]) dX8_addJacobi_33 (by decide) rfl (Nat.le_of_ble_eq_true rfl) (cw_X8_bracketOf _ (by decide)) q1911 q1913 qs97 q1914 np_X8_bracketOf (i_X8_bracketOf x0 v3 0 v4 0 v5) jad_id rfl ?_
  refine J_aload_n dX8_addJacobi_36 rfl 0 rfl ?_
  refine J_iload_n dX8_addJacobi_37 rfl 1 rfl ?_
  refine J_aload_n dX8_addJacobi_38 rfl 0 rfl ?_
  refine J_getA dX8_addJacobi_39 fl_X8_62 rfl (fun v6 => ?_)
  refine J_callVV (c := 7) (as := [.int x1, .ref v6]) dX8_addJacobi_42 (by decide) rfl (Nat.le_of_ble_eq_true rfl) (cw_X8_unit _ (by decide)) q1935 q1937 qs102 q1938 np_X8_unit (i_X8_unit x0 x1 v6) jad_id rfl ?_
  refine J_aload_n dX8_addJacobi_45 rfl 0 rfl ?_
  refine J_aload_n dX8_addJacobi_46 rfl 0 rfl ?_
  refine J_getA dX8_addJacobi_47 fl_X8_62 rfl (fun v7 => ?_)
  refine J_iconst (v := 0) dX8_addJacobi_50 (by decide) ?_
  refine J_aload_n dX8_addJacobi_51 rfl 0 rfl ?_
  refine J_getA dX8_addJacobi_52 fl_X8_68 rfl (fun v8 => ?_)
  refine J_iconst (v := 0) dX8_addJacobi_55 (by decide) ?_
  refine J_aload_n dX8_addJacobi_56 rfl 0 rfl ?_
  refine J_getA dX8_addJacobi_57 fl_X8_71 rfl (fun v9 => ?_)
  refine J_callVV (c := 7) (as := [.ref v7, .int 0, .ref v8, .int 0, .ref v9]) dX8_addJacobi_60 (by decide) rfl (Nat.le_of_ble_eq_true rfl) (cw_X8_bracketOf _ (by decide)) q1911 q1913 qs97 q1914 np_X8_bracketOf (i_X8_bracketOf x0 v7 0 v8 0 v9) jad_id rfl ?_
  refine J_iconst (v := 0) dX8_addJacobi_63 (by decide) ?_
  refine J_istore (env' := [(5, .int 0), (0, .ref x0), (1, .int x1), (2, .int x2), (3, .int x3), (4, .ref x4)]) dX8_addJacobi_64 (by decide) rfl ?_
  refine J_loop (he := fun (t : Int32) => [(0, .ref x0), (4, .ref x4), (5, .int t)]) [1, 5, 0] rfl (fun t => ?_)
  exact j_X8_addJacobi_L66 D dA x0 x4 t
theorem i_X8_addJacobi (x0 : Nat) (x1 : Int32) (x2 : Int32) (x3 : Int32) (x4 : Nat) : Impl (ws_ yX8_addJacobi cX8_addJacobi 6 none) yX8_addJacobi 4 false 0 0 [.ref x0, .int x1, .int x2, .int x3, .ref x4] (f_X8_addJacobi x0 x1 x2 x3 x4) injU := impl_of (plainFor_of_name (by decide)) (Nat.le_of_ble_eq_true rfl) (fun D dA => j_X8_addJacobi D dA x0 x1 x2 x3 x4)
theorem cw_X8_addJacobi (Y : JY) (h : 5 ≤ Y.2.2.2.1) : JCw Y (ws_ yX8_addJacobi cX8_addJacobi 6 none) yX8_addJacobi cX8_addJacobi 6 none 4 := ⟨h, by decide, lw_meth q1934, q198, by decide, by decide⟩
theorem np_X8_addJacobi : JNp yX8_addJacobi.desc 4 := by decide +kernel
-- BracketRoomModel.leadOf([II)I
abbrev Y_X8_leadOf : JY := (cX8_leadOf, yX8_leadOf.cls, 4, 1, yX8_leadOf.name, (some .int), [])
noncomputable def X8_leadOf_L2 (x0 : Nat) (x1 : Nat) (x2 : Int32) (x3 : Int32) : JM Mem (Int32 ⊕ (Int32)) :=
  jb (jgetI 7 27 x0) fun v1 =>
  if v1 ≤ x3 then
    jinl (jp (-1))
  else
  jb (jald mI 0 x1 (x2 + x3)) fun v2 =>
  if v2 = 0 then
    jcont (x3 + 1)
  else
    jinl (jp x3)
theorem j_X8_leadOf_L2 (D : va_G) (dA : Nat → ClassId) (x0 : Nat) (x1 : Nat) (x2 : Int32) (x3 : Int32) : J (PM D dA false) Y_X8_leadOf [(0, .ref x0), (1, .ref x1), (2, .int x2), (3, .int x3)] [] 2 (X8_leadOf_L2 x0 x1 x2 x3) (FLoop (FRet injI) 2 (fun (t : Int32) => [(0, .ref x0), (1, .ref x1), (2, .int x2), (3, .int t)])) := by
  unfold X8_leadOf_L2
  refine J_iload_n dX8_leadOf_2 rfl 3 rfl ?_
  refine J_aload_n dX8_leadOf_3 rfl 0 rfl ?_
  refine J_getI dX8_leadOf_4 fl_X8_253 rfl (fun v1 => ?_)
  refine J_icmp_ge (tgt := 26) dX8_leadOf_7 rfl ?_ ?_
  · refine J_inl ?_
    refine J_iconst (v := (-1)) dX8_leadOf_26 (by decide) ?_
    exact J_ireturn dX8_leadOf_27 rfl
  refine J_aload_n dX8_leadOf_10 rfl 1 rfl ?_
  refine J_iload_n dX8_leadOf_11 rfl 2 rfl ?_
  refine J_iload_n dX8_leadOf_12 rfl 3 rfl ?_
  refine J_iadd dX8_leadOf_13 ?_
  refine J_iald dX8_leadOf_14 (fun v2 => ?_)
  refine J_if_eq (tgt := 20) dX8_leadOf_15 rfl ?_ ?_
  · refine J_iinc (v := x3 + 1) (env' := [(3, .int (x3 + 1)), (0, .ref x0), (1, .ref x1), (2, .int x2)]) dX8_leadOf_20 3 rfl rfl (by decide) rfl ?_
    refine J_goto (tgt := 2) dX8_leadOf_23 rfl ?_
    exact J_cont [1, 2, 3, 0] rfl
  refine J_inl ?_
  refine J_iload_n dX8_leadOf_18 rfl 3 rfl ?_
  exact J_ireturn dX8_leadOf_19 rfl
noncomputable def f_X8_leadOf (x0 : Nat) (x1 : Nat) (x2 : Int32) : JM Mem Int32 :=
  jloop (fun (t : Int32) => X8_leadOf_L2 x0 x1 x2 t) 0
theorem j_X8_leadOf (D : va_G) (dA : Nat → ClassId) (x0 : Nat) (x1 : Nat) (x2 : Int32) : J (PM D dA false) Y_X8_leadOf [(0, .ref x0), (1, .ref x1), (2, .int x2)] [] 0 (f_X8_leadOf x0 x1 x2) (FRet injI) := by
  unfold f_X8_leadOf
  refine J_iconst (v := 0) dX8_leadOf_0 (by decide) ?_
  refine J_istore_n (env' := [(3, .int 0), (0, .ref x0), (1, .ref x1), (2, .int x2)]) dX8_leadOf_1 rfl (by decide) rfl ?_
  refine J_loop (he := fun (t : Int32) => [(0, .ref x0), (1, .ref x1), (2, .int x2), (3, .int t)]) [1, 2, 3, 0] rfl (fun t => ?_)
  exact j_X8_leadOf_L2 D dA x0 x1 x2 t
theorem i_X8_leadOf (x0 : Nat) (x1 : Nat) (x2 : Int32) : Impl (ws_ yX8_leadOf cX8_leadOf 4 (some .int)) yX8_leadOf 1 false 0 0 [.ref x0, .ref x1, .int x2] (f_X8_leadOf x0 x1 x2) injI := impl_of (plainFor_of_name (by decide)) (Nat.le_of_ble_eq_true rfl) (fun D dA => j_X8_leadOf D dA x0 x1 x2)
theorem cw_X8_leadOf (Y : JY) (h : 2 ≤ Y.2.2.2.1) : JCw Y (ws_ yX8_leadOf cX8_leadOf 4 (some .int)) yX8_leadOf cX8_leadOf 4 (some .int) 1 := ⟨h, by decide, lw_meth q1942, q198, by decide, by decide⟩
theorem np_X8_leadOf : JNp yX8_leadOf.desc 2 := by decide +kernel
-- BracketRoomModel.breaks(III)Z
abbrev Y_X8_breaks : JY := (cX8_breaks, yX8_breaks.cls, 5, 5, yX8_breaks.name, (some .boolean), [])
noncomputable def X8_breaks_b23 (x0 : Nat) (x1 : Int32) (x2 : Int32) (x3 : Int32) : JM Mem Int32 :=
  jb (jgetA 7 55 x0) fun v1 =>
  jb (jcall 7 x0 (f_X8_addJacobi x0 x1 x2 x3 v1)) fun _ =>
  jb (jgetA 7 55 x0) fun v2 =>
  jb (jcall 7 x0 (f_X8_addJacobi x0 x2 x3 x1 v2)) fun _ =>
  jb (jgetA 7 55 x0) fun v3 =>
  jb (jcall 7 x0 (f_X8_addJacobi x0 x3 x1 x2 v3)) fun _ =>
  jb (jgetA 7 55 x0) fun v4 =>
  jb (jcall 7 x0 (f_X8_leadOf x0 v4 0)) fun v5 =>
  if v5 < 0 then
    jp 0
  else
    jp 1
theorem j_X8_breaks_b23 (D : va_G) (dA : Nat → ClassId) (x0 : Nat) (x1 : Int32) (x2 : Int32) (x3 : Int32) : J (PM D dA false) Y_X8_breaks [(0, .ref x0), (1, .int x1), (2, .int x2), (3, .int x3)] [] 23 (X8_breaks_b23 x0 x1 x2 x3) (FRet injI) := by
  unfold X8_breaks_b23
  refine J_aload_n dX8_breaks_23 rfl 0 rfl ?_
  refine J_iload_n dX8_breaks_24 rfl 1 rfl ?_
  refine J_iload_n dX8_breaks_25 rfl 2 rfl ?_
  refine J_iload_n dX8_breaks_26 rfl 3 rfl ?_
  refine J_aload_n dX8_breaks_27 rfl 0 rfl ?_
  refine J_getA dX8_breaks_28 fl_X8_98 rfl (fun v1 => ?_)
  refine J_callVV (c := 7) (as := [.int x1, .int x2, .int x3, .ref v1]) dX8_breaks_31 (by decide) rfl (Nat.le_of_ble_eq_true rfl) (cw_X8_addJacobi _ (by decide)) q1931 q1933 qs101 q1934 np_X8_addJacobi (i_X8_addJacobi x0 x1 x2 x3 v1) jad_id rfl ?_
  refine J_aload_n dX8_breaks_34 rfl 0 rfl ?_
  refine J_iload_n dX8_breaks_35 rfl 2 rfl ?_
  refine J_iload_n dX8_breaks_36 rfl 3 rfl ?_
  refine J_iload_n dX8_breaks_37 rfl 1 rfl ?_
  refine J_aload_n dX8_breaks_38 rfl 0 rfl ?_
  refine J_getA dX8_breaks_39 fl_X8_98 rfl (fun v2 => ?_)
  refine J_callVV (c := 7) (as := [.int x2, .int x3, .int x1, .ref v2]) dX8_breaks_42 (by decide) rfl (Nat.le_of_ble_eq_true rfl) (cw_X8_addJacobi _ (by decide)) q1931 q1933 qs101 q1934 np_X8_addJacobi (i_X8_addJacobi x0 x2 x3 x1 v2) jad_id rfl ?_
  refine J_aload_n dX8_breaks_45 rfl 0 rfl ?_
  refine J_iload_n dX8_breaks_46 rfl 3 rfl ?_
  refine J_iload_n dX8_breaks_47 rfl 1 rfl ?_
  refine J_iload_n dX8_breaks_48 rfl 2 rfl ?_
  refine J_aload_n dX8_breaks_49 rfl 0 rfl ?_
  refine J_getA dX8_breaks_50 fl_X8_98 rfl (fun v3 => ?_)
  refine J_callVV (c := 7) (as := [.int x3, .int x1, .int x2, .ref v3]) dX8_breaks_53 (by decide) rfl (Nat.le_of_ble_eq_true rfl) (cw_X8_addJacobi _ (by decide)) q1931 q1933 qs101 q1934 np_X8_addJacobi (i_X8_addJacobi x0 x3 x1 x2 v3) jad_id rfl ?_
  refine J_aload_n dX8_breaks_56 rfl 0 rfl ?_
  refine J_aload_n dX8_breaks_57 rfl 0 rfl ?_
  refine J_getA dX8_breaks_58 fl_X8_98 rfl (fun v4 => ?_)
  refine J_iconst (v := 0) dX8_breaks_61 (by decide) ?_
  refine J_callVI (c := 7) (as := [.ref v4, .int 0]) dX8_breaks_62 (by decide) rfl (Nat.le_of_ble_eq_true rfl) (cw_X8_leadOf _ (by decide)) q1939 q1941 qs103 q1942 np_X8_leadOf (i_X8_leadOf x0 v4 0) jad_id rfl (fun v5 => ?_)
  refine J_if_lt (tgt := 72) dX8_breaks_65 rfl ?_ ?_
  · refine J_iconst (v := 0) dX8_breaks_72 (by decide) ?_
    exact J_zreturn0 dX8_breaks_73 rfl
  refine J_iconst (v := 1) dX8_breaks_68 (by decide) ?_
  refine J_goto (tgt := 73) dX8_breaks_69 rfl ?_
  exact J_zreturn1 dX8_breaks_73 rfl
noncomputable def X8_breaks_L3 (x0 : Nat) (x1 : Int32) (x2 : Int32) (x3 : Int32) (x4 : Int32) : JM Mem (Int32 ⊕ (Int32)) :=
  if 5 ≤ x4 then
    jinl (X8_breaks_b23 x0 x1 x2 x3)
  else
  jb (jgetA 7 55 x0) fun v6 =>
  jb (jast_i v6 x4 0) fun _ =>
  jcont (x4 + 1)
theorem j_X8_breaks_L3 (D : va_G) (dA : Nat → ClassId) (x0 : Nat) (x1 : Int32) (x2 : Int32) (x3 : Int32) (x4 : Int32) : J (PM D dA false) Y_X8_breaks [(0, .ref x0), (1, .int x1), (2, .int x2), (3, .int x3), (4, .int x4)] [] 3 (X8_breaks_L3 x0 x1 x2 x3 x4) (FLoop (FRet injI) 3 (fun (t : Int32) => [(0, .ref x0), (1, .int x1), (2, .int x2), (3, .int x3), (4, .int t)])) := by
  unfold X8_breaks_L3
  refine J_iload dX8_breaks_3 4 rfl ?_
  refine J_iconst (v := 5) dX8_breaks_5 (by decide) ?_
  refine J_icmp_ge (tgt := 23) dX8_breaks_6 rfl ?_ ?_
  · refine J_inl ?_
    refine J_sub [0, 1, 2, 3] rfl ?_
    exact j_X8_breaks_b23 D dA x0 x1 x2 x3
  refine J_aload_n dX8_breaks_9 rfl 0 rfl ?_
  refine J_getA dX8_breaks_10 fl_X8_98 rfl (fun v6 => ?_)
  refine J_iload dX8_breaks_13 4 rfl ?_
  refine J_iconst (v := 0) dX8_breaks_15 (by decide) ?_
  refine J_iast dX8_breaks_16 ?_
  refine J_iinc (v := x4 + 1) (env' := [(4, .int (x4 + 1)), (0, .ref x0), (1, .int x1), (2, .int x2), (3, .int x3)]) dX8_breaks_17 4 rfl rfl (by decide) rfl ?_
  refine J_goto (tgt := 3) dX8_breaks_20 rfl ?_
  exact J_cont [1, 2, 3, 4, 0] rfl
noncomputable def f_X8_breaks (x0 : Nat) (x1 : Int32) (x2 : Int32) (x3 : Int32) : JM Mem Int32 :=
  jloop (fun (t : Int32) => X8_breaks_L3 x0 x1 x2 x3 t) 0
theorem j_X8_breaks (D : va_G) (dA : Nat → ClassId) (x0 : Nat) (x1 : Int32) (x2 : Int32) (x3 : Int32) : J (PM D dA false) Y_X8_breaks [(0, .ref x0), (1, .int x1), (2, .int x2), (3, .int x3)] [] 0 (f_X8_breaks x0 x1 x2 x3) (FRet injI) := by
  unfold f_X8_breaks
  refine J_iconst (v := 0) dX8_breaks_0 (by decide) ?_
  refine J_istore (env' := [(4, .int 0), (0, .ref x0), (1, .int x1), (2, .int x2), (3, .int x3)]) dX8_breaks_1 (by decide) rfl ?_
  refine J_loop (he := fun (t : Int32) => [(0, .ref x0), (1, .int x1), (2, .int x2), (3, .int x3), (4, .int t)]) [1, 2, 3, 4, 0] rfl (fun t => ?_)
  exact j_X8_breaks_L3 D dA x0 x1 x2 x3 t
theorem i_X8_breaks (x0 : Nat) (x1 : Int32) (x2 : Int32) (x3 : Int32) : Impl (ws_ yX8_breaks cX8_breaks 5 (some .boolean)) yX8_breaks 5 false 0 0 [.ref x0, .int x1, .int x2, .int x3] (f_X8_breaks x0 x1 x2 x3) injI := impl_of (plainFor_of_name (by decide)) (Nat.le_of_ble_eq_true rfl) (fun D dA => j_X8_breaks D dA x0 x1 x2 x3)
theorem cw_X8_breaks (Y : JY) (h : 6 ≤ Y.2.2.2.1) : JCw Y (ws_ yX8_breaks cX8_breaks 5 (some .boolean)) yX8_breaks cX8_breaks 5 (some .boolean) 5 := ⟨h, by decide, lw_meth q1930, q198, by decide, by decide⟩
theorem np_X8_breaks : JNp yX8_breaks.desc 3 := by decide +kernel
-- BracketRoomModel.isLawful()Z
abbrev Y_X8_isLawful : JY := (cX8_isLawful, yX8_isLawful.cls, 4, 6, yX8_isLawful.name, (some .boolean), [])
noncomputable def X8_isLawful_b58 (x0 : Nat) (x1 : Int32) : JM Mem (Int32 ⊕ (Int32)) :=
  jcont (x1 + 1)
theorem j_X8_isLawful_b58 (D : va_G) (dA : Nat → ClassId) (x0 : Nat) (x1 : Int32) : J (PM D dA false) Y_X8_isLawful [(0, .ref x0), (1, .int x1)] [] 58 (X8_isLawful_b58 x0 x1) (FLoop (FRet injI) 2 (fun (t : Int32) => [(0, .ref x0), (1, .int t)])) := by
  unfold X8_isLawful_b58
  refine J_iinc (v := x1 + 1) (env' := [(1, .int (x1 + 1)), (0, .ref x0)]) dX8_isLawful_58 1 rfl rfl (by decide) rfl ?_
  refine J_goto (tgt := 2) dX8_isLawful_61 rfl ?_
  exact J_cont [1, 0] rfl
noncomputable def X8_isLawful_b52 (x0 : Nat) (x1 : Int32) (x2 : Int32) : JM Mem ((Int32 ⊕ (Int32)) ⊕ (Int32)) :=
  jcont (x2 + 1)
theorem j_X8_isLawful_b52 (D : va_G) (dA : Nat → ClassId) (x0 : Nat) (x1 : Int32) (x2 : Int32) : J (PM D dA false) Y_X8_isLawful [(0, .ref x0), (1, .int x1), (2, .int x2)] [] 52 (X8_isLawful_b52 x0 x1 x2) (FLoop (FLoop (FRet injI) 2 (fun (t : Int32) => [(0, .ref x0), (1, .int t)])) 14 (fun (t : Int32) => [(0, .ref x0), (1, .int x1), (2, .int t)])) := by
  unfold X8_isLawful_b52
  refine J_iinc (v := x2 + 1) (env' := [(2, .int (x2 + 1)), (0, .ref x0), (1, .int x1)]) dX8_isLawful_52 2 rfl rfl (by decide) rfl ?_
  refine J_goto (tgt := 14) dX8_isLawful_55 rfl ?_
  exact J_cont [1, 2, 0] rfl
noncomputable def X8_isLawful_L26 (x0 : Nat) (x1 : Int32) (x2 : Int32) (x3 : Int32) : JM Mem (((Int32 ⊕ (Int32)) ⊕ (Int32)) ⊕ (Int32)) :=
  jb (jgetI 7 27 x0) fun v5 =>
  if v5 ≤ x3 then
    jinl (X8_isLawful_b52 x0 x1 x2)
  else
  jb (jcall 7 x0 (f_X8_breaks x0 x1 x2 x3)) fun v6 =>
  if v6 = 0 then
    jcont (x3 + 1)
  else
    jinl (jinl (jinl (jp 0)))
theorem j_X8_isLawful_L26 (D : va_G) (dA : Nat → ClassId) (x0 : Nat) (x1 : Int32) (x2 : Int32) (x3 : Int32) : J (PM D dA false) Y_X8_isLawful [(0, .ref x0), (1, .int x1), (2, .int x2), (3, .int x3)] [] 26 (X8_isLawful_L26 x0 x1 x2 x3) (FLoop (FLoop (FLoop (FRet injI) 2 (fun (t : Int32) => [(0, .ref x0), (1, .int t)])) 14 (fun (t : Int32) => [(0, .ref x0), (1, .int x1), (2, .int t)])) 26 (fun (t : Int32) => [(0, .ref x0), (1, .int x1), (2, .int x2), (3, .int t)])) := by
  unfold X8_isLawful_L26
  refine J_iload_n dX8_isLawful_26 rfl 3 rfl ?_
  refine J_aload_n dX8_isLawful_27 rfl 0 rfl ?_
  refine J_getI dX8_isLawful_28 fl_X8_253 rfl (fun v5 => ?_)
  refine J_icmp_ge (tgt := 52) dX8_isLawful_31 rfl ?_ ?_
  · refine J_inl ?_
    refine J_sub [0, 1, 2] rfl ?_
    exact j_X8_isLawful_b52 D dA x0 x1 x2
  refine J_aload_n dX8_isLawful_34 rfl 0 rfl ?_
  refine J_iload_n dX8_isLawful_35 rfl 1 rfl ?_
  refine J_iload_n dX8_isLawful_36 rfl 2 rfl ?_
  refine J_iload_n dX8_isLawful_37 rfl 3 rfl ?_
  refine J_callVI (c := 7) (as := [.int x1, .int x2, .int x3]) dX8_isLawful_38 (by decide) rfl (Nat.le_of_ble_eq_true rfl) (cw_X8_breaks _ (by decide)) q1927 q1929 qs100 q1930 np_X8_breaks (i_X8_breaks x0 x1 x2 x3) jad_id rfl (fun v6 => ?_)
  refine J_if_eq (tgt := 46) dX8_isLawful_41 rfl ?_ ?_
  · refine J_iinc (v := x3 + 1) (env' := [(3, .int (x3 + 1)), (0, .ref x0), (1, .int x1), (2, .int x2)]) dX8_isLawful_46 3 rfl rfl (by decide) rfl ?_
    refine J_goto (tgt := 26) dX8_isLawful_49 rfl ?_
    exact J_cont [1, 2, 3, 0] rfl
  refine J_inl ?_
  refine J_inl ?_
  refine J_inl ?_
  refine J_iconst (v := 0) dX8_isLawful_44 (by decide) ?_
  exact J_zreturn0 dX8_isLawful_45 rfl
noncomputable def X8_isLawful_L14 (x0 : Nat) (x1 : Int32) (x2 : Int32) : JM Mem ((Int32 ⊕ (Int32)) ⊕ (Int32)) :=
  jb (jgetI 7 27 x0) fun v3 =>
  if v3 ≤ x2 then
    jinl (X8_isLawful_b58 x0 x1)
  else
  jlet (x2 + 1) fun y4 =>
  jloop (fun (t : Int32) => X8_isLawful_L26 x0 x1 x2 t) y4
theorem j_X8_isLawful_L14 (D : va_G) (dA : Nat → ClassId) (x0 : Nat) (x1 : Int32) (x2 : Int32) : J (PM D dA false) Y_X8_isLawful [(0, .ref x0), (1, .int x1), (2, .int x2)] [] 14 (X8_isLawful_L14 x0 x1 x2) (FLoop (FLoop (FRet injI) 2 (fun (t : Int32) => [(0, .ref x0), (1, .int t)])) 14 (fun (t : Int32) => [(0, .ref x0), (1, .int x1), (2, .int t)])) := by
  unfold X8_isLawful_L14
  refine J_iload_n dX8_isLawful_14 rfl 2 rfl ?_
  refine J_aload_n dX8_isLawful_15 rfl 0 rfl ?_
  refine J_getI dX8_isLawful_16 fl_X8_253 rfl (fun v3 => ?_)
  refine J_icmp_ge (tgt := 58) dX8_isLawful_19 rfl ?_ ?_
  · refine J_inl ?_
    refine J_sub [0, 1] rfl ?_
    exact j_X8_isLawful_b58 D dA x0 x1
  refine J_iload_n dX8_isLawful_22 rfl 2 rfl ?_
  refine J_iconst (v := 1) dX8_isLawful_23 (by decide) ?_
  refine J_iadd dX8_isLawful_24 ?_
  refine J_letI (fun y4 => ?_)
  refine J_istore_n (env' := [(3, .int y4), (0, .ref x0), (1, .int x1), (2, .int x2)]) dX8_isLawful_25 rfl (by decide) rfl ?_
  refine J_loop (he := fun (t : Int32) => [(0, .ref x0), (1, .int x1), (2, .int x2), (3, .int t)]) [1, 2, 3, 0] rfl (fun t => ?_)
  exact j_X8_isLawful_L26 D dA x0 x1 x2 t
noncomputable def X8_isLawful_L2 (x0 : Nat) (x1 : Int32) : JM Mem (Int32 ⊕ (Int32)) :=
  jb (jgetI 7 27 x0) fun v1 =>
  if v1 ≤ x1 then
    jinl (jp 1)
  else
  jlet (x1 + 1) fun y2 =>
  jloop (fun (t : Int32) => X8_isLawful_L14 x0 x1 t) y2
theorem j_X8_isLawful_L2 (D : va_G) (dA : Nat → ClassId) (x0 : Nat) (x1 : Int32) : J (PM D dA false) Y_X8_isLawful [(0, .ref x0), (1, .int x1)] [] 2 (X8_isLawful_L2 x0 x1) (FLoop (FRet injI) 2 (fun (t : Int32) => [(0, .ref x0), (1, .int t)])) := by
  unfold X8_isLawful_L2
  refine J_iload_n dX8_isLawful_2 rfl 1 rfl ?_
  refine J_aload_n dX8_isLawful_3 rfl 0 rfl ?_
  refine J_getI dX8_isLawful_4 fl_X8_253 rfl (fun v1 => ?_)
  refine J_icmp_ge (tgt := 64) dX8_isLawful_7 rfl ?_ ?_
  · refine J_inl ?_
    refine J_iconst (v := 1) dX8_isLawful_64 (by decide) ?_
    exact J_zreturn1 dX8_isLawful_65 rfl
  refine J_iload_n dX8_isLawful_10 rfl 1 rfl ?_
  refine J_iconst (v := 1) dX8_isLawful_11 (by decide) ?_
  refine J_iadd dX8_isLawful_12 ?_
  refine J_letI (fun y2 => ?_)
  refine J_istore_n (env' := [(2, .int y2), (0, .ref x0), (1, .int x1)]) dX8_isLawful_13 rfl (by decide) rfl ?_
  refine J_loop (he := fun (t : Int32) => [(0, .ref x0), (1, .int x1), (2, .int t)]) [1, 2, 0] rfl (fun t => ?_)
  exact j_X8_isLawful_L14 D dA x0 x1 t
noncomputable def f_X8_isLawful (x0 : Nat) : JM Mem Int32 :=
  jloop (fun (t : Int32) => X8_isLawful_L2 x0 t) 0
theorem j_X8_isLawful (D : va_G) (dA : Nat → ClassId) (x0 : Nat) : J (PM D dA false) Y_X8_isLawful [(0, .ref x0)] [] 0 (f_X8_isLawful x0) (FRet injI) := by
  unfold f_X8_isLawful
  refine J_iconst (v := 0) dX8_isLawful_0 (by decide) ?_
  refine J_istore_n (env' := [(1, .int 0), (0, .ref x0)]) dX8_isLawful_1 rfl (by decide) rfl ?_
  refine J_loop (he := fun (t : Int32) => [(0, .ref x0), (1, .int t)]) [1, 0] rfl (fun t => ?_)
  exact j_X8_isLawful_L2 D dA x0 t
theorem i_X8_isLawful (x0 : Nat) : Impl (ws_ yX8_isLawful cX8_isLawful 4 (some .boolean)) yX8_isLawful 6 false 0 0 [.ref x0] (f_X8_isLawful x0) injI := impl_of (plainFor_of_name (by decide)) (Nat.le_of_ble_eq_true rfl) (fun D dA => j_X8_isLawful D dA x0)
theorem cw_X8_isLawful (Y : JY) (h : 7 ≤ Y.2.2.2.1) : JCw Y (ws_ yX8_isLawful cX8_isLawful 4 (some .boolean)) yX8_isLawful cX8_isLawful 4 (some .boolean) 6 := ⟨h, by decide, lw_meth q1926, q198, by decide, by decide⟩
theorem np_X8_isLawful : JNp yX8_isLawful.desc 0 := by decide +kernel
-- BracketRoomModel.lawful()I
abbrev Y_X8_lawful : JY := (cX8_lawful, yX8_lawful.cls, 1, 7, yX8_lawful.name, (some .int), [])
noncomputable def f_X8_lawful (x0 : Nat) : JM Mem Int32 :=
  jb (jputI 7 1 x0 0) fun _ =>
  jb (jputI 7 0 x0 0) fun _ =>
  jb (jcall 7 x0 (f_X8_askNow x0)) fun _ =>
  jb (jcall 7 x0 (f_X8_isLawful x0)) fun v1 =>
  if v1 = 0 then
    jp 0
  else
    jp 1
theorem j_X8_lawful (D : va_G) (dA : Nat → ClassId) (x0 : Nat) : J (PM D dA false) Y_X8_lawful [(0, .ref x0)] [] 0 (f_X8_lawful x0) (FRet injI) := by
  unfold f_X8_lawful
  refine J_aload_n dX8_lawful_0 rfl 0 rfl ?_
  refine J_iconst (v := 0) dX8_lawful_1 (by decide) ?_
  refine J_putI dX8_lawful_2 ⟨fl_X8_132, Or.inl rfl⟩ rfl ?_
  refine J_aload_n dX8_lawful_5 rfl 0 rfl ?_
  refine J_iconst (v := 0) dX8_lawful_6 (by decide) ?_
  refine J_putI dX8_lawful_7 ⟨fl_X8_135, Or.inl rfl⟩ rfl ?_
  refine J_aload_n dX8_lawful_10 rfl 0 rfl ?_
  refine J_callVV (c := 7) (as := []) dX8_lawful_11 (by decide) rfl (Nat.le_of_ble_eq_true rfl) (cw_X8_askNow _ (by decide)) q1862 q1864 qs88 q1865 np_X8_askNow (i_X8_askNow x0) jad_id rfl ?_
  refine J_aload_n dX8_lawful_14 rfl 0 rfl ?_
  refine J_callVI (c := 7) (as := []) dX8_lawful_15 (by decide) rfl (Nat.le_of_ble_eq_true rfl) (cw_X8_isLawful _ (by decide)) q1923 q1925 qs99 q1926 np_X8_isLawful (i_X8_isLawful x0) jad_id rfl (fun v1 => ?_)
  refine J_if_eq (tgt := 25) dX8_lawful_18 rfl ?_ ?_
  · refine J_iconst (v := 0) dX8_lawful_25 (by decide) ?_
    exact J_ireturn dX8_lawful_26 rfl
  refine J_iconst (v := 1) dX8_lawful_21 (by decide) ?_
  refine J_goto (tgt := 26) dX8_lawful_22 rfl ?_
  exact J_ireturn dX8_lawful_26 rfl
theorem i_X8_lawful (x0 : Nat) : Impl (ws_ yX8_lawful cX8_lawful 1 (some .int)) yX8_lawful 7 false 0 0 [.ref x0] (f_X8_lawful x0) injI := impl_of (plainFor_of_name (by decide)) (Nat.le_of_ble_eq_true rfl) (fun D dA => j_X8_lawful D dA x0)
theorem cw_X8_lawful (Y : JY) (h : 8 ≤ Y.2.2.2.1) : JCw Y (ws_ yX8_lawful cX8_lawful 1 (some .int)) yX8_lawful cX8_lawful 1 (some .int) 7 := ⟨h, by decide, lw_meth q1922, q198, by decide, by decide⟩
theorem np_X8_lawful : JNp yX8_lawful.desc 0 := by decide +kernel
-- BracketRoomModel.failing(I)I
abbrev Y_X8_failing : JY := (cX8_failing, yX8_failing.cls, 5, 6, yX8_failing.name, (some .int), [])
noncomputable def X8_failing_b117 (x0 : Nat) : JM Mem Int32 :=
  jb (jcall 7 x0 (f_X8_refuse x0 8)) fun v3 =>
  jp v3
theorem j_X8_failing_b117 (D : va_G) (dA : Nat → ClassId) (x0 : Nat) : J (PM D dA false) Y_X8_failing [(0, .ref x0)] [] 117 (X8_failing_b117 x0) (FRet injI) := by
  unfold X8_failing_b117
  refine J_aload_n dX8_failing_117 rfl 0 rfl ?_
  refine J_bipush (v := 8) dX8_failing_118 (by decide) ?_
  refine J_callVI (c := 7) (as := [.int 8]) dX8_failing_120 (by decide) rfl (Nat.le_of_ble_eq_true rfl) (cw_X8_refuse _ (by decide)) q1871 q1873 qs90 q1874 np_X8_refuse (i_X8_refuse x0 8) jad_id rfl (fun v3 => ?_)
  exact J_ireturn dX8_failing_123 rfl
noncomputable def X8_failing_b111 (x0 : Nat) (x1 : Int32) (x2 : Int32) : JM Mem (Int32 ⊕ (Int32)) :=
  jcont (x2 + 1)
theorem j_X8_failing_b111 (D : va_G) (dA : Nat → ClassId) (x0 : Nat) (x1 : Int32) (x2 : Int32) : J (PM D dA false) Y_X8_failing [(0, .ref x0), (1, .int x1), (2, .int x2)] [] 111 (X8_failing_b111 x0 x1 x2) (FLoop (FRet injI) 34 (fun (t : Int32) => [(0, .ref x0), (1, .int x1), (2, .int t)])) := by
  unfold X8_failing_b111
  refine J_iinc (v := x2 + 1) (env' := [(2, .int (x2 + 1)), (0, .ref x0), (1, .int x1)]) dX8_failing_111 2 rfl rfl (by decide) rfl ?_
  refine J_goto (tgt := 34) dX8_failing_114 rfl ?_
  exact J_cont [1, 2, 0] rfl
noncomputable def X8_failing_b105 (x0 : Nat) (x1 : Int32) (x2 : Int32) (x3 : Int32) : JM Mem ((Int32 ⊕ (Int32)) ⊕ (Int32)) :=
  jcont (x3 + 1)
theorem j_X8_failing_b105 (D : va_G) (dA : Nat → ClassId) (x0 : Nat) (x1 : Int32) (x2 : Int32) (x3 : Int32) : J (PM D dA false) Y_X8_failing [(0, .ref x0), (1, .int x1), (2, .int x2), (3, .int x3)] [] 105 (X8_failing_b105 x0 x1 x2 x3) (FLoop (FLoop (FRet injI) 34 (fun (t : Int32) => [(0, .ref x0), (1, .int x1), (2, .int t)])) 46 (fun (t : Int32) => [(0, .ref x0), (1, .int x1), (2, .int x2), (3, .int t)])) := by
  unfold X8_failing_b105
  refine J_iinc (v := x3 + 1) (env' := [(3, .int (x3 + 1)), (0, .ref x0), (1, .int x1), (2, .int x2)]) dX8_failing_105 3 rfl rfl (by decide) rfl ?_
  refine J_goto (tgt := 46) dX8_failing_108 rfl ?_
  exact J_cont [1, 2, 3, 0] rfl
noncomputable def X8_failing_b79 (x1 : Int32) (x2 : Int32) (x3 : Int32) (x4 : Int32) : JM Mem Int32 :=
  if x1 = 0 then
    jp x2
  else
  if x1 = 1 then
    jp x3
  else
    jp x4
theorem j_X8_failing_b79 (D : va_G) (dA : Nat → ClassId) (x1 : Int32) (x2 : Int32) (x3 : Int32) (x4 : Int32) : J (PM D dA false) Y_X8_failing [(1, .int x1), (2, .int x2), (3, .int x3), (4, .int x4)] [] 79 (X8_failing_b79 x1 x2 x3 x4) (FRet injI) := by
  unfold X8_failing_b79
  refine J_iload_n dX8_failing_79 rfl 0 rfl ?_
  refine J_if_ne (tgt := 87) dX8_failing_80 rfl ?_ ?_
  · refine J_iload_n dX8_failing_87 rfl 0 rfl ?_
    refine J_iconst (v := 1) dX8_failing_88 (by decide) ?_
    refine J_icmp_ne (tgt := 96) dX8_failing_89 rfl ?_ ?_
    · refine J_iload dX8_failing_96 3 rfl ?_
      exact J_ireturn dX8_failing_98 rfl
    refine J_iload_n dX8_failing_92 rfl 2 rfl ?_
    refine J_goto (tgt := 98) dX8_failing_93 rfl ?_
    exact J_ireturn dX8_failing_98 rfl
  refine J_iload_n dX8_failing_83 rfl 1 rfl ?_
  refine J_goto (tgt := 98) dX8_failing_84 rfl ?_
  exact J_ireturn dX8_failing_98 rfl
noncomputable def X8_failing_L59 (x0 : Nat) (x1 : Int32) (x2 : Int32) (x3 : Int32) (x4 : Int32) : JM Mem (((Int32 ⊕ (Int32)) ⊕ (Int32)) ⊕ (Int32)) :=
  jb (jgetI 7 27 x0) fun v7 =>
  if v7 ≤ x4 then
    jinl (X8_failing_b105 x0 x1 x2 x3)
  else
  jb (jcall 7 x0 (f_X8_breaks x0 x2 x3 x4)) fun v8 =>
  if v8 = 0 then
    jcont (x4 + 1)
  else
    jinl (jinl (jinl (X8_failing_b79 x1 x2 x3 x4)))
theorem j_X8_failing_L59 (D : va_G) (dA : Nat → ClassId) (x0 : Nat) (x1 : Int32) (x2 : Int32) (x3 : Int32) (x4 : Int32) : J (PM D dA false) Y_X8_failing [(0, .ref x0), (1, .int x1), (2, .int x2), (3, .int x3), (4, .int x4)] [] 59 (X8_failing_L59 x0 x1 x2 x3 x4) (FLoop (FLoop (FLoop (FRet injI) 34 (fun (t : Int32) => [(0, .ref x0), (1, .int x1), (2, .int t)])) 46 (fun (t : Int32) => [(0, .ref x0), (1, .int x1), (2, .int x2), (3, .int t)])) 59 (fun (t : Int32) => [(0, .ref x0), (1, .int x1), (2, .int x2), (3, .int x3), (4, .int t)])) := by
  unfold X8_failing_L59
  refine J_iload dX8_failing_59 4 rfl ?_
  refine J_aload_n dX8_failing_61 rfl 0 rfl ?_
  refine J_getI dX8_failing_62 fl_X8_253 rfl (fun v7 => ?_)
  refine J_icmp_ge (tgt := 105) dX8_failing_65 rfl ?_ ?_
  · refine J_inl ?_
    refine J_sub [0, 1, 2, 3] rfl ?_
    exact j_X8_failing_b105 D dA x0 x1 x2 x3
  refine J_aload_n dX8_failing_68 rfl 0 rfl ?_
  refine J_iload_n dX8_failing_69 rfl 2 rfl ?_
  refine J_iload_n dX8_failing_70 rfl 3 rfl ?_
  refine J_iload dX8_failing_71 4 rfl ?_
  refine J_callVI (c := 7) (as := [.int x2, .int x3, .int x4]) dX8_failing_73 (by decide) rfl (Nat.le_of_ble_eq_true rfl) (cw_X8_breaks _ (by decide)) q1927 q1929 qs100 q1930 np_X8_breaks (i_X8_breaks x0 x2 x3 x4) jad_id rfl (fun v8 => ?_)
  refine J_if_eq (tgt := 99) dX8_failing_76 rfl ?_ ?_
  · refine J_iinc (v := x4 + 1) (env' := [(4, .int (x4 + 1)), (0, .ref x0), (1, .int x1), (2, .int x2), (3, .int x3)]) dX8_failing_99 4 rfl rfl (by decide) rfl ?_
    refine J_goto (tgt := 59) dX8_failing_102 rfl ?_
    exact J_cont [1, 2, 3, 4, 0] rfl
  refine J_inl ?_
  refine J_inl ?_
  refine J_inl ?_
  refine J_sub [1, 2, 3, 4] rfl ?_
  exact j_X8_failing_b79 D dA x1 x2 x3 x4
noncomputable def X8_failing_L46 (x0 : Nat) (x1 : Int32) (x2 : Int32) (x3 : Int32) : JM Mem ((Int32 ⊕ (Int32)) ⊕ (Int32)) :=
  jb (jgetI 7 27 x0) fun v5 =>
  if v5 ≤ x3 then
    jinl (X8_failing_b111 x0 x1 x2)
  else
  jlet (x3 + 1) fun y6 =>
  jloop (fun (t : Int32) => X8_failing_L59 x0 x1 x2 x3 t) y6
theorem j_X8_failing_L46 (D : va_G) (dA : Nat → ClassId) (x0 : Nat) (x1 : Int32) (x2 : Int32) (x3 : Int32) : J (PM D dA false) Y_X8_failing [(0, .ref x0), (1, .int x1), (2, .int x2), (3, .int x3)] [] 46 (X8_failing_L46 x0 x1 x2 x3) (FLoop (FLoop (FRet injI) 34 (fun (t : Int32) => [(0, .ref x0), (1, .int x1), (2, .int t)])) 46 (fun (t : Int32) => [(0, .ref x0), (1, .int x1), (2, .int x2), (3, .int t)])) := by
  unfold X8_failing_L46
  refine J_iload_n dX8_failing_46 rfl 3 rfl ?_
  refine J_aload_n dX8_failing_47 rfl 0 rfl ?_
  refine J_getI dX8_failing_48 fl_X8_253 rfl (fun v5 => ?_)
  refine J_icmp_ge (tgt := 111) dX8_failing_51 rfl ?_ ?_
  · refine J_inl ?_
    refine J_sub [0, 1, 2] rfl ?_
    exact j_X8_failing_b111 D dA x0 x1 x2
  refine J_iload_n dX8_failing_54 rfl 3 rfl ?_
  refine J_iconst (v := 1) dX8_failing_55 (by decide) ?_
  refine J_iadd dX8_failing_56 ?_
  refine J_letI (fun y6 => ?_)
  refine J_istore (env' := [(4, .int y6), (0, .ref x0), (1, .int x1), (2, .int x2), (3, .int x3)]) dX8_failing_57 (by decide) rfl ?_
  refine J_loop (he := fun (t : Int32) => [(0, .ref x0), (1, .int x1), (2, .int x2), (3, .int x3), (4, .int t)]) [1, 2, 3, 4, 0] rfl (fun t => ?_)
  exact j_X8_failing_L59 D dA x0 x1 x2 x3 t
noncomputable def X8_failing_L34 (x0 : Nat) (x1 : Int32) (x2 : Int32) : JM Mem (Int32 ⊕ (Int32)) :=
  jb (jgetI 7 27 x0) fun v2 =>
  if v2 ≤ x2 then
    jinl (X8_failing_b117 x0)
  else
  jlet (x2 + 1) fun y4 =>
  jloop (fun (t : Int32) => X8_failing_L46 x0 x1 x2 t) y4
theorem j_X8_failing_L34 (D : va_G) (dA : Nat → ClassId) (x0 : Nat) (x1 : Int32) (x2 : Int32) : J (PM D dA false) Y_X8_failing [(0, .ref x0), (1, .int x1), (2, .int x2)] [] 34 (X8_failing_L34 x0 x1 x2) (FLoop (FRet injI) 34 (fun (t : Int32) => [(0, .ref x0), (1, .int x1), (2, .int t)])) := by
  unfold X8_failing_L34
  refine J_iload_n dX8_failing_34 rfl 2 rfl ?_
  refine J_aload_n dX8_failing_35 rfl 0 rfl ?_
  refine J_getI dX8_failing_36 fl_X8_253 rfl (fun v2 => ?_)
  refine J_icmp_ge (tgt := 117) dX8_failing_39 rfl ?_ ?_
  · refine J_inl ?_
    refine J_sub [0] rfl ?_
    exact j_X8_failing_b117 D dA x0
  refine J_iload_n dX8_failing_42 rfl 2 rfl ?_
  refine J_iconst (v := 1) dX8_failing_43 (by decide) ?_
  refine J_iadd dX8_failing_44 ?_
  refine J_letI (fun y4 => ?_)
  refine J_istore_n (env' := [(3, .int y4), (0, .ref x0), (1, .int x1), (2, .int x2)]) dX8_failing_45 rfl (by decide) rfl ?_
  refine J_loop (he := fun (t : Int32) => [(0, .ref x0), (1, .int x1), (2, .int x2), (3, .int t)]) [1, 2, 3, 0] rfl (fun t => ?_)
  exact j_X8_failing_L46 D dA x0 x1 x2 t
noncomputable def f_X8_failing (x0 : Nat) (x1 : Int32) : JM Mem Int32 :=
  jb (jputI 7 1 x0 0) fun _ =>
  jb (jputI 7 0 x0 0) fun _ =>
  jb (jcall 7 x0 (f_X8_askNow x0)) fun _ =>
  jb ((f_X8_isIn ((x1 : Int32).toInt64) 0 2)) fun v1 =>
  if v1 = 0 then
    jb (jcall 7 x0 (f_X8_refuse x0 5)) fun v9 =>
    jp v9
  else
    jloop (fun (t : Int32) => X8_failing_L34 x0 x1 t) 0
theorem j_X8_failing (D : va_G) (dA : Nat → ClassId) (x0 : Nat) (x1 : Int32) : J (PM D dA false) Y_X8_failing [(0, .ref x0), (1, .int x1)] [] 0 (f_X8_failing x0 x1) (FRet injI) := by
  unfold f_X8_failing
  refine J_aload_n dX8_failing_0 rfl 0 rfl ?_
  refine J_iconst (v := 0) dX8_failing_1 (by decide) ?_
  refine J_putI dX8_failing_2 ⟨fl_X8_132, Or.inl rfl⟩ rfl ?_
  refine J_aload_n dX8_failing_5 rfl 0 rfl ?_
  refine J_iconst (v := 0) dX8_failing_6 (by decide) ?_
  refine J_putI dX8_failing_7 ⟨fl_X8_135, Or.inl rfl⟩ rfl ?_
  refine J_aload_n dX8_failing_10 rfl 0 rfl ?_
  refine J_callVV (c := 7) (as := []) dX8_failing_11 (by decide) rfl (Nat.le_of_ble_eq_true rfl) (cw_X8_askNow _ (by decide)) q1862 q1864 qs88 q1865 np_X8_askNow (i_X8_askNow x0) jad_id rfl ?_
  refine J_iload_n dX8_failing_14 rfl 1 rfl ?_
  refine J_i2l dX8_failing_15 ?_
  refine J_lconst (v := 0) dX8_failing_16 (by decide) ?_
  refine J_ldc2 dX8_failing_17 q1947 ?_
  refine J_callSI (host := "") (as := [.long ((x1 : Int32).toInt64), .long 0, .long 2]) dX8_failing_20 rfl (Nat.le_of_ble_eq_true rfl) (cw_X8_isIn _ (by decide)) q1801 q1802 q1803 np_X8_isIn (i_X8_isIn ((x1 : Int32).toInt64) 0 2) jad_id rfl (fun v1 => ?_)
  refine J_if_ne (tgt := 32) dX8_failing_23 rfl ?_ ?_
  · refine J_iconst (v := 0) dX8_failing_32 (by decide) ?_
    refine J_istore_n (env' := [(2, .int 0), (0, .ref x0), (1, .int x1)]) dX8_failing_33 rfl (by decide) rfl ?_
    refine J_loop (he := fun (t : Int32) => [(0, .ref x0), (1, .int x1), (2, .int t)]) [1, 2, 0] rfl (fun t => ?_)
    exact j_X8_failing_L34 D dA x0 x1 t
  refine J_aload_n dX8_failing_26 rfl 0 rfl ?_
  refine J_iconst (v := 5) dX8_failing_27 (by decide) ?_
  refine J_callVI (c := 7) (as := [.int 5]) dX8_failing_28 (by decide) rfl (Nat.le_of_ble_eq_true rfl) (cw_X8_refuse _ (by decide)) q1871 q1873 qs90 q1874 np_X8_refuse (i_X8_refuse x0 5) jad_id rfl (fun v9 => ?_)
  exact J_ireturn dX8_failing_31 rfl
theorem i_X8_failing (x0 : Nat) (x1 : Int32) : Impl (ws_ yX8_failing cX8_failing 5 (some .int)) yX8_failing 6 false 0 0 [.ref x0, .int x1] (f_X8_failing x0 x1) injI := impl_of (plainFor_of_name (by decide)) (Nat.le_of_ble_eq_true rfl) (fun D dA => j_X8_failing D dA x0 x1)
theorem cw_X8_failing (Y : JY) (h : 7 ≤ Y.2.2.2.1) : JCw Y (ws_ yX8_failing cX8_failing 5 (some .int)) yX8_failing cX8_failing 5 (some .int) 6 := ⟨h, by decide, lw_meth q1946, q198, by decide, by decide⟩
theorem np_X8_failing : JNp yX8_failing.desc 1 := by decide +kernel
-- BracketRoomModel.isShelf(I)Z
abbrev Y_X8_isShelf : JY := (cX8_isShelf, yX8_isShelf.cls, 1, 2, yX8_isShelf.name, (some .boolean), [])
noncomputable def f_X8_isShelf (x0 : Int32) : JM Mem Int32 :=
  jb ((f_X8_isIn ((x0 : Int32).toInt64) 0 3)) fun v1 =>
  jrz v1
theorem j_X8_isShelf (D : va_G) (dA : Nat → ClassId) (x0 : Int32) : J (PM D dA false) Y_X8_isShelf [(0, .int x0)] [] 0 (f_X8_isShelf x0) (FRet injI) := by
  unfold f_X8_isShelf
  refine J_iload_n dX8_isShelf_0 rfl 0 rfl ?_
  refine J_i2l dX8_isShelf_1 ?_
  refine J_lconst (v := 0) dX8_isShelf_2 (by decide) ?_
  refine J_ldc2 dX8_isShelf_3 q1870 ?_
  refine J_callSI (host := "") (as := [.long ((x0 : Int32).toInt64), .long 0, .long 3]) dX8_isShelf_6 rfl (Nat.le_of_ble_eq_true rfl) (cw_X8_isIn _ (by decide)) q1801 q1802 q1803 np_X8_isIn (i_X8_isIn ((x0 : Int32).toInt64) 0 3) jad_id rfl (fun v1 => ?_)
  exact J_zreturn dX8_isShelf_9 rfl
theorem i_X8_isShelf (x0 : Int32) : Impl (ws_ yX8_isShelf cX8_isShelf 1 (some .boolean)) yX8_isShelf 2 false 0 0 [.int x0] (f_X8_isShelf x0) injI := impl_of (plainFor_of_name (by decide)) (Nat.le_of_ble_eq_true rfl) (fun D dA => j_X8_isShelf D dA x0)
theorem cw_X8_isShelf (Y : JY) (h : 3 ≤ Y.2.2.2.1) : JCw Y (ws_ yX8_isShelf cX8_isShelf 1 (some .boolean)) yX8_isShelf cX8_isShelf 1 (some .boolean) 2 := ⟨h, by decide, lw_meth q1954, q198, by decide, by decide⟩
theorem np_X8_isShelf : JNp yX8_isShelf.desc 1 := by decide +kernel
-- BracketRoomModel.keep(I)Z
abbrev Y_X8_keep : JY := (cX8_keep, yX8_keep.cls, 2, 3, yX8_keep.name, (some .boolean), [])
noncomputable def f_X8_keep (x0 : Nat) (x1 : Int32) : JM Mem Int32 :=
  jb (jputI 7 1 x0 0) fun _ =>
  jb (jputI 7 0 x0 0) fun _ =>
  jb ((f_X8_isShelf x1)) fun v1 =>
  if v1 = 0 then
    jb (jcall 7 x0 (f_X8_no x0 2)) fun v4 =>
    jrz v4
  else
  jb (jgetA 7 19 x0) fun v2 =>
  jb (jgetA 7 19 x0) fun v3 =>
  jb (jcall 7 x0 (f_X8_move x0 v2 0 v3 (127 * (x1 + 1)))) fun _ =>
  jp 1
theorem j_X8_keep (D : va_G) (dA : Nat → ClassId) (x0 : Nat) (x1 : Int32) : J (PM D dA false) Y_X8_keep [(0, .ref x0), (1, .int x1)] [] 0 (f_X8_keep x0 x1) (FRet injI) := by
  unfold f_X8_keep
  refine J_aload_n dX8_keep_0 rfl 0 rfl ?_
  refine J_iconst (v := 0) dX8_keep_1 (by decide) ?_
  refine J_putI dX8_keep_2 ⟨fl_X8_132, Or.inl rfl⟩ rfl ?_
  refine J_aload_n dX8_keep_5 rfl 0 rfl ?_
  refine J_iconst (v := 0) dX8_keep_6 (by decide) ?_
  refine J_putI dX8_keep_7 ⟨fl_X8_135, Or.inl rfl⟩ rfl ?_
  refine J_iload_n dX8_keep_10 rfl 1 rfl ?_
  refine J_callSI (host := "") (as := [.int x1]) dX8_keep_11 rfl (Nat.le_of_ble_eq_true rfl) (cw_X8_isShelf _ (by decide)) q1952 q1953 q1954 np_X8_isShelf (i_X8_isShelf x1) jad_id rfl (fun v1 => ?_)
  refine J_if_ne (tgt := 23) dX8_keep_14 rfl ?_ ?_
  · refine J_aload_n dX8_keep_23 rfl 0 rfl ?_
    refine J_aload_n dX8_keep_24 rfl 0 rfl ?_
    refine J_getA dX8_keep_25 fl_X8_35 rfl (fun v2 => ?_)
    refine J_iconst (v := 0) dX8_keep_28 (by decide) ?_
    refine J_aload_n dX8_keep_29 rfl 0 rfl ?_
    refine J_getA dX8_keep_30 fl_X8_35 rfl (fun v3 => ?_)
    refine J_bipush (v := 127) dX8_keep_33 (by decide) ?_
    refine J_iload_n dX8_keep_35 rfl 1 rfl ?_
    refine J_iconst (v := 1) dX8_keep_36 (by decide) ?_
    refine J_iadd dX8_keep_37 ?_
    refine J_imul dX8_keep_38 ?_
    refine J_callVV (c := 7) (as := [.ref v2, .int 0, .ref v3, .int (127 * (x1 + 1))]) dX8_keep_39 (by decide) rfl (Nat.le_of_ble_eq_true rfl) (cw_X8_move _ (by decide)) q1854 q1856 qs87 q1857 np_X8_move (i_X8_move x0 v2 0 v3 (127 * (x1 + 1))) jad_id rfl ?_
    refine J_iconst (v := 1) dX8_keep_42 (by decide) ?_
    exact J_zreturn1 dX8_keep_43 rfl
  refine J_aload_n dX8_keep_17 rfl 0 rfl ?_
  refine J_iconst (v := 2) dX8_keep_18 (by decide) ?_
  refine J_callVI (c := 7) (as := [.int 2]) dX8_keep_19 (by decide) rfl (Nat.le_of_ble_eq_true rfl) (cw_X8_no _ (by decide)) q1702 q1704 qs64 q1705 np_X8_no (i_X8_no x0 2) jad_id rfl (fun v4 => ?_)
  exact J_zreturn dX8_keep_22 rfl
theorem i_X8_keep (x0 : Nat) (x1 : Int32) : Impl (ws_ yX8_keep cX8_keep 2 (some .boolean)) yX8_keep 3 false 0 0 [.ref x0, .int x1] (f_X8_keep x0 x1) injI := impl_of (plainFor_of_name (by decide)) (Nat.le_of_ble_eq_true rfl) (fun D dA => j_X8_keep D dA x0 x1)
theorem cw_X8_keep (Y : JY) (h : 4 ≤ Y.2.2.2.1) : JCw Y (ws_ yX8_keep cX8_keep 2 (some .boolean)) yX8_keep cX8_keep 2 (some .boolean) 3 := ⟨h, by decide, lw_meth q1951, q198, by decide, by decide⟩
theorem np_X8_keep : JNp yX8_keep.desc 1 := by decide +kernel
-- BracketRoomModel.isEmpty(I)Z
abbrev Y_X8_isEmpty : JY := (cX8_isEmpty, yX8_isEmpty.cls, 2, 1, yX8_isEmpty.name, (some .boolean), [])
noncomputable def f_X8_isEmpty (x0 : Nat) (x1 : Int32) : JM Mem Int32 :=
  jb (jgetA 7 19 x0) fun v1 =>
  jb (jald mI 0 v1 (127 * (x1 + 1))) fun v2 =>
  if v2 = 0 then
    jp 1
  else
    jp 0
theorem j_X8_isEmpty (D : va_G) (dA : Nat → ClassId) (x0 : Nat) (x1 : Int32) : J (PM D dA false) Y_X8_isEmpty [(0, .ref x0), (1, .int x1)] [] 0 (f_X8_isEmpty x0 x1) (FRet injI) := by
  unfold f_X8_isEmpty
  refine J_aload_n dX8_isEmpty_0 rfl 0 rfl ?_
  refine J_getA dX8_isEmpty_1 fl_X8_35 rfl (fun v1 => ?_)
  refine J_bipush (v := 127) dX8_isEmpty_4 (by decide) ?_
  refine J_iload_n dX8_isEmpty_6 rfl 1 rfl ?_
  refine J_iconst (v := 1) dX8_isEmpty_7 (by decide) ?_
  refine J_iadd dX8_isEmpty_8 ?_
  refine J_imul dX8_isEmpty_9 ?_
  refine J_iald dX8_isEmpty_10 (fun v2 => ?_)
  refine J_if_ne (tgt := 18) dX8_isEmpty_11 rfl ?_ ?_
  · refine J_iconst (v := 0) dX8_isEmpty_18 (by decide) ?_
    exact J_zreturn0 dX8_isEmpty_19 rfl
  refine J_iconst (v := 1) dX8_isEmpty_14 (by decide) ?_
  refine J_goto (tgt := 19) dX8_isEmpty_15 rfl ?_
  exact J_zreturn1 dX8_isEmpty_19 rfl
theorem i_X8_isEmpty (x0 : Nat) (x1 : Int32) : Impl (ws_ yX8_isEmpty cX8_isEmpty 2 (some .boolean)) yX8_isEmpty 1 false 0 0 [.ref x0, .int x1] (f_X8_isEmpty x0 x1) injI := impl_of (plainFor_of_name (by decide)) (Nat.le_of_ble_eq_true rfl) (fun D dA => j_X8_isEmpty D dA x0 x1)
theorem cw_X8_isEmpty (Y : JY) (h : 2 ≤ Y.2.2.2.1) : JCw Y (ws_ yX8_isEmpty cX8_isEmpty 2 (some .boolean)) yX8_isEmpty cX8_isEmpty 2 (some .boolean) 1 := ⟨h, by decide, lw_meth q1962, q198, by decide, by decide⟩
theorem np_X8_isEmpty : JNp yX8_isEmpty.desc 1 := by decide +kernel
-- BracketRoomModel.take(I)Z
abbrev Y_X8_take : JY := (cX8_take, yX8_take.cls, 2, 3, yX8_take.name, (some .boolean), [])
noncomputable def f_X8_take (x0 : Nat) (x1 : Int32) : JM Mem Int32 :=
  jb (jputI 7 1 x0 0) fun _ =>
  jb (jputI 7 0 x0 0) fun _ =>
  jb ((f_X8_isShelf x1)) fun v1 =>
  if v1 = 0 then
    jb (jcall 7 x0 (f_X8_no x0 2)) fun v6 =>
    jrz v6
  else
  jb (jcall 7 x0 (f_X8_isEmpty x0 x1)) fun v2 =>
  if v2 = 0 then
    jb (jgetA 7 19 x0) fun v3 =>
    jb (jgetA 7 19 x0) fun v4 =>
    jb (jcall 7 x0 (f_X8_move x0 v3 (127 * (x1 + 1)) v4 0)) fun _ =>
    jp 1
  else
  jb (jcall 7 x0 (f_X8_no x0 8)) fun v5 =>
  jrz v5
theorem j_X8_take (D : va_G) (dA : Nat → ClassId) (x0 : Nat) (x1 : Int32) : J (PM D dA false) Y_X8_take [(0, .ref x0), (1, .int x1)] [] 0 (f_X8_take x0 x1) (FRet injI) := by
  unfold f_X8_take
  refine J_aload_n dX8_take_0 rfl 0 rfl ?_
  refine J_iconst (v := 0) dX8_take_1 (by decide) ?_
  refine J_putI dX8_take_2 ⟨fl_X8_132, Or.inl rfl⟩ rfl ?_
  refine J_aload_n dX8_take_5 rfl 0 rfl ?_
  refine J_iconst (v := 0) dX8_take_6 (by decide) ?_
  refine J_putI dX8_take_7 ⟨fl_X8_135, Or.inl rfl⟩ rfl ?_
  refine J_iload_n dX8_take_10 rfl 1 rfl ?_
  refine J_callSI (host := "") (as := [.int x1]) dX8_take_11 rfl (Nat.le_of_ble_eq_true rfl) (cw_X8_isShelf _ (by decide)) q1952 q1953 q1954 np_X8_isShelf (i_X8_isShelf x1) jad_id rfl (fun v1 => ?_)
  refine J_if_ne (tgt := 23) dX8_take_14 rfl ?_ ?_
  · refine J_aload_n dX8_take_23 rfl 0 rfl ?_
    refine J_iload_n dX8_take_24 rfl 1 rfl ?_
    refine J_callVI (c := 7) (as := [.int x1]) dX8_take_25 (by decide) rfl (Nat.le_of_ble_eq_true rfl) (cw_X8_isEmpty _ (by decide)) q1959 q1961 qs104 q1962 np_X8_isEmpty (i_X8_isEmpty x0 x1) jad_id rfl (fun v2 => ?_)
    refine J_if_eq (tgt := 38) dX8_take_28 rfl ?_ ?_
    · refine J_aload_n dX8_take_38 rfl 0 rfl ?_
      refine J_aload_n dX8_take_39 rfl 0 rfl ?_
      refine J_getA dX8_take_40 fl_X8_35 rfl (fun v3 => ?_)
      refine J_bipush (v := 127) dX8_take_43 (by decide) ?_
      refine J_iload_n dX8_take_45 rfl 1 rfl ?_
      refine J_iconst (v := 1) dX8_take_46 (by decide) ?_
      refine J_iadd dX8_take_47 ?_
      refine J_imul dX8_take_48 ?_
      refine J_aload_n dX8_take_49 rfl 0 rfl ?_
      refine J_getA dX8_take_50 fl_X8_35 rfl (fun v4 => ?_)
      refine J_iconst (v := 0) dX8_take_53 (by decide) ?_
      refine J_callVV (c := 7) (as := [.ref v3, .int (127 * (x1 + 1)), .ref v4, .int 0]) dX8_take_54 (by decide) rfl (Nat.le_of_ble_eq_true rfl) (cw_X8_move _ (by decide)) q1854 q1856 qs87 q1857 np_X8_move (i_X8_move x0 v3 (127 * (x1 + 1)) v4 0) jad_id rfl ?_
      refine J_iconst (v := 1) dX8_take_57 (by decide) ?_
      exact J_zreturn1 dX8_take_58 rfl
    refine J_aload_n dX8_take_31 rfl 0 rfl ?_
    refine J_bipush (v := 8) dX8_take_32 (by decide) ?_
    refine J_callVI (c := 7) (as := [.int 8]) dX8_take_34 (by decide) rfl (Nat.le_of_ble_eq_true rfl) (cw_X8_no _ (by decide)) q1702 q1704 qs64 q1705 np_X8_no (i_X8_no x0 8) jad_id rfl (fun v5 => ?_)
    exact J_zreturn dX8_take_37 rfl
  refine J_aload_n dX8_take_17 rfl 0 rfl ?_
  refine J_iconst (v := 2) dX8_take_18 (by decide) ?_
  refine J_callVI (c := 7) (as := [.int 2]) dX8_take_19 (by decide) rfl (Nat.le_of_ble_eq_true rfl) (cw_X8_no _ (by decide)) q1702 q1704 qs64 q1705 np_X8_no (i_X8_no x0 2) jad_id rfl (fun v6 => ?_)
  exact J_zreturn dX8_take_22 rfl
theorem i_X8_take (x0 : Nat) (x1 : Int32) : Impl (ws_ yX8_take cX8_take 2 (some .boolean)) yX8_take 3 false 0 0 [.ref x0, .int x1] (f_X8_take x0 x1) injI := impl_of (plainFor_of_name (by decide)) (Nat.le_of_ble_eq_true rfl) (fun D dA => j_X8_take D dA x0 x1)
theorem cw_X8_take (Y : JY) (h : 4 ≤ Y.2.2.2.1) : JCw Y (ws_ yX8_take cX8_take 2 (some .boolean)) yX8_take cX8_take 2 (some .boolean) 3 := ⟨h, by decide, lw_meth q1958, q198, by decide, by decide⟩
theorem np_X8_take : JNp yX8_take.desc 1 := by decide +kernel
-- BracketRoomModel.isTray(I)Z
abbrev Y_X8_isTray : JY := (cX8_isTray, yX8_isTray.cls, 2, 2, yX8_isTray.name, (some .boolean), [])
noncomputable def f_X8_isTray (x0 : Nat) (x1 : Int32) : JM Mem Int32 :=
  jb ((f_X8_isIn ((x1 : Int32).toInt64) 0 3)) fun v1 =>
  jrz v1
theorem j_X8_isTray (D : va_G) (dA : Nat → ClassId) (x0 : Nat) (x1 : Int32) : J (PM D dA false) Y_X8_isTray [(0, .ref x0), (1, .int x1)] [] 0 (f_X8_isTray x0 x1) (FRet injI) := by
  unfold f_X8_isTray
  refine J_iload_n dX8_isTray_0 rfl 1 rfl ?_
  refine J_i2l dX8_isTray_1 ?_
  refine J_lconst (v := 0) dX8_isTray_2 (by decide) ?_
  refine J_ldc2 dX8_isTray_3 q1870 ?_
  refine J_callSI (host := "") (as := [.long ((x1 : Int32).toInt64), .long 0, .long 3]) dX8_isTray_6 rfl (Nat.le_of_ble_eq_true rfl) (cw_X8_isIn _ (by decide)) q1801 q1802 q1803 np_X8_isIn (i_X8_isIn ((x1 : Int32).toInt64) 0 3) jad_id rfl (fun v1 => ?_)
  exact J_zreturn dX8_isTray_9 rfl
theorem i_X8_isTray (x0 : Nat) (x1 : Int32) : Impl (ws_ yX8_isTray cX8_isTray 2 (some .boolean)) yX8_isTray 2 false 0 0 [.ref x0, .int x1] (f_X8_isTray x0 x1) injI := impl_of (plainFor_of_name (by decide)) (Nat.le_of_ble_eq_true rfl) (fun D dA => j_X8_isTray D dA x0 x1)
theorem cw_X8_isTray (Y : JY) (h : 3 ≤ Y.2.2.2.1) : JCw Y (ws_ yX8_isTray cX8_isTray 2 (some .boolean)) yX8_isTray cX8_isTray 2 (some .boolean) 2 := ⟨h, by decide, lw_meth q1970, q198, by decide, by decide⟩
theorem np_X8_isTray : JNp yX8_isTray.desc 1 := by decide +kernel
-- BracketRoomModel.numberOf(II)J
abbrev Y_X8_numberOf : JY := (cX8_numberOf, yX8_numberOf.cls, 3, 1, yX8_numberOf.name, (some .long), [])
noncomputable def f_X8_numberOf (x0 : Nat) (x1 : Int32) (x2 : Int32) : JM Mem Int64 :=
  jb (jgetA 7 6 x0) fun v1 =>
  jb (jald mL 3 v1 ((60 * x1) + x2)) fun v2 =>
  jp v2
theorem j_X8_numberOf (D : va_G) (dA : Nat → ClassId) (x0 : Nat) (x1 : Int32) (x2 : Int32) : J (PM D dA false) Y_X8_numberOf [(0, .ref x0), (1, .int x1), (2, .int x2)] [] 0 (f_X8_numberOf x0 x1 x2) (FRet injL) := by
  unfold f_X8_numberOf
  refine J_aload_n dX8_numberOf_0 rfl 0 rfl ?_
  refine J_getA dX8_numberOf_1 fl_X8_20 rfl (fun v1 => ?_)
  refine J_bipush (v := 60) dX8_numberOf_4 (by decide) ?_
  refine J_iload_n dX8_numberOf_6 rfl 1 rfl ?_
  refine J_imul dX8_numberOf_7 ?_
  refine J_iload_n dX8_numberOf_8 rfl 2 rfl ?_
  refine J_iadd dX8_numberOf_9 ?_
  refine J_lald dX8_numberOf_10 (fun v2 => ?_)
  exact J_lreturn dX8_numberOf_11 rfl
theorem i_X8_numberOf (x0 : Nat) (x1 : Int32) (x2 : Int32) : Impl (ws_ yX8_numberOf cX8_numberOf 3 (some .long)) yX8_numberOf 1 false 0 0 [.ref x0, .int x1, .int x2] (f_X8_numberOf x0 x1 x2) injL := impl_of (plainFor_of_name (by decide)) (Nat.le_of_ble_eq_true rfl) (fun D dA => j_X8_numberOf D dA x0 x1 x2)
theorem cw_X8_numberOf (Y : JY) (h : 2 ≤ Y.2.2.2.1) : JCw Y (ws_ yX8_numberOf cX8_numberOf 3 (some .long)) yX8_numberOf cX8_numberOf 3 (some .long) 1 := ⟨h, by decide, lw_meth q1979, q198, by decide, by decide⟩
theorem np_X8_numberOf : JNp yX8_numberOf.desc 2 := by decide +kernel
-- BracketRoomModel.wrongVectors(II)I
abbrev Y_X8_wrongVectors : JY := (cX8_wrongVectors, yX8_wrongVectors.cls, 4, 4, yX8_wrongVectors.name, (some .int), [])
noncomputable def X8_wrongVectors_L14 (x0 : Nat) (x1 : Int32) (x2 : Int32) (x3 : Int32) : JM Mem (Int32 ⊕ (Int32)) :=
  if x2 ≤ x3 then
    jinl (jp 0)
  else
  jb (jcall 7 x0 (f_X8_numberOf x0 x1 x3)) fun v3 =>
  jb (jcall 7 x0 (f_X8_isVector x0 v3)) fun v4 =>
  if v4 = 0 then
    jinl (jp 5)
  else
    jcont (x3 + 1)
theorem j_X8_wrongVectors_L14 (D : va_G) (dA : Nat → ClassId) (x0 : Nat) (x1 : Int32) (x2 : Int32) (x3 : Int32) : J (PM D dA false) Y_X8_wrongVectors [(0, .ref x0), (1, .int x1), (2, .int x2), (3, .int x3)] [] 14 (X8_wrongVectors_L14 x0 x1 x2 x3) (FLoop (FRet injI) 14 (fun (t : Int32) => [(0, .ref x0), (1, .int x1), (2, .int x2), (3, .int t)])) := by
  unfold X8_wrongVectors_L14
  refine J_iload_n dX8_wrongVectors_14 rfl 3 rfl ?_
  refine J_iload_n dX8_wrongVectors_15 rfl 2 rfl ?_
  refine J_icmp_ge (tgt := 40) dX8_wrongVectors_16 rfl ?_ ?_
  · refine J_inl ?_
    refine J_iconst (v := 0) dX8_wrongVectors_40 (by decide) ?_
    exact J_ireturn dX8_wrongVectors_41 rfl
  refine J_aload_n dX8_wrongVectors_19 rfl 0 rfl ?_
  refine J_aload_n dX8_wrongVectors_20 rfl 0 rfl ?_
  refine J_iload_n dX8_wrongVectors_21 rfl 1 rfl ?_
  refine J_iload_n dX8_wrongVectors_22 rfl 3 rfl ?_
  refine J_callVL (c := 7) (as := [.int x1, .int x3]) dX8_wrongVectors_23 (by decide) rfl (Nat.le_of_ble_eq_true rfl) (cw_X8_numberOf _ (by decide)) q1976 q1978 qs107 q1979 np_X8_numberOf (i_X8_numberOf x0 x1 x3) jad_id rfl (fun v3 => ?_)
  refine J_callVI (c := 7) (as := [.long v3]) dX8_wrongVectors_26 (by decide) rfl (Nat.le_of_ble_eq_true rfl) (cw_X8_isVector _ (by decide)) q1895 q1897 qs93 q1898 np_X8_isVector (i_X8_isVector x0 v3) jad_id rfl (fun v4 => ?_)
  refine J_if_ne (tgt := 34) dX8_wrongVectors_29 rfl ?_ ?_
  · refine J_iinc (v := x3 + 1) (env' := [(3, .int (x3 + 1)), (0, .ref x0), (1, .int x1), (2, .int x2)]) dX8_wrongVectors_34 3 rfl rfl (by decide) rfl ?_
    refine J_goto (tgt := 14) dX8_wrongVectors_37 rfl ?_
    exact J_cont [1, 2, 3, 0] rfl
  refine J_inl ?_
  refine J_iconst (v := 5) dX8_wrongVectors_32 (by decide) ?_
  exact J_ireturn dX8_wrongVectors_33 rfl
noncomputable def f_X8_wrongVectors (x0 : Nat) (x1 : Int32) (x2 : Int32) : JM Mem Int32 :=
  jb (jgetA 7 5 x0) fun v1 =>
  jb (jald mI 0 v1 x1) fun v2 =>
  if x2 ≤ v2 then
    jloop (fun (t : Int32) => X8_wrongVectors_L14 x0 x1 x2 t) 0
  else
    jp 4
theorem j_X8_wrongVectors (D : va_G) (dA : Nat → ClassId) (x0 : Nat) (x1 : Int32) (x2 : Int32) : J (PM D dA false) Y_X8_wrongVectors [(0, .ref x0), (1, .int x1), (2, .int x2)] [] 0 (f_X8_wrongVectors x0 x1 x2) (FRet injI) := by
  unfold f_X8_wrongVectors
  refine J_aload_n dX8_wrongVectors_0 rfl 0 rfl ?_
  refine J_getA dX8_wrongVectors_1 fl_X8_17 rfl (fun v1 => ?_)
  refine J_iload_n dX8_wrongVectors_4 rfl 1 rfl ?_
  refine J_iald dX8_wrongVectors_5 (fun v2 => ?_)
  refine J_iload_n dX8_wrongVectors_6 rfl 2 rfl ?_
  refine J_icmp_ge (tgt := 12) dX8_wrongVectors_7 rfl ?_ ?_
  · refine J_iconst (v := 0) dX8_wrongVectors_12 (by decide) ?_
    refine J_istore_n (env' := [(3, .int 0), (0, .ref x0), (1, .int x1), (2, .int x2)]) dX8_wrongVectors_13 rfl (by decide) rfl ?_
    refine J_loop (he := fun (t : Int32) => [(0, .ref x0), (1, .int x1), (2, .int x2), (3, .int t)]) [1, 2, 3, 0] rfl (fun t => ?_)
    exact j_X8_wrongVectors_L14 D dA x0 x1 x2 t
  refine J_iconst (v := 4) dX8_wrongVectors_10 (by decide) ?_
  exact J_ireturn dX8_wrongVectors_11 rfl
theorem i_X8_wrongVectors (x0 : Nat) (x1 : Int32) (x2 : Int32) : Impl (ws_ yX8_wrongVectors cX8_wrongVectors 4 (some .int)) yX8_wrongVectors 4 false 0 0 [.ref x0, .int x1, .int x2] (f_X8_wrongVectors x0 x1 x2) injI := impl_of (plainFor_of_name (by decide)) (Nat.le_of_ble_eq_true rfl) (fun D dA => j_X8_wrongVectors D dA x0 x1 x2)
theorem cw_X8_wrongVectors (Y : JY) (h : 5 ≤ Y.2.2.2.1) : JCw Y (ws_ yX8_wrongVectors cX8_wrongVectors 4 (some .int)) yX8_wrongVectors cX8_wrongVectors 4 (some .int) 4 := ⟨h, by decide, lw_meth q1975, q198, by decide, by decide⟩
theorem np_X8_wrongVectors : JNp yX8_wrongVectors.desc 2 := by decide +kernel
-- BracketRoomModel.reduce([II[II)V
abbrev Y_X8_reduce : JY := (cX8_reduce, yX8_reduce.cls, 8, 2, yX8_reduce.name, none, [])
noncomputable def X8_reduce_b114 (x0 : Nat) (x1 : Nat) (x2 : Int32) (x5 : Int32) : JM Mem (Unit ⊕ (Int32)) :=
  jcont (x5 + 1)
theorem j_X8_reduce_b114 (D : va_G) (dA : Nat → ClassId) (x0 : Nat) (x1 : Nat) (x2 : Int32) (x5 : Int32) : J (PM D dA false) Y_X8_reduce [(0, .ref x0), (1, .ref x1), (2, .int x2), (5, .int x5)] [] 114 (X8_reduce_b114 x0 x1 x2 x5) (FLoop (FRet injU) 35 (fun (t : Int32) => [(0, .ref x0), (1, .ref x1), (2, .int x2), (5, .int t)])) := by
  unfold X8_reduce_b114
  refine J_iinc (v := x5 + 1) (env' := [(5, .int (x5 + 1)), (0, .ref x0), (1, .ref x1), (2, .int x2)]) dX8_reduce_114 3 rfl rfl (by decide) rfl ?_
  refine J_goto (tgt := 35) dX8_reduce_117 rfl ?_
  exact J_cont [1, 2, 3, 0] rfl
noncomputable def X8_reduce_L60 (x0 : Nat) (x1 : Nat) (x2 : Int32) (x5 : Int32) (x6 : Int32) (x7 : Int32) : JM Mem ((Unit ⊕ (Int32)) ⊕ (Int32)) :=
  jb (jgetI 7 27 x0) fun v5 =>
  if v5 ≤ x7 then
    jinl (X8_reduce_b114 x0 x1 x2 x5)
  else
  if x6 = 0 then
    jinl (X8_reduce_b114 x0 x1 x2 x5)
  else
  jb (jgetA 7 54 x0) fun v6 =>
  jb (jgetA 7 54 x0) fun v7 =>
  jb (jald mI 0 v7 x7) fun v8 =>
  jb (jald mI 0 x1 ((5 * x5) + x7)) fun v9 =>
  jb (jgetI 7 26 x0) fun v10 =>
  jb ((f_X8_left (v8 - (x6 * v9)) v10)) fun v11 =>
  jb (jast_i v6 x7 v11) fun _ =>
  jcont (x7 + 1)
theorem j_X8_reduce_L60 (D : va_G) (dA : Nat → ClassId) (x0 : Nat) (x1 : Nat) (x2 : Int32) (x5 : Int32) (x6 : Int32) (x7 : Int32) : J (PM D dA false) Y_X8_reduce [(0, .ref x0), (1, .ref x1), (2, .int x2), (5, .int x5), (6, .int x6), (7, .int x7)] [] 60 (X8_reduce_L60 x0 x1 x2 x5 x6 x7) (FLoop (FLoop (FRet injU) 35 (fun (t : Int32) => [(0, .ref x0), (1, .ref x1), (2, .int x2), (5, .int t)])) 60 (fun (t : Int32) => [(0, .ref x0), (1, .ref x1), (2, .int x2), (5, .int x5), (6, .int x6), (7, .int t)])) := by
  unfold X8_reduce_L60
  refine J_iload dX8_reduce_60 5 rfl ?_
  refine J_aload_n dX8_reduce_62 rfl 0 rfl ?_
  refine J_getI dX8_reduce_63 fl_X8_253 rfl (fun v5 => ?_)
  refine J_icmp_ge (tgt := 114) dX8_reduce_66 rfl ?_ ?_
  · refine J_inl ?_
    refine J_sub [0, 1, 2, 3] rfl ?_
    exact j_X8_reduce_b114 D dA x0 x1 x2 x5
  refine J_iload dX8_reduce_69 4 rfl ?_
  refine J_if_eq (tgt := 114) dX8_reduce_71 rfl ?_ ?_
  · refine J_inl ?_
    refine J_sub [0, 1, 2, 3] rfl ?_
    exact j_X8_reduce_b114 D dA x0 x1 x2 x5
  refine J_aload_n dX8_reduce_74 rfl 0 rfl ?_
  refine J_getA dX8_reduce_75 fl_X8_95 rfl (fun v6 => ?_)
  refine J_iload dX8_reduce_78 5 rfl ?_
  refine J_aload_n dX8_reduce_80 rfl 0 rfl ?_
  refine J_getA dX8_reduce_81 fl_X8_95 rfl (fun v7 => ?_)
  refine J_iload dX8_reduce_84 5 rfl ?_
  refine J_iald dX8_reduce_86 (fun v8 => ?_)
  refine J_iload dX8_reduce_87 4 rfl ?_
  refine J_aload_n dX8_reduce_89 rfl 1 rfl ?_
  refine J_iconst (v := 5) dX8_reduce_90 (by decide) ?_
  refine J_iload dX8_reduce_91 3 rfl ?_
  refine J_imul dX8_reduce_93 ?_
  refine J_iload dX8_reduce_94 5 rfl ?_
  refine J_iadd dX8_reduce_96 ?_
  refine J_iald dX8_reduce_97 (fun v9 => ?_)
  refine J_imul dX8_reduce_98 ?_
  refine J_isub dX8_reduce_99 ?_
  refine J_aload_n dX8_reduce_100 rfl 0 rfl ?_
  refine J_getI dX8_reduce_101 fl_X8_250 rfl (fun v10 => ?_)
  refine J_callSI (host := "") (as := [.int (v8 - (x6 * v9)), .int v10]) dX8_reduce_104 rfl (Nat.le_of_ble_eq_true rfl) (cw_X8_left _ (by decide)) q1847 q1848 q1849 np_X8_left (i_X8_left (v8 - (x6 * v9)) v10) jad_id rfl (fun v11 => ?_)
  refine J_iast dX8_reduce_107 ?_
  refine J_iinc (v := x7 + 1) (env' := [(7, .int (x7 + 1)), (0, .ref x0), (1, .ref x1), (2, .int x2), (5, .int x5), (6, .int x6)]) dX8_reduce_108 5 rfl rfl (by decide) rfl ?_
  refine J_goto (tgt := 60) dX8_reduce_111 rfl ?_
  exact J_cont [1, 2, 3, 4, 5, 0] rfl
noncomputable def X8_reduce_L35 (x0 : Nat) (x1 : Nat) (x2 : Int32) (x5 : Int32) : JM Mem (Unit ⊕ (Int32)) :=
  if x2 ≤ x5 then
    jinl (jp ())
  else
  jb (jgetA 7 54 x0) fun v2 =>
  jb (jcall 7 x0 (f_X8_leadOf x0 x1 (5 * x5))) fun v3 =>
  jb (jald mI 0 v2 v3) fun v4 =>
  jloop (fun (t : Int32) => X8_reduce_L60 x0 x1 x2 x5 v4 t) 0
theorem j_X8_reduce_L35 (D : va_G) (dA : Nat → ClassId) (x0 : Nat) (x1 : Nat) (x2 : Int32) (x5 : Int32) : J (PM D dA false) Y_X8_reduce [(0, .ref x0), (1, .ref x1), (2, .int x2), (5, .int x5)] [] 35 (X8_reduce_L35 x0 x1 x2 x5) (FLoop (FRet injU) 35 (fun (t : Int32) => [(0, .ref x0), (1, .ref x1), (2, .int x2), (5, .int t)])) := by
  unfold X8_reduce_L35
  refine J_iload dX8_reduce_35 3 rfl ?_
  refine J_iload_n dX8_reduce_37 rfl 2 rfl ?_
  refine J_icmp_ge (tgt := 120) dX8_reduce_38 rfl ?_ ?_
  · refine J_inl ?_
    exact J_return dX8_reduce_120 rfl
  refine J_aload_n dX8_reduce_41 rfl 0 rfl ?_
  refine J_getA dX8_reduce_42 fl_X8_95 rfl (fun v2 => ?_)
  refine J_aload_n dX8_reduce_45 rfl 0 rfl ?_
  refine J_aload_n dX8_reduce_46 rfl 1 rfl ?_
  refine J_iconst (v := 5) dX8_reduce_47 (by decide) ?_
  refine J_iload dX8_reduce_48 3 rfl ?_
  refine J_imul dX8_reduce_50 ?_
  refine J_callVI (c := 7) (as := [.ref x1, .int (5 * x5)]) dX8_reduce_51 (by decide) rfl (Nat.le_of_ble_eq_true rfl) (cw_X8_leadOf _ (by decide)) q1939 q1941 qs103 q1942 np_X8_leadOf (i_X8_leadOf x0 x1 (5 * x5)) jad_id rfl (fun v3 => ?_)
  refine J_iald dX8_reduce_54 (fun v4 => ?_)
  refine J_istore (env' := [(6, .int v4), (0, .ref x0), (1, .ref x1), (2, .int x2), (5, .int x5)]) dX8_reduce_55 (by decide) rfl ?_
  refine J_iconst (v := 0) dX8_reduce_57 (by decide) ?_
  refine J_istore (env' := [(7, .int 0), (6, .int v4), (0, .ref x0), (1, .ref x1), (2, .int x2), (5, .int x5)]) dX8_reduce_58 (by decide) rfl ?_
  refine J_loop (he := fun (t : Int32) => [(0, .ref x0), (1, .ref x1), (2, .int x2), (5, .int x5), (6, .int v4), (7, .int t)]) [2, 3, 4, 5, 1, 0] rfl (fun t => ?_)
  exact j_X8_reduce_L60 D dA x0 x1 x2 x5 v4 t
noncomputable def X8_reduce_b32 (x0 : Nat) (x1 : Nat) (x2 : Int32) : JM Mem Unit :=
  jloop (fun (t : Int32) => X8_reduce_L35 x0 x1 x2 t) 0
theorem j_X8_reduce_b32 (D : va_G) (dA : Nat → ClassId) (x0 : Nat) (x1 : Nat) (x2 : Int32) : J (PM D dA false) Y_X8_reduce [(0, .ref x0), (1, .ref x1), (2, .int x2)] [] 32 (X8_reduce_b32 x0 x1 x2) (FRet injU) := by
  unfold X8_reduce_b32
  refine J_iconst (v := 0) dX8_reduce_32 (by decide) ?_
  refine J_istore (env' := [(5, .int 0), (0, .ref x0), (1, .ref x1), (2, .int x2)]) dX8_reduce_33 (by decide) rfl ?_
  refine J_loop (he := fun (t : Int32) => [(0, .ref x0), (1, .ref x1), (2, .int x2), (5, .int t)]) [1, 2, 3, 0] rfl (fun t => ?_)
  exact j_X8_reduce_L35 D dA x0 x1 x2 t
noncomputable def X8_reduce_L3 (x0 : Nat) (x1 : Nat) (x2 : Int32) (x3 : Nat) (x4 : Int32) (x5 : Int32) : JM Mem (Unit ⊕ (Int32)) :=
  jb (jgetI 7 27 x0) fun v1 =>
  if v1 ≤ x5 then
    jinl (X8_reduce_b32 x0 x1 x2)
  else
  jb (jgetA 7 54 x0) fun v12 =>
  jb (jald mI 0 x3 (x4 + x5)) fun v13 =>
  jb (jast_i v12 x5 v13) fun _ =>
  jcont (x5 + 1)
theorem j_X8_reduce_L3 (D : va_G) (dA : Nat → ClassId) (x0 : Nat) (x1 : Nat) (x2 : Int32) (x3 : Nat) (x4 : Int32) (x5 : Int32) : J (PM D dA false) Y_X8_reduce [(0, .ref x0), (1, .ref x1), (2, .int x2), (3, .ref x3), (4, .int x4), (5, .int x5)] [] 3 (X8_reduce_L3 x0 x1 x2 x3 x4 x5) (FLoop (FRet injU) 3 (fun (t : Int32) => [(0, .ref x0), (1, .ref x1), (2, .int x2), (3, .ref x3), (4, .int x4), (5, .int t)])) := by
  unfold X8_reduce_L3
  refine J_iload dX8_reduce_3 5 rfl ?_
  refine J_aload_n dX8_reduce_5 rfl 0 rfl ?_
  refine J_getI dX8_reduce_6 fl_X8_253 rfl (fun v1 => ?_)
  refine J_icmp_ge (tgt := 32) dX8_reduce_9 rfl ?_ ?_
  · refine J_inl ?_
    refine J_sub [0, 1, 2] rfl ?_
    exact j_X8_reduce_b32 D dA x0 x1 x2
  refine J_aload_n dX8_reduce_12 rfl 0 rfl ?_
  refine J_getA dX8_reduce_13 fl_X8_95 rfl (fun v12 => ?_)
  refine J_iload dX8_reduce_16 5 rfl ?_
  refine J_aload_n dX8_reduce_18 rfl 3 rfl ?_
  refine J_iload dX8_reduce_19 4 rfl ?_
  refine J_iload dX8_reduce_21 5 rfl ?_
  refine J_iadd dX8_reduce_23 ?_
  refine J_iald dX8_reduce_24 (fun v13 => ?_)
  refine J_iast dX8_reduce_25 ?_
  refine J_iinc (v := x5 + 1) (env' := [(5, .int (x5 + 1)), (0, .ref x0), (1, .ref x1), (2, .int x2), (3, .ref x3), (4, .int x4)]) dX8_reduce_26 5 rfl rfl (by decide) rfl ?_
  refine J_goto (tgt := 3) dX8_reduce_29 rfl ?_
  exact J_cont [1, 2, 3, 4, 5, 0] rfl
noncomputable def f_X8_reduce (x0 : Nat) (x1 : Nat) (x2 : Int32) (x3 : Nat) (x4 : Int32) : JM Mem Unit :=
  jloop (fun (t : Int32) => X8_reduce_L3 x0 x1 x2 x3 x4 t) 0
theorem j_X8_reduce (D : va_G) (dA : Nat → ClassId) (x0 : Nat) (x1 : Nat) (x2 : Int32) (x3 : Nat) (x4 : Int32) : J (PM D dA false) Y_X8_reduce [(0, .ref x0), (1, .ref x1), (2, .int x2), (3, .ref x3), (4, .int x4)] [] 0 (f_X8_reduce x0 x1 x2 x3 x4) (FRet injU) := by
  unfold f_X8_reduce
  refine J_iconst (v := 0) dX8_reduce_0 (by decide) ?_
  refine J_istore (env' := [(5, .int 0), (0, .ref x0), (1, .ref x1), (2, .int x2), (3, .ref x3), (4, .int x4)]) dX8_reduce_1 (by decide) rfl ?_
  refine J_loop (he := fun (t : Int32) => [(0, .ref x0), (1, .ref x1), (2, .int x2), (3, .ref x3), (4, .int x4), (5, .int t)]) [1, 2, 3, 4, 5, 0] rfl (fun t => ?_)
  exact j_X8_reduce_L3 D dA x0 x1 x2 x3 x4 t
theorem i_X8_reduce (x0 : Nat) (x1 : Nat) (x2 : Int32) (x3 : Nat) (x4 : Int32) : Impl (ws_ yX8_reduce cX8_reduce 8 none) yX8_reduce 2 false 0 0 [.ref x0, .ref x1, .int x2, .ref x3, .int x4] (f_X8_reduce x0 x1 x2 x3 x4) injU := impl_of (plainFor_of_name (by decide)) (Nat.le_of_ble_eq_true rfl) (fun D dA => j_X8_reduce D dA x0 x1 x2 x3 x4)
theorem cw_X8_reduce (Y : JY) (h : 3 ≤ Y.2.2.2.1) : JCw Y (ws_ yX8_reduce cX8_reduce 8 none) yX8_reduce cX8_reduce 8 none 2 := ⟨h, by decide, lw_meth q1991, q198, by decide, by decide⟩
theorem np_X8_reduce : JNp yX8_reduce.desc 4 := by decide +kernel
-- BracketRoomModel.inverse(I)I
abbrev Y_X8_inverse : JY := (cX8_inverse, yX8_inverse.cls, 3, 1, yX8_inverse.name, (some .int), [])
noncomputable def X8_inverse_L2 (x0 : Nat) (x1 : Int32) (x2 : Int32) : JM Mem (Int32 ⊕ (Int32)) :=
  jb (jgetI 7 26 x0) fun v1 =>
  jb (jrem (x2 * x1) v1) fun v2 =>
  if v2 = 1 then
    jinl (jp x2)
  else
    jcont (x2 + 1)
theorem j_X8_inverse_L2 (D : va_G) (dA : Nat → ClassId) (x0 : Nat) (x1 : Int32) (x2 : Int32) : J (PM D dA false) Y_X8_inverse [(0, .ref x0), (1, .int x1), (2, .int x2)] [] 2 (X8_inverse_L2 x0 x1 x2) (FLoop (FRet injI) 2 (fun (t : Int32) => [(0, .ref x0), (1, .int x1), (2, .int t)])) := by
  unfold X8_inverse_L2
  refine J_iload_n dX8_inverse_2 rfl 2 rfl ?_
  refine J_iload_n dX8_inverse_3 rfl 1 rfl ?_
  refine J_imul dX8_inverse_4 ?_
  refine J_aload_n dX8_inverse_5 rfl 0 rfl ?_
  refine J_getI dX8_inverse_6 fl_X8_250 rfl (fun v1 => ?_)
  refine J_irem dX8_inverse_9 (fun v2 => ?_)
  refine J_iconst (v := 1) dX8_inverse_10 (by decide) ?_
  refine J_icmp_eq (tgt := 20) dX8_inverse_11 rfl ?_ ?_
  · refine J_inl ?_
    refine J_iload_n dX8_inverse_20 rfl 2 rfl ?_
    exact J_ireturn dX8_inverse_21 rfl
  refine J_iinc (v := x2 + 1) (env' := [(2, .int (x2 + 1)), (0, .ref x0), (1, .int x1)]) dX8_inverse_14 2 rfl rfl (by decide) rfl ?_
  refine J_goto (tgt := 2) dX8_inverse_17 rfl ?_
  exact J_cont [1, 2, 0] rfl
noncomputable def f_X8_inverse (x0 : Nat) (x1 : Int32) : JM Mem Int32 :=
  jloop (fun (t : Int32) => X8_inverse_L2 x0 x1 t) 1
theorem j_X8_inverse (D : va_G) (dA : Nat → ClassId) (x0 : Nat) (x1 : Int32) : J (PM D dA false) Y_X8_inverse [(0, .ref x0), (1, .int x1)] [] 0 (f_X8_inverse x0 x1) (FRet injI) := by
  unfold f_X8_inverse
  refine J_iconst (v := 1) dX8_inverse_0 (by decide) ?_
  refine J_istore_n (env' := [(2, .int 1), (0, .ref x0), (1, .int x1)]) dX8_inverse_1 rfl (by decide) rfl ?_
  refine J_loop (he := fun (t : Int32) => [(0, .ref x0), (1, .int x1), (2, .int t)]) [1, 2, 0] rfl (fun t => ?_)
  exact j_X8_inverse_L2 D dA x0 x1 t
theorem i_X8_inverse (x0 : Nat) (x1 : Int32) : Impl (ws_ yX8_inverse cX8_inverse 3 (some .int)) yX8_inverse 1 false 0 0 [.ref x0, .int x1] (f_X8_inverse x0 x1) injI := impl_of (plainFor_of_name (by decide)) (Nat.le_of_ble_eq_true rfl) (fun D dA => j_X8_inverse D dA x0 x1)
theorem cw_X8_inverse (Y : JY) (h : 2 ≤ Y.2.2.2.1) : JCw Y (ws_ yX8_inverse cX8_inverse 3 (some .int)) yX8_inverse cX8_inverse 3 (some .int) 1 := ⟨h, by decide, lw_meth q1995, q198, by decide, by decide⟩
theorem np_X8_inverse : JNp yX8_inverse.desc 1 := by decide +kernel
-- BracketRoomModel.join([II[II)I
abbrev Y_X8_join : JY := (cX8_join, yX8_join.cls, 11, 3, yX8_join.name, (some .int), [])
noncomputable def X8_join_b249 (x2 : Int32) : JM Mem Int32 :=
  jp (x2 + 1)
theorem j_X8_join_b249 (D : va_G) (dA : Nat → ClassId) (x2 : Int32) : J (PM D dA false) Y_X8_join [(2, .int x2)] [] 249 (X8_join_b249 x2) (FRet injI) := by
  unfold X8_join_b249
  refine J_iload_n dX8_join_249 rfl 0 rfl ?_
  refine J_iconst (v := 1) dX8_join_250 (by decide) ?_
  refine J_iadd dX8_join_251 ?_
  exact J_ireturn dX8_join_252 rfl
noncomputable def X8_join_L218 (x0 : Nat) (x1 : Nat) (x2 : Int32) (x7 : Int32) (x8 : Int32) : JM Mem (Int32 ⊕ (Int32)) :=
  jb (jgetI 7 27 x0) fun v8 =>
  if v8 ≤ x8 then
    jinl (X8_join_b249 x2)
  else
  jb (jgetA 7 54 x0) fun v9 =>
  jb (jald mI 0 v9 x8) fun v10 =>
  jb (jast_i x1 ((5 * x7) + x8) v10) fun _ =>
  jcont (x8 + 1)
theorem j_X8_join_L218 (D : va_G) (dA : Nat → ClassId) (x0 : Nat) (x1 : Nat) (x2 : Int32) (x7 : Int32) (x8 : Int32) : J (PM D dA false) Y_X8_join [(0, .ref x0), (1, .ref x1), (2, .int x2), (7, .int x7), (8, .int x8)] [] 218 (X8_join_L218 x0 x1 x2 x7 x8) (FLoop (FRet injI) 218 (fun (t : Int32) => [(0, .ref x0), (1, .ref x1), (2, .int x2), (7, .int x7), (8, .int t)])) := by
  unfold X8_join_L218
  refine J_iload dX8_join_218 4 rfl ?_
  refine J_aload_n dX8_join_220 rfl 0 rfl ?_
  refine J_getI dX8_join_221 fl_X8_253 rfl (fun v8 => ?_)
  refine J_icmp_ge (tgt := 249) dX8_join_224 rfl ?_ ?_
  · refine J_inl ?_
    refine J_sub [2] rfl ?_
    exact j_X8_join_b249 D dA x2
  refine J_aload_n dX8_join_227 rfl 1 rfl ?_
  refine J_iconst (v := 5) dX8_join_228 (by decide) ?_
  refine J_iload dX8_join_229 3 rfl ?_
  refine J_imul dX8_join_231 ?_
  refine J_iload dX8_join_232 4 rfl ?_
  refine J_iadd dX8_join_234 ?_
  refine J_aload_n dX8_join_235 rfl 0 rfl ?_
  refine J_getA dX8_join_236 fl_X8_95 rfl (fun v9 => ?_)
  refine J_iload dX8_join_239 4 rfl ?_
  refine J_iald dX8_join_241 (fun v10 => ?_)
  refine J_iast dX8_join_242 ?_
  refine J_iinc (v := x8 + 1) (env' := [(8, .int (x8 + 1)), (0, .ref x0), (1, .ref x1), (2, .int x2), (7, .int x7)]) dX8_join_243 4 rfl rfl (by decide) rfl ?_
  refine J_goto (tgt := 218) dX8_join_246 rfl ?_
  exact J_cont [1, 2, 3, 4, 0] rfl
noncomputable def X8_join_b215 (x0 : Nat) (x1 : Nat) (x2 : Int32) (x7 : Int32) : JM Mem Int32 :=
  jloop (fun (t : Int32) => X8_join_L218 x0 x1 x2 x7 t) 0
theorem j_X8_join_b215 (D : va_G) (dA : Nat → ClassId) (x0 : Nat) (x1 : Nat) (x2 : Int32) (x7 : Int32) : J (PM D dA false) Y_X8_join [(0, .ref x0), (1, .ref x1), (2, .int x2), (7, .int x7)] [] 215 (X8_join_b215 x0 x1 x2 x7) (FRet injI) := by
  unfold X8_join_b215
  refine J_iconst (v := 0) dX8_join_215 (by decide) ?_
  refine J_istore (env' := [(8, .int 0), (0, .ref x0), (1, .ref x1), (2, .int x2), (7, .int x7)]) dX8_join_216 (by decide) rfl ?_
  refine J_loop (he := fun (t : Int32) => [(0, .ref x0), (1, .ref x1), (2, .int x2), (7, .int x7), (8, .int t)]) [1, 2, 3, 4, 0] rfl (fun t => ?_)
  exact j_X8_join_L218 D dA x0 x1 x2 x7 t
noncomputable def X8_join_L190 (x0 : Nat) (x1 : Nat) (x2 : Int32) (x7 : Int32) (x8 : Int32) : JM Mem (Int32 ⊕ (Int32)) :=
  if x8 < 5 * x7 then
    jinl (X8_join_b215 x0 x1 x2 x7)
  else
  jb (jald mI 0 x1 x8) fun v11 =>
  jb (jast_i x1 (x8 + 5) v11) fun _ =>
  jcont (x8 + (-1))
theorem j_X8_join_L190 (D : va_G) (dA : Nat → ClassId) (x0 : Nat) (x1 : Nat) (x2 : Int32) (x7 : Int32) (x8 : Int32) : J (PM D dA false) Y_X8_join [(0, .ref x0), (1, .ref x1), (2, .int x2), (7, .int x7), (8, .int x8)] [] 190 (X8_join_L190 x0 x1 x2 x7 x8) (FLoop (FRet injI) 190 (fun (t : Int32) => [(0, .ref x0), (1, .ref x1), (2, .int x2), (7, .int x7), (8, .int t)])) := by
  unfold X8_join_L190
  refine J_iload dX8_join_190 4 rfl ?_
  refine J_iconst (v := 5) dX8_join_192 (by decide) ?_
  refine J_iload dX8_join_193 3 rfl ?_
  refine J_imul dX8_join_195 ?_
  refine J_icmp_lt (tgt := 215) dX8_join_196 rfl ?_ ?_
  · refine J_inl ?_
    refine J_sub [0, 1, 2, 3] rfl ?_
    exact j_X8_join_b215 D dA x0 x1 x2 x7
  refine J_aload_n dX8_join_199 rfl 1 rfl ?_
  refine J_iload dX8_join_200 4 rfl ?_
  refine J_iconst (v := 5) dX8_join_202 (by decide) ?_
  refine J_iadd dX8_join_203 ?_
  refine J_aload_n dX8_join_204 rfl 1 rfl ?_
  refine J_iload dX8_join_205 4 rfl ?_
  refine J_iald dX8_join_207 (fun v11 => ?_)
  refine J_iast dX8_join_208 ?_
  refine J_iinc (v := x8 + (-1)) (env' := [(8, .int (x8 + (-1))), (0, .ref x0), (1, .ref x1), (2, .int x2), (7, .int x7)]) dX8_join_209 4 rfl rfl (by decide) rfl ?_
  refine J_goto (tgt := 190) dX8_join_212 rfl ?_
  exact J_cont [1, 2, 3, 4, 0] rfl
noncomputable def X8_join_b183 (x0 : Nat) (x1 : Nat) (x2 : Int32) (x7 : Int32) : JM Mem Int32 :=
  jlet ((5 * x2) - 1) fun y7 =>
  jloop (fun (t : Int32) => X8_join_L190 x0 x1 x2 x7 t) y7
theorem j_X8_join_b183 (D : va_G) (dA : Nat → ClassId) (x0 : Nat) (x1 : Nat) (x2 : Int32) (x7 : Int32) : J (PM D dA false) Y_X8_join [(0, .ref x0), (1, .ref x1), (2, .int x2), (7, .int x7)] [] 183 (X8_join_b183 x0 x1 x2 x7) (FRet injI) := by
  unfold X8_join_b183
  refine J_iconst (v := 5) dX8_join_183 (by decide) ?_
  refine J_iload_n dX8_join_184 rfl 2 rfl ?_
  refine J_imul dX8_join_185 ?_
  refine J_iconst (v := 1) dX8_join_186 (by decide) ?_
  refine J_isub dX8_join_187 ?_
  refine J_letI (fun y7 => ?_)
  refine J_istore (env' := [(8, .int y7), (0, .ref x0), (1, .ref x1), (2, .int x2), (7, .int x7)]) dX8_join_188 (by decide) rfl ?_
  refine J_loop (he := fun (t : Int32) => [(0, .ref x0), (1, .ref x1), (2, .int x2), (7, .int x7), (8, .int t)]) [1, 2, 3, 4, 0] rfl (fun t => ?_)
  exact j_X8_join_L190 D dA x0 x1 x2 x7 t
noncomputable def X8_join_b177 (x0 : Nat) (x1 : Nat) (x2 : Int32) (x5 : Int32) (x7 : Int32) (x8 : Int32) : JM Mem (Int32 ⊕ (Int32 × Int32)) :=
  jcont (x7, x8 + 1)
theorem j_X8_join_b177 (D : va_G) (dA : Nat → ClassId) (x0 : Nat) (x1 : Nat) (x2 : Int32) (x5 : Int32) (x7 : Int32) (x8 : Int32) : J (PM D dA false) Y_X8_join [(0, .ref x0), (1, .ref x1), (2, .int x2), (5, .int x5), (7, .int x7), (8, .int x8)] [] 177 (X8_join_b177 x0 x1 x2 x5 x7 x8) (FLoop (FRet injI) 86 (fun (t : Int32 × Int32) => [(0, .ref x0), (1, .ref x1), (2, .int x2), (5, .int x5), (7, .int t.1), (8, .int t.2)])) := by
  unfold X8_join_b177
  refine J_iinc (v := x8 + 1) (env' := [(8, .int (x8 + 1)), (0, .ref x0), (1, .ref x1), (2, .int x2), (5, .int x5), (7, .int x7)]) dX8_join_177 5 rfl rfl (by decide) rfl ?_
  refine J_goto (tgt := 86) dX8_join_180 rfl ?_
  exact J_cont [1, 2, 3, 4, 5, 0] rfl
noncomputable def X8_join_b157 (x0 : Nat) (x1 : Nat) (x2 : Int32) (x5 : Int32) (x7 : Int32) (x8 : Int32) : JM Mem (Int32 ⊕ (Int32 × Int32)) :=
  jb (jcall 7 x0 (f_X8_leadOf x0 x1 (5 * x8))) fun v14 =>
  if x5 ≤ v14 then
    X8_join_b177 x0 x1 x2 x5 x7 x8
  else
  jlet (x8 + 1) fun y15 =>
  X8_join_b177 x0 x1 x2 x5 y15 x8
theorem j_X8_join_b157 (D : va_G) (dA : Nat → ClassId) (x0 : Nat) (x1 : Nat) (x2 : Int32) (x5 : Int32) (x7 : Int32) (x8 : Int32) : J (PM D dA false) Y_X8_join [(0, .ref x0), (1, .ref x1), (2, .int x2), (5, .int x5), (7, .int x7), (8, .int x8)] [] 157 (X8_join_b157 x0 x1 x2 x5 x7 x8) (FLoop (FRet injI) 86 (fun (t : Int32 × Int32) => [(0, .ref x0), (1, .ref x1), (2, .int x2), (5, .int x5), (7, .int t.1), (8, .int t.2)])) := by
  unfold X8_join_b157
  refine J_aload_n dX8_join_157 rfl 0 rfl ?_
  refine J_aload_n dX8_join_158 rfl 1 rfl ?_
  refine J_iconst (v := 5) dX8_join_159 (by decide) ?_
  refine J_iload dX8_join_160 5 rfl ?_
  refine J_imul dX8_join_162 ?_
  refine J_callVI (c := 7) (as := [.ref x1, .int (5 * x8)]) dX8_join_163 (by decide) rfl (Nat.le_of_ble_eq_true rfl) (cw_X8_leadOf _ (by decide)) q1939 q1941 qs103 q1942 np_X8_leadOf (i_X8_leadOf x0 x1 (5 * x8)) jad_id rfl (fun v14 => ?_)
  refine J_iload dX8_join_166 3 rfl ?_
  refine J_icmp_ge (tgt := 177) dX8_join_168 rfl ?_ ?_
  · refine J_sub [0, 1, 2, 3, 4, 5] rfl ?_
    exact j_X8_join_b177 D dA x0 x1 x2 x5 x7 x8
  refine J_iload dX8_join_171 5 rfl ?_
  refine J_iconst (v := 1) dX8_join_173 (by decide) ?_
  refine J_iadd dX8_join_174 ?_
  refine J_letI (fun y15 => ?_)
  refine J_istore (env' := [(7, .int y15), (0, .ref x0), (1, .ref x1), (2, .int x2), (5, .int x5), (8, .int x8)]) dX8_join_175 (by decide) rfl ?_
  refine J_sub [1, 2, 3, 4, 0, 5] rfl ?_
  exact j_X8_join_b177 D dA x0 x1 x2 x5 y15 x8
noncomputable def X8_join_L106 (x0 : Nat) (x1 : Nat) (x2 : Int32) (x5 : Int32) (x7 : Int32) (x8 : Int32) (x9 : Int32) (x10 : Int32) : JM Mem ((Int32 ⊕ (Int32 × Int32)) ⊕ (Int32)) :=
  jb (jgetI 7 27 x0) fun v13 =>
  if v13 ≤ x10 then
    jinl (X8_join_b157 x0 x1 x2 x5 x7 x8)
  else
  jb (jald mI 0 x1 ((5 * x8) + x10)) fun v16 =>
  jb (jgetA 7 54 x0) fun v17 =>
  jb (jald mI 0 v17 x10) fun v18 =>
  jb (jgetI 7 26 x0) fun v19 =>
  jb ((f_X8_left (v16 - (x9 * v18)) v19)) fun v20 =>
  jb (jast_i x1 ((5 * x8) + x10) v20) fun _ =>
  jcont (x10 + 1)
theorem j_X8_join_L106 (D : va_G) (dA : Nat → ClassId) (x0 : Nat) (x1 : Nat) (x2 : Int32) (x5 : Int32) (x7 : Int32) (x8 : Int32) (x9 : Int32) (x10 : Int32) : J (PM D dA false) Y_X8_join [(0, .ref x0), (1, .ref x1), (2, .int x2), (5, .int x5), (7, .int x7), (8, .int x8), (9, .int x9), (10, .int x10)] [] 106 (X8_join_L106 x0 x1 x2 x5 x7 x8 x9 x10) (FLoop (FLoop (FRet injI) 86 (fun (t : Int32 × Int32) => [(0, .ref x0), (1, .ref x1), (2, .int x2), (5, .int x5), (7, .int t.1), (8, .int t.2)])) 106 (fun (t : Int32) => [(0, .ref x0), (1, .ref x1), (2, .int x2), (5, .int x5), (7, .int x7), (8, .int x8), (9, .int x9), (10, .int t)])) := by
  unfold X8_join_L106
  refine J_iload dX8_join_106 7 rfl ?_
  refine J_aload_n dX8_join_108 rfl 0 rfl ?_
  refine J_getI dX8_join_109 fl_X8_253 rfl (fun v13 => ?_)
  refine J_icmp_ge (tgt := 157) dX8_join_112 rfl ?_ ?_
  · refine J_inl ?_
    refine J_sub [0, 1, 2, 3, 4, 5] rfl ?_
    exact j_X8_join_b157 D dA x0 x1 x2 x5 x7 x8
  refine J_aload_n dX8_join_115 rfl 1 rfl ?_
  refine J_iconst (v := 5) dX8_join_116 (by decide) ?_
  refine J_iload dX8_join_117 5 rfl ?_
  refine J_imul dX8_join_119 ?_
  refine J_iload dX8_join_120 7 rfl ?_
  refine J_iadd dX8_join_122 ?_
  refine J_aload_n dX8_join_123 rfl 1 rfl ?_
  refine J_iconst (v := 5) dX8_join_124 (by decide) ?_
  refine J_iload dX8_join_125 5 rfl ?_
  refine J_imul dX8_join_127 ?_
  refine J_iload dX8_join_128 7 rfl ?_
  refine J_iadd dX8_join_130 ?_
  refine J_iald dX8_join_131 (fun v16 => ?_)
  refine J_iload dX8_join_132 6 rfl ?_
  refine J_aload_n dX8_join_134 rfl 0 rfl ?_
  refine J_getA dX8_join_135 fl_X8_95 rfl (fun v17 => ?_)
  refine J_iload dX8_join_138 7 rfl ?_
  refine J_iald dX8_join_140 (fun v18 => ?_)
  refine J_imul dX8_join_141 ?_
  refine J_isub dX8_join_142 ?_
  refine J_aload_n dX8_join_143 rfl 0 rfl ?_
  refine J_getI dX8_join_144 fl_X8_250 rfl (fun v19 => ?_)
  refine J_callSI (host := "") (as := [.int (v16 - (x9 * v18)), .int v19]) dX8_join_147 rfl (Nat.le_of_ble_eq_true rfl) (cw_X8_left _ (by decide)) q1847 q1848 q1849 np_X8_left (i_X8_left (v16 - (x9 * v18)) v19) jad_id rfl (fun v20 => ?_)
  refine J_iast dX8_join_150 ?_
  refine J_iinc (v := x10 + 1) (env' := [(10, .int (x10 + 1)), (0, .ref x0), (1, .ref x1), (2, .int x2), (5, .int x5), (7, .int x7), (8, .int x8), (9, .int x9)]) dX8_join_151 7 rfl rfl (by decide) rfl ?_
  refine J_goto (tgt := 106) dX8_join_154 rfl ?_
  exact J_cont [1, 2, 3, 4, 5, 6, 7, 0] rfl
noncomputable def X8_join_L86 (x0 : Nat) (x1 : Nat) (x2 : Int32) (x5 : Int32) (x7 : Int32) (x8 : Int32) : JM Mem (Int32 ⊕ (Int32 × Int32)) :=
  if x2 ≤ x8 then
    jinl (X8_join_b183 x0 x1 x2 x7)
  else
  jb (jald mI 0 x1 ((5 * x8) + x5)) fun v12 =>
  jloop (fun (t : Int32) => X8_join_L106 x0 x1 x2 x5 x7 x8 v12 t) 0
theorem j_X8_join_L86 (D : va_G) (dA : Nat → ClassId) (x0 : Nat) (x1 : Nat) (x2 : Int32) (x5 : Int32) (x7 : Int32) (x8 : Int32) : J (PM D dA false) Y_X8_join [(0, .ref x0), (1, .ref x1), (2, .int x2), (5, .int x5), (7, .int x7), (8, .int x8)] [] 86 (X8_join_L86 x0 x1 x2 x5 x7 x8) (FLoop (FRet injI) 86 (fun (t : Int32 × Int32) => [(0, .ref x0), (1, .ref x1), (2, .int x2), (5, .int x5), (7, .int t.1), (8, .int t.2)])) := by
  unfold X8_join_L86
  refine J_iload dX8_join_86 5 rfl ?_
  refine J_iload_n dX8_join_88 rfl 2 rfl ?_
  refine J_icmp_ge (tgt := 183) dX8_join_89 rfl ?_ ?_
  · refine J_inl ?_
    refine J_sub [0, 1, 2, 4] rfl ?_
    exact j_X8_join_b183 D dA x0 x1 x2 x7
  refine J_aload_n dX8_join_92 rfl 1 rfl ?_
  refine J_iconst (v := 5) dX8_join_93 (by decide) ?_
  refine J_iload dX8_join_94 5 rfl ?_
  refine J_imul dX8_join_96 ?_
  refine J_iload dX8_join_97 3 rfl ?_
  refine J_iadd dX8_join_99 ?_
  refine J_iald dX8_join_100 (fun v12 => ?_)
  refine J_istore (env' := [(9, .int v12), (0, .ref x0), (1, .ref x1), (2, .int x2), (5, .int x5), (7, .int x7), (8, .int x8)]) dX8_join_101 (by decide) rfl ?_
  refine J_iconst (v := 0) dX8_join_103 (by decide) ?_
  refine J_istore (env' := [(10, .int 0), (9, .int v12), (0, .ref x0), (1, .ref x1), (2, .int x2), (5, .int x5), (7, .int x7), (8, .int x8)]) dX8_join_104 (by decide) rfl ?_
  refine J_loop (he := fun (t : Int32) => [(0, .ref x0), (1, .ref x1), (2, .int x2), (5, .int x5), (7, .int x7), (8, .int x8), (9, .int v12), (10, .int t)]) [2, 3, 4, 5, 6, 7, 1, 0] rfl (fun t => ?_)
  exact j_X8_join_L106 D dA x0 x1 x2 x5 x7 x8 v12 t
noncomputable def X8_join_b80 (x0 : Nat) (x1 : Nat) (x2 : Int32) (x5 : Int32) : JM Mem Int32 :=
  jloop (fun (t : Int32 × Int32) => X8_join_L86 x0 x1 x2 x5 t.1 t.2) (0, 0)
theorem j_X8_join_b80 (D : va_G) (dA : Nat → ClassId) (x0 : Nat) (x1 : Nat) (x2 : Int32) (x5 : Int32) : J (PM D dA false) Y_X8_join [(0, .ref x0), (1, .ref x1), (2, .int x2), (5, .int x5)] [] 80 (X8_join_b80 x0 x1 x2 x5) (FRet injI) := by
  unfold X8_join_b80
  refine J_iconst (v := 0) dX8_join_80 (by decide) ?_
  refine J_istore (env' := [(7, .int 0), (0, .ref x0), (1, .ref x1), (2, .int x2), (5, .int x5)]) dX8_join_81 (by decide) rfl ?_
  refine J_iconst (v := 0) dX8_join_83 (by decide) ?_
  refine J_istore (env' := [(8, .int 0), (7, .int 0), (0, .ref x0), (1, .ref x1), (2, .int x2), (5, .int x5)]) dX8_join_84 (by decide) rfl ?_
  refine J_loop (he := fun (t : Int32 × Int32) => [(0, .ref x0), (1, .ref x1), (2, .int x2), (5, .int x5), (7, .int t.1), (8, .int t.2)]) [2, 3, 4, 5, 1, 0] rfl (fun t => ?_)
  exact j_X8_join_L86 D dA x0 x1 x2 x5 t.1 t.2
noncomputable def X8_join_L43 (x0 : Nat) (x1 : Nat) (x2 : Int32) (x5 : Int32) (x6 : Int32) (x7 : Int32) : JM Mem (Int32 ⊕ (Int32)) :=
  jb (jgetI 7 27 x0) fun v6 =>
  if v6 ≤ x7 then
    jinl (X8_join_b80 x0 x1 x2 x5)
  else
  jb (jgetA 7 54 x0) fun v21 =>
  jb (jgetA 7 54 x0) fun v22 =>
  jb (jald mI 0 v22 x7) fun v23 =>
  jb (jgetI 7 26 x0) fun v24 =>
  jb (jrem (v23 * x6) v24) fun v25 =>
  jb (jast_i v21 x7 v25) fun _ =>
  jcont (x7 + 1)
theorem j_X8_join_L43 (D : va_G) (dA : Nat → ClassId) (x0 : Nat) (x1 : Nat) (x2 : Int32) (x5 : Int32) (x6 : Int32) (x7 : Int32) : J (PM D dA false) Y_X8_join [(0, .ref x0), (1, .ref x1), (2, .int x2), (5, .int x5), (6, .int x6), (7, .int x7)] [] 43 (X8_join_L43 x0 x1 x2 x5 x6 x7) (FLoop (FRet injI) 43 (fun (t : Int32) => [(0, .ref x0), (1, .ref x1), (2, .int x2), (5, .int x5), (6, .int x6), (7, .int t)])) := by
  unfold X8_join_L43
  refine J_iload dX8_join_43 5 rfl ?_
  refine J_aload_n dX8_join_45 rfl 0 rfl ?_
  refine J_getI dX8_join_46 fl_X8_253 rfl (fun v6 => ?_)
  refine J_icmp_ge (tgt := 80) dX8_join_49 rfl ?_ ?_
  · refine J_inl ?_
    refine J_sub [0, 1, 2, 3] rfl ?_
    exact j_X8_join_b80 D dA x0 x1 x2 x5
  refine J_aload_n dX8_join_52 rfl 0 rfl ?_
  refine J_getA dX8_join_53 fl_X8_95 rfl (fun v21 => ?_)
  refine J_iload dX8_join_56 5 rfl ?_
  refine J_aload_n dX8_join_58 rfl 0 rfl ?_
  refine J_getA dX8_join_59 fl_X8_95 rfl (fun v22 => ?_)
  refine J_iload dX8_join_62 5 rfl ?_
  refine J_iald dX8_join_64 (fun v23 => ?_)
  refine J_iload dX8_join_65 4 rfl ?_
  refine J_imul dX8_join_67 ?_
  refine J_aload_n dX8_join_68 rfl 0 rfl ?_
  refine J_getI dX8_join_69 fl_X8_250 rfl (fun v24 => ?_)
  refine J_irem dX8_join_72 (fun v25 => ?_)
  refine J_iast dX8_join_73 ?_
  refine J_iinc (v := x7 + 1) (env' := [(7, .int (x7 + 1)), (0, .ref x0), (1, .ref x1), (2, .int x2), (5, .int x5), (6, .int x6)]) dX8_join_74 5 rfl rfl (by decide) rfl ?_
  refine J_goto (tgt := 43) dX8_join_77 rfl ?_
  exact J_cont [1, 2, 3, 4, 5, 0] rfl
noncomputable def f_X8_join (x0 : Nat) (x1 : Nat) (x2 : Int32) (x3 : Nat) (x4 : Int32) : JM Mem Int32 :=
  jb (jcall 7 x0 (f_X8_reduce x0 x1 x2 x3 x4)) fun _ =>
  jb (jgetA 7 54 x0) fun v1 =>
  jb (jcall 7 x0 (f_X8_leadOf x0 v1 0)) fun v2 =>
  if 0 ≤ v2 then
    jb (jgetA 7 54 x0) fun v3 =>
    jb (jald mI 0 v3 v2) fun v4 =>
    jb (jcall 7 x0 (f_X8_inverse x0 v4)) fun v5 =>
    jloop (fun (t : Int32) => X8_join_L43 x0 x1 x2 v2 v5 t) 0
  else
    jp x2
theorem j_X8_join (D : va_G) (dA : Nat → ClassId) (x0 : Nat) (x1 : Nat) (x2 : Int32) (x3 : Nat) (x4 : Int32) : J (PM D dA false) Y_X8_join [(0, .ref x0), (1, .ref x1), (2, .int x2), (3, .ref x3), (4, .int x4)] [] 0 (f_X8_join x0 x1 x2 x3 x4) (FRet injI) := by
  unfold f_X8_join
  refine J_aload_n dX8_join_0 rfl 0 rfl ?_
  refine J_aload_n dX8_join_1 rfl 1 rfl ?_
  refine J_iload_n dX8_join_2 rfl 2 rfl ?_
  refine J_aload_n dX8_join_3 rfl 3 rfl ?_
  refine J_iload dX8_join_4 4 rfl ?_
  refine J_callVV (c := 7) (as := [.ref x1, .int x2, .ref x3, .int x4]) dX8_join_6 (by decide) rfl (Nat.le_of_ble_eq_true rfl) (cw_X8_reduce _ (by decide)) q1988 q1990 qs110 q1991 np_X8_reduce (i_X8_reduce x0 x1 x2 x3 x4) jad_id rfl ?_
  refine J_aload_n dX8_join_9 rfl 0 rfl ?_
  refine J_aload_n dX8_join_10 rfl 0 rfl ?_
  refine J_getA dX8_join_11 fl_X8_95 rfl (fun v1 => ?_)
  refine J_iconst (v := 0) dX8_join_14 (by decide) ?_
  refine J_callVI (c := 7) (as := [.ref v1, .int 0]) dX8_join_15 (by decide) rfl (Nat.le_of_ble_eq_true rfl) (cw_X8_leadOf _ (by decide)) q1939 q1941 qs103 q1942 np_X8_leadOf (i_X8_leadOf x0 v1 0) jad_id rfl (fun v2 => ?_)
  refine J_istore (env' := [(5, .int v2), (0, .ref x0), (1, .ref x1), (2, .int x2), (3, .ref x3), (4, .int x4)]) dX8_join_18 (by decide) rfl ?_
  refine J_iload dX8_join_20 0 rfl ?_
  refine J_if_ge (tgt := 27) dX8_join_22 rfl ?_ ?_
  · refine J_aload_n dX8_join_27 rfl 1 rfl ?_
    refine J_aload_n dX8_join_28 rfl 1 rfl ?_
    refine J_getA dX8_join_29 fl_X8_95 rfl (fun v3 => ?_)
    refine J_iload dX8_join_32 0 rfl ?_
    refine J_iald dX8_join_34 (fun v4 => ?_)
    refine J_callVI (c := 7) (as := [.int v4]) dX8_join_35 (by decide) rfl (Nat.le_of_ble_eq_true rfl) (cw_X8_inverse _ (by decide)) q1992 q1994 qs111 q1995 np_X8_inverse (i_X8_inverse x0 v4) jad_id rfl (fun v5 => ?_)
    refine J_istore (env' := [(6, .int v5), (5, .int v2), (0, .ref x0), (1, .ref x1), (2, .int x2), (3, .ref x3), (4, .int x4)]) dX8_join_38 (by decide) rfl ?_
    refine J_iconst (v := 0) dX8_join_40 (by decide) ?_
    refine J_istore (env' := [(7, .int 0), (6, .int v5), (5, .int v2), (0, .ref x0), (1, .ref x1), (2, .int x2), (3, .ref x3), (4, .int x4)]) dX8_join_41 (by decide) rfl ?_
    refine J_loop (he := fun (t : Int32) => [(0, .ref x0), (1, .ref x1), (2, .int x2), (5, .int v2), (6, .int v5), (7, .int t)]) [3, 4, 5, 2, 1, 0] rfl (fun t => ?_)
    exact j_X8_join_L43 D dA x0 x1 x2 v2 v5 t
  refine J_iload_n dX8_join_25 rfl 3 rfl ?_
  exact J_ireturn dX8_join_26 rfl
theorem i_X8_join (x0 : Nat) (x1 : Nat) (x2 : Int32) (x3 : Nat) (x4 : Int32) : Impl (ws_ yX8_join cX8_join 11 (some .int)) yX8_join 3 false 0 0 [.ref x0, .ref x1, .int x2, .ref x3, .int x4] (f_X8_join x0 x1 x2 x3 x4) injI := impl_of (plainFor_of_name (by decide)) (Nat.le_of_ble_eq_true rfl) (fun D dA => j_X8_join D dA x0 x1 x2 x3 x4)
theorem cw_X8_join (Y : JY) (h : 4 ≤ Y.2.2.2.1) : JCw Y (ws_ yX8_join cX8_join 11 (some .int)) yX8_join cX8_join 11 (some .int) 3 := ⟨h, by decide, lw_meth q1987, q198, by decide, by decide⟩
theorem np_X8_join : JNp yX8_join.desc 4 := by decide +kernel
-- BracketRoomModel.copySpan([I[I)V
abbrev Y_X8_copySpan : JY := (cX8_copySpan, yX8_copySpan.cls, 4, 1, yX8_copySpan.name, none, [])
noncomputable def X8_copySpan_L2 (x1 : Nat) (x2 : Nat) (x3 : Int32) : JM Mem (Unit ⊕ (Int32)) :=
  if 25 ≤ x3 then
    jinl (jp ())
  else
  jb (jald mI 0 x1 x3) fun v1 =>
  jb (jast_i x2 x3 v1) fun _ =>
  jcont (x3 + 1)
theorem j_X8_copySpan_L2 (D : va_G) (dA : Nat → ClassId) (x1 : Nat) (x2 : Nat) (x3 : Int32) : J (PM D dA false) Y_X8_copySpan [(1, .ref x1), (2, .ref x2), (3, .int x3)] [] 2 (X8_copySpan_L2 x1 x2 x3) (FLoop (FRet injU) 2 (fun (t : Int32) => [(1, .ref x1), (2, .ref x2), (3, .int t)])) := by
  unfold X8_copySpan_L2
  refine J_iload_n dX8_copySpan_2 rfl 2 rfl ?_
  refine J_bipush (v := 25) dX8_copySpan_3 (by decide) ?_
  refine J_icmp_ge (tgt := 20) dX8_copySpan_5 rfl ?_ ?_
  · refine J_inl ?_
    exact J_return dX8_copySpan_20 rfl
  refine J_aload_n dX8_copySpan_8 rfl 1 rfl ?_
  refine J_iload_n dX8_copySpan_9 rfl 2 rfl ?_
  refine J_aload_n dX8_copySpan_10 rfl 0 rfl ?_
  refine J_iload_n dX8_copySpan_11 rfl 2 rfl ?_
  refine J_iald dX8_copySpan_12 (fun v1 => ?_)
  refine J_iast dX8_copySpan_13 ?_
  refine J_iinc (v := x3 + 1) (env' := [(3, .int (x3 + 1)), (1, .ref x1), (2, .ref x2)]) dX8_copySpan_14 2 rfl rfl (by decide) rfl ?_
  refine J_goto (tgt := 2) dX8_copySpan_17 rfl ?_
  exact J_cont [1, 2, 0] rfl
noncomputable def f_X8_copySpan (x0 : Nat) (x1 : Nat) (x2 : Nat) : JM Mem Unit :=
  jloop (fun (t : Int32) => X8_copySpan_L2 x1 x2 t) 0
theorem j_X8_copySpan (D : va_G) (dA : Nat → ClassId) (x0 : Nat) (x1 : Nat) (x2 : Nat) : J (PM D dA false) Y_X8_copySpan [(0, .ref x0), (1, .ref x1), (2, .ref x2)] [] 0 (f_X8_copySpan x0 x1 x2) (FRet injU) := by
  unfold f_X8_copySpan
  refine J_iconst (v := 0) dX8_copySpan_0 (by decide) ?_
  refine J_istore_n (env' := [(3, .int 0), (0, .ref x0), (1, .ref x1), (2, .ref x2)]) dX8_copySpan_1 rfl (by decide) rfl ?_
  refine J_loop (he := fun (t : Int32) => [(1, .ref x1), (2, .ref x2), (3, .int t)]) [2, 3, 0] rfl (fun t => ?_)
  exact j_X8_copySpan_L2 D dA x1 x2 t
theorem i_X8_copySpan (x0 : Nat) (x1 : Nat) (x2 : Nat) : Impl (ws_ yX8_copySpan cX8_copySpan 4 none) yX8_copySpan 1 false 0 0 [.ref x0, .ref x1, .ref x2] (f_X8_copySpan x0 x1 x2) injU := impl_of (plainFor_of_name (by decide)) (Nat.le_of_ble_eq_true rfl) (fun D dA => j_X8_copySpan D dA x0 x1 x2)
theorem cw_X8_copySpan (Y : JY) (h : 2 ≤ Y.2.2.2.1) : JCw Y (ws_ yX8_copySpan cX8_copySpan 4 none) yX8_copySpan cX8_copySpan 4 none 1 := ⟨h, by decide, lw_meth q1999, q198, by decide, by decide⟩
theorem np_X8_copySpan : JNp yX8_copySpan.desc 2 := by decide +kernel
-- BracketRoomModel.wholeSpan([I)I
abbrev Y_X8_wholeSpan : JY := (cX8_wholeSpan, yX8_wholeSpan.cls, 4, 1, yX8_wholeSpan.name, (some .int), [])
noncomputable def X8_wholeSpan_b49 (x0 : Nat) : JM Mem Int32 :=
  jb (jgetI 7 27 x0) fun v2 =>
  jp v2
theorem j_X8_wholeSpan_b49 (D : va_G) (dA : Nat → ClassId) (x0 : Nat) : J (PM D dA false) Y_X8_wholeSpan [(0, .ref x0)] [] 49 (X8_wholeSpan_b49 x0) (FRet injI) := by
  unfold X8_wholeSpan_b49
  refine J_aload_n dX8_wholeSpan_49 rfl 0 rfl ?_
  refine J_getI dX8_wholeSpan_50 fl_X8_253 rfl (fun v2 => ?_)
  exact J_ireturn dX8_wholeSpan_53 rfl
noncomputable def X8_wholeSpan_b43 (x0 : Nat) (x1 : Nat) (x2 : Int32) : JM Mem (Int32 ⊕ (Int32)) :=
  jcont (x2 + 1)
theorem j_X8_wholeSpan_b43 (D : va_G) (dA : Nat → ClassId) (x0 : Nat) (x1 : Nat) (x2 : Int32) : J (PM D dA false) Y_X8_wholeSpan [(0, .ref x0), (1, .ref x1), (2, .int x2)] [] 43 (X8_wholeSpan_b43 x0 x1 x2) (FLoop (FRet injI) 2 (fun (t : Int32) => [(0, .ref x0), (1, .ref x1), (2, .int t)])) := by
  unfold X8_wholeSpan_b43
  refine J_iinc (v := x2 + 1) (env' := [(2, .int (x2 + 1)), (0, .ref x0), (1, .ref x1)]) dX8_wholeSpan_43 2 rfl rfl (by decide) rfl ?_
  refine J_goto (tgt := 2) dX8_wholeSpan_46 rfl ?_
  exact J_cont [1, 2, 0] rfl
noncomputable def X8_wholeSpan_b36 (x0 : Nat) (x1 : Nat) (x2 : Int32) (x3 : Int32) (s0 : Nat) (s1 : Int32) (s2 : Int32) : JM Mem ((Int32 ⊕ (Int32)) ⊕ (Int32)) :=
  jb (jast_i s0 s1 s2) fun _ =>
  jcont (x3 + 1)
theorem j_X8_wholeSpan_b36 (D : va_G) (dA : Nat → ClassId) (x0 : Nat) (x1 : Nat) (x2 : Int32) (x3 : Int32) (s0 : Nat) (s1 : Int32) (s2 : Int32) : J (PM D dA false) Y_X8_wholeSpan [(0, .ref x0), (1, .ref x1), (2, .int x2), (3, .int x3)] [.int s2, .int s1, .ref s0] 36 (X8_wholeSpan_b36 x0 x1 x2 x3 s0 s1 s2) (FLoop (FLoop (FRet injI) 2 (fun (t : Int32) => [(0, .ref x0), (1, .ref x1), (2, .int t)])) 12 (fun (t : Int32) => [(0, .ref x0), (1, .ref x1), (2, .int x2), (3, .int t)])) := by
  unfold X8_wholeSpan_b36
  refine J_iast dX8_wholeSpan_36 ?_
  refine J_iinc (v := x3 + 1) (env' := [(3, .int (x3 + 1)), (0, .ref x0), (1, .ref x1), (2, .int x2)]) dX8_wholeSpan_37 3 rfl rfl (by decide) rfl ?_
  refine J_goto (tgt := 12) dX8_wholeSpan_40 rfl ?_
  exact J_cont [1, 2, 3, 0] rfl
noncomputable def X8_wholeSpan_L12 (x0 : Nat) (x1 : Nat) (x2 : Int32) (x3 : Int32) : JM Mem ((Int32 ⊕ (Int32)) ⊕ (Int32)) :=
  jb (jgetI 7 27 x0) fun v3 =>
  if v3 ≤ x3 then
    jinl (X8_wholeSpan_b43 x0 x1 x2)
  else
  if x2 = x3 then
    X8_wholeSpan_b36 x0 x1 x2 x3 x1 ((5 * x2) + x3) 1
  else
    X8_wholeSpan_b36 x0 x1 x2 x3 x1 ((5 * x2) + x3) 0
theorem j_X8_wholeSpan_L12 (D : va_G) (dA : Nat → ClassId) (x0 : Nat) (x1 : Nat) (x2 : Int32) (x3 : Int32) : J (PM D dA false) Y_X8_wholeSpan [(0, .ref x0), (1, .ref x1), (2, .int x2), (3, .int x3)] [] 12 (X8_wholeSpan_L12 x0 x1 x2 x3) (FLoop (FLoop (FRet injI) 2 (fun (t : Int32) => [(0, .ref x0), (1, .ref x1), (2, .int t)])) 12 (fun (t : Int32) => [(0, .ref x0), (1, .ref x1), (2, .int x2), (3, .int t)])) := by
  unfold X8_wholeSpan_L12
  refine J_iload_n dX8_wholeSpan_12 rfl 3 rfl ?_
  refine J_aload_n dX8_wholeSpan_13 rfl 0 rfl ?_
  refine J_getI dX8_wholeSpan_14 fl_X8_253 rfl (fun v3 => ?_)
  refine J_icmp_ge (tgt := 43) dX8_wholeSpan_17 rfl ?_ ?_
  · refine J_inl ?_
    refine J_sub [0, 1, 2] rfl ?_
    exact j_X8_wholeSpan_b43 D dA x0 x1 x2
  refine J_aload_n dX8_wholeSpan_20 rfl 1 rfl ?_
  refine J_iconst (v := 5) dX8_wholeSpan_21 (by decide) ?_
  refine J_iload_n dX8_wholeSpan_22 rfl 2 rfl ?_
  refine J_imul dX8_wholeSpan_23 ?_
  refine J_iload_n dX8_wholeSpan_24 rfl 3 rfl ?_
  refine J_iadd dX8_wholeSpan_25 ?_
  refine J_iload_n dX8_wholeSpan_26 rfl 2 rfl ?_
  refine J_iload_n dX8_wholeSpan_27 rfl 3 rfl ?_
  refine J_icmp_ne (tgt := 35) dX8_wholeSpan_28 rfl ?_ ?_
  · refine J_iconst (v := 0) dX8_wholeSpan_35 (by decide) ?_
    refine J_sub [0, 1, 2, 3] rfl ?_
    exact j_X8_wholeSpan_b36 D dA x0 x1 x2 x3 x1 ((5 * x2) + x3) 0
  refine J_iconst (v := 1) dX8_wholeSpan_31 (by decide) ?_
  refine J_goto (tgt := 36) dX8_wholeSpan_32 rfl ?_
  refine J_sub [0, 1, 2, 3] rfl ?_
  exact j_X8_wholeSpan_b36 D dA x0 x1 x2 x3 x1 ((5 * x2) + x3) 1
noncomputable def X8_wholeSpan_L2 (x0 : Nat) (x1 : Nat) (x2 : Int32) : JM Mem (Int32 ⊕ (Int32)) :=
  jb (jgetI 7 27 x0) fun v1 =>
  if v1 ≤ x2 then
    jinl (X8_wholeSpan_b49 x0)
  else
    jloop (fun (t : Int32) => X8_wholeSpan_L12 x0 x1 x2 t) 0
theorem j_X8_wholeSpan_L2 (D : va_G) (dA : Nat → ClassId) (x0 : Nat) (x1 : Nat) (x2 : Int32) : J (PM D dA false) Y_X8_wholeSpan [(0, .ref x0), (1, .ref x1), (2, .int x2)] [] 2 (X8_wholeSpan_L2 x0 x1 x2) (FLoop (FRet injI) 2 (fun (t : Int32) => [(0, .ref x0), (1, .ref x1), (2, .int t)])) := by
  unfold X8_wholeSpan_L2
  refine J_iload_n dX8_wholeSpan_2 rfl 2 rfl ?_
  refine J_aload_n dX8_wholeSpan_3 rfl 0 rfl ?_
  refine J_getI dX8_wholeSpan_4 fl_X8_253 rfl (fun v1 => ?_)
  refine J_icmp_ge (tgt := 49) dX8_wholeSpan_7 rfl ?_ ?_
  · refine J_inl ?_
    refine J_sub [0] rfl ?_
    exact j_X8_wholeSpan_b49 D dA x0
  refine J_iconst (v := 0) dX8_wholeSpan_10 (by decide) ?_
  refine J_istore_n (env' := [(3, .int 0), (0, .ref x0), (1, .ref x1), (2, .int x2)]) dX8_wholeSpan_11 rfl (by decide) rfl ?_
  refine J_loop (he := fun (t : Int32) => [(0, .ref x0), (1, .ref x1), (2, .int x2), (3, .int t)]) [1, 2, 3, 0] rfl (fun t => ?_)
  exact j_X8_wholeSpan_L12 D dA x0 x1 x2 t
noncomputable def f_X8_wholeSpan (x0 : Nat) (x1 : Nat) : JM Mem Int32 :=
  jloop (fun (t : Int32) => X8_wholeSpan_L2 x0 x1 t) 0
theorem j_X8_wholeSpan (D : va_G) (dA : Nat → ClassId) (x0 : Nat) (x1 : Nat) : J (PM D dA false) Y_X8_wholeSpan [(0, .ref x0), (1, .ref x1)] [] 0 (f_X8_wholeSpan x0 x1) (FRet injI) := by
  unfold f_X8_wholeSpan
  refine J_iconst (v := 0) dX8_wholeSpan_0 (by decide) ?_
  refine J_istore_n (env' := [(2, .int 0), (0, .ref x0), (1, .ref x1)]) dX8_wholeSpan_1 rfl (by decide) rfl ?_
  refine J_loop (he := fun (t : Int32) => [(0, .ref x0), (1, .ref x1), (2, .int t)]) [1, 2, 0] rfl (fun t => ?_)
  exact j_X8_wholeSpan_L2 D dA x0 x1 t
theorem i_X8_wholeSpan (x0 : Nat) (x1 : Nat) : Impl (ws_ yX8_wholeSpan cX8_wholeSpan 4 (some .int)) yX8_wholeSpan 1 false 0 0 [.ref x0, .ref x1] (f_X8_wholeSpan x0 x1) injI := impl_of (plainFor_of_name (by decide)) (Nat.le_of_ble_eq_true rfl) (fun D dA => j_X8_wholeSpan D dA x0 x1)
theorem cw_X8_wholeSpan (Y : JY) (h : 2 ≤ Y.2.2.2.1) : JCw Y (ws_ yX8_wholeSpan cX8_wholeSpan 4 (some .int)) yX8_wholeSpan cX8_wholeSpan 4 (some .int) 1 := ⟨h, by decide, lw_meth q2003, q198, by decide, by decide⟩
theorem np_X8_wholeSpan : JNp yX8_wholeSpan.desc 1 := by decide +kernel
-- BracketRoomModel.made(III)I
abbrev Y_X8_made : JY := (cX8_made, yX8_made.cls, 9, 4, yX8_made.name, (some .int), [])
noncomputable def X8_made_b186 (x0 : Nat) (x3 : Int32) (x4 : Int32) (x5 : Int32) (x6 : Int32) (x7 : Int32) : JM Mem ((Int32 ⊕ (Int32 × Int32)) ⊕ (Int32 × Int32)) :=
  jcont (x4, x7 + 1)
theorem j_X8_made_b186 (D : va_G) (dA : Nat → ClassId) (x0 : Nat) (x3 : Int32) (x4 : Int32) (x5 : Int32) (x6 : Int32) (x7 : Int32) : J (PM D dA false) Y_X8_made [(0, .ref x0), (3, .int x3), (4, .int x4), (5, .int x5), (6, .int x6), (7, .int x7)] [] 186 (X8_made_b186 x0 x3 x4 x5 x6 x7) (FLoop (FLoop (FRet injI) 55 (fun (t : Int32 × Int32) => [(0, .ref x0), (3, .int x3), (4, .int t.1), (5, .int t.2)])) 122 (fun (t : Int32 × Int32) => [(0, .ref x0), (3, .int x3), (4, .int t.1), (5, .int x5), (6, .int x6), (7, .int t.2)])) := by
  unfold X8_made_b186
  refine J_iinc (v := x7 + 1) (env' := [(7, .int (x7 + 1)), (0, .ref x0), (3, .int x3), (4, .int x4), (5, .int x5), (6, .int x6)]) dX8_made_186 5 rfl rfl (by decide) rfl ?_
  refine J_goto (tgt := 122) dX8_made_189 rfl ?_
  exact J_cont [1, 2, 3, 4, 5, 0] rfl
noncomputable def X8_made_L132 (x0 : Nat) (x3 : Int32) (x5 : Int32) (x6 : Int32) (x7 : Int32) (x4 : Int32) (x8 : Int32) : JM Mem (((Int32 ⊕ (Int32 × Int32)) ⊕ (Int32 × Int32)) ⊕ (Int32 × Int32)) :=
  if x6 ≤ x8 then
    jinl (X8_made_b186 x0 x3 x4 x5 x6 x7)
  else
  jb (jgetA 7 31 x0) fun v5 =>
  jb (jgetA 7 32 x0) fun v6 =>
  jb (jgetA 7 36 x0) fun v7 =>
  jb (jcall 7 x0 (f_X8_bracketOf x0 v5 (5 * x7) v6 (5 * x8) v7)) fun _ =>
  jb (jgetA 7 30 x0) fun v8 =>
  jb (jgetA 7 36 x0) fun v9 =>
  jb (jcall 7 x0 (f_X8_join x0 v8 x4 v9 0)) fun v10 =>
  jcont (v10, x8 + 1)
theorem j_X8_made_L132 (D : va_G) (dA : Nat → ClassId) (x0 : Nat) (x3 : Int32) (x5 : Int32) (x6 : Int32) (x7 : Int32) (x4 : Int32) (x8 : Int32) : J (PM D dA false) Y_X8_made [(0, .ref x0), (3, .int x3), (4, .int x4), (5, .int x5), (6, .int x6), (7, .int x7), (8, .int x8)] [] 132 (X8_made_L132 x0 x3 x5 x6 x7 x4 x8) (FLoop (FLoop (FLoop (FRet injI) 55 (fun (t : Int32 × Int32) => [(0, .ref x0), (3, .int x3), (4, .int t.1), (5, .int t.2)])) 122 (fun (t : Int32 × Int32) => [(0, .ref x0), (3, .int x3), (4, .int t.1), (5, .int x5), (6, .int x6), (7, .int t.2)])) 132 (fun (t : Int32 × Int32) => [(0, .ref x0), (3, .int x3), (4, .int t.1), (5, .int x5), (6, .int x6), (7, .int x7), (8, .int t.2)])) := by
  unfold X8_made_L132
  refine J_iload dX8_made_132 6 rfl ?_
  refine J_iload dX8_made_134 4 rfl ?_
  refine J_icmp_ge (tgt := 186) dX8_made_136 rfl ?_ ?_
  · refine J_inl ?_
    refine J_sub [0, 1, 2, 3, 4, 5] rfl ?_
    exact j_X8_made_b186 D dA x0 x3 x4 x5 x6 x7
  refine J_aload_n dX8_made_139 rfl 0 rfl ?_
  refine J_aload_n dX8_made_140 rfl 0 rfl ?_
  refine J_getA dX8_made_141 fl_X8_56 rfl (fun v5 => ?_)
  refine J_iconst (v := 5) dX8_made_144 (by decide) ?_
  refine J_iload dX8_made_145 5 rfl ?_
  refine J_imul dX8_made_147 ?_
  refine J_aload_n dX8_made_148 rfl 0 rfl ?_
  refine J_getA dX8_made_149 fl_X8_59 rfl (fun v6 => ?_)
  refine J_iconst (v := 5) dX8_made_152 (by decide) ?_
  refine J_iload dX8_made_153 6 rfl ?_
  refine J_imul dX8_made_155 ?_
  refine J_aload_n dX8_made_156 rfl 0 rfl ?_
  refine J_getA dX8_made_157 fl_X8_71 rfl (fun v7 => ?_)
  refine J_callVV (c := 7) (as := [.ref v5, .int (5 * x7), .ref v6, .int (5 * x8), .ref v7]) dX8_made_160 (by decide) rfl (Nat.le_of_ble_eq_true rfl) (cw_X8_bracketOf _ (by decide)) q1911 q1913 qs97 q1914 np_X8_bracketOf (i_X8_bracketOf x0 v5 (5 * x7) v6 (5 * x8) v7) jad_id rfl ?_
  refine J_aload_n dX8_made_163 rfl 0 rfl ?_
  refine J_aload_n dX8_made_164 rfl 0 rfl ?_
  refine J_getA dX8_made_165 fl_X8_53 rfl (fun v8 => ?_)
  refine J_iload dX8_made_168 2 rfl ?_
  refine J_aload_n dX8_made_170 rfl 0 rfl ?_
  refine J_getA dX8_made_171 fl_X8_71 rfl (fun v9 => ?_)
  refine J_iconst (v := 0) dX8_made_174 (by decide) ?_
  refine J_callVI (c := 7) (as := [.ref v8, .int x4, .ref v9, .int 0]) dX8_made_175 (by decide) rfl (Nat.le_of_ble_eq_true rfl) (cw_X8_join _ (by decide)) q1984 q1986 qs109 q1987 np_X8_join (i_X8_join x0 v8 x4 v9 0) jad_id rfl (fun v10 => ?_)
  refine J_istore (env' := [(4, .int v10), (0, .ref x0), (3, .int x3), (5, .int x5), (6, .int x6), (7, .int x7), (8, .int x8)]) dX8_made_178 (by decide) rfl ?_
  refine J_iinc (v := x8 + 1) (env' := [(8, .int (x8 + 1)), (4, .int v10), (0, .ref x0), (3, .int x3), (5, .int x5), (6, .int x6), (7, .int x7)]) dX8_made_180 6 rfl rfl (by decide) rfl ?_
  refine J_goto (tgt := 132) dX8_made_183 rfl ?_
  exact J_cont [2, 3, 1, 4, 5, 6, 0] rfl
noncomputable def X8_made_L122 (x0 : Nat) (x3 : Int32) (x5 : Int32) (x6 : Int32) (x4 : Int32) (x7 : Int32) : JM Mem ((Int32 ⊕ (Int32 × Int32)) ⊕ (Int32 × Int32)) :=
  if x5 ≤ x7 then
    jinl (jcont (x4, x5))
  else
    jloop (fun (t : Int32 × Int32) => X8_made_L132 x0 x3 x5 x6 x7 t.1 t.2) (x4, 0)
theorem j_X8_made_L122 (D : va_G) (dA : Nat → ClassId) (x0 : Nat) (x3 : Int32) (x5 : Int32) (x6 : Int32) (x4 : Int32) (x7 : Int32) : J (PM D dA false) Y_X8_made [(0, .ref x0), (3, .int x3), (4, .int x4), (5, .int x5), (6, .int x6), (7, .int x7)] [] 122 (X8_made_L122 x0 x3 x5 x6 x4 x7) (FLoop (FLoop (FRet injI) 55 (fun (t : Int32 × Int32) => [(0, .ref x0), (3, .int x3), (4, .int t.1), (5, .int t.2)])) 122 (fun (t : Int32 × Int32) => [(0, .ref x0), (3, .int x3), (4, .int t.1), (5, .int x5), (6, .int x6), (7, .int t.2)])) := by
  unfold X8_made_L122
  refine J_iload dX8_made_122 5 rfl ?_
  refine J_iload dX8_made_124 3 rfl ?_
  refine J_icmp_ge (tgt := 192) dX8_made_126 rfl ?_ ?_
  · refine J_inl ?_
    refine J_goto (tgt := 55) dX8_made_192 rfl ?_
    exact J_cont [0, 1, 2, 3] rfl
  refine J_iconst (v := 0) dX8_made_129 (by decide) ?_
  refine J_istore (env' := [(8, .int 0), (0, .ref x0), (3, .int x3), (4, .int x4), (5, .int x5), (6, .int x6), (7, .int x7)]) dX8_made_130 (by decide) rfl ?_
  refine J_loop (he := fun (t : Int32 × Int32) => [(0, .ref x0), (3, .int x3), (4, .int t.1), (5, .int x5), (6, .int x6), (7, .int x7), (8, .int t.2)]) [1, 2, 3, 4, 5, 6, 0] rfl (fun t => ?_)
  exact j_X8_made_L132 D dA x0 x3 x5 x6 x7 t.1 t.2
noncomputable def X8_made_b119 (x0 : Nat) (x3 : Int32) (x4 : Int32) (x5 : Int32) (x6 : Int32) : JM Mem (Int32 ⊕ (Int32 × Int32)) :=
  jloop (fun (t : Int32 × Int32) => X8_made_L122 x0 x3 x5 x6 t.1 t.2) (x4, 0)
theorem j_X8_made_b119 (D : va_G) (dA : Nat → ClassId) (x0 : Nat) (x3 : Int32) (x4 : Int32) (x5 : Int32) (x6 : Int32) : J (PM D dA false) Y_X8_made [(0, .ref x0), (3, .int x3), (4, .int x4), (5, .int x5), (6, .int x6)] [] 119 (X8_made_b119 x0 x3 x4 x5 x6) (FLoop (FRet injI) 55 (fun (t : Int32 × Int32) => [(0, .ref x0), (3, .int x3), (4, .int t.1), (5, .int t.2)])) := by
  unfold X8_made_b119
  refine J_iconst (v := 0) dX8_made_119 (by decide) ?_
  refine J_istore (env' := [(7, .int 0), (0, .ref x0), (3, .int x3), (4, .int x4), (5, .int x5), (6, .int x6)]) dX8_made_120 (by decide) rfl ?_
  refine J_loop (he := fun (t : Int32 × Int32) => [(0, .ref x0), (3, .int x3), (4, .int t.1), (5, .int x5), (6, .int x6), (7, .int t.2)]) [1, 2, 3, 4, 5, 0] rfl (fun t => ?_)
  exact j_X8_made_L122 D dA x0 x3 x5 x6 t.1 t.2
noncomputable def X8_made_b100 (x0 : Nat) (x3 : Int32) (x4 : Int32) (x5 : Int32) (s0 : Int32) : JM Mem (Int32 ⊕ (Int32 × Int32)) :=
  if x3 = 1 then
    jb (jgetA 7 30 x0) fun v11 =>
    jb (jgetA 7 32 x0) fun v12 =>
    jb (jcall 7 x0 (f_X8_copySpan x0 v11 v12)) fun _ =>
    X8_made_b119 x0 x3 x4 x5 s0
  else
    X8_made_b119 x0 x3 x4 x5 s0
theorem j_X8_made_b100 (D : va_G) (dA : Nat → ClassId) (x0 : Nat) (x3 : Int32) (x4 : Int32) (x5 : Int32) (s0 : Int32) : J (PM D dA false) Y_X8_made [(0, .ref x0), (3, .int x3), (4, .int x4), (5, .int x5)] [.int s0] 100 (X8_made_b100 x0 x3 x4 x5 s0) (FLoop (FRet injI) 55 (fun (t : Int32 × Int32) => [(0, .ref x0), (3, .int x3), (4, .int t.1), (5, .int t.2)])) := by
  unfold X8_made_b100
  refine J_istore (env' := [(6, .int s0), (0, .ref x0), (3, .int x3), (4, .int x4), (5, .int x5)]) dX8_made_100 (by decide) rfl ?_
  refine J_iload_n dX8_made_102 rfl 2 rfl ?_
  refine J_iconst (v := 1) dX8_made_103 (by decide) ?_
  refine J_icmp_ne (tgt := 119) dX8_made_104 rfl ?_ ?_
  · refine J_sub [1, 2, 3, 4, 0] rfl ?_
    exact j_X8_made_b119 D dA x0 x3 x4 x5 s0
  refine J_aload_n dX8_made_107 rfl 1 rfl ?_
  refine J_aload_n dX8_made_108 rfl 1 rfl ?_
  refine J_getA dX8_made_109 fl_X8_53 rfl (fun v11 => ?_)
  refine J_aload_n dX8_made_112 rfl 1 rfl ?_
  refine J_getA dX8_made_113 fl_X8_59 rfl (fun v12 => ?_)
  refine J_callVV (c := 7) (as := [.ref v11, .ref v12]) dX8_made_116 (by decide) rfl (Nat.le_of_ble_eq_true rfl) (cw_X8_copySpan _ (by decide)) q1996 q1998 qs112 q1999 np_X8_copySpan (i_X8_copySpan x0 v11 v12) jad_id rfl ?_
  refine J_sub [1, 2, 3, 4, 0] rfl ?_
  exact j_X8_made_b119 D dA x0 x3 x4 x5 s0
noncomputable def X8_made_L55 (x0 : Nat) (x3 : Int32) (x4 : Int32) (x5 : Int32) : JM Mem (Int32 ⊕ (Int32 × Int32)) :=
  if x3 ≤ 0 then
    jinl (jp x4)
  else
  if x5 = x4 then
    jinl (jp x4)
  else
  jb (jgetA 7 30 x0) fun v1 =>
  jb (jgetA 7 31 x0) fun v2 =>
  jb (jcall 7 x0 (f_X8_copySpan x0 v1 v2)) fun _ =>
  if x3 = 1 then
    X8_made_b100 x0 x3 x4 x4 x4
  else
  jb (jgetA 7 32 x0) fun v3 =>
  jb (jcall 7 x0 (f_X8_wholeSpan x0 v3)) fun v4 =>
  X8_made_b100 x0 x3 x4 x4 v4
theorem j_X8_made_L55 (D : va_G) (dA : Nat → ClassId) (x0 : Nat) (x3 : Int32) (x4 : Int32) (x5 : Int32) : J (PM D dA false) Y_X8_made [(0, .ref x0), (3, .int x3), (4, .int x4), (5, .int x5)] [] 55 (X8_made_L55 x0 x3 x4 x5) (FLoop (FRet injI) 55 (fun (t : Int32 × Int32) => [(0, .ref x0), (3, .int x3), (4, .int t.1), (5, .int t.2)])) := by
  unfold X8_made_L55
  refine J_iload_n dX8_made_55 rfl 1 rfl ?_
  refine J_if_le (tgt := 195) dX8_made_56 rfl ?_ ?_
  · refine J_inl ?_
    refine J_iload dX8_made_195 2 rfl ?_
    exact J_ireturn dX8_made_197 rfl
  refine J_iload dX8_made_59 3 rfl ?_
  refine J_iload dX8_made_61 2 rfl ?_
  refine J_icmp_eq (tgt := 195) dX8_made_63 rfl ?_ ?_
  · refine J_inl ?_
    refine J_iload dX8_made_195 2 rfl ?_
    exact J_ireturn dX8_made_197 rfl
  refine J_iload dX8_made_66 2 rfl ?_
  refine J_istore (env' := [(5, .int x4), (0, .ref x0), (3, .int x3), (4, .int x4)]) dX8_made_68 (by decide) rfl ?_
  refine J_aload_n dX8_made_70 rfl 1 rfl ?_
  refine J_aload_n dX8_made_71 rfl 1 rfl ?_
  refine J_getA dX8_made_72 fl_X8_53 rfl (fun v1 => ?_)
  refine J_aload_n dX8_made_75 rfl 1 rfl ?_
  refine J_getA dX8_made_76 fl_X8_56 rfl (fun v2 => ?_)
  refine J_callVV (c := 7) (as := [.ref v1, .ref v2]) dX8_made_79 (by decide) rfl (Nat.le_of_ble_eq_true rfl) (cw_X8_copySpan _ (by decide)) q1996 q1998 qs112 q1999 np_X8_copySpan (i_X8_copySpan x0 v1 v2) jad_id rfl ?_
  refine J_iload_n dX8_made_82 rfl 2 rfl ?_
  refine J_iconst (v := 1) dX8_made_83 (by decide) ?_
  refine J_icmp_ne (tgt := 92) dX8_made_84 rfl ?_ ?_
  · refine J_aload_n dX8_made_92 rfl 1 rfl ?_
    refine J_aload_n dX8_made_93 rfl 1 rfl ?_
    refine J_getA dX8_made_94 fl_X8_59 rfl (fun v3 => ?_)
    refine J_callVI (c := 7) (as := [.ref v3]) dX8_made_97 (by decide) rfl (Nat.le_of_ble_eq_true rfl) (cw_X8_wholeSpan _ (by decide)) q2000 q2002 qs113 q2003 np_X8_wholeSpan (i_X8_wholeSpan x0 v3) jad_id rfl (fun v4 => ?_)
    refine J_sub [1, 2, 3, 0] rfl ?_
    exact j_X8_made_b100 D dA x0 x3 x4 x4 v4
  refine J_iload dX8_made_87 0 rfl ?_
  refine J_goto (tgt := 100) dX8_made_89 rfl ?_
  refine J_sub [1, 2, 3, 0] rfl ?_
  exact j_X8_made_b100 D dA x0 x3 x4 x4 x4
noncomputable def X8_made_b52 (x0 : Nat) (x3 : Int32) (x4 : Int32) : JM Mem Int32 :=
  jloop (fun (t : Int32 × Int32) => X8_made_L55 x0 x3 t.1 t.2) (x4, (-1))
theorem j_X8_made_b52 (D : va_G) (dA : Nat → ClassId) (x0 : Nat) (x3 : Int32) (x4 : Int32) : J (PM D dA false) Y_X8_made [(0, .ref x0), (3, .int x3), (4, .int x4)] [] 52 (X8_made_b52 x0 x3 x4) (FRet injI) := by
  unfold X8_made_b52
  refine J_iconst (v := (-1)) dX8_made_52 (by decide) ?_
  refine J_istore (env' := [(5, .int ((-1))), (0, .ref x0), (3, .int x3), (4, .int x4)]) dX8_made_53 (by decide) rfl ?_
  refine J_loop (he := fun (t : Int32 × Int32) => [(0, .ref x0), (3, .int x3), (4, .int t.1), (5, .int t.2)]) [1, 2, 3, 0] rfl (fun t => ?_)
  exact j_X8_made_L55 D dA x0 x3 t.1 t.2
noncomputable def X8_made_L6 (x0 : Nat) (x1 : Int32) (x2 : Int32) (x3 : Int32) (x4 : Int32) (x5 : Int32) : JM Mem (Int32 ⊕ (Int32 × Int32)) :=
  if x2 ≤ x5 then
    jinl (X8_made_b52 x0 x3 x4)
  else
  jb (jcall 7 x0 (f_X8_numberOf x0 x1 x5)) fun v13 =>
  jb (jgetA 7 33 x0) fun v14 =>
  jb (jcall 7 x0 (f_X8_parts2 x0 ((v13 : Int64).toInt32) v14 0)) fun _ =>
  jb (jgetA 7 30 x0) fun v15 =>
  jb (jgetA 7 33 x0) fun v16 =>
  jb (jcall 7 x0 (f_X8_join x0 v15 x4 v16 0)) fun v17 =>
  jcont (v17, x5 + 1)
theorem j_X8_made_L6 (D : va_G) (dA : Nat → ClassId) (x0 : Nat) (x1 : Int32) (x2 : Int32) (x3 : Int32) (x4 : Int32) (x5 : Int32) : J (PM D dA false) Y_X8_made [(0, .ref x0), (1, .int x1), (2, .int x2), (3, .int x3), (4, .int x4), (5, .int x5)] [] 6 (X8_made_L6 x0 x1 x2 x3 x4 x5) (FLoop (FRet injI) 6 (fun (t : Int32 × Int32) => [(0, .ref x0), (1, .int x1), (2, .int x2), (3, .int x3), (4, .int t.1), (5, .int t.2)])) := by
  unfold X8_made_L6
  refine J_iload dX8_made_6 5 rfl ?_
  refine J_iload_n dX8_made_8 rfl 2 rfl ?_
  refine J_icmp_ge (tgt := 52) dX8_made_9 rfl ?_ ?_
  · refine J_inl ?_
    refine J_sub [0, 3, 4] rfl ?_
    exact j_X8_made_b52 D dA x0 x3 x4
  refine J_aload_n dX8_made_12 rfl 0 rfl ?_
  refine J_aload_n dX8_made_13 rfl 0 rfl ?_
  refine J_iload_n dX8_made_14 rfl 1 rfl ?_
  refine J_iload dX8_made_15 5 rfl ?_
  refine J_callVL (c := 7) (as := [.int x1, .int x5]) dX8_made_17 (by decide) rfl (Nat.le_of_ble_eq_true rfl) (cw_X8_numberOf _ (by decide)) q1976 q1978 qs107 q1979 np_X8_numberOf (i_X8_numberOf x0 x1 x5) jad_id rfl (fun v13 => ?_)
  refine J_l2i dX8_made_20 ?_
  refine J_aload_n dX8_made_21 rfl 0 rfl ?_
  refine J_getA dX8_made_22 fl_X8_62 rfl (fun v14 => ?_)
  refine J_iconst (v := 0) dX8_made_25 (by decide) ?_
  refine J_callVV (c := 7) (as := [.int ((v13 : Int64).toInt32), .ref v14, .int 0]) dX8_made_26 (by decide) rfl (Nat.le_of_ble_eq_true rfl) (cw_X8_parts2 _ (by decide)) q1907 q1909 qs96 q1910 np_X8_parts2 (i_X8_parts2 x0 ((v13 : Int64).toInt32) v14 0) jad_id rfl ?_
  refine J_aload_n dX8_made_29 rfl 0 rfl ?_
  refine J_aload_n dX8_made_30 rfl 0 rfl ?_
  refine J_getA dX8_made_31 fl_X8_53 rfl (fun v15 => ?_)
  refine J_iload dX8_made_34 4 rfl ?_
  refine J_aload_n dX8_made_36 rfl 0 rfl ?_
  refine J_getA dX8_made_37 fl_X8_62 rfl (fun v16 => ?_)
  refine J_iconst (v := 0) dX8_made_40 (by decide) ?_
  refine J_callVI (c := 7) (as := [.ref v15, .int x4, .ref v16, .int 0]) dX8_made_41 (by decide) rfl (Nat.le_of_ble_eq_true rfl) (cw_X8_join _ (by decide)) q1984 q1986 qs109 q1987 np_X8_join (i_X8_join x0 v15 x4 v16 0) jad_id rfl (fun v17 => ?_)
  refine J_istore (env' := [(4, .int v17), (0, .ref x0), (1, .int x1), (2, .int x2), (3, .int x3), (5, .int x5)]) dX8_made_44 (by decide) rfl ?_
  refine J_iinc (v := x5 + 1) (env' := [(5, .int (x5 + 1)), (4, .int v17), (0, .ref x0), (1, .int x1), (2, .int x2), (3, .int x3)]) dX8_made_46 5 rfl rfl (by decide) rfl ?_
  refine J_goto (tgt := 6) dX8_made_49 rfl ?_
  exact J_cont [2, 3, 4, 5, 1, 0] rfl
noncomputable def f_X8_made (x0 : Nat) (x1 : Int32) (x2 : Int32) (x3 : Int32) : JM Mem Int32 :=
  jloop (fun (t : Int32 × Int32) => X8_made_L6 x0 x1 x2 x3 t.1 t.2) (0, 0)
theorem j_X8_made (D : va_G) (dA : Nat → ClassId) (x0 : Nat) (x1 : Int32) (x2 : Int32) (x3 : Int32) : J (PM D dA false) Y_X8_made [(0, .ref x0), (1, .int x1), (2, .int x2), (3, .int x3)] [] 0 (f_X8_made x0 x1 x2 x3) (FRet injI) := by
  unfold f_X8_made
  refine J_iconst (v := 0) dX8_made_0 (by decide) ?_
  refine J_istore (env' := [(4, .int 0), (0, .ref x0), (1, .int x1), (2, .int x2), (3, .int x3)]) dX8_made_1 (by decide) rfl ?_
  refine J_iconst (v := 0) dX8_made_3 (by decide) ?_
  refine J_istore (env' := [(5, .int 0), (4, .int 0), (0, .ref x0), (1, .int x1), (2, .int x2), (3, .int x3)]) dX8_made_4 (by decide) rfl ?_
  refine J_loop (he := fun (t : Int32 × Int32) => [(0, .ref x0), (1, .int x1), (2, .int x2), (3, .int x3), (4, .int t.1), (5, .int t.2)]) [2, 3, 4, 5, 1, 0] rfl (fun t => ?_)
  exact j_X8_made_L6 D dA x0 x1 x2 x3 t.1 t.2
theorem i_X8_made (x0 : Nat) (x1 : Int32) (x2 : Int32) (x3 : Int32) : Impl (ws_ yX8_made cX8_made 9 (some .int)) yX8_made 4 false 0 0 [.ref x0, .int x1, .int x2, .int x3] (f_X8_made x0 x1 x2 x3) injI := impl_of (plainFor_of_name (by decide)) (Nat.le_of_ble_eq_true rfl) (fun D dA => j_X8_made D dA x0 x1 x2 x3)
theorem cw_X8_made (Y : JY) (h : 5 ≤ Y.2.2.2.1) : JCw Y (ws_ yX8_made cX8_made 9 (some .int)) yX8_made cX8_made 9 (some .int) 4 := ⟨h, by decide, lw_meth q1983, q198, by decide, by decide⟩
theorem np_X8_made : JNp yX8_made.desc 3 := by decide +kernel
-- BracketRoomModel.span(III)I
abbrev Y_X8_span : JY := (cX8_span, yX8_span.cls, 5, 5, yX8_span.name, (some .int), [])
noncomputable def X8_span_b67 (x0 : Nat) : JM Mem Int32 :=
  jb (jcall 7 x0 (f_X8_refuse x0 5)) fun v5 =>
  jp v5
theorem j_X8_span_b67 (D : va_G) (dA : Nat → ClassId) (x0 : Nat) : J (PM D dA false) Y_X8_span [(0, .ref x0)] [] 67 (X8_span_b67 x0) (FRet injI) := by
  unfold X8_span_b67
  refine J_aload_n dX8_span_67 rfl 0 rfl ?_
  refine J_iconst (v := 5) dX8_span_68 (by decide) ?_
  refine J_callVI (c := 7) (as := [.int 5]) dX8_span_69 (by decide) rfl (Nat.le_of_ble_eq_true rfl) (cw_X8_refuse _ (by decide)) q1871 q1873 qs90 q1874 np_X8_refuse (i_X8_refuse x0 5) jad_id rfl (fun v5 => ?_)
  exact J_ireturn dX8_span_72 rfl
noncomputable def f_X8_span (x0 : Nat) (x1 : Int32) (x2 : Int32) (x3 : Int32) : JM Mem Int32 :=
  jb (jputI 7 1 x0 0) fun _ =>
  jb (jputI 7 0 x0 0) fun _ =>
  jb (jcall 7 x0 (f_X8_askNow x0)) fun _ =>
  jb (jcall 7 x0 (f_X8_isTray x0 x1)) fun v1 =>
  if v1 = 0 then
    jb (jcall 7 x0 (f_X8_refuse x0 1)) fun v11 =>
    jp v11
  else
  jb (jgetA 7 5 x0) fun v2 =>
  jb (jald mI 0 v2 x1) fun v3 =>
  if 0 ≤ v3 then
    jb ((f_X8_isIn ((x2 : Int32).toInt64) 0 20)) fun v4 =>
    if v4 = 0 then
      X8_span_b67 x0
    else
    jb ((f_X8_isIn ((x3 : Int32).toInt64) 0 2)) fun v6 =>
    if v6 = 0 then
      X8_span_b67 x0
    else
    jb (jcall 7 x0 (f_X8_wrongVectors x0 x1 x2)) fun v7 =>
    if v7 ≤ 0 then
      jb (jcall 7 x0 (f_X8_made x0 x1 x2 x3)) fun v8 =>
      jp v8
    else
    jb (jcall 7 x0 (f_X8_refuse x0 v7)) fun v9 =>
    jp v9
  else
  jb (jcall 7 x0 (f_X8_refuse x0 3)) fun v10 =>
  jp v10
theorem j_X8_span (D : va_G) (dA : Nat → ClassId) (x0 : Nat) (x1 : Int32) (x2 : Int32) (x3 : Int32) : J (PM D dA false) Y_X8_span [(0, .ref x0), (1, .int x1), (2, .int x2), (3, .int x3)] [] 0 (f_X8_span x0 x1 x2 x3) (FRet injI) := by
  unfold f_X8_span
  refine J_aload_n dX8_span_0 rfl 0 rfl ?_
  refine J_iconst (v := 0) dX8_span_1 (by decide) ?_
  refine J_putI dX8_span_2 ⟨fl_X8_132, Or.inl rfl⟩ rfl ?_
  refine J_aload_n dX8_span_5 rfl 0 rfl ?_
  refine J_iconst (v := 0) dX8_span_6 (by decide) ?_
  refine J_putI dX8_span_7 ⟨fl_X8_135, Or.inl rfl⟩ rfl ?_
  refine J_aload_n dX8_span_10 rfl 0 rfl ?_
  refine J_callVV (c := 7) (as := []) dX8_span_11 (by decide) rfl (Nat.le_of_ble_eq_true rfl) (cw_X8_askNow _ (by decide)) q1862 q1864 qs88 q1865 np_X8_askNow (i_X8_askNow x0) jad_id rfl ?_
  refine J_aload_n dX8_span_14 rfl 0 rfl ?_
  refine J_iload_n dX8_span_15 rfl 1 rfl ?_
  refine J_callVI (c := 7) (as := [.int x1]) dX8_span_16 (by decide) rfl (Nat.le_of_ble_eq_true rfl) (cw_X8_isTray _ (by decide)) q1967 q1969 qs105 q1970 np_X8_isTray (i_X8_isTray x0 x1) jad_id rfl (fun v1 => ?_)
  refine J_if_ne (tgt := 28) dX8_span_19 rfl ?_ ?_
  · refine J_aload_n dX8_span_28 rfl 0 rfl ?_
    refine J_getA dX8_span_29 fl_X8_17 rfl (fun v2 => ?_)
    refine J_iload_n dX8_span_32 rfl 1 rfl ?_
    refine J_iald dX8_span_33 (fun v3 => ?_)
    refine J_if_ge (tgt := 43) dX8_span_34 rfl ?_ ?_
    · refine J_iload_n dX8_span_43 rfl 2 rfl ?_
      refine J_i2l dX8_span_44 ?_
      refine J_lconst (v := 0) dX8_span_45 (by decide) ?_
      refine J_ldc2 dX8_span_46 q1971 ?_
      refine J_callSI (host := "") (as := [.long ((x2 : Int32).toInt64), .long 0, .long 20]) dX8_span_49 rfl (Nat.le_of_ble_eq_true rfl) (cw_X8_isIn _ (by decide)) q1801 q1802 q1803 np_X8_isIn (i_X8_isIn ((x2 : Int32).toInt64) 0 20) jad_id rfl (fun v4 => ?_)
      refine J_if_eq (tgt := 67) dX8_span_52 rfl ?_ ?_
      · refine J_sub [0] rfl ?_
        exact j_X8_span_b67 D dA x0
      refine J_iload_n dX8_span_55 rfl 3 rfl ?_
      refine J_i2l dX8_span_56 ?_
      refine J_lconst (v := 0) dX8_span_57 (by decide) ?_
      refine J_ldc2 dX8_span_58 q1947 ?_
      refine J_callSI (host := "") (as := [.long ((x3 : Int32).toInt64), .long 0, .long 2]) dX8_span_61 rfl (Nat.le_of_ble_eq_true rfl) (cw_X8_isIn _ (by decide)) q1801 q1802 q1803 np_X8_isIn (i_X8_isIn ((x3 : Int32).toInt64) 0 2) jad_id rfl (fun v6 => ?_)
      refine J_if_ne (tgt := 73) dX8_span_64 rfl ?_ ?_
      · refine J_aload_n dX8_span_73 rfl 0 rfl ?_
        refine J_iload_n dX8_span_74 rfl 1 rfl ?_
        refine J_iload_n dX8_span_75 rfl 2 rfl ?_
        refine J_callVI (c := 7) (as := [.int x1, .int x2]) dX8_span_76 (by decide) rfl (Nat.le_of_ble_eq_true rfl) (cw_X8_wrongVectors _ (by decide)) q1972 q1974 qs106 q1975 np_X8_wrongVectors (i_X8_wrongVectors x0 x1 x2) jad_id rfl (fun v7 => ?_)
        refine J_istore (env' := [(4, .int v7), (0, .ref x0), (1, .int x1), (2, .int x2), (3, .int x3)]) dX8_span_79 (by decide) rfl ?_
        refine J_iload dX8_span_81 0 rfl ?_
        refine J_if_le (tgt := 95) dX8_span_83 rfl ?_ ?_
        · refine J_aload_n dX8_span_95 rfl 1 rfl ?_
          refine J_iload_n dX8_span_96 rfl 2 rfl ?_
          refine J_iload_n dX8_span_97 rfl 3 rfl ?_
          refine J_iload_n dX8_span_98 rfl 4 rfl ?_
          refine J_callVI (c := 7) (as := [.int x1, .int x2, .int x3]) dX8_span_99 (by decide) rfl (Nat.le_of_ble_eq_true rfl) (cw_X8_made _ (by decide)) q1980 q1982 qs108 q1983 np_X8_made (i_X8_made x0 x1 x2 x3) jad_id rfl (fun v8 => ?_)
          exact J_ireturn dX8_span_102 rfl
        refine J_aload_n dX8_span_86 rfl 1 rfl ?_
        refine J_iload dX8_span_87 0 rfl ?_
        refine J_callVI (c := 7) (as := [.int v7]) dX8_span_89 (by decide) rfl (Nat.le_of_ble_eq_true rfl) (cw_X8_refuse _ (by decide)) q1871 q1873 qs90 q1874 np_X8_refuse (i_X8_refuse x0 v7) jad_id rfl (fun v9 => ?_)
        refine J_goto (tgt := 102) dX8_span_92 rfl ?_
        exact J_ireturn dX8_span_102 rfl
      refine J_sub [0] rfl ?_
      exact j_X8_span_b67 D dA x0
    refine J_aload_n dX8_span_37 rfl 0 rfl ?_
    refine J_iconst (v := 3) dX8_span_38 (by decide) ?_
    refine J_callVI (c := 7) (as := [.int 3]) dX8_span_39 (by decide) rfl (Nat.le_of_ble_eq_true rfl) (cw_X8_refuse _ (by decide)) q1871 q1873 qs90 q1874 np_X8_refuse (i_X8_refuse x0 3) jad_id rfl (fun v10 => ?_)
    exact J_ireturn dX8_span_42 rfl
  refine J_aload_n dX8_span_22 rfl 0 rfl ?_
  refine J_iconst (v := 1) dX8_span_23 (by decide) ?_
  refine J_callVI (c := 7) (as := [.int 1]) dX8_span_24 (by decide) rfl (Nat.le_of_ble_eq_true rfl) (cw_X8_refuse _ (by decide)) q1871 q1873 qs90 q1874 np_X8_refuse (i_X8_refuse x0 1) jad_id rfl (fun v11 => ?_)
  exact J_ireturn dX8_span_27 rfl
theorem i_X8_span (x0 : Nat) (x1 : Int32) (x2 : Int32) (x3 : Int32) : Impl (ws_ yX8_span cX8_span 5 (some .int)) yX8_span 5 false 0 0 [.ref x0, .int x1, .int x2, .int x3] (f_X8_span x0 x1 x2 x3) injI := impl_of (plainFor_of_name (by decide)) (Nat.le_of_ble_eq_true rfl) (fun D dA => j_X8_span D dA x0 x1 x2 x3)
theorem cw_X8_span (Y : JY) (h : 6 ≤ Y.2.2.2.1) : JCw Y (ws_ yX8_span cX8_span 5 (some .int)) yX8_span cX8_span 5 (some .int) 5 := ⟨h, by decide, lw_meth q1966, q198, by decide, by decide⟩
theorem np_X8_span : JNp yX8_span.desc 3 := by decide +kernel
-- BracketRoomModel.brackets([II[II[I)I
abbrev Y_X8_brackets : JY := (cX8_brackets, yX8_brackets.cls, 9, 4, yX8_brackets.name, (some .int), [])
noncomputable def X8_brackets_b61 (x0 : Nat) (x1 : Nat) (x2 : Int32) (x3 : Nat) (x4 : Int32) (x5 : Nat) (x6 : Int32) (x7 : Int32) : JM Mem (Int32 ⊕ (Int32 × Int32)) :=
  jcont (x6, x7 + 1)
theorem j_X8_brackets_b61 (D : va_G) (dA : Nat → ClassId) (x0 : Nat) (x1 : Nat) (x2 : Int32) (x3 : Nat) (x4 : Int32) (x5 : Nat) (x6 : Int32) (x7 : Int32) : J (PM D dA false) Y_X8_brackets [(0, .ref x0), (1, .ref x1), (2, .int x2), (3, .ref x3), (4, .int x4), (5, .ref x5), (6, .int x6), (7, .int x7)] [] 61 (X8_brackets_b61 x0 x1 x2 x3 x4 x5 x6 x7) (FLoop (FRet injI) 6 (fun (t : Int32 × Int32) => [(0, .ref x0), (1, .ref x1), (2, .int x2), (3, .ref x3), (4, .int x4), (5, .ref x5), (6, .int t.1), (7, .int t.2)])) := by
  unfold X8_brackets_b61
  refine J_iinc (v := x7 + 1) (env' := [(7, .int (x7 + 1)), (0, .ref x0), (1, .ref x1), (2, .int x2), (3, .ref x3), (4, .int x4), (5, .ref x5), (6, .int x6)]) dX8_brackets_61 7 rfl rfl (by decide) rfl ?_
  refine J_goto (tgt := 6) dX8_brackets_64 rfl ?_
  exact J_cont [1, 2, 3, 4, 5, 6, 7, 0] rfl
noncomputable def X8_brackets_L15 (x0 : Nat) (x1 : Nat) (x2 : Int32) (x3 : Nat) (x4 : Int32) (x5 : Nat) (x7 : Int32) (x6 : Int32) (x8 : Int32) : JM Mem ((Int32 ⊕ (Int32 × Int32)) ⊕ (Int32 × Int32)) :=
  if x4 ≤ x8 then
    jinl (X8_brackets_b61 x0 x1 x2 x3 x4 x5 x6 x7)
  else
  jb (jgetA 7 36 x0) fun v1 =>
  jb (jcall 7 x0 (f_X8_bracketOf x0 x1 (5 * x7) x3 (5 * x8) v1)) fun _ =>
  jb (jgetA 7 36 x0) fun v2 =>
  jb (jcall 7 x0 (f_X8_join x0 x5 x6 v2 0)) fun v3 =>
  jcont (v3, x8 + 1)
theorem j_X8_brackets_L15 (D : va_G) (dA : Nat → ClassId) (x0 : Nat) (x1 : Nat) (x2 : Int32) (x3 : Nat) (x4 : Int32) (x5 : Nat) (x7 : Int32) (x6 : Int32) (x8 : Int32) : J (PM D dA false) Y_X8_brackets [(0, .ref x0), (1, .ref x1), (2, .int x2), (3, .ref x3), (4, .int x4), (5, .ref x5), (6, .int x6), (7, .int x7), (8, .int x8)] [] 15 (X8_brackets_L15 x0 x1 x2 x3 x4 x5 x7 x6 x8) (FLoop (FLoop (FRet injI) 6 (fun (t : Int32 × Int32) => [(0, .ref x0), (1, .ref x1), (2, .int x2), (3, .ref x3), (4, .int x4), (5, .ref x5), (6, .int t.1), (7, .int t.2)])) 15 (fun (t : Int32 × Int32) => [(0, .ref x0), (1, .ref x1), (2, .int x2), (3, .ref x3), (4, .int x4), (5, .ref x5), (6, .int t.1), (7, .int x7), (8, .int t.2)])) := by
  unfold X8_brackets_L15
  refine J_iload dX8_brackets_15 8 rfl ?_
  refine J_iload dX8_brackets_17 4 rfl ?_
  refine J_icmp_ge (tgt := 61) dX8_brackets_19 rfl ?_ ?_
  · refine J_inl ?_
    refine J_sub [0, 1, 2, 3, 4, 5, 6, 7] rfl ?_
    exact j_X8_brackets_b61 D dA x0 x1 x2 x3 x4 x5 x6 x7
  refine J_aload_n dX8_brackets_22 rfl 0 rfl ?_
  refine J_aload_n dX8_brackets_23 rfl 1 rfl ?_
  refine J_iconst (v := 5) dX8_brackets_24 (by decide) ?_
  refine J_iload dX8_brackets_25 7 rfl ?_
  refine J_imul dX8_brackets_27 ?_
  refine J_aload_n dX8_brackets_28 rfl 3 rfl ?_
  refine J_iconst (v := 5) dX8_brackets_29 (by decide) ?_
  refine J_iload dX8_brackets_30 8 rfl ?_
  refine J_imul dX8_brackets_32 ?_
  refine J_aload_n dX8_brackets_33 rfl 0 rfl ?_
  refine J_getA dX8_brackets_34 fl_X8_71 rfl (fun v1 => ?_)
  refine J_callVV (c := 7) (as := [.ref x1, .int (5 * x7), .ref x3, .int (5 * x8), .ref v1]) dX8_brackets_37 (by decide) rfl (Nat.le_of_ble_eq_true rfl) (cw_X8_bracketOf _ (by decide)) q1911 q1913 qs97 q1914 np_X8_bracketOf (i_X8_bracketOf x0 x1 (5 * x7) x3 (5 * x8) v1) jad_id rfl ?_
  refine J_aload_n dX8_brackets_40 rfl 0 rfl ?_
  refine J_aload dX8_brackets_41 5 rfl ?_
  refine J_iload dX8_brackets_43 6 rfl ?_
  refine J_aload_n dX8_brackets_45 rfl 0 rfl ?_
  refine J_getA dX8_brackets_46 fl_X8_71 rfl (fun v2 => ?_)
  refine J_iconst (v := 0) dX8_brackets_49 (by decide) ?_
  refine J_callVI (c := 7) (as := [.ref x5, .int x6, .ref v2, .int 0]) dX8_brackets_50 (by decide) rfl (Nat.le_of_ble_eq_true rfl) (cw_X8_join _ (by decide)) q1984 q1986 qs109 q1987 np_X8_join (i_X8_join x0 x5 x6 v2 0) jad_id rfl (fun v3 => ?_)
  refine J_istore (env' := [(6, .int v3), (0, .ref x0), (1, .ref x1), (2, .int x2), (3, .ref x3), (4, .int x4), (5, .ref x5), (7, .int x7), (8, .int x8)]) dX8_brackets_53 (by decide) rfl ?_
  refine J_iinc (v := x8 + 1) (env' := [(8, .int (x8 + 1)), (6, .int v3), (0, .ref x0), (1, .ref x1), (2, .int x2), (3, .ref x3), (4, .int x4), (5, .ref x5), (7, .int x7)]) dX8_brackets_55 8 rfl rfl (by decide) rfl ?_
  refine J_goto (tgt := 15) dX8_brackets_58 rfl ?_
  exact J_cont [2, 3, 4, 5, 6, 7, 1, 8, 0] rfl
noncomputable def X8_brackets_L6 (x0 : Nat) (x1 : Nat) (x2 : Int32) (x3 : Nat) (x4 : Int32) (x5 : Nat) (x6 : Int32) (x7 : Int32) : JM Mem (Int32 ⊕ (Int32 × Int32)) :=
  if x2 ≤ x7 then
    jinl (jp x6)
  else
    jloop (fun (t : Int32 × Int32) => X8_brackets_L15 x0 x1 x2 x3 x4 x5 x7 t.1 t.2) (x6, 0)
theorem j_X8_brackets_L6 (D : va_G) (dA : Nat → ClassId) (x0 : Nat) (x1 : Nat) (x2 : Int32) (x3 : Nat) (x4 : Int32) (x5 : Nat) (x6 : Int32) (x7 : Int32) : J (PM D dA false) Y_X8_brackets [(0, .ref x0), (1, .ref x1), (2, .int x2), (3, .ref x3), (4, .int x4), (5, .ref x5), (6, .int x6), (7, .int x7)] [] 6 (X8_brackets_L6 x0 x1 x2 x3 x4 x5 x6 x7) (FLoop (FRet injI) 6 (fun (t : Int32 × Int32) => [(0, .ref x0), (1, .ref x1), (2, .int x2), (3, .ref x3), (4, .int x4), (5, .ref x5), (6, .int t.1), (7, .int t.2)])) := by
  unfold X8_brackets_L6
  refine J_iload dX8_brackets_6 7 rfl ?_
  refine J_iload_n dX8_brackets_8 rfl 2 rfl ?_
  refine J_icmp_ge (tgt := 67) dX8_brackets_9 rfl ?_ ?_
  · refine J_inl ?_
    refine J_iload dX8_brackets_67 6 rfl ?_
    exact J_ireturn dX8_brackets_69 rfl
  refine J_iconst (v := 0) dX8_brackets_12 (by decide) ?_
  refine J_istore (env' := [(8, .int 0), (0, .ref x0), (1, .ref x1), (2, .int x2), (3, .ref x3), (4, .int x4), (5, .ref x5), (6, .int x6), (7, .int x7)]) dX8_brackets_13 (by decide) rfl ?_
  refine J_loop (he := fun (t : Int32 × Int32) => [(0, .ref x0), (1, .ref x1), (2, .int x2), (3, .ref x3), (4, .int x4), (5, .ref x5), (6, .int t.1), (7, .int x7), (8, .int t.2)]) [1, 2, 3, 4, 5, 6, 7, 8, 0] rfl (fun t => ?_)
  exact j_X8_brackets_L15 D dA x0 x1 x2 x3 x4 x5 x7 t.1 t.2
noncomputable def f_X8_brackets (x0 : Nat) (x1 : Nat) (x2 : Int32) (x3 : Nat) (x4 : Int32) (x5 : Nat) : JM Mem Int32 :=
  jloop (fun (t : Int32 × Int32) => X8_brackets_L6 x0 x1 x2 x3 x4 x5 t.1 t.2) (0, 0)
theorem j_X8_brackets (D : va_G) (dA : Nat → ClassId) (x0 : Nat) (x1 : Nat) (x2 : Int32) (x3 : Nat) (x4 : Int32) (x5 : Nat) : J (PM D dA false) Y_X8_brackets [(0, .ref x0), (1, .ref x1), (2, .int x2), (3, .ref x3), (4, .int x4), (5, .ref x5)] [] 0 (f_X8_brackets x0 x1 x2 x3 x4 x5) (FRet injI) := by
  unfold f_X8_brackets
  refine J_iconst (v := 0) dX8_brackets_0 (by decide) ?_
  refine J_istore (env' := [(6, .int 0), (0, .ref x0), (1, .ref x1), (2, .int x2), (3, .ref x3), (4, .int x4), (5, .ref x5)]) dX8_brackets_1 (by decide) rfl ?_
  refine J_iconst (v := 0) dX8_brackets_3 (by decide) ?_
  refine J_istore (env' := [(7, .int 0), (6, .int 0), (0, .ref x0), (1, .ref x1), (2, .int x2), (3, .ref x3), (4, .int x4), (5, .ref x5)]) dX8_brackets_4 (by decide) rfl ?_
  refine J_loop (he := fun (t : Int32 × Int32) => [(0, .ref x0), (1, .ref x1), (2, .int x2), (3, .ref x3), (4, .int x4), (5, .ref x5), (6, .int t.1), (7, .int t.2)]) [2, 3, 4, 5, 6, 7, 1, 0] rfl (fun t => ?_)
  exact j_X8_brackets_L6 D dA x0 x1 x2 x3 x4 x5 t.1 t.2
theorem i_X8_brackets (x0 : Nat) (x1 : Nat) (x2 : Int32) (x3 : Nat) (x4 : Int32) (x5 : Nat) : Impl (ws_ yX8_brackets cX8_brackets 9 (some .int)) yX8_brackets 4 false 0 0 [.ref x0, .ref x1, .int x2, .ref x3, .int x4, .ref x5] (f_X8_brackets x0 x1 x2 x3 x4 x5) injI := impl_of (plainFor_of_name (by decide)) (Nat.le_of_ble_eq_true rfl) (fun D dA => j_X8_brackets D dA x0 x1 x2 x3 x4 x5)
theorem cw_X8_brackets (Y : JY) (h : 5 ≤ Y.2.2.2.1) : JCw Y (ws_ yX8_brackets cX8_brackets 9 (some .int)) yX8_brackets cX8_brackets 9 (some .int) 4 := ⟨h, by decide, lw_meth q2016, q198, by decide, by decide⟩
theorem np_X8_brackets : JNp yX8_brackets.desc 5 := by decide +kernel
-- BracketRoomModel.seriesOf(IZ)I
abbrev Y_X8_seriesOf : JY := (cX8_seriesOf, yX8_seriesOf.cls, 6, 5, yX8_seriesOf.name, (some .int), [])
noncomputable def X8_seriesOf_b52 (x0 : Nat) (x1 : Int32) (x2 : Int32) (x3 : Int32) (x4 : Int32) (x5 : Int32) : JM Mem (Int32 ⊕ (Int32 × Int32)) :=
  jb (jgetA 7 28 x0) fun v3 =>
  jb (jgetA 7 32 x0) fun v4 =>
  jb (jgetA 7 29 x0) fun v5 =>
  jb (jcall 7 x0 (f_X8_brackets x0 v3 x3 v4 x5 v5)) fun v6 =>
  jb (jgetA 7 29 x0) fun v7 =>
  jb (jgetA 7 28 x0) fun v8 =>
  jb (jcall 7 x0 (f_X8_copySpan x0 v7 v8)) fun _ =>
  jcont (v6, x4 + 1)
theorem j_X8_seriesOf_b52 (D : va_G) (dA : Nat → ClassId) (x0 : Nat) (x1 : Int32) (x2 : Int32) (x3 : Int32) (x4 : Int32) (x5 : Int32) : J (PM D dA false) Y_X8_seriesOf [(0, .ref x0), (1, .int x1), (2, .int x2), (3, .int x3), (4, .int x4), (5, .int x5)] [] 52 (X8_seriesOf_b52 x0 x1 x2 x3 x4 x5) (FLoop (FRet injI) 12 (fun (t : Int32 × Int32) => [(0, .ref x0), (1, .int x1), (2, .int x2), (3, .int t.1), (4, .int t.2)])) := by
  unfold X8_seriesOf_b52
  refine J_aload_n dX8_seriesOf_52 rfl 0 rfl ?_
  refine J_aload_n dX8_seriesOf_53 rfl 0 rfl ?_
  refine J_getA dX8_seriesOf_54 fl_X8_47 rfl (fun v3 => ?_)
  refine J_iload_n dX8_seriesOf_57 rfl 3 rfl ?_
  refine J_aload_n dX8_seriesOf_58 rfl 0 rfl ?_
  refine J_getA dX8_seriesOf_59 fl_X8_59 rfl (fun v4 => ?_)
  refine J_iload dX8_seriesOf_62 5 rfl ?_
  refine J_aload_n dX8_seriesOf_64 rfl 0 rfl ?_
  refine J_getA dX8_seriesOf_65 fl_X8_50 rfl (fun v5 => ?_)
  refine J_callVI (c := 7) (as := [.ref v3, .int x3, .ref v4, .int x5, .ref v5]) dX8_seriesOf_68 (by decide) rfl (Nat.le_of_ble_eq_true rfl) (cw_X8_brackets _ (by decide)) q2013 q2015 qs115 q2016 np_X8_brackets (i_X8_brackets x0 v3 x3 v4 x5 v5) jad_id rfl (fun v6 => ?_)
  refine J_istore_n (env' := [(3, .int v6), (0, .ref x0), (1, .int x1), (2, .int x2), (4, .int x4), (5, .int x5)]) dX8_seriesOf_71 rfl (by decide) rfl ?_
  refine J_aload_n dX8_seriesOf_72 rfl 1 rfl ?_
  refine J_aload_n dX8_seriesOf_73 rfl 1 rfl ?_
  refine J_getA dX8_seriesOf_74 fl_X8_50 rfl (fun v7 => ?_)
  refine J_aload_n dX8_seriesOf_77 rfl 1 rfl ?_
  refine J_getA dX8_seriesOf_78 fl_X8_47 rfl (fun v8 => ?_)
  refine J_callVV (c := 7) (as := [.ref v7, .ref v8]) dX8_seriesOf_81 (by decide) rfl (Nat.le_of_ble_eq_true rfl) (cw_X8_copySpan _ (by decide)) q1996 q1998 qs112 q1999 np_X8_copySpan (i_X8_copySpan x0 v7 v8) jad_id rfl ?_
  refine J_iinc (v := x4 + 1) (env' := [(4, .int (x4 + 1)), (3, .int v6), (0, .ref x0), (1, .int x1), (2, .int x2), (5, .int x5)]) dX8_seriesOf_84 4 rfl rfl (by decide) rfl ?_
  refine J_goto (tgt := 12) dX8_seriesOf_87 rfl ?_
  exact J_cont [2, 3, 4, 1, 0] rfl
noncomputable def X8_seriesOf_b34 (x0 : Nat) (x1 : Int32) (x2 : Int32) (x3 : Int32) (x4 : Int32) (s0 : Int32) : JM Mem (Int32 ⊕ (Int32 × Int32)) :=
  if x2 = 0 then
    jb (jgetA 7 28 x0) fun v9 =>
    jb (jgetA 7 32 x0) fun v10 =>
    jb (jcall 7 x0 (f_X8_copySpan x0 v9 v10)) fun _ =>
    X8_seriesOf_b52 x0 x1 x2 x3 x4 s0
  else
    X8_seriesOf_b52 x0 x1 x2 x3 x4 s0
theorem j_X8_seriesOf_b34 (D : va_G) (dA : Nat → ClassId) (x0 : Nat) (x1 : Int32) (x2 : Int32) (x3 : Int32) (x4 : Int32) (s0 : Int32) : J (PM D dA false) Y_X8_seriesOf [(0, .ref x0), (1, .int x1), (2, .int x2), (3, .int x3), (4, .int x4)] [.int s0] 34 (X8_seriesOf_b34 x0 x1 x2 x3 x4 s0) (FLoop (FRet injI) 12 (fun (t : Int32 × Int32) => [(0, .ref x0), (1, .int x1), (2, .int x2), (3, .int t.1), (4, .int t.2)])) := by
  unfold X8_seriesOf_b34
  refine J_istore (env' := [(5, .int s0), (0, .ref x0), (1, .int x1), (2, .int x2), (3, .int x3), (4, .int x4)]) dX8_seriesOf_34 (by decide) rfl ?_
  refine J_iload_n dX8_seriesOf_36 rfl 3 rfl ?_
  refine J_if_ne (tgt := 52) dX8_seriesOf_37 rfl ?_ ?_
  · refine J_sub [1, 2, 3, 4, 5, 0] rfl ?_
    exact j_X8_seriesOf_b52 D dA x0 x1 x2 x3 x4 s0
  refine J_aload_n dX8_seriesOf_40 rfl 1 rfl ?_
  refine J_aload_n dX8_seriesOf_41 rfl 1 rfl ?_
  refine J_getA dX8_seriesOf_42 fl_X8_47 rfl (fun v9 => ?_)
  refine J_aload_n dX8_seriesOf_45 rfl 1 rfl ?_
  refine J_getA dX8_seriesOf_46 fl_X8_59 rfl (fun v10 => ?_)
  refine J_callVV (c := 7) (as := [.ref v9, .ref v10]) dX8_seriesOf_49 (by decide) rfl (Nat.le_of_ble_eq_true rfl) (cw_X8_copySpan _ (by decide)) q1996 q1998 qs112 q1999 np_X8_copySpan (i_X8_copySpan x0 v9 v10) jad_id rfl ?_
  refine J_sub [1, 2, 3, 4, 5, 0] rfl ?_
  exact j_X8_seriesOf_b52 D dA x0 x1 x2 x3 x4 s0
noncomputable def X8_seriesOf_L12 (x0 : Nat) (x1 : Int32) (x2 : Int32) (x3 : Int32) (x4 : Int32) : JM Mem (Int32 ⊕ (Int32 × Int32)) :=
  if x1 ≤ x4 then
    jinl (jp x3)
  else
  if x2 = 0 then
    X8_seriesOf_b34 x0 x1 x2 x3 x4 x3
  else
  jb (jgetA 7 32 x0) fun v11 =>
  jb (jcall 7 x0 (f_X8_wholeSpan x0 v11)) fun v12 =>
  X8_seriesOf_b34 x0 x1 x2 x3 x4 v12
theorem j_X8_seriesOf_L12 (D : va_G) (dA : Nat → ClassId) (x0 : Nat) (x1 : Int32) (x2 : Int32) (x3 : Int32) (x4 : Int32) : J (PM D dA false) Y_X8_seriesOf [(0, .ref x0), (1, .int x1), (2, .int x2), (3, .int x3), (4, .int x4)] [] 12 (X8_seriesOf_L12 x0 x1 x2 x3 x4) (FLoop (FRet injI) 12 (fun (t : Int32 × Int32) => [(0, .ref x0), (1, .int x1), (2, .int x2), (3, .int t.1), (4, .int t.2)])) := by
  unfold X8_seriesOf_L12
  refine J_iload dX8_seriesOf_12 4 rfl ?_
  refine J_iload_n dX8_seriesOf_14 rfl 1 rfl ?_
  refine J_icmp_ge (tgt := 90) dX8_seriesOf_15 rfl ?_ ?_
  · refine J_inl ?_
    refine J_iload_n dX8_seriesOf_90 rfl 3 rfl ?_
    exact J_ireturn dX8_seriesOf_91 rfl
  refine J_iload_n dX8_seriesOf_18 rfl 2 rfl ?_
  refine J_if_eq (tgt := 33) dX8_seriesOf_19 rfl ?_ ?_
  · refine J_iload_n dX8_seriesOf_33 rfl 3 rfl ?_
    refine J_sub [0, 1, 2, 3, 4] rfl ?_
    exact j_X8_seriesOf_b34 D dA x0 x1 x2 x3 x4 x3
  refine J_aload_n dX8_seriesOf_22 rfl 0 rfl ?_
  refine J_aload_n dX8_seriesOf_23 rfl 0 rfl ?_
  refine J_getA dX8_seriesOf_24 fl_X8_59 rfl (fun v11 => ?_)
  refine J_callVI (c := 7) (as := [.ref v11]) dX8_seriesOf_27 (by decide) rfl (Nat.le_of_ble_eq_true rfl) (cw_X8_wholeSpan _ (by decide)) q2000 q2002 qs113 q2003 np_X8_wholeSpan (i_X8_wholeSpan x0 v11) jad_id rfl (fun v12 => ?_)
  refine J_goto (tgt := 34) dX8_seriesOf_30 rfl ?_
  refine J_sub [0, 1, 2, 3, 4] rfl ?_
  exact j_X8_seriesOf_b34 D dA x0 x1 x2 x3 x4 v12
noncomputable def f_X8_seriesOf (x0 : Nat) (x1 : Int32) (x2 : Int32) : JM Mem Int32 :=
  jb (jgetA 7 28 x0) fun v1 =>
  jb (jcall 7 x0 (f_X8_wholeSpan x0 v1)) fun v2 =>
  jloop (fun (t : Int32 × Int32) => X8_seriesOf_L12 x0 x1 x2 t.1 t.2) (v2, 0)
theorem j_X8_seriesOf (D : va_G) (dA : Nat → ClassId) (x0 : Nat) (x1 : Int32) (x2 : Int32) : J (PM D dA false) Y_X8_seriesOf [(0, .ref x0), (1, .int x1), (2, .int x2)] [] 0 (f_X8_seriesOf x0 x1 x2) (FRet injI) := by
  unfold f_X8_seriesOf
  refine J_aload_n dX8_seriesOf_0 rfl 0 rfl ?_
  refine J_aload_n dX8_seriesOf_1 rfl 0 rfl ?_
  refine J_getA dX8_seriesOf_2 fl_X8_47 rfl (fun v1 => ?_)
  refine J_callVI (c := 7) (as := [.ref v1]) dX8_seriesOf_5 (by decide) rfl (Nat.le_of_ble_eq_true rfl) (cw_X8_wholeSpan _ (by decide)) q2000 q2002 qs113 q2003 np_X8_wholeSpan (i_X8_wholeSpan x0 v1) jad_id rfl (fun v2 => ?_)
  refine J_istore_n (env' := [(3, .int v2), (0, .ref x0), (1, .int x1), (2, .int x2)]) dX8_seriesOf_8 rfl (by decide) rfl ?_
  refine J_iconst (v := 0) dX8_seriesOf_9 (by decide) ?_
  refine J_istore (env' := [(4, .int 0), (3, .int v2), (0, .ref x0), (1, .int x1), (2, .int x2)]) dX8_seriesOf_10 (by decide) rfl ?_
  refine J_loop (he := fun (t : Int32 × Int32) => [(0, .ref x0), (1, .int x1), (2, .int x2), (3, .int t.1), (4, .int t.2)]) [2, 3, 4, 1, 0] rfl (fun t => ?_)
  exact j_X8_seriesOf_L12 D dA x0 x1 x2 t.1 t.2
theorem i_X8_seriesOf (x0 : Nat) (x1 : Int32) (x2 : Int32) : Impl (ws_ yX8_seriesOf cX8_seriesOf 6 (some .int)) yX8_seriesOf 5 false 0 0 [.ref x0, .int x1, .int x2] (f_X8_seriesOf x0 x1 x2) injI := impl_of (plainFor_of_name (by decide)) (Nat.le_of_ble_eq_true rfl) (fun D dA => j_X8_seriesOf D dA x0 x1 x2)
theorem cw_X8_seriesOf (Y : JY) (h : 6 ≤ Y.2.2.2.1) : JCw Y (ws_ yX8_seriesOf cX8_seriesOf 6 (some .int)) yX8_seriesOf cX8_seriesOf 6 (some .int) 5 := ⟨h, by decide, lw_meth q2012, q198, by decide, by decide⟩
theorem np_X8_seriesOf : JNp yX8_seriesOf.desc 2 := by decide +kernel
-- BracketRoomModel.derived(I)I
abbrev Y_X8_derived : JY := (cX8_derived, yX8_derived.cls, 2, 6, yX8_derived.name, (some .int), [])
noncomputable def f_X8_derived (x0 : Nat) (x1 : Int32) : JM Mem Int32 :=
  jb (jputI 7 1 x0 0) fun _ =>
  jb (jputI 7 0 x0 0) fun _ =>
  jb (jcall 7 x0 (f_X8_askNow x0)) fun _ =>
  jb ((f_X8_isIn ((x1 : Int32).toInt64) 0 9)) fun v1 =>
  if v1 = 0 then
    jb (jcall 7 x0 (f_X8_refuse x0 5)) fun v2 =>
    jp v2
  else
  jb (jcall 7 x0 (f_X8_seriesOf x0 x1 0)) fun v3 =>
  jp v3
theorem j_X8_derived (D : va_G) (dA : Nat → ClassId) (x0 : Nat) (x1 : Int32) : J (PM D dA false) Y_X8_derived [(0, .ref x0), (1, .int x1)] [] 0 (f_X8_derived x0 x1) (FRet injI) := by
  unfold f_X8_derived
  refine J_aload_n dX8_derived_0 rfl 0 rfl ?_
  refine J_iconst (v := 0) dX8_derived_1 (by decide) ?_
  refine J_putI dX8_derived_2 ⟨fl_X8_132, Or.inl rfl⟩ rfl ?_
  refine J_aload_n dX8_derived_5 rfl 0 rfl ?_
  refine J_iconst (v := 0) dX8_derived_6 (by decide) ?_
  refine J_putI dX8_derived_7 ⟨fl_X8_135, Or.inl rfl⟩ rfl ?_
  refine J_aload_n dX8_derived_10 rfl 0 rfl ?_
  refine J_callVV (c := 7) (as := []) dX8_derived_11 (by decide) rfl (Nat.le_of_ble_eq_true rfl) (cw_X8_askNow _ (by decide)) q1862 q1864 qs88 q1865 np_X8_askNow (i_X8_askNow x0) jad_id rfl ?_
  refine J_iload_n dX8_derived_14 rfl 1 rfl ?_
  refine J_i2l dX8_derived_15 ?_
  refine J_lconst (v := 0) dX8_derived_16 (by decide) ?_
  refine J_ldc2 dX8_derived_17 q2008 ?_
  refine J_callSI (host := "") (as := [.long ((x1 : Int32).toInt64), .long 0, .long 9]) dX8_derived_20 rfl (Nat.le_of_ble_eq_true rfl) (cw_X8_isIn _ (by decide)) q1801 q1802 q1803 np_X8_isIn (i_X8_isIn ((x1 : Int32).toInt64) 0 9) jad_id rfl (fun v1 => ?_)
  refine J_if_eq (tgt := 35) dX8_derived_23 rfl ?_ ?_
  · refine J_aload_n dX8_derived_35 rfl 0 rfl ?_
    refine J_iconst (v := 5) dX8_derived_36 (by decide) ?_
    refine J_callVI (c := 7) (as := [.int 5]) dX8_derived_37 (by decide) rfl (Nat.le_of_ble_eq_true rfl) (cw_X8_refuse _ (by decide)) q1871 q1873 qs90 q1874 np_X8_refuse (i_X8_refuse x0 5) jad_id rfl (fun v2 => ?_)
    exact J_ireturn dX8_derived_40 rfl
  refine J_aload_n dX8_derived_26 rfl 0 rfl ?_
  refine J_iload_n dX8_derived_27 rfl 1 rfl ?_
  refine J_iconst (v := 0) dX8_derived_28 (by decide) ?_
  refine J_callVI (c := 7) (as := [.int x1, .int 0]) dX8_derived_29 (by decide) rfl (Nat.le_of_ble_eq_true rfl) (cw_X8_seriesOf _ (by decide)) q2009 q2011 qs114 q2012 np_X8_seriesOf (i_X8_seriesOf x0 x1 0) jad_id rfl (fun v3 => ?_)
  refine J_goto (tgt := 40) dX8_derived_32 rfl ?_
  exact J_ireturn dX8_derived_40 rfl
theorem i_X8_derived (x0 : Nat) (x1 : Int32) : Impl (ws_ yX8_derived cX8_derived 2 (some .int)) yX8_derived 6 false 0 0 [.ref x0, .int x1] (f_X8_derived x0 x1) injI := impl_of (plainFor_of_name (by decide)) (Nat.le_of_ble_eq_true rfl) (fun D dA => j_X8_derived D dA x0 x1)
theorem cw_X8_derived (Y : JY) (h : 7 ≤ Y.2.2.2.1) : JCw Y (ws_ yX8_derived cX8_derived 2 (some .int)) yX8_derived cX8_derived 2 (some .int) 6 := ⟨h, by decide, lw_meth q2007, q198, by decide, by decide⟩
theorem np_X8_derived : JNp yX8_derived.desc 1 := by decide +kernel
-- BracketRoomModel.lower(I)I
abbrev Y_X8_lower : JY := (cX8_lower, yX8_lower.cls, 2, 6, yX8_lower.name, (some .int), [])
noncomputable def f_X8_lower (x0 : Nat) (x1 : Int32) : JM Mem Int32 :=
  jb (jputI 7 1 x0 0) fun _ =>
  jb (jputI 7 0 x0 0) fun _ =>
  jb (jcall 7 x0 (f_X8_askNow x0)) fun _ =>
  jb ((f_X8_isIn ((x1 : Int32).toInt64) 0 9)) fun v1 =>
  if v1 = 0 then
    jb (jcall 7 x0 (f_X8_refuse x0 5)) fun v2 =>
    jp v2
  else
  jb (jcall 7 x0 (f_X8_seriesOf x0 x1 1)) fun v3 =>
  jp v3
theorem j_X8_lower (D : va_G) (dA : Nat → ClassId) (x0 : Nat) (x1 : Int32) : J (PM D dA false) Y_X8_lower [(0, .ref x0), (1, .int x1)] [] 0 (f_X8_lower x0 x1) (FRet injI) := by
  unfold f_X8_lower
  refine J_aload_n dX8_lower_0 rfl 0 rfl ?_
  refine J_iconst (v := 0) dX8_lower_1 (by decide) ?_
  refine J_putI dX8_lower_2 ⟨fl_X8_132, Or.inl rfl⟩ rfl ?_
  refine J_aload_n dX8_lower_5 rfl 0 rfl ?_
  refine J_iconst (v := 0) dX8_lower_6 (by decide) ?_
  refine J_putI dX8_lower_7 ⟨fl_X8_135, Or.inl rfl⟩ rfl ?_
  refine J_aload_n dX8_lower_10 rfl 0 rfl ?_
  refine J_callVV (c := 7) (as := []) dX8_lower_11 (by decide) rfl (Nat.le_of_ble_eq_true rfl) (cw_X8_askNow _ (by decide)) q1862 q1864 qs88 q1865 np_X8_askNow (i_X8_askNow x0) jad_id rfl ?_
  refine J_iload_n dX8_lower_14 rfl 1 rfl ?_
  refine J_i2l dX8_lower_15 ?_
  refine J_lconst (v := 0) dX8_lower_16 (by decide) ?_
  refine J_ldc2 dX8_lower_17 q2008 ?_
  refine J_callSI (host := "") (as := [.long ((x1 : Int32).toInt64), .long 0, .long 9]) dX8_lower_20 rfl (Nat.le_of_ble_eq_true rfl) (cw_X8_isIn _ (by decide)) q1801 q1802 q1803 np_X8_isIn (i_X8_isIn ((x1 : Int32).toInt64) 0 9) jad_id rfl (fun v1 => ?_)
  refine J_if_eq (tgt := 35) dX8_lower_23 rfl ?_ ?_
  · refine J_aload_n dX8_lower_35 rfl 0 rfl ?_
    refine J_iconst (v := 5) dX8_lower_36 (by decide) ?_
    refine J_callVI (c := 7) (as := [.int 5]) dX8_lower_37 (by decide) rfl (Nat.le_of_ble_eq_true rfl) (cw_X8_refuse _ (by decide)) q1871 q1873 qs90 q1874 np_X8_refuse (i_X8_refuse x0 5) jad_id rfl (fun v2 => ?_)
    exact J_ireturn dX8_lower_40 rfl
  refine J_aload_n dX8_lower_26 rfl 0 rfl ?_
  refine J_iload_n dX8_lower_27 rfl 1 rfl ?_
  refine J_iconst (v := 1) dX8_lower_28 (by decide) ?_
  refine J_callVI (c := 7) (as := [.int x1, .int 1]) dX8_lower_29 (by decide) rfl (Nat.le_of_ble_eq_true rfl) (cw_X8_seriesOf _ (by decide)) q2009 q2011 qs114 q2012 np_X8_seriesOf (i_X8_seriesOf x0 x1 1) jad_id rfl (fun v3 => ?_)
  refine J_goto (tgt := 40) dX8_lower_32 rfl ?_
  exact J_ireturn dX8_lower_40 rfl
theorem i_X8_lower (x0 : Nat) (x1 : Int32) : Impl (ws_ yX8_lower cX8_lower 2 (some .int)) yX8_lower 6 false 0 0 [.ref x0, .int x1] (f_X8_lower x0 x1) injI := impl_of (plainFor_of_name (by decide)) (Nat.le_of_ble_eq_true rfl) (fun D dA => j_X8_lower D dA x0 x1)
theorem cw_X8_lower (Y : JY) (h : 7 ≤ Y.2.2.2.1) : JCw Y (ws_ yX8_lower cX8_lower 2 (some .int)) yX8_lower cX8_lower 2 (some .int) 6 := ⟨h, by decide, lw_meth q2020, q198, by decide, by decide⟩
theorem np_X8_lower : JNp yX8_lower.desc 1 := by decide +kernel
-- BracketRoomModel.noRows()V
abbrev Y_X8_noRows : JY := (cX8_noRows, yX8_noRows.cls, 1, 1, yX8_noRows.name, none, [])
noncomputable def f_X8_noRows (x0 : Nat) : JM Mem Unit :=
  jb (jputI 7 39 x0 0) fun _ =>
  jp ()
theorem j_X8_noRows (D : va_G) (dA : Nat → ClassId) (x0 : Nat) : J (PM D dA false) Y_X8_noRows [(0, .ref x0)] [] 0 (f_X8_noRows x0) (FRet injU) := by
  unfold f_X8_noRows
  refine J_aload_n dX8_noRows_0 rfl 0 rfl ?_
  refine J_iconst (v := 0) dX8_noRows_1 (by decide) ?_
  refine J_putI dX8_noRows_2 ⟨fl_X8_423, Or.inl rfl⟩ rfl ?_
  exact J_return dX8_noRows_5 rfl
theorem i_X8_noRows (x0 : Nat) : Impl (ws_ yX8_noRows cX8_noRows 1 none) yX8_noRows 1 false 0 0 [.ref x0] (f_X8_noRows x0) injU := impl_of (plainFor_of_name (by decide)) (Nat.le_of_ble_eq_true rfl) (fun D dA => j_X8_noRows D dA x0)
theorem cw_X8_noRows (Y : JY) (h : 2 ≤ Y.2.2.2.1) : JCw Y (ws_ yX8_noRows cX8_noRows 1 none) yX8_noRows cX8_noRows 1 none 1 := ⟨h, by decide, lw_meth q2032, q198, by decide, by decide⟩
theorem np_X8_noRows : JNp yX8_noRows.desc 0 := by decide +kernel
-- BracketRoomModel.leadOfRow([III)I
abbrev Y_X8_leadOfRow : JY := (cX8_leadOfRow, yX8_leadOfRow.cls, 5, 1, yX8_leadOfRow.name, (some .int), [])
noncomputable def X8_leadOfRow_L3 (x1 : Nat) (x2 : Int32) (x3 : Int32) (x4 : Int32) : JM Mem (Int32 ⊕ (Int32)) :=
  if x3 ≤ x4 then
    jinl (jp (-1))
  else
  jb (jald mI 0 x1 (x2 + x4)) fun v1 =>
  if v1 = 0 then
    jcont (x4 + 1)
  else
    jinl (jp x4)
theorem j_X8_leadOfRow_L3 (D : va_G) (dA : Nat → ClassId) (x1 : Nat) (x2 : Int32) (x3 : Int32) (x4 : Int32) : J (PM D dA false) Y_X8_leadOfRow [(1, .ref x1), (2, .int x2), (3, .int x3), (4, .int x4)] [] 3 (X8_leadOfRow_L3 x1 x2 x3 x4) (FLoop (FRet injI) 3 (fun (t : Int32) => [(1, .ref x1), (2, .int x2), (3, .int x3), (4, .int t)])) := by
  unfold X8_leadOfRow_L3
  refine J_iload dX8_leadOfRow_3 3 rfl ?_
  refine J_iload_n dX8_leadOfRow_5 rfl 2 rfl ?_
  refine J_icmp_ge (tgt := 27) dX8_leadOfRow_6 rfl ?_ ?_
  · refine J_inl ?_
    refine J_iconst (v := (-1)) dX8_leadOfRow_27 (by decide) ?_
    exact J_ireturn dX8_leadOfRow_28 rfl
  refine J_aload_n dX8_leadOfRow_9 rfl 0 rfl ?_
  refine J_iload_n dX8_leadOfRow_10 rfl 1 rfl ?_
  refine J_iload dX8_leadOfRow_11 3 rfl ?_
  refine J_iadd dX8_leadOfRow_13 ?_
  refine J_iald dX8_leadOfRow_14 (fun v1 => ?_)
  refine J_if_eq (tgt := 21) dX8_leadOfRow_15 rfl ?_ ?_
  · refine J_iinc (v := x4 + 1) (env' := [(4, .int (x4 + 1)), (1, .ref x1), (2, .int x2), (3, .int x3)]) dX8_leadOfRow_21 3 rfl rfl (by decide) rfl ?_
    refine J_goto (tgt := 3) dX8_leadOfRow_24 rfl ?_
    exact J_cont [1, 2, 3, 0] rfl
  refine J_inl ?_
  refine J_iload dX8_leadOfRow_18 3 rfl ?_
  exact J_ireturn dX8_leadOfRow_20 rfl
noncomputable def f_X8_leadOfRow (x0 : Nat) (x1 : Nat) (x2 : Int32) (x3 : Int32) : JM Mem Int32 :=
  jloop (fun (t : Int32) => X8_leadOfRow_L3 x1 x2 x3 t) 0
theorem j_X8_leadOfRow (D : va_G) (dA : Nat → ClassId) (x0 : Nat) (x1 : Nat) (x2 : Int32) (x3 : Int32) : J (PM D dA false) Y_X8_leadOfRow [(0, .ref x0), (1, .ref x1), (2, .int x2), (3, .int x3)] [] 0 (f_X8_leadOfRow x0 x1 x2 x3) (FRet injI) := by
  unfold f_X8_leadOfRow
  refine J_iconst (v := 0) dX8_leadOfRow_0 (by decide) ?_
  refine J_istore (env' := [(4, .int 0), (0, .ref x0), (1, .ref x1), (2, .int x2), (3, .int x3)]) dX8_leadOfRow_1 (by decide) rfl ?_
  refine J_loop (he := fun (t : Int32) => [(1, .ref x1), (2, .int x2), (3, .int x3), (4, .int t)]) [2, 3, 4, 0] rfl (fun t => ?_)
  exact j_X8_leadOfRow_L3 D dA x1 x2 x3 t
theorem i_X8_leadOfRow (x0 : Nat) (x1 : Nat) (x2 : Int32) (x3 : Int32) : Impl (ws_ yX8_leadOfRow cX8_leadOfRow 5 (some .int)) yX8_leadOfRow 1 false 0 0 [.ref x0, .ref x1, .int x2, .int x3] (f_X8_leadOfRow x0 x1 x2 x3) injI := impl_of (plainFor_of_name (by decide)) (Nat.le_of_ble_eq_true rfl) (fun D dA => j_X8_leadOfRow D dA x0 x1 x2 x3)
theorem cw_X8_leadOfRow (Y : JY) (h : 2 ≤ Y.2.2.2.1) : JCw Y (ws_ yX8_leadOfRow cX8_leadOfRow 5 (some .int)) yX8_leadOfRow cX8_leadOfRow 5 (some .int) 1 := ⟨h, by decide, lw_meth q2040, q198, by decide, by decide⟩
theorem np_X8_leadOfRow : JNp yX8_leadOfRow.desc 3 := by decide +kernel
-- BracketRoomModel.addEquation(I)V
abbrev Y_X8_addEquation : JY := (cX8_addEquation, yX8_addEquation.cls, 7, 2, yX8_addEquation.name, none, [])
noncomputable def X8_addEquation_b265 (x0 : Nat) : JM Mem Unit :=
  jb (jgetI 7 39 x0) fun v8 =>
  jb (jputI 7 39 x0 (v8 + 1)) fun _ =>
  jp ()
theorem j_X8_addEquation_b265 (D : va_G) (dA : Nat → ClassId) (x0 : Nat) : J (PM D dA false) Y_X8_addEquation [(0, .ref x0)] [] 265 (X8_addEquation_b265 x0) (FRet injU) := by
  unfold X8_addEquation_b265
  refine J_aload_n dX8_addEquation_265 rfl 0 rfl ?_
  refine J_dup dX8_addEquation_266 rfl ?_
  refine J_getI dX8_addEquation_267 fl_X8_423 rfl (fun v8 => ?_)
  refine J_iconst (v := 1) dX8_addEquation_270 (by decide) ?_
  refine J_iadd dX8_addEquation_271 ?_
  refine J_putI dX8_addEquation_272 ⟨fl_X8_423, Or.inl rfl⟩ rfl ?_
  exact J_return dX8_addEquation_275 rfl
noncomputable def X8_addEquation_b259 (x0 : Nat) (x1 : Int32) (x2 : Int32) (x4 : Int32) : JM Mem (Unit ⊕ (Int32)) :=
  jcont (x4 + 1)
theorem j_X8_addEquation_b259 (D : va_G) (dA : Nat → ClassId) (x0 : Nat) (x1 : Int32) (x2 : Int32) (x4 : Int32) : J (PM D dA false) Y_X8_addEquation [(0, .ref x0), (1, .int x1), (2, .int x2), (4, .int x4)] [] 259 (X8_addEquation_b259 x0 x1 x2 x4) (FLoop (FRet injU) 164 (fun (t : Int32) => [(0, .ref x0), (1, .int x1), (2, .int x2), (4, .int t)])) := by
  unfold X8_addEquation_b259
  refine J_iinc (v := x4 + 1) (env' := [(4, .int (x4 + 1)), (0, .ref x0), (1, .int x1), (2, .int x2)]) dX8_addEquation_259 3 rfl rfl (by decide) rfl ?_
  refine J_goto (tgt := 164) dX8_addEquation_262 rfl ?_
  exact J_cont [1, 2, 3, 0] rfl
noncomputable def X8_addEquation_L190 (x0 : Nat) (x1 : Int32) (x2 : Int32) (x4 : Int32) (x5 : Int32) (x6 : Int32) : JM Mem ((Unit ⊕ (Int32)) ⊕ (Int32)) :=
  if x1 ≤ x6 then
    jinl (X8_addEquation_b259 x0 x1 x2 x4)
  else
  if x5 = 0 then
    jinl (X8_addEquation_b259 x0 x1 x2 x4)
  else
  jb (jgetA 7 37 x0) fun v11 =>
  jb (jgetA 7 37 x0) fun v12 =>
  jb (jald mI 0 v12 ((30 * x4) + x6)) fun v13 =>
  jb (jgetA 7 37 x0) fun v14 =>
  jb (jgetI 7 39 x0) fun v15 =>
  jb (jald mI 0 v14 ((30 * v15) + x6)) fun v16 =>
  jb (jgetI 7 26 x0) fun v17 =>
  jb ((f_X8_left (v13 - (x5 * v16)) v17)) fun v18 =>
  jb (jast_i v11 ((30 * x4) + x6) v18) fun _ =>
  jcont (x6 + 1)
theorem j_X8_addEquation_L190 (D : va_G) (dA : Nat → ClassId) (x0 : Nat) (x1 : Int32) (x2 : Int32) (x4 : Int32) (x5 : Int32) (x6 : Int32) : J (PM D dA false) Y_X8_addEquation [(0, .ref x0), (1, .int x1), (2, .int x2), (4, .int x4), (5, .int x5), (6, .int x6)] [] 190 (X8_addEquation_L190 x0 x1 x2 x4 x5 x6) (FLoop (FLoop (FRet injU) 164 (fun (t : Int32) => [(0, .ref x0), (1, .int x1), (2, .int x2), (4, .int t)])) 190 (fun (t : Int32) => [(0, .ref x0), (1, .int x1), (2, .int x2), (4, .int x4), (5, .int x5), (6, .int t)])) := by
  unfold X8_addEquation_L190
  refine J_iload dX8_addEquation_190 5 rfl ?_
  refine J_iload_n dX8_addEquation_192 rfl 1 rfl ?_
  refine J_icmp_ge (tgt := 259) dX8_addEquation_193 rfl ?_ ?_
  · refine J_inl ?_
    refine J_sub [0, 1, 2, 3] rfl ?_
    exact j_X8_addEquation_b259 D dA x0 x1 x2 x4
  refine J_iload dX8_addEquation_196 4 rfl ?_
  refine J_if_eq (tgt := 259) dX8_addEquation_198 rfl ?_ ?_
  · refine J_inl ?_
    refine J_sub [0, 1, 2, 3] rfl ?_
    exact j_X8_addEquation_b259 D dA x0 x1 x2 x4
  refine J_aload_n dX8_addEquation_201 rfl 0 rfl ?_
  refine J_getA dX8_addEquation_202 fl_X8_74 rfl (fun v11 => ?_)
  refine J_bipush (v := 30) dX8_addEquation_205 (by decide) ?_
  refine J_iload dX8_addEquation_207 3 rfl ?_
  refine J_imul dX8_addEquation_209 ?_
  refine J_iload dX8_addEquation_210 5 rfl ?_
  refine J_iadd dX8_addEquation_212 ?_
  refine J_aload_n dX8_addEquation_213 rfl 0 rfl ?_
  refine J_getA dX8_addEquation_214 fl_X8_74 rfl (fun v12 => ?_)
  refine J_bipush (v := 30) dX8_addEquation_217 (by decide) ?_
  refine J_iload dX8_addEquation_219 3 rfl ?_
  refine J_imul dX8_addEquation_221 ?_
  refine J_iload dX8_addEquation_222 5 rfl ?_
  refine J_iadd dX8_addEquation_224 ?_
  refine J_iald dX8_addEquation_225 (fun v13 => ?_)
  refine J_iload dX8_addEquation_226 4 rfl ?_
  refine J_aload_n dX8_addEquation_228 rfl 0 rfl ?_
  refine J_getA dX8_addEquation_229 fl_X8_74 rfl (fun v14 => ?_)
  refine J_bipush (v := 30) dX8_addEquation_232 (by decide) ?_
  refine J_aload_n dX8_addEquation_234 rfl 0 rfl ?_
  refine J_getI dX8_addEquation_235 fl_X8_423 rfl (fun v15 => ?_)
  refine J_imul dX8_addEquation_238 ?_
  refine J_iload dX8_addEquation_239 5 rfl ?_
  refine J_iadd dX8_addEquation_241 ?_
  refine J_iald dX8_addEquation_242 (fun v16 => ?_)
  refine J_imul dX8_addEquation_243 ?_
  refine J_isub dX8_addEquation_244 ?_
  refine J_aload_n dX8_addEquation_245 rfl 0 rfl ?_
  refine J_getI dX8_addEquation_246 fl_X8_250 rfl (fun v17 => ?_)
  refine J_callSI (host := "") (as := [.int (v13 - (x5 * v16)), .int v17]) dX8_addEquation_249 rfl (Nat.le_of_ble_eq_true rfl) (cw_X8_left _ (by decide)) q1847 q1848 q1849 np_X8_left (i_X8_left (v13 - (x5 * v16)) v17) jad_id rfl (fun v18 => ?_)
  refine J_iast dX8_addEquation_252 ?_
  refine J_iinc (v := x6 + 1) (env' := [(6, .int (x6 + 1)), (0, .ref x0), (1, .int x1), (2, .int x2), (4, .int x4), (5, .int x5)]) dX8_addEquation_253 5 rfl rfl (by decide) rfl ?_
  refine J_goto (tgt := 190) dX8_addEquation_256 rfl ?_
  exact J_cont [1, 2, 3, 4, 5, 0] rfl
noncomputable def X8_addEquation_L164 (x0 : Nat) (x1 : Int32) (x2 : Int32) (x4 : Int32) : JM Mem (Unit ⊕ (Int32)) :=
  jb (jgetI 7 39 x0) fun v7 =>
  if v7 ≤ x4 then
    jinl (X8_addEquation_b265 x0)
  else
  jb (jgetA 7 37 x0) fun v9 =>
  jb (jald mI 0 v9 ((30 * x4) + x2)) fun v10 =>
  jloop (fun (t : Int32) => X8_addEquation_L190 x0 x1 x2 x4 v10 t) 0
theorem j_X8_addEquation_L164 (D : va_G) (dA : Nat → ClassId) (x0 : Nat) (x1 : Int32) (x2 : Int32) (x4 : Int32) : J (PM D dA false) Y_X8_addEquation [(0, .ref x0), (1, .int x1), (2, .int x2), (4, .int x4)] [] 164 (X8_addEquation_L164 x0 x1 x2 x4) (FLoop (FRet injU) 164 (fun (t : Int32) => [(0, .ref x0), (1, .int x1), (2, .int x2), (4, .int t)])) := by
  unfold X8_addEquation_L164
  refine J_iload dX8_addEquation_164 3 rfl ?_
  refine J_aload_n dX8_addEquation_166 rfl 0 rfl ?_
  refine J_getI dX8_addEquation_167 fl_X8_423 rfl (fun v7 => ?_)
  refine J_icmp_ge (tgt := 265) dX8_addEquation_170 rfl ?_ ?_
  · refine J_inl ?_
    refine J_sub [0] rfl ?_
    exact j_X8_addEquation_b265 D dA x0
  refine J_aload_n dX8_addEquation_173 rfl 0 rfl ?_
  refine J_getA dX8_addEquation_174 fl_X8_74 rfl (fun v9 => ?_)
  refine J_bipush (v := 30) dX8_addEquation_177 (by decide) ?_
  refine J_iload dX8_addEquation_179 3 rfl ?_
  refine J_imul dX8_addEquation_181 ?_
  refine J_iload_n dX8_addEquation_182 rfl 2 rfl ?_
  refine J_iadd dX8_addEquation_183 ?_
  refine J_iald dX8_addEquation_184 (fun v10 => ?_)
  refine J_istore (env' := [(5, .int v10), (0, .ref x0), (1, .int x1), (2, .int x2), (4, .int x4)]) dX8_addEquation_185 (by decide) rfl ?_
  refine J_iconst (v := 0) dX8_addEquation_187 (by decide) ?_
  refine J_istore (env' := [(6, .int 0), (5, .int v10), (0, .ref x0), (1, .int x1), (2, .int x2), (4, .int x4)]) dX8_addEquation_188 (by decide) rfl ?_
  refine J_loop (he := fun (t : Int32) => [(0, .ref x0), (1, .int x1), (2, .int x2), (4, .int x4), (5, .int v10), (6, .int t)]) [2, 3, 4, 5, 1, 0] rfl (fun t => ?_)
  exact j_X8_addEquation_L190 D dA x0 x1 x2 x4 v10 t
noncomputable def X8_addEquation_b161 (x0 : Nat) (x1 : Int32) (x2 : Int32) : JM Mem Unit :=
  jloop (fun (t : Int32) => X8_addEquation_L164 x0 x1 x2 t) 0
theorem j_X8_addEquation_b161 (D : va_G) (dA : Nat → ClassId) (x0 : Nat) (x1 : Int32) (x2 : Int32) : J (PM D dA false) Y_X8_addEquation [(0, .ref x0), (1, .int x1), (2, .int x2)] [] 161 (X8_addEquation_b161 x0 x1 x2) (FRet injU) := by
  unfold X8_addEquation_b161
  refine J_iconst (v := 0) dX8_addEquation_161 (by decide) ?_
  refine J_istore (env' := [(4, .int 0), (0, .ref x0), (1, .int x1), (2, .int x2)]) dX8_addEquation_162 (by decide) rfl ?_
  refine J_loop (he := fun (t : Int32) => [(0, .ref x0), (1, .int x1), (2, .int x2), (4, .int t)]) [1, 2, 3, 0] rfl (fun t => ?_)
  exact j_X8_addEquation_L164 D dA x0 x1 x2 t
noncomputable def X8_addEquation_L120 (x0 : Nat) (x1 : Int32) (x2 : Int32) (x3 : Int32) (x4 : Int32) : JM Mem (Unit ⊕ (Int32)) :=
  if x1 ≤ x4 then
    jinl (X8_addEquation_b161 x0 x1 x2)
  else
  jb (jgetA 7 37 x0) fun v19 =>
  jb (jgetI 7 39 x0) fun v20 =>
  jb (jgetA 7 38 x0) fun v21 =>
  jb (jald mI 0 v21 x4) fun v22 =>
  jb (jgetI 7 26 x0) fun v23 =>
  jb (jrem (v22 * x3) v23) fun v24 =>
  jb (jast_i v19 ((30 * v20) + x4) v24) fun _ =>
  jcont (x4 + 1)
theorem j_X8_addEquation_L120 (D : va_G) (dA : Nat → ClassId) (x0 : Nat) (x1 : Int32) (x2 : Int32) (x3 : Int32) (x4 : Int32) : J (PM D dA false) Y_X8_addEquation [(0, .ref x0), (1, .int x1), (2, .int x2), (3, .int x3), (4, .int x4)] [] 120 (X8_addEquation_L120 x0 x1 x2 x3 x4) (FLoop (FRet injU) 120 (fun (t : Int32) => [(0, .ref x0), (1, .int x1), (2, .int x2), (3, .int x3), (4, .int t)])) := by
  unfold X8_addEquation_L120
  refine J_iload dX8_addEquation_120 4 rfl ?_
  refine J_iload_n dX8_addEquation_122 rfl 1 rfl ?_
  refine J_icmp_ge (tgt := 161) dX8_addEquation_123 rfl ?_ ?_
  · refine J_inl ?_
    refine J_sub [0, 1, 2] rfl ?_
    exact j_X8_addEquation_b161 D dA x0 x1 x2
  refine J_aload_n dX8_addEquation_126 rfl 0 rfl ?_
  refine J_getA dX8_addEquation_127 fl_X8_74 rfl (fun v19 => ?_)
  refine J_bipush (v := 30) dX8_addEquation_130 (by decide) ?_
  refine J_aload_n dX8_addEquation_132 rfl 0 rfl ?_
  refine J_getI dX8_addEquation_133 fl_X8_423 rfl (fun v20 => ?_)
  refine J_imul dX8_addEquation_136 ?_
  refine J_iload dX8_addEquation_137 4 rfl ?_
  refine J_iadd dX8_addEquation_139 ?_
  refine J_aload_n dX8_addEquation_140 rfl 0 rfl ?_
  refine J_getA dX8_addEquation_141 fl_X8_77 rfl (fun v21 => ?_)
  refine J_iload dX8_addEquation_144 4 rfl ?_
  refine J_iald dX8_addEquation_146 (fun v22 => ?_)
  refine J_iload_n dX8_addEquation_147 rfl 3 rfl ?_
  refine J_imul dX8_addEquation_148 ?_
  refine J_aload_n dX8_addEquation_149 rfl 0 rfl ?_
  refine J_getI dX8_addEquation_150 fl_X8_250 rfl (fun v23 => ?_)
  refine J_irem dX8_addEquation_153 (fun v24 => ?_)
  refine J_iast dX8_addEquation_154 ?_
  refine J_iinc (v := x4 + 1) (env' := [(4, .int (x4 + 1)), (0, .ref x0), (1, .int x1), (2, .int x2), (3, .int x3)]) dX8_addEquation_155 4 rfl rfl (by decide) rfl ?_
  refine J_goto (tgt := 120) dX8_addEquation_158 rfl ?_
  exact J_cont [1, 2, 3, 4, 0] rfl
noncomputable def X8_addEquation_b90 (x0 : Nat) (x1 : Int32) : JM Mem Unit :=
  jb (jgetA 7 38 x0) fun v2 =>
  jb (jcall 7 x0 (f_X8_leadOfRow x0 v2 0 x1)) fun v3 =>
  if 0 ≤ v3 then
    jb (jgetA 7 38 x0) fun v4 =>
    jb (jald mI 0 v4 v3) fun v5 =>
    jb (jcall 7 x0 (f_X8_inverse x0 v5)) fun v6 =>
    jloop (fun (t : Int32) => X8_addEquation_L120 x0 x1 v3 v6 t) 0
  else
    jp ()
theorem j_X8_addEquation_b90 (D : va_G) (dA : Nat → ClassId) (x0 : Nat) (x1 : Int32) : J (PM D dA false) Y_X8_addEquation [(0, .ref x0), (1, .int x1)] [] 90 (X8_addEquation_b90 x0 x1) (FRet injU) := by
  unfold X8_addEquation_b90
  refine J_aload_n dX8_addEquation_90 rfl 0 rfl ?_
  refine J_aload_n dX8_addEquation_91 rfl 0 rfl ?_
  refine J_getA dX8_addEquation_92 fl_X8_77 rfl (fun v2 => ?_)
  refine J_iconst (v := 0) dX8_addEquation_95 (by decide) ?_
  refine J_iload_n dX8_addEquation_96 rfl 1 rfl ?_
  refine J_callVI (c := 7) (as := [.ref v2, .int 0, .int x1]) dX8_addEquation_97 (by decide) rfl (Nat.le_of_ble_eq_true rfl) (cw_X8_leadOfRow _ (by decide)) q2037 q2039 qs119 q2040 np_X8_leadOfRow (i_X8_leadOfRow x0 v2 0 x1) jad_id rfl (fun v3 => ?_)
  refine J_istore_n (env' := [(2, .int v3), (0, .ref x0), (1, .int x1)]) dX8_addEquation_100 rfl (by decide) rfl ?_
  refine J_iload_n dX8_addEquation_101 rfl 0 rfl ?_
  refine J_if_ge (tgt := 106) dX8_addEquation_102 rfl ?_ ?_
  · refine J_aload_n dX8_addEquation_106 rfl 1 rfl ?_
    refine J_aload_n dX8_addEquation_107 rfl 1 rfl ?_
    refine J_getA dX8_addEquation_108 fl_X8_77 rfl (fun v4 => ?_)
    refine J_iload_n dX8_addEquation_111 rfl 0 rfl ?_
    refine J_iald dX8_addEquation_112 (fun v5 => ?_)
    refine J_callVI (c := 7) (as := [.int v5]) dX8_addEquation_113 (by decide) rfl (Nat.le_of_ble_eq_true rfl) (cw_X8_inverse _ (by decide)) q1992 q1994 qs111 q1995 np_X8_inverse (i_X8_inverse x0 v5) jad_id rfl (fun v6 => ?_)
    refine J_istore_n (env' := [(3, .int v6), (2, .int v3), (0, .ref x0), (1, .int x1)]) dX8_addEquation_116 rfl (by decide) rfl ?_
    refine J_iconst (v := 0) dX8_addEquation_117 (by decide) ?_
    refine J_istore (env' := [(4, .int 0), (3, .int v6), (2, .int v3), (0, .ref x0), (1, .int x1)]) dX8_addEquation_118 (by decide) rfl ?_
    refine J_loop (he := fun (t : Int32) => [(0, .ref x0), (1, .int x1), (2, .int v3), (3, .int v6), (4, .int t)]) [3, 4, 2, 1, 0] rfl (fun t => ?_)
    exact j_X8_addEquation_L120 D dA x0 x1 v3 v6 t
  exact J_return dX8_addEquation_105 rfl
noncomputable def X8_addEquation_b84 (x0 : Nat) (x1 : Int32) (x2 : Int32) : JM Mem (Unit ⊕ (Int32)) :=
  jcont (x2 + 1)
theorem j_X8_addEquation_b84 (D : va_G) (dA : Nat → ClassId) (x0 : Nat) (x1 : Int32) (x2 : Int32) : J (PM D dA false) Y_X8_addEquation [(0, .ref x0), (1, .int x1), (2, .int x2)] [] 84 (X8_addEquation_b84 x0 x1 x2) (FLoop (FRet injU) 2 (fun (t : Int32) => [(0, .ref x0), (1, .int x1), (2, .int t)])) := by
  unfold X8_addEquation_b84
  refine J_iinc (v := x2 + 1) (env' := [(2, .int (x2 + 1)), (0, .ref x0), (1, .int x1)]) dX8_addEquation_84 2 rfl rfl (by decide) rfl ?_
  refine J_goto (tgt := 2) dX8_addEquation_87 rfl ?_
  exact J_cont [1, 2, 0] rfl
noncomputable def X8_addEquation_L32 (x0 : Nat) (x1 : Int32) (x2 : Int32) (x3 : Int32) (x4 : Int32) : JM Mem ((Unit ⊕ (Int32)) ⊕ (Int32)) :=
  if x1 ≤ x4 then
    jinl (X8_addEquation_b84 x0 x1 x2)
  else
  if x3 = 0 then
    jinl (X8_addEquation_b84 x0 x1 x2)
  else
  jb (jgetA 7 38 x0) fun v29 =>
  jb (jgetA 7 38 x0) fun v30 =>
  jb (jald mI 0 v30 x4) fun v31 =>
  jb (jgetA 7 37 x0) fun v32 =>
  jb (jald mI 0 v32 ((30 * x2) + x4)) fun v33 =>
  jb (jgetI 7 26 x0) fun v34 =>
  jb ((f_X8_left (v31 - (x3 * v33)) v34)) fun v35 =>
  jb (jast_i v29 x4 v35) fun _ =>
  jcont (x4 + 1)
theorem j_X8_addEquation_L32 (D : va_G) (dA : Nat → ClassId) (x0 : Nat) (x1 : Int32) (x2 : Int32) (x3 : Int32) (x4 : Int32) : J (PM D dA false) Y_X8_addEquation [(0, .ref x0), (1, .int x1), (2, .int x2), (3, .int x3), (4, .int x4)] [] 32 (X8_addEquation_L32 x0 x1 x2 x3 x4) (FLoop (FLoop (FRet injU) 2 (fun (t : Int32) => [(0, .ref x0), (1, .int x1), (2, .int t)])) 32 (fun (t : Int32) => [(0, .ref x0), (1, .int x1), (2, .int x2), (3, .int x3), (4, .int t)])) := by
  unfold X8_addEquation_L32
  refine J_iload dX8_addEquation_32 4 rfl ?_
  refine J_iload_n dX8_addEquation_34 rfl 1 rfl ?_
  refine J_icmp_ge (tgt := 84) dX8_addEquation_35 rfl ?_ ?_
  · refine J_inl ?_
    refine J_sub [0, 1, 2] rfl ?_
    exact j_X8_addEquation_b84 D dA x0 x1 x2
  refine J_iload_n dX8_addEquation_38 rfl 3 rfl ?_
  refine J_if_eq (tgt := 84) dX8_addEquation_39 rfl ?_ ?_
  · refine J_inl ?_
    refine J_sub [0, 1, 2] rfl ?_
    exact j_X8_addEquation_b84 D dA x0 x1 x2
  refine J_aload_n dX8_addEquation_42 rfl 0 rfl ?_
  refine J_getA dX8_addEquation_43 fl_X8_77 rfl (fun v29 => ?_)
  refine J_iload dX8_addEquation_46 4 rfl ?_
  refine J_aload_n dX8_addEquation_48 rfl 0 rfl ?_
  refine J_getA dX8_addEquation_49 fl_X8_77 rfl (fun v30 => ?_)
  refine J_iload dX8_addEquation_52 4 rfl ?_
  refine J_iald dX8_addEquation_54 (fun v31 => ?_)
  refine J_iload_n dX8_addEquation_55 rfl 3 rfl ?_
  refine J_aload_n dX8_addEquation_56 rfl 0 rfl ?_
  refine J_getA dX8_addEquation_57 fl_X8_74 rfl (fun v32 => ?_)
  refine J_bipush (v := 30) dX8_addEquation_60 (by decide) ?_
  refine J_iload_n dX8_addEquation_62 rfl 2 rfl ?_
  refine J_imul dX8_addEquation_63 ?_
  refine J_iload dX8_addEquation_64 4 rfl ?_
  refine J_iadd dX8_addEquation_66 ?_
  refine J_iald dX8_addEquation_67 (fun v33 => ?_)
  refine J_imul dX8_addEquation_68 ?_
  refine J_isub dX8_addEquation_69 ?_
  refine J_aload_n dX8_addEquation_70 rfl 0 rfl ?_
  refine J_getI dX8_addEquation_71 fl_X8_250 rfl (fun v34 => ?_)
  refine J_callSI (host := "") (as := [.int (v31 - (x3 * v33)), .int v34]) dX8_addEquation_74 rfl (Nat.le_of_ble_eq_true rfl) (cw_X8_left _ (by decide)) q1847 q1848 q1849 np_X8_left (i_X8_left (v31 - (x3 * v33)) v34) jad_id rfl (fun v35 => ?_)
  refine J_iast dX8_addEquation_77 ?_
  refine J_iinc (v := x4 + 1) (env' := [(4, .int (x4 + 1)), (0, .ref x0), (1, .int x1), (2, .int x2), (3, .int x3)]) dX8_addEquation_78 4 rfl rfl (by decide) rfl ?_
  refine J_goto (tgt := 32) dX8_addEquation_81 rfl ?_
  exact J_cont [1, 2, 3, 4, 0] rfl
noncomputable def X8_addEquation_L2 (x0 : Nat) (x1 : Int32) (x2 : Int32) : JM Mem (Unit ⊕ (Int32)) :=
  jb (jgetI 7 39 x0) fun v1 =>
  if v1 ≤ x2 then
    jinl (X8_addEquation_b90 x0 x1)
  else
  jb (jgetA 7 38 x0) fun v25 =>
  jb (jgetA 7 37 x0) fun v26 =>
  jb (jcall 7 x0 (f_X8_leadOfRow x0 v26 (30 * x2) x1)) fun v27 =>
  jb (jald mI 0 v25 v27) fun v28 =>
  jloop (fun (t : Int32) => X8_addEquation_L32 x0 x1 x2 v28 t) 0
theorem j_X8_addEquation_L2 (D : va_G) (dA : Nat → ClassId) (x0 : Nat) (x1 : Int32) (x2 : Int32) : J (PM D dA false) Y_X8_addEquation [(0, .ref x0), (1, .int x1), (2, .int x2)] [] 2 (X8_addEquation_L2 x0 x1 x2) (FLoop (FRet injU) 2 (fun (t : Int32) => [(0, .ref x0), (1, .int x1), (2, .int t)])) := by
  unfold X8_addEquation_L2
  refine J_iload_n dX8_addEquation_2 rfl 2 rfl ?_
  refine J_aload_n dX8_addEquation_3 rfl 0 rfl ?_
  refine J_getI dX8_addEquation_4 fl_X8_423 rfl (fun v1 => ?_)
  refine J_icmp_ge (tgt := 90) dX8_addEquation_7 rfl ?_ ?_
  · refine J_inl ?_
    refine J_sub [0, 1] rfl ?_
    exact j_X8_addEquation_b90 D dA x0 x1
  refine J_aload_n dX8_addEquation_10 rfl 0 rfl ?_
  refine J_getA dX8_addEquation_11 fl_X8_77 rfl (fun v25 => ?_)
  refine J_aload_n dX8_addEquation_14 rfl 0 rfl ?_
  refine J_aload_n dX8_addEquation_15 rfl 0 rfl ?_
  refine J_getA dX8_addEquation_16 fl_X8_74 rfl (fun v26 => ?_)
  refine J_bipush (v := 30) dX8_addEquation_19 (by decide) ?_
  refine J_iload_n dX8_addEquation_21 rfl 2 rfl ?_
  refine J_imul dX8_addEquation_22 ?_
  refine J_iload_n dX8_addEquation_23 rfl 1 rfl ?_
  refine J_callVI (c := 7) (as := [.ref v26, .int (30 * x2), .int x1]) dX8_addEquation_24 (by decide) rfl (Nat.le_of_ble_eq_true rfl) (cw_X8_leadOfRow _ (by decide)) q2037 q2039 qs119 q2040 np_X8_leadOfRow (i_X8_leadOfRow x0 v26 (30 * x2) x1) jad_id rfl (fun v27 => ?_)
  refine J_iald dX8_addEquation_27 (fun v28 => ?_)
  refine J_istore_n (env' := [(3, .int v28), (0, .ref x0), (1, .int x1), (2, .int x2)]) dX8_addEquation_28 rfl (by decide) rfl ?_
  refine J_iconst (v := 0) dX8_addEquation_29 (by decide) ?_
  refine J_istore (env' := [(4, .int 0), (3, .int v28), (0, .ref x0), (1, .int x1), (2, .int x2)]) dX8_addEquation_30 (by decide) rfl ?_
  refine J_loop (he := fun (t : Int32) => [(0, .ref x0), (1, .int x1), (2, .int x2), (3, .int v28), (4, .int t)]) [2, 3, 4, 1, 0] rfl (fun t => ?_)
  exact j_X8_addEquation_L32 D dA x0 x1 x2 v28 t
noncomputable def f_X8_addEquation (x0 : Nat) (x1 : Int32) : JM Mem Unit :=
  jloop (fun (t : Int32) => X8_addEquation_L2 x0 x1 t) 0
theorem j_X8_addEquation (D : va_G) (dA : Nat → ClassId) (x0 : Nat) (x1 : Int32) : J (PM D dA false) Y_X8_addEquation [(0, .ref x0), (1, .int x1)] [] 0 (f_X8_addEquation x0 x1) (FRet injU) := by
  unfold f_X8_addEquation
  refine J_iconst (v := 0) dX8_addEquation_0 (by decide) ?_
  refine J_istore_n (env' := [(2, .int 0), (0, .ref x0), (1, .int x1)]) dX8_addEquation_1 rfl (by decide) rfl ?_
  refine J_loop (he := fun (t : Int32) => [(0, .ref x0), (1, .int x1), (2, .int t)]) [1, 2, 0] rfl (fun t => ?_)
  exact j_X8_addEquation_L2 D dA x0 x1 t
theorem i_X8_addEquation (x0 : Nat) (x1 : Int32) : Impl (ws_ yX8_addEquation cX8_addEquation 7 none) yX8_addEquation 2 false 0 0 [.ref x0, .int x1] (f_X8_addEquation x0 x1) injU := impl_of (plainFor_of_name (by decide)) (Nat.le_of_ble_eq_true rfl) (fun D dA => j_X8_addEquation D dA x0 x1)
theorem cw_X8_addEquation (Y : JY) (h : 3 ≤ Y.2.2.2.1) : JCw Y (ws_ yX8_addEquation cX8_addEquation 7 none) yX8_addEquation cX8_addEquation 7 none 2 := ⟨h, by decide, lw_meth q2036, q198, by decide, by decide⟩
theorem np_X8_addEquation : JNp yX8_addEquation.desc 1 := by decide +kernel
-- BracketRoomModel.centreSize()I
abbrev Y_X8_centreSize : JY := (cX8_centreSize, yX8_centreSize.cls, 4, 3, yX8_centreSize.name, (some .int), [])
noncomputable def X8_centreSize_b73 (x0 : Nat) : JM Mem Int32 :=
  jb (jgetI 7 27 x0) fun v2 =>
  jb (jgetI 7 39 x0) fun v3 =>
  jp (v2 - v3)
theorem j_X8_centreSize_b73 (D : va_G) (dA : Nat → ClassId) (x0 : Nat) : J (PM D dA false) Y_X8_centreSize [(0, .ref x0)] [] 73 (X8_centreSize_b73 x0) (FRet injI) := by
  unfold X8_centreSize_b73
  refine J_aload_n dX8_centreSize_73 rfl 0 rfl ?_
  refine J_getI dX8_centreSize_74 fl_X8_253 rfl (fun v2 => ?_)
  refine J_aload_n dX8_centreSize_77 rfl 0 rfl ?_
  refine J_getI dX8_centreSize_78 fl_X8_423 rfl (fun v3 => ?_)
  refine J_isub dX8_centreSize_81 ?_
  exact J_ireturn dX8_centreSize_82 rfl
noncomputable def X8_centreSize_b67 (x0 : Nat) (x1 : Int32) : JM Mem (Int32 ⊕ (Int32)) :=
  jcont (x1 + 1)
theorem j_X8_centreSize_b67 (D : va_G) (dA : Nat → ClassId) (x0 : Nat) (x1 : Int32) : J (PM D dA false) Y_X8_centreSize [(0, .ref x0), (1, .int x1)] [] 67 (X8_centreSize_b67 x0 x1) (FLoop (FRet injI) 6 (fun (t : Int32) => [(0, .ref x0), (1, .int t)])) := by
  unfold X8_centreSize_b67
  refine J_iinc (v := x1 + 1) (env' := [(1, .int (x1 + 1)), (0, .ref x0)]) dX8_centreSize_67 1 rfl rfl (by decide) rfl ?_
  refine J_goto (tgt := 6) dX8_centreSize_70 rfl ?_
  exact J_cont [1, 0] rfl
noncomputable def X8_centreSize_b53 (x0 : Nat) (x1 : Int32) (x2 : Int32) : JM Mem ((Int32 ⊕ (Int32)) ⊕ (Int32)) :=
  jb (jgetI 7 27 x0) fun v6 =>
  jb (jcall 7 x0 (f_X8_addEquation x0 v6)) fun _ =>
  jcont (x2 + 1)
theorem j_X8_centreSize_b53 (D : va_G) (dA : Nat → ClassId) (x0 : Nat) (x1 : Int32) (x2 : Int32) : J (PM D dA false) Y_X8_centreSize [(0, .ref x0), (1, .int x1), (2, .int x2)] [] 53 (X8_centreSize_b53 x0 x1 x2) (FLoop (FLoop (FRet injI) 6 (fun (t : Int32) => [(0, .ref x0), (1, .int t)])) 16 (fun (t : Int32) => [(0, .ref x0), (1, .int x1), (2, .int t)])) := by
  unfold X8_centreSize_b53
  refine J_aload_n dX8_centreSize_53 rfl 0 rfl ?_
  refine J_aload_n dX8_centreSize_54 rfl 0 rfl ?_
  refine J_getI dX8_centreSize_55 fl_X8_253 rfl (fun v6 => ?_)
  refine J_callVV (c := 7) (as := [.int v6]) dX8_centreSize_58 (by decide) rfl (Nat.le_of_ble_eq_true rfl) (cw_X8_addEquation _ (by decide)) q2033 q2035 qs118 q2036 np_X8_addEquation (i_X8_addEquation x0 v6) jad_id rfl ?_
  refine J_iinc (v := x2 + 1) (env' := [(2, .int (x2 + 1)), (0, .ref x0), (1, .int x1)]) dX8_centreSize_61 2 rfl rfl (by decide) rfl ?_
  refine J_goto (tgt := 16) dX8_centreSize_64 rfl ?_
  exact J_cont [1, 2, 0] rfl
noncomputable def X8_centreSize_L26 (x0 : Nat) (x1 : Int32) (x2 : Int32) (x3 : Int32) : JM Mem (((Int32 ⊕ (Int32)) ⊕ (Int32)) ⊕ (Int32)) :=
  jb (jgetI 7 27 x0) fun v5 =>
  if v5 ≤ x3 then
    jinl (X8_centreSize_b53 x0 x1 x2)
  else
  jb (jgetA 7 38 x0) fun v7 =>
  jb (jcall 7 x0 (f_X8_table x0 x3 x1 x2)) fun v8 =>
  jb (jast_i v7 x3 v8) fun _ =>
  jcont (x3 + 1)
theorem j_X8_centreSize_L26 (D : va_G) (dA : Nat → ClassId) (x0 : Nat) (x1 : Int32) (x2 : Int32) (x3 : Int32) : J (PM D dA false) Y_X8_centreSize [(0, .ref x0), (1, .int x1), (2, .int x2), (3, .int x3)] [] 26 (X8_centreSize_L26 x0 x1 x2 x3) (FLoop (FLoop (FLoop (FRet injI) 6 (fun (t : Int32) => [(0, .ref x0), (1, .int t)])) 16 (fun (t : Int32) => [(0, .ref x0), (1, .int x1), (2, .int t)])) 26 (fun (t : Int32) => [(0, .ref x0), (1, .int x1), (2, .int x2), (3, .int t)])) := by
  unfold X8_centreSize_L26
  refine J_iload_n dX8_centreSize_26 rfl 3 rfl ?_
  refine J_aload_n dX8_centreSize_27 rfl 0 rfl ?_
  refine J_getI dX8_centreSize_28 fl_X8_253 rfl (fun v5 => ?_)
  refine J_icmp_ge (tgt := 53) dX8_centreSize_31 rfl ?_ ?_
  · refine J_inl ?_
    refine J_sub [0, 1, 2] rfl ?_
    exact j_X8_centreSize_b53 D dA x0 x1 x2
  refine J_aload_n dX8_centreSize_34 rfl 0 rfl ?_
  refine J_getA dX8_centreSize_35 fl_X8_77 rfl (fun v7 => ?_)
  refine J_iload_n dX8_centreSize_38 rfl 3 rfl ?_
  refine J_aload_n dX8_centreSize_39 rfl 0 rfl ?_
  refine J_iload_n dX8_centreSize_40 rfl 3 rfl ?_
  refine J_iload_n dX8_centreSize_41 rfl 1 rfl ?_
  refine J_iload_n dX8_centreSize_42 rfl 2 rfl ?_
  refine J_callVI (c := 7) (as := [.int x3, .int x1, .int x2]) dX8_centreSize_43 (by decide) rfl (Nat.le_of_ble_eq_true rfl) (cw_X8_table _ (by decide)) q1875 q1877 qs91 q1878 np_X8_table (i_X8_table x0 x3 x1 x2) jad_id rfl (fun v8 => ?_)
  refine J_iast dX8_centreSize_46 ?_
  refine J_iinc (v := x3 + 1) (env' := [(3, .int (x3 + 1)), (0, .ref x0), (1, .int x1), (2, .int x2)]) dX8_centreSize_47 3 rfl rfl (by decide) rfl ?_
  refine J_goto (tgt := 26) dX8_centreSize_50 rfl ?_
  exact J_cont [1, 2, 3, 0] rfl
noncomputable def X8_centreSize_L16 (x0 : Nat) (x1 : Int32) (x2 : Int32) : JM Mem ((Int32 ⊕ (Int32)) ⊕ (Int32)) :=
  jb (jgetI 7 27 x0) fun v4 =>
  if v4 ≤ x2 then
    jinl (X8_centreSize_b67 x0 x1)
  else
    jloop (fun (t : Int32) => X8_centreSize_L26 x0 x1 x2 t) 0
theorem j_X8_centreSize_L16 (D : va_G) (dA : Nat → ClassId) (x0 : Nat) (x1 : Int32) (x2 : Int32) : J (PM D dA false) Y_X8_centreSize [(0, .ref x0), (1, .int x1), (2, .int x2)] [] 16 (X8_centreSize_L16 x0 x1 x2) (FLoop (FLoop (FRet injI) 6 (fun (t : Int32) => [(0, .ref x0), (1, .int t)])) 16 (fun (t : Int32) => [(0, .ref x0), (1, .int x1), (2, .int t)])) := by
  unfold X8_centreSize_L16
  refine J_iload_n dX8_centreSize_16 rfl 2 rfl ?_
  refine J_aload_n dX8_centreSize_17 rfl 0 rfl ?_
  refine J_getI dX8_centreSize_18 fl_X8_253 rfl (fun v4 => ?_)
  refine J_icmp_ge (tgt := 67) dX8_centreSize_21 rfl ?_ ?_
  · refine J_inl ?_
    refine J_sub [0, 1] rfl ?_
    exact j_X8_centreSize_b67 D dA x0 x1
  refine J_iconst (v := 0) dX8_centreSize_24 (by decide) ?_
  refine J_istore_n (env' := [(3, .int 0), (0, .ref x0), (1, .int x1), (2, .int x2)]) dX8_centreSize_25 rfl (by decide) rfl ?_
  refine J_loop (he := fun (t : Int32) => [(0, .ref x0), (1, .int x1), (2, .int x2), (3, .int t)]) [1, 2, 3, 0] rfl (fun t => ?_)
  exact j_X8_centreSize_L26 D dA x0 x1 x2 t
noncomputable def X8_centreSize_L6 (x0 : Nat) (x1 : Int32) : JM Mem (Int32 ⊕ (Int32)) :=
  jb (jgetI 7 27 x0) fun v1 =>
  if v1 ≤ x1 then
    jinl (X8_centreSize_b73 x0)
  else
    jloop (fun (t : Int32) => X8_centreSize_L16 x0 x1 t) 0
theorem j_X8_centreSize_L6 (D : va_G) (dA : Nat → ClassId) (x0 : Nat) (x1 : Int32) : J (PM D dA false) Y_X8_centreSize [(0, .ref x0), (1, .int x1)] [] 6 (X8_centreSize_L6 x0 x1) (FLoop (FRet injI) 6 (fun (t : Int32) => [(0, .ref x0), (1, .int t)])) := by
  unfold X8_centreSize_L6
  refine J_iload_n dX8_centreSize_6 rfl 1 rfl ?_
  refine J_aload_n dX8_centreSize_7 rfl 0 rfl ?_
  refine J_getI dX8_centreSize_8 fl_X8_253 rfl (fun v1 => ?_)
  refine J_icmp_ge (tgt := 73) dX8_centreSize_11 rfl ?_ ?_
  · refine J_inl ?_
    refine J_sub [0] rfl ?_
    exact j_X8_centreSize_b73 D dA x0
  refine J_iconst (v := 0) dX8_centreSize_14 (by decide) ?_
  refine J_istore_n (env' := [(2, .int 0), (0, .ref x0), (1, .int x1)]) dX8_centreSize_15 rfl (by decide) rfl ?_
  refine J_loop (he := fun (t : Int32) => [(0, .ref x0), (1, .int x1), (2, .int t)]) [1, 2, 0] rfl (fun t => ?_)
  exact j_X8_centreSize_L16 D dA x0 x1 t
noncomputable def f_X8_centreSize (x0 : Nat) : JM Mem Int32 :=
  jb (jcall 7 x0 (f_X8_noRows x0)) fun _ =>
  jloop (fun (t : Int32) => X8_centreSize_L6 x0 t) 0
theorem j_X8_centreSize (D : va_G) (dA : Nat → ClassId) (x0 : Nat) : J (PM D dA false) Y_X8_centreSize [(0, .ref x0)] [] 0 (f_X8_centreSize x0) (FRet injI) := by
  unfold f_X8_centreSize
  refine J_aload_n dX8_centreSize_0 rfl 0 rfl ?_
  refine J_callVV (c := 7) (as := []) dX8_centreSize_1 (by decide) rfl (Nat.le_of_ble_eq_true rfl) (cw_X8_noRows _ (by decide)) q2029 q2031 qs117 q2032 np_X8_noRows (i_X8_noRows x0) jad_id rfl ?_
  refine J_iconst (v := 0) dX8_centreSize_4 (by decide) ?_
  refine J_istore_n (env' := [(1, .int 0), (0, .ref x0)]) dX8_centreSize_5 rfl (by decide) rfl ?_
  refine J_loop (he := fun (t : Int32) => [(0, .ref x0), (1, .int t)]) [1, 0] rfl (fun t => ?_)
  exact j_X8_centreSize_L6 D dA x0 t
theorem i_X8_centreSize (x0 : Nat) : Impl (ws_ yX8_centreSize cX8_centreSize 4 (some .int)) yX8_centreSize 3 false 0 0 [.ref x0] (f_X8_centreSize x0) injI := impl_of (plainFor_of_name (by decide)) (Nat.le_of_ble_eq_true rfl) (fun D dA => j_X8_centreSize D dA x0)
theorem cw_X8_centreSize (Y : JY) (h : 4 ≤ Y.2.2.2.1) : JCw Y (ws_ yX8_centreSize cX8_centreSize 4 (some .int)) yX8_centreSize cX8_centreSize 4 (some .int) 3 := ⟨h, by decide, lw_meth q2028, q198, by decide, by decide⟩
theorem np_X8_centreSize : JNp yX8_centreSize.desc 0 := by decide +kernel
-- BracketRoomModel.centre()I
abbrev Y_X8_centre : JY := (cX8_centre, yX8_centre.cls, 1, 4, yX8_centre.name, (some .int), [])
noncomputable def f_X8_centre (x0 : Nat) : JM Mem Int32 :=
  jb (jputI 7 1 x0 0) fun _ =>
  jb (jputI 7 0 x0 0) fun _ =>
  jb (jcall 7 x0 (f_X8_askNow x0)) fun _ =>
  jb (jcall 7 x0 (f_X8_centreSize x0)) fun v1 =>
  jp v1
theorem j_X8_centre (D : va_G) (dA : Nat → ClassId) (x0 : Nat) : J (PM D dA false) Y_X8_centre [(0, .ref x0)] [] 0 (f_X8_centre x0) (FRet injI) := by
  unfold f_X8_centre
  refine J_aload_n dX8_centre_0 rfl 0 rfl ?_
  refine J_iconst (v := 0) dX8_centre_1 (by decide) ?_
  refine J_putI dX8_centre_2 ⟨fl_X8_132, Or.inl rfl⟩ rfl ?_
  refine J_aload_n dX8_centre_5 rfl 0 rfl ?_
  refine J_iconst (v := 0) dX8_centre_6 (by decide) ?_
  refine J_putI dX8_centre_7 ⟨fl_X8_135, Or.inl rfl⟩ rfl ?_
  refine J_aload_n dX8_centre_10 rfl 0 rfl ?_
  refine J_callVV (c := 7) (as := []) dX8_centre_11 (by decide) rfl (Nat.le_of_ble_eq_true rfl) (cw_X8_askNow _ (by decide)) q1862 q1864 qs88 q1865 np_X8_askNow (i_X8_askNow x0) jad_id rfl ?_
  refine J_aload_n dX8_centre_14 rfl 0 rfl ?_
  refine J_callVI (c := 7) (as := []) dX8_centre_15 (by decide) rfl (Nat.le_of_ble_eq_true rfl) (cw_X8_centreSize _ (by decide)) q2025 q2027 qs116 q2028 np_X8_centreSize (i_X8_centreSize x0) jad_id rfl (fun v1 => ?_)
  exact J_ireturn dX8_centre_18 rfl
theorem i_X8_centre (x0 : Nat) : Impl (ws_ yX8_centre cX8_centre 1 (some .int)) yX8_centre 4 false 0 0 [.ref x0] (f_X8_centre x0) injI := impl_of (plainFor_of_name (by decide)) (Nat.le_of_ble_eq_true rfl) (fun D dA => j_X8_centre D dA x0)
theorem cw_X8_centre (Y : JY) (h : 5 ≤ Y.2.2.2.1) : JCw Y (ws_ yX8_centre cX8_centre 1 (some .int)) yX8_centre cX8_centre 1 (some .int) 4 := ⟨h, by decide, lw_meth q2024, q198, by decide, by decide⟩
theorem np_X8_centre : JNp yX8_centre.desc 0 := by decide +kernel
-- BracketRoomModel.rankOf(I)I
abbrev Y_X8_rankOf : JY := (cX8_rankOf, yX8_rankOf.cls, 4, 4, yX8_rankOf.name, (some .int), [])
noncomputable def X8_rankOf_L14 (x0 : Nat) (x2 : Int32) (x3 : Int32) : JM Mem (Int32 ⊕ (Int32 × Int32)) :=
  jb (jgetI 7 27 x0) fun v2 =>
  if v2 ≤ x3 then
    jinl (jp x2)
  else
  jb (jgetA 7 34 x0) fun v3 =>
  jb (jcall 7 x0 (f_X8_unit x0 x3 v3)) fun _ =>
  jb (jgetA 7 33 x0) fun v4 =>
  jb (jgetA 7 34 x0) fun v5 =>
  jb (jgetA 7 35 x0) fun v6 =>
  jb (jcall 7 x0 (f_X8_bracketOf x0 v4 0 v5 0 v6)) fun _ =>
  jb (jgetA 7 29 x0) fun v7 =>
  jb (jgetA 7 35 x0) fun v8 =>
  jb (jcall 7 x0 (f_X8_join x0 v7 x2 v8 0)) fun v9 =>
  jcont (v9, x3 + 1)
theorem j_X8_rankOf_L14 (D : va_G) (dA : Nat → ClassId) (x0 : Nat) (x2 : Int32) (x3 : Int32) : J (PM D dA false) Y_X8_rankOf [(0, .ref x0), (2, .int x2), (3, .int x3)] [] 14 (X8_rankOf_L14 x0 x2 x3) (FLoop (FRet injI) 14 (fun (t : Int32 × Int32) => [(0, .ref x0), (2, .int t.1), (3, .int t.2)])) := by
  unfold X8_rankOf_L14
  refine J_iload_n dX8_rankOf_14 rfl 2 rfl ?_
  refine J_aload_n dX8_rankOf_15 rfl 0 rfl ?_
  refine J_getI dX8_rankOf_16 fl_X8_253 rfl (fun v2 => ?_)
  refine J_icmp_ge (tgt := 70) dX8_rankOf_19 rfl ?_ ?_
  · refine J_inl ?_
    refine J_iload_n dX8_rankOf_70 rfl 1 rfl ?_
    exact J_ireturn dX8_rankOf_71 rfl
  refine J_aload_n dX8_rankOf_22 rfl 0 rfl ?_
  refine J_iload_n dX8_rankOf_23 rfl 2 rfl ?_
  refine J_aload_n dX8_rankOf_24 rfl 0 rfl ?_
  refine J_getA dX8_rankOf_25 fl_X8_65 rfl (fun v3 => ?_)
  refine J_callVV (c := 7) (as := [.int x3, .ref v3]) dX8_rankOf_28 (by decide) rfl (Nat.le_of_ble_eq_true rfl) (cw_X8_unit _ (by decide)) q1935 q1937 qs102 q1938 np_X8_unit (i_X8_unit x0 x3 v3) jad_id rfl ?_
  refine J_aload_n dX8_rankOf_31 rfl 0 rfl ?_
  refine J_aload_n dX8_rankOf_32 rfl 0 rfl ?_
  refine J_getA dX8_rankOf_33 fl_X8_62 rfl (fun v4 => ?_)
  refine J_iconst (v := 0) dX8_rankOf_36 (by decide) ?_
  refine J_aload_n dX8_rankOf_37 rfl 0 rfl ?_
  refine J_getA dX8_rankOf_38 fl_X8_65 rfl (fun v5 => ?_)
  refine J_iconst (v := 0) dX8_rankOf_41 (by decide) ?_
  refine J_aload_n dX8_rankOf_42 rfl 0 rfl ?_
  refine J_getA dX8_rankOf_43 fl_X8_68 rfl (fun v6 => ?_)
  refine J_callVV (c := 7) (as := [.ref v4, .int 0, .ref v5, .int 0, .ref v6]) dX8_rankOf_46 (by decide) rfl (Nat.le_of_ble_eq_true rfl) (cw_X8_bracketOf _ (by decide)) q1911 q1913 qs97 q1914 np_X8_bracketOf (i_X8_bracketOf x0 v4 0 v5 0 v6) jad_id rfl ?_
  refine J_aload_n dX8_rankOf_49 rfl 0 rfl ?_
  refine J_aload_n dX8_rankOf_50 rfl 0 rfl ?_
  refine J_getA dX8_rankOf_51 fl_X8_50 rfl (fun v7 => ?_)
  refine J_iload_n dX8_rankOf_54 rfl 1 rfl ?_
  refine J_aload_n dX8_rankOf_55 rfl 0 rfl ?_
  refine J_getA dX8_rankOf_56 fl_X8_68 rfl (fun v8 => ?_)
  refine J_iconst (v := 0) dX8_rankOf_59 (by decide) ?_
  refine J_callVI (c := 7) (as := [.ref v7, .int x2, .ref v8, .int 0]) dX8_rankOf_60 (by decide) rfl (Nat.le_of_ble_eq_true rfl) (cw_X8_join _ (by decide)) q1984 q1986 qs109 q1987 np_X8_join (i_X8_join x0 v7 x2 v8 0) jad_id rfl (fun v9 => ?_)
  refine J_istore_n (env' := [(2, .int v9), (0, .ref x0), (3, .int x3)]) dX8_rankOf_63 rfl (by decide) rfl ?_
  refine J_iinc (v := x3 + 1) (env' := [(3, .int (x3 + 1)), (2, .int v9), (0, .ref x0)]) dX8_rankOf_64 2 rfl rfl (by decide) rfl ?_
  refine J_goto (tgt := 14) dX8_rankOf_67 rfl ?_
  exact J_cont [2, 1, 0] rfl
noncomputable def f_X8_rankOf (x0 : Nat) (x1 : Int32) : JM Mem Int32 :=
  jb (jgetA 7 33 x0) fun v1 =>
  jb (jcall 7 x0 (f_X8_parts2 x0 x1 v1 0)) fun _ =>
  jloop (fun (t : Int32 × Int32) => X8_rankOf_L14 x0 t.1 t.2) (0, 0)
theorem j_X8_rankOf (D : va_G) (dA : Nat → ClassId) (x0 : Nat) (x1 : Int32) : J (PM D dA false) Y_X8_rankOf [(0, .ref x0), (1, .int x1)] [] 0 (f_X8_rankOf x0 x1) (FRet injI) := by
  unfold f_X8_rankOf
  refine J_aload_n dX8_rankOf_0 rfl 0 rfl ?_
  refine J_iload_n dX8_rankOf_1 rfl 1 rfl ?_
  refine J_aload_n dX8_rankOf_2 rfl 0 rfl ?_
  refine J_getA dX8_rankOf_3 fl_X8_62 rfl (fun v1 => ?_)
  refine J_iconst (v := 0) dX8_rankOf_6 (by decide) ?_
  refine J_callVV (c := 7) (as := [.int x1, .ref v1, .int 0]) dX8_rankOf_7 (by decide) rfl (Nat.le_of_ble_eq_true rfl) (cw_X8_parts2 _ (by decide)) q1907 q1909 qs96 q1910 np_X8_parts2 (i_X8_parts2 x0 x1 v1 0) jad_id rfl ?_
  refine J_iconst (v := 0) dX8_rankOf_10 (by decide) ?_
  refine J_istore_n (env' := [(2, .int 0), (0, .ref x0), (1, .int x1)]) dX8_rankOf_11 rfl (by decide) rfl ?_
  refine J_iconst (v := 0) dX8_rankOf_12 (by decide) ?_
  refine J_istore_n (env' := [(3, .int 0), (2, .int 0), (0, .ref x0), (1, .int x1)]) dX8_rankOf_13 rfl (by decide) rfl ?_
  refine J_loop (he := fun (t : Int32 × Int32) => [(0, .ref x0), (2, .int t.1), (3, .int t.2)]) [2, 1, 0] rfl (fun t => ?_)
  exact j_X8_rankOf_L14 D dA x0 t.1 t.2
theorem i_X8_rankOf (x0 : Nat) (x1 : Int32) : Impl (ws_ yX8_rankOf cX8_rankOf 4 (some .int)) yX8_rankOf 4 false 0 0 [.ref x0, .int x1] (f_X8_rankOf x0 x1) injI := impl_of (plainFor_of_name (by decide)) (Nat.le_of_ble_eq_true rfl) (fun D dA => j_X8_rankOf D dA x0 x1)
theorem cw_X8_rankOf (Y : JY) (h : 5 ≤ Y.2.2.2.1) : JCw Y (ws_ yX8_rankOf cX8_rankOf 4 (some .int)) yX8_rankOf cX8_rankOf 4 (some .int) 4 := ⟨h, by decide, lw_meth q2048, q198, by decide, by decide⟩
theorem np_X8_rankOf : JNp yX8_rankOf.desc 1 := by decide +kernel
-- BracketRoomModel.centralizer(I)I
abbrev Y_X8_centralizer : JY := (cX8_centralizer, yX8_centralizer.cls, 2, 5, yX8_centralizer.name, (some .int), [])
noncomputable def f_X8_centralizer (x0 : Nat) (x1 : Int32) : JM Mem Int32 :=
  jb (jputI 7 1 x0 0) fun _ =>
  jb (jputI 7 0 x0 0) fun _ =>
  jb (jcall 7 x0 (f_X8_askNow x0)) fun _ =>
  jb (jcall 7 x0 (f_X8_isVector x0 ((x1 : Int32).toInt64))) fun v1 =>
  if v1 = 0 then
    jb (jcall 7 x0 (f_X8_refuse x0 2)) fun v2 =>
    jp v2
  else
  jb (jgetI 7 27 x0) fun v3 =>
  jb (jcall 7 x0 (f_X8_rankOf x0 x1)) fun v4 =>
  jp (v3 - v4)
theorem j_X8_centralizer (D : va_G) (dA : Nat → ClassId) (x0 : Nat) (x1 : Int32) : J (PM D dA false) Y_X8_centralizer [(0, .ref x0), (1, .int x1)] [] 0 (f_X8_centralizer x0 x1) (FRet injI) := by
  unfold f_X8_centralizer
  refine J_aload_n dX8_centralizer_0 rfl 0 rfl ?_
  refine J_iconst (v := 0) dX8_centralizer_1 (by decide) ?_
  refine J_putI dX8_centralizer_2 ⟨fl_X8_132, Or.inl rfl⟩ rfl ?_
  refine J_aload_n dX8_centralizer_5 rfl 0 rfl ?_
  refine J_iconst (v := 0) dX8_centralizer_6 (by decide) ?_
  refine J_putI dX8_centralizer_7 ⟨fl_X8_135, Or.inl rfl⟩ rfl ?_
  refine J_aload_n dX8_centralizer_10 rfl 0 rfl ?_
  refine J_callVV (c := 7) (as := []) dX8_centralizer_11 (by decide) rfl (Nat.le_of_ble_eq_true rfl) (cw_X8_askNow _ (by decide)) q1862 q1864 qs88 q1865 np_X8_askNow (i_X8_askNow x0) jad_id rfl ?_
  refine J_aload_n dX8_centralizer_14 rfl 0 rfl ?_
  refine J_iload_n dX8_centralizer_15 rfl 1 rfl ?_
  refine J_i2l dX8_centralizer_16 ?_
  refine J_callVI (c := 7) (as := [.long ((x1 : Int32).toInt64)]) dX8_centralizer_17 (by decide) rfl (Nat.le_of_ble_eq_true rfl) (cw_X8_isVector _ (by decide)) q1895 q1897 qs93 q1898 np_X8_isVector (i_X8_isVector x0 ((x1 : Int32).toInt64)) jad_id rfl (fun v1 => ?_)
  refine J_if_eq (tgt := 36) dX8_centralizer_20 rfl ?_ ?_
  · refine J_aload_n dX8_centralizer_36 rfl 0 rfl ?_
    refine J_iconst (v := 2) dX8_centralizer_37 (by decide) ?_
    refine J_callVI (c := 7) (as := [.int 2]) dX8_centralizer_38 (by decide) rfl (Nat.le_of_ble_eq_true rfl) (cw_X8_refuse _ (by decide)) q1871 q1873 qs90 q1874 np_X8_refuse (i_X8_refuse x0 2) jad_id rfl (fun v2 => ?_)
    exact J_ireturn dX8_centralizer_41 rfl
  refine J_aload_n dX8_centralizer_23 rfl 0 rfl ?_
  refine J_getI dX8_centralizer_24 fl_X8_253 rfl (fun v3 => ?_)
  refine J_aload_n dX8_centralizer_27 rfl 0 rfl ?_
  refine J_iload_n dX8_centralizer_28 rfl 1 rfl ?_
  refine J_callVI (c := 7) (as := [.int x1]) dX8_centralizer_29 (by decide) rfl (Nat.le_of_ble_eq_true rfl) (cw_X8_rankOf _ (by decide)) q2045 q2047 qs120 q2048 np_X8_rankOf (i_X8_rankOf x0 x1) jad_id rfl (fun v4 => ?_)
  refine J_isub dX8_centralizer_32 ?_
  refine J_goto (tgt := 41) dX8_centralizer_33 rfl ?_
  exact J_ireturn dX8_centralizer_41 rfl
theorem i_X8_centralizer (x0 : Nat) (x1 : Int32) : Impl (ws_ yX8_centralizer cX8_centralizer 2 (some .int)) yX8_centralizer 5 false 0 0 [.ref x0, .int x1] (f_X8_centralizer x0 x1) injI := impl_of (plainFor_of_name (by decide)) (Nat.le_of_ble_eq_true rfl) (fun D dA => j_X8_centralizer D dA x0 x1)
theorem cw_X8_centralizer (Y : JY) (h : 6 ≤ Y.2.2.2.1) : JCw Y (ws_ yX8_centralizer cX8_centralizer 2 (some .int)) yX8_centralizer cX8_centralizer 2 (some .int) 5 := ⟨h, by decide, lw_meth q2044, q198, by decide, by decide⟩
theorem np_X8_centralizer : JNp yX8_centralizer.desc 1 := by decide +kernel
