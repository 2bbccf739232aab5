/-! printed by gen.py: what the bytecode does -/
set_option maxRecDepth 100000
-- BracketRoomModel.rank(I)I
abbrev Y_X8_rank : JY := (cX8_rank, yX8_rank.cls, 2, 5, yX8_rank.name, (some .int), [])
noncomputable def f_X8_rank (x0 : Nat) (x1 : Int32) : JM Mem Int32 :=
  jb (jputI 7 1 x0 0) fun _ =>
  jb (jputI 7 0 x0 0) fun _ =>
  jb (jcall 7 x0 (f_X8_askNow x0)) fun _ =>
  jb (jcall 7 x0 (f_X8_isVector x0 ((x1 : Int32).toInt64))) fun v1 =>
  if v1 = 0 then
    jb (jcall 7 x0 (f_X8_refuse x0 2)) fun v2 =>
    jp v2
  else
  jb (jcall 7 x0 (f_X8_rankOf x0 x1)) fun v3 =>
  jp v3
theorem j_X8_rank (D : va_G) (dA : Nat → ClassId) (x0 : Nat) (x1 : Int32) : J (PM D dA false) Y_X8_rank [(0, .ref x0), (1, .int x1)] [] 0 (f_X8_rank x0 x1) (FRet injI) := by
  unfold f_X8_rank
  refine J_aload_n dX8_rank_0 rfl 0 rfl ?_
  refine J_iconst (v := 0) dX8_rank_1 (by decide) ?_
  refine J_putI dX8_rank_2 ⟨fl_X8_132, Or.inl rfl⟩ rfl ?_
  refine J_aload_n dX8_rank_5 rfl 0 rfl ?_
  refine J_iconst (v := 0) dX8_rank_6 (by decide) ?_
  refine J_putI dX8_rank_7 ⟨fl_X8_135, Or.inl rfl⟩ rfl ?_
  refine J_aload_n dX8_rank_10 rfl 0 rfl ?_
  refine J_callVV (c := 7) (as := []) dX8_rank_11 (by decide) rfl (Nat.le_of_ble_eq_true rfl) (cw_X8_askNow _ (by decide)) q1862 q1864 qs88 q1865 np_X8_askNow (i_X8_askNow x0) jad_id rfl ?_
  refine J_aload_n dX8_rank_14 rfl 0 rfl ?_
  refine J_iload_n dX8_rank_15 rfl 1 rfl ?_
  refine J_i2l dX8_rank_16 ?_
  refine J_callVI (c := 7) (as := [.long ((x1 : Int32).toInt64)]) dX8_rank_17 (by decide) rfl (Nat.le_of_ble_eq_true rfl) (cw_X8_isVector _ (by decide)) q1895 q1897 qs93 q1898 np_X8_isVector (i_X8_isVector x0 ((x1 : Int32).toInt64)) jad_id rfl (fun v1 => ?_)
  refine J_if_eq (tgt := 31) dX8_rank_20 rfl ?_ ?_
  · refine J_aload_n dX8_rank_31 rfl 0 rfl ?_
    refine J_iconst (v := 2) dX8_rank_32 (by decide) ?_
    refine J_callVI (c := 7) (as := [.int 2]) dX8_rank_33 (by decide) rfl (Nat.le_of_ble_eq_true rfl) (cw_X8_refuse _ (by decide)) q1871 q1873 qs90 q1874 np_X8_refuse (i_X8_refuse x0 2) jad_id rfl (fun v2 => ?_)
    exact J_ireturn dX8_rank_36 rfl
  refine J_aload_n dX8_rank_23 rfl 0 rfl ?_
  refine J_iload_n dX8_rank_24 rfl 1 rfl ?_
  refine J_callVI (c := 7) (as := [.int x1]) dX8_rank_25 (by decide) rfl (Nat.le_of_ble_eq_true rfl) (cw_X8_rankOf _ (by decide)) q2045 q2047 qs120 q2048 np_X8_rankOf (i_X8_rankOf x0 x1) jad_id rfl (fun v3 => ?_)
  refine J_goto (tgt := 36) dX8_rank_28 rfl ?_
  exact J_ireturn dX8_rank_36 rfl
theorem i_X8_rank (x0 : Nat) (x1 : Int32) : Impl (ws_ yX8_rank cX8_rank 2 (some .int)) yX8_rank 5 false 0 0 [.ref x0, .int x1] (f_X8_rank x0 x1) injI := impl_of (plainFor_of_name (by decide)) (Nat.le_of_ble_eq_true rfl) (fun D dA => j_X8_rank D dA x0 x1)
theorem cw_X8_rank (Y : JY) (h : 6 ≤ Y.2.2.2.1) : JCw Y (ws_ yX8_rank cX8_rank 2 (some .int)) yX8_rank cX8_rank 2 (some .int) 5 := ⟨h, by decide, lw_meth q2052, q198, by decide, by decide⟩
theorem np_X8_rank : JNp yX8_rank.desc 1 := by decide +kernel
-- BracketRoomModel.lead(I)V
abbrev Y_X8_lead : JY := (cX8_lead, yX8_lead.cls, 4, 1, yX8_lead.name, none, [])
noncomputable def X8_lead_b132 (x0 : Nat) (x1 : Int32) (x2 : Int32) : JM Mem (Unit ⊕ (Int32)) :=
  jcont (x2 + 1)
theorem j_X8_lead_b132 (D : va_G) (dA : Nat → ClassId) (x0 : Nat) (x1 : Int32) (x2 : Int32) : J (PM D dA false) Y_X8_lead [(0, .ref x0), (1, .int x1), (2, .int x2)] [] 132 (X8_lead_b132 x0 x1 x2) (FLoop (FRet injU) 59 (fun (t : Int32) => [(0, .ref x0), (1, .int x1), (2, .int t)])) := by
  unfold X8_lead_b132
  refine J_iinc (v := x2 + 1) (env' := [(2, .int (x2 + 1)), (0, .ref x0), (1, .int x1)]) dX8_lead_132 2 rfl rfl (by decide) rfl ?_
  refine J_goto (tgt := 59) dX8_lead_135 rfl ?_
  exact J_cont [1, 2, 0] rfl
noncomputable def X8_lead_b126 (x0 : Nat) (x1 : Int32) (x2 : Int32) (x3 : Int32) : JM Mem ((Unit ⊕ (Int32)) ⊕ (Int32)) :=
  jcont (x3 + 1)
theorem j_X8_lead_b126 (D : va_G) (dA : Nat → ClassId) (x0 : Nat) (x1 : Int32) (x2 : Int32) (x3 : Int32) : J (PM D dA false) Y_X8_lead [(0, .ref x0), (1, .int x1), (2, .int x2), (3, .int x3)] [] 126 (X8_lead_b126 x0 x1 x2 x3) (FLoop (FLoop (FRet injU) 59 (fun (t : Int32) => [(0, .ref x0), (1, .int x1), (2, .int t)])) 76 (fun (t : Int32) => [(0, .ref x0), (1, .int x1), (2, .int x2), (3, .int t)])) := by
  unfold X8_lead_b126
  refine J_iinc (v := x3 + 1) (env' := [(3, .int (x3 + 1)), (0, .ref x0), (1, .int x1), (2, .int x2)]) dX8_lead_126 3 rfl rfl (by decide) rfl ?_
  refine J_goto (tgt := 76) dX8_lead_129 rfl ?_
  exact J_cont [1, 2, 3, 0] rfl
noncomputable def X8_lead_L76 (x0 : Nat) (x1 : Int32) (x2 : Int32) (x3 : Int32) : JM Mem ((Unit ⊕ (Int32)) ⊕ (Int32)) :=
  jb (jgetI 7 27 x0) fun v6 =>
  if v6 ≤ x3 then
    jinl (X8_lead_b132 x0 x1 x2)
  else
  if (x1 >>> (x3 &&& 31)) &&& 1 = 1 then
    X8_lead_b126 x0 x1 x2 x3
  else
  jb (jgetA 7 57 x0) fun v7 =>
  jb (jgetI 7 60 x0) fun v8 =>
  jb (jast_i v7 v8 x2) fun _ =>
  jb (jgetA 7 58 x0) fun v9 =>
  jb (jgetI 7 60 x0) fun v10 =>
  jb (jast_i v9 v10 x3) fun _ =>
  jb (jgetI 7 60 x0) fun v11 =>
  jb (jputI 7 60 x0 (v11 + 1)) fun _ =>
  X8_lead_b126 x0 x1 x2 x3
theorem j_X8_lead_L76 (D : va_G) (dA : Nat → ClassId) (x0 : Nat) (x1 : Int32) (x2 : Int32) (x3 : Int32) : J (PM D dA false) Y_X8_lead [(0, .ref x0), (1, .int x1), (2, .int x2), (3, .int x3)] [] 76 (X8_lead_L76 x0 x1 x2 x3) (FLoop (FLoop (FRet injU) 59 (fun (t : Int32) => [(0, .ref x0), (1, .int x1), (2, .int t)])) 76 (fun (t : Int32) => [(0, .ref x0), (1, .int x1), (2, .int x2), (3, .int t)])) := by
  unfold X8_lead_L76
  refine J_iload_n dX8_lead_76 rfl 3 rfl ?_
  refine J_aload_n dX8_lead_77 rfl 0 rfl ?_
  refine J_getI dX8_lead_78 fl_X8_253 rfl (fun v6 => ?_)
  refine J_icmp_ge (tgt := 132) dX8_lead_81 rfl ?_ ?_
  · refine J_inl ?_
    refine J_sub [0, 1, 2] rfl ?_
    exact j_X8_lead_b132 D dA x0 x1 x2
  refine J_iload_n dX8_lead_84 rfl 1 rfl ?_
  refine J_iload_n dX8_lead_85 rfl 3 rfl ?_
  refine J_ishr dX8_lead_86 ?_
  refine J_iconst (v := 1) dX8_lead_87 (by decide) ?_
  refine J_iand dX8_lead_88 ?_
  refine J_iconst (v := 1) dX8_lead_89 (by decide) ?_
  refine J_icmp_ne (tgt := 96) dX8_lead_90 rfl ?_ ?_
  · refine J_aload_n dX8_lead_96 rfl 0 rfl ?_
    refine J_getA dX8_lead_97 fl_X8_104 rfl (fun v7 => ?_)
    refine J_aload_n dX8_lead_100 rfl 0 rfl ?_
    refine J_getI dX8_lead_101 fl_X8_445 rfl (fun v8 => ?_)
    refine J_iload_n dX8_lead_104 rfl 2 rfl ?_
    refine J_iast dX8_lead_105 ?_
    refine J_aload_n dX8_lead_106 rfl 0 rfl ?_
    refine J_getA dX8_lead_107 fl_X8_107 rfl (fun v9 => ?_)
    refine J_aload_n dX8_lead_110 rfl 0 rfl ?_
    refine J_getI dX8_lead_111 fl_X8_445 rfl (fun v10 => ?_)
    refine J_iload_n dX8_lead_114 rfl 3 rfl ?_
    refine J_iast dX8_lead_115 ?_
    refine J_aload_n dX8_lead_116 rfl 0 rfl ?_
    refine J_dup dX8_lead_117 rfl ?_
    refine J_getI dX8_lead_118 fl_X8_445 rfl (fun v11 => ?_)
    refine J_iconst (v := 1) dX8_lead_121 (by decide) ?_
    refine J_iadd dX8_lead_122 ?_
    refine J_putI dX8_lead_123 ⟨fl_X8_445, Or.inl rfl⟩ rfl ?_
    refine J_sub [0, 1, 2, 3] rfl ?_
    exact j_X8_lead_b126 D dA x0 x1 x2 x3
  refine J_goto (tgt := 126) dX8_lead_93 rfl ?_
  refine J_sub [0, 1, 2, 3] rfl ?_
  exact j_X8_lead_b126 D dA x0 x1 x2 x3
noncomputable def X8_lead_L59 (x0 : Nat) (x1 : Int32) (x2 : Int32) : JM Mem (Unit ⊕ (Int32)) :=
  jb (jgetI 7 59 x0) fun v2 =>
  if v2 ≤ x2 then
    jinl (jp ())
  else
  jb (jgetA 7 56 x0) fun v3 =>
  jb (jald mI 0 v3 x2) fun v4 =>
  jlet (v4 + 1) fun y5 =>
  jloop (fun (t : Int32) => X8_lead_L76 x0 x1 x2 t) y5
theorem j_X8_lead_L59 (D : va_G) (dA : Nat → ClassId) (x0 : Nat) (x1 : Int32) (x2 : Int32) : J (PM D dA false) Y_X8_lead [(0, .ref x0), (1, .int x1), (2, .int x2)] [] 59 (X8_lead_L59 x0 x1 x2) (FLoop (FRet injU) 59 (fun (t : Int32) => [(0, .ref x0), (1, .int x1), (2, .int t)])) := by
  unfold X8_lead_L59
  refine J_iload_n dX8_lead_59 rfl 2 rfl ?_
  refine J_aload_n dX8_lead_60 rfl 0 rfl ?_
  refine J_getI dX8_lead_61 fl_X8_442 rfl (fun v2 => ?_)
  refine J_icmp_ge (tgt := 138) dX8_lead_64 rfl ?_ ?_
  · refine J_inl ?_
    exact J_return dX8_lead_138 rfl
  refine J_aload_n dX8_lead_67 rfl 0 rfl ?_
  refine J_getA dX8_lead_68 fl_X8_101 rfl (fun v3 => ?_)
  refine J_iload_n dX8_lead_71 rfl 2 rfl ?_
  refine J_iald dX8_lead_72 (fun v4 => ?_)
  refine J_iconst (v := 1) dX8_lead_73 (by decide) ?_
  refine J_iadd dX8_lead_74 ?_
  refine J_letI (fun y5 => ?_)
  refine J_istore_n (env' := [(3, .int y5), (0, .ref x0), (1, .int x1), (2, .int x2)]) dX8_lead_75 rfl (by decide) rfl ?_
  refine J_loop (he := fun (t : Int32) => [(0, .ref x0), (1, .int x1), (2, .int x2), (3, .int t)]) [1, 2, 3, 0] rfl (fun t => ?_)
  exact j_X8_lead_L76 D dA x0 x1 x2 t
noncomputable def X8_lead_b57 (x0 : Nat) (x1 : Int32) : JM Mem Unit :=
  jloop (fun (t : Int32) => X8_lead_L59 x0 x1 t) 0
theorem j_X8_lead_b57 (D : va_G) (dA : Nat → ClassId) (x0 : Nat) (x1 : Int32) : J (PM D dA false) Y_X8_lead [(0, .ref x0), (1, .int x1)] [] 57 (X8_lead_b57 x0 x1) (FRet injU) := by
  unfold X8_lead_b57
  refine J_iconst (v := 0) dX8_lead_57 (by decide) ?_
  refine J_istore_n (env' := [(2, .int 0), (0, .ref x0), (1, .int x1)]) dX8_lead_58 rfl (by decide) rfl ?_
  refine J_loop (he := fun (t : Int32) => [(0, .ref x0), (1, .int x1), (2, .int t)]) [1, 2, 0] rfl (fun t => ?_)
  exact j_X8_lead_L59 D dA x0 x1 t
noncomputable def X8_lead_b51 (x0 : Nat) (x1 : Int32) (x2 : Int32) : JM Mem (Unit ⊕ (Int32)) :=
  jcont (x2 + 1)
theorem j_X8_lead_b51 (D : va_G) (dA : Nat → ClassId) (x0 : Nat) (x1 : Int32) (x2 : Int32) : J (PM D dA false) Y_X8_lead [(0, .ref x0), (1, .int x1), (2, .int x2)] [] 51 (X8_lead_b51 x0 x1 x2) (FLoop (FRet injU) 12 (fun (t : Int32) => [(0, .ref x0), (1, .int x1), (2, .int t)])) := by
  unfold X8_lead_b51
  refine J_iinc (v := x2 + 1) (env' := [(2, .int (x2 + 1)), (0, .ref x0), (1, .int x1)]) dX8_lead_51 2 rfl rfl (by decide) rfl ?_
  refine J_goto (tgt := 12) dX8_lead_54 rfl ?_
  exact J_cont [1, 2, 0] rfl
noncomputable def X8_lead_L12 (x0 : Nat) (x1 : Int32) (x2 : Int32) : JM Mem (Unit ⊕ (Int32)) :=
  jb (jgetI 7 27 x0) fun v1 =>
  if v1 ≤ x2 then
    jinl (X8_lead_b57 x0 x1)
  else
  if (x1 >>> (x2 &&& 31)) &&& 1 = 0 then
    X8_lead_b51 x0 x1 x2
  else
  jb (jgetA 7 56 x0) fun v12 =>
  jb (jgetI 7 59 x0) fun v13 =>
  jb (jast_i v12 v13 x2) fun _ =>
  jb (jgetI 7 59 x0) fun v14 =>
  jb (jputI 7 59 x0 (v14 + 1)) fun _ =>
  X8_lead_b51 x0 x1 x2
theorem j_X8_lead_L12 (D : va_G) (dA : Nat → ClassId) (x0 : Nat) (x1 : Int32) (x2 : Int32) : J (PM D dA false) Y_X8_lead [(0, .ref x0), (1, .int x1), (2, .int x2)] [] 12 (X8_lead_L12 x0 x1 x2) (FLoop (FRet injU) 12 (fun (t : Int32) => [(0, .ref x0), (1, .int x1), (2, .int t)])) := by
  unfold X8_lead_L12
  refine J_iload_n dX8_lead_12 rfl 2 rfl ?_
  refine J_aload_n dX8_lead_13 rfl 0 rfl ?_
  refine J_getI dX8_lead_14 fl_X8_253 rfl (fun v1 => ?_)
  refine J_icmp_ge (tgt := 57) dX8_lead_17 rfl ?_ ?_
  · refine J_inl ?_
    refine J_sub [0, 1] rfl ?_
    exact j_X8_lead_b57 D dA x0 x1
  refine J_iload_n dX8_lead_20 rfl 1 rfl ?_
  refine J_iload_n dX8_lead_21 rfl 2 rfl ?_
  refine J_ishr dX8_lead_22 ?_
  refine J_iconst (v := 1) dX8_lead_23 (by decide) ?_
  refine J_iand dX8_lead_24 ?_
  refine J_if_ne (tgt := 31) dX8_lead_25 rfl ?_ ?_
  · refine J_aload_n dX8_lead_31 rfl 0 rfl ?_
    refine J_getA dX8_lead_32 fl_X8_101 rfl (fun v12 => ?_)
    refine J_aload_n dX8_lead_35 rfl 0 rfl ?_
    refine J_getI dX8_lead_36 fl_X8_442 rfl (fun v13 => ?_)
    refine J_iload_n dX8_lead_39 rfl 2 rfl ?_
    refine J_iast dX8_lead_40 ?_
    refine J_aload_n dX8_lead_41 rfl 0 rfl ?_
    refine J_dup dX8_lead_42 rfl ?_
    refine J_getI dX8_lead_43 fl_X8_442 rfl (fun v14 => ?_)
    refine J_iconst (v := 1) dX8_lead_46 (by decide) ?_
    refine J_iadd dX8_lead_47 ?_
    refine J_putI dX8_lead_48 ⟨fl_X8_442, Or.inl rfl⟩ rfl ?_
    refine J_sub [0, 1, 2] rfl ?_
    exact j_X8_lead_b51 D dA x0 x1 x2
  refine J_goto (tgt := 51) dX8_lead_28 rfl ?_
  refine J_sub [0, 1, 2] rfl ?_
  exact j_X8_lead_b51 D dA x0 x1 x2
noncomputable def f_X8_lead (x0 : Nat) (x1 : Int32) : JM Mem Unit :=
  jb (jputI 7 59 x0 0) fun _ =>
  jb (jputI 7 60 x0 0) fun _ =>
  jloop (fun (t : Int32) => X8_lead_L12 x0 x1 t) 0
theorem j_X8_lead (D : va_G) (dA : Nat → ClassId) (x0 : Nat) (x1 : Int32) : J (PM D dA false) Y_X8_lead [(0, .ref x0), (1, .int x1)] [] 0 (f_X8_lead x0 x1) (FRet injU) := by
  unfold f_X8_lead
  refine J_aload_n dX8_lead_0 rfl 0 rfl ?_
  refine J_iconst (v := 0) dX8_lead_1 (by decide) ?_
  refine J_putI dX8_lead_2 ⟨fl_X8_442, Or.inl rfl⟩ rfl ?_
  refine J_aload_n dX8_lead_5 rfl 0 rfl ?_
  refine J_iconst (v := 0) dX8_lead_6 (by decide) ?_
  refine J_putI dX8_lead_7 ⟨fl_X8_445, Or.inl rfl⟩ rfl ?_
  refine J_iconst (v := 0) dX8_lead_10 (by decide) ?_
  refine J_istore_n (env' := [(2, .int 0), (0, .ref x0), (1, .int x1)]) dX8_lead_11 rfl (by decide) rfl ?_
  refine J_loop (he := fun (t : Int32) => [(0, .ref x0), (1, .int x1), (2, .int t)]) [1, 2, 0] rfl (fun t => ?_)
  exact j_X8_lead_L12 D dA x0 x1 t
theorem i_X8_lead (x0 : Nat) (x1 : Int32) : Impl (ws_ yX8_lead cX8_lead 4 none) yX8_lead 1 false 0 0 [.ref x0, .int x1] (f_X8_lead x0 x1) injU := impl_of (plainFor_of_name (by decide)) (Nat.le_of_ble_eq_true rfl) (fun D dA => j_X8_lead D dA x0 x1)
theorem cw_X8_lead (Y : JY) (h : 2 ≤ Y.2.2.2.1) : JCw Y (ws_ yX8_lead cX8_lead 4 none) yX8_lead cX8_lead 4 none 1 := ⟨h, by decide, lw_meth q2064, q198, by decide, by decide⟩
theorem np_X8_lead : JNp yX8_lead.desc 1 := by decide +kernel
-- BracketRoomModel.spanBy(I)V
abbrev Y_X8_spanBy : JY := (cX8_spanBy, yX8_spanBy.cls, 4, 1, yX8_spanBy.name, none, [])
noncomputable def X8_spanBy_L61 (x0 : Nat) (x2 : Int32) (x3 : Int32) : JM Mem (Unit ⊕ (Int32 × Int32)) :=
  jb (jgetI 7 60 x0) fun v2 =>
  if v2 ≤ x3 then
    jinl (jp ())
  else
  jb (jgetA 7 30 x0) fun v3 =>
  jb (jgetA 7 57 x0) fun v4 =>
  jb (jald mI 0 v4 x3) fun v5 =>
  jb (jgetA 7 58 x0) fun v6 =>
  jb (jald mI 0 v6 x3) fun v7 =>
  jb (jgetI 7 26 x0) fun v8 =>
  jb (jrem x2 v8) fun v9 =>
  jb (jast_i v3 ((5 * v5) + v7) v9) fun _ =>
  jb (jgetI 7 26 x0) fun v10 =>
  jb (jdiv x2 v10) fun v11 =>
  jcont (v11, x3 + 1)
theorem j_X8_spanBy_L61 (D : va_G) (dA : Nat → ClassId) (x0 : Nat) (x2 : Int32) (x3 : Int32) : J (PM D dA false) Y_X8_spanBy [(0, .ref x0), (2, .int x2), (3, .int x3)] [] 61 (X8_spanBy_L61 x0 x2 x3) (FLoop (FRet injU) 61 (fun (t : Int32 × Int32) => [(0, .ref x0), (2, .int t.1), (3, .int t.2)])) := by
  unfold X8_spanBy_L61
  refine J_iload_n dX8_spanBy_61 rfl 2 rfl ?_
  refine J_aload_n dX8_spanBy_62 rfl 0 rfl ?_
  refine J_getI dX8_spanBy_63 fl_X8_445 rfl (fun v2 => ?_)
  refine J_icmp_ge (tgt := 108) dX8_spanBy_66 rfl ?_ ?_
  · refine J_inl ?_
    exact J_return dX8_spanBy_108 rfl
  refine J_aload_n dX8_spanBy_69 rfl 0 rfl ?_
  refine J_getA dX8_spanBy_70 fl_X8_53 rfl (fun v3 => ?_)
  refine J_iconst (v := 5) dX8_spanBy_73 (by decide) ?_
  refine J_aload_n dX8_spanBy_74 rfl 0 rfl ?_
  refine J_getA dX8_spanBy_75 fl_X8_104 rfl (fun v4 => ?_)
  refine J_iload_n dX8_spanBy_78 rfl 2 rfl ?_
  refine J_iald dX8_spanBy_79 (fun v5 => ?_)
  refine J_imul dX8_spanBy_80 ?_
  refine J_aload_n dX8_spanBy_81 rfl 0 rfl ?_
  refine J_getA dX8_spanBy_82 fl_X8_107 rfl (fun v6 => ?_)
  refine J_iload_n dX8_spanBy_85 rfl 2 rfl ?_
  refine J_iald dX8_spanBy_86 (fun v7 => ?_)
  refine J_iadd dX8_spanBy_87 ?_
  refine J_iload_n dX8_spanBy_88 rfl 1 rfl ?_
  refine J_aload_n dX8_spanBy_89 rfl 0 rfl ?_
  refine J_getI dX8_spanBy_90 fl_X8_250 rfl (fun v8 => ?_)
  refine J_irem dX8_spanBy_93 (fun v9 => ?_)
  refine J_iast dX8_spanBy_94 ?_
  refine J_iload_n dX8_spanBy_95 rfl 1 rfl ?_
  refine J_aload_n dX8_spanBy_96 rfl 0 rfl ?_
  refine J_getI dX8_spanBy_97 fl_X8_250 rfl (fun v10 => ?_)
  refine J_idiv dX8_spanBy_100 (fun v11 => ?_)
  refine J_istore_n (env' := [(2, .int v11), (0, .ref x0), (3, .int x3)]) dX8_spanBy_101 rfl (by decide) rfl ?_
  refine J_iinc (v := x3 + 1) (env' := [(3, .int (x3 + 1)), (2, .int v11), (0, .ref x0)]) dX8_spanBy_102 2 rfl rfl (by decide) rfl ?_
  refine J_goto (tgt := 61) dX8_spanBy_105 rfl ?_
  exact J_cont [2, 1, 0] rfl
noncomputable def X8_spanBy_b57 (x0 : Nat) (x1 : Int32) : JM Mem Unit :=
  jloop (fun (t : Int32 × Int32) => X8_spanBy_L61 x0 t.1 t.2) (x1, 0)
theorem j_X8_spanBy_b57 (D : va_G) (dA : Nat → ClassId) (x0 : Nat) (x1 : Int32) : J (PM D dA false) Y_X8_spanBy [(0, .ref x0), (1, .int x1)] [] 57 (X8_spanBy_b57 x0 x1) (FRet injU) := by
  unfold X8_spanBy_b57
  refine J_iload_n dX8_spanBy_57 rfl 1 rfl ?_
  refine J_istore_n (env' := [(2, .int x1), (0, .ref x0), (1, .int x1)]) dX8_spanBy_58 rfl (by decide) rfl ?_
  refine J_iconst (v := 0) dX8_spanBy_59 (by decide) ?_
  refine J_istore_n (env' := [(3, .int 0), (2, .int x1), (0, .ref x0), (1, .int x1)]) dX8_spanBy_60 rfl (by decide) rfl ?_
  refine J_loop (he := fun (t : Int32 × Int32) => [(0, .ref x0), (2, .int t.1), (3, .int t.2)]) [2, 1, 0] rfl (fun t => ?_)
  exact j_X8_spanBy_L61 D dA x0 t.1 t.2
noncomputable def X8_spanBy_b51 (x0 : Nat) (x1 : Int32) (x2 : Int32) : JM Mem (Unit ⊕ (Int32)) :=
  jcont (x2 + 1)
theorem j_X8_spanBy_b51 (D : va_G) (dA : Nat → ClassId) (x0 : Nat) (x1 : Int32) (x2 : Int32) : J (PM D dA false) Y_X8_spanBy [(0, .ref x0), (1, .int x1), (2, .int x2)] [] 51 (X8_spanBy_b51 x0 x1 x2) (FLoop (FRet injU) 2 (fun (t : Int32) => [(0, .ref x0), (1, .int x1), (2, .int t)])) := by
  unfold X8_spanBy_b51
  refine J_iinc (v := x2 + 1) (env' := [(2, .int (x2 + 1)), (0, .ref x0), (1, .int x1)]) dX8_spanBy_51 2 rfl rfl (by decide) rfl ?_
  refine J_goto (tgt := 2) dX8_spanBy_54 rfl ?_
  exact J_cont [1, 2, 0] rfl
noncomputable def X8_spanBy_b44 (x0 : Nat) (x1 : Int32) (x2 : Int32) (x3 : Int32) (s0 : Nat) (s1 : Int32) (s2 : Int32) : JM Mem ((Unit ⊕ (Int32)) ⊕ (Int32)) :=
  jb (jast_i s0 s1 s2) fun _ =>
  jcont (x3 + 1)
theorem j_X8_spanBy_b44 (D : va_G) (dA : Nat → ClassId) (x0 : Nat) (x1 : Int32) (x2 : Int32) (x3 : Int32) (s0 : Nat) (s1 : Int32) (s2 : Int32) : J (PM D dA false) Y_X8_spanBy [(0, .ref x0), (1, .int x1), (2, .int x2), (3, .int x3)] [.int s2, .int s1, .ref s0] 44 (X8_spanBy_b44 x0 x1 x2 x3 s0 s1 s2) (FLoop (FLoop (FRet injU) 2 (fun (t : Int32) => [(0, .ref x0), (1, .int x1), (2, .int t)])) 12 (fun (t : Int32) => [(0, .ref x0), (1, .int x1), (2, .int x2), (3, .int t)])) := by
  unfold X8_spanBy_b44
  refine J_iast dX8_spanBy_44 ?_
  refine J_iinc (v := x3 + 1) (env' := [(3, .int (x3 + 1)), (0, .ref x0), (1, .int x1), (2, .int x2)]) dX8_spanBy_45 3 rfl rfl (by decide) rfl ?_
  refine J_goto (tgt := 12) dX8_spanBy_48 rfl ?_
  exact J_cont [1, 2, 3, 0] rfl
noncomputable def X8_spanBy_L12 (x0 : Nat) (x1 : Int32) (x2 : Int32) (x3 : Int32) : JM Mem ((Unit ⊕ (Int32)) ⊕ (Int32)) :=
  jb (jgetI 7 27 x0) fun v12 =>
  if v12 ≤ x3 then
    jinl (X8_spanBy_b51 x0 x1 x2)
  else
  jb (jgetA 7 30 x0) fun v13 =>
  jb (jgetA 7 56 x0) fun v14 =>
  jb (jald mI 0 v14 x2) fun v15 =>
  if x3 = v15 then
    X8_spanBy_b44 x0 x1 x2 x3 v13 ((5 * x2) + x3) 1
  else
    X8_spanBy_b44 x0 x1 x2 x3 v13 ((5 * x2) + x3) 0
theorem j_X8_spanBy_L12 (D : va_G) (dA : Nat → ClassId) (x0 : Nat) (x1 : Int32) (x2 : Int32) (x3 : Int32) : J (PM D dA false) Y_X8_spanBy [(0, .ref x0), (1, .int x1), (2, .int x2), (3, .int x3)] [] 12 (X8_spanBy_L12 x0 x1 x2 x3) (FLoop (FLoop (FRet injU) 2 (fun (t : Int32) => [(0, .ref x0), (1, .int x1), (2, .int t)])) 12 (fun (t : Int32) => [(0, .ref x0), (1, .int x1), (2, .int x2), (3, .int t)])) := by
  unfold X8_spanBy_L12
  refine J_iload_n dX8_spanBy_12 rfl 3 rfl ?_
  refine J_aload_n dX8_spanBy_13 rfl 0 rfl ?_
  refine J_getI dX8_spanBy_14 fl_X8_253 rfl (fun v12 => ?_)
  refine J_icmp_ge (tgt := 51) dX8_spanBy_17 rfl ?_ ?_
  · refine J_inl ?_
    refine J_sub [0, 1, 2] rfl ?_
    exact j_X8_spanBy_b51 D dA x0 x1 x2
  refine J_aload_n dX8_spanBy_20 rfl 0 rfl ?_
  refine J_getA dX8_spanBy_21 fl_X8_53 rfl (fun v13 => ?_)
  refine J_iconst (v := 5) dX8_spanBy_24 (by decide) ?_
  refine J_iload_n dX8_spanBy_25 rfl 2 rfl ?_
  refine J_imul dX8_spanBy_26 ?_
  refine J_iload_n dX8_spanBy_27 rfl 3 rfl ?_
  refine J_iadd dX8_spanBy_28 ?_
  refine J_iload_n dX8_spanBy_29 rfl 3 rfl ?_
  refine J_aload_n dX8_spanBy_30 rfl 0 rfl ?_
  refine J_getA dX8_spanBy_31 fl_X8_101 rfl (fun v14 => ?_)
  refine J_iload_n dX8_spanBy_34 rfl 2 rfl ?_
  refine J_iald dX8_spanBy_35 (fun v15 => ?_)
  refine J_icmp_ne (tgt := 43) dX8_spanBy_36 rfl ?_ ?_
  · refine J_iconst (v := 0) dX8_spanBy_43 (by decide) ?_
    refine J_sub [0, 1, 2, 3] rfl ?_
    exact j_X8_spanBy_b44 D dA x0 x1 x2 x3 v13 ((5 * x2) + x3) 0
  refine J_iconst (v := 1) dX8_spanBy_39 (by decide) ?_
  refine J_goto (tgt := 44) dX8_spanBy_40 rfl ?_
  refine J_sub [0, 1, 2, 3] rfl ?_
  exact j_X8_spanBy_b44 D dA x0 x1 x2 x3 v13 ((5 * x2) + x3) 1
noncomputable def X8_spanBy_L2 (x0 : Nat) (x1 : Int32) (x2 : Int32) : JM Mem (Unit ⊕ (Int32)) :=
  jb (jgetI 7 59 x0) fun v1 =>
  if v1 ≤ x2 then
    jinl (X8_spanBy_b57 x0 x1)
  else
    jloop (fun (t : Int32) => X8_spanBy_L12 x0 x1 x2 t) 0
theorem j_X8_spanBy_L2 (D : va_G) (dA : Nat → ClassId) (x0 : Nat) (x1 : Int32) (x2 : Int32) : J (PM D dA false) Y_X8_spanBy [(0, .ref x0), (1, .int x1), (2, .int x2)] [] 2 (X8_spanBy_L2 x0 x1 x2) (FLoop (FRet injU) 2 (fun (t : Int32) => [(0, .ref x0), (1, .int x1), (2, .int t)])) := by
  unfold X8_spanBy_L2
  refine J_iload_n dX8_spanBy_2 rfl 2 rfl ?_
  refine J_aload_n dX8_spanBy_3 rfl 0 rfl ?_
  refine J_getI dX8_spanBy_4 fl_X8_442 rfl (fun v1 => ?_)
  refine J_icmp_ge (tgt := 57) dX8_spanBy_7 rfl ?_ ?_
  · refine J_inl ?_
    refine J_sub [0, 1] rfl ?_
    exact j_X8_spanBy_b57 D dA x0 x1
  refine J_iconst (v := 0) dX8_spanBy_10 (by decide) ?_
  refine J_istore_n (env' := [(3, .int 0), (0, .ref x0), (1, .int x1), (2, .int x2)]) dX8_spanBy_11 rfl (by decide) rfl ?_
  refine J_loop (he := fun (t : Int32) => [(0, .ref x0), (1, .int x1), (2, .int x2), (3, .int t)]) [1, 2, 3, 0] rfl (fun t => ?_)
  exact j_X8_spanBy_L12 D dA x0 x1 x2 t
noncomputable def f_X8_spanBy (x0 : Nat) (x1 : Int32) : JM Mem Unit :=
  jloop (fun (t : Int32) => X8_spanBy_L2 x0 x1 t) 0
theorem j_X8_spanBy (D : va_G) (dA : Nat → ClassId) (x0 : Nat) (x1 : Int32) : J (PM D dA false) Y_X8_spanBy [(0, .ref x0), (1, .int x1)] [] 0 (f_X8_spanBy x0 x1) (FRet injU) := by
  unfold f_X8_spanBy
  refine J_iconst (v := 0) dX8_spanBy_0 (by decide) ?_
  refine J_istore_n (env' := [(2, .int 0), (0, .ref x0), (1, .int x1)]) dX8_spanBy_1 rfl (by decide) rfl ?_
  refine J_loop (he := fun (t : Int32) => [(0, .ref x0), (1, .int x1), (2, .int t)]) [1, 2, 0] rfl (fun t => ?_)
  exact j_X8_spanBy_L2 D dA x0 x1 t
theorem i_X8_spanBy (x0 : Nat) (x1 : Int32) : Impl (ws_ yX8_spanBy cX8_spanBy 4 none) yX8_spanBy 1 false 0 0 [.ref x0, .int x1] (f_X8_spanBy x0 x1) injU := impl_of (plainFor_of_name (by decide)) (Nat.le_of_ble_eq_true rfl) (fun D dA => j_X8_spanBy D dA x0 x1)
theorem cw_X8_spanBy (Y : JY) (h : 2 ≤ Y.2.2.2.1) : JCw Y (ws_ yX8_spanBy cX8_spanBy 4 none) yX8_spanBy cX8_spanBy 4 none 1 := ⟨h, by decide, lw_meth q2068, q198, by decide, by decide⟩
theorem np_X8_spanBy : JNp yX8_spanBy.desc 1 := by decide +kernel
-- BracketRoomModel.holds([II[II)Z
abbrev Y_X8_holds : JY := (cX8_holds, yX8_holds.cls, 5, 3, yX8_holds.name, (some .boolean), [])
noncomputable def f_X8_holds (x0 : Nat) (x1 : Nat) (x2 : Int32) (x3 : Nat) (x4 : Int32) : JM Mem Int32 :=
  jb (jcall 7 x0 (f_X8_reduce x0 x1 x2 x3 x4)) fun _ =>
  jb (jgetA 7 54 x0) fun v1 =>
  jb (jcall 7 x0 (f_X8_leadOf x0 v1 0)) fun v2 =>
  if 0 ≤ v2 then
    jp 0
  else
    jp 1
theorem j_X8_holds (D : va_G) (dA : Nat → ClassId) (x0 : Nat) (x1 : Nat) (x2 : Int32) (x3 : Nat) (x4 : Int32) : J (PM D dA false) Y_X8_holds [(0, .ref x0), (1, .ref x1), (2, .int x2), (3, .ref x3), (4, .int x4)] [] 0 (f_X8_holds x0 x1 x2 x3 x4) (FRet injI) := by
  unfold f_X8_holds
  refine J_aload_n dX8_holds_0 rfl 0 rfl ?_
  refine J_aload_n dX8_holds_1 rfl 1 rfl ?_
  refine J_iload_n dX8_holds_2 rfl 2 rfl ?_
  refine J_aload_n dX8_holds_3 rfl 3 rfl ?_
  refine J_iload dX8_holds_4 4 rfl ?_
  refine J_callVV (c := 7) (as := [.ref x1, .int x2, .ref x3, .int x4]) dX8_holds_6 (by decide) rfl (Nat.le_of_ble_eq_true rfl) (cw_X8_reduce _ (by decide)) q1988 q1990 qs110 q1991 np_X8_reduce (i_X8_reduce x0 x1 x2 x3 x4) jad_id rfl ?_
  refine J_aload_n dX8_holds_9 rfl 0 rfl ?_
  refine J_aload_n dX8_holds_10 rfl 0 rfl ?_
  refine J_getA dX8_holds_11 fl_X8_95 rfl (fun v1 => ?_)
  refine J_iconst (v := 0) dX8_holds_14 (by decide) ?_
  refine J_callVI (c := 7) (as := [.ref v1, .int 0]) dX8_holds_15 (by decide) rfl (Nat.le_of_ble_eq_true rfl) (cw_X8_leadOf _ (by decide)) q1939 q1941 qs103 q1942 np_X8_leadOf (i_X8_leadOf x0 v1 0) jad_id rfl (fun v2 => ?_)
  refine J_if_ge (tgt := 25) dX8_holds_18 rfl ?_ ?_
  · refine J_iconst (v := 0) dX8_holds_25 (by decide) ?_
    exact J_zreturn0 dX8_holds_26 rfl
  refine J_iconst (v := 1) dX8_holds_21 (by decide) ?_
  refine J_goto (tgt := 26) dX8_holds_22 rfl ?_
  exact J_zreturn1 dX8_holds_26 rfl
theorem i_X8_holds (x0 : Nat) (x1 : Nat) (x2 : Int32) (x3 : Nat) (x4 : Int32) : Impl (ws_ yX8_holds cX8_holds 5 (some .boolean)) yX8_holds 3 false 0 0 [.ref x0, .ref x1, .int x2, .ref x3, .int x4] (f_X8_holds x0 x1 x2 x3 x4) injI := impl_of (plainFor_of_name (by decide)) (Nat.le_of_ble_eq_true rfl) (fun D dA => j_X8_holds D dA x0 x1 x2 x3 x4)
theorem cw_X8_holds (Y : JY) (h : 4 ≤ Y.2.2.2.1) : JCw Y (ws_ yX8_holds cX8_holds 5 (some .boolean)) yX8_holds cX8_holds 5 (some .boolean) 3 := ⟨h, by decide, lw_meth q2080, q198, by decide, by decide⟩
theorem np_X8_holds : JNp yX8_holds.desc 4 := by decide +kernel
-- BracketRoomModel.isIdeal(I)Z
abbrev Y_X8_isIdeal : JY := (cX8_isIdeal, yX8_isIdeal.cls, 4, 4, yX8_isIdeal.name, (some .boolean), [])
noncomputable def X8_isIdeal_b71 (x0 : Nat) (x1 : Int32) (x2 : Int32) : JM Mem (Int32 ⊕ (Int32)) :=
  jcont (x2 + 1)
theorem j_X8_isIdeal_b71 (D : va_G) (dA : Nat → ClassId) (x0 : Nat) (x1 : Int32) (x2 : Int32) : J (PM D dA false) Y_X8_isIdeal [(0, .ref x0), (1, .int x1), (2, .int x2)] [] 71 (X8_isIdeal_b71 x0 x1 x2) (FLoop (FRet injI) 2 (fun (t : Int32) => [(0, .ref x0), (1, .int x1), (2, .int t)])) := by
  unfold X8_isIdeal_b71
  refine J_iinc (v := x2 + 1) (env' := [(2, .int (x2 + 1)), (0, .ref x0), (1, .int x1)]) dX8_isIdeal_71 2 rfl rfl (by decide) rfl ?_
  refine J_goto (tgt := 2) dX8_isIdeal_74 rfl ?_
  exact J_cont [1, 2, 0] rfl
noncomputable def X8_isIdeal_L9 (x0 : Nat) (x1 : Int32) (x2 : Int32) (x3 : Int32) : JM Mem ((Int32 ⊕ (Int32)) ⊕ (Int32)) :=
  jb (jgetI 7 27 x0) fun v1 =>
  if v1 ≤ x3 then
    jinl (X8_isIdeal_b71 x0 x1 x2)
  else
  jb (jgetA 7 34 x0) fun v2 =>
  jb (jcall 7 x0 (f_X8_unit x0 x3 v2)) fun _ =>
  jb (jgetA 7 30 x0) fun v3 =>
  jb (jgetA 7 34 x0) fun v4 =>
  jb (jgetA 7 36 x0) fun v5 =>
  jb (jcall 7 x0 (f_X8_bracketOf x0 v3 (5 * x2) v4 0 v5)) fun _ =>
  jb (jgetA 7 30 x0) fun v6 =>
  jb (jgetA 7 36 x0) fun v7 =>
  jb (jcall 7 x0 (f_X8_holds x0 v6 x1 v7 0)) fun v8 =>
  if v8 = 0 then
    jinl (jinl (jp 0))
  else
    jcont (x3 + 1)
theorem j_X8_isIdeal_L9 (D : va_G) (dA : Nat → ClassId) (x0 : Nat) (x1 : Int32) (x2 : Int32) (x3 : Int32) : J (PM D dA false) Y_X8_isIdeal [(0, .ref x0), (1, .int x1), (2, .int x2), (3, .int x3)] [] 9 (X8_isIdeal_L9 x0 x1 x2 x3) (FLoop (FLoop (FRet injI) 2 (fun (t : Int32) => [(0, .ref x0), (1, .int x1), (2, .int t)])) 9 (fun (t : Int32) => [(0, .ref x0), (1, .int x1), (2, .int x2), (3, .int t)])) := by
  unfold X8_isIdeal_L9
  refine J_iload_n dX8_isIdeal_9 rfl 3 rfl ?_
  refine J_aload_n dX8_isIdeal_10 rfl 0 rfl ?_
  refine J_getI dX8_isIdeal_11 fl_X8_253 rfl (fun v1 => ?_)
  refine J_icmp_ge (tgt := 71) dX8_isIdeal_14 rfl ?_ ?_
  · refine J_inl ?_
    refine J_sub [0, 1, 2] rfl ?_
    exact j_X8_isIdeal_b71 D dA x0 x1 x2
  refine J_aload_n dX8_isIdeal_17 rfl 0 rfl ?_
  refine J_iload_n dX8_isIdeal_18 rfl 3 rfl ?_
  refine J_aload_n dX8_isIdeal_19 rfl 0 rfl ?_
  refine J_getA dX8_isIdeal_20 fl_X8_65 rfl (fun v2 => ?_)
  refine J_callVV (c := 7) (as := [.int x3, .ref v2]) dX8_isIdeal_23 (by decide) rfl (Nat.le_of_ble_eq_true rfl) (cw_X8_unit _ (by decide)) q1935 q1937 qs102 q1938 np_X8_unit (i_X8_unit x0 x3 v2) jad_id rfl ?_
  refine J_aload_n dX8_isIdeal_26 rfl 0 rfl ?_
  refine J_aload_n dX8_isIdeal_27 rfl 0 rfl ?_
  refine J_getA dX8_isIdeal_28 fl_X8_53 rfl (fun v3 => ?_)
  refine J_iconst (v := 5) dX8_isIdeal_31 (by decide) ?_
  refine J_iload_n dX8_isIdeal_32 rfl 2 rfl ?_
  refine J_imul dX8_isIdeal_33 ?_
  refine J_aload_n dX8_isIdeal_34 rfl 0 rfl ?_
  refine J_getA dX8_isIdeal_35 fl_X8_65 rfl (fun v4 => ?_)
  refine J_iconst (v := 0) dX8_isIdeal_38 (by decide) ?_
  refine J_aload_n dX8_isIdeal_39 rfl 0 rfl ?_
  refine J_getA dX8_isIdeal_40 fl_X8_71 rfl (fun v5 => ?_)
  refine J_callVV (c := 7) (as := [.ref v3, .int (5 * x2), .ref v4, .int 0, .ref v5]) dX8_isIdeal_43 (by decide) rfl (Nat.le_of_ble_eq_true rfl) (cw_X8_bracketOf _ (by decide)) q1911 q1913 qs97 q1914 np_X8_bracketOf (i_X8_bracketOf x0 v3 (5 * x2) v4 0 v5) jad_id rfl ?_
  refine J_aload_n dX8_isIdeal_46 rfl 0 rfl ?_
  refine J_aload_n dX8_isIdeal_47 rfl 0 rfl ?_
  refine J_getA dX8_isIdeal_48 fl_X8_53 rfl (fun v6 => ?_)
  refine J_iload_n dX8_isIdeal_51 rfl 1 rfl ?_
  refine J_aload_n dX8_isIdeal_52 rfl 0 rfl ?_
  refine J_getA dX8_isIdeal_53 fl_X8_71 rfl (fun v7 => ?_)
  refine J_iconst (v := 0) dX8_isIdeal_56 (by decide) ?_
  refine J_callVI (c := 7) (as := [.ref v6, .int x1, .ref v7, .int 0]) dX8_isIdeal_57 (by decide) rfl (Nat.le_of_ble_eq_true rfl) (cw_X8_holds _ (by decide)) q2077 q2079 qs126 q2080 np_X8_holds (i_X8_holds x0 v6 x1 v7 0) jad_id rfl (fun v8 => ?_)
  refine J_if_ne (tgt := 65) dX8_isIdeal_60 rfl ?_ ?_
  · refine J_iinc (v := x3 + 1) (env' := [(3, .int (x3 + 1)), (0, .ref x0), (1, .int x1), (2, .int x2)]) dX8_isIdeal_65 3 rfl rfl (by decide) rfl ?_
    refine J_goto (tgt := 9) dX8_isIdeal_68 rfl ?_
    exact J_cont [1, 2, 3, 0] rfl
  refine J_inl ?_
  refine J_inl ?_
  refine J_iconst (v := 0) dX8_isIdeal_63 (by decide) ?_
  exact J_zreturn0 dX8_isIdeal_64 rfl
noncomputable def X8_isIdeal_L2 (x0 : Nat) (x1 : Int32) (x2 : Int32) : JM Mem (Int32 ⊕ (Int32)) :=
  if x1 ≤ x2 then
    jinl (jp 1)
  else
    jloop (fun (t : Int32) => X8_isIdeal_L9 x0 x1 x2 t) 0
theorem j_X8_isIdeal_L2 (D : va_G) (dA : Nat → ClassId) (x0 : Nat) (x1 : Int32) (x2 : Int32) : J (PM D dA false) Y_X8_isIdeal [(0, .ref x0), (1, .int x1), (2, .int x2)] [] 2 (X8_isIdeal_L2 x0 x1 x2) (FLoop (FRet injI) 2 (fun (t : Int32) => [(0, .ref x0), (1, .int x1), (2, .int t)])) := by
  unfold X8_isIdeal_L2
  refine J_iload_n dX8_isIdeal_2 rfl 2 rfl ?_
  refine J_iload_n dX8_isIdeal_3 rfl 1 rfl ?_
  refine J_icmp_ge (tgt := 77) dX8_isIdeal_4 rfl ?_ ?_
  · refine J_inl ?_
    refine J_iconst (v := 1) dX8_isIdeal_77 (by decide) ?_
    exact J_zreturn1 dX8_isIdeal_78 rfl
  refine J_iconst (v := 0) dX8_isIdeal_7 (by decide) ?_
  refine J_istore_n (env' := [(3, .int 0), (0, .ref x0), (1, .int x1), (2, .int x2)]) dX8_isIdeal_8 rfl (by decide) rfl ?_
  refine J_loop (he := fun (t : Int32) => [(0, .ref x0), (1, .int x1), (2, .int x2), (3, .int t)]) [1, 2, 3, 0] rfl (fun t => ?_)
  exact j_X8_isIdeal_L9 D dA x0 x1 x2 t
noncomputable def f_X8_isIdeal (x0 : Nat) (x1 : Int32) : JM Mem Int32 :=
  jloop (fun (t : Int32) => X8_isIdeal_L2 x0 x1 t) 0
theorem j_X8_isIdeal (D : va_G) (dA : Nat → ClassId) (x0 : Nat) (x1 : Int32) : J (PM D dA false) Y_X8_isIdeal [(0, .ref x0), (1, .int x1)] [] 0 (f_X8_isIdeal x0 x1) (FRet injI) := by
  unfold f_X8_isIdeal
  refine J_iconst (v := 0) dX8_isIdeal_0 (by decide) ?_
  refine J_istore_n (env' := [(2, .int 0), (0, .ref x0), (1, .int x1)]) dX8_isIdeal_1 rfl (by decide) rfl ?_
  refine J_loop (he := fun (t : Int32) => [(0, .ref x0), (1, .int x1), (2, .int t)]) [1, 2, 0] rfl (fun t => ?_)
  exact j_X8_isIdeal_L2 D dA x0 x1 t
theorem i_X8_isIdeal (x0 : Nat) (x1 : Int32) : Impl (ws_ yX8_isIdeal cX8_isIdeal 4 (some .boolean)) yX8_isIdeal 4 false 0 0 [.ref x0, .int x1] (f_X8_isIdeal x0 x1) injI := impl_of (plainFor_of_name (by decide)) (Nat.le_of_ble_eq_true rfl) (fun D dA => j_X8_isIdeal D dA x0 x1)
theorem cw_X8_isIdeal (Y : JY) (h : 5 ≤ Y.2.2.2.1) : JCw Y (ws_ yX8_isIdeal cX8_isIdeal 4 (some .boolean)) yX8_isIdeal cX8_isIdeal 4 (some .boolean) 4 := ⟨h, by decide, lw_meth q2076, q198, by decide, by decide⟩
theorem np_X8_isIdeal : JNp yX8_isIdeal.desc 1 := by decide +kernel
-- BracketRoomModel.isPart(I)Z
abbrev Y_X8_isPart : JY := (cX8_isPart, yX8_isPart.cls, 4, 4, yX8_isPart.name, (some .boolean), [])
noncomputable def X8_isPart_b63 (x0 : Nat) (x1 : Int32) (x2 : Int32) : JM Mem (Int32 ⊕ (Int32)) :=
  jcont (x2 + 1)
theorem j_X8_isPart_b63 (D : va_G) (dA : Nat → ClassId) (x0 : Nat) (x1 : Int32) (x2 : Int32) : J (PM D dA false) Y_X8_isPart [(0, .ref x0), (1, .int x1), (2, .int x2)] [] 63 (X8_isPart_b63 x0 x1 x2) (FLoop (FRet injI) 2 (fun (t : Int32) => [(0, .ref x0), (1, .int x1), (2, .int t)])) := by
  unfold X8_isPart_b63
  refine J_iinc (v := x2 + 1) (env' := [(2, .int (x2 + 1)), (0, .ref x0), (1, .int x1)]) dX8_isPart_63 2 rfl rfl (by decide) rfl ?_
  refine J_goto (tgt := 2) dX8_isPart_66 rfl ?_
  exact J_cont [1, 2, 0] rfl
noncomputable def X8_isPart_L11 (x0 : Nat) (x1 : Int32) (x2 : Int32) (x3 : Int32) : JM Mem ((Int32 ⊕ (Int32)) ⊕ (Int32)) :=
  if x1 ≤ x3 then
    jinl (X8_isPart_b63 x0 x1 x2)
  else
  jb (jgetA 7 30 x0) fun v2 =>
  jb (jgetA 7 30 x0) fun v3 =>
  jb (jgetA 7 36 x0) fun v4 =>
  jb (jcall 7 x0 (f_X8_bracketOf x0 v2 (5 * x2) v3 (5 * x3) v4)) fun _ =>
  jb (jgetA 7 30 x0) fun v5 =>
  jb (jgetA 7 36 x0) fun v6 =>
  jb (jcall 7 x0 (f_X8_holds x0 v5 x1 v6 0)) fun v7 =>
  if v7 = 0 then
    jinl (jinl (jp 0))
  else
    jcont (x3 + 1)
theorem j_X8_isPart_L11 (D : va_G) (dA : Nat → ClassId) (x0 : Nat) (x1 : Int32) (x2 : Int32) (x3 : Int32) : J (PM D dA false) Y_X8_isPart [(0, .ref x0), (1, .int x1), (2, .int x2), (3, .int x3)] [] 11 (X8_isPart_L11 x0 x1 x2 x3) (FLoop (FLoop (FRet injI) 2 (fun (t : Int32) => [(0, .ref x0), (1, .int x1), (2, .int t)])) 11 (fun (t : Int32) => [(0, .ref x0), (1, .int x1), (2, .int x2), (3, .int t)])) := by
  unfold X8_isPart_L11
  refine J_iload_n dX8_isPart_11 rfl 3 rfl ?_
  refine J_iload_n dX8_isPart_12 rfl 1 rfl ?_
  refine J_icmp_ge (tgt := 63) dX8_isPart_13 rfl ?_ ?_
  · refine J_inl ?_
    refine J_sub [0, 1, 2] rfl ?_
    exact j_X8_isPart_b63 D dA x0 x1 x2
  refine J_aload_n dX8_isPart_16 rfl 0 rfl ?_
  refine J_aload_n dX8_isPart_17 rfl 0 rfl ?_
  refine J_getA dX8_isPart_18 fl_X8_53 rfl (fun v2 => ?_)
  refine J_iconst (v := 5) dX8_isPart_21 (by decide) ?_
  refine J_iload_n dX8_isPart_22 rfl 2 rfl ?_
  refine J_imul dX8_isPart_23 ?_
  refine J_aload_n dX8_isPart_24 rfl 0 rfl ?_
  refine J_getA dX8_isPart_25 fl_X8_53 rfl (fun v3 => ?_)
  refine J_iconst (v := 5) dX8_isPart_28 (by decide) ?_
  refine J_iload_n dX8_isPart_29 rfl 3 rfl ?_
  refine J_imul dX8_isPart_30 ?_
  refine J_aload_n dX8_isPart_31 rfl 0 rfl ?_
  refine J_getA dX8_isPart_32 fl_X8_71 rfl (fun v4 => ?_)
  refine J_callVV (c := 7) (as := [.ref v2, .int (5 * x2), .ref v3, .int (5 * x3), .ref v4]) dX8_isPart_35 (by decide) rfl (Nat.le_of_ble_eq_true rfl) (cw_X8_bracketOf _ (by decide)) q1911 q1913 qs97 q1914 np_X8_bracketOf (i_X8_bracketOf x0 v2 (5 * x2) v3 (5 * x3) v4) jad_id rfl ?_
  refine J_aload_n dX8_isPart_38 rfl 0 rfl ?_
  refine J_aload_n dX8_isPart_39 rfl 0 rfl ?_
  refine J_getA dX8_isPart_40 fl_X8_53 rfl (fun v5 => ?_)
  refine J_iload_n dX8_isPart_43 rfl 1 rfl ?_
  refine J_aload_n dX8_isPart_44 rfl 0 rfl ?_
  refine J_getA dX8_isPart_45 fl_X8_71 rfl (fun v6 => ?_)
  refine J_iconst (v := 0) dX8_isPart_48 (by decide) ?_
  refine J_callVI (c := 7) (as := [.ref v5, .int x1, .ref v6, .int 0]) dX8_isPart_49 (by decide) rfl (Nat.le_of_ble_eq_true rfl) (cw_X8_holds _ (by decide)) q2077 q2079 qs126 q2080 np_X8_holds (i_X8_holds x0 v5 x1 v6 0) jad_id rfl (fun v7 => ?_)
  refine J_if_ne (tgt := 57) dX8_isPart_52 rfl ?_ ?_
  · refine J_iinc (v := x3 + 1) (env' := [(3, .int (x3 + 1)), (0, .ref x0), (1, .int x1), (2, .int x2)]) dX8_isPart_57 3 rfl rfl (by decide) rfl ?_
    refine J_goto (tgt := 11) dX8_isPart_60 rfl ?_
    exact J_cont [1, 2, 3, 0] rfl
  refine J_inl ?_
  refine J_inl ?_
  refine J_iconst (v := 0) dX8_isPart_55 (by decide) ?_
  exact J_zreturn0 dX8_isPart_56 rfl
noncomputable def X8_isPart_L2 (x0 : Nat) (x1 : Int32) (x2 : Int32) : JM Mem (Int32 ⊕ (Int32)) :=
  if x1 ≤ x2 then
    jinl (jp 1)
  else
  jlet (x2 + 1) fun y1 =>
  jloop (fun (t : Int32) => X8_isPart_L11 x0 x1 x2 t) y1
theorem j_X8_isPart_L2 (D : va_G) (dA : Nat → ClassId) (x0 : Nat) (x1 : Int32) (x2 : Int32) : J (PM D dA false) Y_X8_isPart [(0, .ref x0), (1, .int x1), (2, .int x2)] [] 2 (X8_isPart_L2 x0 x1 x2) (FLoop (FRet injI) 2 (fun (t : Int32) => [(0, .ref x0), (1, .int x1), (2, .int t)])) := by
  unfold X8_isPart_L2
  refine J_iload_n dX8_isPart_2 rfl 2 rfl ?_
  refine J_iload_n dX8_isPart_3 rfl 1 rfl ?_
  refine J_icmp_ge (tgt := 69) dX8_isPart_4 rfl ?_ ?_
  · refine J_inl ?_
    refine J_iconst (v := 1) dX8_isPart_69 (by decide) ?_
    exact J_zreturn1 dX8_isPart_70 rfl
  refine J_iload_n dX8_isPart_7 rfl 2 rfl ?_
  refine J_iconst (v := 1) dX8_isPart_8 (by decide) ?_
  refine J_iadd dX8_isPart_9 ?_
  refine J_letI (fun y1 => ?_)
  refine J_istore_n (env' := [(3, .int y1), (0, .ref x0), (1, .int x1), (2, .int x2)]) dX8_isPart_10 rfl (by decide) rfl ?_
  refine J_loop (he := fun (t : Int32) => [(0, .ref x0), (1, .int x1), (2, .int x2), (3, .int t)]) [1, 2, 3, 0] rfl (fun t => ?_)
  exact j_X8_isPart_L11 D dA x0 x1 x2 t
noncomputable def f_X8_isPart (x0 : Nat) (x1 : Int32) : JM Mem Int32 :=
  jloop (fun (t : Int32) => X8_isPart_L2 x0 x1 t) 0
theorem j_X8_isPart (D : va_G) (dA : Nat → ClassId) (x0 : Nat) (x1 : Int32) : J (PM D dA false) Y_X8_isPart [(0, .ref x0), (1, .int x1)] [] 0 (f_X8_isPart x0 x1) (FRet injI) := by
  unfold f_X8_isPart
  refine J_iconst (v := 0) dX8_isPart_0 (by decide) ?_
  refine J_istore_n (env' := [(2, .int 0), (0, .ref x0), (1, .int x1)]) dX8_isPart_1 rfl (by decide) rfl ?_
  refine J_loop (he := fun (t : Int32) => [(0, .ref x0), (1, .int x1), (2, .int t)]) [1, 2, 0] rfl (fun t => ?_)
  exact j_X8_isPart_L2 D dA x0 x1 t
theorem i_X8_isPart (x0 : Nat) (x1 : Int32) : Impl (ws_ yX8_isPart cX8_isPart 4 (some .boolean)) yX8_isPart 4 false 0 0 [.ref x0, .int x1] (f_X8_isPart x0 x1) injI := impl_of (plainFor_of_name (by decide)) (Nat.le_of_ble_eq_true rfl) (fun D dA => j_X8_isPart D dA x0 x1)
theorem cw_X8_isPart (Y : JY) (h : 5 ≤ Y.2.2.2.1) : JCw Y (ws_ yX8_isPart cX8_isPart 4 (some .boolean)) yX8_isPart cX8_isPart 4 (some .boolean) 4 := ⟨h, by decide, lw_meth q2084, q198, by decide, by decide⟩
theorem np_X8_isPart : JNp yX8_isPart.desc 1 := by decide +kernel
-- BracketRoomModel.isAbelianPart(I)Z
abbrev Y_X8_isAbelianPart : JY := (cX8_isAbelianPart, yX8_isAbelianPart.cls, 2, 5, yX8_isAbelianPart.name, (some .boolean), [])
noncomputable def f_X8_isAbelianPart (x0 : Nat) (x1 : Int32) : JM Mem Int32 :=
  jb (jgetA 7 30 x0) fun v1 =>
  jb (jgetA 7 30 x0) fun v2 =>
  jb (jgetA 7 29 x0) fun v3 =>
  jb (jcall 7 x0 (f_X8_brackets x0 v1 x1 v2 x1 v3)) fun v4 =>
  if v4 = 0 then
    jp 1
  else
    jp 0
theorem j_X8_isAbelianPart (D : va_G) (dA : Nat → ClassId) (x0 : Nat) (x1 : Int32) : J (PM D dA false) Y_X8_isAbelianPart [(0, .ref x0), (1, .int x1)] [] 0 (f_X8_isAbelianPart x0 x1) (FRet injI) := by
  unfold f_X8_isAbelianPart
  refine J_aload_n dX8_isAbelianPart_0 rfl 0 rfl ?_
  refine J_aload_n dX8_isAbelianPart_1 rfl 0 rfl ?_
  refine J_getA dX8_isAbelianPart_2 fl_X8_53 rfl (fun v1 => ?_)
  refine J_iload_n dX8_isAbelianPart_5 rfl 1 rfl ?_
  refine J_aload_n dX8_isAbelianPart_6 rfl 0 rfl ?_
  refine J_getA dX8_isAbelianPart_7 fl_X8_53 rfl (fun v2 => ?_)
  refine J_iload_n dX8_isAbelianPart_10 rfl 1 rfl ?_
  refine J_aload_n dX8_isAbelianPart_11 rfl 0 rfl ?_
  refine J_getA dX8_isAbelianPart_12 fl_X8_50 rfl (fun v3 => ?_)
  refine J_callVI (c := 7) (as := [.ref v1, .int x1, .ref v2, .int x1, .ref v3]) dX8_isAbelianPart_15 (by decide) rfl (Nat.le_of_ble_eq_true rfl) (cw_X8_brackets _ (by decide)) q2013 q2015 qs115 q2016 np_X8_brackets (i_X8_brackets x0 v1 x1 v2 x1 v3) jad_id rfl (fun v4 => ?_)
  refine J_if_ne (tgt := 25) dX8_isAbelianPart_18 rfl ?_ ?_
  · refine J_iconst (v := 0) dX8_isAbelianPart_25 (by decide) ?_
    exact J_zreturn0 dX8_isAbelianPart_26 rfl
  refine J_iconst (v := 1) dX8_isAbelianPart_21 (by decide) ?_
  refine J_goto (tgt := 26) dX8_isAbelianPart_22 rfl ?_
  exact J_zreturn1 dX8_isAbelianPart_26 rfl
theorem i_X8_isAbelianPart (x0 : Nat) (x1 : Int32) : Impl (ws_ yX8_isAbelianPart cX8_isAbelianPart 2 (some .boolean)) yX8_isAbelianPart 5 false 0 0 [.ref x0, .int x1] (f_X8_isAbelianPart x0 x1) injI := impl_of (plainFor_of_name (by decide)) (Nat.le_of_ble_eq_true rfl) (fun D dA => j_X8_isAbelianPart D dA x0 x1)
theorem cw_X8_isAbelianPart (Y : JY) (h : 6 ≤ Y.2.2.2.1) : JCw Y (ws_ yX8_isAbelianPart cX8_isAbelianPart 2 (some .boolean)) yX8_isAbelianPart cX8_isAbelianPart 2 (some .boolean) 5 := ⟨h, by decide, lw_meth q2088, q198, by decide, by decide⟩
theorem np_X8_isAbelianPart : JNp yX8_isAbelianPart.desc 1 := by decide +kernel
-- BracketRoomModel.endsIn0(IZ)Z
abbrev Y_X8_endsIn0 : JY := (cX8_endsIn0, yX8_endsIn0.cls, 5, 5, yX8_endsIn0.name, (some .boolean), [])
noncomputable def X8_endsIn0_b105 (x3 : Int32) : JM Mem Int32 :=
  if x3 = 0 then
    jp 1
  else
    jp 0
theorem j_X8_endsIn0_b105 (D : va_G) (dA : Nat → ClassId) (x3 : Int32) : J (PM D dA false) Y_X8_endsIn0 [(3, .int x3)] [] 105 (X8_endsIn0_b105 x3) (FRet injI) := by
  unfold X8_endsIn0_b105
  refine J_iload_n dX8_endsIn0_105 rfl 0 rfl ?_
  refine J_if_ne (tgt := 113) dX8_endsIn0_106 rfl ?_ ?_
  · refine J_iconst (v := 0) dX8_endsIn0_113 (by decide) ?_
    exact J_zreturn0 dX8_endsIn0_114 rfl
  refine J_iconst (v := 1) dX8_endsIn0_109 (by decide) ?_
  refine J_goto (tgt := 114) dX8_endsIn0_110 rfl ?_
  exact J_zreturn1 dX8_endsIn0_114 rfl
noncomputable def X8_endsIn0_b90 (x0 : Nat) (x1 : Int32) (x2 : Int32) (x3 : Int32) (x4 : Int32) : JM Mem (Int32 ⊕ (Int32 × Int32)) :=
  jb (jgetA 7 29 x0) fun v9 =>
  jb (jgetA 7 28 x0) fun v10 =>
  jb (jcall 7 x0 (f_X8_copySpan x0 v9 v10)) fun _ =>
  jcont (x3, x4)
theorem j_X8_endsIn0_b90 (D : va_G) (dA : Nat → ClassId) (x0 : Nat) (x1 : Int32) (x2 : Int32) (x3 : Int32) (x4 : Int32) : J (PM D dA false) Y_X8_endsIn0 [(0, .ref x0), (1, .int x1), (2, .int x2), (3, .int x3), (4, .int x4)] [] 90 (X8_endsIn0_b90 x0 x1 x2 x3 x4) (FLoop (FRet injI) 17 (fun (t : Int32 × Int32) => [(0, .ref x0), (1, .int x1), (2, .int x2), (3, .int t.1), (4, .int t.2)])) := by
  unfold X8_endsIn0_b90
  refine J_aload_n dX8_endsIn0_90 rfl 0 rfl ?_
  refine J_aload_n dX8_endsIn0_91 rfl 0 rfl ?_
  refine J_getA dX8_endsIn0_92 fl_X8_50 rfl (fun v9 => ?_)
  refine J_aload_n dX8_endsIn0_95 rfl 0 rfl ?_
  refine J_getA dX8_endsIn0_96 fl_X8_47 rfl (fun v10 => ?_)
  refine J_callVV (c := 7) (as := [.ref v9, .ref v10]) dX8_endsIn0_99 (by decide) rfl (Nat.le_of_ble_eq_true rfl) (cw_X8_copySpan _ (by decide)) q1996 q1998 qs112 q1999 np_X8_copySpan (i_X8_copySpan x0 v9 v10) jad_id rfl ?_
  refine J_goto (tgt := 17) dX8_endsIn0_102 rfl ?_
  exact J_cont [0, 1, 2, 3, 4] rfl
noncomputable def X8_endsIn0_L17 (x0 : Nat) (x1 : Int32) (x2 : Int32) (x3 : Int32) (x4 : Int32) : JM Mem (Int32 ⊕ (Int32 × Int32)) :=
  if x3 ≤ 0 then
    jinl (X8_endsIn0_b105 x3)
  else
  if x3 = x4 then
    jinl (X8_endsIn0_b105 x3)
  else
  if x2 = 0 then
    jb (jgetA 7 28 x0) fun v3 =>
    jb (jgetA 7 32 x0) fun v4 =>
    jb (jcall 7 x0 (f_X8_copySpan x0 v3 v4)) fun _ =>
    jb (jgetA 7 28 x0) fun v5 =>
    jb (jgetA 7 32 x0) fun v6 =>
    jb (jgetA 7 29 x0) fun v7 =>
    jb (jcall 7 x0 (f_X8_brackets x0 v5 x3 v6 x3 v7)) fun v8 =>
    X8_endsIn0_b90 x0 x1 x2 v8 x3
  else
  jb (jgetA 7 28 x0) fun v11 =>
  jb (jgetA 7 30 x0) fun v12 =>
  jb (jgetA 7 29 x0) fun v13 =>
  jb (jcall 7 x0 (f_X8_brackets x0 v11 x3 v12 x1 v13)) fun v14 =>
  X8_endsIn0_b90 x0 x1 x2 v14 x3
theorem j_X8_endsIn0_L17 (D : va_G) (dA : Nat → ClassId) (x0 : Nat) (x1 : Int32) (x2 : Int32) (x3 : Int32) (x4 : Int32) : J (PM D dA false) Y_X8_endsIn0 [(0, .ref x0), (1, .int x1), (2, .int x2), (3, .int x3), (4, .int x4)] [] 17 (X8_endsIn0_L17 x0 x1 x2 x3 x4) (FLoop (FRet injI) 17 (fun (t : Int32 × Int32) => [(0, .ref x0), (1, .int x1), (2, .int x2), (3, .int t.1), (4, .int t.2)])) := by
  unfold X8_endsIn0_L17
  refine J_iload_n dX8_endsIn0_17 rfl 3 rfl ?_
  refine J_if_le (tgt := 105) dX8_endsIn0_18 rfl ?_ ?_
  · refine J_inl ?_
    refine J_sub [3] rfl ?_
    exact j_X8_endsIn0_b105 D dA x3
  refine J_iload_n dX8_endsIn0_21 rfl 3 rfl ?_
  refine J_iload dX8_endsIn0_22 4 rfl ?_
  refine J_icmp_eq (tgt := 105) dX8_endsIn0_24 rfl ?_ ?_
  · refine J_inl ?_
    refine J_sub [3] rfl ?_
    exact j_X8_endsIn0_b105 D dA x3
  refine J_iload_n dX8_endsIn0_27 rfl 3 rfl ?_
  refine J_istore (env' := [(4, .int x3), (0, .ref x0), (1, .int x1), (2, .int x2), (3, .int x3)]) dX8_endsIn0_28 (by decide) rfl ?_
  refine J_iload_n dX8_endsIn0_30 rfl 3 rfl ?_
  refine J_if_eq (tgt := 57) dX8_endsIn0_31 rfl ?_ ?_
  · refine J_aload_n dX8_endsIn0_57 rfl 1 rfl ?_
    refine J_aload_n dX8_endsIn0_58 rfl 1 rfl ?_
    refine J_getA dX8_endsIn0_59 fl_X8_47 rfl (fun v3 => ?_)
    refine J_aload_n dX8_endsIn0_62 rfl 1 rfl ?_
    refine J_getA dX8_endsIn0_63 fl_X8_59 rfl (fun v4 => ?_)
    refine J_callVV (c := 7) (as := [.ref v3, .ref v4]) dX8_endsIn0_66 (by decide) rfl (Nat.le_of_ble_eq_true rfl) (cw_X8_copySpan _ (by decide)) q1996 q1998 qs112 q1999 np_X8_copySpan (i_X8_copySpan x0 v3 v4) jad_id rfl ?_
    refine J_aload_n dX8_endsIn0_69 rfl 1 rfl ?_
    refine J_aload_n dX8_endsIn0_70 rfl 1 rfl ?_
    refine J_getA dX8_endsIn0_71 fl_X8_47 rfl (fun v5 => ?_)
    refine J_iload dX8_endsIn0_74 0 rfl ?_
    refine J_aload_n dX8_endsIn0_76 rfl 1 rfl ?_
    refine J_getA dX8_endsIn0_77 fl_X8_59 rfl (fun v6 => ?_)
    refine J_iload dX8_endsIn0_80 0 rfl ?_
    refine J_aload_n dX8_endsIn0_82 rfl 1 rfl ?_
    refine J_getA dX8_endsIn0_83 fl_X8_50 rfl (fun v7 => ?_)
    refine J_callVI (c := 7) (as := [.ref v5, .int x3, .ref v6, .int x3, .ref v7]) dX8_endsIn0_86 (by decide) rfl (Nat.le_of_ble_eq_true rfl) (cw_X8_brackets _ (by decide)) q2013 q2015 qs115 q2016 np_X8_brackets (i_X8_brackets x0 v5 x3 v6 x3 v7) jad_id rfl (fun v8 => ?_)
    refine J_istore_n (env' := [(3, .int v8), (4, .int x3), (0, .ref x0), (1, .int x1), (2, .int x2)]) dX8_endsIn0_89 rfl (by decide) rfl ?_
    refine J_sub [2, 3, 4, 0, 1] rfl ?_
    exact j_X8_endsIn0_b90 D dA x0 x1 x2 v8 x3
  refine J_aload_n dX8_endsIn0_34 rfl 1 rfl ?_
  refine J_aload_n dX8_endsIn0_35 rfl 1 rfl ?_
  refine J_getA dX8_endsIn0_36 fl_X8_47 rfl (fun v11 => ?_)
  refine J_iload dX8_endsIn0_39 0 rfl ?_
  refine J_aload_n dX8_endsIn0_41 rfl 1 rfl ?_
  refine J_getA dX8_endsIn0_42 fl_X8_53 rfl (fun v12 => ?_)
  refine J_iload_n dX8_endsIn0_45 rfl 2 rfl ?_
  refine J_aload_n dX8_endsIn0_46 rfl 1 rfl ?_
  refine J_getA dX8_endsIn0_47 fl_X8_50 rfl (fun v13 => ?_)
  refine J_callVI (c := 7) (as := [.ref v11, .int x3, .ref v12, .int x1, .ref v13]) dX8_endsIn0_50 (by decide) rfl (Nat.le_of_ble_eq_true rfl) (cw_X8_brackets _ (by decide)) q2013 q2015 qs115 q2016 np_X8_brackets (i_X8_brackets x0 v11 x3 v12 x1 v13) jad_id rfl (fun v14 => ?_)
  refine J_istore_n (env' := [(3, .int v14), (4, .int x3), (0, .ref x0), (1, .int x1), (2, .int x2)]) dX8_endsIn0_53 rfl (by decide) rfl ?_
  refine J_goto (tgt := 90) dX8_endsIn0_54 rfl ?_
  refine J_sub [2, 3, 4, 0, 1] rfl ?_
  exact j_X8_endsIn0_b90 D dA x0 x1 x2 v14 x3
noncomputable def f_X8_endsIn0 (x0 : Nat) (x1 : Int32) (x2 : Int32) : JM Mem Int32 :=
  jb (jgetA 7 30 x0) fun v1 =>
  jb (jgetA 7 28 x0) fun v2 =>
  jb (jcall 7 x0 (f_X8_copySpan x0 v1 v2)) fun _ =>
  jloop (fun (t : Int32 × Int32) => X8_endsIn0_L17 x0 x1 x2 t.1 t.2) (x1, (-1))
theorem j_X8_endsIn0 (D : va_G) (dA : Nat → ClassId) (x0 : Nat) (x1 : Int32) (x2 : Int32) : J (PM D dA false) Y_X8_endsIn0 [(0, .ref x0), (1, .int x1), (2, .int x2)] [] 0 (f_X8_endsIn0 x0 x1 x2) (FRet injI) := by
  unfold f_X8_endsIn0
  refine J_aload_n dX8_endsIn0_0 rfl 0 rfl ?_
  refine J_aload_n dX8_endsIn0_1 rfl 0 rfl ?_
  refine J_getA dX8_endsIn0_2 fl_X8_53 rfl (fun v1 => ?_)
  refine J_aload_n dX8_endsIn0_5 rfl 0 rfl ?_
  refine J_getA dX8_endsIn0_6 fl_X8_47 rfl (fun v2 => ?_)
  refine J_callVV (c := 7) (as := [.ref v1, .ref v2]) dX8_endsIn0_9 (by decide) rfl (Nat.le_of_ble_eq_true rfl) (cw_X8_copySpan _ (by decide)) q1996 q1998 qs112 q1999 np_X8_copySpan (i_X8_copySpan x0 v1 v2) jad_id rfl ?_
  refine J_iload_n dX8_endsIn0_12 rfl 1 rfl ?_
  refine J_istore_n (env' := [(3, .int x1), (0, .ref x0), (1, .int x1), (2, .int x2)]) dX8_endsIn0_13 rfl (by decide) rfl ?_
  refine J_iconst (v := (-1)) dX8_endsIn0_14 (by decide) ?_
  refine J_istore (env' := [(4, .int ((-1))), (3, .int x1), (0, .ref x0), (1, .int x1), (2, .int x2)]) dX8_endsIn0_15 (by decide) rfl ?_
  refine J_loop (he := fun (t : Int32 × Int32) => [(0, .ref x0), (1, .int x1), (2, .int x2), (3, .int t.1), (4, .int t.2)]) [2, 3, 4, 1, 0] rfl (fun t => ?_)
  exact j_X8_endsIn0_L17 D dA x0 x1 x2 t.1 t.2
theorem i_X8_endsIn0 (x0 : Nat) (x1 : Int32) (x2 : Int32) : Impl (ws_ yX8_endsIn0 cX8_endsIn0 5 (some .boolean)) yX8_endsIn0 5 false 0 0 [.ref x0, .int x1, .int x2] (f_X8_endsIn0 x0 x1 x2) injI := impl_of (plainFor_of_name (by decide)) (Nat.le_of_ble_eq_true rfl) (fun D dA => j_X8_endsIn0 D dA x0 x1 x2)
theorem cw_X8_endsIn0 (Y : JY) (h : 6 ≤ Y.2.2.2.1) : JCw Y (ws_ yX8_endsIn0 cX8_endsIn0 5 (some .boolean)) yX8_endsIn0 cX8_endsIn0 5 (some .boolean) 5 := ⟨h, by decide, lw_meth q2092, q198, by decide, by decide⟩
theorem np_X8_endsIn0 : JNp yX8_endsIn0.desc 2 := by decide +kernel
-- BracketRoomModel.normalizerSize(I)I
abbrev Y_X8_normalizerSize : JY := (cX8_normalizerSize, yX8_normalizerSize.cls, 5, 4, yX8_normalizerSize.name, (some .int), [])
noncomputable def X8_normalizerSize_b172 (x0 : Nat) : JM Mem Int32 :=
  jb (jgetI 7 27 x0) fun v1 =>
  jb (jgetI 7 39 x0) fun v2 =>
  jp (v1 - v2)
theorem j_X8_normalizerSize_b172 (D : va_G) (dA : Nat → ClassId) (x0 : Nat) : J (PM D dA false) Y_X8_normalizerSize [(0, .ref x0)] [] 172 (X8_normalizerSize_b172 x0) (FRet injI) := by
  unfold X8_normalizerSize_b172
  refine J_aload_n dX8_normalizerSize_172 rfl 0 rfl ?_
  refine J_getI dX8_normalizerSize_173 fl_X8_253 rfl (fun v1 => ?_)
  refine J_aload_n dX8_normalizerSize_176 rfl 0 rfl ?_
  refine J_getI dX8_normalizerSize_177 fl_X8_423 rfl (fun v2 => ?_)
  refine J_isub dX8_normalizerSize_180 ?_
  exact J_ireturn dX8_normalizerSize_181 rfl
noncomputable def X8_normalizerSize_b166 (x0 : Nat) (x1 : Int32) (x2 : Int32) : JM Mem (Int32 ⊕ (Int32)) :=
  jcont (x2 + 1)
theorem j_X8_normalizerSize_b166 (D : va_G) (dA : Nat → ClassId) (x0 : Nat) (x1 : Int32) (x2 : Int32) : J (PM D dA false) Y_X8_normalizerSize [(0, .ref x0), (1, .int x1), (2, .int x2)] [] 166 (X8_normalizerSize_b166 x0 x1 x2) (FLoop (FRet injI) 6 (fun (t : Int32) => [(0, .ref x0), (1, .int x1), (2, .int t)])) := by
  unfold X8_normalizerSize_b166
  refine J_iinc (v := x2 + 1) (env' := [(2, .int (x2 + 1)), (0, .ref x0), (1, .int x1)]) dX8_normalizerSize_166 2 rfl rfl (by decide) rfl ?_
  refine J_goto (tgt := 6) dX8_normalizerSize_169 rfl ?_
  exact J_cont [1, 2, 0] rfl
noncomputable def X8_normalizerSize_b152 (x0 : Nat) (x1 : Int32) (x2 : Int32) (x3 : Int32) : JM Mem ((Int32 ⊕ (Int32)) ⊕ (Int32)) :=
  jb (jgetI 7 27 x0) fun v6 =>
  jb (jcall 7 x0 (f_X8_addEquation x0 v6)) fun _ =>
  jcont (x3 + 1)
theorem j_X8_normalizerSize_b152 (D : va_G) (dA : Nat → ClassId) (x0 : Nat) (x1 : Int32) (x2 : Int32) (x3 : Int32) : J (PM D dA false) Y_X8_normalizerSize [(0, .ref x0), (1, .int x1), (2, .int x2), (3, .int x3)] [] 152 (X8_normalizerSize_b152 x0 x1 x2 x3) (FLoop (FLoop (FRet injI) 6 (fun (t : Int32) => [(0, .ref x0), (1, .int x1), (2, .int t)])) 108 (fun (t : Int32) => [(0, .ref x0), (1, .int x1), (2, .int x2), (3, .int t)])) := by
  unfold X8_normalizerSize_b152
  refine J_aload_n dX8_normalizerSize_152 rfl 0 rfl ?_
  refine J_aload_n dX8_normalizerSize_153 rfl 0 rfl ?_
  refine J_getI dX8_normalizerSize_154 fl_X8_253 rfl (fun v6 => ?_)
  refine J_callVV (c := 7) (as := [.int v6]) dX8_normalizerSize_157 (by decide) rfl (Nat.le_of_ble_eq_true rfl) (cw_X8_addEquation _ (by decide)) q2033 q2035 qs118 q2036 np_X8_addEquation (i_X8_addEquation x0 v6) jad_id rfl ?_
  refine J_iinc (v := x3 + 1) (env' := [(3, .int (x3 + 1)), (0, .ref x0), (1, .int x1), (2, .int x2)]) dX8_normalizerSize_160 3 rfl rfl (by decide) rfl ?_
  refine J_goto (tgt := 108) dX8_normalizerSize_163 rfl ?_
  exact J_cont [1, 2, 3, 0] rfl
noncomputable def X8_normalizerSize_L119 (x0 : Nat) (x1 : Int32) (x2 : Int32) (x3 : Int32) (x4 : Int32) : JM Mem (((Int32 ⊕ (Int32)) ⊕ (Int32)) ⊕ (Int32)) :=
  jb (jgetI 7 27 x0) fun v5 =>
  if v5 ≤ x4 then
    jinl (X8_normalizerSize_b152 x0 x1 x2 x3)
  else
  jb (jgetA 7 38 x0) fun v7 =>
  jb (jgetA 7 31 x0) fun v8 =>
  jb (jald mI 0 v8 ((5 * x4) + x3)) fun v9 =>
  jb (jast_i v7 x4 v9) fun _ =>
  jcont (x4 + 1)
theorem j_X8_normalizerSize_L119 (D : va_G) (dA : Nat → ClassId) (x0 : Nat) (x1 : Int32) (x2 : Int32) (x3 : Int32) (x4 : Int32) : J (PM D dA false) Y_X8_normalizerSize [(0, .ref x0), (1, .int x1), (2, .int x2), (3, .int x3), (4, .int x4)] [] 119 (X8_normalizerSize_L119 x0 x1 x2 x3 x4) (FLoop (FLoop (FLoop (FRet injI) 6 (fun (t : Int32) => [(0, .ref x0), (1, .int x1), (2, .int t)])) 108 (fun (t : Int32) => [(0, .ref x0), (1, .int x1), (2, .int x2), (3, .int t)])) 119 (fun (t : Int32) => [(0, .ref x0), (1, .int x1), (2, .int x2), (3, .int x3), (4, .int t)])) := by
  unfold X8_normalizerSize_L119
  refine J_iload dX8_normalizerSize_119 4 rfl ?_
  refine J_aload_n dX8_normalizerSize_121 rfl 0 rfl ?_
  refine J_getI dX8_normalizerSize_122 fl_X8_253 rfl (fun v5 => ?_)
  refine J_icmp_ge (tgt := 152) dX8_normalizerSize_125 rfl ?_ ?_
  · refine J_inl ?_
    refine J_sub [0, 1, 2, 3] rfl ?_
    exact j_X8_normalizerSize_b152 D dA x0 x1 x2 x3
  refine J_aload_n dX8_normalizerSize_128 rfl 0 rfl ?_
  refine J_getA dX8_normalizerSize_129 fl_X8_77 rfl (fun v7 => ?_)
  refine J_iload dX8_normalizerSize_132 4 rfl ?_
  refine J_aload_n dX8_normalizerSize_134 rfl 0 rfl ?_
  refine J_getA dX8_normalizerSize_135 fl_X8_56 rfl (fun v8 => ?_)
  refine J_iconst (v := 5) dX8_normalizerSize_138 (by decide) ?_
  refine J_iload dX8_normalizerSize_139 4 rfl ?_
  refine J_imul dX8_normalizerSize_141 ?_
  refine J_iload_n dX8_normalizerSize_142 rfl 3 rfl ?_
  refine J_iadd dX8_normalizerSize_143 ?_
  refine J_iald dX8_normalizerSize_144 (fun v9 => ?_)
  refine J_iast dX8_normalizerSize_145 ?_
  refine J_iinc (v := x4 + 1) (env' := [(4, .int (x4 + 1)), (0, .ref x0), (1, .int x1), (2, .int x2), (3, .int x3)]) dX8_normalizerSize_146 4 rfl rfl (by decide) rfl ?_
  refine J_goto (tgt := 119) dX8_normalizerSize_149 rfl ?_
  exact J_cont [1, 2, 3, 4, 0] rfl
noncomputable def X8_normalizerSize_L108 (x0 : Nat) (x1 : Int32) (x2 : Int32) (x3 : Int32) : JM Mem ((Int32 ⊕ (Int32)) ⊕ (Int32)) :=
  jb (jgetI 7 27 x0) fun v4 =>
  if v4 ≤ x3 then
    jinl (X8_normalizerSize_b166 x0 x1 x2)
  else
    jloop (fun (t : Int32) => X8_normalizerSize_L119 x0 x1 x2 x3 t) 0
theorem j_X8_normalizerSize_L108 (D : va_G) (dA : Nat → ClassId) (x0 : Nat) (x1 : Int32) (x2 : Int32) (x3 : Int32) : J (PM D dA false) Y_X8_normalizerSize [(0, .ref x0), (1, .int x1), (2, .int x2), (3, .int x3)] [] 108 (X8_normalizerSize_L108 x0 x1 x2 x3) (FLoop (FLoop (FRet injI) 6 (fun (t : Int32) => [(0, .ref x0), (1, .int x1), (2, .int t)])) 108 (fun (t : Int32) => [(0, .ref x0), (1, .int x1), (2, .int x2), (3, .int t)])) := by
  unfold X8_normalizerSize_L108
  refine J_iload_n dX8_normalizerSize_108 rfl 3 rfl ?_
  refine J_aload_n dX8_normalizerSize_109 rfl 0 rfl ?_
  refine J_getI dX8_normalizerSize_110 fl_X8_253 rfl (fun v4 => ?_)
  refine J_icmp_ge (tgt := 166) dX8_normalizerSize_113 rfl ?_ ?_
  · refine J_inl ?_
    refine J_sub [0, 1, 2] rfl ?_
    exact j_X8_normalizerSize_b166 D dA x0 x1 x2
  refine J_iconst (v := 0) dX8_normalizerSize_116 (by decide) ?_
  refine J_istore (env' := [(4, .int 0), (0, .ref x0), (1, .int x1), (2, .int x2), (3, .int x3)]) dX8_normalizerSize_117 (by decide) rfl ?_
  refine J_loop (he := fun (t : Int32) => [(0, .ref x0), (1, .int x1), (2, .int x2), (3, .int x3), (4, .int t)]) [1, 2, 3, 4, 0] rfl (fun t => ?_)
  exact j_X8_normalizerSize_L119 D dA x0 x1 x2 x3 t
noncomputable def X8_normalizerSize_b106 (x0 : Nat) (x1 : Int32) (x2 : Int32) : JM Mem (Int32 ⊕ (Int32)) :=
  jloop (fun (t : Int32) => X8_normalizerSize_L108 x0 x1 x2 t) 0
theorem j_X8_normalizerSize_b106 (D : va_G) (dA : Nat → ClassId) (x0 : Nat) (x1 : Int32) (x2 : Int32) : J (PM D dA false) Y_X8_normalizerSize [(0, .ref x0), (1, .int x1), (2, .int x2)] [] 106 (X8_normalizerSize_b106 x0 x1 x2) (FLoop (FRet injI) 6 (fun (t : Int32) => [(0, .ref x0), (1, .int x1), (2, .int t)])) := by
  unfold X8_normalizerSize_b106
  refine J_iconst (v := 0) dX8_normalizerSize_106 (by decide) ?_
  refine J_istore_n (env' := [(3, .int 0), (0, .ref x0), (1, .int x1), (2, .int x2)]) dX8_normalizerSize_107 rfl (by decide) rfl ?_
  refine J_loop (he := fun (t : Int32) => [(0, .ref x0), (1, .int x1), (2, .int x2), (3, .int t)]) [1, 2, 3, 0] rfl (fun t => ?_)
  exact j_X8_normalizerSize_L108 D dA x0 x1 x2 t
noncomputable def X8_normalizerSize_b100 (x0 : Nat) (x1 : Int32) (x2 : Int32) (x3 : Int32) : JM Mem ((Int32 ⊕ (Int32)) ⊕ (Int32)) :=
  jcont (x3 + 1)
theorem j_X8_normalizerSize_b100 (D : va_G) (dA : Nat → ClassId) (x0 : Nat) (x1 : Int32) (x2 : Int32) (x3 : Int32) : J (PM D dA false) Y_X8_normalizerSize [(0, .ref x0), (1, .int x1), (2, .int x2), (3, .int x3)] [] 100 (X8_normalizerSize_b100 x0 x1 x2 x3) (FLoop (FLoop (FRet injI) 6 (fun (t : Int32) => [(0, .ref x0), (1, .int x1), (2, .int t)])) 13 (fun (t : Int32) => [(0, .ref x0), (1, .int x1), (2, .int x2), (3, .int t)])) := by
  unfold X8_normalizerSize_b100
  refine J_iinc (v := x3 + 1) (env' := [(3, .int (x3 + 1)), (0, .ref x0), (1, .int x1), (2, .int x2)]) dX8_normalizerSize_100 3 rfl rfl (by decide) rfl ?_
  refine J_goto (tgt := 13) dX8_normalizerSize_103 rfl ?_
  exact J_cont [1, 2, 3, 0] rfl
noncomputable def X8_normalizerSize_L67 (x0 : Nat) (x1 : Int32) (x2 : Int32) (x3 : Int32) (x4 : Int32) : JM Mem (((Int32 ⊕ (Int32)) ⊕ (Int32)) ⊕ (Int32)) :=
  jb (jgetI 7 27 x0) fun v16 =>
  if v16 ≤ x4 then
    jinl (X8_normalizerSize_b100 x0 x1 x2 x3)
  else
  jb (jgetA 7 31 x0) fun v17 =>
  jb (jgetA 7 54 x0) fun v18 =>
  jb (jald mI 0 v18 x4) fun v19 =>
  jb (jast_i v17 ((5 * x3) + x4) v19) fun _ =>
  jcont (x4 + 1)
theorem j_X8_normalizerSize_L67 (D : va_G) (dA : Nat → ClassId) (x0 : Nat) (x1 : Int32) (x2 : Int32) (x3 : Int32) (x4 : Int32) : J (PM D dA false) Y_X8_normalizerSize [(0, .ref x0), (1, .int x1), (2, .int x2), (3, .int x3), (4, .int x4)] [] 67 (X8_normalizerSize_L67 x0 x1 x2 x3 x4) (FLoop (FLoop (FLoop (FRet injI) 6 (fun (t : Int32) => [(0, .ref x0), (1, .int x1), (2, .int t)])) 13 (fun (t : Int32) => [(0, .ref x0), (1, .int x1), (2, .int x2), (3, .int t)])) 67 (fun (t : Int32) => [(0, .ref x0), (1, .int x1), (2, .int x2), (3, .int x3), (4, .int t)])) := by
  unfold X8_normalizerSize_L67
  refine J_iload dX8_normalizerSize_67 4 rfl ?_
  refine J_aload_n dX8_normalizerSize_69 rfl 0 rfl ?_
  refine J_getI dX8_normalizerSize_70 fl_X8_253 rfl (fun v16 => ?_)
  refine J_icmp_ge (tgt := 100) dX8_normalizerSize_73 rfl ?_ ?_
  · refine J_inl ?_
    refine J_sub [0, 1, 2, 3] rfl ?_
    exact j_X8_normalizerSize_b100 D dA x0 x1 x2 x3
  refine J_aload_n dX8_normalizerSize_76 rfl 0 rfl ?_
  refine J_getA dX8_normalizerSize_77 fl_X8_56 rfl (fun v17 => ?_)
  refine J_iconst (v := 5) dX8_normalizerSize_80 (by decide) ?_
  refine J_iload_n dX8_normalizerSize_81 rfl 3 rfl ?_
  refine J_imul dX8_normalizerSize_82 ?_
  refine J_iload dX8_normalizerSize_83 4 rfl ?_
  refine J_iadd dX8_normalizerSize_85 ?_
  refine J_aload_n dX8_normalizerSize_86 rfl 0 rfl ?_
  refine J_getA dX8_normalizerSize_87 fl_X8_95 rfl (fun v18 => ?_)
  refine J_iload dX8_normalizerSize_90 4 rfl ?_
  refine J_iald dX8_normalizerSize_92 (fun v19 => ?_)
  refine J_iast dX8_normalizerSize_93 ?_
  refine J_iinc (v := x4 + 1) (env' := [(4, .int (x4 + 1)), (0, .ref x0), (1, .int x1), (2, .int x2), (3, .int x3)]) dX8_normalizerSize_94 4 rfl rfl (by decide) rfl ?_
  refine J_goto (tgt := 67) dX8_normalizerSize_97 rfl ?_
  exact J_cont [1, 2, 3, 4, 0] rfl
noncomputable def X8_normalizerSize_L13 (x0 : Nat) (x1 : Int32) (x2 : Int32) (x3 : Int32) : JM Mem ((Int32 ⊕ (Int32)) ⊕ (Int32)) :=
  jb (jgetI 7 27 x0) fun v3 =>
  if v3 ≤ x3 then
    jinl (X8_normalizerSize_b106 x0 x1 x2)
  else
  jb (jgetA 7 33 x0) fun v10 =>
  jb (jcall 7 x0 (f_X8_unit x0 x3 v10)) fun _ =>
  jb (jgetA 7 33 x0) fun v11 =>
  jb (jgetA 7 30 x0) fun v12 =>
  jb (jgetA 7 36 x0) fun v13 =>
  jb (jcall 7 x0 (f_X8_bracketOf x0 v11 0 v12 (5 * x2) v13)) fun _ =>
  jb (jgetA 7 30 x0) fun v14 =>
  jb (jgetA 7 36 x0) fun v15 =>
  jb (jcall 7 x0 (f_X8_reduce x0 v14 x1 v15 0)) fun _ =>
  jloop (fun (t : Int32) => X8_normalizerSize_L67 x0 x1 x2 x3 t) 0
theorem j_X8_normalizerSize_L13 (D : va_G) (dA : Nat → ClassId) (x0 : Nat) (x1 : Int32) (x2 : Int32) (x3 : Int32) : J (PM D dA false) Y_X8_normalizerSize [(0, .ref x0), (1, .int x1), (2, .int x2), (3, .int x3)] [] 13 (X8_normalizerSize_L13 x0 x1 x2 x3) (FLoop (FLoop (FRet injI) 6 (fun (t : Int32) => [(0, .ref x0), (1, .int x1), (2, .int t)])) 13 (fun (t : Int32) => [(0, .ref x0), (1, .int x1), (2, .int x2), (3, .int t)])) := by
  unfold X8_normalizerSize_L13
  refine J_iload_n dX8_normalizerSize_13 rfl 3 rfl ?_
  refine J_aload_n dX8_normalizerSize_14 rfl 0 rfl ?_
  refine J_getI dX8_normalizerSize_15 fl_X8_253 rfl (fun v3 => ?_)
  refine J_icmp_ge (tgt := 106) dX8_normalizerSize_18 rfl ?_ ?_
  · refine J_inl ?_
    refine J_sub [0, 1, 2] rfl ?_
    exact j_X8_normalizerSize_b106 D dA x0 x1 x2
  refine J_aload_n dX8_normalizerSize_21 rfl 0 rfl ?_
  refine J_iload_n dX8_normalizerSize_22 rfl 3 rfl ?_
  refine J_aload_n dX8_normalizerSize_23 rfl 0 rfl ?_
  refine J_getA dX8_normalizerSize_24 fl_X8_62 rfl (fun v10 => ?_)
  refine J_callVV (c := 7) (as := [.int x3, .ref v10]) dX8_normalizerSize_27 (by decide) rfl (Nat.le_of_ble_eq_true rfl) (cw_X8_unit _ (by decide)) q1935 q1937 qs102 q1938 np_X8_unit (i_X8_unit x0 x3 v10) jad_id rfl ?_
  refine J_aload_n dX8_normalizerSize_30 rfl 0 rfl ?_
  refine J_aload_n dX8_normalizerSize_31 rfl 0 rfl ?_
  refine J_getA dX8_normalizerSize_32 fl_X8_62 rfl (fun v11 => ?_)
  refine J_iconst (v := 0) dX8_normalizerSize_35 (by decide) ?_
  refine J_aload_n dX8_normalizerSize_36 rfl 0 rfl ?_
  refine J_getA dX8_normalizerSize_37 fl_X8_53 rfl (fun v12 => ?_)
  refine J_iconst (v := 5) dX8_normalizerSize_40 (by decide) ?_
  refine J_iload_n dX8_normalizerSize_41 rfl 2 rfl ?_
  refine J_imul dX8_normalizerSize_42 ?_
  refine J_aload_n dX8_normalizerSize_43 rfl 0 rfl ?_
  refine J_getA dX8_normalizerSize_44 fl_X8_71 rfl (fun v13 => ?_)
  refine J_callVV (c := 7) (as := [.ref v11, .int 0, .ref v12, .int (5 * x2), .ref v13]) dX8_normalizerSize_47 (by decide) rfl (Nat.le_of_ble_eq_true rfl) (cw_X8_bracketOf _ (by decide)) q1911 q1913 qs97 q1914 np_X8_bracketOf (i_X8_bracketOf x0 v11 0 v12 (5 * x2) v13) jad_id rfl ?_
  refine J_aload_n dX8_normalizerSize_50 rfl 0 rfl ?_
  refine J_aload_n dX8_normalizerSize_51 rfl 0 rfl ?_
  refine J_getA dX8_normalizerSize_52 fl_X8_53 rfl (fun v14 => ?_)
  refine J_iload_n dX8_normalizerSize_55 rfl 1 rfl ?_
  refine J_aload_n dX8_normalizerSize_56 rfl 0 rfl ?_
  refine J_getA dX8_normalizerSize_57 fl_X8_71 rfl (fun v15 => ?_)
  refine J_iconst (v := 0) dX8_normalizerSize_60 (by decide) ?_
  refine J_callVV (c := 7) (as := [.ref v14, .int x1, .ref v15, .int 0]) dX8_normalizerSize_61 (by decide) rfl (Nat.le_of_ble_eq_true rfl) (cw_X8_reduce _ (by decide)) q1988 q1990 qs110 q1991 np_X8_reduce (i_X8_reduce x0 v14 x1 v15 0) jad_id rfl ?_
  refine J_iconst (v := 0) dX8_normalizerSize_64 (by decide) ?_
  refine J_istore (env' := [(4, .int 0), (0, .ref x0), (1, .int x1), (2, .int x2), (3, .int x3)]) dX8_normalizerSize_65 (by decide) rfl ?_
  refine J_loop (he := fun (t : Int32) => [(0, .ref x0), (1, .int x1), (2, .int x2), (3, .int x3), (4, .int t)]) [1, 2, 3, 4, 0] rfl (fun t => ?_)
  exact j_X8_normalizerSize_L67 D dA x0 x1 x2 x3 t
noncomputable def X8_normalizerSize_L6 (x0 : Nat) (x1 : Int32) (x2 : Int32) : JM Mem (Int32 ⊕ (Int32)) :=
  if x1 ≤ x2 then
    jinl (X8_normalizerSize_b172 x0)
  else
    jloop (fun (t : Int32) => X8_normalizerSize_L13 x0 x1 x2 t) 0
theorem j_X8_normalizerSize_L6 (D : va_G) (dA : Nat → ClassId) (x0 : Nat) (x1 : Int32) (x2 : Int32) : J (PM D dA false) Y_X8_normalizerSize [(0, .ref x0), (1, .int x1), (2, .int x2)] [] 6 (X8_normalizerSize_L6 x0 x1 x2) (FLoop (FRet injI) 6 (fun (t : Int32) => [(0, .ref x0), (1, .int x1), (2, .int t)])) := by
  unfold X8_normalizerSize_L6
  refine J_iload_n dX8_normalizerSize_6 rfl 2 rfl ?_
  refine J_iload_n dX8_normalizerSize_7 rfl 1 rfl ?_
  refine J_icmp_ge (tgt := 172) dX8_normalizerSize_8 rfl ?_ ?_
  · refine J_inl ?_
    refine J_sub [0] rfl ?_
    exact j_X8_normalizerSize_b172 D dA x0
  refine J_iconst (v := 0) dX8_normalizerSize_11 (by decide) ?_
  refine J_istore_n (env' := [(3, .int 0), (0, .ref x0), (1, .int x1), (2, .int x2)]) dX8_normalizerSize_12 rfl (by decide) rfl ?_
  refine J_loop (he := fun (t : Int32) => [(0, .ref x0), (1, .int x1), (2, .int x2), (3, .int t)]) [1, 2, 3, 0] rfl (fun t => ?_)
  exact j_X8_normalizerSize_L13 D dA x0 x1 x2 t
noncomputable def f_X8_normalizerSize (x0 : Nat) (x1 : Int32) : JM Mem Int32 :=
  jb (jcall 7 x0 (f_X8_noRows x0)) fun _ =>
  jloop (fun (t : Int32) => X8_normalizerSize_L6 x0 x1 t) 0
theorem j_X8_normalizerSize (D : va_G) (dA : Nat → ClassId) (x0 : Nat) (x1 : Int32) : J (PM D dA false) Y_X8_normalizerSize [(0, .ref x0), (1, .int x1)] [] 0 (f_X8_normalizerSize x0 x1) (FRet injI) := by
  unfold f_X8_normalizerSize
  refine J_aload_n dX8_normalizerSize_0 rfl 0 rfl ?_
  refine J_callVV (c := 7) (as := []) dX8_normalizerSize_1 (by decide) rfl (Nat.le_of_ble_eq_true rfl) (cw_X8_noRows _ (by decide)) q2029 q2031 qs117 q2032 np_X8_noRows (i_X8_noRows x0) jad_id rfl ?_
  refine J_iconst (v := 0) dX8_normalizerSize_4 (by decide) ?_
  refine J_istore_n (env' := [(2, .int 0), (0, .ref x0), (1, .int x1)]) dX8_normalizerSize_5 rfl (by decide) rfl ?_
  refine J_loop (he := fun (t : Int32) => [(0, .ref x0), (1, .int x1), (2, .int t)]) [1, 2, 0] rfl (fun t => ?_)
  exact j_X8_normalizerSize_L6 D dA x0 x1 t
theorem i_X8_normalizerSize (x0 : Nat) (x1 : Int32) : Impl (ws_ yX8_normalizerSize cX8_normalizerSize 5 (some .int)) yX8_normalizerSize 4 false 0 0 [.ref x0, .int x1] (f_X8_normalizerSize x0 x1) injI := impl_of (plainFor_of_name (by decide)) (Nat.le_of_ble_eq_true rfl) (fun D dA => j_X8_normalizerSize D dA x0 x1)
theorem cw_X8_normalizerSize (Y : JY) (h : 5 ≤ Y.2.2.2.1) : JCw Y (ws_ yX8_normalizerSize cX8_normalizerSize 5 (some .int)) yX8_normalizerSize cX8_normalizerSize 5 (some .int) 4 := ⟨h, by decide, lw_meth q2096, q198, by decide, by decide⟩
theorem np_X8_normalizerSize : JNp yX8_normalizerSize.desc 1 := by decide +kernel
-- BracketRoomModel.isSuch(II)Z
abbrev Y_X8_isSuch : JY := (cX8_isSuch, yX8_isSuch.cls, 3, 6, yX8_isSuch.name, (some .boolean), [])
noncomputable def f_X8_isSuch (x0 : Nat) (x1 : Int32) (x2 : Int32) : JM Mem Int32 :=
  if x2 = 1 then
    jb (jcall 7 x0 (f_X8_isIdeal x0 x1)) fun v5 =>
    jrz v5
  else
  jb (jcall 7 x0 (f_X8_isPart x0 x1)) fun v1 =>
  if v1 = 0 then
    jp 0
  else
  if x2 = 0 then
    jp 1
  else
  if x2 = 2 then
    jb (jcall 7 x0 (f_X8_isAbelianPart x0 x1)) fun v4 =>
    jrz v4
  else
  jb (jcall 7 x0 (f_X8_endsIn0 x0 x1 1)) fun v2 =>
  if v2 = 0 then
    jp 0
  else
  jb (jcall 7 x0 (f_X8_normalizerSize x0 x1)) fun v3 =>
  if v3 = x1 then
    jp 1
  else
    jp 0
theorem j_X8_isSuch (D : va_G) (dA : Nat → ClassId) (x0 : Nat) (x1 : Int32) (x2 : Int32) : J (PM D dA false) Y_X8_isSuch [(0, .ref x0), (1, .int x1), (2, .int x2)] [] 0 (f_X8_isSuch x0 x1 x2) (FRet injI) := by
  unfold f_X8_isSuch
  refine J_iload_n dX8_isSuch_0 rfl 2 rfl ?_
  refine J_iconst (v := 1) dX8_isSuch_1 (by decide) ?_
  refine J_icmp_ne (tgt := 11) dX8_isSuch_2 rfl ?_ ?_
  · refine J_aload_n dX8_isSuch_11 rfl 0 rfl ?_
    refine J_iload_n dX8_isSuch_12 rfl 1 rfl ?_
    refine J_callVI (c := 7) (as := [.int x1]) dX8_isSuch_13 (by decide) rfl (Nat.le_of_ble_eq_true rfl) (cw_X8_isPart _ (by decide)) q2081 q2083 qs127 q2084 np_X8_isPart (i_X8_isPart x0 x1) jad_id rfl (fun v1 => ?_)
    refine J_if_ne (tgt := 21) dX8_isSuch_16 rfl ?_ ?_
    · refine J_iload_n dX8_isSuch_21 rfl 2 rfl ?_
      refine J_if_ne (tgt := 27) dX8_isSuch_22 rfl ?_ ?_
      · refine J_iload_n dX8_isSuch_27 rfl 2 rfl ?_
        refine J_iconst (v := 2) dX8_isSuch_28 (by decide) ?_
        refine J_icmp_ne (tgt := 38) dX8_isSuch_29 rfl ?_ ?_
        · refine J_aload_n dX8_isSuch_38 rfl 0 rfl ?_
          refine J_iload_n dX8_isSuch_39 rfl 1 rfl ?_
          refine J_iconst (v := 1) dX8_isSuch_40 (by decide) ?_
          refine J_callVI (c := 7) (as := [.int x1, .int 1]) dX8_isSuch_41 (by decide) rfl (Nat.le_of_ble_eq_true rfl) (cw_X8_endsIn0 _ (by decide)) q2089 q2091 qs129 q2092 np_X8_endsIn0 (i_X8_endsIn0 x0 x1 1) jad_id rfl (fun v2 => ?_)
          refine J_if_eq (tgt := 60) dX8_isSuch_44 rfl ?_ ?_
          · refine J_iconst (v := 0) dX8_isSuch_60 (by decide) ?_
            exact J_zreturn0 dX8_isSuch_61 rfl
          refine J_aload_n dX8_isSuch_47 rfl 0 rfl ?_
          refine J_iload_n dX8_isSuch_48 rfl 1 rfl ?_
          refine J_callVI (c := 7) (as := [.int x1]) dX8_isSuch_49 (by decide) rfl (Nat.le_of_ble_eq_true rfl) (cw_X8_normalizerSize _ (by decide)) q2093 q2095 qs130 q2096 np_X8_normalizerSize (i_X8_normalizerSize x0 x1) jad_id rfl (fun v3 => ?_)
          refine J_iload_n dX8_isSuch_52 rfl 1 rfl ?_
          refine J_icmp_ne (tgt := 60) dX8_isSuch_53 rfl ?_ ?_
          · refine J_iconst (v := 0) dX8_isSuch_60 (by decide) ?_
            exact J_zreturn0 dX8_isSuch_61 rfl
          refine J_iconst (v := 1) dX8_isSuch_56 (by decide) ?_
          refine J_goto (tgt := 61) dX8_isSuch_57 rfl ?_
          exact J_zreturn1 dX8_isSuch_61 rfl
        refine J_aload_n dX8_isSuch_32 rfl 0 rfl ?_
        refine J_iload_n dX8_isSuch_33 rfl 1 rfl ?_
        refine J_callVI (c := 7) (as := [.int x1]) dX8_isSuch_34 (by decide) rfl (Nat.le_of_ble_eq_true rfl) (cw_X8_isAbelianPart _ (by decide)) q2085 q2087 qs128 q2088 np_X8_isAbelianPart (i_X8_isAbelianPart x0 x1) jad_id rfl (fun v4 => ?_)
        exact J_zreturn dX8_isSuch_37 rfl
      refine J_iconst (v := 1) dX8_isSuch_25 (by decide) ?_
      exact J_zreturn1 dX8_isSuch_26 rfl
    refine J_iconst (v := 0) dX8_isSuch_19 (by decide) ?_
    exact J_zreturn0 dX8_isSuch_20 rfl
  refine J_aload_n dX8_isSuch_5 rfl 0 rfl ?_
  refine J_iload_n dX8_isSuch_6 rfl 1 rfl ?_
  refine J_callVI (c := 7) (as := [.int x1]) dX8_isSuch_7 (by decide) rfl (Nat.le_of_ble_eq_true rfl) (cw_X8_isIdeal _ (by decide)) q2073 q2075 qs125 q2076 np_X8_isIdeal (i_X8_isIdeal x0 x1) jad_id rfl (fun v5 => ?_)
  exact J_zreturn dX8_isSuch_10 rfl
theorem i_X8_isSuch (x0 : Nat) (x1 : Int32) (x2 : Int32) : Impl (ws_ yX8_isSuch cX8_isSuch 3 (some .boolean)) yX8_isSuch 6 false 0 0 [.ref x0, .int x1, .int x2] (f_X8_isSuch x0 x1 x2) injI := impl_of (plainFor_of_name (by decide)) (Nat.le_of_ble_eq_true rfl) (fun D dA => j_X8_isSuch D dA x0 x1 x2)
theorem cw_X8_isSuch (Y : JY) (h : 7 ≤ Y.2.2.2.1) : JCw Y (ws_ yX8_isSuch cX8_isSuch 3 (some .boolean)) yX8_isSuch cX8_isSuch 3 (some .boolean) 6 := ⟨h, by decide, lw_meth q2072, q198, by decide, by decide⟩
theorem np_X8_isSuch : JNp yX8_isSuch.desc 2 := by decide +kernel
-- BracketRoomModel.countSpans(II)I
abbrev Y_X8_countSpans : JY := (cX8_countSpans, yX8_countSpans.cls, 7, 7, yX8_countSpans.name, (some .int), [])
noncomputable def X8_countSpans_b95 (x0 : Nat) (x1 : Int32) (x2 : Int32) (x3 : Int32) (x4 : Int32) : JM Mem (Int32 ⊕ (Int32 × Int32)) :=
  jcont (x3, x4 + 1)
theorem j_X8_countSpans_b95 (D : va_G) (dA : Nat → ClassId) (x0 : Nat) (x1 : Int32) (x2 : Int32) (x3 : Int32) (x4 : Int32) : J (PM D dA false) Y_X8_countSpans [(0, .ref x0), (1, .int x1), (2, .int x2), (3, .int x3), (4, .int x4)] [] 95 (X8_countSpans_b95 x0 x1 x2 x3 x4) (FLoop (FRet injI) 5 (fun (t : Int32 × Int32) => [(0, .ref x0), (1, .int x1), (2, .int x2), (3, .int t.1), (4, .int t.2)])) := by
  unfold X8_countSpans_b95
  refine J_iinc (v := x4 + 1) (env' := [(4, .int (x4 + 1)), (0, .ref x0), (1, .int x1), (2, .int x2), (3, .int x3)]) dX8_countSpans_95 4 rfl rfl (by decide) rfl ?_
  refine J_goto (tgt := 5) dX8_countSpans_98 rfl ?_
  exact J_cont [1, 2, 3, 4, 0] rfl
noncomputable def X8_countSpans_b87 (x0 : Nat) (x1 : Int32) (x2 : Int32) (x4 : Int32) (x5 : Int32) (x6 : Int32) (s0 : Int32) (s1 : Int32) : JM Mem ((Int32 ⊕ (Int32 × Int32)) ⊕ (Int32 × Int32)) :=
  jlet (s0 + s1) fun y6 =>
  jcont (y6, x6 + 1)
theorem j_X8_countSpans_b87 (D : va_G) (dA : Nat → ClassId) (x0 : Nat) (x1 : Int32) (x2 : Int32) (x4 : Int32) (x5 : Int32) (x6 : Int32) (s0 : Int32) (s1 : Int32) : J (PM D dA false) Y_X8_countSpans [(0, .ref x0), (1, .int x1), (2, .int x2), (4, .int x4), (5, .int x5), (6, .int x6)] [.int s1, .int s0] 87 (X8_countSpans_b87 x0 x1 x2 x4 x5 x6 s0 s1) (FLoop (FLoop (FRet injI) 5 (fun (t : Int32 × Int32) => [(0, .ref x0), (1, .int x1), (2, .int x2), (3, .int t.1), (4, .int t.2)])) 59 (fun (t : Int32 × Int32) => [(0, .ref x0), (1, .int x1), (2, .int x2), (3, .int t.1), (4, .int x4), (5, .int x5), (6, .int t.2)])) := by
  unfold X8_countSpans_b87
  refine J_iadd dX8_countSpans_87 ?_
  refine J_letI (fun y6 => ?_)
  refine J_istore_n (env' := [(3, .int y6), (0, .ref x0), (1, .int x1), (2, .int x2), (4, .int x4), (5, .int x5), (6, .int x6)]) dX8_countSpans_88 rfl (by decide) rfl ?_
  refine J_iinc (v := x6 + 1) (env' := [(6, .int (x6 + 1)), (3, .int y6), (0, .ref x0), (1, .int x1), (2, .int x2), (4, .int x4), (5, .int x5)]) dX8_countSpans_89 6 rfl rfl (by decide) rfl ?_
  refine J_goto (tgt := 59) dX8_countSpans_92 rfl ?_
  exact J_cont [2, 3, 4, 1, 5, 6, 0] rfl
noncomputable def X8_countSpans_L59 (x0 : Nat) (x1 : Int32) (x2 : Int32) (x4 : Int32) (x5 : Int32) (x3 : Int32) (x6 : Int32) : JM Mem ((Int32 ⊕ (Int32 × Int32)) ⊕ (Int32 × Int32)) :=
  if x5 ≤ x6 then
    jinl (X8_countSpans_b95 x0 x1 x2 x3 x4)
  else
  jb (jcall 7 x0 (f_X8_spanBy x0 x6)) fun _ =>
  jb (jcall 7 x0 (f_X8_isSuch x0 x1 x2)) fun v5 =>
  if v5 = 0 then
    X8_countSpans_b87 x0 x1 x2 x4 x5 x6 x3 0
  else
    X8_countSpans_b87 x0 x1 x2 x4 x5 x6 x3 1
theorem j_X8_countSpans_L59 (D : va_G) (dA : Nat → ClassId) (x0 : Nat) (x1 : Int32) (x2 : Int32) (x4 : Int32) (x5 : Int32) (x3 : Int32) (x6 : Int32) : J (PM D dA false) Y_X8_countSpans [(0, .ref x0), (1, .int x1), (2, .int x2), (3, .int x3), (4, .int x4), (5, .int x5), (6, .int x6)] [] 59 (X8_countSpans_L59 x0 x1 x2 x4 x5 x3 x6) (FLoop (FLoop (FRet injI) 5 (fun (t : Int32 × Int32) => [(0, .ref x0), (1, .int x1), (2, .int x2), (3, .int t.1), (4, .int t.2)])) 59 (fun (t : Int32 × Int32) => [(0, .ref x0), (1, .int x1), (2, .int x2), (3, .int t.1), (4, .int x4), (5, .int x5), (6, .int t.2)])) := by
  unfold X8_countSpans_L59
  refine J_iload dX8_countSpans_59 6 rfl ?_
  refine J_iload dX8_countSpans_61 5 rfl ?_
  refine J_icmp_ge (tgt := 95) dX8_countSpans_63 rfl ?_ ?_
  · refine J_inl ?_
    refine J_sub [0, 1, 2, 3, 4] rfl ?_
    exact j_X8_countSpans_b95 D dA x0 x1 x2 x3 x4
  refine J_aload_n dX8_countSpans_66 rfl 0 rfl ?_
  refine J_iload dX8_countSpans_67 6 rfl ?_
  refine J_callVV (c := 7) (as := [.int x6]) dX8_countSpans_69 (by decide) rfl (Nat.le_of_ble_eq_true rfl) (cw_X8_spanBy _ (by decide)) q2065 q2067 qs123 q2068 np_X8_spanBy (i_X8_spanBy x0 x6) jad_id rfl ?_
  refine J_iload_n dX8_countSpans_72 rfl 3 rfl ?_
  refine J_aload_n dX8_countSpans_73 rfl 0 rfl ?_
  refine J_iload_n dX8_countSpans_74 rfl 1 rfl ?_
  refine J_iload_n dX8_countSpans_75 rfl 2 rfl ?_
  refine J_callVI (c := 7) (as := [.int x1, .int x2]) dX8_countSpans_76 (by decide) rfl (Nat.le_of_ble_eq_true rfl) (cw_X8_isSuch _ (by decide)) q2069 q2071 qs124 q2072 np_X8_isSuch (i_X8_isSuch x0 x1 x2) jad_id rfl (fun v5 => ?_)
  refine J_if_eq (tgt := 86) dX8_countSpans_79 rfl ?_ ?_
  · refine J_iconst (v := 0) dX8_countSpans_86 (by decide) ?_
    refine J_sub [0, 1, 2, 4, 5, 6] rfl ?_
    exact j_X8_countSpans_b87 D dA x0 x1 x2 x4 x5 x6 x3 0
  refine J_iconst (v := 1) dX8_countSpans_82 (by decide) ?_
  refine J_goto (tgt := 87) dX8_countSpans_83 rfl ?_
  refine J_sub [0, 1, 2, 4, 5, 6] rfl ?_
  exact j_X8_countSpans_b87 D dA x0 x1 x2 x4 x5 x6 x3 1
noncomputable def X8_countSpans_L5 (x0 : Nat) (x1 : Int32) (x2 : Int32) (x3 : Int32) (x4 : Int32) : JM Mem (Int32 ⊕ (Int32 × Int32)) :=
  jb (jgetI 7 27 x0) fun v1 =>
  if (1 : Int32) <<< (v1 &&& 31) ≤ x4 then
    jinl (jp x3)
  else
  jb (jcall 7 x0 (f_X8_lead x0 x4)) fun _ =>
  jb (jgetI 7 59 x0) fun v2 =>
  if v2 = x1 then
    jb (jgetI 7 60 x0) fun v3 =>
    jb (jcall 7 x0 (f_X8_powerOf x0 v3)) fun v4 =>
    if x2 = (-1) then
      jlet (x3 + v4) fun y7 =>
      X8_countSpans_b95 x0 x1 x2 y7 x4
    else
      jloop (fun (t : Int32 × Int32) => X8_countSpans_L59 x0 x1 x2 x4 v4 t.1 t.2) (x3, 0)
  else
    X8_countSpans_b95 x0 x1 x2 x3 x4
theorem j_X8_countSpans_L5 (D : va_G) (dA : Nat → ClassId) (x0 : Nat) (x1 : Int32) (x2 : Int32) (x3 : Int32) (x4 : Int32) : J (PM D dA false) Y_X8_countSpans [(0, .ref x0), (1, .int x1), (2, .int x2), (3, .int x3), (4, .int x4)] [] 5 (X8_countSpans_L5 x0 x1 x2 x3 x4) (FLoop (FRet injI) 5 (fun (t : Int32 × Int32) => [(0, .ref x0), (1, .int x1), (2, .int x2), (3, .int t.1), (4, .int t.2)])) := by
  unfold X8_countSpans_L5
  refine J_iload dX8_countSpans_5 4 rfl ?_
  refine J_iconst (v := 1) dX8_countSpans_7 (by decide) ?_
  refine J_aload_n dX8_countSpans_8 rfl 0 rfl ?_
  refine J_getI dX8_countSpans_9 fl_X8_253 rfl (fun v1 => ?_)
  refine J_ishl dX8_countSpans_12 ?_
  refine J_icmp_ge (tgt := 101) dX8_countSpans_13 rfl ?_ ?_
  · refine J_inl ?_
    refine J_iload_n dX8_countSpans_101 rfl 3 rfl ?_
    exact J_ireturn dX8_countSpans_102 rfl
  refine J_aload_n dX8_countSpans_16 rfl 0 rfl ?_
  refine J_iload dX8_countSpans_17 4 rfl ?_
  refine J_callVV (c := 7) (as := [.int x4]) dX8_countSpans_19 (by decide) rfl (Nat.le_of_ble_eq_true rfl) (cw_X8_lead _ (by decide)) q2061 q2063 qs122 q2064 np_X8_lead (i_X8_lead x0 x4) jad_id rfl ?_
  refine J_aload_n dX8_countSpans_22 rfl 0 rfl ?_
  refine J_getI dX8_countSpans_23 fl_X8_442 rfl (fun v2 => ?_)
  refine J_iload_n dX8_countSpans_26 rfl 1 rfl ?_
  refine J_icmp_eq (tgt := 33) dX8_countSpans_27 rfl ?_ ?_
  · refine J_aload_n dX8_countSpans_33 rfl 0 rfl ?_
    refine J_aload_n dX8_countSpans_34 rfl 0 rfl ?_
    refine J_getI dX8_countSpans_35 fl_X8_445 rfl (fun v3 => ?_)
    refine J_callVI (c := 7) (as := [.int v3]) dX8_countSpans_38 (by decide) rfl (Nat.le_of_ble_eq_true rfl) (cw_X8_powerOf _ (by decide)) q1903 q1905 qs95 q1906 np_X8_powerOf (i_X8_powerOf x0 v3) jad_id rfl (fun v4 => ?_)
    refine J_istore (env' := [(5, .int v4), (0, .ref x0), (1, .int x1), (2, .int x2), (3, .int x3), (4, .int x4)]) dX8_countSpans_41 (by decide) rfl ?_
    refine J_iload_n dX8_countSpans_43 rfl 3 rfl ?_
    refine J_iconst (v := (-1)) dX8_countSpans_44 (by decide) ?_
    refine J_icmp_ne (tgt := 56) dX8_countSpans_45 rfl ?_ ?_
    · refine J_iconst (v := 0) dX8_countSpans_56 (by decide) ?_
      refine J_istore (env' := [(6, .int 0), (5, .int v4), (0, .ref x0), (1, .int x1), (2, .int x2), (3, .int x3), (4, .int x4)]) dX8_countSpans_57 (by decide) rfl ?_
      refine J_loop (he := fun (t : Int32 × Int32) => [(0, .ref x0), (1, .int x1), (2, .int x2), (3, .int t.1), (4, .int x4), (5, .int v4), (6, .int t.2)]) [2, 3, 4, 5, 6, 1, 0] rfl (fun t => ?_)
      exact j_X8_countSpans_L59 D dA x0 x1 x2 x4 v4 t.1 t.2
    refine J_iload_n dX8_countSpans_48 rfl 4 rfl ?_
    refine J_iload dX8_countSpans_49 0 rfl ?_
    refine J_iadd dX8_countSpans_51 ?_
    refine J_letI (fun y7 => ?_)
    refine J_istore_n (env' := [(3, .int y7), (5, .int v4), (0, .ref x0), (1, .int x1), (2, .int x2), (4, .int x4)]) dX8_countSpans_52 rfl (by decide) rfl ?_
    refine J_goto (tgt := 95) dX8_countSpans_53 rfl ?_
    refine J_sub [2, 3, 4, 0, 5] rfl ?_
    exact j_X8_countSpans_b95 D dA x0 x1 x2 y7 x4
  refine J_goto (tgt := 95) dX8_countSpans_30 rfl ?_
  refine J_sub [0, 1, 2, 3, 4] rfl ?_
  exact j_X8_countSpans_b95 D dA x0 x1 x2 x3 x4
noncomputable def f_X8_countSpans (x0 : Nat) (x1 : Int32) (x2 : Int32) : JM Mem Int32 :=
  jloop (fun (t : Int32 × Int32) => X8_countSpans_L5 x0 x1 x2 t.1 t.2) (0, 0)
theorem j_X8_countSpans (D : va_G) (dA : Nat → ClassId) (x0 : Nat) (x1 : Int32) (x2 : Int32) : J (PM D dA false) Y_X8_countSpans [(0, .ref x0), (1, .int x1), (2, .int x2)] [] 0 (f_X8_countSpans x0 x1 x2) (FRet injI) := by
  unfold f_X8_countSpans
  refine J_iconst (v := 0) dX8_countSpans_0 (by decide) ?_
  refine J_istore_n (env' := [(3, .int 0), (0, .ref x0), (1, .int x1), (2, .int x2)]) dX8_countSpans_1 rfl (by decide) rfl ?_
  refine J_iconst (v := 0) dX8_countSpans_2 (by decide) ?_
  refine J_istore (env' := [(4, .int 0), (3, .int 0), (0, .ref x0), (1, .int x1), (2, .int x2)]) dX8_countSpans_3 (by decide) rfl ?_
  refine J_loop (he := fun (t : Int32 × Int32) => [(0, .ref x0), (1, .int x1), (2, .int x2), (3, .int t.1), (4, .int t.2)]) [2, 3, 4, 1, 0] rfl (fun t => ?_)
  exact j_X8_countSpans_L5 D dA x0 x1 x2 t.1 t.2
theorem i_X8_countSpans (x0 : Nat) (x1 : Int32) (x2 : Int32) : Impl (ws_ yX8_countSpans cX8_countSpans 7 (some .int)) yX8_countSpans 7 false 0 0 [.ref x0, .int x1, .int x2] (f_X8_countSpans x0 x1 x2) injI := impl_of (plainFor_of_name (by decide)) (Nat.le_of_ble_eq_true rfl) (fun D dA => j_X8_countSpans D dA x0 x1 x2)
theorem cw_X8_countSpans (Y : JY) (h : 8 ≤ Y.2.2.2.1) : JCw Y (ws_ yX8_countSpans cX8_countSpans 7 (some .int)) yX8_countSpans cX8_countSpans 7 (some .int) 7 := ⟨h, by decide, lw_meth q2060, q198, by decide, by decide⟩
theorem np_X8_countSpans : JNp yX8_countSpans.desc 2 := by decide +kernel
-- BracketRoomModel.parts(II)I
abbrev Y_X8_parts : JY := (cX8_parts, yX8_parts.cls, 3, 8, yX8_parts.name, (some .int), [])
noncomputable def X8_parts_b49 (x0 : Nat) : JM Mem Int32 :=
  jb (jcall 7 x0 (f_X8_refuse x0 5)) fun v3 =>
  jp v3
theorem j_X8_parts_b49 (D : va_G) (dA : Nat → ClassId) (x0 : Nat) : J (PM D dA false) Y_X8_parts [(0, .ref x0)] [] 49 (X8_parts_b49 x0) (FRet injI) := by
  unfold X8_parts_b49
  refine J_aload_n dX8_parts_49 rfl 0 rfl ?_
  refine J_iconst (v := 5) dX8_parts_50 (by decide) ?_
  refine J_callVI (c := 7) (as := [.int 5]) dX8_parts_51 (by decide) rfl (Nat.le_of_ble_eq_true rfl) (cw_X8_refuse _ (by decide)) q1871 q1873 qs90 q1874 np_X8_refuse (i_X8_refuse x0 5) jad_id rfl (fun v3 => ?_)
  exact J_ireturn dX8_parts_54 rfl
noncomputable def f_X8_parts (x0 : Nat) (x1 : Int32) (x2 : Int32) : JM Mem Int32 :=
  jb (jputI 7 1 x0 0) fun _ =>
  jb (jputI 7 0 x0 0) fun _ =>
  jb (jcall 7 x0 (f_X8_askNow x0)) fun _ =>
  jb (jgetI 7 27 x0) fun v1 =>
  jb ((f_X8_isIn ((x1 : Int32).toInt64) 0 ((v1 : Int32).toInt64))) fun v2 =>
  if v2 = 0 then
    X8_parts_b49 x0
  else
  jb ((f_X8_isIn ((x2 : Int32).toInt64) 0 3)) fun v4 =>
  if v4 = 0 then
    X8_parts_b49 x0
  else
  jb (jcall 7 x0 (f_X8_countSpans x0 x1 x2)) fun v5 =>
  jp v5
theorem j_X8_parts (D : va_G) (dA : Nat → ClassId) (x0 : Nat) (x1 : Int32) (x2 : Int32) : J (PM D dA false) Y_X8_parts [(0, .ref x0), (1, .int x1), (2, .int x2)] [] 0 (f_X8_parts x0 x1 x2) (FRet injI) := by
  unfold f_X8_parts
  refine J_aload_n dX8_parts_0 rfl 0 rfl ?_
  refine J_iconst (v := 0) dX8_parts_1 (by decide) ?_
  refine J_putI dX8_parts_2 ⟨fl_X8_132, Or.inl rfl⟩ rfl ?_
  refine J_aload_n dX8_parts_5 rfl 0 rfl ?_
  refine J_iconst (v := 0) dX8_parts_6 (by decide) ?_
  refine J_putI dX8_parts_7 ⟨fl_X8_135, Or.inl rfl⟩ rfl ?_
  refine J_aload_n dX8_parts_10 rfl 0 rfl ?_
  refine J_callVV (c := 7) (as := []) dX8_parts_11 (by decide) rfl (Nat.le_of_ble_eq_true rfl) (cw_X8_askNow _ (by decide)) q1862 q1864 qs88 q1865 np_X8_askNow (i_X8_askNow x0) jad_id rfl ?_
  refine J_iload_n dX8_parts_14 rfl 1 rfl ?_
  refine J_i2l dX8_parts_15 ?_
  refine J_lconst (v := 0) dX8_parts_16 (by decide) ?_
  refine J_aload_n dX8_parts_17 rfl 0 rfl ?_
  refine J_getI dX8_parts_18 fl_X8_253 rfl (fun v1 => ?_)
  refine J_i2l dX8_parts_21 ?_
  refine J_callSI (host := "") (as := [.long ((x1 : Int32).toInt64), .long 0, .long ((v1 : Int32).toInt64)]) dX8_parts_22 rfl (Nat.le_of_ble_eq_true rfl) (cw_X8_isIn _ (by decide)) q1801 q1802 q1803 np_X8_isIn (i_X8_isIn ((x1 : Int32).toInt64) 0 ((v1 : Int32).toInt64)) jad_id rfl (fun v2 => ?_)
  refine J_if_eq (tgt := 49) dX8_parts_25 rfl ?_ ?_
  · refine J_sub [0] rfl ?_
    exact j_X8_parts_b49 D dA x0
  refine J_iload_n dX8_parts_28 rfl 2 rfl ?_
  refine J_i2l dX8_parts_29 ?_
  refine J_lconst (v := 0) dX8_parts_30 (by decide) ?_
  refine J_ldc2 dX8_parts_31 q1870 ?_
  refine J_callSI (host := "") (as := [.long ((x2 : Int32).toInt64), .long 0, .long 3]) dX8_parts_34 rfl (Nat.le_of_ble_eq_true rfl) (cw_X8_isIn _ (by decide)) q1801 q1802 q1803 np_X8_isIn (i_X8_isIn ((x2 : Int32).toInt64) 0 3) jad_id rfl (fun v4 => ?_)
  refine J_if_eq (tgt := 49) dX8_parts_37 rfl ?_ ?_
  · refine J_sub [0] rfl ?_
    exact j_X8_parts_b49 D dA x0
  refine J_aload_n dX8_parts_40 rfl 0 rfl ?_
  refine J_iload_n dX8_parts_41 rfl 1 rfl ?_
  refine J_iload_n dX8_parts_42 rfl 2 rfl ?_
  refine J_callVI (c := 7) (as := [.int x1, .int x2]) dX8_parts_43 (by decide) rfl (Nat.le_of_ble_eq_true rfl) (cw_X8_countSpans _ (by decide)) q2057 q2059 qs121 q2060 np_X8_countSpans (i_X8_countSpans x0 x1 x2) jad_id rfl (fun v5 => ?_)
  refine J_goto (tgt := 54) dX8_parts_46 rfl ?_
  exact J_ireturn dX8_parts_54 rfl
theorem i_X8_parts (x0 : Nat) (x1 : Int32) (x2 : Int32) : Impl (ws_ yX8_parts cX8_parts 3 (some .int)) yX8_parts 8 false 0 0 [.ref x0, .int x1, .int x2] (f_X8_parts x0 x1 x2) injI := impl_of (plainFor_of_name (by decide)) (Nat.le_of_ble_eq_true rfl) (fun D dA => j_X8_parts D dA x0 x1 x2)
theorem cw_X8_parts (Y : JY) (h : 9 ≤ Y.2.2.2.1) : JCw Y (ws_ yX8_parts cX8_parts 3 (some .int)) yX8_parts cX8_parts 3 (some .int) 8 := ⟨h, by decide, lw_meth q2056, q198, by decide, by decide⟩
theorem np_X8_parts : JNp yX8_parts.desc 2 := by decide +kernel
-- BracketRoomModel.fraction(JJ)Z
abbrev Y_X8_fraction : JY := (cX8_fraction, yX8_fraction.cls, 11, 2, yX8_fraction.name, (some .boolean), [])
noncomputable def X8_fraction_b34 (x0 : Nat) (x1 : Int64) (x3 : Int64) (x5 : Int64) : JM Mem Int32 :=
  jb (jldiv x1 x5) fun v2 =>
  jb (jputL 7 2 x0 v2) fun _ =>
  jb (jldiv x3 x5) fun v3 =>
  jb (jputL 7 3 x0 v3) fun _ =>
  jp 1
theorem j_X8_fraction_b34 (D : va_G) (dA : Nat → ClassId) (x0 : Nat) (x1 : Int64) (x3 : Int64) (x5 : Int64) : J (PM D dA false) Y_X8_fraction [(0, .ref x0), (1, .long x1), (3, .long x3), (5, .long x5)] [] 34 (X8_fraction_b34 x0 x1 x3 x5) (FRet injI) := by
  unfold X8_fraction_b34
  refine J_aload_n dX8_fraction_34 rfl 0 rfl ?_
  refine J_lload_n dX8_fraction_35 rfl 1 rfl ?_
  refine J_lload dX8_fraction_36 3 rfl ?_
  refine J_ldiv dX8_fraction_38 (fun v2 => ?_)
  refine J_putL dX8_fraction_39 ⟨fl_X8_138, Or.inl rfl⟩ rfl ?_
  refine J_aload_n dX8_fraction_42 rfl 0 rfl ?_
  refine J_lload_n dX8_fraction_43 rfl 2 rfl ?_
  refine J_lload dX8_fraction_44 3 rfl ?_
  refine J_ldiv dX8_fraction_46 (fun v3 => ?_)
  refine J_putL dX8_fraction_47 ⟨fl_X8_7, Or.inl rfl⟩ rfl ?_
  refine J_iconst (v := 1) dX8_fraction_50 (by decide) ?_
  exact J_zreturn1 dX8_fraction_51 rfl
noncomputable def X8_fraction_L9 (x0 : Nat) (x1 : Int64) (x3 : Int64) (x5 : Int64) (x7 : Int64) : JM Mem (Int32 ⊕ (Int64 × Int64)) :=
  if x7 = (0 : Int64) then
    jinl (X8_fraction_b34 x0 x1 x3 x5)
  else
  jb (jlrem x5 x7) fun v4 =>
  jcont (x7, v4)
theorem j_X8_fraction_L9 (D : va_G) (dA : Nat → ClassId) (x0 : Nat) (x1 : Int64) (x3 : Int64) (x5 : Int64) (x7 : Int64) : J (PM D dA false) Y_X8_fraction [(0, .ref x0), (1, .long x1), (3, .long x3), (5, .long x5), (7, .long x7)] [] 9 (X8_fraction_L9 x0 x1 x3 x5 x7) (FLoop (FRet injI) 9 (fun (t : Int64 × Int64) => [(0, .ref x0), (1, .long x1), (3, .long x3), (5, .long t.1), (7, .long t.2)])) := by
  unfold X8_fraction_L9
  refine J_lload dX8_fraction_9 4 rfl ?_
  refine J_lconst (v := 0) dX8_fraction_11 (by decide) ?_
  refine J_lcmp_eq (tgt := 34) dX8_fraction_12 dX8_fraction_13 rfl ?_ ?_
  · refine J_inl ?_
    refine J_sub [0, 1, 2, 3] rfl ?_
    exact j_X8_fraction_b34 D dA x0 x1 x3 x5
  refine J_lload dX8_fraction_16 3 rfl ?_
  refine J_lload dX8_fraction_18 4 rfl ?_
  refine J_lrem dX8_fraction_20 (fun v4 => ?_)
  refine J_lstore (env' := [(9, .long v4), (0, .ref x0), (1, .long x1), (3, .long x3), (5, .long x5), (7, .long x7)]) dX8_fraction_21 (by decide) rfl ?_
  refine J_lload dX8_fraction_23 5 rfl ?_
  refine J_lstore (env' := [(5, .long x7), (9, .long v4), (0, .ref x0), (1, .long x1), (3, .long x3), (7, .long x7)]) dX8_fraction_25 (by decide) rfl ?_
  refine J_lload dX8_fraction_27 1 rfl ?_
  refine J_lstore (env' := [(7, .long v4), (5, .long x7), (9, .long v4), (0, .ref x0), (1, .long x1), (3, .long x3)]) dX8_fraction_29 (by decide) rfl ?_
  refine J_goto (tgt := 9) dX8_fraction_31 rfl ?_
  exact J_cont [3, 4, 5, 1, 0] rfl
noncomputable def f_X8_fraction (x0 : Nat) (x1 : Int64) (x3 : Int64) : JM Mem Int32 :=
  jb ((f_J8_abs x1)) fun v1 =>
  jloop (fun (t : Int64 × Int64) => X8_fraction_L9 x0 x1 x3 t.1 t.2) (v1, x3)
theorem j_X8_fraction (D : va_G) (dA : Nat → ClassId) (x0 : Nat) (x1 : Int64) (x3 : Int64) : J (PM D dA false) Y_X8_fraction [(0, .ref x0), (1, .long x1), (3, .long x3)] [] 0 (f_X8_fraction x0 x1 x3) (FRet injI) := by
  unfold f_X8_fraction
  refine J_lload_n dX8_fraction_0 rfl 1 rfl ?_
  refine J_callSL (host := "") (as := [.long x1]) dX8_fraction_1 rfl (Nat.le_of_ble_eq_true rfl) (cw_J8_abs _ (by decide)) q2105 q2106 q2107 np_J8_abs (i_J8_abs x1) jad_id rfl (fun v1 => ?_)
  refine J_lstore (env' := [(5, .long v1), (0, .ref x0), (1, .long x1), (3, .long x3)]) dX8_fraction_4 (by decide) rfl ?_
  refine J_lload_n dX8_fraction_6 rfl 3 rfl ?_
  refine J_lstore (env' := [(7, .long x3), (5, .long v1), (0, .ref x0), (1, .long x1), (3, .long x3)]) dX8_fraction_7 (by decide) rfl ?_
  refine J_loop (he := fun (t : Int64 × Int64) => [(0, .ref x0), (1, .long x1), (3, .long x3), (5, .long t.1), (7, .long t.2)]) [2, 3, 4, 1, 0] rfl (fun t => ?_)
  exact j_X8_fraction_L9 D dA x0 x1 x3 t.1 t.2
theorem i_X8_fraction (x0 : Nat) (x1 : Int64) (x3 : Int64) : Impl (ws_ yX8_fraction cX8_fraction 11 (some .boolean)) yX8_fraction 2 false 0 0 [.ref x0, .long x1, .long x3] (f_X8_fraction x0 x1 x3) injI := impl_of (plainFor_of_name (by decide)) (Nat.le_of_ble_eq_true rfl) (fun D dA => j_X8_fraction D dA x0 x1 x3)
theorem cw_X8_fraction (Y : JY) (h : 3 ≤ Y.2.2.2.1) : JCw Y (ws_ yX8_fraction cX8_fraction 11 (some .boolean)) yX8_fraction cX8_fraction 11 (some .boolean) 2 := ⟨h, by decide, lw_meth q2104, q198, by decide, by decide⟩
theorem np_X8_fraction : JNp yX8_fraction.desc 2 := by decide +kernel
-- BracketRoomModel.share()Z
abbrev Y_X8_share : JY := (cX8_share, yX8_share.cls, 4, 8, yX8_share.name, (some .boolean), [])
noncomputable def X8_share_b52 (x0 : Nat) (x1 : Int32) (x2 : Int32) : JM Mem Int32 :=
  jb (jcall 7 x0 (f_X8_fraction x0 ((x2 : Int32).toInt64) ((x1 : Int32).toInt64))) fun v2 =>
  jrz v2
theorem j_X8_share_b52 (D : va_G) (dA : Nat → ClassId) (x0 : Nat) (x1 : Int32) (x2 : Int32) : J (PM D dA false) Y_X8_share [(0, .ref x0), (1, .int x1), (2, .int x2)] [] 52 (X8_share_b52 x0 x1 x2) (FRet injI) := by
  unfold X8_share_b52
  refine J_aload_n dX8_share_52 rfl 0 rfl ?_
  refine J_iload_n dX8_share_53 rfl 2 rfl ?_
  refine J_i2l dX8_share_54 ?_
  refine J_iload_n dX8_share_55 rfl 1 rfl ?_
  refine J_i2l dX8_share_56 ?_
  refine J_callVI (c := 7) (as := [.long ((x2 : Int32).toInt64), .long ((x1 : Int32).toInt64)]) dX8_share_57 (by decide) rfl (Nat.le_of_ble_eq_true rfl) (cw_X8_fraction _ (by decide)) q2101 q2103 qs131 q2104 np_X8_fraction (i_X8_fraction x0 ((x2 : Int32).toInt64) ((x1 : Int32).toInt64)) jad_id rfl (fun v2 => ?_)
  exact J_zreturn dX8_share_60 rfl
noncomputable def X8_share_L20 (x0 : Nat) (x1 : Int32) (x2 : Int32) (x3 : Int32) : JM Mem (Int32 ⊕ (Int32 × Int32 × Int32)) :=
  jb (jgetI 7 27 x0) fun v1 =>
  if v1 < x3 then
    jinl (X8_share_b52 x0 x1 x2)
  else
  jb (jcall 7 x0 (f_X8_countSpans x0 x3 (-1))) fun v3 =>
  jlet (x1 + v3) fun y4 =>
  jb (jcall 7 x0 (f_X8_countSpans x0 x3 0)) fun v5 =>
  jlet (x2 + v5) fun y6 =>
  jcont (y4, y6, x3 + 1)
theorem j_X8_share_L20 (D : va_G) (dA : Nat → ClassId) (x0 : Nat) (x1 : Int32) (x2 : Int32) (x3 : Int32) : J (PM D dA false) Y_X8_share [(0, .ref x0), (1, .int x1), (2, .int x2), (3, .int x3)] [] 20 (X8_share_L20 x0 x1 x2 x3) (FLoop (FRet injI) 20 (fun (t : Int32 × Int32 × Int32) => [(0, .ref x0), (1, .int t.1), (2, .int t.2.1), (3, .int t.2.2)])) := by
  unfold X8_share_L20
  refine J_iload_n dX8_share_20 rfl 3 rfl ?_
  refine J_aload_n dX8_share_21 rfl 0 rfl ?_
  refine J_getI dX8_share_22 fl_X8_253 rfl (fun v1 => ?_)
  refine J_icmp_gt (tgt := 52) dX8_share_25 rfl ?_ ?_
  · refine J_inl ?_
    refine J_sub [0, 1, 2] rfl ?_
    exact j_X8_share_b52 D dA x0 x1 x2
  refine J_iload_n dX8_share_28 rfl 1 rfl ?_
  refine J_aload_n dX8_share_29 rfl 0 rfl ?_
  refine J_iload_n dX8_share_30 rfl 3 rfl ?_
  refine J_iconst (v := (-1)) dX8_share_31 (by decide) ?_
  refine J_callVI (c := 7) (as := [.int x3, .int ((-1))]) dX8_share_32 (by decide) rfl (Nat.le_of_ble_eq_true rfl) (cw_X8_countSpans _ (by decide)) q2057 q2059 qs121 q2060 np_X8_countSpans (i_X8_countSpans x0 x3 (-1)) jad_id rfl (fun v3 => ?_)
  refine J_iadd dX8_share_35 ?_
  refine J_letI (fun y4 => ?_)
  refine J_istore_n (env' := [(1, .int y4), (0, .ref x0), (2, .int x2), (3, .int x3)]) dX8_share_36 rfl (by decide) rfl ?_
  refine J_iload_n dX8_share_37 rfl 2 rfl ?_
  refine J_aload_n dX8_share_38 rfl 1 rfl ?_
  refine J_iload_n dX8_share_39 rfl 3 rfl ?_
  refine J_iconst (v := 0) dX8_share_40 (by decide) ?_
  refine J_callVI (c := 7) (as := [.int x3, .int 0]) dX8_share_41 (by decide) rfl (Nat.le_of_ble_eq_true rfl) (cw_X8_countSpans _ (by decide)) q2057 q2059 qs121 q2060 np_X8_countSpans (i_X8_countSpans x0 x3 0) jad_id rfl (fun v5 => ?_)
  refine J_iadd dX8_share_44 ?_
  refine J_letI (fun y6 => ?_)
  refine J_istore_n (env' := [(2, .int y6), (1, .int y4), (0, .ref x0), (3, .int x3)]) dX8_share_45 rfl (by decide) rfl ?_
  refine J_iinc (v := x3 + 1) (env' := [(3, .int (x3 + 1)), (2, .int y6), (1, .int y4), (0, .ref x0)]) dX8_share_46 3 rfl rfl (by decide) rfl ?_
  refine J_goto (tgt := 20) dX8_share_49 rfl ?_
  exact J_cont [3, 2, 1, 0] rfl
noncomputable def f_X8_share (x0 : Nat) : JM Mem Int32 :=
  jb (jputI 7 1 x0 0) fun _ =>
  jb (jputI 7 0 x0 0) fun _ =>
  jb (jcall 7 x0 (f_X8_askNow x0)) fun _ =>
  jloop (fun (t : Int32 × Int32 × Int32) => X8_share_L20 x0 t.1 t.2.1 t.2.2) (0, 0, 0)
theorem j_X8_share (D : va_G) (dA : Nat → ClassId) (x0 : Nat) : J (PM D dA false) Y_X8_share [(0, .ref x0)] [] 0 (f_X8_share x0) (FRet injI) := by
  unfold f_X8_share
  refine J_aload_n dX8_share_0 rfl 0 rfl ?_
  refine J_iconst (v := 0) dX8_share_1 (by decide) ?_
  refine J_putI dX8_share_2 ⟨fl_X8_132, Or.inl rfl⟩ rfl ?_
  refine J_aload_n dX8_share_5 rfl 0 rfl ?_
  refine J_iconst (v := 0) dX8_share_6 (by decide) ?_
  refine J_putI dX8_share_7 ⟨fl_X8_135, Or.inl rfl⟩ rfl ?_
  refine J_aload_n dX8_share_10 rfl 0 rfl ?_
  refine J_callVV (c := 7) (as := []) dX8_share_11 (by decide) rfl (Nat.le_of_ble_eq_true rfl) (cw_X8_askNow _ (by decide)) q1862 q1864 qs88 q1865 np_X8_askNow (i_X8_askNow x0) jad_id rfl ?_
  refine J_iconst (v := 0) dX8_share_14 (by decide) ?_
  refine J_istore_n (env' := [(1, .int 0), (0, .ref x0)]) dX8_share_15 rfl (by decide) rfl ?_
  refine J_iconst (v := 0) dX8_share_16 (by decide) ?_
  refine J_istore_n (env' := [(2, .int 0), (1, .int 0), (0, .ref x0)]) dX8_share_17 rfl (by decide) rfl ?_
  refine J_iconst (v := 0) dX8_share_18 (by decide) ?_
  refine J_istore_n (env' := [(3, .int 0), (2, .int 0), (1, .int 0), (0, .ref x0)]) dX8_share_19 rfl (by decide) rfl ?_
  refine J_loop (he := fun (t : Int32 × Int32 × Int32) => [(0, .ref x0), (1, .int t.1), (2, .int t.2.1), (3, .int t.2.2)]) [3, 2, 1, 0] rfl (fun t => ?_)
  exact j_X8_share_L20 D dA x0 t.1 t.2.1 t.2.2
theorem i_X8_share (x0 : Nat) : Impl (ws_ yX8_share cX8_share 4 (some .boolean)) yX8_share 8 false 0 0 [.ref x0] (f_X8_share x0) injI := impl_of (plainFor_of_name (by decide)) (Nat.le_of_ble_eq_true rfl) (fun D dA => j_X8_share D dA x0)
theorem cw_X8_share (Y : JY) (h : 9 ≤ Y.2.2.2.1) : JCw Y (ws_ yX8_share cX8_share 4 (some .boolean)) yX8_share cX8_share 4 (some .boolean) 8 := ⟨h, by decide, lw_meth q2100, q198, by decide, by decide⟩
theorem np_X8_share : JNp yX8_share.desc 0 := by decide +kernel
-- BracketRoomModel.isAbelian()Z
abbrev Y_X8_isAbelian : JY := (cX8_isAbelian, yX8_isAbelian.cls, 1, 6, yX8_isAbelian.name, (some .boolean), [])
noncomputable def f_X8_isAbelian (x0 : Nat) : JM Mem Int32 :=
  jb (jcall 7 x0 (f_X8_seriesOf x0 1 0)) fun v1 =>
  if v1 = 0 then
    jp 1
  else
    jp 0
theorem j_X8_isAbelian (D : va_G) (dA : Nat → ClassId) (x0 : Nat) : J (PM D dA false) Y_X8_isAbelian [(0, .ref x0)] [] 0 (f_X8_isAbelian x0) (FRet injI) := by
  unfold f_X8_isAbelian
  refine J_aload_n dX8_isAbelian_0 rfl 0 rfl ?_
  refine J_iconst (v := 1) dX8_isAbelian_1 (by decide) ?_
  refine J_iconst (v := 0) dX8_isAbelian_2 (by decide) ?_
  refine J_callVI (c := 7) (as := [.int 1, .int 0]) dX8_isAbelian_3 (by decide) rfl (Nat.le_of_ble_eq_true rfl) (cw_X8_seriesOf _ (by decide)) q2009 q2011 qs114 q2012 np_X8_seriesOf (i_X8_seriesOf x0 1 0) jad_id rfl (fun v1 => ?_)
  refine J_if_ne (tgt := 13) dX8_isAbelian_6 rfl ?_ ?_
  · refine J_iconst (v := 0) dX8_isAbelian_13 (by decide) ?_
    exact J_zreturn0 dX8_isAbelian_14 rfl
  refine J_iconst (v := 1) dX8_isAbelian_9 (by decide) ?_
  refine J_goto (tgt := 14) dX8_isAbelian_10 rfl ?_
  exact J_zreturn1 dX8_isAbelian_14 rfl
theorem i_X8_isAbelian (x0 : Nat) : Impl (ws_ yX8_isAbelian cX8_isAbelian 1 (some .boolean)) yX8_isAbelian 6 false 0 0 [.ref x0] (f_X8_isAbelian x0) injI := impl_of (plainFor_of_name (by decide)) (Nat.le_of_ble_eq_true rfl) (fun D dA => j_X8_isAbelian D dA x0)
theorem cw_X8_isAbelian (Y : JY) (h : 7 ≤ Y.2.2.2.1) : JCw Y (ws_ yX8_isAbelian cX8_isAbelian 1 (some .boolean)) yX8_isAbelian cX8_isAbelian 1 (some .boolean) 6 := ⟨h, by decide, lw_meth q2120, q198, by decide, by decide⟩
theorem np_X8_isAbelian : JNp yX8_isAbelian.desc 0 := by decide +kernel
-- BracketRoomModel.isSimple()Z
abbrev Y_X8_isSimple : JY := (cX8_isSimple, yX8_isSimple.cls, 2, 8, yX8_isSimple.name, (some .boolean), [])
noncomputable def X8_isSimple_L11 (x0 : Nat) (x1 : Int32) : JM Mem (Int32 ⊕ (Int32)) :=
  jb (jgetI 7 27 x0) fun v2 =>
  if v2 ≤ x1 then
    jinl (jp 1)
  else
  jb (jcall 7 x0 (f_X8_countSpans x0 x1 1)) fun v3 =>
  if v3 ≤ 0 then
    jcont (x1 + 1)
  else
    jinl (jp 0)
theorem j_X8_isSimple_L11 (D : va_G) (dA : Nat → ClassId) (x0 : Nat) (x1 : Int32) : J (PM D dA false) Y_X8_isSimple [(0, .ref x0), (1, .int x1)] [] 11 (X8_isSimple_L11 x0 x1) (FLoop (FRet injI) 11 (fun (t : Int32) => [(0, .ref x0), (1, .int t)])) := by
  unfold X8_isSimple_L11
  refine J_iload_n dX8_isSimple_11 rfl 1 rfl ?_
  refine J_aload_n dX8_isSimple_12 rfl 0 rfl ?_
  refine J_getI dX8_isSimple_13 fl_X8_253 rfl (fun v2 => ?_)
  refine J_icmp_ge (tgt := 36) dX8_isSimple_16 rfl ?_ ?_
  · refine J_inl ?_
    refine J_iconst (v := 1) dX8_isSimple_36 (by decide) ?_
    exact J_zreturn1 dX8_isSimple_37 rfl
  refine J_aload_n dX8_isSimple_19 rfl 0 rfl ?_
  refine J_iload_n dX8_isSimple_20 rfl 1 rfl ?_
  refine J_iconst (v := 1) dX8_isSimple_21 (by decide) ?_
  refine J_callVI (c := 7) (as := [.int x1, .int 1]) dX8_isSimple_22 (by decide) rfl (Nat.le_of_ble_eq_true rfl) (cw_X8_countSpans _ (by decide)) q2057 q2059 qs121 q2060 np_X8_countSpans (i_X8_countSpans x0 x1 1) jad_id rfl (fun v3 => ?_)
  refine J_if_le (tgt := 30) dX8_isSimple_25 rfl ?_ ?_
  · refine J_iinc (v := x1 + 1) (env' := [(1, .int (x1 + 1)), (0, .ref x0)]) dX8_isSimple_30 1 rfl rfl (by decide) rfl ?_
    refine J_goto (tgt := 11) dX8_isSimple_33 rfl ?_
    exact J_cont [1, 0] rfl
  refine J_inl ?_
  refine J_iconst (v := 0) dX8_isSimple_28 (by decide) ?_
  exact J_zreturn0 dX8_isSimple_29 rfl
noncomputable def f_X8_isSimple (x0 : Nat) : JM Mem Int32 :=
  jb (jcall 7 x0 (f_X8_isAbelian x0)) fun v1 =>
  if v1 = 0 then
    jloop (fun (t : Int32) => X8_isSimple_L11 x0 t) 1
  else
    jp 0
theorem j_X8_isSimple (D : va_G) (dA : Nat → ClassId) (x0 : Nat) : J (PM D dA false) Y_X8_isSimple [(0, .ref x0)] [] 0 (f_X8_isSimple x0) (FRet injI) := by
  unfold f_X8_isSimple
  refine J_aload_n dX8_isSimple_0 rfl 0 rfl ?_
  refine J_callVI (c := 7) (as := []) dX8_isSimple_1 (by decide) rfl (Nat.le_of_ble_eq_true rfl) (cw_X8_isAbelian _ (by decide)) q2117 q2119 qs133 q2120 np_X8_isAbelian (i_X8_isAbelian x0) jad_id rfl (fun v1 => ?_)
  refine J_if_eq (tgt := 9) dX8_isSimple_4 rfl ?_ ?_
  · refine J_iconst (v := 1) dX8_isSimple_9 (by decide) ?_
    refine J_istore_n (env' := [(1, .int 1), (0, .ref x0)]) dX8_isSimple_10 rfl (by decide) rfl ?_
    refine J_loop (he := fun (t : Int32) => [(0, .ref x0), (1, .int t)]) [1, 0] rfl (fun t => ?_)
    exact j_X8_isSimple_L11 D dA x0 t
  refine J_iconst (v := 0) dX8_isSimple_7 (by decide) ?_
  exact J_zreturn0 dX8_isSimple_8 rfl
theorem i_X8_isSimple (x0 : Nat) : Impl (ws_ yX8_isSimple cX8_isSimple 2 (some .boolean)) yX8_isSimple 8 false 0 0 [.ref x0] (f_X8_isSimple x0) injI := impl_of (plainFor_of_name (by decide)) (Nat.le_of_ble_eq_true rfl) (fun D dA => j_X8_isSimple D dA x0)
theorem cw_X8_isSimple (Y : JY) (h : 9 ≤ Y.2.2.2.1) : JCw Y (ws_ yX8_isSimple cX8_isSimple 2 (some .boolean)) yX8_isSimple cX8_isSimple 2 (some .boolean) 8 := ⟨h, by decide, lw_meth q2124, q198, by decide, by decide⟩
theorem np_X8_isSimple : JNp yX8_isSimple.desc 0 := by decide +kernel
-- BracketRoomModel.isUnimodular()Z
abbrev Y_X8_isUnimodular : JY := (cX8_isUnimodular, yX8_isUnimodular.cls, 4, 3, yX8_isUnimodular.name, (some .boolean), [])
noncomputable def X8_isUnimodular_b38 (x0 : Nat) (x1 : Int32) (x2 : Int32) : JM Mem (Int32 ⊕ (Int32)) :=
  jb (jgetI 7 26 x0) fun v3 =>
  jb (jrem x2 v3) fun v4 =>
  if v4 = 0 then
    jcont (x1 + 1)
  else
    jinl (jp 0)
theorem j_X8_isUnimodular_b38 (D : va_G) (dA : Nat → ClassId) (x0 : Nat) (x1 : Int32) (x2 : Int32) : J (PM D dA false) Y_X8_isUnimodular [(0, .ref x0), (1, .int x1), (2, .int x2)] [] 38 (X8_isUnimodular_b38 x0 x1 x2) (FLoop (FRet injI) 2 (fun (t : Int32) => [(0, .ref x0), (1, .int t)])) := by
  unfold X8_isUnimodular_b38
  refine J_iload_n dX8_isUnimodular_38 rfl 2 rfl ?_
  refine J_aload_n dX8_isUnimodular_39 rfl 0 rfl ?_
  refine J_getI dX8_isUnimodular_40 fl_X8_250 rfl (fun v3 => ?_)
  refine J_irem dX8_isUnimodular_43 (fun v4 => ?_)
  refine J_if_eq (tgt := 49) dX8_isUnimodular_44 rfl ?_ ?_
  · refine J_iinc (v := x1 + 1) (env' := [(1, .int (x1 + 1)), (0, .ref x0), (2, .int x2)]) dX8_isUnimodular_49 1 rfl rfl (by decide) rfl ?_
    refine J_goto (tgt := 2) dX8_isUnimodular_52 rfl ?_
    exact J_cont [1, 0] rfl
  refine J_inl ?_
  refine J_iconst (v := 0) dX8_isUnimodular_47 (by decide) ?_
  exact J_zreturn0 dX8_isUnimodular_48 rfl
noncomputable def X8_isUnimodular_L14 (x0 : Nat) (x1 : Int32) (x2 : Int32) (x3 : Int32) : JM Mem ((Int32 ⊕ (Int32)) ⊕ (Int32 × Int32)) :=
  jb (jgetI 7 27 x0) fun v2 =>
  if v2 ≤ x3 then
    jinl (X8_isUnimodular_b38 x0 x1 x2)
  else
  jb (jcall 7 x0 (f_X8_table x0 x1 x3 x3)) fun v5 =>
  jlet (x2 + v5) fun y6 =>
  jcont (y6, x3 + 1)
theorem j_X8_isUnimodular_L14 (D : va_G) (dA : Nat → ClassId) (x0 : Nat) (x1 : Int32) (x2 : Int32) (x3 : Int32) : J (PM D dA false) Y_X8_isUnimodular [(0, .ref x0), (1, .int x1), (2, .int x2), (3, .int x3)] [] 14 (X8_isUnimodular_L14 x0 x1 x2 x3) (FLoop (FLoop (FRet injI) 2 (fun (t : Int32) => [(0, .ref x0), (1, .int t)])) 14 (fun (t : Int32 × Int32) => [(0, .ref x0), (1, .int x1), (2, .int t.1), (3, .int t.2)])) := by
  unfold X8_isUnimodular_L14
  refine J_iload_n dX8_isUnimodular_14 rfl 3 rfl ?_
  refine J_aload_n dX8_isUnimodular_15 rfl 0 rfl ?_
  refine J_getI dX8_isUnimodular_16 fl_X8_253 rfl (fun v2 => ?_)
  refine J_icmp_ge (tgt := 38) dX8_isUnimodular_19 rfl ?_ ?_
  · refine J_inl ?_
    refine J_sub [0, 1, 2] rfl ?_
    exact j_X8_isUnimodular_b38 D dA x0 x1 x2
  refine J_iload_n dX8_isUnimodular_22 rfl 2 rfl ?_
  refine J_aload_n dX8_isUnimodular_23 rfl 0 rfl ?_
  refine J_iload_n dX8_isUnimodular_24 rfl 1 rfl ?_
  refine J_iload_n dX8_isUnimodular_25 rfl 3 rfl ?_
  refine J_iload_n dX8_isUnimodular_26 rfl 3 rfl ?_
  refine J_callVI (c := 7) (as := [.int x1, .int x3, .int x3]) dX8_isUnimodular_27 (by decide) rfl (Nat.le_of_ble_eq_true rfl) (cw_X8_table _ (by decide)) q1875 q1877 qs91 q1878 np_X8_table (i_X8_table x0 x1 x3 x3) jad_id rfl (fun v5 => ?_)
  refine J_iadd dX8_isUnimodular_30 ?_
  refine J_letI (fun y6 => ?_)
  refine J_istore_n (env' := [(2, .int y6), (0, .ref x0), (1, .int x1), (3, .int x3)]) dX8_isUnimodular_31 rfl (by decide) rfl ?_
  refine J_iinc (v := x3 + 1) (env' := [(3, .int (x3 + 1)), (2, .int y6), (0, .ref x0), (1, .int x1)]) dX8_isUnimodular_32 3 rfl rfl (by decide) rfl ?_
  refine J_goto (tgt := 14) dX8_isUnimodular_35 rfl ?_
  exact J_cont [2, 3, 1, 0] rfl
noncomputable def X8_isUnimodular_L2 (x0 : Nat) (x1 : Int32) : JM Mem (Int32 ⊕ (Int32)) :=
  jb (jgetI 7 27 x0) fun v1 =>
  if v1 ≤ x1 then
    jinl (jp 1)
  else
    jloop (fun (t : Int32 × Int32) => X8_isUnimodular_L14 x0 x1 t.1 t.2) (0, 0)
theorem j_X8_isUnimodular_L2 (D : va_G) (dA : Nat → ClassId) (x0 : Nat) (x1 : Int32) : J (PM D dA false) Y_X8_isUnimodular [(0, .ref x0), (1, .int x1)] [] 2 (X8_isUnimodular_L2 x0 x1) (FLoop (FRet injI) 2 (fun (t : Int32) => [(0, .ref x0), (1, .int t)])) := by
  unfold X8_isUnimodular_L2
  refine J_iload_n dX8_isUnimodular_2 rfl 1 rfl ?_
  refine J_aload_n dX8_isUnimodular_3 rfl 0 rfl ?_
  refine J_getI dX8_isUnimodular_4 fl_X8_253 rfl (fun v1 => ?_)
  refine J_icmp_ge (tgt := 55) dX8_isUnimodular_7 rfl ?_ ?_
  · refine J_inl ?_
    refine J_iconst (v := 1) dX8_isUnimodular_55 (by decide) ?_
    exact J_zreturn1 dX8_isUnimodular_56 rfl
  refine J_iconst (v := 0) dX8_isUnimodular_10 (by decide) ?_
  refine J_istore_n (env' := [(2, .int 0), (0, .ref x0), (1, .int x1)]) dX8_isUnimodular_11 rfl (by decide) rfl ?_
  refine J_iconst (v := 0) dX8_isUnimodular_12 (by decide) ?_
  refine J_istore_n (env' := [(3, .int 0), (2, .int 0), (0, .ref x0), (1, .int x1)]) dX8_isUnimodular_13 rfl (by decide) rfl ?_
  refine J_loop (he := fun (t : Int32 × Int32) => [(0, .ref x0), (1, .int x1), (2, .int t.1), (3, .int t.2)]) [2, 3, 1, 0] rfl (fun t => ?_)
  exact j_X8_isUnimodular_L14 D dA x0 x1 t.1 t.2
noncomputable def f_X8_isUnimodular (x0 : Nat) : JM Mem Int32 :=
  jloop (fun (t : Int32) => X8_isUnimodular_L2 x0 t) 0
theorem j_X8_isUnimodular (D : va_G) (dA : Nat → ClassId) (x0 : Nat) : J (PM D dA false) Y_X8_isUnimodular [(0, .ref x0)] [] 0 (f_X8_isUnimodular x0) (FRet injI) := by
  unfold f_X8_isUnimodular
  refine J_iconst (v := 0) dX8_isUnimodular_0 (by decide) ?_
  refine J_istore_n (env' := [(1, .int 0), (0, .ref x0)]) dX8_isUnimodular_1 rfl (by decide) rfl ?_
  refine J_loop (he := fun (t : Int32) => [(0, .ref x0), (1, .int t)]) [1, 0] rfl (fun t => ?_)
  exact j_X8_isUnimodular_L2 D dA x0 t
theorem i_X8_isUnimodular (x0 : Nat) : Impl (ws_ yX8_isUnimodular cX8_isUnimodular 4 (some .boolean)) yX8_isUnimodular 3 false 0 0 [.ref x0] (f_X8_isUnimodular x0) injI := impl_of (plainFor_of_name (by decide)) (Nat.le_of_ble_eq_true rfl) (fun D dA => j_X8_isUnimodular D dA x0)
theorem cw_X8_isUnimodular (Y : JY) (h : 4 ≤ Y.2.2.2.1) : JCw Y (ws_ yX8_isUnimodular cX8_isUnimodular 4 (some .boolean)) yX8_isUnimodular cX8_isUnimodular 4 (some .boolean) 3 := ⟨h, by decide, lw_meth q2128, q198, by decide, by decide⟩
theorem np_X8_isUnimodular : JNp yX8_isUnimodular.desc 0 := by decide +kernel
-- BracketRoomModel.isSo(I)Z
abbrev Y_X8_isSo : JY := (cX8_isSo, yX8_isSo.cls, 2, 9, yX8_isSo.name, (some .boolean), [])
noncomputable def f_X8_isSo (x0 : Nat) (x1 : Int32) : JM Mem Int32 :=
  jsw x1 0 [
    jb (jcall 7 x0 (f_X8_isAbelian x0)) fun v2 =>
    jrz v2,
    jb (jgetI 7 27 x0) fun v3 =>
    jb (jcall 7 x0 (f_X8_seriesOf x0 (v3 + 1) 1)) fun v4 =>
    if v4 = 0 then
      jp 1
    else
      jp 0,
    jb (jgetI 7 27 x0) fun v5 =>
    jb (jcall 7 x0 (f_X8_seriesOf x0 (v5 + 1) 0)) fun v6 =>
    if v6 = 0 then
      jp 1
    else
      jp 0,
    jb (jcall 7 x0 (f_X8_seriesOf x0 1 0)) fun v7 =>
    jb (jgetI 7 27 x0) fun v8 =>
    if v7 = v8 then
      jp 1
    else
      jp 0,
    jb (jcall 7 x0 (f_X8_isSimple x0)) fun v9 =>
    jrz v9] (
    jb (jcall 7 x0 (f_X8_isUnimodular x0)) fun v1 =>
    jrz v1)
set_option maxHeartbeats 8000000 in
theorem j_X8_isSo (D : va_G) (dA : Nat → ClassId) (x0 : Nat) (x1 : Int32) : J (PM D dA false) Y_X8_isSo [(0, .ref x0), (1, .int x1)] [] 0 (f_X8_isSo x0 x1) (FRet injI) := by
  unfold f_X8_isSo
  refine J_iload_n dX8_isSo_0 rfl 1 rfl ?_
  refine J_tswA [36, 41, 61, 81, 100] dX8_isSo_1 (tgt := 105) rfl rfl rfl rfl ?_ ⟨?_, ?_, ?_, ?_, ?_, trivial⟩
  · refine J_aload_n dX8_isSo_105 rfl 0 rfl ?_
    refine J_callVI (c := 7) (as := []) dX8_isSo_106 (by decide) rfl (Nat.le_of_ble_eq_true rfl) (cw_X8_isUnimodular _ (by decide)) q2125 q2127 qs135 q2128 np_X8_isUnimodular (i_X8_isUnimodular x0) jad_id rfl (fun v1 => ?_)
    exact J_zreturn dX8_isSo_109 rfl
  · refine J_aload_n dX8_isSo_36 rfl 0 rfl ?_
    refine J_callVI (c := 7) (as := []) dX8_isSo_37 (by decide) rfl (Nat.le_of_ble_eq_true rfl) (cw_X8_isAbelian _ (by decide)) q2117 q2119 qs133 q2120 np_X8_isAbelian (i_X8_isAbelian x0) jad_id rfl (fun v2 => ?_)
    exact J_zreturn dX8_isSo_40 rfl
  · refine J_aload_n dX8_isSo_41 rfl 0 rfl ?_
    refine J_aload_n dX8_isSo_42 rfl 0 rfl ?_
    refine J_getI dX8_isSo_43 fl_X8_253 rfl (fun v3 => ?_)
    refine J_iconst (v := 1) dX8_isSo_46 (by decide) ?_
    refine J_iadd dX8_isSo_47 ?_
    refine J_iconst (v := 1) dX8_isSo_48 (by decide) ?_
    refine J_callVI (c := 7) (as := [.int (v3 + 1), .int 1]) dX8_isSo_49 (by decide) rfl (Nat.le_of_ble_eq_true rfl) (cw_X8_seriesOf _ (by decide)) q2009 q2011 qs114 q2012 np_X8_seriesOf (i_X8_seriesOf x0 (v3 + 1) 1) jad_id rfl (fun v4 => ?_)
    refine J_if_ne (tgt := 59) dX8_isSo_52 rfl ?_ ?_
    · refine J_iconst (v := 0) dX8_isSo_59 (by decide) ?_
      exact J_zreturn0 dX8_isSo_60 rfl
    refine J_iconst (v := 1) dX8_isSo_55 (by decide) ?_
    refine J_goto (tgt := 60) dX8_isSo_56 rfl ?_
    exact J_zreturn1 dX8_isSo_60 rfl
  · refine J_aload_n dX8_isSo_61 rfl 0 rfl ?_
    refine J_aload_n dX8_isSo_62 rfl 0 rfl ?_
    refine J_getI dX8_isSo_63 fl_X8_253 rfl (fun v5 => ?_)
    refine J_iconst (v := 1) dX8_isSo_66 (by decide) ?_
    refine J_iadd dX8_isSo_67 ?_
    refine J_iconst (v := 0) dX8_isSo_68 (by decide) ?_
    refine J_callVI (c := 7) (as := [.int (v5 + 1), .int 0]) dX8_isSo_69 (by decide) rfl (Nat.le_of_ble_eq_true rfl) (cw_X8_seriesOf _ (by decide)) q2009 q2011 qs114 q2012 np_X8_seriesOf (i_X8_seriesOf x0 (v5 + 1) 0) jad_id rfl (fun v6 => ?_)
    refine J_if_ne (tgt := 79) dX8_isSo_72 rfl ?_ ?_
    · refine J_iconst (v := 0) dX8_isSo_79 (by decide) ?_
      exact J_zreturn0 dX8_isSo_80 rfl
    refine J_iconst (v := 1) dX8_isSo_75 (by decide) ?_
    refine J_goto (tgt := 80) dX8_isSo_76 rfl ?_
    exact J_zreturn1 dX8_isSo_80 rfl
  · refine J_aload_n dX8_isSo_81 rfl 0 rfl ?_
    refine J_iconst (v := 1) dX8_isSo_82 (by decide) ?_
    refine J_iconst (v := 0) dX8_isSo_83 (by decide) ?_
    refine J_callVI (c := 7) (as := [.int 1, .int 0]) dX8_isSo_84 (by decide) rfl (Nat.le_of_ble_eq_true rfl) (cw_X8_seriesOf _ (by decide)) q2009 q2011 qs114 q2012 np_X8_seriesOf (i_X8_seriesOf x0 1 0) jad_id rfl (fun v7 => ?_)
    refine J_aload_n dX8_isSo_87 rfl 0 rfl ?_
    refine J_getI dX8_isSo_88 fl_X8_253 rfl (fun v8 => ?_)
    refine J_icmp_ne (tgt := 98) dX8_isSo_91 rfl ?_ ?_
    · refine J_iconst (v := 0) dX8_isSo_98 (by decide) ?_
      exact J_zreturn0 dX8_isSo_99 rfl
    refine J_iconst (v := 1) dX8_isSo_94 (by decide) ?_
    refine J_goto (tgt := 99) dX8_isSo_95 rfl ?_
    exact J_zreturn1 dX8_isSo_99 rfl
  · refine J_aload_n dX8_isSo_100 rfl 0 rfl ?_
    refine J_callVI (c := 7) (as := []) dX8_isSo_101 (by decide) rfl (Nat.le_of_ble_eq_true rfl) (cw_X8_isSimple _ (by decide)) q2121 q2123 qs134 q2124 np_X8_isSimple (i_X8_isSimple x0) jad_id rfl (fun v9 => ?_)
    exact J_zreturn dX8_isSo_104 rfl
theorem i_X8_isSo (x0 : Nat) (x1 : Int32) : Impl (ws_ yX8_isSo cX8_isSo 2 (some .boolean)) yX8_isSo 9 false 0 0 [.ref x0, .int x1] (f_X8_isSo x0 x1) injI := impl_of (plainFor_of_name (by decide)) (Nat.le_of_ble_eq_true rfl) (fun D dA => j_X8_isSo D dA x0 x1)
theorem cw_X8_isSo (Y : JY) (h : 10 ≤ Y.2.2.2.1) : JCw Y (ws_ yX8_isSo cX8_isSo 2 (some .boolean)) yX8_isSo cX8_isSo 2 (some .boolean) 9 := ⟨h, by decide, lw_meth q2116, q198, by decide, by decide⟩
theorem np_X8_isSo : JNp yX8_isSo.desc 1 := by decide +kernel
-- BracketRoomModel.is(I)I
abbrev Y_X8_is : JY := (cX8_is, yX8_is.cls, 2, 10, yX8_is.name, (some .int), [])
noncomputable def f_X8_is (x0 : Nat) (x1 : Int32) : JM Mem Int32 :=
  jb (jputI 7 1 x0 0) fun _ =>
  jb (jputI 7 0 x0 0) fun _ =>
  jb (jcall 7 x0 (f_X8_askNow x0)) fun _ =>
  jb ((f_X8_isIn ((x1 : Int32).toInt64) 0 5)) fun v1 =>
  if v1 = 0 then
    jb (jcall 7 x0 (f_X8_refuse x0 5)) fun v3 =>
    jp v3
  else
  jb (jcall 7 x0 (f_X8_isSo x0 x1)) fun v2 =>
  if v2 = 0 then
    jp 0
  else
    jp 1
theorem j_X8_is (D : va_G) (dA : Nat → ClassId) (x0 : Nat) (x1 : Int32) : J (PM D dA false) Y_X8_is [(0, .ref x0), (1, .int x1)] [] 0 (f_X8_is x0 x1) (FRet injI) := by
  unfold f_X8_is
  refine J_aload_n dX8_is_0 rfl 0 rfl ?_
  refine J_iconst (v := 0) dX8_is_1 (by decide) ?_
  refine J_putI dX8_is_2 ⟨fl_X8_132, Or.inl rfl⟩ rfl ?_
  refine J_aload_n dX8_is_5 rfl 0 rfl ?_
  refine J_iconst (v := 0) dX8_is_6 (by decide) ?_
  refine J_putI dX8_is_7 ⟨fl_X8_135, Or.inl rfl⟩ rfl ?_
  refine J_aload_n dX8_is_10 rfl 0 rfl ?_
  refine J_callVV (c := 7) (as := []) dX8_is_11 (by decide) rfl (Nat.le_of_ble_eq_true rfl) (cw_X8_askNow _ (by decide)) q1862 q1864 qs88 q1865 np_X8_askNow (i_X8_askNow x0) jad_id rfl ?_
  refine J_iload_n dX8_is_14 rfl 1 rfl ?_
  refine J_i2l dX8_is_15 ?_
  refine J_lconst (v := 0) dX8_is_16 (by decide) ?_
  refine J_ldc2 dX8_is_17 q2112 ?_
  refine J_callSI (host := "") (as := [.long ((x1 : Int32).toInt64), .long 0, .long 5]) dX8_is_20 rfl (Nat.le_of_ble_eq_true rfl) (cw_X8_isIn _ (by decide)) q1801 q1802 q1803 np_X8_isIn (i_X8_isIn ((x1 : Int32).toInt64) 0 5) jad_id rfl (fun v1 => ?_)
  refine J_if_ne (tgt := 32) dX8_is_23 rfl ?_ ?_
  · refine J_aload_n dX8_is_32 rfl 0 rfl ?_
    refine J_iload_n dX8_is_33 rfl 1 rfl ?_
    refine J_callVI (c := 7) (as := [.int x1]) dX8_is_34 (by decide) rfl (Nat.le_of_ble_eq_true rfl) (cw_X8_isSo _ (by decide)) q2113 q2115 qs132 q2116 np_X8_isSo (i_X8_isSo x0 x1) jad_id rfl (fun v2 => ?_)
    refine J_if_eq (tgt := 44) dX8_is_37 rfl ?_ ?_
    · refine J_iconst (v := 0) dX8_is_44 (by decide) ?_
      exact J_ireturn dX8_is_45 rfl
    refine J_iconst (v := 1) dX8_is_40 (by decide) ?_
    refine J_goto (tgt := 45) dX8_is_41 rfl ?_
    exact J_ireturn dX8_is_45 rfl
  refine J_aload_n dX8_is_26 rfl 0 rfl ?_
  refine J_iconst (v := 5) dX8_is_27 (by decide) ?_
  refine J_callVI (c := 7) (as := [.int 5]) dX8_is_28 (by decide) rfl (Nat.le_of_ble_eq_true rfl) (cw_X8_refuse _ (by decide)) q1871 q1873 qs90 q1874 np_X8_refuse (i_X8_refuse x0 5) jad_id rfl (fun v3 => ?_)
  exact J_ireturn dX8_is_31 rfl
theorem i_X8_is (x0 : Nat) (x1 : Int32) : Impl (ws_ yX8_is cX8_is 2 (some .int)) yX8_is 10 false 0 0 [.ref x0, .int x1] (f_X8_is x0 x1) injI := impl_of (plainFor_of_name (by decide)) (Nat.le_of_ble_eq_true rfl) (fun D dA => j_X8_is D dA x0 x1)
theorem cw_X8_is (Y : JY) (h : 11 ≤ Y.2.2.2.1) : JCw Y (ws_ yX8_is cX8_is 2 (some .int)) yX8_is cX8_is 2 (some .int) 10 := ⟨h, by decide, lw_meth q2111, q198, by decide, by decide⟩
theorem np_X8_is : JNp yX8_is.desc 1 := by decide +kernel
-- BracketRoomModel.radical(I)I
abbrev Y_X8_radical : JY := (cX8_radical, yX8_radical.cls, 7, 6, yX8_radical.name, (some .int), [])
noncomputable def X8_radical_b135 (x0 : Nat) (x1 : Int32) (x2 : Int32) (x3 : Int32) : JM Mem (Int32 ⊕ (Int32 × Int32)) :=
  jcont (x2, x3 + 1)
theorem j_X8_radical_b135 (D : va_G) (dA : Nat → ClassId) (x0 : Nat) (x1 : Int32) (x2 : Int32) (x3 : Int32) : J (PM D dA false) Y_X8_radical [(0, .ref x0), (1, .int x1), (2, .int x2), (3, .int x3)] [] 135 (X8_radical_b135 x0 x1 x2 x3) (FLoop (FRet injI) 34 (fun (t : Int32 × Int32) => [(0, .ref x0), (1, .int x1), (2, .int t.1), (3, .int t.2)])) := by
  unfold X8_radical_b135
  refine J_iinc (v := x3 + 1) (env' := [(3, .int (x3 + 1)), (0, .ref x0), (1, .int x1), (2, .int x2)]) dX8_radical_135 3 rfl rfl (by decide) rfl ?_
  refine J_goto (tgt := 34) dX8_radical_138 rfl ?_
  exact J_cont [1, 2, 3, 0] rfl
noncomputable def X8_radical_b129 (x0 : Nat) (x1 : Int32) (x2 : Int32) (x3 : Int32) (x4 : Int32) (x5 : Int32) (x6 : Int32) : JM Mem ((Int32 ⊕ (Int32 × Int32)) ⊕ (Int32 × Int32)) :=
  jcont (x2, x6 + 1)
theorem j_X8_radical_b129 (D : va_G) (dA : Nat → ClassId) (x0 : Nat) (x1 : Int32) (x2 : Int32) (x3 : Int32) (x4 : Int32) (x5 : Int32) (x6 : Int32) : J (PM D dA false) Y_X8_radical [(0, .ref x0), (1, .int x1), (2, .int x2), (3, .int x3), (4, .int x4), (5, .int x5), (6, .int x6)] [] 129 (X8_radical_b129 x0 x1 x2 x3 x4 x5 x6) (FLoop (FLoop (FRet injI) 34 (fun (t : Int32 × Int32) => [(0, .ref x0), (1, .int x1), (2, .int t.1), (3, .int t.2)])) 79 (fun (t : Int32 × Int32) => [(0, .ref x0), (1, .int x1), (2, .int t.1), (3, .int x3), (4, .int x4), (5, .int x5), (6, .int t.2)])) := by
  unfold X8_radical_b129
  refine J_iinc (v := x6 + 1) (env' := [(6, .int (x6 + 1)), (0, .ref x0), (1, .int x1), (2, .int x2), (3, .int x3), (4, .int x4), (5, .int x5)]) dX8_radical_129 6 rfl rfl (by decide) rfl ?_
  refine J_goto (tgt := 79) dX8_radical_132 rfl ?_
  exact J_cont [1, 2, 3, 4, 5, 6, 0] rfl
noncomputable def X8_radical_b120 (x0 : Nat) (x1 : Int32) (x2 : Int32) (x3 : Int32) (x4 : Int32) (x5 : Int32) (x6 : Int32) (s0 : Nat) (s1 : Int32) (s2 : Int32) : JM Mem ((Int32 ⊕ (Int32 × Int32)) ⊕ (Int32 × Int32)) :=
  jb (jcall 7 s0 (f_X8_endsIn0 s0 s1 s2)) fun v8 =>
  if v8 = 0 then
    X8_radical_b129 x0 x1 x2 x3 x4 x5 x6
  else
    X8_radical_b129 x0 x1 x4 x3 x4 x5 x6
theorem j_X8_radical_b120 (D : va_G) (dA : Nat → ClassId) (x0 : Nat) (x1 : Int32) (x2 : Int32) (x3 : Int32) (x4 : Int32) (x5 : Int32) (x6 : Int32) (s0 : Nat) (s1 : Int32) (s2 : Int32) : J (PM D dA false) Y_X8_radical [(0, .ref x0), (1, .int x1), (2, .int x2), (3, .int x3), (4, .int x4), (5, .int x5), (6, .int x6)] [.int s2, .int s1, .ref s0] 120 (X8_radical_b120 x0 x1 x2 x3 x4 x5 x6 s0 s1 s2) (FLoop (FLoop (FRet injI) 34 (fun (t : Int32 × Int32) => [(0, .ref x0), (1, .int x1), (2, .int t.1), (3, .int t.2)])) 79 (fun (t : Int32 × Int32) => [(0, .ref x0), (1, .int x1), (2, .int t.1), (3, .int x3), (4, .int x4), (5, .int x5), (6, .int t.2)])) := by
  unfold X8_radical_b120
  refine J_callVI (c := 7) (as := [.int s1, .int s2]) dX8_radical_120 (by decide) rfl (Nat.le_of_ble_eq_true rfl) (cw_X8_endsIn0 _ (by decide)) q2089 q2091 qs129 q2092 np_X8_endsIn0 (i_X8_endsIn0 s0 s1 s2) jad_id rfl (fun v8 => ?_)
  refine J_if_eq (tgt := 129) dX8_radical_123 rfl ?_ ?_
  · refine J_sub [0, 1, 2, 3, 4, 5, 6] rfl ?_
    exact j_X8_radical_b129 D dA x0 x1 x2 x3 x4 x5 x6
  refine J_iload dX8_radical_126 4 rfl ?_
  refine J_istore_n (env' := [(2, .int x4), (0, .ref x0), (1, .int x1), (3, .int x3), (4, .int x4), (5, .int x5), (6, .int x6)]) dX8_radical_128 rfl (by decide) rfl ?_
  refine J_sub [1, 2, 0, 3, 4, 5, 6] rfl ?_
  exact j_X8_radical_b129 D dA x0 x1 x4 x3 x4 x5 x6
noncomputable def X8_radical_L79 (x0 : Nat) (x1 : Int32) (x3 : Int32) (x4 : Int32) (x5 : Int32) (x2 : Int32) (x6 : Int32) : JM Mem ((Int32 ⊕ (Int32 × Int32)) ⊕ (Int32 × Int32)) :=
  if x5 ≤ x6 then
    jinl (X8_radical_b135 x0 x1 x2 x3)
  else
  if x4 ≤ x2 then
    jinl (X8_radical_b135 x0 x1 x2 x3)
  else
  jb (jcall 7 x0 (f_X8_spanBy x0 x6)) fun _ =>
  jb (jcall 7 x0 (f_X8_isIdeal x0 x4)) fun v7 =>
  if v7 = 0 then
    X8_radical_b129 x0 x1 x2 x3 x4 x5 x6
  else
  if x1 = 1 then
    X8_radical_b120 x0 x1 x2 x3 x4 x5 x6 x0 x4 1
  else
    X8_radical_b120 x0 x1 x2 x3 x4 x5 x6 x0 x4 0
theorem j_X8_radical_L79 (D : va_G) (dA : Nat → ClassId) (x0 : Nat) (x1 : Int32) (x3 : Int32) (x4 : Int32) (x5 : Int32) (x2 : Int32) (x6 : Int32) : J (PM D dA false) Y_X8_radical [(0, .ref x0), (1, .int x1), (2, .int x2), (3, .int x3), (4, .int x4), (5, .int x5), (6, .int x6)] [] 79 (X8_radical_L79 x0 x1 x3 x4 x5 x2 x6) (FLoop (FLoop (FRet injI) 34 (fun (t : Int32 × Int32) => [(0, .ref x0), (1, .int x1), (2, .int t.1), (3, .int t.2)])) 79 (fun (t : Int32 × Int32) => [(0, .ref x0), (1, .int x1), (2, .int t.1), (3, .int x3), (4, .int x4), (5, .int x5), (6, .int t.2)])) := by
  unfold X8_radical_L79
  refine J_iload dX8_radical_79 6 rfl ?_
  refine J_iload dX8_radical_81 5 rfl ?_
  refine J_icmp_ge (tgt := 135) dX8_radical_83 rfl ?_ ?_
  · refine J_inl ?_
    refine J_sub [0, 1, 2, 3] rfl ?_
    exact j_X8_radical_b135 D dA x0 x1 x2 x3
  refine J_iload dX8_radical_86 4 rfl ?_
  refine J_iload_n dX8_radical_88 rfl 2 rfl ?_
  refine J_icmp_le (tgt := 135) dX8_radical_89 rfl ?_ ?_
  · refine J_inl ?_
    refine J_sub [0, 1, 2, 3] rfl ?_
    exact j_X8_radical_b135 D dA x0 x1 x2 x3
  refine J_aload_n dX8_radical_92 rfl 0 rfl ?_
  refine J_iload dX8_radical_93 6 rfl ?_
  refine J_callVV (c := 7) (as := [.int x6]) dX8_radical_95 (by decide) rfl (Nat.le_of_ble_eq_true rfl) (cw_X8_spanBy _ (by decide)) q2065 q2067 qs123 q2068 np_X8_spanBy (i_X8_spanBy x0 x6) jad_id rfl ?_
  refine J_aload_n dX8_radical_98 rfl 0 rfl ?_
  refine J_iload dX8_radical_99 4 rfl ?_
  refine J_callVI (c := 7) (as := [.int x4]) dX8_radical_101 (by decide) rfl (Nat.le_of_ble_eq_true rfl) (cw_X8_isIdeal _ (by decide)) q2073 q2075 qs125 q2076 np_X8_isIdeal (i_X8_isIdeal x0 x4) jad_id rfl (fun v7 => ?_)
  refine J_if_eq (tgt := 129) dX8_radical_104 rfl ?_ ?_
  · refine J_sub [0, 1, 2, 3, 4, 5, 6] rfl ?_
    exact j_X8_radical_b129 D dA x0 x1 x2 x3 x4 x5 x6
  refine J_aload_n dX8_radical_107 rfl 0 rfl ?_
  refine J_iload dX8_radical_108 4 rfl ?_
  refine J_iload_n dX8_radical_110 rfl 1 rfl ?_
  refine J_iconst (v := 1) dX8_radical_111 (by decide) ?_
  refine J_icmp_ne (tgt := 119) dX8_radical_112 rfl ?_ ?_
  · refine J_iconst (v := 0) dX8_radical_119 (by decide) ?_
    refine J_sub [0, 1, 2, 3, 4, 5, 6] rfl ?_
    exact j_X8_radical_b120 D dA x0 x1 x2 x3 x4 x5 x6 x0 x4 0
  refine J_iconst (v := 1) dX8_radical_115 (by decide) ?_
  refine J_goto (tgt := 120) dX8_radical_116 rfl ?_
  refine J_sub [0, 1, 2, 3, 4, 5, 6] rfl ?_
  exact j_X8_radical_b120 D dA x0 x1 x2 x3 x4 x5 x6 x0 x4 1
noncomputable def X8_radical_L34 (x0 : Nat) (x1 : Int32) (x2 : Int32) (x3 : Int32) : JM Mem (Int32 ⊕ (Int32 × Int32)) :=
  jb (jgetI 7 27 x0) fun v2 =>
  if (1 : Int32) <<< (v2 &&& 31) ≤ x3 then
    jinl (jp x2)
  else
  jb (jcall 7 x0 (f_X8_lead x0 x3)) fun _ =>
  jb (jgetI 7 59 x0) fun v3 =>
  if x2 < v3 then
    jb (jgetI 7 59 x0) fun v4 =>
    jb (jgetI 7 60 x0) fun v5 =>
    jb (jcall 7 x0 (f_X8_powerOf x0 v5)) fun v6 =>
    jloop (fun (t : Int32 × Int32) => X8_radical_L79 x0 x1 x3 v4 v6 t.1 t.2) (x2, 0)
  else
    X8_radical_b135 x0 x1 x2 x3
theorem j_X8_radical_L34 (D : va_G) (dA : Nat → ClassId) (x0 : Nat) (x1 : Int32) (x2 : Int32) (x3 : Int32) : J (PM D dA false) Y_X8_radical [(0, .ref x0), (1, .int x1), (2, .int x2), (3, .int x3)] [] 34 (X8_radical_L34 x0 x1 x2 x3) (FLoop (FRet injI) 34 (fun (t : Int32 × Int32) => [(0, .ref x0), (1, .int x1), (2, .int t.1), (3, .int t.2)])) := by
  unfold X8_radical_L34
  refine J_iload_n dX8_radical_34 rfl 3 rfl ?_
  refine J_iconst (v := 1) dX8_radical_35 (by decide) ?_
  refine J_aload_n dX8_radical_36 rfl 0 rfl ?_
  refine J_getI dX8_radical_37 fl_X8_253 rfl (fun v2 => ?_)
  refine J_ishl dX8_radical_40 ?_
  refine J_icmp_ge (tgt := 141) dX8_radical_41 rfl ?_ ?_
  · refine J_inl ?_
    refine J_iload_n dX8_radical_141 rfl 2 rfl ?_
    exact J_ireturn dX8_radical_142 rfl
  refine J_aload_n dX8_radical_44 rfl 0 rfl ?_
  refine J_iload_n dX8_radical_45 rfl 3 rfl ?_
  refine J_callVV (c := 7) (as := [.int x3]) dX8_radical_46 (by decide) rfl (Nat.le_of_ble_eq_true rfl) (cw_X8_lead _ (by decide)) q2061 q2063 qs122 q2064 np_X8_lead (i_X8_lead x0 x3) jad_id rfl ?_
  refine J_aload_n dX8_radical_49 rfl 0 rfl ?_
  refine J_getI dX8_radical_50 fl_X8_442 rfl (fun v3 => ?_)
  refine J_iload_n dX8_radical_53 rfl 2 rfl ?_
  refine J_icmp_gt (tgt := 60) dX8_radical_54 rfl ?_ ?_
  · refine J_aload_n dX8_radical_60 rfl 0 rfl ?_
    refine J_getI dX8_radical_61 fl_X8_442 rfl (fun v4 => ?_)
    refine J_istore (env' := [(4, .int v4), (0, .ref x0), (1, .int x1), (2, .int x2), (3, .int x3)]) dX8_radical_64 (by decide) rfl ?_
    refine J_aload_n dX8_radical_66 rfl 1 rfl ?_
    refine J_aload_n dX8_radical_67 rfl 1 rfl ?_
    refine J_getI dX8_radical_68 fl_X8_445 rfl (fun v5 => ?_)
    refine J_callVI (c := 7) (as := [.int v5]) dX8_radical_71 (by decide) rfl (Nat.le_of_ble_eq_true rfl) (cw_X8_powerOf _ (by decide)) q1903 q1905 qs95 q1906 np_X8_powerOf (i_X8_powerOf x0 v5) jad_id rfl (fun v6 => ?_)
    refine J_istore (env' := [(5, .int v6), (4, .int v4), (0, .ref x0), (1, .int x1), (2, .int x2), (3, .int x3)]) dX8_radical_74 (by decide) rfl ?_
    refine J_iconst (v := 0) dX8_radical_76 (by decide) ?_
    refine J_istore (env' := [(6, .int 0), (5, .int v6), (4, .int v4), (0, .ref x0), (1, .int x1), (2, .int x2), (3, .int x3)]) dX8_radical_77 (by decide) rfl ?_
    refine J_loop (he := fun (t : Int32 × Int32) => [(0, .ref x0), (1, .int x1), (2, .int t.1), (3, .int x3), (4, .int v4), (5, .int v6), (6, .int t.2)]) [3, 4, 5, 6, 2, 1, 0] rfl (fun t => ?_)
    exact j_X8_radical_L79 D dA x0 x1 x3 v4 v6 t.1 t.2
  refine J_goto (tgt := 135) dX8_radical_57 rfl ?_
  refine J_sub [0, 1, 2, 3] rfl ?_
  exact j_X8_radical_b135 D dA x0 x1 x2 x3
noncomputable def f_X8_radical (x0 : Nat) (x1 : Int32) : JM Mem Int32 :=
  jb (jputI 7 1 x0 0) fun _ =>
  jb (jputI 7 0 x0 0) fun _ =>
  jb (jcall 7 x0 (f_X8_askNow x0)) fun _ =>
  jb ((f_X8_isIn ((x1 : Int32).toInt64) 0 1)) fun v1 =>
  if v1 = 0 then
    jb (jcall 7 x0 (f_X8_refuse x0 5)) fun v9 =>
    jp v9
  else
    jloop (fun (t : Int32 × Int32) => X8_radical_L34 x0 x1 t.1 t.2) (0, 0)
theorem j_X8_radical (D : va_G) (dA : Nat → ClassId) (x0 : Nat) (x1 : Int32) : J (PM D dA false) Y_X8_radical [(0, .ref x0), (1, .int x1)] [] 0 (f_X8_radical x0 x1) (FRet injI) := by
  unfold f_X8_radical
  refine J_aload_n dX8_radical_0 rfl 0 rfl ?_
  refine J_iconst (v := 0) dX8_radical_1 (by decide) ?_
  refine J_putI dX8_radical_2 ⟨fl_X8_132, Or.inl rfl⟩ rfl ?_
  refine J_aload_n dX8_radical_5 rfl 0 rfl ?_
  refine J_iconst (v := 0) dX8_radical_6 (by decide) ?_
  refine J_putI dX8_radical_7 ⟨fl_X8_135, Or.inl rfl⟩ rfl ?_
  refine J_aload_n dX8_radical_10 rfl 0 rfl ?_
  refine J_callVV (c := 7) (as := []) dX8_radical_11 (by decide) rfl (Nat.le_of_ble_eq_true rfl) (cw_X8_askNow _ (by decide)) q1862 q1864 qs88 q1865 np_X8_askNow (i_X8_askNow x0) jad_id rfl ?_
  refine J_iload_n dX8_radical_14 rfl 1 rfl ?_
  refine J_i2l dX8_radical_15 ?_
  refine J_lconst (v := 0) dX8_radical_16 (by decide) ?_
  refine J_lconst (v := 1) dX8_radical_17 (by decide) ?_
  refine J_callSI (host := "") (as := [.long ((x1 : Int32).toInt64), .long 0, .long 1]) dX8_radical_18 rfl (Nat.le_of_ble_eq_true rfl) (cw_X8_isIn _ (by decide)) q1801 q1802 q1803 np_X8_isIn (i_X8_isIn ((x1 : Int32).toInt64) 0 1) jad_id rfl (fun v1 => ?_)
  refine J_if_ne (tgt := 30) dX8_radical_21 rfl ?_ ?_
  · refine J_iconst (v := 0) dX8_radical_30 (by decide) ?_
    refine J_istore_n (env' := [(2, .int 0), (0, .ref x0), (1, .int x1)]) dX8_radical_31 rfl (by decide) rfl ?_
    refine J_iconst (v := 0) dX8_radical_32 (by decide) ?_
    refine J_istore_n (env' := [(3, .int 0), (2, .int 0), (0, .ref x0), (1, .int x1)]) dX8_radical_33 rfl (by decide) rfl ?_
    refine J_loop (he := fun (t : Int32 × Int32) => [(0, .ref x0), (1, .int x1), (2, .int t.1), (3, .int t.2)]) [2, 3, 1, 0] rfl (fun t => ?_)
    exact j_X8_radical_L34 D dA x0 x1 t.1 t.2
  refine J_aload_n dX8_radical_24 rfl 0 rfl ?_
  refine J_iconst (v := 5) dX8_radical_25 (by decide) ?_
  refine J_callVI (c := 7) (as := [.int 5]) dX8_radical_26 (by decide) rfl (Nat.le_of_ble_eq_true rfl) (cw_X8_refuse _ (by decide)) q1871 q1873 qs90 q1874 np_X8_refuse (i_X8_refuse x0 5) jad_id rfl (fun v9 => ?_)
  exact J_ireturn dX8_radical_29 rfl
theorem i_X8_radical (x0 : Nat) (x1 : Int32) : Impl (ws_ yX8_radical cX8_radical 7 (some .int)) yX8_radical 6 false 0 0 [.ref x0, .int x1] (f_X8_radical x0 x1) injI := impl_of (plainFor_of_name (by decide)) (Nat.le_of_ble_eq_true rfl) (fun D dA => j_X8_radical D dA x0 x1)
theorem cw_X8_radical (Y : JY) (h : 7 ≤ Y.2.2.2.1) : JCw Y (ws_ yX8_radical cX8_radical 7 (some .int)) yX8_radical cX8_radical 7 (some .int) 6 := ⟨h, by decide, lw_meth q2132, q198, by decide, by decide⟩
theorem np_X8_radical : JNp yX8_radical.desc 1 := by decide +kernel
-- BracketRoomModel.matrixOf(I)V
abbrev Y_X8_matrixOf : JY := (cX8_matrixOf, yX8_matrixOf.cls, 4, 4, yX8_matrixOf.name, none, [])
noncomputable def X8_matrixOf_b79 (x0 : Nat) (x2 : Int32) : JM Mem (Unit ⊕ (Int32)) :=
  jcont (x2 + 1)
theorem j_X8_matrixOf_b79 (D : va_G) (dA : Nat → ClassId) (x0 : Nat) (x2 : Int32) : J (PM D dA false) Y_X8_matrixOf [(0, .ref x0), (2, .int x2)] [] 79 (X8_matrixOf_b79 x0 x2) (FLoop (FRet injU) 12 (fun (t : Int32) => [(0, .ref x0), (2, .int t)])) := by
  unfold X8_matrixOf_b79
  refine J_iinc (v := x2 + 1) (env' := [(2, .int (x2 + 1)), (0, .ref x0)]) dX8_matrixOf_79 1 rfl rfl (by decide) rfl ?_
  refine J_goto (tgt := 12) dX8_matrixOf_82 rfl ?_
  exact J_cont [1, 0] rfl
noncomputable def X8_matrixOf_L49 (x0 : Nat) (x2 : Int32) (x3 : Int32) : JM Mem ((Unit ⊕ (Int32)) ⊕ (Int32)) :=
  jb (jgetI 7 27 x0) fun v7 =>
  if v7 ≤ x3 then
    jinl (X8_matrixOf_b79 x0 x2)
  else
  jb (jgetA 7 61 x0) fun v8 =>
  jb (jgetA 7 35 x0) fun v9 =>
  jb (jald mI 0 v9 x3) fun v10 =>
  jb (jast_i v8 ((5 * x2) + x3) v10) fun _ =>
  jcont (x3 + 1)
theorem j_X8_matrixOf_L49 (D : va_G) (dA : Nat → ClassId) (x0 : Nat) (x2 : Int32) (x3 : Int32) : J (PM D dA false) Y_X8_matrixOf [(0, .ref x0), (2, .int x2), (3, .int x3)] [] 49 (X8_matrixOf_L49 x0 x2 x3) (FLoop (FLoop (FRet injU) 12 (fun (t : Int32) => [(0, .ref x0), (2, .int t)])) 49 (fun (t : Int32) => [(0, .ref x0), (2, .int x2), (3, .int t)])) := by
  unfold X8_matrixOf_L49
  refine J_iload_n dX8_matrixOf_49 rfl 2 rfl ?_
  refine J_aload_n dX8_matrixOf_50 rfl 0 rfl ?_
  refine J_getI dX8_matrixOf_51 fl_X8_253 rfl (fun v7 => ?_)
  refine J_icmp_ge (tgt := 79) dX8_matrixOf_54 rfl ?_ ?_
  · refine J_inl ?_
    refine J_sub [0, 1] rfl ?_
    exact j_X8_matrixOf_b79 D dA x0 x2
  refine J_aload_n dX8_matrixOf_57 rfl 0 rfl ?_
  refine J_getA dX8_matrixOf_58 fl_X8_110 rfl (fun v8 => ?_)
  refine J_iconst (v := 5) dX8_matrixOf_61 (by decide) ?_
  refine J_iload_n dX8_matrixOf_62 rfl 1 rfl ?_
  refine J_imul dX8_matrixOf_63 ?_
  refine J_iload_n dX8_matrixOf_64 rfl 2 rfl ?_
  refine J_iadd dX8_matrixOf_65 ?_
  refine J_aload_n dX8_matrixOf_66 rfl 0 rfl ?_
  refine J_getA dX8_matrixOf_67 fl_X8_68 rfl (fun v9 => ?_)
  refine J_iload_n dX8_matrixOf_70 rfl 2 rfl ?_
  refine J_iald dX8_matrixOf_71 (fun v10 => ?_)
  refine J_iast dX8_matrixOf_72 ?_
  refine J_iinc (v := x3 + 1) (env' := [(3, .int (x3 + 1)), (0, .ref x0), (2, .int x2)]) dX8_matrixOf_73 2 rfl rfl (by decide) rfl ?_
  refine J_goto (tgt := 49) dX8_matrixOf_76 rfl ?_
  exact J_cont [1, 2, 0] rfl
noncomputable def X8_matrixOf_L12 (x0 : Nat) (x2 : Int32) : JM Mem (Unit ⊕ (Int32)) :=
  jb (jgetI 7 27 x0) fun v2 =>
  if v2 ≤ x2 then
    jinl (jp ())
  else
  jb (jgetA 7 34 x0) fun v3 =>
  jb (jcall 7 x0 (f_X8_unit x0 x2 v3)) fun _ =>
  jb (jgetA 7 33 x0) fun v4 =>
  jb (jgetA 7 34 x0) fun v5 =>
  jb (jgetA 7 35 x0) fun v6 =>
  jb (jcall 7 x0 (f_X8_bracketOf x0 v4 0 v5 0 v6)) fun _ =>
  jloop (fun (t : Int32) => X8_matrixOf_L49 x0 x2 t) 0
theorem j_X8_matrixOf_L12 (D : va_G) (dA : Nat → ClassId) (x0 : Nat) (x2 : Int32) : J (PM D dA false) Y_X8_matrixOf [(0, .ref x0), (2, .int x2)] [] 12 (X8_matrixOf_L12 x0 x2) (FLoop (FRet injU) 12 (fun (t : Int32) => [(0, .ref x0), (2, .int t)])) := by
  unfold X8_matrixOf_L12
  refine J_iload_n dX8_matrixOf_12 rfl 1 rfl ?_
  refine J_aload_n dX8_matrixOf_13 rfl 0 rfl ?_
  refine J_getI dX8_matrixOf_14 fl_X8_253 rfl (fun v2 => ?_)
  refine J_icmp_ge (tgt := 85) dX8_matrixOf_17 rfl ?_ ?_
  · refine J_inl ?_
    exact J_return dX8_matrixOf_85 rfl
  refine J_aload_n dX8_matrixOf_20 rfl 0 rfl ?_
  refine J_iload_n dX8_matrixOf_21 rfl 1 rfl ?_
  refine J_aload_n dX8_matrixOf_22 rfl 0 rfl ?_
  refine J_getA dX8_matrixOf_23 fl_X8_65 rfl (fun v3 => ?_)
  refine J_callVV (c := 7) (as := [.int x2, .ref v3]) dX8_matrixOf_26 (by decide) rfl (Nat.le_of_ble_eq_true rfl) (cw_X8_unit _ (by decide)) q1935 q1937 qs102 q1938 np_X8_unit (i_X8_unit x0 x2 v3) jad_id rfl ?_
  refine J_aload_n dX8_matrixOf_29 rfl 0 rfl ?_
  refine J_aload_n dX8_matrixOf_30 rfl 0 rfl ?_
  refine J_getA dX8_matrixOf_31 fl_X8_62 rfl (fun v4 => ?_)
  refine J_iconst (v := 0) dX8_matrixOf_34 (by decide) ?_
  refine J_aload_n dX8_matrixOf_35 rfl 0 rfl ?_
  refine J_getA dX8_matrixOf_36 fl_X8_65 rfl (fun v5 => ?_)
  refine J_iconst (v := 0) dX8_matrixOf_39 (by decide) ?_
  refine J_aload_n dX8_matrixOf_40 rfl 0 rfl ?_
  refine J_getA dX8_matrixOf_41 fl_X8_68 rfl (fun v6 => ?_)
  refine J_callVV (c := 7) (as := [.ref v4, .int 0, .ref v5, .int 0, .ref v6]) dX8_matrixOf_44 (by decide) rfl (Nat.le_of_ble_eq_true rfl) (cw_X8_bracketOf _ (by decide)) q1911 q1913 qs97 q1914 np_X8_bracketOf (i_X8_bracketOf x0 v4 0 v5 0 v6) jad_id rfl ?_
  refine J_iconst (v := 0) dX8_matrixOf_47 (by decide) ?_
  refine J_istore_n (env' := [(3, .int 0), (0, .ref x0), (2, .int x2)]) dX8_matrixOf_48 rfl (by decide) rfl ?_
  refine J_loop (he := fun (t : Int32) => [(0, .ref x0), (2, .int x2), (3, .int t)]) [1, 2, 0] rfl (fun t => ?_)
  exact j_X8_matrixOf_L49 D dA x0 x2 t
noncomputable def f_X8_matrixOf (x0 : Nat) (x1 : Int32) : JM Mem Unit :=
  jb (jgetA 7 33 x0) fun v1 =>
  jb (jcall 7 x0 (f_X8_parts2 x0 x1 v1 0)) fun _ =>
  jloop (fun (t : Int32) => X8_matrixOf_L12 x0 t) 0
theorem j_X8_matrixOf (D : va_G) (dA : Nat → ClassId) (x0 : Nat) (x1 : Int32) : J (PM D dA false) Y_X8_matrixOf [(0, .ref x0), (1, .int x1)] [] 0 (f_X8_matrixOf x0 x1) (FRet injU) := by
  unfold f_X8_matrixOf
  refine J_aload_n dX8_matrixOf_0 rfl 0 rfl ?_
  refine J_iload_n dX8_matrixOf_1 rfl 1 rfl ?_
  refine J_aload_n dX8_matrixOf_2 rfl 0 rfl ?_
  refine J_getA dX8_matrixOf_3 fl_X8_62 rfl (fun v1 => ?_)
  refine J_iconst (v := 0) dX8_matrixOf_6 (by decide) ?_
  refine J_callVV (c := 7) (as := [.int x1, .ref v1, .int 0]) dX8_matrixOf_7 (by decide) rfl (Nat.le_of_ble_eq_true rfl) (cw_X8_parts2 _ (by decide)) q1907 q1909 qs96 q1910 np_X8_parts2 (i_X8_parts2 x0 x1 v1 0) jad_id rfl ?_
  refine J_iconst (v := 0) dX8_matrixOf_10 (by decide) ?_
  refine J_istore_n (env' := [(2, .int 0), (0, .ref x0), (1, .int x1)]) dX8_matrixOf_11 rfl (by decide) rfl ?_
  refine J_loop (he := fun (t : Int32) => [(0, .ref x0), (2, .int t)]) [1, 0] rfl (fun t => ?_)
  exact j_X8_matrixOf_L12 D dA x0 t
theorem i_X8_matrixOf (x0 : Nat) (x1 : Int32) : Impl (ws_ yX8_matrixOf cX8_matrixOf 4 none) yX8_matrixOf 4 false 0 0 [.ref x0, .int x1] (f_X8_matrixOf x0 x1) injU := impl_of (plainFor_of_name (by decide)) (Nat.le_of_ble_eq_true rfl) (fun D dA => j_X8_matrixOf D dA x0 x1)
theorem cw_X8_matrixOf (Y : JY) (h : 5 ≤ Y.2.2.2.1) : JCw Y (ws_ yX8_matrixOf cX8_matrixOf 4 none) yX8_matrixOf cX8_matrixOf 4 none 4 := ⟨h, by decide, lw_meth q2140, q198, by decide, by decide⟩
theorem np_X8_matrixOf : JNp yX8_matrixOf.desc 1 := by decide +kernel
-- BracketRoomModel.isZero([I)Z
abbrev Y_X8_isZero : JY := (cX8_isZero, yX8_isZero.cls, 4, 1, yX8_isZero.name, (some .boolean), [])
noncomputable def X8_isZero_b38 (x0 : Nat) (x1 : Nat) (x2 : Int32) : JM Mem (Int32 ⊕ (Int32)) :=
  jcont (x2 + 1)
theorem j_X8_isZero_b38 (D : va_G) (dA : Nat → ClassId) (x0 : Nat) (x1 : Nat) (x2 : Int32) : J (PM D dA false) Y_X8_isZero [(0, .ref x0), (1, .ref x1), (2, .int x2)] [] 38 (X8_isZero_b38 x0 x1 x2) (FLoop (FRet injI) 2 (fun (t : Int32) => [(0, .ref x0), (1, .ref x1), (2, .int t)])) := by
  unfold X8_isZero_b38
  refine J_iinc (v := x2 + 1) (env' := [(2, .int (x2 + 1)), (0, .ref x0), (1, .ref x1)]) dX8_isZero_38 2 rfl rfl (by decide) rfl ?_
  refine J_goto (tgt := 2) dX8_isZero_41 rfl ?_
  exact J_cont [1, 2, 0] rfl
noncomputable def X8_isZero_L12 (x0 : Nat) (x1 : Nat) (x2 : Int32) (x3 : Int32) : JM Mem ((Int32 ⊕ (Int32)) ⊕ (Int32)) :=
  jb (jgetI 7 27 x0) fun v2 =>
  if v2 ≤ x3 then
    jinl (X8_isZero_b38 x0 x1 x2)
  else
  jb (jald mI 0 x1 ((5 * x2) + x3)) fun v3 =>
  if v3 = 0 then
    jcont (x3 + 1)
  else
    jinl (jinl (jp 0))
theorem j_X8_isZero_L12 (D : va_G) (dA : Nat → ClassId) (x0 : Nat) (x1 : Nat) (x2 : Int32) (x3 : Int32) : J (PM D dA false) Y_X8_isZero [(0, .ref x0), (1, .ref x1), (2, .int x2), (3, .int x3)] [] 12 (X8_isZero_L12 x0 x1 x2 x3) (FLoop (FLoop (FRet injI) 2 (fun (t : Int32) => [(0, .ref x0), (1, .ref x1), (2, .int t)])) 12 (fun (t : Int32) => [(0, .ref x0), (1, .ref x1), (2, .int x2), (3, .int t)])) := by
  unfold X8_isZero_L12
  refine J_iload_n dX8_isZero_12 rfl 3 rfl ?_
  refine J_aload_n dX8_isZero_13 rfl 0 rfl ?_
  refine J_getI dX8_isZero_14 fl_X8_253 rfl (fun v2 => ?_)
  refine J_icmp_ge (tgt := 38) dX8_isZero_17 rfl ?_ ?_
  · refine J_inl ?_
    refine J_sub [0, 1, 2] rfl ?_
    exact j_X8_isZero_b38 D dA x0 x1 x2
  refine J_aload_n dX8_isZero_20 rfl 1 rfl ?_
  refine J_iconst (v := 5) dX8_isZero_21 (by decide) ?_
  refine J_iload_n dX8_isZero_22 rfl 2 rfl ?_
  refine J_imul dX8_isZero_23 ?_
  refine J_iload_n dX8_isZero_24 rfl 3 rfl ?_
  refine J_iadd dX8_isZero_25 ?_
  refine J_iald dX8_isZero_26 (fun v3 => ?_)
  refine J_if_eq (tgt := 32) dX8_isZero_27 rfl ?_ ?_
  · refine J_iinc (v := x3 + 1) (env' := [(3, .int (x3 + 1)), (0, .ref x0), (1, .ref x1), (2, .int x2)]) dX8_isZero_32 3 rfl rfl (by decide) rfl ?_
    refine J_goto (tgt := 12) dX8_isZero_35 rfl ?_
    exact J_cont [1, 2, 3, 0] rfl
  refine J_inl ?_
  refine J_inl ?_
  refine J_iconst (v := 0) dX8_isZero_30 (by decide) ?_
  exact J_zreturn0 dX8_isZero_31 rfl
noncomputable def X8_isZero_L2 (x0 : Nat) (x1 : Nat) (x2 : Int32) : JM Mem (Int32 ⊕ (Int32)) :=
  jb (jgetI 7 27 x0) fun v1 =>
  if v1 ≤ x2 then
    jinl (jp 1)
  else
    jloop (fun (t : Int32) => X8_isZero_L12 x0 x1 x2 t) 0
theorem j_X8_isZero_L2 (D : va_G) (dA : Nat → ClassId) (x0 : Nat) (x1 : Nat) (x2 : Int32) : J (PM D dA false) Y_X8_isZero [(0, .ref x0), (1, .ref x1), (2, .int x2)] [] 2 (X8_isZero_L2 x0 x1 x2) (FLoop (FRet injI) 2 (fun (t : Int32) => [(0, .ref x0), (1, .ref x1), (2, .int t)])) := by
  unfold X8_isZero_L2
  refine J_iload_n dX8_isZero_2 rfl 2 rfl ?_
  refine J_aload_n dX8_isZero_3 rfl 0 rfl ?_
  refine J_getI dX8_isZero_4 fl_X8_253 rfl (fun v1 => ?_)
  refine J_icmp_ge (tgt := 44) dX8_isZero_7 rfl ?_ ?_
  · refine J_inl ?_
    refine J_iconst (v := 1) dX8_isZero_44 (by decide) ?_
    exact J_zreturn1 dX8_isZero_45 rfl
  refine J_iconst (v := 0) dX8_isZero_10 (by decide) ?_
  refine J_istore_n (env' := [(3, .int 0), (0, .ref x0), (1, .ref x1), (2, .int x2)]) dX8_isZero_11 rfl (by decide) rfl ?_
  refine J_loop (he := fun (t : Int32) => [(0, .ref x0), (1, .ref x1), (2, .int x2), (3, .int t)]) [1, 2, 3, 0] rfl (fun t => ?_)
  exact j_X8_isZero_L12 D dA x0 x1 x2 t
noncomputable def f_X8_isZero (x0 : Nat) (x1 : Nat) : JM Mem Int32 :=
  jloop (fun (t : Int32) => X8_isZero_L2 x0 x1 t) 0
theorem j_X8_isZero (D : va_G) (dA : Nat → ClassId) (x0 : Nat) (x1 : Nat) : J (PM D dA false) Y_X8_isZero [(0, .ref x0), (1, .ref x1)] [] 0 (f_X8_isZero x0 x1) (FRet injI) := by
  unfold f_X8_isZero
  refine J_iconst (v := 0) dX8_isZero_0 (by decide) ?_
  refine J_istore_n (env' := [(2, .int 0), (0, .ref x0), (1, .ref x1)]) dX8_isZero_1 rfl (by decide) rfl ?_
  refine J_loop (he := fun (t : Int32) => [(0, .ref x0), (1, .ref x1), (2, .int t)]) [1, 2, 0] rfl (fun t => ?_)
  exact j_X8_isZero_L2 D dA x0 x1 t
theorem i_X8_isZero (x0 : Nat) (x1 : Nat) : Impl (ws_ yX8_isZero cX8_isZero 4 (some .boolean)) yX8_isZero 1 false 0 0 [.ref x0, .ref x1] (f_X8_isZero x0 x1) injI := impl_of (plainFor_of_name (by decide)) (Nat.le_of_ble_eq_true rfl) (fun D dA => j_X8_isZero D dA x0 x1)
theorem cw_X8_isZero (Y : JY) (h : 2 ≤ Y.2.2.2.1) : JCw Y (ws_ yX8_isZero cX8_isZero 4 (some .boolean)) yX8_isZero cX8_isZero 4 (some .boolean) 1 := ⟨h, by decide, lw_meth q2144, q198, by decide, by decide⟩
theorem np_X8_isZero : JNp yX8_isZero.desc 1 := by decide +kernel
-- BracketRoomModel.times([I[I[I)V
abbrev Y_X8_times : JY := (cX8_times, yX8_times.cls, 8, 1, yX8_times.name, none, [])
noncomputable def X8_times_b91 (x0 : Nat) (x1 : Nat) (x2 : Nat) (x3 : Nat) (x4 : Int32) : JM Mem (Unit ⊕ (Int32)) :=
  jcont (x4 + 1)
theorem j_X8_times_b91 (D : va_G) (dA : Nat → ClassId) (x0 : Nat) (x1 : Nat) (x2 : Nat) (x3 : Nat) (x4 : Int32) : J (PM D dA false) Y_X8_times [(0, .ref x0), (1, .ref x1), (2, .ref x2), (3, .ref x3), (4, .int x4)] [] 91 (X8_times_b91 x0 x1 x2 x3 x4) (FLoop (FRet injU) 3 (fun (t : Int32) => [(0, .ref x0), (1, .ref x1), (2, .ref x2), (3, .ref x3), (4, .int t)])) := by
  unfold X8_times_b91
  refine J_iinc (v := x4 + 1) (env' := [(4, .int (x4 + 1)), (0, .ref x0), (1, .ref x1), (2, .ref x2), (3, .ref x3)]) dX8_times_91 4 rfl rfl (by decide) rfl ?_
  refine J_goto (tgt := 3) dX8_times_94 rfl ?_
  exact J_cont [1, 2, 3, 4, 0] rfl
noncomputable def X8_times_b69 (x0 : Nat) (x1 : Nat) (x2 : Nat) (x3 : Nat) (x4 : Int32) (x5 : Int32) (x6 : Int32) : JM Mem ((Unit ⊕ (Int32)) ⊕ (Int32)) :=
  jb (jgetI 7 26 x0) fun v4 =>
  jb (jrem x6 v4) fun v5 =>
  jb (jast_i x3 ((5 * x4) + x5) v5) fun _ =>
  jcont (x5 + 1)
theorem j_X8_times_b69 (D : va_G) (dA : Nat → ClassId) (x0 : Nat) (x1 : Nat) (x2 : Nat) (x3 : Nat) (x4 : Int32) (x5 : Int32) (x6 : Int32) : J (PM D dA false) Y_X8_times [(0, .ref x0), (1, .ref x1), (2, .ref x2), (3, .ref x3), (4, .int x4), (5, .int x5), (6, .int x6)] [] 69 (X8_times_b69 x0 x1 x2 x3 x4 x5 x6) (FLoop (FLoop (FRet injU) 3 (fun (t : Int32) => [(0, .ref x0), (1, .ref x1), (2, .ref x2), (3, .ref x3), (4, .int t)])) 15 (fun (t : Int32) => [(0, .ref x0), (1, .ref x1), (2, .ref x2), (3, .ref x3), (4, .int x4), (5, .int t)])) := by
  unfold X8_times_b69
  refine J_aload_n dX8_times_69 rfl 3 rfl ?_
  refine J_iconst (v := 5) dX8_times_70 (by decide) ?_
  refine J_iload dX8_times_71 4 rfl ?_
  refine J_imul dX8_times_73 ?_
  refine J_iload dX8_times_74 5 rfl ?_
  refine J_iadd dX8_times_76 ?_
  refine J_iload dX8_times_77 6 rfl ?_
  refine J_aload_n dX8_times_79 rfl 0 rfl ?_
  refine J_getI dX8_times_80 fl_X8_250 rfl (fun v4 => ?_)
  refine J_irem dX8_times_83 (fun v5 => ?_)
  refine J_iast dX8_times_84 ?_
  refine J_iinc (v := x5 + 1) (env' := [(5, .int (x5 + 1)), (0, .ref x0), (1, .ref x1), (2, .ref x2), (3, .ref x3), (4, .int x4), (6, .int x6)]) dX8_times_85 5 rfl rfl (by decide) rfl ?_
  refine J_goto (tgt := 15) dX8_times_88 rfl ?_
  exact J_cont [1, 2, 3, 4, 5, 0] rfl
noncomputable def X8_times_L30 (x0 : Nat) (x1 : Nat) (x2 : Nat) (x3 : Nat) (x4 : Int32) (x5 : Int32) (x6 : Int32) (x7 : Int32) : JM Mem (((Unit ⊕ (Int32)) ⊕ (Int32)) ⊕ (Int32 × Int32)) :=
  jb (jgetI 7 27 x0) fun v3 =>
  if v3 ≤ x7 then
    jinl (X8_times_b69 x0 x1 x2 x3 x4 x5 x6)
  else
  jb (jald mI 0 x1 ((5 * x4) + x7)) fun v6 =>
  jb (jald mI 0 x2 ((5 * x7) + x5)) fun v7 =>
  jlet (x6 + (v6 * v7)) fun y8 =>
  jcont (y8, x7 + 1)
theorem j_X8_times_L30 (D : va_G) (dA : Nat → ClassId) (x0 : Nat) (x1 : Nat) (x2 : Nat) (x3 : Nat) (x4 : Int32) (x5 : Int32) (x6 : Int32) (x7 : Int32) : J (PM D dA false) Y_X8_times [(0, .ref x0), (1, .ref x1), (2, .ref x2), (3, .ref x3), (4, .int x4), (5, .int x5), (6, .int x6), (7, .int x7)] [] 30 (X8_times_L30 x0 x1 x2 x3 x4 x5 x6 x7) (FLoop (FLoop (FLoop (FRet injU) 3 (fun (t : Int32) => [(0, .ref x0), (1, .ref x1), (2, .ref x2), (3, .ref x3), (4, .int t)])) 15 (fun (t : Int32) => [(0, .ref x0), (1, .ref x1), (2, .ref x2), (3, .ref x3), (4, .int x4), (5, .int t)])) 30 (fun (t : Int32 × Int32) => [(0, .ref x0), (1, .ref x1), (2, .ref x2), (3, .ref x3), (4, .int x4), (5, .int x5), (6, .int t.1), (7, .int t.2)])) := by
  unfold X8_times_L30
  refine J_iload dX8_times_30 7 rfl ?_
  refine J_aload_n dX8_times_32 rfl 0 rfl ?_
  refine J_getI dX8_times_33 fl_X8_253 rfl (fun v3 => ?_)
  refine J_icmp_ge (tgt := 69) dX8_times_36 rfl ?_ ?_
  · refine J_inl ?_
    refine J_sub [0, 1, 2, 3, 4, 5, 6] rfl ?_
    exact j_X8_times_b69 D dA x0 x1 x2 x3 x4 x5 x6
  refine J_iload dX8_times_39 6 rfl ?_
  refine J_aload_n dX8_times_41 rfl 1 rfl ?_
  refine J_iconst (v := 5) dX8_times_42 (by decide) ?_
  refine J_iload dX8_times_43 4 rfl ?_
  refine J_imul dX8_times_45 ?_
  refine J_iload dX8_times_46 7 rfl ?_
  refine J_iadd dX8_times_48 ?_
  refine J_iald dX8_times_49 (fun v6 => ?_)
  refine J_aload_n dX8_times_50 rfl 2 rfl ?_
  refine J_iconst (v := 5) dX8_times_51 (by decide) ?_
  refine J_iload dX8_times_52 7 rfl ?_
  refine J_imul dX8_times_54 ?_
  refine J_iload dX8_times_55 5 rfl ?_
  refine J_iadd dX8_times_57 ?_
  refine J_iald dX8_times_58 (fun v7 => ?_)
  refine J_imul dX8_times_59 ?_
  refine J_iadd dX8_times_60 ?_
  refine J_letI (fun y8 => ?_)
  refine J_istore (env' := [(6, .int y8), (0, .ref x0), (1, .ref x1), (2, .ref x2), (3, .ref x3), (4, .int x4), (5, .int x5), (7, .int x7)]) dX8_times_61 (by decide) rfl ?_
  refine J_iinc (v := x7 + 1) (env' := [(7, .int (x7 + 1)), (6, .int y8), (0, .ref x0), (1, .ref x1), (2, .ref x2), (3, .ref x3), (4, .int x4), (5, .int x5)]) dX8_times_63 7 rfl rfl (by decide) rfl ?_
  refine J_goto (tgt := 30) dX8_times_66 rfl ?_
  exact J_cont [2, 3, 4, 5, 6, 7, 1, 0] rfl
noncomputable def X8_times_L15 (x0 : Nat) (x1 : Nat) (x2 : Nat) (x3 : Nat) (x4 : Int32) (x5 : Int32) : JM Mem ((Unit ⊕ (Int32)) ⊕ (Int32)) :=
  jb (jgetI 7 27 x0) fun v2 =>
  if v2 ≤ x5 then
    jinl (X8_times_b91 x0 x1 x2 x3 x4)
  else
    jloop (fun (t : Int32 × Int32) => X8_times_L30 x0 x1 x2 x3 x4 x5 t.1 t.2) (0, 0)
theorem j_X8_times_L15 (D : va_G) (dA : Nat → ClassId) (x0 : Nat) (x1 : Nat) (x2 : Nat) (x3 : Nat) (x4 : Int32) (x5 : Int32) : J (PM D dA false) Y_X8_times [(0, .ref x0), (1, .ref x1), (2, .ref x2), (3, .ref x3), (4, .int x4), (5, .int x5)] [] 15 (X8_times_L15 x0 x1 x2 x3 x4 x5) (FLoop (FLoop (FRet injU) 3 (fun (t : Int32) => [(0, .ref x0), (1, .ref x1), (2, .ref x2), (3, .ref x3), (4, .int t)])) 15 (fun (t : Int32) => [(0, .ref x0), (1, .ref x1), (2, .ref x2), (3, .ref x3), (4, .int x4), (5, .int t)])) := by
  unfold X8_times_L15
  refine J_iload dX8_times_15 5 rfl ?_
  refine J_aload_n dX8_times_17 rfl 0 rfl ?_
  refine J_getI dX8_times_18 fl_X8_253 rfl (fun v2 => ?_)
  refine J_icmp_ge (tgt := 91) dX8_times_21 rfl ?_ ?_
  · refine J_inl ?_
    refine J_sub [0, 1, 2, 3, 4] rfl ?_
    exact j_X8_times_b91 D dA x0 x1 x2 x3 x4
  refine J_iconst (v := 0) dX8_times_24 (by decide) ?_
  refine J_istore (env' := [(6, .int 0), (0, .ref x0), (1, .ref x1), (2, .ref x2), (3, .ref x3), (4, .int x4), (5, .int x5)]) dX8_times_25 (by decide) rfl ?_
  refine J_iconst (v := 0) dX8_times_27 (by decide) ?_
  refine J_istore (env' := [(7, .int 0), (6, .int 0), (0, .ref x0), (1, .ref x1), (2, .ref x2), (3, .ref x3), (4, .int x4), (5, .int x5)]) dX8_times_28 (by decide) rfl ?_
  refine J_loop (he := fun (t : Int32 × Int32) => [(0, .ref x0), (1, .ref x1), (2, .ref x2), (3, .ref x3), (4, .int x4), (5, .int x5), (6, .int t.1), (7, .int t.2)]) [2, 3, 4, 5, 6, 7, 1, 0] rfl (fun t => ?_)
  exact j_X8_times_L30 D dA x0 x1 x2 x3 x4 x5 t.1 t.2
noncomputable def X8_times_L3 (x0 : Nat) (x1 : Nat) (x2 : Nat) (x3 : Nat) (x4 : Int32) : JM Mem (Unit ⊕ (Int32)) :=
  jb (jgetI 7 27 x0) fun v1 =>
  if v1 ≤ x4 then
    jinl (jp ())
  else
    jloop (fun (t : Int32) => X8_times_L15 x0 x1 x2 x3 x4 t) 0
theorem j_X8_times_L3 (D : va_G) (dA : Nat → ClassId) (x0 : Nat) (x1 : Nat) (x2 : Nat) (x3 : Nat) (x4 : Int32) : J (PM D dA false) Y_X8_times [(0, .ref x0), (1, .ref x1), (2, .ref x2), (3, .ref x3), (4, .int x4)] [] 3 (X8_times_L3 x0 x1 x2 x3 x4) (FLoop (FRet injU) 3 (fun (t : Int32) => [(0, .ref x0), (1, .ref x1), (2, .ref x2), (3, .ref x3), (4, .int t)])) := by
  unfold X8_times_L3
  refine J_iload dX8_times_3 4 rfl ?_
  refine J_aload_n dX8_times_5 rfl 0 rfl ?_
  refine J_getI dX8_times_6 fl_X8_253 rfl (fun v1 => ?_)
  refine J_icmp_ge (tgt := 97) dX8_times_9 rfl ?_ ?_
  · refine J_inl ?_
    exact J_return dX8_times_97 rfl
  refine J_iconst (v := 0) dX8_times_12 (by decide) ?_
  refine J_istore (env' := [(5, .int 0), (0, .ref x0), (1, .ref x1), (2, .ref x2), (3, .ref x3), (4, .int x4)]) dX8_times_13 (by decide) rfl ?_
  refine J_loop (he := fun (t : Int32) => [(0, .ref x0), (1, .ref x1), (2, .ref x2), (3, .ref x3), (4, .int x4), (5, .int t)]) [1, 2, 3, 4, 5, 0] rfl (fun t => ?_)
  exact j_X8_times_L15 D dA x0 x1 x2 x3 x4 t
noncomputable def f_X8_times (x0 : Nat) (x1 : Nat) (x2 : Nat) (x3 : Nat) : JM Mem Unit :=
  jloop (fun (t : Int32) => X8_times_L3 x0 x1 x2 x3 t) 0
theorem j_X8_times (D : va_G) (dA : Nat → ClassId) (x0 : Nat) (x1 : Nat) (x2 : Nat) (x3 : Nat) : J (PM D dA false) Y_X8_times [(0, .ref x0), (1, .ref x1), (2, .ref x2), (3, .ref x3)] [] 0 (f_X8_times x0 x1 x2 x3) (FRet injU) := by
  unfold f_X8_times
  refine J_iconst (v := 0) dX8_times_0 (by decide) ?_
  refine J_istore (env' := [(4, .int 0), (0, .ref x0), (1, .ref x1), (2, .ref x2), (3, .ref x3)]) dX8_times_1 (by decide) rfl ?_
  refine J_loop (he := fun (t : Int32) => [(0, .ref x0), (1, .ref x1), (2, .ref x2), (3, .ref x3), (4, .int t)]) [1, 2, 3, 4, 0] rfl (fun t => ?_)
  exact j_X8_times_L3 D dA x0 x1 x2 x3 t
theorem i_X8_times (x0 : Nat) (x1 : Nat) (x2 : Nat) (x3 : Nat) : Impl (ws_ yX8_times cX8_times 8 none) yX8_times 1 false 0 0 [.ref x0, .ref x1, .ref x2, .ref x3] (f_X8_times x0 x1 x2 x3) injU := impl_of (plainFor_of_name (by decide)) (Nat.le_of_ble_eq_true rfl) (fun D dA => j_X8_times D dA x0 x1 x2 x3)
theorem cw_X8_times (Y : JY) (h : 2 ≤ Y.2.2.2.1) : JCw Y (ws_ yX8_times cX8_times 8 none) yX8_times cX8_times 8 none 1 := ⟨h, by decide, lw_meth q2148, q198, by decide, by decide⟩
theorem np_X8_times : JNp yX8_times.desc 3 := by decide +kernel
-- BracketRoomModel.power(I)I
abbrev Y_X8_power : JY := (cX8_power, yX8_power.cls, 3, 5, yX8_power.name, (some .int), [])
noncomputable def X8_power_b103 (x0 : Nat) : JM Mem Int32 :=
  jb (jcall 7 x0 (f_X8_refuse x0 8)) fun v5 =>
  jp v5
theorem j_X8_power_b103 (D : va_G) (dA : Nat → ClassId) (x0 : Nat) : J (PM D dA false) Y_X8_power [(0, .ref x0)] [] 103 (X8_power_b103 x0) (FRet injI) := by
  unfold X8_power_b103
  refine J_aload_n dX8_power_103 rfl 0 rfl ?_
  refine J_bipush (v := 8) dX8_power_104 (by decide) ?_
  refine J_callVI (c := 7) (as := [.int 8]) dX8_power_106 (by decide) rfl (Nat.le_of_ble_eq_true rfl) (cw_X8_refuse _ (by decide)) q1871 q1873 qs90 q1874 np_X8_refuse (i_X8_refuse x0 8) jad_id rfl (fun v5 => ?_)
  exact J_ireturn dX8_power_109 rfl
noncomputable def X8_power_L48 (x0 : Nat) (x2 : Int32) : JM Mem (Int32 ⊕ (Int32)) :=
  jb (jgetI 7 27 x0) fun v4 =>
  if v4 < x2 then
    jinl (X8_power_b103 x0)
  else
  jb (jgetA 7 62 x0) fun v6 =>
  jb (jcall 7 x0 (f_X8_isZero x0 v6)) fun v7 =>
  if v7 = 0 then
    jb (jgetA 7 62 x0) fun v8 =>
    jb (jgetA 7 61 x0) fun v9 =>
    jb (jgetA 7 63 x0) fun v10 =>
    jb (jcall 7 x0 (f_X8_times x0 v8 v9 v10)) fun _ =>
    jb (jgetA 7 63 x0) fun v11 =>
    jb (jgetA 7 62 x0) fun v12 =>
    jb (jcall 7 x0 (f_X8_copySpan x0 v11 v12)) fun _ =>
    jcont (x2 + 1)
  else
    jinl (jp x2)
theorem j_X8_power_L48 (D : va_G) (dA : Nat → ClassId) (x0 : Nat) (x2 : Int32) : J (PM D dA false) Y_X8_power [(0, .ref x0), (2, .int x2)] [] 48 (X8_power_L48 x0 x2) (FLoop (FRet injI) 48 (fun (t : Int32) => [(0, .ref x0), (2, .int t)])) := by
  unfold X8_power_L48
  refine J_iload_n dX8_power_48 rfl 1 rfl ?_
  refine J_aload_n dX8_power_49 rfl 0 rfl ?_
  refine J_getI dX8_power_50 fl_X8_253 rfl (fun v4 => ?_)
  refine J_icmp_gt (tgt := 103) dX8_power_53 rfl ?_ ?_
  · refine J_inl ?_
    refine J_sub [0] rfl ?_
    exact j_X8_power_b103 D dA x0
  refine J_aload_n dX8_power_56 rfl 0 rfl ?_
  refine J_aload_n dX8_power_57 rfl 0 rfl ?_
  refine J_getA dX8_power_58 fl_X8_113 rfl (fun v6 => ?_)
  refine J_callVI (c := 7) (as := [.ref v6]) dX8_power_61 (by decide) rfl (Nat.le_of_ble_eq_true rfl) (cw_X8_isZero _ (by decide)) q2141 q2143 qs137 q2144 np_X8_isZero (i_X8_isZero x0 v6) jad_id rfl (fun v7 => ?_)
  refine J_if_eq (tgt := 69) dX8_power_64 rfl ?_ ?_
  · refine J_aload_n dX8_power_69 rfl 0 rfl ?_
    refine J_aload_n dX8_power_70 rfl 0 rfl ?_
    refine J_getA dX8_power_71 fl_X8_113 rfl (fun v8 => ?_)
    refine J_aload_n dX8_power_74 rfl 0 rfl ?_
    refine J_getA dX8_power_75 fl_X8_110 rfl (fun v9 => ?_)
    refine J_aload_n dX8_power_78 rfl 0 rfl ?_
    refine J_getA dX8_power_79 fl_X8_116 rfl (fun v10 => ?_)
    refine J_callVV (c := 7) (as := [.ref v8, .ref v9, .ref v10]) dX8_power_82 (by decide) rfl (Nat.le_of_ble_eq_true rfl) (cw_X8_times _ (by decide)) q2145 q2147 qs138 q2148 np_X8_times (i_X8_times x0 v8 v9 v10) jad_id rfl ?_
    refine J_aload_n dX8_power_85 rfl 0 rfl ?_
    refine J_aload_n dX8_power_86 rfl 0 rfl ?_
    refine J_getA dX8_power_87 fl_X8_116 rfl (fun v11 => ?_)
    refine J_aload_n dX8_power_90 rfl 0 rfl ?_
    refine J_getA dX8_power_91 fl_X8_113 rfl (fun v12 => ?_)
    refine J_callVV (c := 7) (as := [.ref v11, .ref v12]) dX8_power_94 (by decide) rfl (Nat.le_of_ble_eq_true rfl) (cw_X8_copySpan _ (by decide)) q1996 q1998 qs112 q1999 np_X8_copySpan (i_X8_copySpan x0 v11 v12) jad_id rfl ?_
    refine J_iinc (v := x2 + 1) (env' := [(2, .int (x2 + 1)), (0, .ref x0)]) dX8_power_97 1 rfl rfl (by decide) rfl ?_
    refine J_goto (tgt := 48) dX8_power_100 rfl ?_
    exact J_cont [1, 0] rfl
  refine J_inl ?_
  refine J_iload_n dX8_power_67 rfl 1 rfl ?_
  exact J_ireturn dX8_power_68 rfl
noncomputable def f_X8_power (x0 : Nat) (x1 : Int32) : JM Mem Int32 :=
  jb (jputI 7 1 x0 0) fun _ =>
  jb (jputI 7 0 x0 0) fun _ =>
  jb (jcall 7 x0 (f_X8_askNow x0)) fun _ =>
  jb (jcall 7 x0 (f_X8_isVector x0 ((x1 : Int32).toInt64))) fun v1 =>
  if v1 = 0 then
    jb (jcall 7 x0 (f_X8_refuse x0 2)) fun v13 =>
    jp v13
  else
  jb (jcall 7 x0 (f_X8_matrixOf x0 x1)) fun _ =>
  jb (jgetA 7 61 x0) fun v2 =>
  jb (jgetA 7 62 x0) fun v3 =>
  jb (jcall 7 x0 (f_X8_copySpan x0 v2 v3)) fun _ =>
  jloop (fun (t : Int32) => X8_power_L48 x0 t) 1
theorem j_X8_power (D : va_G) (dA : Nat → ClassId) (x0 : Nat) (x1 : Int32) : J (PM D dA false) Y_X8_power [(0, .ref x0), (1, .int x1)] [] 0 (f_X8_power x0 x1) (FRet injI) := by
  unfold f_X8_power
  refine J_aload_n dX8_power_0 rfl 0 rfl ?_
  refine J_iconst (v := 0) dX8_power_1 (by decide) ?_
  refine J_putI dX8_power_2 ⟨fl_X8_132, Or.inl rfl⟩ rfl ?_
  refine J_aload_n dX8_power_5 rfl 0 rfl ?_
  refine J_iconst (v := 0) dX8_power_6 (by decide) ?_
  refine J_putI dX8_power_7 ⟨fl_X8_135, Or.inl rfl⟩ rfl ?_
  refine J_aload_n dX8_power_10 rfl 0 rfl ?_
  refine J_callVV (c := 7) (as := []) dX8_power_11 (by decide) rfl (Nat.le_of_ble_eq_true rfl) (cw_X8_askNow _ (by decide)) q1862 q1864 qs88 q1865 np_X8_askNow (i_X8_askNow x0) jad_id rfl ?_
  refine J_aload_n dX8_power_14 rfl 0 rfl ?_
  refine J_iload_n dX8_power_15 rfl 1 rfl ?_
  refine J_i2l dX8_power_16 ?_
  refine J_callVI (c := 7) (as := [.long ((x1 : Int32).toInt64)]) dX8_power_17 (by decide) rfl (Nat.le_of_ble_eq_true rfl) (cw_X8_isVector _ (by decide)) q1895 q1897 qs93 q1898 np_X8_isVector (i_X8_isVector x0 ((x1 : Int32).toInt64)) jad_id rfl (fun v1 => ?_)
  refine J_if_ne (tgt := 29) dX8_power_20 rfl ?_ ?_
  · refine J_aload_n dX8_power_29 rfl 0 rfl ?_
    refine J_iload_n dX8_power_30 rfl 1 rfl ?_
    refine J_callVV (c := 7) (as := [.int x1]) dX8_power_31 (by decide) rfl (Nat.le_of_ble_eq_true rfl) (cw_X8_matrixOf _ (by decide)) q2137 q2139 qs136 q2140 np_X8_matrixOf (i_X8_matrixOf x0 x1) jad_id rfl ?_
    refine J_aload_n dX8_power_34 rfl 0 rfl ?_
    refine J_aload_n dX8_power_35 rfl 0 rfl ?_
    refine J_getA dX8_power_36 fl_X8_110 rfl (fun v2 => ?_)
    refine J_aload_n dX8_power_39 rfl 0 rfl ?_
    refine J_getA dX8_power_40 fl_X8_113 rfl (fun v3 => ?_)
    refine J_callVV (c := 7) (as := [.ref v2, .ref v3]) dX8_power_43 (by decide) rfl (Nat.le_of_ble_eq_true rfl) (cw_X8_copySpan _ (by decide)) q1996 q1998 qs112 q1999 np_X8_copySpan (i_X8_copySpan x0 v2 v3) jad_id rfl ?_
    refine J_iconst (v := 1) dX8_power_46 (by decide) ?_
    refine J_istore_n (env' := [(2, .int 1), (0, .ref x0), (1, .int x1)]) dX8_power_47 rfl (by decide) rfl ?_
    refine J_loop (he := fun (t : Int32) => [(0, .ref x0), (2, .int t)]) [1, 0] rfl (fun t => ?_)
    exact j_X8_power_L48 D dA x0 t
  refine J_aload_n dX8_power_23 rfl 0 rfl ?_
  refine J_iconst (v := 2) dX8_power_24 (by decide) ?_
  refine J_callVI (c := 7) (as := [.int 2]) dX8_power_25 (by decide) rfl (Nat.le_of_ble_eq_true rfl) (cw_X8_refuse _ (by decide)) q1871 q1873 qs90 q1874 np_X8_refuse (i_X8_refuse x0 2) jad_id rfl (fun v13 => ?_)
  exact J_ireturn dX8_power_28 rfl
theorem i_X8_power (x0 : Nat) (x1 : Int32) : Impl (ws_ yX8_power cX8_power 3 (some .int)) yX8_power 5 false 0 0 [.ref x0, .int x1] (f_X8_power x0 x1) injI := impl_of (plainFor_of_name (by decide)) (Nat.le_of_ble_eq_true rfl) (fun D dA => j_X8_power D dA x0 x1)
theorem cw_X8_power (Y : JY) (h : 6 ≤ Y.2.2.2.1) : JCw Y (ws_ yX8_power cX8_power 3 (some .int)) yX8_power cX8_power 3 (some .int) 5 := ⟨h, by decide, lw_meth q2136, q198, by decide, by decide⟩
theorem np_X8_power : JNp yX8_power.desc 1 := by decide +kernel
-- BracketRoomModel.derivationSize()I
abbrev Y_X8_derivationSize : JY := (cX8_derivationSize, yX8_derivationSize.cls, 5, 3, yX8_derivationSize.name, (some .int), [])
noncomputable def X8_derivationSize_b253 (x0 : Nat) : JM Mem Int32 :=
  jb (jgetI 7 27 x0) fun v2 =>
  jb (jgetI 7 27 x0) fun v3 =>
  jb (jgetI 7 39 x0) fun v4 =>
  jp ((v2 * v3) - v4)
theorem j_X8_derivationSize_b253 (D : va_G) (dA : Nat → ClassId) (x0 : Nat) : J (PM D dA false) Y_X8_derivationSize [(0, .ref x0)] [] 253 (X8_derivationSize_b253 x0) (FRet injI) := by
  unfold X8_derivationSize_b253
  refine J_aload_n dX8_derivationSize_253 rfl 0 rfl ?_
  refine J_getI dX8_derivationSize_254 fl_X8_253 rfl (fun v2 => ?_)
  refine J_aload_n dX8_derivationSize_257 rfl 0 rfl ?_
  refine J_getI dX8_derivationSize_258 fl_X8_253 rfl (fun v3 => ?_)
  refine J_imul dX8_derivationSize_261 ?_
  refine J_aload_n dX8_derivationSize_262 rfl 0 rfl ?_
  refine J_getI dX8_derivationSize_263 fl_X8_423 rfl (fun v4 => ?_)
  refine J_isub dX8_derivationSize_266 ?_
  exact J_ireturn dX8_derivationSize_267 rfl
noncomputable def X8_derivationSize_b247 (x0 : Nat) (x1 : Int32) : JM Mem (Int32 ⊕ (Int32)) :=
  jcont (x1 + 1)
theorem j_X8_derivationSize_b247 (D : va_G) (dA : Nat → ClassId) (x0 : Nat) (x1 : Int32) : J (PM D dA false) Y_X8_derivationSize [(0, .ref x0), (1, .int x1)] [] 247 (X8_derivationSize_b247 x0 x1) (FLoop (FRet injI) 6 (fun (t : Int32) => [(0, .ref x0), (1, .int t)])) := by
  unfold X8_derivationSize_b247
  refine J_iinc (v := x1 + 1) (env' := [(1, .int (x1 + 1)), (0, .ref x0)]) dX8_derivationSize_247 1 rfl rfl (by decide) rfl ?_
  refine J_goto (tgt := 6) dX8_derivationSize_250 rfl ?_
  exact J_cont [1, 0] rfl
noncomputable def X8_derivationSize_b241 (x0 : Nat) (x1 : Int32) (x2 : Int32) : JM Mem ((Int32 ⊕ (Int32)) ⊕ (Int32)) :=
  jcont (x2 + 1)
theorem j_X8_derivationSize_b241 (D : va_G) (dA : Nat → ClassId) (x0 : Nat) (x1 : Int32) (x2 : Int32) : J (PM D dA false) Y_X8_derivationSize [(0, .ref x0), (1, .int x1), (2, .int x2)] [] 241 (X8_derivationSize_b241 x0 x1 x2) (FLoop (FLoop (FRet injI) 6 (fun (t : Int32) => [(0, .ref x0), (1, .int t)])) 18 (fun (t : Int32) => [(0, .ref x0), (1, .int x1), (2, .int t)])) := by
  unfold X8_derivationSize_b241
  refine J_iinc (v := x2 + 1) (env' := [(2, .int (x2 + 1)), (0, .ref x0), (1, .int x1)]) dX8_derivationSize_241 2 rfl rfl (by decide) rfl ?_
  refine J_goto (tgt := 18) dX8_derivationSize_244 rfl ?_
  exact J_cont [1, 2, 0] rfl
noncomputable def X8_derivationSize_b222 (x0 : Nat) (x1 : Int32) (x2 : Int32) (x3 : Int32) : JM Mem (((Int32 ⊕ (Int32)) ⊕ (Int32)) ⊕ (Int32)) :=
  jb (jgetI 7 27 x0) fun v14 =>
  jb (jgetI 7 27 x0) fun v15 =>
  jb (jcall 7 x0 (f_X8_addEquation x0 (v14 * v15))) fun _ =>
  jcont (x3 + 1)
theorem j_X8_derivationSize_b222 (D : va_G) (dA : Nat → ClassId) (x0 : Nat) (x1 : Int32) (x2 : Int32) (x3 : Int32) : J (PM D dA false) Y_X8_derivationSize [(0, .ref x0), (1, .int x1), (2, .int x2), (3, .int x3)] [] 222 (X8_derivationSize_b222 x0 x1 x2 x3) (FLoop (FLoop (FLoop (FRet injI) 6 (fun (t : Int32) => [(0, .ref x0), (1, .int t)])) 18 (fun (t : Int32) => [(0, .ref x0), (1, .int x1), (2, .int t)])) 28 (fun (t : Int32) => [(0, .ref x0), (1, .int x1), (2, .int x2), (3, .int t)])) := by
  unfold X8_derivationSize_b222
  refine J_aload_n dX8_derivationSize_222 rfl 0 rfl ?_
  refine J_aload_n dX8_derivationSize_223 rfl 0 rfl ?_
  refine J_getI dX8_derivationSize_224 fl_X8_253 rfl (fun v14 => ?_)
  refine J_aload_n dX8_derivationSize_227 rfl 0 rfl ?_
  refine J_getI dX8_derivationSize_228 fl_X8_253 rfl (fun v15 => ?_)
  refine J_imul dX8_derivationSize_231 ?_
  refine J_callVV (c := 7) (as := [.int (v14 * v15)]) dX8_derivationSize_232 (by decide) rfl (Nat.le_of_ble_eq_true rfl) (cw_X8_addEquation _ (by decide)) q2033 q2035 qs118 q2036 np_X8_addEquation (i_X8_addEquation x0 (v14 * v15)) jad_id rfl ?_
  refine J_iinc (v := x3 + 1) (env' := [(3, .int (x3 + 1)), (0, .ref x0), (1, .int x1), (2, .int x2)]) dX8_derivationSize_235 3 rfl rfl (by decide) rfl ?_
  refine J_goto (tgt := 28) dX8_derivationSize_238 rfl ?_
  exact J_cont [1, 2, 3, 0] rfl
noncomputable def X8_derivationSize_L181 (x0 : Nat) (x1 : Int32) (x2 : Int32) (x3 : Int32) (x4 : Int32) : JM Mem ((((Int32 ⊕ (Int32)) ⊕ (Int32)) ⊕ (Int32)) ⊕ (Int32)) :=
  jb (jgetI 7 27 x0) fun v12 =>
  jb (jgetI 7 27 x0) fun v13 =>
  if v12 * v13 ≤ x4 then
    jinl (X8_derivationSize_b222 x0 x1 x2 x3)
  else
  jb (jgetA 7 38 x0) fun v16 =>
  jb (jgetA 7 38 x0) fun v17 =>
  jb (jald mI 0 v17 x4) fun v18 =>
  jb (jgetI 7 26 x0) fun v19 =>
  jb ((f_X8_left v18 v19)) fun v20 =>
  jb (jast_i v16 x4 v20) fun _ =>
  jcont (x4 + 1)
theorem j_X8_derivationSize_L181 (D : va_G) (dA : Nat → ClassId) (x0 : Nat) (x1 : Int32) (x2 : Int32) (x3 : Int32) (x4 : Int32) : J (PM D dA false) Y_X8_derivationSize [(0, .ref x0), (1, .int x1), (2, .int x2), (3, .int x3), (4, .int x4)] [] 181 (X8_derivationSize_L181 x0 x1 x2 x3 x4) (FLoop (FLoop (FLoop (FLoop (FRet injI) 6 (fun (t : Int32) => [(0, .ref x0), (1, .int t)])) 18 (fun (t : Int32) => [(0, .ref x0), (1, .int x1), (2, .int t)])) 28 (fun (t : Int32) => [(0, .ref x0), (1, .int x1), (2, .int x2), (3, .int t)])) 181 (fun (t : Int32) => [(0, .ref x0), (1, .int x1), (2, .int x2), (3, .int x3), (4, .int t)])) := by
  unfold X8_derivationSize_L181
  refine J_iload dX8_derivationSize_181 4 rfl ?_
  refine J_aload_n dX8_derivationSize_183 rfl 0 rfl ?_
  refine J_getI dX8_derivationSize_184 fl_X8_253 rfl (fun v12 => ?_)
  refine J_aload_n dX8_derivationSize_187 rfl 0 rfl ?_
  refine J_getI dX8_derivationSize_188 fl_X8_253 rfl (fun v13 => ?_)
  refine J_imul dX8_derivationSize_191 ?_
  refine J_icmp_ge (tgt := 222) dX8_derivationSize_192 rfl ?_ ?_
  · refine J_inl ?_
    refine J_sub [0, 1, 2, 3] rfl ?_
    exact j_X8_derivationSize_b222 D dA x0 x1 x2 x3
  refine J_aload_n dX8_derivationSize_195 rfl 0 rfl ?_
  refine J_getA dX8_derivationSize_196 fl_X8_77 rfl (fun v16 => ?_)
  refine J_iload dX8_derivationSize_199 4 rfl ?_
  refine J_aload_n dX8_derivationSize_201 rfl 0 rfl ?_
  refine J_getA dX8_derivationSize_202 fl_X8_77 rfl (fun v17 => ?_)
  refine J_iload dX8_derivationSize_205 4 rfl ?_
  refine J_iald dX8_derivationSize_207 (fun v18 => ?_)
  refine J_aload_n dX8_derivationSize_208 rfl 0 rfl ?_
  refine J_getI dX8_derivationSize_209 fl_X8_250 rfl (fun v19 => ?_)
  refine J_callSI (host := "") (as := [.int v18, .int v19]) dX8_derivationSize_212 rfl (Nat.le_of_ble_eq_true rfl) (cw_X8_left _ (by decide)) q1847 q1848 q1849 np_X8_left (i_X8_left v18 v19) jad_id rfl (fun v20 => ?_)
  refine J_iast dX8_derivationSize_215 ?_
  refine J_iinc (v := x4 + 1) (env' := [(4, .int (x4 + 1)), (0, .ref x0), (1, .int x1), (2, .int x2), (3, .int x3)]) dX8_derivationSize_216 4 rfl rfl (by decide) rfl ?_
  refine J_goto (tgt := 181) dX8_derivationSize_219 rfl ?_
  exact J_cont [1, 2, 3, 4, 0] rfl
noncomputable def X8_derivationSize_b178 (x0 : Nat) (x1 : Int32) (x2 : Int32) (x3 : Int32) : JM Mem (((Int32 ⊕ (Int32)) ⊕ (Int32)) ⊕ (Int32)) :=
  jloop (fun (t : Int32) => X8_derivationSize_L181 x0 x1 x2 x3 t) 0
theorem j_X8_derivationSize_b178 (D : va_G) (dA : Nat → ClassId) (x0 : Nat) (x1 : Int32) (x2 : Int32) (x3 : Int32) : J (PM D dA false) Y_X8_derivationSize [(0, .ref x0), (1, .int x1), (2, .int x2), (3, .int x3)] [] 178 (X8_derivationSize_b178 x0 x1 x2 x3) (FLoop (FLoop (FLoop (FRet injI) 6 (fun (t : Int32) => [(0, .ref x0), (1, .int t)])) 18 (fun (t : Int32) => [(0, .ref x0), (1, .int x1), (2, .int t)])) 28 (fun (t : Int32) => [(0, .ref x0), (1, .int x1), (2, .int x2), (3, .int t)])) := by
  unfold X8_derivationSize_b178
  refine J_iconst (v := 0) dX8_derivationSize_178 (by decide) ?_
  refine J_istore (env' := [(4, .int 0), (0, .ref x0), (1, .int x1), (2, .int x2), (3, .int x3)]) dX8_derivationSize_179 (by decide) rfl ?_
  refine J_loop (he := fun (t : Int32) => [(0, .ref x0), (1, .int x1), (2, .int x2), (3, .int x3), (4, .int t)]) [1, 2, 3, 4, 0] rfl (fun t => ?_)
  exact j_X8_derivationSize_L181 D dA x0 x1 x2 x3 t
noncomputable def X8_derivationSize_L113 (x0 : Nat) (x1 : Int32) (x2 : Int32) (x3 : Int32) (x4 : Int32) : JM Mem ((((Int32 ⊕ (Int32)) ⊕ (Int32)) ⊕ (Int32)) ⊕ (Int32)) :=
  jb (jgetI 7 27 x0) fun v11 =>
  if v11 ≤ x4 then
    jinl (X8_derivationSize_b178 x0 x1 x2 x3)
  else
  jb (jgetA 7 38 x0) fun v21 =>
  jb (jgetI 7 27 x0) fun v22 =>
  jb (jald mI 0 v21 ((x1 * v22) + x4)) fun v23 =>
  jb (jcall 7 x0 (f_X8_table x0 x4 x2 x3)) fun v24 =>
  jb (jast_i v21 ((x1 * v22) + x4) (v23 - v24)) fun _ =>
  jb (jgetA 7 38 x0) fun v25 =>
  jb (jgetI 7 27 x0) fun v26 =>
  jb (jald mI 0 v25 ((x2 * v26) + x4)) fun v27 =>
  jb (jcall 7 x0 (f_X8_table x0 x1 x4 x3)) fun v28 =>
  jb (jast_i v25 ((x2 * v26) + x4) (v27 - v28)) fun _ =>
  jcont (x4 + 1)
theorem j_X8_derivationSize_L113 (D : va_G) (dA : Nat → ClassId) (x0 : Nat) (x1 : Int32) (x2 : Int32) (x3 : Int32) (x4 : Int32) : J (PM D dA false) Y_X8_derivationSize [(0, .ref x0), (1, .int x1), (2, .int x2), (3, .int x3), (4, .int x4)] [] 113 (X8_derivationSize_L113 x0 x1 x2 x3 x4) (FLoop (FLoop (FLoop (FLoop (FRet injI) 6 (fun (t : Int32) => [(0, .ref x0), (1, .int t)])) 18 (fun (t : Int32) => [(0, .ref x0), (1, .int x1), (2, .int t)])) 28 (fun (t : Int32) => [(0, .ref x0), (1, .int x1), (2, .int x2), (3, .int t)])) 113 (fun (t : Int32) => [(0, .ref x0), (1, .int x1), (2, .int x2), (3, .int x3), (4, .int t)])) := by
  unfold X8_derivationSize_L113
  refine J_iload dX8_derivationSize_113 4 rfl ?_
  refine J_aload_n dX8_derivationSize_115 rfl 0 rfl ?_
  refine J_getI dX8_derivationSize_116 fl_X8_253 rfl (fun v11 => ?_)
  refine J_icmp_ge (tgt := 178) dX8_derivationSize_119 rfl ?_ ?_
  · refine J_inl ?_
    refine J_sub [0, 1, 2, 3] rfl ?_
    exact j_X8_derivationSize_b178 D dA x0 x1 x2 x3
  refine J_aload_n dX8_derivationSize_122 rfl 0 rfl ?_
  refine J_getA dX8_derivationSize_123 fl_X8_77 rfl (fun v21 => ?_)
  refine J_iload_n dX8_derivationSize_126 rfl 1 rfl ?_
  refine J_aload_n dX8_derivationSize_127 rfl 0 rfl ?_
  refine J_getI dX8_derivationSize_128 fl_X8_253 rfl (fun v22 => ?_)
  refine J_imul dX8_derivationSize_131 ?_
  refine J_iload dX8_derivationSize_132 4 rfl ?_
  refine J_iadd dX8_derivationSize_134 ?_
  refine J_dup2 dX8_derivationSize_135 rfl rfl ?_
  refine J_iald dX8_derivationSize_136 (fun v23 => ?_)
  refine J_aload_n dX8_derivationSize_137 rfl 0 rfl ?_
  refine J_iload dX8_derivationSize_138 4 rfl ?_
  refine J_iload_n dX8_derivationSize_140 rfl 2 rfl ?_
  refine J_iload_n dX8_derivationSize_141 rfl 3 rfl ?_
  refine J_callVI (c := 7) (as := [.int x4, .int x2, .int x3]) dX8_derivationSize_142 (by decide) rfl (Nat.le_of_ble_eq_true rfl) (cw_X8_table _ (by decide)) q1875 q1877 qs91 q1878 np_X8_table (i_X8_table x0 x4 x2 x3) jad_id rfl (fun v24 => ?_)
  refine J_isub dX8_derivationSize_145 ?_
  refine J_iast dX8_derivationSize_146 ?_
  refine J_aload_n dX8_derivationSize_147 rfl 0 rfl ?_
  refine J_getA dX8_derivationSize_148 fl_X8_77 rfl (fun v25 => ?_)
  refine J_iload_n dX8_derivationSize_151 rfl 2 rfl ?_
  refine J_aload_n dX8_derivationSize_152 rfl 0 rfl ?_
  refine J_getI dX8_derivationSize_153 fl_X8_253 rfl (fun v26 => ?_)
  refine J_imul dX8_derivationSize_156 ?_
  refine J_iload dX8_derivationSize_157 4 rfl ?_
  refine J_iadd dX8_derivationSize_159 ?_
  refine J_dup2 dX8_derivationSize_160 rfl rfl ?_
  refine J_iald dX8_derivationSize_161 (fun v27 => ?_)
  refine J_aload_n dX8_derivationSize_162 rfl 0 rfl ?_
  refine J_iload_n dX8_derivationSize_163 rfl 1 rfl ?_
  refine J_iload dX8_derivationSize_164 4 rfl ?_
  refine J_iload_n dX8_derivationSize_166 rfl 3 rfl ?_
  refine J_callVI (c := 7) (as := [.int x1, .int x4, .int x3]) dX8_derivationSize_167 (by decide) rfl (Nat.le_of_ble_eq_true rfl) (cw_X8_table _ (by decide)) q1875 q1877 qs91 q1878 np_X8_table (i_X8_table x0 x1 x4 x3) jad_id rfl (fun v28 => ?_)
  refine J_isub dX8_derivationSize_170 ?_
  refine J_iast dX8_derivationSize_171 ?_
  refine J_iinc (v := x4 + 1) (env' := [(4, .int (x4 + 1)), (0, .ref x0), (1, .int x1), (2, .int x2), (3, .int x3)]) dX8_derivationSize_172 4 rfl rfl (by decide) rfl ?_
  refine J_goto (tgt := 113) dX8_derivationSize_175 rfl ?_
  exact J_cont [1, 2, 3, 4, 0] rfl
noncomputable def X8_derivationSize_b110 (x0 : Nat) (x1 : Int32) (x2 : Int32) (x3 : Int32) : JM Mem (((Int32 ⊕ (Int32)) ⊕ (Int32)) ⊕ (Int32)) :=
  jloop (fun (t : Int32) => X8_derivationSize_L113 x0 x1 x2 x3 t) 0
theorem j_X8_derivationSize_b110 (D : va_G) (dA : Nat → ClassId) (x0 : Nat) (x1 : Int32) (x2 : Int32) (x3 : Int32) : J (PM D dA false) Y_X8_derivationSize [(0, .ref x0), (1, .int x1), (2, .int x2), (3, .int x3)] [] 110 (X8_derivationSize_b110 x0 x1 x2 x3) (FLoop (FLoop (FLoop (FRet injI) 6 (fun (t : Int32) => [(0, .ref x0), (1, .int t)])) 18 (fun (t : Int32) => [(0, .ref x0), (1, .int x1), (2, .int t)])) 28 (fun (t : Int32) => [(0, .ref x0), (1, .int x1), (2, .int x2), (3, .int t)])) := by
  unfold X8_derivationSize_b110
  refine J_iconst (v := 0) dX8_derivationSize_110 (by decide) ?_
  refine J_istore (env' := [(4, .int 0), (0, .ref x0), (1, .int x1), (2, .int x2), (3, .int x3)]) dX8_derivationSize_111 (by decide) rfl ?_
  refine J_loop (he := fun (t : Int32) => [(0, .ref x0), (1, .int x1), (2, .int x2), (3, .int x3), (4, .int t)]) [1, 2, 3, 4, 0] rfl (fun t => ?_)
  exact j_X8_derivationSize_L113 D dA x0 x1 x2 x3 t
noncomputable def X8_derivationSize_L70 (x0 : Nat) (x1 : Int32) (x2 : Int32) (x3 : Int32) (x4 : Int32) : JM Mem ((((Int32 ⊕ (Int32)) ⊕ (Int32)) ⊕ (Int32)) ⊕ (Int32)) :=
  jb (jgetI 7 27 x0) fun v10 =>
  if v10 ≤ x4 then
    jinl (X8_derivationSize_b110 x0 x1 x2 x3)
  else
  jb (jgetA 7 38 x0) fun v29 =>
  jb (jgetI 7 27 x0) fun v30 =>
  jb (jald mI 0 v29 ((x4 * v30) + x3)) fun v31 =>
  jb (jcall 7 x0 (f_X8_table x0 x1 x2 x4)) fun v32 =>
  jb (jast_i v29 ((x4 * v30) + x3) (v31 + v32)) fun _ =>
  jcont (x4 + 1)
theorem j_X8_derivationSize_L70 (D : va_G) (dA : Nat → ClassId) (x0 : Nat) (x1 : Int32) (x2 : Int32) (x3 : Int32) (x4 : Int32) : J (PM D dA false) Y_X8_derivationSize [(0, .ref x0), (1, .int x1), (2, .int x2), (3, .int x3), (4, .int x4)] [] 70 (X8_derivationSize_L70 x0 x1 x2 x3 x4) (FLoop (FLoop (FLoop (FLoop (FRet injI) 6 (fun (t : Int32) => [(0, .ref x0), (1, .int t)])) 18 (fun (t : Int32) => [(0, .ref x0), (1, .int x1), (2, .int t)])) 28 (fun (t : Int32) => [(0, .ref x0), (1, .int x1), (2, .int x2), (3, .int t)])) 70 (fun (t : Int32) => [(0, .ref x0), (1, .int x1), (2, .int x2), (3, .int x3), (4, .int t)])) := by
  unfold X8_derivationSize_L70
  refine J_iload dX8_derivationSize_70 4 rfl ?_
  refine J_aload_n dX8_derivationSize_72 rfl 0 rfl ?_
  refine J_getI dX8_derivationSize_73 fl_X8_253 rfl (fun v10 => ?_)
  refine J_icmp_ge (tgt := 110) dX8_derivationSize_76 rfl ?_ ?_
  · refine J_inl ?_
    refine J_sub [0, 1, 2, 3] rfl ?_
    exact j_X8_derivationSize_b110 D dA x0 x1 x2 x3
  refine J_aload_n dX8_derivationSize_79 rfl 0 rfl ?_
  refine J_getA dX8_derivationSize_80 fl_X8_77 rfl (fun v29 => ?_)
  refine J_iload dX8_derivationSize_83 4 rfl ?_
  refine J_aload_n dX8_derivationSize_85 rfl 0 rfl ?_
  refine J_getI dX8_derivationSize_86 fl_X8_253 rfl (fun v30 => ?_)
  refine J_imul dX8_derivationSize_89 ?_
  refine J_iload_n dX8_derivationSize_90 rfl 3 rfl ?_
  refine J_iadd dX8_derivationSize_91 ?_
  refine J_dup2 dX8_derivationSize_92 rfl rfl ?_
  refine J_iald dX8_derivationSize_93 (fun v31 => ?_)
  refine J_aload_n dX8_derivationSize_94 rfl 0 rfl ?_
  refine J_iload_n dX8_derivationSize_95 rfl 1 rfl ?_
  refine J_iload_n dX8_derivationSize_96 rfl 2 rfl ?_
  refine J_iload dX8_derivationSize_97 4 rfl ?_
  refine J_callVI (c := 7) (as := [.int x1, .int x2, .int x4]) dX8_derivationSize_99 (by decide) rfl (Nat.le_of_ble_eq_true rfl) (cw_X8_table _ (by decide)) q1875 q1877 qs91 q1878 np_X8_table (i_X8_table x0 x1 x2 x4) jad_id rfl (fun v32 => ?_)
  refine J_iadd dX8_derivationSize_102 ?_
  refine J_iast dX8_derivationSize_103 ?_
  refine J_iinc (v := x4 + 1) (env' := [(4, .int (x4 + 1)), (0, .ref x0), (1, .int x1), (2, .int x2), (3, .int x3)]) dX8_derivationSize_104 4 rfl rfl (by decide) rfl ?_
  refine J_goto (tgt := 70) dX8_derivationSize_107 rfl ?_
  exact J_cont [1, 2, 3, 4, 0] rfl
noncomputable def X8_derivationSize_b67 (x0 : Nat) (x1 : Int32) (x2 : Int32) (x3 : Int32) : JM Mem (((Int32 ⊕ (Int32)) ⊕ (Int32)) ⊕ (Int32)) :=
  jloop (fun (t : Int32) => X8_derivationSize_L70 x0 x1 x2 x3 t) 0
theorem j_X8_derivationSize_b67 (D : va_G) (dA : Nat → ClassId) (x0 : Nat) (x1 : Int32) (x2 : Int32) (x3 : Int32) : J (PM D dA false) Y_X8_derivationSize [(0, .ref x0), (1, .int x1), (2, .int x2), (3, .int x3)] [] 67 (X8_derivationSize_b67 x0 x1 x2 x3) (FLoop (FLoop (FLoop (FRet injI) 6 (fun (t : Int32) => [(0, .ref x0), (1, .int t)])) 18 (fun (t : Int32) => [(0, .ref x0), (1, .int x1), (2, .int t)])) 28 (fun (t : Int32) => [(0, .ref x0), (1, .int x1), (2, .int x2), (3, .int t)])) := by
  unfold X8_derivationSize_b67
  refine J_iconst (v := 0) dX8_derivationSize_67 (by decide) ?_
  refine J_istore (env' := [(4, .int 0), (0, .ref x0), (1, .int x1), (2, .int x2), (3, .int x3)]) dX8_derivationSize_68 (by decide) rfl ?_
  refine J_loop (he := fun (t : Int32) => [(0, .ref x0), (1, .int x1), (2, .int x2), (3, .int x3), (4, .int t)]) [1, 2, 3, 4, 0] rfl (fun t => ?_)
  exact j_X8_derivationSize_L70 D dA x0 x1 x2 x3 t
noncomputable def X8_derivationSize_L39 (x0 : Nat) (x1 : Int32) (x2 : Int32) (x3 : Int32) (x4 : Int32) : JM Mem ((((Int32 ⊕ (Int32)) ⊕ (Int32)) ⊕ (Int32)) ⊕ (Int32)) :=
  jb (jgetI 7 27 x0) fun v8 =>
  jb (jgetI 7 27 x0) fun v9 =>
  if v8 * v9 ≤ x4 then
    jinl (X8_derivationSize_b67 x0 x1 x2 x3)
  else
  jb (jgetA 7 38 x0) fun v33 =>
  jb (jast_i v33 x4 0) fun _ =>
  jcont (x4 + 1)
theorem j_X8_derivationSize_L39 (D : va_G) (dA : Nat → ClassId) (x0 : Nat) (x1 : Int32) (x2 : Int32) (x3 : Int32) (x4 : Int32) : J (PM D dA false) Y_X8_derivationSize [(0, .ref x0), (1, .int x1), (2, .int x2), (3, .int x3), (4, .int x4)] [] 39 (X8_derivationSize_L39 x0 x1 x2 x3 x4) (FLoop (FLoop (FLoop (FLoop (FRet injI) 6 (fun (t : Int32) => [(0, .ref x0), (1, .int t)])) 18 (fun (t : Int32) => [(0, .ref x0), (1, .int x1), (2, .int t)])) 28 (fun (t : Int32) => [(0, .ref x0), (1, .int x1), (2, .int x2), (3, .int t)])) 39 (fun (t : Int32) => [(0, .ref x0), (1, .int x1), (2, .int x2), (3, .int x3), (4, .int t)])) := by
  unfold X8_derivationSize_L39
  refine J_iload dX8_derivationSize_39 4 rfl ?_
  refine J_aload_n dX8_derivationSize_41 rfl 0 rfl ?_
  refine J_getI dX8_derivationSize_42 fl_X8_253 rfl (fun v8 => ?_)
  refine J_aload_n dX8_derivationSize_45 rfl 0 rfl ?_
  refine J_getI dX8_derivationSize_46 fl_X8_253 rfl (fun v9 => ?_)
  refine J_imul dX8_derivationSize_49 ?_
  refine J_icmp_ge (tgt := 67) dX8_derivationSize_50 rfl ?_ ?_
  · refine J_inl ?_
    refine J_sub [0, 1, 2, 3] rfl ?_
    exact j_X8_derivationSize_b67 D dA x0 x1 x2 x3
  refine J_aload_n dX8_derivationSize_53 rfl 0 rfl ?_
  refine J_getA dX8_derivationSize_54 fl_X8_77 rfl (fun v33 => ?_)
  refine J_iload dX8_derivationSize_57 4 rfl ?_
  refine J_iconst (v := 0) dX8_derivationSize_59 (by decide) ?_
  refine J_iast dX8_derivationSize_60 ?_
  refine J_iinc (v := x4 + 1) (env' := [(4, .int (x4 + 1)), (0, .ref x0), (1, .int x1), (2, .int x2), (3, .int x3)]) dX8_derivationSize_61 4 rfl rfl (by decide) rfl ?_
  refine J_goto (tgt := 39) dX8_derivationSize_64 rfl ?_
  exact J_cont [1, 2, 3, 4, 0] rfl
noncomputable def X8_derivationSize_L28 (x0 : Nat) (x1 : Int32) (x2 : Int32) (x3 : Int32) : JM Mem (((Int32 ⊕ (Int32)) ⊕ (Int32)) ⊕ (Int32)) :=
  jb (jgetI 7 27 x0) fun v7 =>
  if v7 ≤ x3 then
    jinl (X8_derivationSize_b241 x0 x1 x2)
  else
    jloop (fun (t : Int32) => X8_derivationSize_L39 x0 x1 x2 x3 t) 0
theorem j_X8_derivationSize_L28 (D : va_G) (dA : Nat → ClassId) (x0 : Nat) (x1 : Int32) (x2 : Int32) (x3 : Int32) : J (PM D dA false) Y_X8_derivationSize [(0, .ref x0), (1, .int x1), (2, .int x2), (3, .int x3)] [] 28 (X8_derivationSize_L28 x0 x1 x2 x3) (FLoop (FLoop (FLoop (FRet injI) 6 (fun (t : Int32) => [(0, .ref x0), (1, .int t)])) 18 (fun (t : Int32) => [(0, .ref x0), (1, .int x1), (2, .int t)])) 28 (fun (t : Int32) => [(0, .ref x0), (1, .int x1), (2, .int x2), (3, .int t)])) := by
  unfold X8_derivationSize_L28
  refine J_iload_n dX8_derivationSize_28 rfl 3 rfl ?_
  refine J_aload_n dX8_derivationSize_29 rfl 0 rfl ?_
  refine J_getI dX8_derivationSize_30 fl_X8_253 rfl (fun v7 => ?_)
  refine J_icmp_ge (tgt := 241) dX8_derivationSize_33 rfl ?_ ?_
  · refine J_inl ?_
    refine J_sub [0, 1, 2] rfl ?_
    exact j_X8_derivationSize_b241 D dA x0 x1 x2
  refine J_iconst (v := 0) dX8_derivationSize_36 (by decide) ?_
  refine J_istore (env' := [(4, .int 0), (0, .ref x0), (1, .int x1), (2, .int x2), (3, .int x3)]) dX8_derivationSize_37 (by decide) rfl ?_
  refine J_loop (he := fun (t : Int32) => [(0, .ref x0), (1, .int x1), (2, .int x2), (3, .int x3), (4, .int t)]) [1, 2, 3, 4, 0] rfl (fun t => ?_)
  exact j_X8_derivationSize_L39 D dA x0 x1 x2 x3 t
noncomputable def X8_derivationSize_L18 (x0 : Nat) (x1 : Int32) (x2 : Int32) : JM Mem ((Int32 ⊕ (Int32)) ⊕ (Int32)) :=
  jb (jgetI 7 27 x0) fun v6 =>
  if v6 ≤ x2 then
    jinl (X8_derivationSize_b247 x0 x1)
  else
    jloop (fun (t : Int32) => X8_derivationSize_L28 x0 x1 x2 t) 0
theorem j_X8_derivationSize_L18 (D : va_G) (dA : Nat → ClassId) (x0 : Nat) (x1 : Int32) (x2 : Int32) : J (PM D dA false) Y_X8_derivationSize [(0, .ref x0), (1, .int x1), (2, .int x2)] [] 18 (X8_derivationSize_L18 x0 x1 x2) (FLoop (FLoop (FRet injI) 6 (fun (t : Int32) => [(0, .ref x0), (1, .int t)])) 18 (fun (t : Int32) => [(0, .ref x0), (1, .int x1), (2, .int t)])) := by
  unfold X8_derivationSize_L18
  refine J_iload_n dX8_derivationSize_18 rfl 2 rfl ?_
  refine J_aload_n dX8_derivationSize_19 rfl 0 rfl ?_
  refine J_getI dX8_derivationSize_20 fl_X8_253 rfl (fun v6 => ?_)
  refine J_icmp_ge (tgt := 247) dX8_derivationSize_23 rfl ?_ ?_
  · refine J_inl ?_
    refine J_sub [0, 1] rfl ?_
    exact j_X8_derivationSize_b247 D dA x0 x1
  refine J_iconst (v := 0) dX8_derivationSize_26 (by decide) ?_
  refine J_istore_n (env' := [(3, .int 0), (0, .ref x0), (1, .int x1), (2, .int x2)]) dX8_derivationSize_27 rfl (by decide) rfl ?_
  refine J_loop (he := fun (t : Int32) => [(0, .ref x0), (1, .int x1), (2, .int x2), (3, .int t)]) [1, 2, 3, 0] rfl (fun t => ?_)
  exact j_X8_derivationSize_L28 D dA x0 x1 x2 t
noncomputable def X8_derivationSize_L6 (x0 : Nat) (x1 : Int32) : JM Mem (Int32 ⊕ (Int32)) :=
  jb (jgetI 7 27 x0) fun v1 =>
  if v1 ≤ x1 then
    jinl (X8_derivationSize_b253 x0)
  else
  jlet (x1 + 1) fun y5 =>
  jloop (fun (t : Int32) => X8_derivationSize_L18 x0 x1 t) y5
theorem j_X8_derivationSize_L6 (D : va_G) (dA : Nat → ClassId) (x0 : Nat) (x1 : Int32) : J (PM D dA false) Y_X8_derivationSize [(0, .ref x0), (1, .int x1)] [] 6 (X8_derivationSize_L6 x0 x1) (FLoop (FRet injI) 6 (fun (t : Int32) => [(0, .ref x0), (1, .int t)])) := by
  unfold X8_derivationSize_L6
  refine J_iload_n dX8_derivationSize_6 rfl 1 rfl ?_
  refine J_aload_n dX8_derivationSize_7 rfl 0 rfl ?_
  refine J_getI dX8_derivationSize_8 fl_X8_253 rfl (fun v1 => ?_)
  refine J_icmp_ge (tgt := 253) dX8_derivationSize_11 rfl ?_ ?_
  · refine J_inl ?_
    refine J_sub [0] rfl ?_
    exact j_X8_derivationSize_b253 D dA x0
  refine J_iload_n dX8_derivationSize_14 rfl 1 rfl ?_
  refine J_iconst (v := 1) dX8_derivationSize_15 (by decide) ?_
  refine J_iadd dX8_derivationSize_16 ?_
  refine J_letI (fun y5 => ?_)
  refine J_istore_n (env' := [(2, .int y5), (0, .ref x0), (1, .int x1)]) dX8_derivationSize_17 rfl (by decide) rfl ?_
  refine J_loop (he := fun (t : Int32) => [(0, .ref x0), (1, .int x1), (2, .int t)]) [1, 2, 0] rfl (fun t => ?_)
  exact j_X8_derivationSize_L18 D dA x0 x1 t
noncomputable def f_X8_derivationSize (x0 : Nat) : JM Mem Int32 :=
  jb (jcall 7 x0 (f_X8_noRows x0)) fun _ =>
  jloop (fun (t : Int32) => X8_derivationSize_L6 x0 t) 0
theorem j_X8_derivationSize (D : va_G) (dA : Nat → ClassId) (x0 : Nat) : J (PM D dA false) Y_X8_derivationSize [(0, .ref x0)] [] 0 (f_X8_derivationSize x0) (FRet injI) := by
  unfold f_X8_derivationSize
  refine J_aload_n dX8_derivationSize_0 rfl 0 rfl ?_
  refine J_callVV (c := 7) (as := []) dX8_derivationSize_1 (by decide) rfl (Nat.le_of_ble_eq_true rfl) (cw_X8_noRows _ (by decide)) q2029 q2031 qs117 q2032 np_X8_noRows (i_X8_noRows x0) jad_id rfl ?_
  refine J_iconst (v := 0) dX8_derivationSize_4 (by decide) ?_
  refine J_istore_n (env' := [(1, .int 0), (0, .ref x0)]) dX8_derivationSize_5 rfl (by decide) rfl ?_
  refine J_loop (he := fun (t : Int32) => [(0, .ref x0), (1, .int t)]) [1, 0] rfl (fun t => ?_)
  exact j_X8_derivationSize_L6 D dA x0 t
theorem i_X8_derivationSize (x0 : Nat) : Impl (ws_ yX8_derivationSize cX8_derivationSize 5 (some .int)) yX8_derivationSize 3 false 0 0 [.ref x0] (f_X8_derivationSize x0) injI := impl_of (plainFor_of_name (by decide)) (Nat.le_of_ble_eq_true rfl) (fun D dA => j_X8_derivationSize D dA x0)
theorem cw_X8_derivationSize (Y : JY) (h : 4 ≤ Y.2.2.2.1) : JCw Y (ws_ yX8_derivationSize cX8_derivationSize 5 (some .int)) yX8_derivationSize cX8_derivationSize 5 (some .int) 3 := ⟨h, by decide, lw_meth q2156, q198, by decide, by decide⟩
theorem np_X8_derivationSize : JNp yX8_derivationSize.desc 0 := by decide +kernel
-- BracketRoomModel.derivations(I)I
abbrev Y_X8_derivations : JY := (cX8_derivations, yX8_derivations.cls, 4, 4, yX8_derivations.name, (some .int), [])
noncomputable def f_X8_derivations (x0 : Nat) (x1 : Int32) : JM Mem Int32 :=
  jb (jputI 7 1 x0 0) fun _ =>
  jb (jputI 7 0 x0 0) fun _ =>
  jb (jcall 7 x0 (f_X8_askNow x0)) fun _ =>
  jb ((f_X8_isIn ((x1 : Int32).toInt64) 0 2)) fun v1 =>
  if v1 = 0 then
    jb (jcall 7 x0 (f_X8_refuse x0 5)) fun v6 =>
    jp v6
  else
  jb (jcall 7 x0 (f_X8_derivationSize x0)) fun v2 =>
  jb (jgetI 7 27 x0) fun v3 =>
  jb (jcall 7 x0 (f_X8_centreSize x0)) fun v4 =>
  jlet (v3 - v4) fun y5 =>
  if x1 = 0 then
    jp v2
  else
  if x1 = 1 then
    jp y5
  else
    jp (v2 - y5)
theorem j_X8_derivations (D : va_G) (dA : Nat → ClassId) (x0 : Nat) (x1 : Int32) : J (PM D dA false) Y_X8_derivations [(0, .ref x0), (1, .int x1)] [] 0 (f_X8_derivations x0 x1) (FRet injI) := by
  unfold f_X8_derivations
  refine J_aload_n dX8_derivations_0 rfl 0 rfl ?_
  refine J_iconst (v := 0) dX8_derivations_1 (by decide) ?_
  refine J_putI dX8_derivations_2 ⟨fl_X8_132, Or.inl rfl⟩ rfl ?_
  refine J_aload_n dX8_derivations_5 rfl 0 rfl ?_
  refine J_iconst (v := 0) dX8_derivations_6 (by decide) ?_
  refine J_putI dX8_derivations_7 ⟨fl_X8_135, Or.inl rfl⟩ rfl ?_
  refine J_aload_n dX8_derivations_10 rfl 0 rfl ?_
  refine J_callVV (c := 7) (as := []) dX8_derivations_11 (by decide) rfl (Nat.le_of_ble_eq_true rfl) (cw_X8_askNow _ (by decide)) q1862 q1864 qs88 q1865 np_X8_askNow (i_X8_askNow x0) jad_id rfl ?_
  refine J_iload_n dX8_derivations_14 rfl 1 rfl ?_
  refine J_i2l dX8_derivations_15 ?_
  refine J_lconst (v := 0) dX8_derivations_16 (by decide) ?_
  refine J_ldc2 dX8_derivations_17 q1947 ?_
  refine J_callSI (host := "") (as := [.long ((x1 : Int32).toInt64), .long 0, .long 2]) dX8_derivations_20 rfl (Nat.le_of_ble_eq_true rfl) (cw_X8_isIn _ (by decide)) q1801 q1802 q1803 np_X8_isIn (i_X8_isIn ((x1 : Int32).toInt64) 0 2) jad_id rfl (fun v1 => ?_)
  refine J_if_ne (tgt := 32) dX8_derivations_23 rfl ?_ ?_
  · refine J_aload_n dX8_derivations_32 rfl 0 rfl ?_
    refine J_callVI (c := 7) (as := []) dX8_derivations_33 (by decide) rfl (Nat.le_of_ble_eq_true rfl) (cw_X8_derivationSize _ (by decide)) q2153 q2155 qs139 q2156 np_X8_derivationSize (i_X8_derivationSize x0) jad_id rfl (fun v2 => ?_)
    refine J_istore_n (env' := [(2, .int v2), (0, .ref x0), (1, .int x1)]) dX8_derivations_36 rfl (by decide) rfl ?_
    refine J_aload_n dX8_derivations_37 rfl 1 rfl ?_
    refine J_getI dX8_derivations_38 fl_X8_253 rfl (fun v3 => ?_)
    refine J_aload_n dX8_derivations_41 rfl 1 rfl ?_
    refine J_callVI (c := 7) (as := []) dX8_derivations_42 (by decide) rfl (Nat.le_of_ble_eq_true rfl) (cw_X8_centreSize _ (by decide)) q2025 q2027 qs116 q2028 np_X8_centreSize (i_X8_centreSize x0) jad_id rfl (fun v4 => ?_)
    refine J_isub dX8_derivations_45 ?_
    refine J_letI (fun y5 => ?_)
    refine J_istore_n (env' := [(3, .int y5), (2, .int v2), (0, .ref x0), (1, .int x1)]) dX8_derivations_46 rfl (by decide) rfl ?_
    refine J_iload_n dX8_derivations_47 rfl 3 rfl ?_
    refine J_if_ne (tgt := 55) dX8_derivations_48 rfl ?_ ?_
    · refine J_iload_n dX8_derivations_55 rfl 3 rfl ?_
      refine J_iconst (v := 1) dX8_derivations_56 (by decide) ?_
      refine J_icmp_ne (tgt := 64) dX8_derivations_57 rfl ?_ ?_
      · refine J_iload_n dX8_derivations_64 rfl 1 rfl ?_
        refine J_iload_n dX8_derivations_65 rfl 0 rfl ?_
        refine J_isub dX8_derivations_66 ?_
        exact J_ireturn dX8_derivations_67 rfl
      refine J_iload_n dX8_derivations_60 rfl 0 rfl ?_
      refine J_goto (tgt := 67) dX8_derivations_61 rfl ?_
      exact J_ireturn dX8_derivations_67 rfl
    refine J_iload_n dX8_derivations_51 rfl 1 rfl ?_
    refine J_goto (tgt := 67) dX8_derivations_52 rfl ?_
    exact J_ireturn dX8_derivations_67 rfl
  refine J_aload_n dX8_derivations_26 rfl 0 rfl ?_
  refine J_iconst (v := 5) dX8_derivations_27 (by decide) ?_
  refine J_callVI (c := 7) (as := [.int 5]) dX8_derivations_28 (by decide) rfl (Nat.le_of_ble_eq_true rfl) (cw_X8_refuse _ (by decide)) q1871 q1873 qs90 q1874 np_X8_refuse (i_X8_refuse x0 5) jad_id rfl (fun v6 => ?_)
  exact J_ireturn dX8_derivations_31 rfl
theorem i_X8_derivations (x0 : Nat) (x1 : Int32) : Impl (ws_ yX8_derivations cX8_derivations 4 (some .int)) yX8_derivations 4 false 0 0 [.ref x0, .int x1] (f_X8_derivations x0 x1) injI := impl_of (plainFor_of_name (by decide)) (Nat.le_of_ble_eq_true rfl) (fun D dA => j_X8_derivations D dA x0 x1)
theorem cw_X8_derivations (Y : JY) (h : 5 ≤ Y.2.2.2.1) : JCw Y (ws_ yX8_derivations cX8_derivations 4 (some .int)) yX8_derivations cX8_derivations 4 (some .int) 4 := ⟨h, by decide, lw_meth q2152, q198, by decide, by decide⟩
theorem np_X8_derivations : JNp yX8_derivations.desc 1 := by decide +kernel
-- BracketRoomModel.formRank()I
abbrev Y_X8_formRank : JY := (cX8_formRank, yX8_formRank.cls, 6, 3, yX8_formRank.name, (some .int), [])
noncomputable def X8_formRank_b116 (x0 : Nat) : JM Mem Int32 :=
  jb (jgetI 7 39 x0) fun v2 =>
  jp v2
theorem j_X8_formRank_b116 (D : va_G) (dA : Nat → ClassId) (x0 : Nat) : J (PM D dA false) Y_X8_formRank [(0, .ref x0)] [] 116 (X8_formRank_b116 x0) (FRet injI) := by
  unfold X8_formRank_b116
  refine J_aload_n dX8_formRank_116 rfl 0 rfl ?_
  refine J_getI dX8_formRank_117 fl_X8_423 rfl (fun v2 => ?_)
  exact J_ireturn dX8_formRank_120 rfl
noncomputable def X8_formRank_b102 (x0 : Nat) (x1 : Int32) : JM Mem (Int32 ⊕ (Int32)) :=
  jb (jgetI 7 27 x0) fun v4 =>
  jb (jcall 7 x0 (f_X8_addEquation x0 v4)) fun _ =>
  jcont (x1 + 1)
theorem j_X8_formRank_b102 (D : va_G) (dA : Nat → ClassId) (x0 : Nat) (x1 : Int32) : J (PM D dA false) Y_X8_formRank [(0, .ref x0), (1, .int x1)] [] 102 (X8_formRank_b102 x0 x1) (FLoop (FRet injI) 6 (fun (t : Int32) => [(0, .ref x0), (1, .int t)])) := by
  unfold X8_formRank_b102
  refine J_aload_n dX8_formRank_102 rfl 0 rfl ?_
  refine J_aload_n dX8_formRank_103 rfl 0 rfl ?_
  refine J_getI dX8_formRank_104 fl_X8_253 rfl (fun v4 => ?_)
  refine J_callVV (c := 7) (as := [.int v4]) dX8_formRank_107 (by decide) rfl (Nat.le_of_ble_eq_true rfl) (cw_X8_addEquation _ (by decide)) q2033 q2035 qs118 q2036 np_X8_addEquation (i_X8_addEquation x0 v4) jad_id rfl ?_
  refine J_iinc (v := x1 + 1) (env' := [(1, .int (x1 + 1)), (0, .ref x0)]) dX8_formRank_110 1 rfl rfl (by decide) rfl ?_
  refine J_goto (tgt := 6) dX8_formRank_113 rfl ?_
  exact J_cont [1, 0] rfl
noncomputable def X8_formRank_b84 (x0 : Nat) (x1 : Int32) (x2 : Int32) (x3 : Int32) : JM Mem ((Int32 ⊕ (Int32)) ⊕ (Int32)) :=
  jb (jgetA 7 38 x0) fun v6 =>
  jb (jgetI 7 26 x0) fun v7 =>
  jb (jrem x3 v7) fun v8 =>
  jb (jast_i v6 x2 v8) fun _ =>
  jcont (x2 + 1)
theorem j_X8_formRank_b84 (D : va_G) (dA : Nat → ClassId) (x0 : Nat) (x1 : Int32) (x2 : Int32) (x3 : Int32) : J (PM D dA false) Y_X8_formRank [(0, .ref x0), (1, .int x1), (2, .int x2), (3, .int x3)] [] 84 (X8_formRank_b84 x0 x1 x2 x3) (FLoop (FLoop (FRet injI) 6 (fun (t : Int32) => [(0, .ref x0), (1, .int t)])) 16 (fun (t : Int32) => [(0, .ref x0), (1, .int x1), (2, .int t)])) := by
  unfold X8_formRank_b84
  refine J_aload_n dX8_formRank_84 rfl 0 rfl ?_
  refine J_getA dX8_formRank_85 fl_X8_77 rfl (fun v6 => ?_)
  refine J_iload_n dX8_formRank_88 rfl 2 rfl ?_
  refine J_iload_n dX8_formRank_89 rfl 3 rfl ?_
  refine J_aload_n dX8_formRank_90 rfl 0 rfl ?_
  refine J_getI dX8_formRank_91 fl_X8_250 rfl (fun v7 => ?_)
  refine J_irem dX8_formRank_94 (fun v8 => ?_)
  refine J_iast dX8_formRank_95 ?_
  refine J_iinc (v := x2 + 1) (env' := [(2, .int (x2 + 1)), (0, .ref x0), (1, .int x1), (3, .int x3)]) dX8_formRank_96 2 rfl rfl (by decide) rfl ?_
  refine J_goto (tgt := 16) dX8_formRank_99 rfl ?_
  exact J_cont [1, 2, 0] rfl
noncomputable def X8_formRank_b78 (x0 : Nat) (x1 : Int32) (x2 : Int32) (x3 : Int32) (x4 : Int32) : JM Mem (((Int32 ⊕ (Int32)) ⊕ (Int32)) ⊕ (Int32 × Int32)) :=
  jcont (x3, x4 + 1)
theorem j_X8_formRank_b78 (D : va_G) (dA : Nat → ClassId) (x0 : Nat) (x1 : Int32) (x2 : Int32) (x3 : Int32) (x4 : Int32) : J (PM D dA false) Y_X8_formRank [(0, .ref x0), (1, .int x1), (2, .int x2), (3, .int x3), (4, .int x4)] [] 78 (X8_formRank_b78 x0 x1 x2 x3 x4) (FLoop (FLoop (FLoop (FRet injI) 6 (fun (t : Int32) => [(0, .ref x0), (1, .int t)])) 16 (fun (t : Int32) => [(0, .ref x0), (1, .int x1), (2, .int t)])) 29 (fun (t : Int32 × Int32) => [(0, .ref x0), (1, .int x1), (2, .int x2), (3, .int t.1), (4, .int t.2)])) := by
  unfold X8_formRank_b78
  refine J_iinc (v := x4 + 1) (env' := [(4, .int (x4 + 1)), (0, .ref x0), (1, .int x1), (2, .int x2), (3, .int x3)]) dX8_formRank_78 4 rfl rfl (by decide) rfl ?_
  refine J_goto (tgt := 29) dX8_formRank_81 rfl ?_
  exact J_cont [1, 2, 3, 4, 0] rfl
noncomputable def X8_formRank_L41 (x0 : Nat) (x1 : Int32) (x2 : Int32) (x4 : Int32) (x3 : Int32) (x5 : Int32) : JM Mem ((((Int32 ⊕ (Int32)) ⊕ (Int32)) ⊕ (Int32 × Int32)) ⊕ (Int32 × Int32)) :=
  jb (jgetI 7 27 x0) fun v9 =>
  if v9 ≤ x5 then
    jinl (X8_formRank_b78 x0 x1 x2 x3 x4)
  else
  jb (jcall 7 x0 (f_X8_table x0 x2 x4 x5)) fun v10 =>
  jb (jcall 7 x0 (f_X8_table x0 x1 x5 x4)) fun v11 =>
  jlet (x3 + (v10 * v11)) fun y12 =>
  jcont (y12, x5 + 1)
theorem j_X8_formRank_L41 (D : va_G) (dA : Nat → ClassId) (x0 : Nat) (x1 : Int32) (x2 : Int32) (x4 : Int32) (x3 : Int32) (x5 : Int32) : J (PM D dA false) Y_X8_formRank [(0, .ref x0), (1, .int x1), (2, .int x2), (3, .int x3), (4, .int x4), (5, .int x5)] [] 41 (X8_formRank_L41 x0 x1 x2 x4 x3 x5) (FLoop (FLoop (FLoop (FLoop (FRet injI) 6 (fun (t : Int32) => [(0, .ref x0), (1, .int t)])) 16 (fun (t : Int32) => [(0, .ref x0), (1, .int x1), (2, .int t)])) 29 (fun (t : Int32 × Int32) => [(0, .ref x0), (1, .int x1), (2, .int x2), (3, .int t.1), (4, .int t.2)])) 41 (fun (t : Int32 × Int32) => [(0, .ref x0), (1, .int x1), (2, .int x2), (3, .int t.1), (4, .int x4), (5, .int t.2)])) := by
  unfold X8_formRank_L41
  refine J_iload dX8_formRank_41 5 rfl ?_
  refine J_aload_n dX8_formRank_43 rfl 0 rfl ?_
  refine J_getI dX8_formRank_44 fl_X8_253 rfl (fun v9 => ?_)
  refine J_icmp_ge (tgt := 78) dX8_formRank_47 rfl ?_ ?_
  · refine J_inl ?_
    refine J_sub [0, 1, 2, 3, 4] rfl ?_
    exact j_X8_formRank_b78 D dA x0 x1 x2 x3 x4
  refine J_iload_n dX8_formRank_50 rfl 3 rfl ?_
  refine J_aload_n dX8_formRank_51 rfl 0 rfl ?_
  refine J_iload_n dX8_formRank_52 rfl 2 rfl ?_
  refine J_iload dX8_formRank_53 4 rfl ?_
  refine J_iload dX8_formRank_55 5 rfl ?_
  refine J_callVI (c := 7) (as := [.int x2, .int x4, .int x5]) dX8_formRank_57 (by decide) rfl (Nat.le_of_ble_eq_true rfl) (cw_X8_table _ (by decide)) q1875 q1877 qs91 q1878 np_X8_table (i_X8_table x0 x2 x4 x5) jad_id rfl (fun v10 => ?_)
  refine J_aload_n dX8_formRank_60 rfl 0 rfl ?_
  refine J_iload_n dX8_formRank_61 rfl 1 rfl ?_
  refine J_iload dX8_formRank_62 5 rfl ?_
  refine J_iload dX8_formRank_64 4 rfl ?_
  refine J_callVI (c := 7) (as := [.int x1, .int x5, .int x4]) dX8_formRank_66 (by decide) rfl (Nat.le_of_ble_eq_true rfl) (cw_X8_table _ (by decide)) q1875 q1877 qs91 q1878 np_X8_table (i_X8_table x0 x1 x5 x4) jad_id rfl (fun v11 => ?_)
  refine J_imul dX8_formRank_69 ?_
  refine J_iadd dX8_formRank_70 ?_
  refine J_letI (fun y12 => ?_)
  refine J_istore_n (env' := [(3, .int y12), (0, .ref x0), (1, .int x1), (2, .int x2), (4, .int x4), (5, .int x5)]) dX8_formRank_71 rfl (by decide) rfl ?_
  refine J_iinc (v := x5 + 1) (env' := [(5, .int (x5 + 1)), (3, .int y12), (0, .ref x0), (1, .int x1), (2, .int x2), (4, .int x4)]) dX8_formRank_72 5 rfl rfl (by decide) rfl ?_
  refine J_goto (tgt := 41) dX8_formRank_75 rfl ?_
  exact J_cont [2, 3, 4, 1, 5, 0] rfl
noncomputable def X8_formRank_L29 (x0 : Nat) (x1 : Int32) (x2 : Int32) (x3 : Int32) (x4 : Int32) : JM Mem (((Int32 ⊕ (Int32)) ⊕ (Int32)) ⊕ (Int32 × Int32)) :=
  jb (jgetI 7 27 x0) fun v5 =>
  if v5 ≤ x4 then
    jinl (X8_formRank_b84 x0 x1 x2 x3)
  else
    jloop (fun (t : Int32 × Int32) => X8_formRank_L41 x0 x1 x2 x4 t.1 t.2) (x3, 0)
theorem j_X8_formRank_L29 (D : va_G) (dA : Nat → ClassId) (x0 : Nat) (x1 : Int32) (x2 : Int32) (x3 : Int32) (x4 : Int32) : J (PM D dA false) Y_X8_formRank [(0, .ref x0), (1, .int x1), (2, .int x2), (3, .int x3), (4, .int x4)] [] 29 (X8_formRank_L29 x0 x1 x2 x3 x4) (FLoop (FLoop (FLoop (FRet injI) 6 (fun (t : Int32) => [(0, .ref x0), (1, .int t)])) 16 (fun (t : Int32) => [(0, .ref x0), (1, .int x1), (2, .int t)])) 29 (fun (t : Int32 × Int32) => [(0, .ref x0), (1, .int x1), (2, .int x2), (3, .int t.1), (4, .int t.2)])) := by
  unfold X8_formRank_L29
  refine J_iload dX8_formRank_29 4 rfl ?_
  refine J_aload_n dX8_formRank_31 rfl 0 rfl ?_
  refine J_getI dX8_formRank_32 fl_X8_253 rfl (fun v5 => ?_)
  refine J_icmp_ge (tgt := 84) dX8_formRank_35 rfl ?_ ?_
  · refine J_inl ?_
    refine J_sub [0, 1, 2, 3] rfl ?_
    exact j_X8_formRank_b84 D dA x0 x1 x2 x3
  refine J_iconst (v := 0) dX8_formRank_38 (by decide) ?_
  refine J_istore (env' := [(5, .int 0), (0, .ref x0), (1, .int x1), (2, .int x2), (3, .int x3), (4, .int x4)]) dX8_formRank_39 (by decide) rfl ?_
  refine J_loop (he := fun (t : Int32 × Int32) => [(0, .ref x0), (1, .int x1), (2, .int x2), (3, .int t.1), (4, .int x4), (5, .int t.2)]) [1, 2, 3, 4, 5, 0] rfl (fun t => ?_)
  exact j_X8_formRank_L41 D dA x0 x1 x2 x4 t.1 t.2
noncomputable def X8_formRank_L16 (x0 : Nat) (x1 : Int32) (x2 : Int32) : JM Mem ((Int32 ⊕ (Int32)) ⊕ (Int32)) :=
  jb (jgetI 7 27 x0) fun v3 =>
  if v3 ≤ x2 then
    jinl (X8_formRank_b102 x0 x1)
  else
    jloop (fun (t : Int32 × Int32) => X8_formRank_L29 x0 x1 x2 t.1 t.2) (0, 0)
theorem j_X8_formRank_L16 (D : va_G) (dA : Nat → ClassId) (x0 : Nat) (x1 : Int32) (x2 : Int32) : J (PM D dA false) Y_X8_formRank [(0, .ref x0), (1, .int x1), (2, .int x2)] [] 16 (X8_formRank_L16 x0 x1 x2) (FLoop (FLoop (FRet injI) 6 (fun (t : Int32) => [(0, .ref x0), (1, .int t)])) 16 (fun (t : Int32) => [(0, .ref x0), (1, .int x1), (2, .int t)])) := by
  unfold X8_formRank_L16
  refine J_iload_n dX8_formRank_16 rfl 2 rfl ?_
  refine J_aload_n dX8_formRank_17 rfl 0 rfl ?_
  refine J_getI dX8_formRank_18 fl_X8_253 rfl (fun v3 => ?_)
  refine J_icmp_ge (tgt := 102) dX8_formRank_21 rfl ?_ ?_
  · refine J_inl ?_
    refine J_sub [0, 1] rfl ?_
    exact j_X8_formRank_b102 D dA x0 x1
  refine J_iconst (v := 0) dX8_formRank_24 (by decide) ?_
  refine J_istore_n (env' := [(3, .int 0), (0, .ref x0), (1, .int x1), (2, .int x2)]) dX8_formRank_25 rfl (by decide) rfl ?_
  refine J_iconst (v := 0) dX8_formRank_26 (by decide) ?_
  refine J_istore (env' := [(4, .int 0), (3, .int 0), (0, .ref x0), (1, .int x1), (2, .int x2)]) dX8_formRank_27 (by decide) rfl ?_
  refine J_loop (he := fun (t : Int32 × Int32) => [(0, .ref x0), (1, .int x1), (2, .int x2), (3, .int t.1), (4, .int t.2)]) [2, 3, 4, 1, 0] rfl (fun t => ?_)
  exact j_X8_formRank_L29 D dA x0 x1 x2 t.1 t.2
noncomputable def X8_formRank_L6 (x0 : Nat) (x1 : Int32) : JM Mem (Int32 ⊕ (Int32)) :=
  jb (jgetI 7 27 x0) fun v1 =>
  if v1 ≤ x1 then
    jinl (X8_formRank_b116 x0)
  else
    jloop (fun (t : Int32) => X8_formRank_L16 x0 x1 t) 0
theorem j_X8_formRank_L6 (D : va_G) (dA : Nat → ClassId) (x0 : Nat) (x1 : Int32) : J (PM D dA false) Y_X8_formRank [(0, .ref x0), (1, .int x1)] [] 6 (X8_formRank_L6 x0 x1) (FLoop (FRet injI) 6 (fun (t : Int32) => [(0, .ref x0), (1, .int t)])) := by
  unfold X8_formRank_L6
  refine J_iload_n dX8_formRank_6 rfl 1 rfl ?_
  refine J_aload_n dX8_formRank_7 rfl 0 rfl ?_
  refine J_getI dX8_formRank_8 fl_X8_253 rfl (fun v1 => ?_)
  refine J_icmp_ge (tgt := 116) dX8_formRank_11 rfl ?_ ?_
  · refine J_inl ?_
    refine J_sub [0] rfl ?_
    exact j_X8_formRank_b116 D dA x0
  refine J_iconst (v := 0) dX8_formRank_14 (by decide) ?_
  refine J_istore_n (env' := [(2, .int 0), (0, .ref x0), (1, .int x1)]) dX8_formRank_15 rfl (by decide) rfl ?_
  refine J_loop (he := fun (t : Int32) => [(0, .ref x0), (1, .int x1), (2, .int t)]) [1, 2, 0] rfl (fun t => ?_)
  exact j_X8_formRank_L16 D dA x0 x1 t
noncomputable def f_X8_formRank (x0 : Nat) : JM Mem Int32 :=
  jb (jcall 7 x0 (f_X8_noRows x0)) fun _ =>
  jloop (fun (t : Int32) => X8_formRank_L6 x0 t) 0
theorem j_X8_formRank (D : va_G) (dA : Nat → ClassId) (x0 : Nat) : J (PM D dA false) Y_X8_formRank [(0, .ref x0)] [] 0 (f_X8_formRank x0) (FRet injI) := by
  unfold f_X8_formRank
  refine J_aload_n dX8_formRank_0 rfl 0 rfl ?_
  refine J_callVV (c := 7) (as := []) dX8_formRank_1 (by decide) rfl (Nat.le_of_ble_eq_true rfl) (cw_X8_noRows _ (by decide)) q2029 q2031 qs117 q2032 np_X8_noRows (i_X8_noRows x0) jad_id rfl ?_
  refine J_iconst (v := 0) dX8_formRank_4 (by decide) ?_
  refine J_istore_n (env' := [(1, .int 0), (0, .ref x0)]) dX8_formRank_5 rfl (by decide) rfl ?_
  refine J_loop (he := fun (t : Int32) => [(0, .ref x0), (1, .int t)]) [1, 0] rfl (fun t => ?_)
  exact j_X8_formRank_L6 D dA x0 t
theorem i_X8_formRank (x0 : Nat) : Impl (ws_ yX8_formRank cX8_formRank 6 (some .int)) yX8_formRank 3 false 0 0 [.ref x0] (f_X8_formRank x0) injI := impl_of (plainFor_of_name (by decide)) (Nat.le_of_ble_eq_true rfl) (fun D dA => j_X8_formRank D dA x0)
theorem cw_X8_formRank (Y : JY) (h : 4 ≤ Y.2.2.2.1) : JCw Y (ws_ yX8_formRank cX8_formRank 6 (some .int)) yX8_formRank cX8_formRank 6 (some .int) 3 := ⟨h, by decide, lw_meth q2164, q198, by decide, by decide⟩
theorem np_X8_formRank : JNp yX8_formRank.desc 0 := by decide +kernel
-- BracketRoomModel.form()I
abbrev Y_X8_form : JY := (cX8_form, yX8_form.cls, 1, 4, yX8_form.name, (some .int), [])
noncomputable def f_X8_form (x0 : Nat) : JM Mem Int32 :=
  jb (jputI 7 1 x0 0) fun _ =>
  jb (jputI 7 0 x0 0) fun _ =>
  jb (jcall 7 x0 (f_X8_askNow x0)) fun _ =>
  jb (jcall 7 x0 (f_X8_formRank x0)) fun v1 =>
  jp v1
theorem j_X8_form (D : va_G) (dA : Nat → ClassId) (x0 : Nat) : J (PM D dA false) Y_X8_form [(0, .ref x0)] [] 0 (f_X8_form x0) (FRet injI) := by
  unfold f_X8_form
  refine J_aload_n dX8_form_0 rfl 0 rfl ?_
  refine J_iconst (v := 0) dX8_form_1 (by decide) ?_
  refine J_putI dX8_form_2 ⟨fl_X8_132, Or.inl rfl⟩ rfl ?_
  refine J_aload_n dX8_form_5 rfl 0 rfl ?_
  refine J_iconst (v := 0) dX8_form_6 (by decide) ?_
  refine J_putI dX8_form_7 ⟨fl_X8_135, Or.inl rfl⟩ rfl ?_
  refine J_aload_n dX8_form_10 rfl 0 rfl ?_
  refine J_callVV (c := 7) (as := []) dX8_form_11 (by decide) rfl (Nat.le_of_ble_eq_true rfl) (cw_X8_askNow _ (by decide)) q1862 q1864 qs88 q1865 np_X8_askNow (i_X8_askNow x0) jad_id rfl ?_
  refine J_aload_n dX8_form_14 rfl 0 rfl ?_
  refine J_callVI (c := 7) (as := []) dX8_form_15 (by decide) rfl (Nat.le_of_ble_eq_true rfl) (cw_X8_formRank _ (by decide)) q2161 q2163 qs140 q2164 np_X8_formRank (i_X8_formRank x0) jad_id rfl (fun v1 => ?_)
  exact J_ireturn dX8_form_18 rfl
theorem i_X8_form (x0 : Nat) : Impl (ws_ yX8_form cX8_form 1 (some .int)) yX8_form 4 false 0 0 [.ref x0] (f_X8_form x0) injI := impl_of (plainFor_of_name (by decide)) (Nat.le_of_ble_eq_true rfl) (fun D dA => j_X8_form D dA x0)
theorem cw_X8_form (Y : JY) (h : 5 ≤ Y.2.2.2.1) : JCw Y (ws_ yX8_form cX8_form 1 (some .int)) yX8_form cX8_form 1 (some .int) 4 := ⟨h, by decide, lw_meth q2160, q198, by decide, by decide⟩
theorem np_X8_form : JNp yX8_form.desc 0 := by decide +kernel
-- BracketRoomModel.bits(I)I
abbrev Y_X8_bits : JY := (cX8_bits, yX8_bits.cls, 3, 1, yX8_bits.name, (some .int), [])
noncomputable def X8_bits_L4 (x0 : Int32) (x1 : Int32) (x2 : Int32) : JM Mem (Int32 ⊕ (Int32 × Int32)) :=
  if 5 ≤ x2 then
    jinl (jp x1)
  else
  jlet (x1 + ((x0 >>> (x2 &&& 31)) &&& 1)) fun y1 =>
  jcont (y1, x2 + 1)
theorem j_X8_bits_L4 (D : va_G) (dA : Nat → ClassId) (x0 : Int32) (x1 : Int32) (x2 : Int32) : J (PM D dA false) Y_X8_bits [(0, .int x0), (1, .int x1), (2, .int x2)] [] 4 (X8_bits_L4 x0 x1 x2) (FLoop (FRet injI) 4 (fun (t : Int32 × Int32) => [(0, .int x0), (1, .int t.1), (2, .int t.2)])) := by
  unfold X8_bits_L4
  refine J_iload_n dX8_bits_4 rfl 2 rfl ?_
  refine J_iconst (v := 5) dX8_bits_5 (by decide) ?_
  refine J_icmp_ge (tgt := 23) dX8_bits_6 rfl ?_ ?_
  · refine J_inl ?_
    refine J_iload_n dX8_bits_23 rfl 1 rfl ?_
    exact J_ireturn dX8_bits_24 rfl
  refine J_iload_n dX8_bits_9 rfl 1 rfl ?_
  refine J_iload_n dX8_bits_10 rfl 0 rfl ?_
  refine J_iload_n dX8_bits_11 rfl 2 rfl ?_
  refine J_ishr dX8_bits_12 ?_
  refine J_iconst (v := 1) dX8_bits_13 (by decide) ?_
  refine J_iand dX8_bits_14 ?_
  refine J_iadd dX8_bits_15 ?_
  refine J_letI (fun y1 => ?_)
  refine J_istore_n (env' := [(1, .int y1), (0, .int x0), (2, .int x2)]) dX8_bits_16 rfl (by decide) rfl ?_
  refine J_iinc (v := x2 + 1) (env' := [(2, .int (x2 + 1)), (1, .int y1), (0, .int x0)]) dX8_bits_17 2 rfl rfl (by decide) rfl ?_
  refine J_goto (tgt := 4) dX8_bits_20 rfl ?_
  exact J_cont [2, 1, 0] rfl
noncomputable def f_X8_bits (x0 : Int32) : JM Mem Int32 :=
  jloop (fun (t : Int32 × Int32) => X8_bits_L4 x0 t.1 t.2) (0, 0)
theorem j_X8_bits (D : va_G) (dA : Nat → ClassId) (x0 : Int32) : J (PM D dA false) Y_X8_bits [(0, .int x0)] [] 0 (f_X8_bits x0) (FRet injI) := by
  unfold f_X8_bits
  refine J_iconst (v := 0) dX8_bits_0 (by decide) ?_
  refine J_istore_n (env' := [(1, .int 0), (0, .int x0)]) dX8_bits_1 rfl (by decide) rfl ?_
  refine J_iconst (v := 0) dX8_bits_2 (by decide) ?_
  refine J_istore_n (env' := [(2, .int 0), (1, .int 0), (0, .int x0)]) dX8_bits_3 rfl (by decide) rfl ?_
  refine J_loop (he := fun (t : Int32 × Int32) => [(0, .int x0), (1, .int t.1), (2, .int t.2)]) [2, 1, 0] rfl (fun t => ?_)
  exact j_X8_bits_L4 D dA x0 t.1 t.2
theorem i_X8_bits (x0 : Int32) : Impl (ws_ yX8_bits cX8_bits 3 (some .int)) yX8_bits 1 false 0 0 [.int x0] (f_X8_bits x0) injI := impl_of (plainFor_of_name (by decide)) (Nat.le_of_ble_eq_true rfl) (fun D dA => j_X8_bits D dA x0)
theorem cw_X8_bits (Y : JY) (h : 2 ≤ Y.2.2.2.1) : JCw Y (ws_ yX8_bits cX8_bits 3 (some .int)) yX8_bits cX8_bits 3 (some .int) 1 := ⟨h, by decide, lw_meth q2179, q198, by decide, by decide⟩
theorem np_X8_bits : JNp yX8_bits.desc 1 := by decide +kernel
-- BracketRoomModel.setsOf(I)I
abbrev Y_X8_setsOf : JY := (cX8_setsOf, yX8_setsOf.cls, 4, 2, yX8_setsOf.name, (some .int), [])
noncomputable def X8_setsOf_b28 (x0 : Nat) (x1 : Int32) (x3 : Int32) (s0 : Int32) (s1 : Int32) : JM Mem (Int32 ⊕ (Int32 × Int32)) :=
  jlet (s0 + s1) fun y3 =>
  jcont (y3, x3 + 1)
theorem j_X8_setsOf_b28 (D : va_G) (dA : Nat → ClassId) (x0 : Nat) (x1 : Int32) (x3 : Int32) (s0 : Int32) (s1 : Int32) : J (PM D dA false) Y_X8_setsOf [(0, .ref x0), (1, .int x1), (3, .int x3)] [.int s1, .int s0] 28 (X8_setsOf_b28 x0 x1 x3 s0 s1) (FLoop (FRet injI) 4 (fun (t : Int32 × Int32) => [(0, .ref x0), (1, .int x1), (2, .int t.1), (3, .int t.2)])) := by
  unfold X8_setsOf_b28
  refine J_iadd dX8_setsOf_28 ?_
  refine J_letI (fun y3 => ?_)
  refine J_istore_n (env' := [(2, .int y3), (0, .ref x0), (1, .int x1), (3, .int x3)]) dX8_setsOf_29 rfl (by decide) rfl ?_
  refine J_iinc (v := x3 + 1) (env' := [(3, .int (x3 + 1)), (2, .int y3), (0, .ref x0), (1, .int x1)]) dX8_setsOf_30 3 rfl rfl (by decide) rfl ?_
  refine J_goto (tgt := 4) dX8_setsOf_33 rfl ?_
  exact J_cont [2, 3, 1, 0] rfl
noncomputable def X8_setsOf_L4 (x0 : Nat) (x1 : Int32) (x2 : Int32) (x3 : Int32) : JM Mem (Int32 ⊕ (Int32 × Int32)) :=
  jb (jgetI 7 27 x0) fun v1 =>
  if (1 : Int32) <<< (v1 &&& 31) ≤ x3 then
    jinl (jp x2)
  else
  jb ((f_X8_bits x3)) fun v2 =>
  if v2 = x1 then
    X8_setsOf_b28 x0 x1 x3 x2 1
  else
    X8_setsOf_b28 x0 x1 x3 x2 0
theorem j_X8_setsOf_L4 (D : va_G) (dA : Nat → ClassId) (x0 : Nat) (x1 : Int32) (x2 : Int32) (x3 : Int32) : J (PM D dA false) Y_X8_setsOf [(0, .ref x0), (1, .int x1), (2, .int x2), (3, .int x3)] [] 4 (X8_setsOf_L4 x0 x1 x2 x3) (FLoop (FRet injI) 4 (fun (t : Int32 × Int32) => [(0, .ref x0), (1, .int x1), (2, .int t.1), (3, .int t.2)])) := by
  unfold X8_setsOf_L4
  refine J_iload_n dX8_setsOf_4 rfl 3 rfl ?_
  refine J_iconst (v := 1) dX8_setsOf_5 (by decide) ?_
  refine J_aload_n dX8_setsOf_6 rfl 0 rfl ?_
  refine J_getI dX8_setsOf_7 fl_X8_253 rfl (fun v1 => ?_)
  refine J_ishl dX8_setsOf_10 ?_
  refine J_icmp_ge (tgt := 36) dX8_setsOf_11 rfl ?_ ?_
  · refine J_inl ?_
    refine J_iload_n dX8_setsOf_36 rfl 2 rfl ?_
    exact J_ireturn dX8_setsOf_37 rfl
  refine J_iload_n dX8_setsOf_14 rfl 2 rfl ?_
  refine J_iload_n dX8_setsOf_15 rfl 3 rfl ?_
  refine J_callSI (host := "") (as := [.int x3]) dX8_setsOf_16 rfl (Nat.le_of_ble_eq_true rfl) (cw_X8_bits _ (by decide)) q2177 q2178 q2179 np_X8_bits (i_X8_bits x3) jad_id rfl (fun v2 => ?_)
  refine J_iload_n dX8_setsOf_19 rfl 1 rfl ?_
  refine J_icmp_ne (tgt := 27) dX8_setsOf_20 rfl ?_ ?_
  · refine J_iconst (v := 0) dX8_setsOf_27 (by decide) ?_
    refine J_sub [0, 1, 3] rfl ?_
    exact j_X8_setsOf_b28 D dA x0 x1 x3 x2 0
  refine J_iconst (v := 1) dX8_setsOf_23 (by decide) ?_
  refine J_goto (tgt := 28) dX8_setsOf_24 rfl ?_
  refine J_sub [0, 1, 3] rfl ?_
  exact j_X8_setsOf_b28 D dA x0 x1 x3 x2 1
noncomputable def f_X8_setsOf (x0 : Nat) (x1 : Int32) : JM Mem Int32 :=
  jloop (fun (t : Int32 × Int32) => X8_setsOf_L4 x0 x1 t.1 t.2) (0, 0)
theorem j_X8_setsOf (D : va_G) (dA : Nat → ClassId) (x0 : Nat) (x1 : Int32) : J (PM D dA false) Y_X8_setsOf [(0, .ref x0), (1, .int x1)] [] 0 (f_X8_setsOf x0 x1) (FRet injI) := by
  unfold f_X8_setsOf
  refine J_iconst (v := 0) dX8_setsOf_0 (by decide) ?_
  refine J_istore_n (env' := [(2, .int 0), (0, .ref x0), (1, .int x1)]) dX8_setsOf_1 rfl (by decide) rfl ?_
  refine J_iconst (v := 0) dX8_setsOf_2 (by decide) ?_
  refine J_istore_n (env' := [(3, .int 0), (2, .int 0), (0, .ref x0), (1, .int x1)]) dX8_setsOf_3 rfl (by decide) rfl ?_
  refine J_loop (he := fun (t : Int32 × Int32) => [(0, .ref x0), (1, .int x1), (2, .int t.1), (3, .int t.2)]) [2, 3, 1, 0] rfl (fun t => ?_)
  exact j_X8_setsOf_L4 D dA x0 x1 t.1 t.2
theorem i_X8_setsOf (x0 : Nat) (x1 : Int32) : Impl (ws_ yX8_setsOf cX8_setsOf 4 (some .int)) yX8_setsOf 2 false 0 0 [.ref x0, .int x1] (f_X8_setsOf x0 x1) injI := impl_of (plainFor_of_name (by decide)) (Nat.le_of_ble_eq_true rfl) (fun D dA => j_X8_setsOf D dA x0 x1)
theorem cw_X8_setsOf (Y : JY) (h : 3 ≤ Y.2.2.2.1) : JCw Y (ws_ yX8_setsOf cX8_setsOf 4 (some .int)) yX8_setsOf cX8_setsOf 4 (some .int) 2 := ⟨h, by decide, lw_meth q2176, q198, by decide, by decide⟩
theorem np_X8_setsOf : JNp yX8_setsOf.desc 1 := by decide +kernel
-- BracketRoomModel.numberOfSet(I)I
abbrev Y_X8_numberOfSet : JY := (cX8_numberOfSet, yX8_numberOfSet.cls, 4, 2, yX8_numberOfSet.name, (some .int), [])
noncomputable def X8_numberOfSet_b26 (x1 : Int32) (x3 : Int32) (s0 : Int32) (s1 : Int32) : JM Mem (Int32 ⊕ (Int32 × Int32)) :=
  jlet (s0 + s1) fun y3 =>
  jcont (y3, x3 + 1)
theorem j_X8_numberOfSet_b26 (D : va_G) (dA : Nat → ClassId) (x1 : Int32) (x3 : Int32) (s0 : Int32) (s1 : Int32) : J (PM D dA false) Y_X8_numberOfSet [(1, .int x1), (3, .int x3)] [.int s1, .int s0] 26 (X8_numberOfSet_b26 x1 x3 s0 s1) (FLoop (FRet injI) 4 (fun (t : Int32 × Int32) => [(1, .int x1), (2, .int t.1), (3, .int t.2)])) := by
  unfold X8_numberOfSet_b26
  refine J_iadd dX8_numberOfSet_26 ?_
  refine J_letI (fun y3 => ?_)
  refine J_istore_n (env' := [(2, .int y3), (1, .int x1), (3, .int x3)]) dX8_numberOfSet_27 rfl (by decide) rfl ?_
  refine J_iinc (v := x3 + 1) (env' := [(3, .int (x3 + 1)), (2, .int y3), (1, .int x1)]) dX8_numberOfSet_28 2 rfl rfl (by decide) rfl ?_
  refine J_goto (tgt := 4) dX8_numberOfSet_31 rfl ?_
  exact J_cont [2, 1, 0] rfl
noncomputable def X8_numberOfSet_L4 (x1 : Int32) (x2 : Int32) (x3 : Int32) : JM Mem (Int32 ⊕ (Int32 × Int32)) :=
  if x1 ≤ x3 then
    jinl (jp x2)
  else
  jb ((f_X8_bits x3)) fun v1 =>
  jb ((f_X8_bits x1)) fun v2 =>
  if v1 = v2 then
    X8_numberOfSet_b26 x1 x3 x2 1
  else
    X8_numberOfSet_b26 x1 x3 x2 0
theorem j_X8_numberOfSet_L4 (D : va_G) (dA : Nat → ClassId) (x1 : Int32) (x2 : Int32) (x3 : Int32) : J (PM D dA false) Y_X8_numberOfSet [(1, .int x1), (2, .int x2), (3, .int x3)] [] 4 (X8_numberOfSet_L4 x1 x2 x3) (FLoop (FRet injI) 4 (fun (t : Int32 × Int32) => [(1, .int x1), (2, .int t.1), (3, .int t.2)])) := by
  unfold X8_numberOfSet_L4
  refine J_iload_n dX8_numberOfSet_4 rfl 2 rfl ?_
  refine J_iload_n dX8_numberOfSet_5 rfl 0 rfl ?_
  refine J_icmp_ge (tgt := 34) dX8_numberOfSet_6 rfl ?_ ?_
  · refine J_inl ?_
    refine J_iload_n dX8_numberOfSet_34 rfl 1 rfl ?_
    exact J_ireturn dX8_numberOfSet_35 rfl
  refine J_iload_n dX8_numberOfSet_9 rfl 1 rfl ?_
  refine J_iload_n dX8_numberOfSet_10 rfl 2 rfl ?_
  refine J_callSI (host := "") (as := [.int x3]) dX8_numberOfSet_11 rfl (Nat.le_of_ble_eq_true rfl) (cw_X8_bits _ (by decide)) q2177 q2178 q2179 np_X8_bits (i_X8_bits x3) jad_id rfl (fun v1 => ?_)
  refine J_iload_n dX8_numberOfSet_14 rfl 0 rfl ?_
  refine J_callSI (host := "") (as := [.int x1]) dX8_numberOfSet_15 rfl (Nat.le_of_ble_eq_true rfl) (cw_X8_bits _ (by decide)) q2177 q2178 q2179 np_X8_bits (i_X8_bits x1) jad_id rfl (fun v2 => ?_)
  refine J_icmp_ne (tgt := 25) dX8_numberOfSet_18 rfl ?_ ?_
  · refine J_iconst (v := 0) dX8_numberOfSet_25 (by decide) ?_
    refine J_sub [0, 2] rfl ?_
    exact j_X8_numberOfSet_b26 D dA x1 x3 x2 0
  refine J_iconst (v := 1) dX8_numberOfSet_21 (by decide) ?_
  refine J_goto (tgt := 26) dX8_numberOfSet_22 rfl ?_
  refine J_sub [0, 2] rfl ?_
  exact j_X8_numberOfSet_b26 D dA x1 x3 x2 1
noncomputable def f_X8_numberOfSet (x0 : Nat) (x1 : Int32) : JM Mem Int32 :=
  jloop (fun (t : Int32 × Int32) => X8_numberOfSet_L4 x1 t.1 t.2) (0, 0)
theorem j_X8_numberOfSet (D : va_G) (dA : Nat → ClassId) (x0 : Nat) (x1 : Int32) : J (PM D dA false) Y_X8_numberOfSet [(0, .ref x0), (1, .int x1)] [] 0 (f_X8_numberOfSet x0 x1) (FRet injI) := by
  unfold f_X8_numberOfSet
  refine J_iconst (v := 0) dX8_numberOfSet_0 (by decide) ?_
  refine J_istore_n (env' := [(2, .int 0), (0, .ref x0), (1, .int x1)]) dX8_numberOfSet_1 rfl (by decide) rfl ?_
  refine J_iconst (v := 0) dX8_numberOfSet_2 (by decide) ?_
  refine J_istore_n (env' := [(3, .int 0), (2, .int 0), (0, .ref x0), (1, .int x1)]) dX8_numberOfSet_3 rfl (by decide) rfl ?_
  refine J_loop (he := fun (t : Int32 × Int32) => [(1, .int x1), (2, .int t.1), (3, .int t.2)]) [3, 1, 0] rfl (fun t => ?_)
  exact j_X8_numberOfSet_L4 D dA x1 t.1 t.2
theorem i_X8_numberOfSet (x0 : Nat) (x1 : Int32) : Impl (ws_ yX8_numberOfSet cX8_numberOfSet 4 (some .int)) yX8_numberOfSet 2 false 0 0 [.ref x0, .int x1] (f_X8_numberOfSet x0 x1) injI := impl_of (plainFor_of_name (by decide)) (Nat.le_of_ble_eq_true rfl) (fun D dA => j_X8_numberOfSet D dA x0 x1)
theorem cw_X8_numberOfSet (Y : JY) (h : 3 ≤ Y.2.2.2.1) : JCw Y (ws_ yX8_numberOfSet cX8_numberOfSet 4 (some .int)) yX8_numberOfSet cX8_numberOfSet 4 (some .int) 2 := ⟨h, by decide, lw_meth q2191, q198, by decide, by decide⟩
theorem np_X8_numberOfSet : JNp yX8_numberOfSet.desc 1 := by decide +kernel
-- BracketRoomModel.rowOfD(II)V
abbrev Y_X8_rowOfD : JY := (cX8_rowOfD, yX8_rowOfD.cls, 11, 3, yX8_rowOfD.name, none, [])
noncomputable def X8_rowOfD_b220 (x0 : Nat) (x1 : Int32) (x3 : Int32) : JM Mem (Unit ⊕ (Int32)) :=
  jcont (x3 + 1)
theorem j_X8_rowOfD_b220 (D : va_G) (dA : Nat → ClassId) (x0 : Nat) (x1 : Int32) (x3 : Int32) : J (PM D dA false) Y_X8_rowOfD [(0, .ref x0), (1, .int x1), (3, .int x3)] [] 220 (X8_rowOfD_b220 x0 x1 x3) (FLoop (FRet injU) 22 (fun (t : Int32) => [(0, .ref x0), (1, .int x1), (3, .int t)])) := by
  unfold X8_rowOfD_b220
  refine J_iinc (v := x3 + 1) (env' := [(3, .int (x3 + 1)), (0, .ref x0), (1, .int x1)]) dX8_rowOfD_220 2 rfl rfl (by decide) rfl ?_
  refine J_goto (tgt := 22) dX8_rowOfD_223 rfl ?_
  exact J_cont [1, 2, 0] rfl
noncomputable def X8_rowOfD_b214 (x0 : Nat) (x1 : Int32) (x3 : Int32) (x4 : Int32) : JM Mem ((Unit ⊕ (Int32)) ⊕ (Int32)) :=
  jcont (x4 + 1)
theorem j_X8_rowOfD_b214 (D : va_G) (dA : Nat → ClassId) (x0 : Nat) (x1 : Int32) (x3 : Int32) (x4 : Int32) : J (PM D dA false) Y_X8_rowOfD [(0, .ref x0), (1, .int x1), (3, .int x3), (4, .int x4)] [] 214 (X8_rowOfD_b214 x0 x1 x3 x4) (FLoop (FLoop (FRet injU) 22 (fun (t : Int32) => [(0, .ref x0), (1, .int x1), (3, .int t)])) 35 (fun (t : Int32) => [(0, .ref x0), (1, .int x1), (3, .int x3), (4, .int t)])) := by
  unfold X8_rowOfD_b214
  refine J_iinc (v := x4 + 1) (env' := [(4, .int (x4 + 1)), (0, .ref x0), (1, .int x1), (3, .int x3)]) dX8_rowOfD_214 3 rfl rfl (by decide) rfl ?_
  refine J_goto (tgt := 35) dX8_rowOfD_217 rfl ?_
  exact J_cont [1, 2, 3, 0] rfl
noncomputable def X8_rowOfD_b208 (x0 : Nat) (x1 : Int32) (x3 : Int32) (x4 : Int32) (x5 : Int32) (x6 : Int32) (x7 : Int32) (x8 : Int32) : JM Mem (((Unit ⊕ (Int32)) ⊕ (Int32)) ⊕ (Int32)) :=
  jcont (x8 + 1)
theorem j_X8_rowOfD_b208 (D : va_G) (dA : Nat → ClassId) (x0 : Nat) (x1 : Int32) (x3 : Int32) (x4 : Int32) (x5 : Int32) (x6 : Int32) (x7 : Int32) (x8 : Int32) : J (PM D dA false) Y_X8_rowOfD [(0, .ref x0), (1, .int x1), (3, .int x3), (4, .int x4), (5, .int x5), (6, .int x6), (7, .int x7), (8, .int x8)] [] 208 (X8_rowOfD_b208 x0 x1 x3 x4 x5 x6 x7 x8) (FLoop (FLoop (FLoop (FRet injU) 22 (fun (t : Int32) => [(0, .ref x0), (1, .int x1), (3, .int t)])) 35 (fun (t : Int32) => [(0, .ref x0), (1, .int x1), (3, .int x3), (4, .int t)])) 108 (fun (t : Int32) => [(0, .ref x0), (1, .int x1), (3, .int x3), (4, .int x4), (5, .int x5), (6, .int x6), (7, .int x7), (8, .int t)])) := by
  unfold X8_rowOfD_b208
  refine J_iinc (v := x8 + 1) (env' := [(8, .int (x8 + 1)), (0, .ref x0), (1, .int x1), (3, .int x3), (4, .int x4), (5, .int x5), (6, .int x6), (7, .int x7)]) dX8_rowOfD_208 7 rfl rfl (by decide) rfl ?_
  refine J_goto (tgt := 108) dX8_rowOfD_211 rfl ?_
  exact J_cont [1, 2, 3, 4, 5, 6, 7, 0] rfl
noncomputable def X8_rowOfD_b189 (x0 : Nat) (x1 : Int32) (x3 : Int32) (x4 : Int32) (x5 : Int32) (x6 : Int32) (x7 : Int32) (x8 : Int32) (s0 : Nat) (s1 : Int32) (s2 : Int32) (s3 : Int32) : JM Mem (((Unit ⊕ (Int32)) ⊕ (Int32)) ⊕ (Int32)) :=
  jb (jcall 7 x0 (f_X8_table x0 x3 x4 x8)) fun v15 =>
  jb (jgetI 7 26 x0) fun v16 =>
  jb ((f_X8_left (s2 + (s3 * v15)) v16)) fun v17 =>
  jb (jast_i s0 s1 v17) fun _ =>
  X8_rowOfD_b208 x0 x1 x3 x4 x5 x6 x7 x8
theorem j_X8_rowOfD_b189 (D : va_G) (dA : Nat → ClassId) (x0 : Nat) (x1 : Int32) (x3 : Int32) (x4 : Int32) (x5 : Int32) (x6 : Int32) (x7 : Int32) (x8 : Int32) (s0 : Nat) (s1 : Int32) (s2 : Int32) (s3 : Int32) : J (PM D dA false) Y_X8_rowOfD [(0, .ref x0), (1, .int x1), (3, .int x3), (4, .int x4), (5, .int x5), (6, .int x6), (7, .int x7), (8, .int x8)] [.int s3, .int s2, .int s1, .ref s0] 189 (X8_rowOfD_b189 x0 x1 x3 x4 x5 x6 x7 x8 s0 s1 s2 s3) (FLoop (FLoop (FLoop (FRet injU) 22 (fun (t : Int32) => [(0, .ref x0), (1, .int x1), (3, .int t)])) 35 (fun (t : Int32) => [(0, .ref x0), (1, .int x1), (3, .int x3), (4, .int t)])) 108 (fun (t : Int32) => [(0, .ref x0), (1, .int x1), (3, .int x3), (4, .int x4), (5, .int x5), (6, .int x6), (7, .int x7), (8, .int t)])) := by
  unfold X8_rowOfD_b189
  refine J_aload_n dX8_rowOfD_189 rfl 0 rfl ?_
  refine J_iload_n dX8_rowOfD_190 rfl 2 rfl ?_
  refine J_iload dX8_rowOfD_191 3 rfl ?_
  refine J_iload dX8_rowOfD_193 7 rfl ?_
  refine J_callVI (c := 7) (as := [.int x3, .int x4, .int x8]) dX8_rowOfD_195 (by decide) rfl (Nat.le_of_ble_eq_true rfl) (cw_X8_table _ (by decide)) q1875 q1877 qs91 q1878 np_X8_table (i_X8_table x0 x3 x4 x8) jad_id rfl (fun v15 => ?_)
  refine J_imul dX8_rowOfD_198 ?_
  refine J_iadd dX8_rowOfD_199 ?_
  refine J_aload_n dX8_rowOfD_200 rfl 0 rfl ?_
  refine J_getI dX8_rowOfD_201 fl_X8_250 rfl (fun v16 => ?_)
  refine J_callSI (host := "") (as := [.int (s2 + (s3 * v15)), .int v16]) dX8_rowOfD_204 rfl (Nat.le_of_ble_eq_true rfl) (cw_X8_left _ (by decide)) q1847 q1848 q1849 np_X8_left (i_X8_left (s2 + (s3 * v15)) v16) jad_id rfl (fun v17 => ?_)
  refine J_iast dX8_rowOfD_207 ?_
  refine J_sub [0, 1, 2, 3, 4, 5, 6, 7] rfl ?_
  exact j_X8_rowOfD_b208 D dA x0 x1 x3 x4 x5 x6 x7 x8
noncomputable def X8_rowOfD_L108 (x0 : Nat) (x1 : Int32) (x3 : Int32) (x4 : Int32) (x5 : Int32) (x6 : Int32) (x7 : Int32) (x8 : Int32) : JM Mem (((Unit ⊕ (Int32)) ⊕ (Int32)) ⊕ (Int32)) :=
  jb (jgetI 7 27 x0) fun v7 =>
  if v7 ≤ x8 then
    jinl (X8_rowOfD_b214 x0 x1 x3 x4)
  else
  if (x7 >>> (x8 &&& 31)) &&& 1 = 1 then
    X8_rowOfD_b208 x0 x1 x3 x4 x5 x6 x7 x8
  else
  jb ((f_X8_bits (x7 &&& (((1 : Int32) <<< (x8 &&& 31)) - 1)))) fun v8 =>
  jlet ((x5 + x6) + v8) fun y9 =>
  jb (jcall 7 x0 (f_X8_numberOfSet x0 (x7 ||| ((1 : Int32) <<< (x8 &&& 31))))) fun v10 =>
  jb (jgetA 7 38 x0) fun v11 =>
  jb (jgetA 7 38 x0) fun v12 =>
  jb (jald mI 0 v12 v10) fun v13 =>
  jb (jrem y9 2) fun v14 =>
  if v14 = 0 then
    X8_rowOfD_b189 x0 x1 x3 x4 x5 x6 x7 x8 v11 v10 v13 1
  else
    X8_rowOfD_b189 x0 x1 x3 x4 x5 x6 x7 x8 v11 v10 v13 (-1)
theorem j_X8_rowOfD_L108 (D : va_G) (dA : Nat → ClassId) (x0 : Nat) (x1 : Int32) (x3 : Int32) (x4 : Int32) (x5 : Int32) (x6 : Int32) (x7 : Int32) (x8 : Int32) : J (PM D dA false) Y_X8_rowOfD [(0, .ref x0), (1, .int x1), (3, .int x3), (4, .int x4), (5, .int x5), (6, .int x6), (7, .int x7), (8, .int x8)] [] 108 (X8_rowOfD_L108 x0 x1 x3 x4 x5 x6 x7 x8) (FLoop (FLoop (FLoop (FRet injU) 22 (fun (t : Int32) => [(0, .ref x0), (1, .int x1), (3, .int t)])) 35 (fun (t : Int32) => [(0, .ref x0), (1, .int x1), (3, .int x3), (4, .int t)])) 108 (fun (t : Int32) => [(0, .ref x0), (1, .int x1), (3, .int x3), (4, .int x4), (5, .int x5), (6, .int x6), (7, .int x7), (8, .int t)])) := by
  unfold X8_rowOfD_L108
  refine J_iload dX8_rowOfD_108 7 rfl ?_
  refine J_aload_n dX8_rowOfD_110 rfl 0 rfl ?_
  refine J_getI dX8_rowOfD_111 fl_X8_253 rfl (fun v7 => ?_)
  refine J_icmp_ge (tgt := 214) dX8_rowOfD_114 rfl ?_ ?_
  · refine J_inl ?_
    refine J_sub [0, 1, 2, 3] rfl ?_
    exact j_X8_rowOfD_b214 D dA x0 x1 x3 x4
  refine J_iload dX8_rowOfD_117 6 rfl ?_
  refine J_iload dX8_rowOfD_119 7 rfl ?_
  refine J_ishr dX8_rowOfD_121 ?_
  refine J_iconst (v := 1) dX8_rowOfD_122 (by decide) ?_
  refine J_iand dX8_rowOfD_123 ?_
  refine J_iconst (v := 1) dX8_rowOfD_124 (by decide) ?_
  refine J_icmp_ne (tgt := 131) dX8_rowOfD_125 rfl ?_ ?_
  · refine J_iload dX8_rowOfD_131 4 rfl ?_
    refine J_iload dX8_rowOfD_133 5 rfl ?_
    refine J_iadd dX8_rowOfD_135 ?_
    refine J_iload dX8_rowOfD_136 6 rfl ?_
    refine J_iconst (v := 1) dX8_rowOfD_138 (by decide) ?_
    refine J_iload dX8_rowOfD_139 7 rfl ?_
    refine J_ishl dX8_rowOfD_141 ?_
    refine J_iconst (v := 1) dX8_rowOfD_142 (by decide) ?_
    refine J_isub dX8_rowOfD_143 ?_
    refine J_iand dX8_rowOfD_144 ?_
    refine J_callSI (host := "") (as := [.int (x7 &&& (((1 : Int32) <<< (x8 &&& 31)) - 1))]) dX8_rowOfD_145 rfl (Nat.le_of_ble_eq_true rfl) (cw_X8_bits _ (by decide)) q2177 q2178 q2179 np_X8_bits (i_X8_bits (x7 &&& (((1 : Int32) <<< (x8 &&& 31)) - 1))) jad_id rfl (fun v8 => ?_)
    refine J_iadd dX8_rowOfD_148 ?_
    refine J_letI (fun y9 => ?_)
    refine J_istore (env' := [(9, .int y9), (0, .ref x0), (1, .int x1), (3, .int x3), (4, .int x4), (5, .int x5), (6, .int x6), (7, .int x7), (8, .int x8)]) dX8_rowOfD_149 (by decide) rfl ?_
    refine J_aload_n dX8_rowOfD_151 rfl 1 rfl ?_
    refine J_iload dX8_rowOfD_152 7 rfl ?_
    refine J_iconst (v := 1) dX8_rowOfD_154 (by decide) ?_
    refine J_iload dX8_rowOfD_155 8 rfl ?_
    refine J_ishl dX8_rowOfD_157 ?_
    refine J_ior dX8_rowOfD_158 ?_
    refine J_callVI (c := 7) (as := [.int (x7 ||| ((1 : Int32) <<< (x8 &&& 31)))]) dX8_rowOfD_159 (by decide) rfl (Nat.le_of_ble_eq_true rfl) (cw_X8_numberOfSet _ (by decide)) q2188 q2190 qs145 q2191 np_X8_numberOfSet (i_X8_numberOfSet x0 (x7 ||| ((1 : Int32) <<< (x8 &&& 31)))) jad_id rfl (fun v10 => ?_)
    refine J_istore (env' := [(10, .int v10), (9, .int y9), (0, .ref x0), (1, .int x1), (3, .int x3), (4, .int x4), (5, .int x5), (6, .int x6), (7, .int x7), (8, .int x8)]) dX8_rowOfD_162 (by decide) rfl ?_
    refine J_aload_n dX8_rowOfD_164 rfl 2 rfl ?_
    refine J_getA dX8_rowOfD_165 fl_X8_77 rfl (fun v11 => ?_)
    refine J_iload dX8_rowOfD_168 0 rfl ?_
    refine J_aload_n dX8_rowOfD_170 rfl 2 rfl ?_
    refine J_getA dX8_rowOfD_171 fl_X8_77 rfl (fun v12 => ?_)
    refine J_iload dX8_rowOfD_174 0 rfl ?_
    refine J_iald dX8_rowOfD_176 (fun v13 => ?_)
    refine J_iload dX8_rowOfD_177 1 rfl ?_
    refine J_iconst (v := 2) dX8_rowOfD_179 (by decide) ?_
    refine J_irem dX8_rowOfD_180 (fun v14 => ?_)
    refine J_if_ne (tgt := 188) dX8_rowOfD_181 rfl ?_ ?_
    · refine J_iconst (v := (-1)) dX8_rowOfD_188 (by decide) ?_
      refine J_sub [2, 3, 4, 5, 6, 7, 8, 9] rfl ?_
      exact j_X8_rowOfD_b189 D dA x0 x1 x3 x4 x5 x6 x7 x8 v11 v10 v13 (-1)
    refine J_iconst (v := 1) dX8_rowOfD_184 (by decide) ?_
    refine J_goto (tgt := 189) dX8_rowOfD_185 rfl ?_
    refine J_sub [2, 3, 4, 5, 6, 7, 8, 9] rfl ?_
    exact j_X8_rowOfD_b189 D dA x0 x1 x3 x4 x5 x6 x7 x8 v11 v10 v13 1
  refine J_goto (tgt := 208) dX8_rowOfD_128 rfl ?_
  refine J_sub [0, 1, 2, 3, 4, 5, 6, 7] rfl ?_
  exact j_X8_rowOfD_b208 D dA x0 x1 x3 x4 x5 x6 x7 x8
noncomputable def X8_rowOfD_L35 (x0 : Nat) (x1 : Int32) (x3 : Int32) (x4 : Int32) : JM Mem ((Unit ⊕ (Int32)) ⊕ (Int32)) :=
  jb (jgetI 7 27 x0) fun v3 =>
  if v3 ≤ x4 then
    jinl (X8_rowOfD_b220 x0 x1 x3)
  else
  if (x1 >>> (x3 &&& 31)) &&& 1 = 0 then
    X8_rowOfD_b214 x0 x1 x3 x4
  else
  if (x1 >>> (x4 &&& 31)) &&& 1 = 0 then
    X8_rowOfD_b214 x0 x1 x3 x4
  else
  jb ((f_X8_bits (x1 &&& (((1 : Int32) <<< (x3 &&& 31)) - 1)))) fun v4 =>
  jb ((f_X8_bits (x1 &&& (((1 : Int32) <<< (x4 &&& 31)) - 1)))) fun v5 =>
  jlet ((x1 &&& (((1 : Int32) <<< (x3 &&& 31)) ^^^ (-1))) &&& (((1 : Int32) <<< (x4 &&& 31)) ^^^ (-1))) fun y6 =>
  jloop (fun (t : Int32) => X8_rowOfD_L108 x0 x1 x3 x4 v4 v5 y6 t) 0
theorem j_X8_rowOfD_L35 (D : va_G) (dA : Nat → ClassId) (x0 : Nat) (x1 : Int32) (x3 : Int32) (x4 : Int32) : J (PM D dA false) Y_X8_rowOfD [(0, .ref x0), (1, .int x1), (3, .int x3), (4, .int x4)] [] 35 (X8_rowOfD_L35 x0 x1 x3 x4) (FLoop (FLoop (FRet injU) 22 (fun (t : Int32) => [(0, .ref x0), (1, .int x1), (3, .int t)])) 35 (fun (t : Int32) => [(0, .ref x0), (1, .int x1), (3, .int x3), (4, .int t)])) := by
  unfold X8_rowOfD_L35
  refine J_iload dX8_rowOfD_35 3 rfl ?_
  refine J_aload_n dX8_rowOfD_37 rfl 0 rfl ?_
  refine J_getI dX8_rowOfD_38 fl_X8_253 rfl (fun v3 => ?_)
  refine J_icmp_ge (tgt := 220) dX8_rowOfD_41 rfl ?_ ?_
  · refine J_inl ?_
    refine J_sub [0, 1, 2] rfl ?_
    exact j_X8_rowOfD_b220 D dA x0 x1 x3
  refine J_iload_n dX8_rowOfD_44 rfl 1 rfl ?_
  refine J_iload_n dX8_rowOfD_45 rfl 2 rfl ?_
  refine J_ishr dX8_rowOfD_46 ?_
  refine J_iconst (v := 1) dX8_rowOfD_47 (by decide) ?_
  refine J_iand dX8_rowOfD_48 ?_
  refine J_if_eq (tgt := 214) dX8_rowOfD_49 rfl ?_ ?_
  · refine J_sub [0, 1, 2, 3] rfl ?_
    exact j_X8_rowOfD_b214 D dA x0 x1 x3 x4
  refine J_iload_n dX8_rowOfD_52 rfl 1 rfl ?_
  refine J_iload dX8_rowOfD_53 3 rfl ?_
  refine J_ishr dX8_rowOfD_55 ?_
  refine J_iconst (v := 1) dX8_rowOfD_56 (by decide) ?_
  refine J_iand dX8_rowOfD_57 ?_
  refine J_if_ne (tgt := 64) dX8_rowOfD_58 rfl ?_ ?_
  · refine J_iload_n dX8_rowOfD_64 rfl 1 rfl ?_
    refine J_iconst (v := 1) dX8_rowOfD_65 (by decide) ?_
    refine J_iload_n dX8_rowOfD_66 rfl 2 rfl ?_
    refine J_ishl dX8_rowOfD_67 ?_
    refine J_iconst (v := 1) dX8_rowOfD_68 (by decide) ?_
    refine J_isub dX8_rowOfD_69 ?_
    refine J_iand dX8_rowOfD_70 ?_
    refine J_callSI (host := "") (as := [.int (x1 &&& (((1 : Int32) <<< (x3 &&& 31)) - 1))]) dX8_rowOfD_71 rfl (Nat.le_of_ble_eq_true rfl) (cw_X8_bits _ (by decide)) q2177 q2178 q2179 np_X8_bits (i_X8_bits (x1 &&& (((1 : Int32) <<< (x3 &&& 31)) - 1))) jad_id rfl (fun v4 => ?_)
    refine J_istore (env' := [(5, .int v4), (0, .ref x0), (1, .int x1), (3, .int x3), (4, .int x4)]) dX8_rowOfD_74 (by decide) rfl ?_
    refine J_iload_n dX8_rowOfD_76 rfl 2 rfl ?_
    refine J_iconst (v := 1) dX8_rowOfD_77 (by decide) ?_
    refine J_iload dX8_rowOfD_78 4 rfl ?_
    refine J_ishl dX8_rowOfD_80 ?_
    refine J_iconst (v := 1) dX8_rowOfD_81 (by decide) ?_
    refine J_isub dX8_rowOfD_82 ?_
    refine J_iand dX8_rowOfD_83 ?_
    refine J_callSI (host := "") (as := [.int (x1 &&& (((1 : Int32) <<< (x4 &&& 31)) - 1))]) dX8_rowOfD_84 rfl (Nat.le_of_ble_eq_true rfl) (cw_X8_bits _ (by decide)) q2177 q2178 q2179 np_X8_bits (i_X8_bits (x1 &&& (((1 : Int32) <<< (x4 &&& 31)) - 1))) jad_id rfl (fun v5 => ?_)
    refine J_istore (env' := [(6, .int v5), (5, .int v4), (0, .ref x0), (1, .int x1), (3, .int x3), (4, .int x4)]) dX8_rowOfD_87 (by decide) rfl ?_
    refine J_iload_n dX8_rowOfD_89 rfl 3 rfl ?_
    refine J_iconst (v := 1) dX8_rowOfD_90 (by decide) ?_
    refine J_iload_n dX8_rowOfD_91 rfl 4 rfl ?_
    refine J_ishl dX8_rowOfD_92 ?_
    refine J_iconst (v := (-1)) dX8_rowOfD_93 (by decide) ?_
    refine J_ixor dX8_rowOfD_94 ?_
    refine J_iand dX8_rowOfD_95 ?_
    refine J_iconst (v := 1) dX8_rowOfD_96 (by decide) ?_
    refine J_iload dX8_rowOfD_97 5 rfl ?_
    refine J_ishl dX8_rowOfD_99 ?_
    refine J_iconst (v := (-1)) dX8_rowOfD_100 (by decide) ?_
    refine J_ixor dX8_rowOfD_101 ?_
    refine J_iand dX8_rowOfD_102 ?_
    refine J_letI (fun y6 => ?_)
    refine J_istore (env' := [(7, .int y6), (6, .int v5), (5, .int v4), (0, .ref x0), (1, .int x1), (3, .int x3), (4, .int x4)]) dX8_rowOfD_103 (by decide) rfl ?_
    refine J_iconst (v := 0) dX8_rowOfD_105 (by decide) ?_
    refine J_istore (env' := [(8, .int 0), (7, .int y6), (6, .int v5), (5, .int v4), (0, .ref x0), (1, .int x1), (3, .int x3), (4, .int x4)]) dX8_rowOfD_106 (by decide) rfl ?_
    refine J_loop (he := fun (t : Int32) => [(0, .ref x0), (1, .int x1), (3, .int x3), (4, .int x4), (5, .int v4), (6, .int v5), (7, .int y6), (8, .int t)]) [4, 5, 6, 7, 3, 2, 1, 0] rfl (fun t => ?_)
    exact j_X8_rowOfD_L108 D dA x0 x1 x3 x4 v4 v5 y6 t
  refine J_goto (tgt := 214) dX8_rowOfD_61 rfl ?_
  refine J_sub [0, 1, 2, 3] rfl ?_
  exact j_X8_rowOfD_b214 D dA x0 x1 x3 x4
noncomputable def X8_rowOfD_L22 (x0 : Nat) (x1 : Int32) (x3 : Int32) : JM Mem (Unit ⊕ (Int32)) :=
  jb (jgetI 7 27 x0) fun v1 =>
  if v1 ≤ x3 then
    jinl (jp ())
  else
  jlet (x3 + 1) fun y2 =>
  jloop (fun (t : Int32) => X8_rowOfD_L35 x0 x1 x3 t) y2
theorem j_X8_rowOfD_L22 (D : va_G) (dA : Nat → ClassId) (x0 : Nat) (x1 : Int32) (x3 : Int32) : J (PM D dA false) Y_X8_rowOfD [(0, .ref x0), (1, .int x1), (3, .int x3)] [] 22 (X8_rowOfD_L22 x0 x1 x3) (FLoop (FRet injU) 22 (fun (t : Int32) => [(0, .ref x0), (1, .int x1), (3, .int t)])) := by
  unfold X8_rowOfD_L22
  refine J_iload_n dX8_rowOfD_22 rfl 2 rfl ?_
  refine J_aload_n dX8_rowOfD_23 rfl 0 rfl ?_
  refine J_getI dX8_rowOfD_24 fl_X8_253 rfl (fun v1 => ?_)
  refine J_icmp_ge (tgt := 226) dX8_rowOfD_27 rfl ?_ ?_
  · refine J_inl ?_
    exact J_return dX8_rowOfD_226 rfl
  refine J_iload_n dX8_rowOfD_30 rfl 2 rfl ?_
  refine J_iconst (v := 1) dX8_rowOfD_31 (by decide) ?_
  refine J_iadd dX8_rowOfD_32 ?_
  refine J_letI (fun y2 => ?_)
  refine J_istore (env' := [(4, .int y2), (0, .ref x0), (1, .int x1), (3, .int x3)]) dX8_rowOfD_33 (by decide) rfl ?_
  refine J_loop (he := fun (t : Int32) => [(0, .ref x0), (1, .int x1), (3, .int x3), (4, .int t)]) [1, 2, 3, 0] rfl (fun t => ?_)
  exact j_X8_rowOfD_L35 D dA x0 x1 x3 t
noncomputable def X8_rowOfD_b20 (x0 : Nat) (x1 : Int32) : JM Mem Unit :=
  jloop (fun (t : Int32) => X8_rowOfD_L22 x0 x1 t) 0
theorem j_X8_rowOfD_b20 (D : va_G) (dA : Nat → ClassId) (x0 : Nat) (x1 : Int32) : J (PM D dA false) Y_X8_rowOfD [(0, .ref x0), (1, .int x1)] [] 20 (X8_rowOfD_b20 x0 x1) (FRet injU) := by
  unfold X8_rowOfD_b20
  refine J_iconst (v := 0) dX8_rowOfD_20 (by decide) ?_
  refine J_istore_n (env' := [(3, .int 0), (0, .ref x0), (1, .int x1)]) dX8_rowOfD_21 rfl (by decide) rfl ?_
  refine J_loop (he := fun (t : Int32) => [(0, .ref x0), (1, .int x1), (3, .int t)]) [1, 2, 0] rfl (fun t => ?_)
  exact j_X8_rowOfD_L22 D dA x0 x1 t
noncomputable def X8_rowOfD_L2 (x0 : Nat) (x1 : Int32) (x2 : Int32) (x3 : Int32) : JM Mem (Unit ⊕ (Int32)) :=
  if x2 ≤ x3 then
    jinl (X8_rowOfD_b20 x0 x1)
  else
  jb (jgetA 7 38 x0) fun v18 =>
  jb (jast_i v18 x3 0) fun _ =>
  jcont (x3 + 1)
theorem j_X8_rowOfD_L2 (D : va_G) (dA : Nat → ClassId) (x0 : Nat) (x1 : Int32) (x2 : Int32) (x3 : Int32) : J (PM D dA false) Y_X8_rowOfD [(0, .ref x0), (1, .int x1), (2, .int x2), (3, .int x3)] [] 2 (X8_rowOfD_L2 x0 x1 x2 x3) (FLoop (FRet injU) 2 (fun (t : Int32) => [(0, .ref x0), (1, .int x1), (2, .int x2), (3, .int t)])) := by
  unfold X8_rowOfD_L2
  refine J_iload_n dX8_rowOfD_2 rfl 3 rfl ?_
  refine J_iload_n dX8_rowOfD_3 rfl 2 rfl ?_
  refine J_icmp_ge (tgt := 20) dX8_rowOfD_4 rfl ?_ ?_
  · refine J_inl ?_
    refine J_sub [0, 1] rfl ?_
    exact j_X8_rowOfD_b20 D dA x0 x1
  refine J_aload_n dX8_rowOfD_7 rfl 0 rfl ?_
  refine J_getA dX8_rowOfD_8 fl_X8_77 rfl (fun v18 => ?_)
  refine J_iload_n dX8_rowOfD_11 rfl 3 rfl ?_
  refine J_iconst (v := 0) dX8_rowOfD_12 (by decide) ?_
  refine J_iast dX8_rowOfD_13 ?_
  refine J_iinc (v := x3 + 1) (env' := [(3, .int (x3 + 1)), (0, .ref x0), (1, .int x1), (2, .int x2)]) dX8_rowOfD_14 3 rfl rfl (by decide) rfl ?_
  refine J_goto (tgt := 2) dX8_rowOfD_17 rfl ?_
  exact J_cont [1, 2, 3, 0] rfl
noncomputable def f_X8_rowOfD (x0 : Nat) (x1 : Int32) (x2 : Int32) : JM Mem Unit :=
  jloop (fun (t : Int32) => X8_rowOfD_L2 x0 x1 x2 t) 0
theorem j_X8_rowOfD (D : va_G) (dA : Nat → ClassId) (x0 : Nat) (x1 : Int32) (x2 : Int32) : J (PM D dA false) Y_X8_rowOfD [(0, .ref x0), (1, .int x1), (2, .int x2)] [] 0 (f_X8_rowOfD x0 x1 x2) (FRet injU) := by
  unfold f_X8_rowOfD
  refine J_iconst (v := 0) dX8_rowOfD_0 (by decide) ?_
  refine J_istore_n (env' := [(3, .int 0), (0, .ref x0), (1, .int x1), (2, .int x2)]) dX8_rowOfD_1 rfl (by decide) rfl ?_
  refine J_loop (he := fun (t : Int32) => [(0, .ref x0), (1, .int x1), (2, .int x2), (3, .int t)]) [1, 2, 3, 0] rfl (fun t => ?_)
  exact j_X8_rowOfD_L2 D dA x0 x1 x2 t
theorem i_X8_rowOfD (x0 : Nat) (x1 : Int32) (x2 : Int32) : Impl (ws_ yX8_rowOfD cX8_rowOfD 11 none) yX8_rowOfD 3 false 0 0 [.ref x0, .int x1, .int x2] (f_X8_rowOfD x0 x1 x2) injU := impl_of (plainFor_of_name (by decide)) (Nat.le_of_ble_eq_true rfl) (fun D dA => j_X8_rowOfD D dA x0 x1 x2)
theorem cw_X8_rowOfD (Y : JY) (h : 4 ≤ Y.2.2.2.1) : JCw Y (ws_ yX8_rowOfD cX8_rowOfD 11 none) yX8_rowOfD cX8_rowOfD 11 none 3 := ⟨h, by decide, lw_meth q2187, q198, by decide, by decide⟩
theorem np_X8_rowOfD : JNp yX8_rowOfD.desc 2 := by decide +kernel
-- BracketRoomModel.rankOfD(I)I
abbrev Y_X8_rankOfD : JY := (cX8_rankOfD, yX8_rankOfD.cls, 4, 4, yX8_rankOfD.name, (some .int), [])
noncomputable def X8_rankOfD_b52 (x0 : Nat) : JM Mem Int32 :=
  jb (jgetI 7 39 x0) fun v3 =>
  jp v3
theorem j_X8_rankOfD_b52 (D : va_G) (dA : Nat → ClassId) (x0 : Nat) : J (PM D dA false) Y_X8_rankOfD [(0, .ref x0)] [] 52 (X8_rankOfD_b52 x0) (FRet injI) := by
  unfold X8_rankOfD_b52
  refine J_aload_n dX8_rankOfD_52 rfl 0 rfl ?_
  refine J_getI dX8_rankOfD_53 fl_X8_423 rfl (fun v3 => ?_)
  exact J_ireturn dX8_rankOfD_56 rfl
noncomputable def X8_rankOfD_b46 (x0 : Nat) (x1 : Int32) (x2 : Int32) (x3 : Int32) : JM Mem (Int32 ⊕ (Int32)) :=
  jcont (x3 + 1)
theorem j_X8_rankOfD_b46 (D : va_G) (dA : Nat → ClassId) (x0 : Nat) (x1 : Int32) (x2 : Int32) (x3 : Int32) : J (PM D dA false) Y_X8_rankOfD [(0, .ref x0), (1, .int x1), (2, .int x2), (3, .int x3)] [] 46 (X8_rankOfD_b46 x0 x1 x2 x3) (FLoop (FRet injI) 12 (fun (t : Int32) => [(0, .ref x0), (1, .int x1), (2, .int x2), (3, .int t)])) := by
  unfold X8_rankOfD_b46
  refine J_iinc (v := x3 + 1) (env' := [(3, .int (x3 + 1)), (0, .ref x0), (1, .int x1), (2, .int x2)]) dX8_rankOfD_46 3 rfl rfl (by decide) rfl ?_
  refine J_goto (tgt := 12) dX8_rankOfD_49 rfl ?_
  exact J_cont [1, 2, 3, 0] rfl
noncomputable def X8_rankOfD_L12 (x0 : Nat) (x1 : Int32) (x2 : Int32) (x3 : Int32) : JM Mem (Int32 ⊕ (Int32)) :=
  jb (jgetI 7 27 x0) fun v2 =>
  if (1 : Int32) <<< (v2 &&& 31) ≤ x3 then
    jinl (X8_rankOfD_b52 x0)
  else
  jb ((f_X8_bits x3)) fun v4 =>
  if v4 = x1 + 1 then
    jb (jcall 7 x0 (f_X8_rowOfD x0 x3 x2)) fun _ =>
    jb (jcall 7 x0 (f_X8_addEquation x0 x2)) fun _ =>
    X8_rankOfD_b46 x0 x1 x2 x3
  else
    X8_rankOfD_b46 x0 x1 x2 x3
theorem j_X8_rankOfD_L12 (D : va_G) (dA : Nat → ClassId) (x0 : Nat) (x1 : Int32) (x2 : Int32) (x3 : Int32) : J (PM D dA false) Y_X8_rankOfD [(0, .ref x0), (1, .int x1), (2, .int x2), (3, .int x3)] [] 12 (X8_rankOfD_L12 x0 x1 x2 x3) (FLoop (FRet injI) 12 (fun (t : Int32) => [(0, .ref x0), (1, .int x1), (2, .int x2), (3, .int t)])) := by
  unfold X8_rankOfD_L12
  refine J_iload_n dX8_rankOfD_12 rfl 3 rfl ?_
  refine J_iconst (v := 1) dX8_rankOfD_13 (by decide) ?_
  refine J_aload_n dX8_rankOfD_14 rfl 0 rfl ?_
  refine J_getI dX8_rankOfD_15 fl_X8_253 rfl (fun v2 => ?_)
  refine J_ishl dX8_rankOfD_18 ?_
  refine J_icmp_ge (tgt := 52) dX8_rankOfD_19 rfl ?_ ?_
  · refine J_inl ?_
    refine J_sub [0] rfl ?_
    exact j_X8_rankOfD_b52 D dA x0
  refine J_iload_n dX8_rankOfD_22 rfl 3 rfl ?_
  refine J_callSI (host := "") (as := [.int x3]) dX8_rankOfD_23 rfl (Nat.le_of_ble_eq_true rfl) (cw_X8_bits _ (by decide)) q2177 q2178 q2179 np_X8_bits (i_X8_bits x3) jad_id rfl (fun v4 => ?_)
  refine J_iload_n dX8_rankOfD_26 rfl 1 rfl ?_
  refine J_iconst (v := 1) dX8_rankOfD_27 (by decide) ?_
  refine J_iadd dX8_rankOfD_28 ?_
  refine J_icmp_eq (tgt := 35) dX8_rankOfD_29 rfl ?_ ?_
  · refine J_aload_n dX8_rankOfD_35 rfl 0 rfl ?_
    refine J_iload_n dX8_rankOfD_36 rfl 3 rfl ?_
    refine J_iload_n dX8_rankOfD_37 rfl 2 rfl ?_
    refine J_callVV (c := 7) (as := [.int x3, .int x2]) dX8_rankOfD_38 (by decide) rfl (Nat.le_of_ble_eq_true rfl) (cw_X8_rowOfD _ (by decide)) q2184 q2186 qs144 q2187 np_X8_rowOfD (i_X8_rowOfD x0 x3 x2) jad_id rfl ?_
    refine J_aload_n dX8_rankOfD_41 rfl 0 rfl ?_
    refine J_iload_n dX8_rankOfD_42 rfl 2 rfl ?_
    refine J_callVV (c := 7) (as := [.int x2]) dX8_rankOfD_43 (by decide) rfl (Nat.le_of_ble_eq_true rfl) (cw_X8_addEquation _ (by decide)) q2033 q2035 qs118 q2036 np_X8_addEquation (i_X8_addEquation x0 x2) jad_id rfl ?_
    refine J_sub [0, 1, 2, 3] rfl ?_
    exact j_X8_rankOfD_b46 D dA x0 x1 x2 x3
  refine J_goto (tgt := 46) dX8_rankOfD_32 rfl ?_
  refine J_sub [0, 1, 2, 3] rfl ?_
  exact j_X8_rankOfD_b46 D dA x0 x1 x2 x3
noncomputable def f_X8_rankOfD (x0 : Nat) (x1 : Int32) : JM Mem Int32 :=
  jb (jcall 7 x0 (f_X8_noRows x0)) fun _ =>
  jb (jcall 7 x0 (f_X8_setsOf x0 x1)) fun v1 =>
  jloop (fun (t : Int32) => X8_rankOfD_L12 x0 x1 v1 t) 0
theorem j_X8_rankOfD (D : va_G) (dA : Nat → ClassId) (x0 : Nat) (x1 : Int32) : J (PM D dA false) Y_X8_rankOfD [(0, .ref x0), (1, .int x1)] [] 0 (f_X8_rankOfD x0 x1) (FRet injI) := by
  unfold f_X8_rankOfD
  refine J_aload_n dX8_rankOfD_0 rfl 0 rfl ?_
  refine J_callVV (c := 7) (as := []) dX8_rankOfD_1 (by decide) rfl (Nat.le_of_ble_eq_true rfl) (cw_X8_noRows _ (by decide)) q2029 q2031 qs117 q2032 np_X8_noRows (i_X8_noRows x0) jad_id rfl ?_
  refine J_aload_n dX8_rankOfD_4 rfl 0 rfl ?_
  refine J_iload_n dX8_rankOfD_5 rfl 1 rfl ?_
  refine J_callVI (c := 7) (as := [.int x1]) dX8_rankOfD_6 (by decide) rfl (Nat.le_of_ble_eq_true rfl) (cw_X8_setsOf _ (by decide)) q2173 q2175 qs142 q2176 np_X8_setsOf (i_X8_setsOf x0 x1) jad_id rfl (fun v1 => ?_)
  refine J_istore_n (env' := [(2, .int v1), (0, .ref x0), (1, .int x1)]) dX8_rankOfD_9 rfl (by decide) rfl ?_
  refine J_iconst (v := 0) dX8_rankOfD_10 (by decide) ?_
  refine J_istore_n (env' := [(3, .int 0), (2, .int v1), (0, .ref x0), (1, .int x1)]) dX8_rankOfD_11 rfl (by decide) rfl ?_
  refine J_loop (he := fun (t : Int32) => [(0, .ref x0), (1, .int x1), (2, .int v1), (3, .int t)]) [2, 3, 1, 0] rfl (fun t => ?_)
  exact j_X8_rankOfD_L12 D dA x0 x1 v1 t
theorem i_X8_rankOfD (x0 : Nat) (x1 : Int32) : Impl (ws_ yX8_rankOfD cX8_rankOfD 4 (some .int)) yX8_rankOfD 4 false 0 0 [.ref x0, .int x1] (f_X8_rankOfD x0 x1) injI := impl_of (plainFor_of_name (by decide)) (Nat.le_of_ble_eq_true rfl) (fun D dA => j_X8_rankOfD D dA x0 x1)
theorem cw_X8_rankOfD (Y : JY) (h : 5 ≤ Y.2.2.2.1) : JCw Y (ws_ yX8_rankOfD cX8_rankOfD 4 (some .int)) yX8_rankOfD cX8_rankOfD 4 (some .int) 4 := ⟨h, by decide, lw_meth q2183, q198, by decide, by decide⟩
theorem np_X8_rankOfD : JNp yX8_rankOfD.desc 1 := by decide +kernel
-- BracketRoomModel.classSize(I)I
abbrev Y_X8_classSize : JY := (cX8_classSize, yX8_classSize.cls, 3, 5, yX8_classSize.name, (some .int), [])
noncomputable def X8_classSize_b38 (s0 : Int32) (s1 : Int32) : JM Mem Int32 :=
  jp (s0 - s1)
theorem j_X8_classSize_b38 (D : va_G) (dA : Nat → ClassId) (s0 : Int32) (s1 : Int32) : J (PM D dA false) Y_X8_classSize [] [.int s1, .int s0] 38 (X8_classSize_b38 s0 s1) (FRet injI) := by
  unfold X8_classSize_b38
  refine J_isub dX8_classSize_38 ?_
  exact J_ireturn dX8_classSize_39 rfl
noncomputable def f_X8_classSize (x0 : Nat) (x1 : Int32) : JM Mem Int32 :=
  jb (jgetI 7 27 x0) fun v1 =>
  if x1 ≤ v1 then
    jb (jcall 7 x0 (f_X8_setsOf x0 x1)) fun v2 =>
    jb (jcall 7 x0 (f_X8_rankOfD x0 x1)) fun v3 =>
    jlet (v2 - v3) fun y4 =>
    if x1 = 0 then
      X8_classSize_b38 y4 0
    else
    jb (jcall 7 x0 (f_X8_rankOfD x0 (x1 - 1))) fun v5 =>
    X8_classSize_b38 y4 v5
  else
    jp 0
theorem j_X8_classSize (D : va_G) (dA : Nat → ClassId) (x0 : Nat) (x1 : Int32) : J (PM D dA false) Y_X8_classSize [(0, .ref x0), (1, .int x1)] [] 0 (f_X8_classSize x0 x1) (FRet injI) := by
  unfold f_X8_classSize
  refine J_iload_n dX8_classSize_0 rfl 1 rfl ?_
  refine J_aload_n dX8_classSize_1 rfl 0 rfl ?_
  refine J_getI dX8_classSize_2 fl_X8_253 rfl (fun v1 => ?_)
  refine J_icmp_le (tgt := 10) dX8_classSize_5 rfl ?_ ?_
  · refine J_aload_n dX8_classSize_10 rfl 0 rfl ?_
    refine J_iload_n dX8_classSize_11 rfl 1 rfl ?_
    refine J_callVI (c := 7) (as := [.int x1]) dX8_classSize_12 (by decide) rfl (Nat.le_of_ble_eq_true rfl) (cw_X8_setsOf _ (by decide)) q2173 q2175 qs142 q2176 np_X8_setsOf (i_X8_setsOf x0 x1) jad_id rfl (fun v2 => ?_)
    refine J_aload_n dX8_classSize_15 rfl 0 rfl ?_
    refine J_iload_n dX8_classSize_16 rfl 1 rfl ?_
    refine J_callVI (c := 7) (as := [.int x1]) dX8_classSize_17 (by decide) rfl (Nat.le_of_ble_eq_true rfl) (cw_X8_rankOfD _ (by decide)) q2180 q2182 qs143 q2183 np_X8_rankOfD (i_X8_rankOfD x0 x1) jad_id rfl (fun v3 => ?_)
    refine J_isub dX8_classSize_20 ?_
    refine J_letI (fun y4 => ?_)
    refine J_istore_n (env' := [(2, .int y4), (0, .ref x0), (1, .int x1)]) dX8_classSize_21 rfl (by decide) rfl ?_
    refine J_iload_n dX8_classSize_22 rfl 0 rfl ?_
    refine J_iload_n dX8_classSize_23 rfl 2 rfl ?_
    refine J_if_ne (tgt := 31) dX8_classSize_24 rfl ?_ ?_
    · refine J_aload_n dX8_classSize_31 rfl 1 rfl ?_
      refine J_iload_n dX8_classSize_32 rfl 2 rfl ?_
      refine J_iconst (v := 1) dX8_classSize_33 (by decide) ?_
      refine J_isub dX8_classSize_34 ?_
      refine J_callVI (c := 7) (as := [.int (x1 - 1)]) dX8_classSize_35 (by decide) rfl (Nat.le_of_ble_eq_true rfl) (cw_X8_rankOfD _ (by decide)) q2180 q2182 qs143 q2183 np_X8_rankOfD (i_X8_rankOfD x0 (x1 - 1)) jad_id rfl (fun v5 => ?_)
      refine J_sub [] rfl ?_
      exact j_X8_classSize_b38 D dA y4 v5
    refine J_iconst (v := 0) dX8_classSize_27 (by decide) ?_
    refine J_goto (tgt := 38) dX8_classSize_28 rfl ?_
    refine J_sub [] rfl ?_
    exact j_X8_classSize_b38 D dA y4 0
  refine J_iconst (v := 0) dX8_classSize_8 (by decide) ?_
  exact J_ireturn dX8_classSize_9 rfl
theorem i_X8_classSize (x0 : Nat) (x1 : Int32) : Impl (ws_ yX8_classSize cX8_classSize 3 (some .int)) yX8_classSize 5 false 0 0 [.ref x0, .int x1] (f_X8_classSize x0 x1) injI := impl_of (plainFor_of_name (by decide)) (Nat.le_of_ble_eq_true rfl) (fun D dA => j_X8_classSize D dA x0 x1)
theorem cw_X8_classSize (Y : JY) (h : 6 ≤ Y.2.2.2.1) : JCw Y (ws_ yX8_classSize cX8_classSize 3 (some .int)) yX8_classSize cX8_classSize 3 (some .int) 5 := ⟨h, by decide, lw_meth q2172, q198, by decide, by decide⟩
theorem np_X8_classSize : JNp yX8_classSize.desc 1 := by decide +kernel
-- BracketRoomModel.classes(I)I
abbrev Y_X8_classes : JY := (cX8_classes, yX8_classes.cls, 2, 7, yX8_classes.name, (some .int), [])
noncomputable def f_X8_classes (x0 : Nat) (x1 : Int32) : JM Mem Int32 :=
  jb (jputI 7 1 x0 0) fun _ =>
  jb (jputI 7 0 x0 0) fun _ =>
  jb (jcall 7 x0 (f_X8_askNow x0)) fun _ =>
  jb (jgetI 7 27 x0) fun v1 =>
  jb ((f_X8_isIn ((x1 : Int32).toInt64) 0 ((v1 : Int32).toInt64))) fun v2 =>
  if v2 = 0 then
    jb (jcall 7 x0 (f_X8_refuse x0 5)) fun v6 =>
    jp v6
  else
  jb (jcall 7 x0 (f_X8_isLawful x0)) fun v3 =>
  if v3 = 0 then
    jb (jcall 7 x0 (f_X8_refuse x0 9)) fun v4 =>
    jp v4
  else
  jb (jcall 7 x0 (f_X8_classSize x0 x1)) fun v5 =>
  jp v5
theorem j_X8_classes (D : va_G) (dA : Nat → ClassId) (x0 : Nat) (x1 : Int32) : J (PM D dA false) Y_X8_classes [(0, .ref x0), (1, .int x1)] [] 0 (f_X8_classes x0 x1) (FRet injI) := by
  unfold f_X8_classes
  refine J_aload_n dX8_classes_0 rfl 0 rfl ?_
  refine J_iconst (v := 0) dX8_classes_1 (by decide) ?_
  refine J_putI dX8_classes_2 ⟨fl_X8_132, Or.inl rfl⟩ rfl ?_
  refine J_aload_n dX8_classes_5 rfl 0 rfl ?_
  refine J_iconst (v := 0) dX8_classes_6 (by decide) ?_
  refine J_putI dX8_classes_7 ⟨fl_X8_135, Or.inl rfl⟩ rfl ?_
  refine J_aload_n dX8_classes_10 rfl 0 rfl ?_
  refine J_callVV (c := 7) (as := []) dX8_classes_11 (by decide) rfl (Nat.le_of_ble_eq_true rfl) (cw_X8_askNow _ (by decide)) q1862 q1864 qs88 q1865 np_X8_askNow (i_X8_askNow x0) jad_id rfl ?_
  refine J_iload_n dX8_classes_14 rfl 1 rfl ?_
  refine J_i2l dX8_classes_15 ?_
  refine J_lconst (v := 0) dX8_classes_16 (by decide) ?_
  refine J_aload_n dX8_classes_17 rfl 0 rfl ?_
  refine J_getI dX8_classes_18 fl_X8_253 rfl (fun v1 => ?_)
  refine J_i2l dX8_classes_21 ?_
  refine J_callSI (host := "") (as := [.long ((x1 : Int32).toInt64), .long 0, .long ((v1 : Int32).toInt64)]) dX8_classes_22 rfl (Nat.le_of_ble_eq_true rfl) (cw_X8_isIn _ (by decide)) q1801 q1802 q1803 np_X8_isIn (i_X8_isIn ((x1 : Int32).toInt64) 0 ((v1 : Int32).toInt64)) jad_id rfl (fun v2 => ?_)
  refine J_if_ne (tgt := 34) dX8_classes_25 rfl ?_ ?_
  · refine J_aload_n dX8_classes_34 rfl 0 rfl ?_
    refine J_callVI (c := 7) (as := []) dX8_classes_35 (by decide) rfl (Nat.le_of_ble_eq_true rfl) (cw_X8_isLawful _ (by decide)) q1923 q1925 qs99 q1926 np_X8_isLawful (i_X8_isLawful x0) jad_id rfl (fun v3 => ?_)
    refine J_if_eq (tgt := 49) dX8_classes_38 rfl ?_ ?_
    · refine J_aload_n dX8_classes_49 rfl 0 rfl ?_
      refine J_bipush (v := 9) dX8_classes_50 (by decide) ?_
      refine J_callVI (c := 7) (as := [.int 9]) dX8_classes_52 (by decide) rfl (Nat.le_of_ble_eq_true rfl) (cw_X8_refuse _ (by decide)) q1871 q1873 qs90 q1874 np_X8_refuse (i_X8_refuse x0 9) jad_id rfl (fun v4 => ?_)
      exact J_ireturn dX8_classes_55 rfl
    refine J_aload_n dX8_classes_41 rfl 0 rfl ?_
    refine J_iload_n dX8_classes_42 rfl 1 rfl ?_
    refine J_callVI (c := 7) (as := [.int x1]) dX8_classes_43 (by decide) rfl (Nat.le_of_ble_eq_true rfl) (cw_X8_classSize _ (by decide)) q2169 q2171 qs141 q2172 np_X8_classSize (i_X8_classSize x0 x1) jad_id rfl (fun v5 => ?_)
    refine J_goto (tgt := 55) dX8_classes_46 rfl ?_
    exact J_ireturn dX8_classes_55 rfl
  refine J_aload_n dX8_classes_28 rfl 0 rfl ?_
  refine J_iconst (v := 5) dX8_classes_29 (by decide) ?_
  refine J_callVI (c := 7) (as := [.int 5]) dX8_classes_30 (by decide) rfl (Nat.le_of_ble_eq_true rfl) (cw_X8_refuse _ (by decide)) q1871 q1873 qs90 q1874 np_X8_refuse (i_X8_refuse x0 5) jad_id rfl (fun v6 => ?_)
  exact J_ireturn dX8_classes_33 rfl
theorem i_X8_classes (x0 : Nat) (x1 : Int32) : Impl (ws_ yX8_classes cX8_classes 2 (some .int)) yX8_classes 7 false 0 0 [.ref x0, .int x1] (f_X8_classes x0 x1) injI := impl_of (plainFor_of_name (by decide)) (Nat.le_of_ble_eq_true rfl) (fun D dA => j_X8_classes D dA x0 x1)
theorem cw_X8_classes (Y : JY) (h : 8 ≤ Y.2.2.2.1) : JCw Y (ws_ yX8_classes cX8_classes 2 (some .int)) yX8_classes cX8_classes 2 (some .int) 7 := ⟨h, by decide, lw_meth q2168, q198, by decide, by decide⟩
theorem np_X8_classes : JNp yX8_classes.desc 1 := by decide +kernel
-- BracketRoomModel.commutingMany()I
abbrev Y_X8_commutingMany : JY := (cX8_commutingMany, yX8_commutingMany.cls, 3, 5, yX8_commutingMany.name, (some .int), [])
noncomputable def X8_commutingMany_L4 (x0 : Nat) (x1 : Int32) (x2 : Int32) : JM Mem (Int32 ⊕ (Int32 × Int32)) :=
  jb (jcall 7 x0 (f_X8_vectors x0)) fun v1 =>
  if v1 ≤ x2 then
    jinl (jp x1)
  else
  jb (jgetI 7 27 x0) fun v2 =>
  jb (jcall 7 x0 (f_X8_rankOf x0 x2)) fun v3 =>
  jb (jcall 7 x0 (f_X8_powerOf x0 (v2 - v3))) fun v4 =>
  jlet (x1 + v4) fun y5 =>
  jcont (y5, x2 + 1)
theorem j_X8_commutingMany_L4 (D : va_G) (dA : Nat → ClassId) (x0 : Nat) (x1 : Int32) (x2 : Int32) : J (PM D dA false) Y_X8_commutingMany [(0, .ref x0), (1, .int x1), (2, .int x2)] [] 4 (X8_commutingMany_L4 x0 x1 x2) (FLoop (FRet injI) 4 (fun (t : Int32 × Int32) => [(0, .ref x0), (1, .int t.1), (2, .int t.2)])) := by
  unfold X8_commutingMany_L4
  refine J_iload_n dX8_commutingMany_4 rfl 2 rfl ?_
  refine J_aload_n dX8_commutingMany_5 rfl 0 rfl ?_
  refine J_callVI (c := 7) (as := []) dX8_commutingMany_6 (by decide) rfl (Nat.le_of_ble_eq_true rfl) (cw_X8_vectors _ (by decide)) q1899 q1901 qs94 q1902 np_X8_vectors (i_X8_vectors x0) jad_id rfl (fun v1 => ?_)
  refine J_icmp_ge (tgt := 35) dX8_commutingMany_9 rfl ?_ ?_
  · refine J_inl ?_
    refine J_iload_n dX8_commutingMany_35 rfl 1 rfl ?_
    exact J_ireturn dX8_commutingMany_36 rfl
  refine J_iload_n dX8_commutingMany_12 rfl 1 rfl ?_
  refine J_aload_n dX8_commutingMany_13 rfl 0 rfl ?_
  refine J_aload_n dX8_commutingMany_14 rfl 0 rfl ?_
  refine J_getI dX8_commutingMany_15 fl_X8_253 rfl (fun v2 => ?_)
  refine J_aload_n dX8_commutingMany_18 rfl 0 rfl ?_
  refine J_iload_n dX8_commutingMany_19 rfl 2 rfl ?_
  refine J_callVI (c := 7) (as := [.int x2]) dX8_commutingMany_20 (by decide) rfl (Nat.le_of_ble_eq_true rfl) (cw_X8_rankOf _ (by decide)) q2045 q2047 qs120 q2048 np_X8_rankOf (i_X8_rankOf x0 x2) jad_id rfl (fun v3 => ?_)
  refine J_isub dX8_commutingMany_23 ?_
  refine J_callVI (c := 7) (as := [.int (v2 - v3)]) dX8_commutingMany_24 (by decide) rfl (Nat.le_of_ble_eq_true rfl) (cw_X8_powerOf _ (by decide)) q1903 q1905 qs95 q1906 np_X8_powerOf (i_X8_powerOf x0 (v2 - v3)) jad_id rfl (fun v4 => ?_)
  refine J_iadd dX8_commutingMany_27 ?_
  refine J_letI (fun y5 => ?_)
  refine J_istore_n (env' := [(1, .int y5), (0, .ref x0), (2, .int x2)]) dX8_commutingMany_28 rfl (by decide) rfl ?_
  refine J_iinc (v := x2 + 1) (env' := [(2, .int (x2 + 1)), (1, .int y5), (0, .ref x0)]) dX8_commutingMany_29 2 rfl rfl (by decide) rfl ?_
  refine J_goto (tgt := 4) dX8_commutingMany_32 rfl ?_
  exact J_cont [2, 1, 0] rfl
noncomputable def f_X8_commutingMany (x0 : Nat) : JM Mem Int32 :=
  jloop (fun (t : Int32 × Int32) => X8_commutingMany_L4 x0 t.1 t.2) (0, 0)
theorem j_X8_commutingMany (D : va_G) (dA : Nat → ClassId) (x0 : Nat) : J (PM D dA false) Y_X8_commutingMany [(0, .ref x0)] [] 0 (f_X8_commutingMany x0) (FRet injI) := by
  unfold f_X8_commutingMany
  refine J_iconst (v := 0) dX8_commutingMany_0 (by decide) ?_
  refine J_istore_n (env' := [(1, .int 0), (0, .ref x0)]) dX8_commutingMany_1 rfl (by decide) rfl ?_
  refine J_iconst (v := 0) dX8_commutingMany_2 (by decide) ?_
  refine J_istore_n (env' := [(2, .int 0), (1, .int 0), (0, .ref x0)]) dX8_commutingMany_3 rfl (by decide) rfl ?_
  refine J_loop (he := fun (t : Int32 × Int32) => [(0, .ref x0), (1, .int t.1), (2, .int t.2)]) [2, 1, 0] rfl (fun t => ?_)
  exact j_X8_commutingMany_L4 D dA x0 t.1 t.2
theorem i_X8_commutingMany (x0 : Nat) : Impl (ws_ yX8_commutingMany cX8_commutingMany 3 (some .int)) yX8_commutingMany 5 false 0 0 [.ref x0] (f_X8_commutingMany x0) injI := impl_of (plainFor_of_name (by decide)) (Nat.le_of_ble_eq_true rfl) (fun D dA => j_X8_commutingMany D dA x0)
theorem cw_X8_commutingMany (Y : JY) (h : 6 ≤ Y.2.2.2.1) : JCw Y (ws_ yX8_commutingMany cX8_commutingMany 3 (some .int)) yX8_commutingMany cX8_commutingMany 3 (some .int) 5 := ⟨h, by decide, lw_meth q2199, q198, by decide, by decide⟩
theorem np_X8_commutingMany : JNp yX8_commutingMany.desc 0 := by decide +kernel
-- BracketRoomModel.commuting()I
abbrev Y_X8_commuting : JY := (cX8_commuting, yX8_commuting.cls, 1, 6, yX8_commuting.name, (some .int), [])
noncomputable def f_X8_commuting (x0 : Nat) : JM Mem Int32 :=
  jb (jputI 7 1 x0 0) fun _ =>
  jb (jputI 7 0 x0 0) fun _ =>
  jb (jcall 7 x0 (f_X8_askNow x0)) fun _ =>
  jb (jcall 7 x0 (f_X8_commutingMany x0)) fun v1 =>
  jp v1
theorem j_X8_commuting (D : va_G) (dA : Nat → ClassId) (x0 : Nat) : J (PM D dA false) Y_X8_commuting [(0, .ref x0)] [] 0 (f_X8_commuting x0) (FRet injI) := by
  unfold f_X8_commuting
  refine J_aload_n dX8_commuting_0 rfl 0 rfl ?_
  refine J_iconst (v := 0) dX8_commuting_1 (by decide) ?_
  refine J_putI dX8_commuting_2 ⟨fl_X8_132, Or.inl rfl⟩ rfl ?_
  refine J_aload_n dX8_commuting_5 rfl 0 rfl ?_
  refine J_iconst (v := 0) dX8_commuting_6 (by decide) ?_
  refine J_putI dX8_commuting_7 ⟨fl_X8_135, Or.inl rfl⟩ rfl ?_
  refine J_aload_n dX8_commuting_10 rfl 0 rfl ?_
  refine J_callVV (c := 7) (as := []) dX8_commuting_11 (by decide) rfl (Nat.le_of_ble_eq_true rfl) (cw_X8_askNow _ (by decide)) q1862 q1864 qs88 q1865 np_X8_askNow (i_X8_askNow x0) jad_id rfl ?_
  refine J_aload_n dX8_commuting_14 rfl 0 rfl ?_
  refine J_callVI (c := 7) (as := []) dX8_commuting_15 (by decide) rfl (Nat.le_of_ble_eq_true rfl) (cw_X8_commutingMany _ (by decide)) q2196 q2198 qs146 q2199 np_X8_commutingMany (i_X8_commutingMany x0) jad_id rfl (fun v1 => ?_)
  exact J_ireturn dX8_commuting_18 rfl
theorem i_X8_commuting (x0 : Nat) : Impl (ws_ yX8_commuting cX8_commuting 1 (some .int)) yX8_commuting 6 false 0 0 [.ref x0] (f_X8_commuting x0) injI := impl_of (plainFor_of_name (by decide)) (Nat.le_of_ble_eq_true rfl) (fun D dA => j_X8_commuting D dA x0)
theorem cw_X8_commuting (Y : JY) (h : 7 ≤ Y.2.2.2.1) : JCw Y (ws_ yX8_commuting cX8_commuting 1 (some .int)) yX8_commuting cX8_commuting 1 (some .int) 6 := ⟨h, by decide, lw_meth q2195, q198, by decide, by decide⟩
theorem np_X8_commuting : JNp yX8_commuting.desc 0 := by decide +kernel
-- BracketRoomModel.sourceTable(III)I
abbrev Y_X8_sourceTable : JY := (cX8_sourceTable, yX8_sourceTable.cls, 4, 2, yX8_sourceTable.name, (some .int), [])
noncomputable def f_X8_sourceTable (x0 : Nat) (x1 : Int32) (x2 : Int32) (x3 : Int32) : JM Mem Int32 :=
  jb (jgetA 7 64 x0) fun v1 =>
  jb (jgetI 7 65 x0) fun v2 =>
  jb ((f_X8_cell x1 x2 x3)) fun v3 =>
  jb (jald mI 0 v1 (v2 + v3)) fun v4 =>
  jp v4
theorem j_X8_sourceTable (D : va_G) (dA : Nat → ClassId) (x0 : Nat) (x1 : Int32) (x2 : Int32) (x3 : Int32) : J (PM D dA false) Y_X8_sourceTable [(0, .ref x0), (1, .int x1), (2, .int x2), (3, .int x3)] [] 0 (f_X8_sourceTable x0 x1 x2 x3) (FRet injI) := by
  unfold f_X8_sourceTable
  refine J_aload_n dX8_sourceTable_0 rfl 0 rfl ?_
  refine J_getA dX8_sourceTable_1 fl_X8_536 rfl (fun v1 => ?_)
  refine J_aload_n dX8_sourceTable_4 rfl 0 rfl ?_
  refine J_getI dX8_sourceTable_5 fl_X8_539 rfl (fun v2 => ?_)
  refine J_iload_n dX8_sourceTable_8 rfl 1 rfl ?_
  refine J_iload_n dX8_sourceTable_9 rfl 2 rfl ?_
  refine J_iload_n dX8_sourceTable_10 rfl 3 rfl ?_
  refine J_callSI (host := "") (as := [.int x1, .int x2, .int x3]) dX8_sourceTable_11 rfl (Nat.le_of_ble_eq_true rfl) (cw_X8_cell _ (by decide)) q1829 q1830 q1831 np_X8_cell (i_X8_cell x1 x2 x3) jad_id rfl (fun v3 => ?_)
  refine J_iadd dX8_sourceTable_14 ?_
  refine J_iald dX8_sourceTable_15 (fun v4 => ?_)
  exact J_ireturn dX8_sourceTable_16 rfl
theorem i_X8_sourceTable (x0 : Nat) (x1 : Int32) (x2 : Int32) (x3 : Int32) : Impl (ws_ yX8_sourceTable cX8_sourceTable 4 (some .int)) yX8_sourceTable 2 false 0 0 [.ref x0, .int x1, .int x2, .int x3] (f_X8_sourceTable x0 x1 x2 x3) injI := impl_of (plainFor_of_name (by decide)) (Nat.le_of_ble_eq_true rfl) (fun D dA => j_X8_sourceTable D dA x0 x1 x2 x3)
theorem cw_X8_sourceTable (Y : JY) (h : 3 ≤ Y.2.2.2.1) : JCw Y (ws_ yX8_sourceTable cX8_sourceTable 4 (some .int)) yX8_sourceTable cX8_sourceTable 4 (some .int) 2 := ⟨h, by decide, lw_meth q2220, q198, by decide, by decide⟩
theorem np_X8_sourceTable : JNp yX8_sourceTable.desc 3 := by decide +kernel
-- BracketRoomModel.isMapSoFar(I)Z
abbrev Y_X8_isMapSoFar : JY := (cX8_isMapSoFar, yX8_isMapSoFar.cls, 8, 4, yX8_isMapSoFar.name, (some .boolean), [])
noncomputable def X8_isMapSoFar_b179 (x0 : Nat) (x1 : Int32) (x2 : Int32) : JM Mem (Int32 ⊕ (Int32)) :=
  jcont (x2 + 1)
theorem j_X8_isMapSoFar_b179 (D : va_G) (dA : Nat → ClassId) (x0 : Nat) (x1 : Int32) (x2 : Int32) : J (PM D dA false) Y_X8_isMapSoFar [(0, .ref x0), (1, .int x1), (2, .int x2)] [] 179 (X8_isMapSoFar_b179 x0 x1 x2) (FLoop (FRet injI) 2 (fun (t : Int32) => [(0, .ref x0), (1, .int x1), (2, .int t)])) := by
  unfold X8_isMapSoFar_b179
  refine J_iinc (v := x2 + 1) (env' := [(2, .int (x2 + 1)), (0, .ref x0), (1, .int x1)]) dX8_isMapSoFar_179 2 rfl rfl (by decide) rfl ?_
  refine J_goto (tgt := 2) dX8_isMapSoFar_182 rfl ?_
  exact J_cont [1, 2, 0] rfl
noncomputable def X8_isMapSoFar_b173 (x0 : Nat) (x1 : Int32) (x2 : Int32) (x3 : Int32) : JM Mem ((Int32 ⊕ (Int32)) ⊕ (Int32)) :=
  jcont (x3 + 1)
theorem j_X8_isMapSoFar_b173 (D : va_G) (dA : Nat → ClassId) (x0 : Nat) (x1 : Int32) (x2 : Int32) (x3 : Int32) : J (PM D dA false) Y_X8_isMapSoFar [(0, .ref x0), (1, .int x1), (2, .int x2), (3, .int x3)] [] 173 (X8_isMapSoFar_b173 x0 x1 x2 x3) (FLoop (FLoop (FRet injI) 2 (fun (t : Int32) => [(0, .ref x0), (1, .int x1), (2, .int t)])) 11 (fun (t : Int32) => [(0, .ref x0), (1, .int x1), (2, .int x2), (3, .int t)])) := by
  unfold X8_isMapSoFar_b173
  refine J_iinc (v := x3 + 1) (env' := [(3, .int (x3 + 1)), (0, .ref x0), (1, .int x1), (2, .int x2)]) dX8_isMapSoFar_173 3 rfl rfl (by decide) rfl ?_
  refine J_goto (tgt := 11) dX8_isMapSoFar_176 rfl ?_
  exact J_cont [1, 2, 3, 0] rfl
noncomputable def X8_isMapSoFar_b148 (x0 : Nat) (x1 : Int32) (x2 : Int32) (x3 : Int32) (x5 : Int32) (x6 : Int32) : JM Mem (((Int32 ⊕ (Int32)) ⊕ (Int32)) ⊕ (Int32)) :=
  jb (jgetI 7 26 x0) fun v8 =>
  jb (jrem x6 v8) fun v9 =>
  jb (jgetA 7 36 x0) fun v10 =>
  jb (jald mI 0 v10 x5) fun v11 =>
  if v9 = v11 then
    jcont (x5 + 1)
  else
    jinl (jinl (jinl (jp 0)))
theorem j_X8_isMapSoFar_b148 (D : va_G) (dA : Nat → ClassId) (x0 : Nat) (x1 : Int32) (x2 : Int32) (x3 : Int32) (x5 : Int32) (x6 : Int32) : J (PM D dA false) Y_X8_isMapSoFar [(0, .ref x0), (1, .int x1), (2, .int x2), (3, .int x3), (5, .int x5), (6, .int x6)] [] 148 (X8_isMapSoFar_b148 x0 x1 x2 x3 x5 x6) (FLoop (FLoop (FLoop (FRet injI) 2 (fun (t : Int32) => [(0, .ref x0), (1, .int x1), (2, .int t)])) 11 (fun (t : Int32) => [(0, .ref x0), (1, .int x1), (2, .int x2), (3, .int t)])) 95 (fun (t : Int32) => [(0, .ref x0), (1, .int x1), (2, .int x2), (3, .int x3), (5, .int t)])) := by
  unfold X8_isMapSoFar_b148
  refine J_iload dX8_isMapSoFar_148 5 rfl ?_
  refine J_aload_n dX8_isMapSoFar_150 rfl 0 rfl ?_
  refine J_getI dX8_isMapSoFar_151 fl_X8_250 rfl (fun v8 => ?_)
  refine J_irem dX8_isMapSoFar_154 (fun v9 => ?_)
  refine J_aload_n dX8_isMapSoFar_155 rfl 0 rfl ?_
  refine J_getA dX8_isMapSoFar_156 fl_X8_71 rfl (fun v10 => ?_)
  refine J_iload dX8_isMapSoFar_159 4 rfl ?_
  refine J_iald dX8_isMapSoFar_161 (fun v11 => ?_)
  refine J_icmp_eq (tgt := 167) dX8_isMapSoFar_162 rfl ?_ ?_
  · refine J_iinc (v := x5 + 1) (env' := [(5, .int (x5 + 1)), (0, .ref x0), (1, .int x1), (2, .int x2), (3, .int x3), (6, .int x6)]) dX8_isMapSoFar_167 4 rfl rfl (by decide) rfl ?_
    refine J_goto (tgt := 95) dX8_isMapSoFar_170 rfl ?_
    exact J_cont [1, 2, 3, 4, 0] rfl
  refine J_inl ?_
  refine J_inl ?_
  refine J_inl ?_
  refine J_iconst (v := 0) dX8_isMapSoFar_165 (by decide) ?_
  exact J_zreturn0 dX8_isMapSoFar_166 rfl
noncomputable def X8_isMapSoFar_L110 (x0 : Nat) (x1 : Int32) (x2 : Int32) (x3 : Int32) (x5 : Int32) (x6 : Int32) (x7 : Int32) : JM Mem ((((Int32 ⊕ (Int32)) ⊕ (Int32)) ⊕ (Int32)) ⊕ (Int32 × Int32)) :=
  if x1 < x7 then
    jinl (X8_isMapSoFar_b148 x0 x1 x2 x3 x5 x6)
  else
  jb (jcall 7 x0 (f_X8_sourceTable x0 x2 x3 x7)) fun v12 =>
  jb (jgetA 7 40 x0) fun v13 =>
  jb (jald mI 0 v13 ((5 * x7) + x5)) fun v14 =>
  jlet (x6 + (v12 * v14)) fun y15 =>
  jcont (y15, x7 + 1)
theorem j_X8_isMapSoFar_L110 (D : va_G) (dA : Nat → ClassId) (x0 : Nat) (x1 : Int32) (x2 : Int32) (x3 : Int32) (x5 : Int32) (x6 : Int32) (x7 : Int32) : J (PM D dA false) Y_X8_isMapSoFar [(0, .ref x0), (1, .int x1), (2, .int x2), (3, .int x3), (5, .int x5), (6, .int x6), (7, .int x7)] [] 110 (X8_isMapSoFar_L110 x0 x1 x2 x3 x5 x6 x7) (FLoop (FLoop (FLoop (FLoop (FRet injI) 2 (fun (t : Int32) => [(0, .ref x0), (1, .int x1), (2, .int t)])) 11 (fun (t : Int32) => [(0, .ref x0), (1, .int x1), (2, .int x2), (3, .int t)])) 95 (fun (t : Int32) => [(0, .ref x0), (1, .int x1), (2, .int x2), (3, .int x3), (5, .int t)])) 110 (fun (t : Int32 × Int32) => [(0, .ref x0), (1, .int x1), (2, .int x2), (3, .int x3), (5, .int x5), (6, .int t.1), (7, .int t.2)])) := by
  unfold X8_isMapSoFar_L110
  refine J_iload dX8_isMapSoFar_110 6 rfl ?_
  refine J_iload_n dX8_isMapSoFar_112 rfl 1 rfl ?_
  refine J_icmp_gt (tgt := 148) dX8_isMapSoFar_113 rfl ?_ ?_
  · refine J_inl ?_
    refine J_sub [0, 1, 2, 3, 4, 5] rfl ?_
    exact j_X8_isMapSoFar_b148 D dA x0 x1 x2 x3 x5 x6
  refine J_iload dX8_isMapSoFar_116 5 rfl ?_
  refine J_aload_n dX8_isMapSoFar_118 rfl 0 rfl ?_
  refine J_iload_n dX8_isMapSoFar_119 rfl 2 rfl ?_
  refine J_iload_n dX8_isMapSoFar_120 rfl 3 rfl ?_
  refine J_iload dX8_isMapSoFar_121 6 rfl ?_
  refine J_callVI (c := 7) (as := [.int x2, .int x3, .int x7]) dX8_isMapSoFar_123 (by decide) rfl (Nat.le_of_ble_eq_true rfl) (cw_X8_sourceTable _ (by decide)) q2217 q2219 qs150 q2220 np_X8_sourceTable (i_X8_sourceTable x0 x2 x3 x7) jad_id rfl (fun v12 => ?_)
  refine J_aload_n dX8_isMapSoFar_126 rfl 0 rfl ?_
  refine J_getA dX8_isMapSoFar_127 fl_X8_80 rfl (fun v13 => ?_)
  refine J_iconst (v := 5) dX8_isMapSoFar_130 (by decide) ?_
  refine J_iload dX8_isMapSoFar_131 6 rfl ?_
  refine J_imul dX8_isMapSoFar_133 ?_
  refine J_iload dX8_isMapSoFar_134 4 rfl ?_
  refine J_iadd dX8_isMapSoFar_136 ?_
  refine J_iald dX8_isMapSoFar_137 (fun v14 => ?_)
  refine J_imul dX8_isMapSoFar_138 ?_
  refine J_iadd dX8_isMapSoFar_139 ?_
  refine J_letI (fun y15 => ?_)
  refine J_istore (env' := [(6, .int y15), (0, .ref x0), (1, .int x1), (2, .int x2), (3, .int x3), (5, .int x5), (7, .int x7)]) dX8_isMapSoFar_140 (by decide) rfl ?_
  refine J_iinc (v := x7 + 1) (env' := [(7, .int (x7 + 1)), (6, .int y15), (0, .ref x0), (1, .int x1), (2, .int x2), (3, .int x3), (5, .int x5)]) dX8_isMapSoFar_142 6 rfl rfl (by decide) rfl ?_
  refine J_goto (tgt := 110) dX8_isMapSoFar_145 rfl ?_
  exact J_cont [2, 3, 4, 5, 6, 1, 0] rfl
noncomputable def X8_isMapSoFar_L95 (x0 : Nat) (x1 : Int32) (x2 : Int32) (x3 : Int32) (x5 : Int32) : JM Mem (((Int32 ⊕ (Int32)) ⊕ (Int32)) ⊕ (Int32)) :=
  jb (jgetI 7 27 x0) fun v7 =>
  if v7 ≤ x5 then
    jinl (X8_isMapSoFar_b173 x0 x1 x2 x3)
  else
    jloop (fun (t : Int32 × Int32) => X8_isMapSoFar_L110 x0 x1 x2 x3 x5 t.1 t.2) (0, 0)
theorem j_X8_isMapSoFar_L95 (D : va_G) (dA : Nat → ClassId) (x0 : Nat) (x1 : Int32) (x2 : Int32) (x3 : Int32) (x5 : Int32) : J (PM D dA false) Y_X8_isMapSoFar [(0, .ref x0), (1, .int x1), (2, .int x2), (3, .int x3), (5, .int x5)] [] 95 (X8_isMapSoFar_L95 x0 x1 x2 x3 x5) (FLoop (FLoop (FLoop (FRet injI) 2 (fun (t : Int32) => [(0, .ref x0), (1, .int x1), (2, .int t)])) 11 (fun (t : Int32) => [(0, .ref x0), (1, .int x1), (2, .int x2), (3, .int t)])) 95 (fun (t : Int32) => [(0, .ref x0), (1, .int x1), (2, .int x2), (3, .int x3), (5, .int t)])) := by
  unfold X8_isMapSoFar_L95
  refine J_iload dX8_isMapSoFar_95 4 rfl ?_
  refine J_aload_n dX8_isMapSoFar_97 rfl 0 rfl ?_
  refine J_getI dX8_isMapSoFar_98 fl_X8_253 rfl (fun v7 => ?_)
  refine J_icmp_ge (tgt := 173) dX8_isMapSoFar_101 rfl ?_ ?_
  · refine J_inl ?_
    refine J_sub [0, 1, 2, 3] rfl ?_
    exact j_X8_isMapSoFar_b173 D dA x0 x1 x2 x3
  refine J_iconst (v := 0) dX8_isMapSoFar_104 (by decide) ?_
  refine J_istore (env' := [(6, .int 0), (0, .ref x0), (1, .int x1), (2, .int x2), (3, .int x3), (5, .int x5)]) dX8_isMapSoFar_105 (by decide) rfl ?_
  refine J_iconst (v := 0) dX8_isMapSoFar_107 (by decide) ?_
  refine J_istore (env' := [(7, .int 0), (6, .int 0), (0, .ref x0), (1, .int x1), (2, .int x2), (3, .int x3), (5, .int x5)]) dX8_isMapSoFar_108 (by decide) rfl ?_
  refine J_loop (he := fun (t : Int32 × Int32) => [(0, .ref x0), (1, .int x1), (2, .int x2), (3, .int x3), (5, .int x5), (6, .int t.1), (7, .int t.2)]) [2, 3, 4, 5, 6, 1, 0] rfl (fun t => ?_)
  exact j_X8_isMapSoFar_L110 D dA x0 x1 x2 x3 x5 t.1 t.2
noncomputable def X8_isMapSoFar_b62 (x0 : Nat) (x1 : Int32) (x2 : Int32) (x3 : Int32) (x4 : Int32) : JM Mem ((Int32 ⊕ (Int32)) ⊕ (Int32)) :=
  if x4 = 0 then
    X8_isMapSoFar_b173 x0 x1 x2 x3
  else
  jb (jgetA 7 40 x0) fun v4 =>
  jb (jgetA 7 40 x0) fun v5 =>
  jb (jgetA 7 36 x0) fun v6 =>
  jb (jcall 7 x0 (f_X8_bracketOf x0 v4 (5 * x2) v5 (5 * x3) v6)) fun _ =>
  jloop (fun (t : Int32) => X8_isMapSoFar_L95 x0 x1 x2 x3 t) 0
theorem j_X8_isMapSoFar_b62 (D : va_G) (dA : Nat → ClassId) (x0 : Nat) (x1 : Int32) (x2 : Int32) (x3 : Int32) (x4 : Int32) : J (PM D dA false) Y_X8_isMapSoFar [(0, .ref x0), (1, .int x1), (2, .int x2), (3, .int x3), (4, .int x4)] [] 62 (X8_isMapSoFar_b62 x0 x1 x2 x3 x4) (FLoop (FLoop (FRet injI) 2 (fun (t : Int32) => [(0, .ref x0), (1, .int x1), (2, .int t)])) 11 (fun (t : Int32) => [(0, .ref x0), (1, .int x1), (2, .int x2), (3, .int t)])) := by
  unfold X8_isMapSoFar_b62
  refine J_iload dX8_isMapSoFar_62 4 rfl ?_
  refine J_if_ne (tgt := 70) dX8_isMapSoFar_64 rfl ?_ ?_
  · refine J_aload_n dX8_isMapSoFar_70 rfl 0 rfl ?_
    refine J_aload_n dX8_isMapSoFar_71 rfl 0 rfl ?_
    refine J_getA dX8_isMapSoFar_72 fl_X8_80 rfl (fun v4 => ?_)
    refine J_iconst (v := 5) dX8_isMapSoFar_75 (by decide) ?_
    refine J_iload_n dX8_isMapSoFar_76 rfl 2 rfl ?_
    refine J_imul dX8_isMapSoFar_77 ?_
    refine J_aload_n dX8_isMapSoFar_78 rfl 0 rfl ?_
    refine J_getA dX8_isMapSoFar_79 fl_X8_80 rfl (fun v5 => ?_)
    refine J_iconst (v := 5) dX8_isMapSoFar_82 (by decide) ?_
    refine J_iload_n dX8_isMapSoFar_83 rfl 3 rfl ?_
    refine J_imul dX8_isMapSoFar_84 ?_
    refine J_aload_n dX8_isMapSoFar_85 rfl 0 rfl ?_
    refine J_getA dX8_isMapSoFar_86 fl_X8_71 rfl (fun v6 => ?_)
    refine J_callVV (c := 7) (as := [.ref v4, .int (5 * x2), .ref v5, .int (5 * x3), .ref v6]) dX8_isMapSoFar_89 (by decide) rfl (Nat.le_of_ble_eq_true rfl) (cw_X8_bracketOf _ (by decide)) q1911 q1913 qs97 q1914 np_X8_bracketOf (i_X8_bracketOf x0 v4 (5 * x2) v5 (5 * x3) v6) jad_id rfl ?_
    refine J_iconst (v := 0) dX8_isMapSoFar_92 (by decide) ?_
    refine J_istore (env' := [(5, .int 0), (0, .ref x0), (1, .int x1), (2, .int x2), (3, .int x3), (4, .int x4)]) dX8_isMapSoFar_93 (by decide) rfl ?_
    refine J_loop (he := fun (t : Int32) => [(0, .ref x0), (1, .int x1), (2, .int x2), (3, .int x3), (5, .int t)]) [1, 2, 3, 4, 0] rfl (fun t => ?_)
    exact j_X8_isMapSoFar_L95 D dA x0 x1 x2 x3 t
  refine J_goto (tgt := 173) dX8_isMapSoFar_67 rfl ?_
  refine J_sub [0, 1, 2, 3] rfl ?_
  exact j_X8_isMapSoFar_b173 D dA x0 x1 x2 x3
noncomputable def X8_isMapSoFar_b54 (x0 : Nat) (x1 : Int32) (x2 : Int32) (x3 : Int32) (x5 : Int32) (s0 : Int32) : JM Mem (((Int32 ⊕ (Int32)) ⊕ (Int32)) ⊕ (Int32 × Int32)) :=
  jcont (s0, x5 + 1)
theorem j_X8_isMapSoFar_b54 (D : va_G) (dA : Nat → ClassId) (x0 : Nat) (x1 : Int32) (x2 : Int32) (x3 : Int32) (x5 : Int32) (s0 : Int32) : J (PM D dA false) Y_X8_isMapSoFar [(0, .ref x0), (1, .int x1), (2, .int x2), (3, .int x3), (5, .int x5)] [.int s0] 54 (X8_isMapSoFar_b54 x0 x1 x2 x3 x5 s0) (FLoop (FLoop (FLoop (FRet injI) 2 (fun (t : Int32) => [(0, .ref x0), (1, .int x1), (2, .int t)])) 11 (fun (t : Int32) => [(0, .ref x0), (1, .int x1), (2, .int x2), (3, .int t)])) 24 (fun (t : Int32 × Int32) => [(0, .ref x0), (1, .int x1), (2, .int x2), (3, .int x3), (4, .int t.1), (5, .int t.2)])) := by
  unfold X8_isMapSoFar_b54
  refine J_istore (env' := [(4, .int s0), (0, .ref x0), (1, .int x1), (2, .int x2), (3, .int x3), (5, .int x5)]) dX8_isMapSoFar_54 (by decide) rfl ?_
  refine J_iinc (v := x5 + 1) (env' := [(5, .int (x5 + 1)), (4, .int s0), (0, .ref x0), (1, .int x1), (2, .int x2), (3, .int x3)]) dX8_isMapSoFar_56 5 rfl rfl (by decide) rfl ?_
  refine J_goto (tgt := 24) dX8_isMapSoFar_59 rfl ?_
  exact J_cont [2, 3, 4, 5, 1, 0] rfl
noncomputable def X8_isMapSoFar_b53 (x0 : Nat) (x1 : Int32) (x2 : Int32) (x3 : Int32) (x5 : Int32) : JM Mem (((Int32 ⊕ (Int32)) ⊕ (Int32)) ⊕ (Int32 × Int32)) :=
  X8_isMapSoFar_b54 x0 x1 x2 x3 x5 0
theorem j_X8_isMapSoFar_b53 (D : va_G) (dA : Nat → ClassId) (x0 : Nat) (x1 : Int32) (x2 : Int32) (x3 : Int32) (x5 : Int32) : J (PM D dA false) Y_X8_isMapSoFar [(0, .ref x0), (1, .int x1), (2, .int x2), (3, .int x3), (5, .int x5)] [] 53 (X8_isMapSoFar_b53 x0 x1 x2 x3 x5) (FLoop (FLoop (FLoop (FRet injI) 2 (fun (t : Int32) => [(0, .ref x0), (1, .int x1), (2, .int t)])) 11 (fun (t : Int32) => [(0, .ref x0), (1, .int x1), (2, .int x2), (3, .int t)])) 24 (fun (t : Int32 × Int32) => [(0, .ref x0), (1, .int x1), (2, .int x2), (3, .int x3), (4, .int t.1), (5, .int t.2)])) := by
  unfold X8_isMapSoFar_b53
  refine J_iconst (v := 0) dX8_isMapSoFar_53 (by decide) ?_
  refine J_sub [0, 1, 2, 3, 4] rfl ?_
  exact j_X8_isMapSoFar_b54 D dA x0 x1 x2 x3 x5 0
noncomputable def X8_isMapSoFar_L24 (x0 : Nat) (x1 : Int32) (x2 : Int32) (x3 : Int32) (x4 : Int32) (x5 : Int32) : JM Mem (((Int32 ⊕ (Int32)) ⊕ (Int32)) ⊕ (Int32 × Int32)) :=
  jb (jgetI 7 27 x0) fun v3 =>
  if v3 ≤ x5 then
    jinl (X8_isMapSoFar_b62 x0 x1 x2 x3 x4)
  else
  if x4 = 0 then
    X8_isMapSoFar_b53 x0 x1 x2 x3 x5
  else
  jb (jcall 7 x0 (f_X8_sourceTable x0 x2 x3 x5)) fun v16 =>
  if v16 = 0 then
    X8_isMapSoFar_b54 x0 x1 x2 x3 x5 1
  else
    X8_isMapSoFar_b53 x0 x1 x2 x3 x5
theorem j_X8_isMapSoFar_L24 (D : va_G) (dA : Nat → ClassId) (x0 : Nat) (x1 : Int32) (x2 : Int32) (x3 : Int32) (x4 : Int32) (x5 : Int32) : J (PM D dA false) Y_X8_isMapSoFar [(0, .ref x0), (1, .int x1), (2, .int x2), (3, .int x3), (4, .int x4), (5, .int x5)] [] 24 (X8_isMapSoFar_L24 x0 x1 x2 x3 x4 x5) (FLoop (FLoop (FLoop (FRet injI) 2 (fun (t : Int32) => [(0, .ref x0), (1, .int x1), (2, .int t)])) 11 (fun (t : Int32) => [(0, .ref x0), (1, .int x1), (2, .int x2), (3, .int t)])) 24 (fun (t : Int32 × Int32) => [(0, .ref x0), (1, .int x1), (2, .int x2), (3, .int x3), (4, .int t.1), (5, .int t.2)])) := by
  unfold X8_isMapSoFar_L24
  refine J_iload dX8_isMapSoFar_24 5 rfl ?_
  refine J_aload_n dX8_isMapSoFar_26 rfl 0 rfl ?_
  refine J_getI dX8_isMapSoFar_27 fl_X8_253 rfl (fun v3 => ?_)
  refine J_icmp_ge (tgt := 62) dX8_isMapSoFar_30 rfl ?_ ?_
  · refine J_inl ?_
    refine J_sub [0, 1, 2, 3, 4] rfl ?_
    exact j_X8_isMapSoFar_b62 D dA x0 x1 x2 x3 x4
  refine J_iload dX8_isMapSoFar_33 4 rfl ?_
  refine J_if_eq (tgt := 53) dX8_isMapSoFar_35 rfl ?_ ?_
  · refine J_sub [0, 1, 2, 3, 5] rfl ?_
    exact j_X8_isMapSoFar_b53 D dA x0 x1 x2 x3 x5
  refine J_aload_n dX8_isMapSoFar_38 rfl 0 rfl ?_
  refine J_iload_n dX8_isMapSoFar_39 rfl 2 rfl ?_
  refine J_iload_n dX8_isMapSoFar_40 rfl 3 rfl ?_
  refine J_iload dX8_isMapSoFar_41 5 rfl ?_
  refine J_callVI (c := 7) (as := [.int x2, .int x3, .int x5]) dX8_isMapSoFar_43 (by decide) rfl (Nat.le_of_ble_eq_true rfl) (cw_X8_sourceTable _ (by decide)) q2217 q2219 qs150 q2220 np_X8_sourceTable (i_X8_sourceTable x0 x2 x3 x5) jad_id rfl (fun v16 => ?_)
  refine J_if_ne (tgt := 53) dX8_isMapSoFar_46 rfl ?_ ?_
  · refine J_sub [0, 1, 2, 3, 5] rfl ?_
    exact j_X8_isMapSoFar_b53 D dA x0 x1 x2 x3 x5
  refine J_iconst (v := 1) dX8_isMapSoFar_49 (by decide) ?_
  refine J_goto (tgt := 54) dX8_isMapSoFar_50 rfl ?_
  refine J_sub [0, 1, 2, 3, 5] rfl ?_
  exact j_X8_isMapSoFar_b54 D dA x0 x1 x2 x3 x5 1
noncomputable def X8_isMapSoFar_L11 (x0 : Nat) (x1 : Int32) (x2 : Int32) (x3 : Int32) : JM Mem ((Int32 ⊕ (Int32)) ⊕ (Int32)) :=
  if x1 < x3 then
    jinl (X8_isMapSoFar_b179 x0 x1 x2)
  else
  jlet (x1 + 1) fun y2 =>
  jloop (fun (t : Int32 × Int32) => X8_isMapSoFar_L24 x0 x1 x2 x3 t.1 t.2) (1, y2)
theorem j_X8_isMapSoFar_L11 (D : va_G) (dA : Nat → ClassId) (x0 : Nat) (x1 : Int32) (x2 : Int32) (x3 : Int32) : J (PM D dA false) Y_X8_isMapSoFar [(0, .ref x0), (1, .int x1), (2, .int x2), (3, .int x3)] [] 11 (X8_isMapSoFar_L11 x0 x1 x2 x3) (FLoop (FLoop (FRet injI) 2 (fun (t : Int32) => [(0, .ref x0), (1, .int x1), (2, .int t)])) 11 (fun (t : Int32) => [(0, .ref x0), (1, .int x1), (2, .int x2), (3, .int t)])) := by
  unfold X8_isMapSoFar_L11
  refine J_iload_n dX8_isMapSoFar_11 rfl 3 rfl ?_
  refine J_iload_n dX8_isMapSoFar_12 rfl 1 rfl ?_
  refine J_icmp_gt (tgt := 179) dX8_isMapSoFar_13 rfl ?_ ?_
  · refine J_inl ?_
    refine J_sub [0, 1, 2] rfl ?_
    exact j_X8_isMapSoFar_b179 D dA x0 x1 x2
  refine J_iconst (v := 1) dX8_isMapSoFar_16 (by decide) ?_
  refine J_istore (env' := [(4, .int 1), (0, .ref x0), (1, .int x1), (2, .int x2), (3, .int x3)]) dX8_isMapSoFar_17 (by decide) rfl ?_
  refine J_iload_n dX8_isMapSoFar_19 rfl 2 rfl ?_
  refine J_iconst (v := 1) dX8_isMapSoFar_20 (by decide) ?_
  refine J_iadd dX8_isMapSoFar_21 ?_
  refine J_letI (fun y2 => ?_)
  refine J_istore (env' := [(5, .int y2), (4, .int 1), (0, .ref x0), (1, .int x1), (2, .int x2), (3, .int x3)]) dX8_isMapSoFar_22 (by decide) rfl ?_
  refine J_loop (he := fun (t : Int32 × Int32) => [(0, .ref x0), (1, .int x1), (2, .int x2), (3, .int x3), (4, .int t.1), (5, .int t.2)]) [2, 3, 4, 5, 1, 0] rfl (fun t => ?_)
  exact j_X8_isMapSoFar_L24 D dA x0 x1 x2 x3 t.1 t.2
noncomputable def X8_isMapSoFar_L2 (x0 : Nat) (x1 : Int32) (x2 : Int32) : JM Mem (Int32 ⊕ (Int32)) :=
  if x1 < x2 then
    jinl (jp 1)
  else
  jlet (x2 + 1) fun y1 =>
  jloop (fun (t : Int32) => X8_isMapSoFar_L11 x0 x1 x2 t) y1
theorem j_X8_isMapSoFar_L2 (D : va_G) (dA : Nat → ClassId) (x0 : Nat) (x1 : Int32) (x2 : Int32) : J (PM D dA false) Y_X8_isMapSoFar [(0, .ref x0), (1, .int x1), (2, .int x2)] [] 2 (X8_isMapSoFar_L2 x0 x1 x2) (FLoop (FRet injI) 2 (fun (t : Int32) => [(0, .ref x0), (1, .int x1), (2, .int t)])) := by
  unfold X8_isMapSoFar_L2
  refine J_iload_n dX8_isMapSoFar_2 rfl 2 rfl ?_
  refine J_iload_n dX8_isMapSoFar_3 rfl 1 rfl ?_
  refine J_icmp_gt (tgt := 185) dX8_isMapSoFar_4 rfl ?_ ?_
  · refine J_inl ?_
    refine J_iconst (v := 1) dX8_isMapSoFar_185 (by decide) ?_
    exact J_zreturn1 dX8_isMapSoFar_186 rfl
  refine J_iload_n dX8_isMapSoFar_7 rfl 2 rfl ?_
  refine J_iconst (v := 1) dX8_isMapSoFar_8 (by decide) ?_
  refine J_iadd dX8_isMapSoFar_9 ?_
  refine J_letI (fun y1 => ?_)
  refine J_istore_n (env' := [(3, .int y1), (0, .ref x0), (1, .int x1), (2, .int x2)]) dX8_isMapSoFar_10 rfl (by decide) rfl ?_
  refine J_loop (he := fun (t : Int32) => [(0, .ref x0), (1, .int x1), (2, .int x2), (3, .int t)]) [1, 2, 3, 0] rfl (fun t => ?_)
  exact j_X8_isMapSoFar_L11 D dA x0 x1 x2 t
noncomputable def f_X8_isMapSoFar (x0 : Nat) (x1 : Int32) : JM Mem Int32 :=
  jloop (fun (t : Int32) => X8_isMapSoFar_L2 x0 x1 t) 0
theorem j_X8_isMapSoFar (D : va_G) (dA : Nat → ClassId) (x0 : Nat) (x1 : Int32) : J (PM D dA false) Y_X8_isMapSoFar [(0, .ref x0), (1, .int x1)] [] 0 (f_X8_isMapSoFar x0 x1) (FRet injI) := by
  unfold f_X8_isMapSoFar
  refine J_iconst (v := 0) dX8_isMapSoFar_0 (by decide) ?_
  refine J_istore_n (env' := [(2, .int 0), (0, .ref x0), (1, .int x1)]) dX8_isMapSoFar_1 rfl (by decide) rfl ?_
  refine J_loop (he := fun (t : Int32) => [(0, .ref x0), (1, .int x1), (2, .int t)]) [1, 2, 0] rfl (fun t => ?_)
  exact j_X8_isMapSoFar_L2 D dA x0 x1 t
theorem i_X8_isMapSoFar (x0 : Nat) (x1 : Int32) : Impl (ws_ yX8_isMapSoFar cX8_isMapSoFar 8 (some .boolean)) yX8_isMapSoFar 4 false 0 0 [.ref x0, .int x1] (f_X8_isMapSoFar x0 x1) injI := impl_of (plainFor_of_name (by decide)) (Nat.le_of_ble_eq_true rfl) (fun D dA => j_X8_isMapSoFar D dA x0 x1)
theorem cw_X8_isMapSoFar (Y : JY) (h : 5 ≤ Y.2.2.2.1) : JCw Y (ws_ yX8_isMapSoFar cX8_isMapSoFar 8 (some .boolean)) yX8_isMapSoFar cX8_isMapSoFar 8 (some .boolean) 4 := ⟨h, by decide, lw_meth q2216, q198, by decide, by decide⟩
theorem np_X8_isMapSoFar : JNp yX8_isMapSoFar.desc 1 := by decide +kernel
-- BracketRoomModel.goMaps(I)V
abbrev Y_X8_goMaps (dd : Nat) : JY := (cX8_goMaps, yX8_goMaps.cls, 5, dd + 1, yX8_goMaps.name, none, [])
theorem np_X8_goMaps : JNp yX8_goMaps.desc 1 := by decide +kernel
noncomputable def X8_goMaps_b227 (r_goMaps : Nat → Int32 → JM Mem Unit) (x0 : Nat) (x1 : Int32) (x2 : Int32) : JM Mem (Unit ⊕ (Int32)) :=
  jcont (x2 + 1)
theorem j_X8_goMaps_b227 (D : va_G) (dA : Nat → ClassId) (dd : Nat) (hdd : 5 ≤ dd) (r_goMaps : Nat → Int32 → JM Mem Unit) (h_goMaps : ∀ a0 a1, Impl (ws_ yX8_goMaps cX8_goMaps 5 none) yX8_goMaps dd false 0 0 [.ref a0, .int a1] (r_goMaps a0 a1) injU) (x0 : Nat) (x1 : Int32) (x2 : Int32) : J (PM D dA false) (Y_X8_goMaps dd) [(0, .ref x0), (1, .int x1), (2, .int x2)] [] 227 (X8_goMaps_b227 r_goMaps x0 x1 x2) (FLoop (FRet injU) 21 (fun (t : Int32) => [(0, .ref x0), (1, .int x1), (2, .int t)])) := by
  unfold X8_goMaps_b227
  refine J_iinc (v := x2 + 1) (env' := [(2, .int (x2 + 1)), (0, .ref x0), (1, .int x1)]) dX8_goMaps_227 2 rfl rfl (Nat.le_of_ble_eq_true rfl) rfl ?_
  refine J_goto (tgt := 21) dX8_goMaps_230 rfl ?_
  exact J_cont [1, 2, 0] rfl
noncomputable def X8_goMaps_b211 (r_goMaps : Nat → Int32 → JM Mem Unit) (x0 : Nat) (x1 : Int32) (x2 : Int32) (x3 : Int32) : JM Mem (Unit ⊕ (Int32)) :=
  jb (jgetA 7 42 x0) fun v17 =>
  jb (jast_i v17 (x1 + 1) x3) fun _ =>
  jb (jcall 7 x0 (r_goMaps x0 (x1 + 1))) fun _ =>
  X8_goMaps_b227 r_goMaps x0 x1 x2
theorem j_X8_goMaps_b211 (D : va_G) (dA : Nat → ClassId) (dd : Nat) (hdd : 5 ≤ dd) (r_goMaps : Nat → Int32 → JM Mem Unit) (h_goMaps : ∀ a0 a1, Impl (ws_ yX8_goMaps cX8_goMaps 5 none) yX8_goMaps dd false 0 0 [.ref a0, .int a1] (r_goMaps a0 a1) injU) (x0 : Nat) (x1 : Int32) (x2 : Int32) (x3 : Int32) : J (PM D dA false) (Y_X8_goMaps dd) [(0, .ref x0), (1, .int x1), (2, .int x2), (3, .int x3)] [] 211 (X8_goMaps_b211 r_goMaps x0 x1 x2 x3) (FLoop (FRet injU) 21 (fun (t : Int32) => [(0, .ref x0), (1, .int x1), (2, .int t)])) := by
  unfold X8_goMaps_b211
  refine J_aload_n dX8_goMaps_211 rfl 0 rfl ?_
  refine J_getA dX8_goMaps_212 fl_X8_86 rfl (fun v17 => ?_)
  refine J_iload_n dX8_goMaps_215 rfl 1 rfl ?_
  refine J_iconst (v := 1) dX8_goMaps_216 (by decide) ?_
  refine J_iadd dX8_goMaps_217 ?_
  refine J_iload_n dX8_goMaps_218 rfl 3 rfl ?_
  refine J_iast dX8_goMaps_219 ?_
  refine J_aload_n dX8_goMaps_220 rfl 0 rfl ?_
  refine J_iload_n dX8_goMaps_221 rfl 1 rfl ?_
  refine J_iconst (v := 1) dX8_goMaps_222 (by decide) ?_
  refine J_iadd dX8_goMaps_223 ?_
  refine J_callVV (c := 7) (as := [.int (x1 + 1)]) dX8_goMaps_224 (by decide) rfl (Nat.le_of_ble_eq_true rfl) ⟨Nat.le_refl _, by decide, lw_meth q2211, q198, by decide, by decide⟩ q2208 q2210 qs148 q2211 np_X8_goMaps (h_goMaps x0 (x1 + 1)) jad_id rfl ?_
  refine J_sub [0, 1, 2] rfl ?_
  exact j_X8_goMaps_b227 D dA dd hdd r_goMaps h_goMaps x0 x1 x2
noncomputable def X8_goMaps_L176 (r_goMaps : Nat → Int32 → JM Mem Unit) (x0 : Nat) (x1 : Int32) (x2 : Int32) (x3 : Int32) (x4 : Int32) : JM Mem ((Unit ⊕ (Int32)) ⊕ (Int32)) :=
  if 25 ≤ x4 then
    jinl (X8_goMaps_b211 r_goMaps x0 x1 x2 x3)
  else
  jb (jgetA 7 41 x0) fun v18 =>
  jb (jgetA 7 29 x0) fun v19 =>
  jb (jald mI 0 v19 x4) fun v20 =>
  jb (jast_i v18 (((25 * x1) + 25) + x4) v20) fun _ =>
  jcont (x4 + 1)
theorem j_X8_goMaps_L176 (D : va_G) (dA : Nat → ClassId) (dd : Nat) (hdd : 5 ≤ dd) (r_goMaps : Nat → Int32 → JM Mem Unit) (h_goMaps : ∀ a0 a1, Impl (ws_ yX8_goMaps cX8_goMaps 5 none) yX8_goMaps dd false 0 0 [.ref a0, .int a1] (r_goMaps a0 a1) injU) (x0 : Nat) (x1 : Int32) (x2 : Int32) (x3 : Int32) (x4 : Int32) : J (PM D dA false) (Y_X8_goMaps dd) [(0, .ref x0), (1, .int x1), (2, .int x2), (3, .int x3), (4, .int x4)] [] 176 (X8_goMaps_L176 r_goMaps x0 x1 x2 x3 x4) (FLoop (FLoop (FRet injU) 21 (fun (t : Int32) => [(0, .ref x0), (1, .int x1), (2, .int t)])) 176 (fun (t : Int32) => [(0, .ref x0), (1, .int x1), (2, .int x2), (3, .int x3), (4, .int t)])) := by
  unfold X8_goMaps_L176
  refine J_iload dX8_goMaps_176 4 rfl ?_
  refine J_bipush (v := 25) dX8_goMaps_178 (by decide) ?_
  refine J_icmp_ge (tgt := 211) dX8_goMaps_180 rfl ?_ ?_
  · refine J_inl ?_
    refine J_sub [0, 1, 2, 3] rfl ?_
    exact j_X8_goMaps_b211 D dA dd hdd r_goMaps h_goMaps x0 x1 x2 x3
  refine J_aload_n dX8_goMaps_183 rfl 0 rfl ?_
  refine J_getA dX8_goMaps_184 fl_X8_83 rfl (fun v18 => ?_)
  refine J_bipush (v := 25) dX8_goMaps_187 (by decide) ?_
  refine J_iload_n dX8_goMaps_189 rfl 1 rfl ?_
  refine J_imul dX8_goMaps_190 ?_
  refine J_bipush (v := 25) dX8_goMaps_191 (by decide) ?_
  refine J_iadd dX8_goMaps_193 ?_
  refine J_iload dX8_goMaps_194 4 rfl ?_
  refine J_iadd dX8_goMaps_196 ?_
  refine J_aload_n dX8_goMaps_197 rfl 0 rfl ?_
  refine J_getA dX8_goMaps_198 fl_X8_50 rfl (fun v19 => ?_)
  refine J_iload dX8_goMaps_201 4 rfl ?_
  refine J_iald dX8_goMaps_203 (fun v20 => ?_)
  refine J_iast dX8_goMaps_204 ?_
  refine J_iinc (v := x4 + 1) (env' := [(4, .int (x4 + 1)), (0, .ref x0), (1, .int x1), (2, .int x2), (3, .int x3)]) dX8_goMaps_205 4 rfl rfl (Nat.le_of_ble_eq_true rfl) rfl ?_
  refine J_goto (tgt := 176) dX8_goMaps_208 rfl ?_
  exact J_cont [1, 2, 3, 4, 0] rfl
noncomputable def X8_goMaps_b120 (r_goMaps : Nat → Int32 → JM Mem Unit) (x0 : Nat) (x1 : Int32) (x2 : Int32) : JM Mem (Unit ⊕ (Int32)) :=
  jb (jgetA 7 29 x0) fun v8 =>
  jb (jgetA 7 42 x0) fun v9 =>
  jb (jald mI 0 v9 x1) fun v10 =>
  jb (jgetA 7 40 x0) fun v11 =>
  jb (jcall 7 x0 (f_X8_join x0 v8 v10 v11 (5 * x1))) fun v12 =>
  jb (jgetA 7 42 x0) fun v13 =>
  jb (jald mI 0 v13 x1) fun v14 =>
  if v12 = v14 then
    X8_goMaps_b227 r_goMaps x0 x1 x2
  else
  jb (jcall 7 x0 (f_X8_isMapSoFar x0 x1)) fun v15 =>
  if v15 = 0 then
    X8_goMaps_b227 r_goMaps x0 x1 x2
  else
  jb (jgetI 7 27 x0) fun v16 =>
  if v16 ≤ x1 + 1 then
    X8_goMaps_b211 r_goMaps x0 x1 x2 v12
  else
    jloop (fun (t : Int32) => X8_goMaps_L176 r_goMaps x0 x1 x2 v12 t) 0
theorem j_X8_goMaps_b120 (D : va_G) (dA : Nat → ClassId) (dd : Nat) (hdd : 5 ≤ dd) (r_goMaps : Nat → Int32 → JM Mem Unit) (h_goMaps : ∀ a0 a1, Impl (ws_ yX8_goMaps cX8_goMaps 5 none) yX8_goMaps dd false 0 0 [.ref a0, .int a1] (r_goMaps a0 a1) injU) (x0 : Nat) (x1 : Int32) (x2 : Int32) : J (PM D dA false) (Y_X8_goMaps dd) [(0, .ref x0), (1, .int x1), (2, .int x2)] [] 120 (X8_goMaps_b120 r_goMaps x0 x1 x2) (FLoop (FRet injU) 21 (fun (t : Int32) => [(0, .ref x0), (1, .int x1), (2, .int t)])) := by
  unfold X8_goMaps_b120
  refine J_aload_n dX8_goMaps_120 rfl 0 rfl ?_
  refine J_aload_n dX8_goMaps_121 rfl 0 rfl ?_
  refine J_getA dX8_goMaps_122 fl_X8_50 rfl (fun v8 => ?_)
  refine J_aload_n dX8_goMaps_125 rfl 0 rfl ?_
  refine J_getA dX8_goMaps_126 fl_X8_86 rfl (fun v9 => ?_)
  refine J_iload_n dX8_goMaps_129 rfl 1 rfl ?_
  refine J_iald dX8_goMaps_130 (fun v10 => ?_)
  refine J_aload_n dX8_goMaps_131 rfl 0 rfl ?_
  refine J_getA dX8_goMaps_132 fl_X8_80 rfl (fun v11 => ?_)
  refine J_iconst (v := 5) dX8_goMaps_135 (by decide) ?_
  refine J_iload_n dX8_goMaps_136 rfl 1 rfl ?_
  refine J_imul dX8_goMaps_137 ?_
  refine J_callVI (c := 7) (as := [.ref v8, .int v10, .ref v11, .int (5 * x1)]) dX8_goMaps_138 (by decide) rfl (Nat.le_of_ble_eq_true rfl) (cw_X8_join _ (Nat.succ_le_succ (Nat.le_trans (by decide) hdd))) q1984 q1986 qs109 q1987 np_X8_join (i_X8_join x0 v8 v10 v11 (5 * x1)) jad_id rfl (fun v12 => ?_)
  refine J_istore_n (env' := [(3, .int v12), (0, .ref x0), (1, .int x1), (2, .int x2)]) dX8_goMaps_141 rfl (Nat.le_of_ble_eq_true rfl) rfl ?_
  refine J_iload_n dX8_goMaps_142 rfl 0 rfl ?_
  refine J_aload_n dX8_goMaps_143 rfl 1 rfl ?_
  refine J_getA dX8_goMaps_144 fl_X8_86 rfl (fun v13 => ?_)
  refine J_iload_n dX8_goMaps_147 rfl 2 rfl ?_
  refine J_iald dX8_goMaps_148 (fun v14 => ?_)
  refine J_icmp_eq (tgt := 227) dX8_goMaps_149 rfl ?_ ?_
  · refine J_sub [1, 2, 3] rfl ?_
    exact j_X8_goMaps_b227 D dA dd hdd r_goMaps h_goMaps x0 x1 x2
  refine J_aload_n dX8_goMaps_152 rfl 1 rfl ?_
  refine J_iload_n dX8_goMaps_153 rfl 2 rfl ?_
  refine J_callVI (c := 7) (as := [.int x1]) dX8_goMaps_154 (by decide) rfl (Nat.le_of_ble_eq_true rfl) (cw_X8_isMapSoFar _ (Nat.succ_le_succ (Nat.le_trans (by decide) hdd))) q2213 q2215 qs149 q2216 np_X8_isMapSoFar (i_X8_isMapSoFar x0 x1) jad_id rfl (fun v15 => ?_)
  refine J_if_ne (tgt := 163) dX8_goMaps_157 rfl ?_ ?_
  · refine J_iload_n dX8_goMaps_163 rfl 2 rfl ?_
    refine J_iconst (v := 1) dX8_goMaps_164 (by decide) ?_
    refine J_iadd dX8_goMaps_165 ?_
    refine J_aload_n dX8_goMaps_166 rfl 1 rfl ?_
    refine J_getI dX8_goMaps_167 fl_X8_253 rfl (fun v16 => ?_)
    refine J_icmp_ge (tgt := 211) dX8_goMaps_170 rfl ?_ ?_
    · refine J_sub [1, 2, 3, 0] rfl ?_
      exact j_X8_goMaps_b211 D dA dd hdd r_goMaps h_goMaps x0 x1 x2 v12
    refine J_iconst (v := 0) dX8_goMaps_173 (by decide) ?_
    refine J_istore (env' := [(4, .int 0), (3, .int v12), (0, .ref x0), (1, .int x1), (2, .int x2)]) dX8_goMaps_174 (Nat.le_of_ble_eq_true rfl) rfl ?_
    refine J_loop (he := fun (t : Int32) => [(0, .ref x0), (1, .int x1), (2, .int x2), (3, .int v12), (4, .int t)]) [2, 3, 4, 1, 0] rfl (fun t => ?_)
    exact j_X8_goMaps_L176 D dA dd hdd r_goMaps h_goMaps x0 x1 x2 v12 t
  refine J_goto (tgt := 227) dX8_goMaps_160 rfl ?_
  refine J_sub [1, 2, 3] rfl ?_
  exact j_X8_goMaps_b227 D dA dd hdd r_goMaps h_goMaps x0 x1 x2
noncomputable def X8_goMaps_L91 (r_goMaps : Nat → Int32 → JM Mem Unit) (x0 : Nat) (x1 : Int32) (x2 : Int32) (x3 : Int32) : JM Mem ((Unit ⊕ (Int32)) ⊕ (Int32)) :=
  if 25 ≤ x3 then
    jinl (X8_goMaps_b120 r_goMaps x0 x1 x2)
  else
  jb (jgetA 7 29 x0) fun v21 =>
  jb (jgetA 7 41 x0) fun v22 =>
  jb (jald mI 0 v22 ((25 * x1) + x3)) fun v23 =>
  jb (jast_i v21 x3 v23) fun _ =>
  jcont (x3 + 1)
theorem j_X8_goMaps_L91 (D : va_G) (dA : Nat → ClassId) (dd : Nat) (hdd : 5 ≤ dd) (r_goMaps : Nat → Int32 → JM Mem Unit) (h_goMaps : ∀ a0 a1, Impl (ws_ yX8_goMaps cX8_goMaps 5 none) yX8_goMaps dd false 0 0 [.ref a0, .int a1] (r_goMaps a0 a1) injU) (x0 : Nat) (x1 : Int32) (x2 : Int32) (x3 : Int32) : J (PM D dA false) (Y_X8_goMaps dd) [(0, .ref x0), (1, .int x1), (2, .int x2), (3, .int x3)] [] 91 (X8_goMaps_L91 r_goMaps x0 x1 x2 x3) (FLoop (FLoop (FRet injU) 21 (fun (t : Int32) => [(0, .ref x0), (1, .int x1), (2, .int t)])) 91 (fun (t : Int32) => [(0, .ref x0), (1, .int x1), (2, .int x2), (3, .int t)])) := by
  unfold X8_goMaps_L91
  refine J_iload_n dX8_goMaps_91 rfl 3 rfl ?_
  refine J_bipush (v := 25) dX8_goMaps_92 (by decide) ?_
  refine J_icmp_ge (tgt := 120) dX8_goMaps_94 rfl ?_ ?_
  · refine J_inl ?_
    refine J_sub [0, 1, 2] rfl ?_
    exact j_X8_goMaps_b120 D dA dd hdd r_goMaps h_goMaps x0 x1 x2
  refine J_aload_n dX8_goMaps_97 rfl 0 rfl ?_
  refine J_getA dX8_goMaps_98 fl_X8_50 rfl (fun v21 => ?_)
  refine J_iload_n dX8_goMaps_101 rfl 3 rfl ?_
  refine J_aload_n dX8_goMaps_102 rfl 0 rfl ?_
  refine J_getA dX8_goMaps_103 fl_X8_83 rfl (fun v22 => ?_)
  refine J_bipush (v := 25) dX8_goMaps_106 (by decide) ?_
  refine J_iload_n dX8_goMaps_108 rfl 1 rfl ?_
  refine J_imul dX8_goMaps_109 ?_
  refine J_iload_n dX8_goMaps_110 rfl 3 rfl ?_
  refine J_iadd dX8_goMaps_111 ?_
  refine J_iald dX8_goMaps_112 (fun v23 => ?_)
  refine J_iast dX8_goMaps_113 ?_
  refine J_iinc (v := x3 + 1) (env' := [(3, .int (x3 + 1)), (0, .ref x0), (1, .int x1), (2, .int x2)]) dX8_goMaps_114 3 rfl rfl (Nat.le_of_ble_eq_true rfl) rfl ?_
  refine J_goto (tgt := 91) dX8_goMaps_117 rfl ?_
  exact J_cont [1, 2, 3, 0] rfl
noncomputable def X8_goMaps_b61 (r_goMaps : Nat → Int32 → JM Mem Unit) (x0 : Nat) : JM Mem Unit :=
  jb (jputZ 7 46 x0 1) fun _ =>
  jp ()
theorem j_X8_goMaps_b61 (D : va_G) (dA : Nat → ClassId) (dd : Nat) (hdd : 5 ≤ dd) (r_goMaps : Nat → Int32 → JM Mem Unit) (h_goMaps : ∀ a0 a1, Impl (ws_ yX8_goMaps cX8_goMaps 5 none) yX8_goMaps dd false 0 0 [.ref a0, .int a1] (r_goMaps a0 a1) injU) (x0 : Nat) : J (PM D dA false) (Y_X8_goMaps dd) [(0, .ref x0)] [] 61 (X8_goMaps_b61 r_goMaps x0) (FRet injU) := by
  unfold X8_goMaps_b61
  refine J_aload_n dX8_goMaps_61 rfl 0 rfl ?_
  refine J_iconst (v := 1) dX8_goMaps_62 (by decide) ?_
  refine J_putZ dX8_goMaps_63 ⟨fl_X8_548, Or.inl rfl⟩ rfl ?_
  exact J_return dX8_goMaps_66 rfl
noncomputable def X8_goMaps_b51 (r_goMaps : Nat → Int32 → JM Mem Unit) (x0 : Nat) (x1 : Int32) (x2 : Int32) : JM Mem (Unit ⊕ (Int32)) :=
  jb (jgetI 7 43 x0) fun v5 =>
  if v5 = 200000 then
    jinl (X8_goMaps_b61 r_goMaps x0)
  else
  jb (jgetI 7 43 x0) fun v6 =>
  jb (jputI 7 43 x0 (v6 + 1)) fun _ =>
  jb (jgetA 7 40 x0) fun v7 =>
  jb (jcall 7 x0 (f_X8_parts2 x0 x2 v7 (5 * x1))) fun _ =>
  jloop (fun (t : Int32) => X8_goMaps_L91 r_goMaps x0 x1 x2 t) 0
theorem j_X8_goMaps_b51 (D : va_G) (dA : Nat → ClassId) (dd : Nat) (hdd : 5 ≤ dd) (r_goMaps : Nat → Int32 → JM Mem Unit) (h_goMaps : ∀ a0 a1, Impl (ws_ yX8_goMaps cX8_goMaps 5 none) yX8_goMaps dd false 0 0 [.ref a0, .int a1] (r_goMaps a0 a1) injU) (x0 : Nat) (x1 : Int32) (x2 : Int32) : J (PM D dA false) (Y_X8_goMaps dd) [(0, .ref x0), (1, .int x1), (2, .int x2)] [] 51 (X8_goMaps_b51 r_goMaps x0 x1 x2) (FLoop (FRet injU) 21 (fun (t : Int32) => [(0, .ref x0), (1, .int x1), (2, .int t)])) := by
  unfold X8_goMaps_b51
  refine J_aload_n dX8_goMaps_51 rfl 0 rfl ?_
  refine J_getI dX8_goMaps_52 fl_X8_555 rfl (fun v5 => ?_)
  refine J_ldcw dX8_goMaps_55 q2212 ?_
  refine J_icmp_ne (tgt := 67) dX8_goMaps_58 rfl ?_ ?_
  · refine J_aload_n dX8_goMaps_67 rfl 0 rfl ?_
    refine J_dup dX8_goMaps_68 rfl ?_
    refine J_getI dX8_goMaps_69 fl_X8_555 rfl (fun v6 => ?_)
    refine J_iconst (v := 1) dX8_goMaps_72 (by decide) ?_
    refine J_iadd dX8_goMaps_73 ?_
    refine J_putI dX8_goMaps_74 ⟨fl_X8_555, Or.inl rfl⟩ rfl ?_
    refine J_aload_n dX8_goMaps_77 rfl 0 rfl ?_
    refine J_iload_n dX8_goMaps_78 rfl 2 rfl ?_
    refine J_aload_n dX8_goMaps_79 rfl 0 rfl ?_
    refine J_getA dX8_goMaps_80 fl_X8_80 rfl (fun v7 => ?_)
    refine J_iconst (v := 5) dX8_goMaps_83 (by decide) ?_
    refine J_iload_n dX8_goMaps_84 rfl 1 rfl ?_
    refine J_imul dX8_goMaps_85 ?_
    refine J_callVV (c := 7) (as := [.int x2, .ref v7, .int (5 * x1)]) dX8_goMaps_86 (by decide) rfl (Nat.le_of_ble_eq_true rfl) (cw_X8_parts2 _ (Nat.succ_le_succ (Nat.le_trans (by decide) hdd))) q1907 q1909 qs96 q1910 np_X8_parts2 (i_X8_parts2 x0 x2 v7 (5 * x1)) jad_id rfl ?_
    refine J_iconst (v := 0) dX8_goMaps_89 (by decide) ?_
    refine J_istore_n (env' := [(3, .int 0), (0, .ref x0), (1, .int x1), (2, .int x2)]) dX8_goMaps_90 rfl (Nat.le_of_ble_eq_true rfl) rfl ?_
    refine J_loop (he := fun (t : Int32) => [(0, .ref x0), (1, .int x1), (2, .int x2), (3, .int t)]) [1, 2, 3, 0] rfl (fun t => ?_)
    exact j_X8_goMaps_L91 D dA dd hdd r_goMaps h_goMaps x0 x1 x2 t
  refine J_inl ?_
  refine J_sub [0] rfl ?_
  exact j_X8_goMaps_b61 D dA dd hdd r_goMaps h_goMaps x0
noncomputable def X8_goMaps_L21 (r_goMaps : Nat → Int32 → JM Mem Unit) (x0 : Nat) (x1 : Int32) (x2 : Int32) : JM Mem (Unit ⊕ (Int32)) :=
  jb (jcall 7 x0 (f_X8_vectors x0)) fun v2 =>
  if v2 ≤ x2 then
    jinl (jp ())
  else
  jb (jgetI 7 46 x0) fun v3 =>
  if v3 = 0 then
    jb (jgetI 7 47 x0) fun v4 =>
    if v4 = 0 then
      X8_goMaps_b51 r_goMaps x0 x1 x2
    else
    jb (jgetI 7 45 x0) fun v24 =>
    if v24 ≤ 0 then
      X8_goMaps_b51 r_goMaps x0 x1 x2
    else
      jinl (jp ())
  else
    jinl (jp ())
theorem j_X8_goMaps_L21 (D : va_G) (dA : Nat → ClassId) (dd : Nat) (hdd : 5 ≤ dd) (r_goMaps : Nat → Int32 → JM Mem Unit) (h_goMaps : ∀ a0 a1, Impl (ws_ yX8_goMaps cX8_goMaps 5 none) yX8_goMaps dd false 0 0 [.ref a0, .int a1] (r_goMaps a0 a1) injU) (x0 : Nat) (x1 : Int32) (x2 : Int32) : J (PM D dA false) (Y_X8_goMaps dd) [(0, .ref x0), (1, .int x1), (2, .int x2)] [] 21 (X8_goMaps_L21 r_goMaps x0 x1 x2) (FLoop (FRet injU) 21 (fun (t : Int32) => [(0, .ref x0), (1, .int x1), (2, .int t)])) := by
  unfold X8_goMaps_L21
  refine J_iload_n dX8_goMaps_21 rfl 2 rfl ?_
  refine J_aload_n dX8_goMaps_22 rfl 0 rfl ?_
  refine J_callVI (c := 7) (as := []) dX8_goMaps_23 (by decide) rfl (Nat.le_of_ble_eq_true rfl) (cw_X8_vectors _ (Nat.succ_le_succ (Nat.le_trans (by decide) hdd))) q1899 q1901 qs94 q1902 np_X8_vectors (i_X8_vectors x0) jad_id rfl (fun v2 => ?_)
  refine J_icmp_ge (tgt := 233) dX8_goMaps_26 rfl ?_ ?_
  · refine J_inl ?_
    exact J_return dX8_goMaps_233 rfl
  refine J_aload_n dX8_goMaps_29 rfl 0 rfl ?_
  refine J_getI dX8_goMaps_30 fl_X8_548 rfl (fun v3 => ?_)
  refine J_if_ne (tgt := 50) dX8_goMaps_33 rfl ?_ ?_
  · refine J_inl ?_
    exact J_return dX8_goMaps_50 rfl
  refine J_aload_n dX8_goMaps_36 rfl 0 rfl ?_
  refine J_getI dX8_goMaps_37 fl_X8_552 rfl (fun v4 => ?_)
  refine J_if_eq (tgt := 51) dX8_goMaps_40 rfl ?_ ?_
  · refine J_sub [0, 1, 2] rfl ?_
    exact j_X8_goMaps_b51 D dA dd hdd r_goMaps h_goMaps x0 x1 x2
  refine J_aload_n dX8_goMaps_43 rfl 0 rfl ?_
  refine J_getI dX8_goMaps_44 fl_X8_545 rfl (fun v24 => ?_)
  refine J_if_le (tgt := 51) dX8_goMaps_47 rfl ?_ ?_
  · refine J_sub [0, 1, 2] rfl ?_
    exact j_X8_goMaps_b51 D dA dd hdd r_goMaps h_goMaps x0 x1 x2
  refine J_inl ?_
  exact J_return dX8_goMaps_50 rfl
noncomputable def e_X8_goMaps (r_goMaps : Nat → Int32 → JM Mem Unit) (x0 : Nat) (x1 : Int32) : JM Mem Unit :=
  jb (jgetI 7 27 x0) fun v1 =>
  if x1 = v1 then
    jb (jgetI 7 45 x0) fun v25 =>
    jb (jputI 7 45 x0 (v25 + 1)) fun _ =>
    jp ()
  else
    jloop (fun (t : Int32) => X8_goMaps_L21 r_goMaps x0 x1 t) 1
theorem j_X8_goMaps (D : va_G) (dA : Nat → ClassId) (dd : Nat) (hdd : 5 ≤ dd) (r_goMaps : Nat → Int32 → JM Mem Unit) (h_goMaps : ∀ a0 a1, Impl (ws_ yX8_goMaps cX8_goMaps 5 none) yX8_goMaps dd false 0 0 [.ref a0, .int a1] (r_goMaps a0 a1) injU) (x0 : Nat) (x1 : Int32) : J (PM D dA false) (Y_X8_goMaps dd) [(0, .ref x0), (1, .int x1)] [] 0 (e_X8_goMaps r_goMaps x0 x1) (FRet injU) := by
  unfold e_X8_goMaps
  refine J_iload_n dX8_goMaps_0 rfl 1 rfl ?_
  refine J_aload_n dX8_goMaps_1 rfl 0 rfl ?_
  refine J_getI dX8_goMaps_2 fl_X8_253 rfl (fun v1 => ?_)
  refine J_icmp_ne (tgt := 19) dX8_goMaps_5 rfl ?_ ?_
  · refine J_iconst (v := 1) dX8_goMaps_19 (by decide) ?_
    refine J_istore_n (env' := [(2, .int 1), (0, .ref x0), (1, .int x1)]) dX8_goMaps_20 rfl (Nat.le_of_ble_eq_true rfl) rfl ?_
    refine J_loop (he := fun (t : Int32) => [(0, .ref x0), (1, .int x1), (2, .int t)]) [1, 2, 0] rfl (fun t => ?_)
    exact j_X8_goMaps_L21 D dA dd hdd r_goMaps h_goMaps x0 x1 t
  refine J_aload_n dX8_goMaps_8 rfl 0 rfl ?_
  refine J_dup dX8_goMaps_9 rfl ?_
  refine J_getI dX8_goMaps_10 fl_X8_545 rfl (fun v25 => ?_)
  refine J_iconst (v := 1) dX8_goMaps_13 (by decide) ?_
  refine J_iadd dX8_goMaps_14 ?_
  refine J_putI dX8_goMaps_15 ⟨fl_X8_545, Or.inl rfl⟩ rfl ?_
  exact J_return dX8_goMaps_18 rfl
noncomputable def f_X8_goMaps : Nat → Nat → Int32 → JM Mem Unit
  | 0 => fun _ _ => jfail
  | n + 1 => fun x0 x1 => e_X8_goMaps (f_X8_goMaps n) x0 x1
theorem i_X8_goMaps (n : Nat) : ∀ (x0 : Nat) (x1 : Int32), Impl (ws_ yX8_goMaps cX8_goMaps 5 none) yX8_goMaps (5 + n) false 0 0 [.ref x0, .int x1] (f_X8_goMaps n x0 x1) injU := by
  induction n with
  | zero => intro x0 x1 l D dA M r M' hst hb hf; cases hf
  | succ n ih => intro x0 x1; exact impl_of (plainFor_of_name (by decide)) (Nat.le_of_ble_eq_true rfl) (fun D dA => j_X8_goMaps D dA (5 + n) (Nat.le_add_right _ _) (f_X8_goMaps n) ih x0 x1)
theorem cw_X8_goMaps (Y : JY) (h : 14 ≤ Y.2.2.2.1) : JCw Y (ws_ yX8_goMaps cX8_goMaps 5 none) yX8_goMaps cX8_goMaps 5 none (5 + 8) := ⟨h, by decide, lw_meth q2211, q198, by decide, by decide⟩
-- BracketRoomModel.findMaps([IIZ)V
abbrev Y_X8_findMaps : JY := (cX8_findMaps, yX8_findMaps.cls, 4, 14, yX8_findMaps.name, none, [])
noncomputable def f_X8_findMaps (x0 : Nat) (x1 : Nat) (x2 : Int32) (x3 : Int32) : JM Mem Unit :=
  jb (jputO 7 64 x0 (some x1)) fun _ =>
  jb (jputI 7 65 x0 x2) fun _ =>
  jb (jputZ 7 47 x0 x3) fun _ =>
  jb (jputI 7 45 x0 0) fun _ =>
  jb (jputI 7 43 x0 0) fun _ =>
  jb (jputZ 7 46 x0 0) fun _ =>
  jb (jgetA 7 42 x0) fun v1 =>
  jb (jast_i v1 0 0) fun _ =>
  jb (jcall 7 x0 (f_X8_goMaps 8 x0 0)) fun _ =>
  jp ()
theorem j_X8_findMaps (D : va_G) (dA : Nat → ClassId) (x0 : Nat) (x1 : Nat) (x2 : Int32) (x3 : Int32) : J (PM D dA false) Y_X8_findMaps [(0, .ref x0), (1, .ref x1), (2, .int x2), (3, .int x3)] [] 0 (f_X8_findMaps x0 x1 x2 x3) (FRet injU) := by
  unfold f_X8_findMaps
  refine J_aload_n dX8_findMaps_0 rfl 0 rfl ?_
  refine J_aload_n dX8_findMaps_1 rfl 1 rfl ?_
  refine J_putO (x := (some x1)) dX8_findMaps_2 ⟨fl_X8_536, Or.inl rfl⟩ rfl ?_
  refine J_aload_n dX8_findMaps_5 rfl 0 rfl ?_
  refine J_iload_n dX8_findMaps_6 rfl 2 rfl ?_
  refine J_putI dX8_findMaps_7 ⟨fl_X8_539, Or.inl rfl⟩ rfl ?_
  refine J_aload_n dX8_findMaps_10 rfl 0 rfl ?_
  refine J_iload_n dX8_findMaps_11 rfl 3 rfl ?_
  refine J_putZ dX8_findMaps_12 ⟨fl_X8_552, Or.inl rfl⟩ rfl ?_
  refine J_aload_n dX8_findMaps_15 rfl 0 rfl ?_
  refine J_iconst (v := 0) dX8_findMaps_16 (by decide) ?_
  refine J_putI dX8_findMaps_17 ⟨fl_X8_545, Or.inl rfl⟩ rfl ?_
  refine J_aload_n dX8_findMaps_20 rfl 0 rfl ?_
  refine J_iconst (v := 0) dX8_findMaps_21 (by decide) ?_
  refine J_putI dX8_findMaps_22 ⟨fl_X8_555, Or.inl rfl⟩ rfl ?_
  refine J_aload_n dX8_findMaps_25 rfl 0 rfl ?_
  refine J_iconst (v := 0) dX8_findMaps_26 (by decide) ?_
  refine J_putZ dX8_findMaps_27 ⟨fl_X8_548, Or.inl rfl⟩ rfl ?_
  refine J_aload_n dX8_findMaps_30 rfl 0 rfl ?_
  refine J_getA dX8_findMaps_31 fl_X8_86 rfl (fun v1 => ?_)
  refine J_iconst (v := 0) dX8_findMaps_34 (by decide) ?_
  refine J_iconst (v := 0) dX8_findMaps_35 (by decide) ?_
  refine J_iast dX8_findMaps_36 ?_
  refine J_aload_n dX8_findMaps_37 rfl 0 rfl ?_
  refine J_iconst (v := 0) dX8_findMaps_38 (by decide) ?_
  refine J_callVV (c := 7) (as := [.int 0]) dX8_findMaps_39 (by decide) rfl (Nat.le_of_ble_eq_true rfl) (cw_X8_goMaps _ (by decide)) q2208 q2210 qs148 q2211 np_X8_goMaps (i_X8_goMaps 8 x0 0) jad_id rfl ?_
  exact J_return dX8_findMaps_42 rfl
theorem i_X8_findMaps (x0 : Nat) (x1 : Nat) (x2 : Int32) (x3 : Int32) : Impl (ws_ yX8_findMaps cX8_findMaps 4 none) yX8_findMaps 14 false 0 0 [.ref x0, .ref x1, .int x2, .int x3] (f_X8_findMaps x0 x1 x2 x3) injU := impl_of (plainFor_of_name (by decide)) (Nat.le_of_ble_eq_true rfl) (fun D dA => j_X8_findMaps D dA x0 x1 x2 x3)
theorem cw_X8_findMaps (Y : JY) (h : 15 ≤ Y.2.2.2.1) : JCw Y (ws_ yX8_findMaps cX8_findMaps 4 none) yX8_findMaps cX8_findMaps 4 none 14 := ⟨h, by decide, lw_meth q2207, q198, by decide, by decide⟩
theorem np_X8_findMaps : JNp yX8_findMaps.desc 3 := by decide +kernel
-- BracketRoomModel.maps()I
abbrev Y_X8_maps : JY := (cX8_maps, yX8_maps.cls, 1, 15, yX8_maps.name, (some .int), [])
noncomputable def f_X8_maps (x0 : Nat) : JM Mem Int32 :=
  jb (jputI 7 1 x0 0) fun _ =>
  jb (jputI 7 0 x0 0) fun _ =>
  jb (jcall 7 x0 (f_X8_askNow x0)) fun _ =>
  jb (jgetA 7 19 x0) fun v1 =>
  jb (jcall 7 x0 (f_X8_findMaps x0 v1 0 0)) fun _ =>
  jb (jgetI 7 43 x0) fun v2 =>
  jb (jputI 7 44 x0 v2) fun _ =>
  jb (jgetI 7 46 x0) fun v3 =>
  if v3 = 0 then
    jb (jgetI 7 45 x0) fun v4 =>
    jp v4
  else
  jb (jcall 7 x0 (f_X8_refuse x0 9)) fun v5 =>
  jp v5
theorem j_X8_maps (D : va_G) (dA : Nat → ClassId) (x0 : Nat) : J (PM D dA false) Y_X8_maps [(0, .ref x0)] [] 0 (f_X8_maps x0) (FRet injI) := by
  unfold f_X8_maps
  refine J_aload_n dX8_maps_0 rfl 0 rfl ?_
  refine J_iconst (v := 0) dX8_maps_1 (by decide) ?_
  refine J_putI dX8_maps_2 ⟨fl_X8_132, Or.inl rfl⟩ rfl ?_
  refine J_aload_n dX8_maps_5 rfl 0 rfl ?_
  refine J_iconst (v := 0) dX8_maps_6 (by decide) ?_
  refine J_putI dX8_maps_7 ⟨fl_X8_135, Or.inl rfl⟩ rfl ?_
  refine J_aload_n dX8_maps_10 rfl 0 rfl ?_
  refine J_callVV (c := 7) (as := []) dX8_maps_11 (by decide) rfl (Nat.le_of_ble_eq_true rfl) (cw_X8_askNow _ (by decide)) q1862 q1864 qs88 q1865 np_X8_askNow (i_X8_askNow x0) jad_id rfl ?_
  refine J_aload_n dX8_maps_14 rfl 0 rfl ?_
  refine J_aload_n dX8_maps_15 rfl 0 rfl ?_
  refine J_getA dX8_maps_16 fl_X8_35 rfl (fun v1 => ?_)
  refine J_iconst (v := 0) dX8_maps_19 (by decide) ?_
  refine J_iconst (v := 0) dX8_maps_20 (by decide) ?_
  refine J_callVV (c := 7) (as := [.ref v1, .int 0, .int 0]) dX8_maps_21 (by decide) rfl (Nat.le_of_ble_eq_true rfl) (cw_X8_findMaps _ (by decide)) q2204 q2206 qs147 q2207 np_X8_findMaps (i_X8_findMaps x0 v1 0 0) jad_id rfl ?_
  refine J_aload_n dX8_maps_24 rfl 0 rfl ?_
  refine J_aload_n dX8_maps_25 rfl 0 rfl ?_
  refine J_getI dX8_maps_26 fl_X8_555 rfl (fun v2 => ?_)
  refine J_putI dX8_maps_29 ⟨fl_X8_89, Or.inl rfl⟩ rfl ?_
  refine J_aload_n dX8_maps_32 rfl 0 rfl ?_
  refine J_getI dX8_maps_33 fl_X8_548 rfl (fun v3 => ?_)
  refine J_if_eq (tgt := 48) dX8_maps_36 rfl ?_ ?_
  · refine J_aload_n dX8_maps_48 rfl 0 rfl ?_
    refine J_getI dX8_maps_49 fl_X8_545 rfl (fun v4 => ?_)
    exact J_ireturn dX8_maps_52 rfl
  refine J_aload_n dX8_maps_39 rfl 0 rfl ?_
  refine J_bipush (v := 9) dX8_maps_40 (by decide) ?_
  refine J_callVI (c := 7) (as := [.int 9]) dX8_maps_42 (by decide) rfl (Nat.le_of_ble_eq_true rfl) (cw_X8_refuse _ (by decide)) q1871 q1873 qs90 q1874 np_X8_refuse (i_X8_refuse x0 9) jad_id rfl (fun v5 => ?_)
  refine J_goto (tgt := 52) dX8_maps_45 rfl ?_
  exact J_ireturn dX8_maps_52 rfl
theorem i_X8_maps (x0 : Nat) : Impl (ws_ yX8_maps cX8_maps 1 (some .int)) yX8_maps 15 false 0 0 [.ref x0] (f_X8_maps x0) injI := impl_of (plainFor_of_name (by decide)) (Nat.le_of_ble_eq_true rfl) (fun D dA => j_X8_maps D dA x0)
theorem cw_X8_maps (Y : JY) (h : 16 ≤ Y.2.2.2.1) : JCw Y (ws_ yX8_maps cX8_maps 1 (some .int)) yX8_maps cX8_maps 1 (some .int) 15 := ⟨h, by decide, lw_meth q2203, q198, by decide, by decide⟩
theorem np_X8_maps : JNp yX8_maps.desc 0 := by decide +kernel
-- BracketRoomModel.isUnlike([II)Z
abbrev Y_X8_isUnlike : JY := (cX8_isUnlike, yX8_isUnlike.cls, 3, 1, yX8_isUnlike.name, (some .boolean), [])
noncomputable def X8_isUnlike_b26 : JM Mem Int32 :=
  jp 1
theorem j_X8_isUnlike_b26 (D : va_G) (dA : Nat → ClassId) : J (PM D dA false) Y_X8_isUnlike [] [] 26 (X8_isUnlike_b26) (FRet injI) := by
  unfold X8_isUnlike_b26
  refine J_iconst (v := 1) dX8_isUnlike_26 (by decide) ?_
  refine J_goto (tgt := 31) dX8_isUnlike_27 rfl ?_
  exact J_zreturn1 dX8_isUnlike_31 rfl
noncomputable def f_X8_isUnlike (x0 : Nat) (x1 : Nat) (x2 : Int32) : JM Mem Int32 :=
  jb (jald mI 0 x1 x2) fun v1 =>
  jb (jgetA 7 19 x0) fun v2 =>
  jb (jald mI 0 v2 0) fun v3 =>
  if v1 = v3 then
    jb (jald mI 0 x1 (x2 + 1)) fun v4 =>
    jb (jgetA 7 19 x0) fun v5 =>
    jb (jald mI 0 v5 1) fun v6 =>
    if v4 = v6 then
      jp 0
    else
      X8_isUnlike_b26
  else
    X8_isUnlike_b26
theorem j_X8_isUnlike (D : va_G) (dA : Nat → ClassId) (x0 : Nat) (x1 : Nat) (x2 : Int32) : J (PM D dA false) Y_X8_isUnlike [(0, .ref x0), (1, .ref x1), (2, .int x2)] [] 0 (f_X8_isUnlike x0 x1 x2) (FRet injI) := by
  unfold f_X8_isUnlike
  refine J_aload_n dX8_isUnlike_0 rfl 1 rfl ?_
  refine J_iload_n dX8_isUnlike_1 rfl 2 rfl ?_
  refine J_iald dX8_isUnlike_2 (fun v1 => ?_)
  refine J_aload_n dX8_isUnlike_3 rfl 0 rfl ?_
  refine J_getA dX8_isUnlike_4 fl_X8_35 rfl (fun v2 => ?_)
  refine J_iconst (v := 0) dX8_isUnlike_7 (by decide) ?_
  refine J_iald dX8_isUnlike_8 (fun v3 => ?_)
  refine J_icmp_ne (tgt := 26) dX8_isUnlike_9 rfl ?_ ?_
  · refine J_sub [] rfl ?_
    exact j_X8_isUnlike_b26 D dA
  refine J_aload_n dX8_isUnlike_12 rfl 1 rfl ?_
  refine J_iload_n dX8_isUnlike_13 rfl 2 rfl ?_
  refine J_iconst (v := 1) dX8_isUnlike_14 (by decide) ?_
  refine J_iadd dX8_isUnlike_15 ?_
  refine J_iald dX8_isUnlike_16 (fun v4 => ?_)
  refine J_aload_n dX8_isUnlike_17 rfl 0 rfl ?_
  refine J_getA dX8_isUnlike_18 fl_X8_35 rfl (fun v5 => ?_)
  refine J_iconst (v := 1) dX8_isUnlike_21 (by decide) ?_
  refine J_iald dX8_isUnlike_22 (fun v6 => ?_)
  refine J_icmp_eq (tgt := 30) dX8_isUnlike_23 rfl ?_ ?_
  · refine J_iconst (v := 0) dX8_isUnlike_30 (by decide) ?_
    exact J_zreturn0 dX8_isUnlike_31 rfl
  refine J_sub [] rfl ?_
  exact j_X8_isUnlike_b26 D dA
theorem i_X8_isUnlike (x0 : Nat) (x1 : Nat) (x2 : Int32) : Impl (ws_ yX8_isUnlike cX8_isUnlike 3 (some .boolean)) yX8_isUnlike 1 false 0 0 [.ref x0, .ref x1, .int x2] (f_X8_isUnlike x0 x1 x2) injI := impl_of (plainFor_of_name (by decide)) (Nat.le_of_ble_eq_true rfl) (fun D dA => j_X8_isUnlike D dA x0 x1 x2)
theorem cw_X8_isUnlike (Y : JY) (h : 2 ≤ Y.2.2.2.1) : JCw Y (ws_ yX8_isUnlike cX8_isUnlike 3 (some .boolean)) yX8_isUnlike cX8_isUnlike 3 (some .boolean) 1 := ⟨h, by decide, lw_meth q2232, q198, by decide, by decide⟩
theorem np_X8_isUnlike : JNp yX8_isUnlike.desc 2 := by decide +kernel
-- BracketRoomModel.same(I)I
abbrev Y_X8_same : JY := (cX8_same, yX8_same.cls, 2, 15, yX8_same.name, (some .int), [])
noncomputable def f_X8_same (x0 : Nat) (x1 : Int32) : JM Mem Int32 :=
  jb (jputI 7 43 x0 0) fun _ =>
  jb (jgetA 7 19 x0) fun v1 =>
  jb (jcall 7 x0 (f_X8_isUnlike x0 v1 (127 * (x1 + 1)))) fun v2 =>
  if v2 = 0 then
    jb (jgetA 7 19 x0) fun v3 =>
    jb (jcall 7 x0 (f_X8_ask x0 v3 (127 * (x1 + 1)))) fun _ =>
    jb (jgetA 7 19 x0) fun v4 =>
    jb (jcall 7 x0 (f_X8_findMaps x0 v4 0 1)) fun _ =>
    jb (jcall 7 x0 (f_X8_askNow x0)) fun _ =>
    jb (jgetI 7 45 x0) fun v5 =>
    if v5 ≤ 0 then
      jb (jgetI 7 46 x0) fun v6 =>
      if v6 = 0 then
        jp 0
      else
        jp 9
    else
      jp 1
  else
    jp 0
theorem j_X8_same (D : va_G) (dA : Nat → ClassId) (x0 : Nat) (x1 : Int32) : J (PM D dA false) Y_X8_same [(0, .ref x0), (1, .int x1)] [] 0 (f_X8_same x0 x1) (FRet injI) := by
  unfold f_X8_same
  refine J_aload_n dX8_same_0 rfl 0 rfl ?_
  refine J_iconst (v := 0) dX8_same_1 (by decide) ?_
  refine J_putI dX8_same_2 ⟨fl_X8_555, Or.inl rfl⟩ rfl ?_
  refine J_aload_n dX8_same_5 rfl 0 rfl ?_
  refine J_aload_n dX8_same_6 rfl 0 rfl ?_
  refine J_getA dX8_same_7 fl_X8_35 rfl (fun v1 => ?_)
  refine J_bipush (v := 127) dX8_same_10 (by decide) ?_
  refine J_iload_n dX8_same_12 rfl 1 rfl ?_
  refine J_iconst (v := 1) dX8_same_13 (by decide) ?_
  refine J_iadd dX8_same_14 ?_
  refine J_imul dX8_same_15 ?_
  refine J_callVI (c := 7) (as := [.ref v1, .int (127 * (x1 + 1))]) dX8_same_16 (by decide) rfl (Nat.le_of_ble_eq_true rfl) (cw_X8_isUnlike _ (by decide)) q2229 q2231 qs152 q2232 np_X8_isUnlike (i_X8_isUnlike x0 v1 (127 * (x1 + 1))) jad_id rfl (fun v2 => ?_)
  refine J_if_eq (tgt := 24) dX8_same_19 rfl ?_ ?_
  · refine J_aload_n dX8_same_24 rfl 0 rfl ?_
    refine J_aload_n dX8_same_25 rfl 0 rfl ?_
    refine J_getA dX8_same_26 fl_X8_35 rfl (fun v3 => ?_)
    refine J_bipush (v := 127) dX8_same_29 (by decide) ?_
    refine J_iload_n dX8_same_31 rfl 1 rfl ?_
    refine J_iconst (v := 1) dX8_same_32 (by decide) ?_
    refine J_iadd dX8_same_33 ?_
    refine J_imul dX8_same_34 ?_
    refine J_callVV (c := 7) (as := [.ref v3, .int (127 * (x1 + 1))]) dX8_same_35 (by decide) rfl (Nat.le_of_ble_eq_true rfl) (cw_X8_ask _ (by decide)) q1866 q1868 qs89 q1869 np_X8_ask (i_X8_ask x0 v3 (127 * (x1 + 1))) jad_id rfl ?_
    refine J_aload_n dX8_same_38 rfl 0 rfl ?_
    refine J_aload_n dX8_same_39 rfl 0 rfl ?_
    refine J_getA dX8_same_40 fl_X8_35 rfl (fun v4 => ?_)
    refine J_iconst (v := 0) dX8_same_43 (by decide) ?_
    refine J_iconst (v := 1) dX8_same_44 (by decide) ?_
    refine J_callVV (c := 7) (as := [.ref v4, .int 0, .int 1]) dX8_same_45 (by decide) rfl (Nat.le_of_ble_eq_true rfl) (cw_X8_findMaps _ (by decide)) q2204 q2206 qs147 q2207 np_X8_findMaps (i_X8_findMaps x0 v4 0 1) jad_id rfl ?_
    refine J_aload_n dX8_same_48 rfl 0 rfl ?_
    refine J_callVV (c := 7) (as := []) dX8_same_49 (by decide) rfl (Nat.le_of_ble_eq_true rfl) (cw_X8_askNow _ (by decide)) q1862 q1864 qs88 q1865 np_X8_askNow (i_X8_askNow x0) jad_id rfl ?_
    refine J_aload_n dX8_same_52 rfl 0 rfl ?_
    refine J_getI dX8_same_53 fl_X8_545 rfl (fun v5 => ?_)
    refine J_if_le (tgt := 63) dX8_same_56 rfl ?_ ?_
    · refine J_aload_n dX8_same_63 rfl 0 rfl ?_
      refine J_getI dX8_same_64 fl_X8_548 rfl (fun v6 => ?_)
      refine J_if_eq (tgt := 75) dX8_same_67 rfl ?_ ?_
      · refine J_iconst (v := 0) dX8_same_75 (by decide) ?_
        exact J_ireturn dX8_same_76 rfl
      refine J_bipush (v := 9) dX8_same_70 (by decide) ?_
      refine J_goto (tgt := 76) dX8_same_72 rfl ?_
      exact J_ireturn dX8_same_76 rfl
    refine J_iconst (v := 1) dX8_same_59 (by decide) ?_
    refine J_goto (tgt := 76) dX8_same_60 rfl ?_
    exact J_ireturn dX8_same_76 rfl
  refine J_iconst (v := 0) dX8_same_22 (by decide) ?_
  exact J_ireturn dX8_same_23 rfl
theorem i_X8_same (x0 : Nat) (x1 : Int32) : Impl (ws_ yX8_same cX8_same 2 (some .int)) yX8_same 15 false 0 0 [.ref x0, .int x1] (f_X8_same x0 x1) injI := impl_of (plainFor_of_name (by decide)) (Nat.le_of_ble_eq_true rfl) (fun D dA => j_X8_same D dA x0 x1)
theorem cw_X8_same (Y : JY) (h : 16 ≤ Y.2.2.2.1) : JCw Y (ws_ yX8_same cX8_same 2 (some .int)) yX8_same cX8_same 2 (some .int) 15 := ⟨h, by decide, lw_meth q2228, q198, by decide, by decide⟩
theorem np_X8_same : JNp yX8_same.desc 1 := by decide +kernel
-- BracketRoomModel.sameAs(I)I
abbrev Y_X8_sameAs : JY := (cX8_sameAs, yX8_sameAs.cls, 3, 16, yX8_sameAs.name, (some .int), [])
noncomputable def f_X8_sameAs (x0 : Nat) (x1 : Int32) : JM Mem Int32 :=
  jb (jputI 7 1 x0 0) fun _ =>
  jb (jputI 7 0 x0 0) fun _ =>
  jb ((f_X8_isShelf x1)) fun v1 =>
  if v1 = 0 then
    jb (jcall 7 x0 (f_X8_refuse x0 2)) fun v7 =>
    jp v7
  else
  jb (jcall 7 x0 (f_X8_isEmpty x0 x1)) fun v2 =>
  if v2 = 0 then
    jb (jcall 7 x0 (f_X8_same x0 x1)) fun v3 =>
    jb (jgetI 7 43 x0) fun v4 =>
    jb (jputI 7 44 x0 v4) fun _ =>
    if v3 = 9 then
      jb (jcall 7 x0 (f_X8_refuse x0 9)) fun v5 =>
      jp v5
    else
      jp v3
  else
  jb (jcall 7 x0 (f_X8_refuse x0 8)) fun v6 =>
  jp v6
theorem j_X8_sameAs (D : va_G) (dA : Nat → ClassId) (x0 : Nat) (x1 : Int32) : J (PM D dA false) Y_X8_sameAs [(0, .ref x0), (1, .int x1)] [] 0 (f_X8_sameAs x0 x1) (FRet injI) := by
  unfold f_X8_sameAs
  refine J_aload_n dX8_sameAs_0 rfl 0 rfl ?_
  refine J_iconst (v := 0) dX8_sameAs_1 (by decide) ?_
  refine J_putI dX8_sameAs_2 ⟨fl_X8_132, Or.inl rfl⟩ rfl ?_
  refine J_aload_n dX8_sameAs_5 rfl 0 rfl ?_
  refine J_iconst (v := 0) dX8_sameAs_6 (by decide) ?_
  refine J_putI dX8_sameAs_7 ⟨fl_X8_135, Or.inl rfl⟩ rfl ?_
  refine J_iload_n dX8_sameAs_10 rfl 1 rfl ?_
  refine J_callSI (host := "") (as := [.int x1]) dX8_sameAs_11 rfl (Nat.le_of_ble_eq_true rfl) (cw_X8_isShelf _ (by decide)) q1952 q1953 q1954 np_X8_isShelf (i_X8_isShelf x1) jad_id rfl (fun v1 => ?_)
  refine J_if_ne (tgt := 23) dX8_sameAs_14 rfl ?_ ?_
  · refine J_aload_n dX8_sameAs_23 rfl 0 rfl ?_
    refine J_iload_n dX8_sameAs_24 rfl 1 rfl ?_
    refine J_callVI (c := 7) (as := [.int x1]) dX8_sameAs_25 (by decide) rfl (Nat.le_of_ble_eq_true rfl) (cw_X8_isEmpty _ (by decide)) q1959 q1961 qs104 q1962 np_X8_isEmpty (i_X8_isEmpty x0 x1) jad_id rfl (fun v2 => ?_)
    refine J_if_eq (tgt := 38) dX8_sameAs_28 rfl ?_ ?_
    · refine J_aload_n dX8_sameAs_38 rfl 0 rfl ?_
      refine J_iload_n dX8_sameAs_39 rfl 1 rfl ?_
      refine J_callVI (c := 7) (as := [.int x1]) dX8_sameAs_40 (by decide) rfl (Nat.le_of_ble_eq_true rfl) (cw_X8_same _ (by decide)) q2225 q2227 qs151 q2228 np_X8_same (i_X8_same x0 x1) jad_id rfl (fun v3 => ?_)
      refine J_istore_n (env' := [(2, .int v3), (0, .ref x0), (1, .int x1)]) dX8_sameAs_43 rfl (by decide) rfl ?_
      refine J_aload_n dX8_sameAs_44 rfl 1 rfl ?_
      refine J_aload_n dX8_sameAs_45 rfl 1 rfl ?_
      refine J_getI dX8_sameAs_46 fl_X8_555 rfl (fun v4 => ?_)
      refine J_putI dX8_sameAs_49 ⟨fl_X8_89, Or.inl rfl⟩ rfl ?_
      refine J_iload_n dX8_sameAs_52 rfl 0 rfl ?_
      refine J_bipush (v := 9) dX8_sameAs_53 (by decide) ?_
      refine J_icmp_ne (tgt := 67) dX8_sameAs_55 rfl ?_ ?_
      · refine J_iload_n dX8_sameAs_67 rfl 0 rfl ?_
        exact J_ireturn dX8_sameAs_68 rfl
      refine J_aload_n dX8_sameAs_58 rfl 1 rfl ?_
      refine J_bipush (v := 9) dX8_sameAs_59 (by decide) ?_
      refine J_callVI (c := 7) (as := [.int 9]) dX8_sameAs_61 (by decide) rfl (Nat.le_of_ble_eq_true rfl) (cw_X8_refuse _ (by decide)) q1871 q1873 qs90 q1874 np_X8_refuse (i_X8_refuse x0 9) jad_id rfl (fun v5 => ?_)
      refine J_goto (tgt := 68) dX8_sameAs_64 rfl ?_
      exact J_ireturn dX8_sameAs_68 rfl
    refine J_aload_n dX8_sameAs_31 rfl 0 rfl ?_
    refine J_bipush (v := 8) dX8_sameAs_32 (by decide) ?_
    refine J_callVI (c := 7) (as := [.int 8]) dX8_sameAs_34 (by decide) rfl (Nat.le_of_ble_eq_true rfl) (cw_X8_refuse _ (by decide)) q1871 q1873 qs90 q1874 np_X8_refuse (i_X8_refuse x0 8) jad_id rfl (fun v6 => ?_)
    exact J_ireturn dX8_sameAs_37 rfl
  refine J_aload_n dX8_sameAs_17 rfl 0 rfl ?_
  refine J_iconst (v := 2) dX8_sameAs_18 (by decide) ?_
  refine J_callVI (c := 7) (as := [.int 2]) dX8_sameAs_19 (by decide) rfl (Nat.le_of_ble_eq_true rfl) (cw_X8_refuse _ (by decide)) q1871 q1873 qs90 q1874 np_X8_refuse (i_X8_refuse x0 2) jad_id rfl (fun v7 => ?_)
  exact J_ireturn dX8_sameAs_22 rfl
theorem i_X8_sameAs (x0 : Nat) (x1 : Int32) : Impl (ws_ yX8_sameAs cX8_sameAs 3 (some .int)) yX8_sameAs 16 false 0 0 [.ref x0, .int x1] (f_X8_sameAs x0 x1) injI := impl_of (plainFor_of_name (by decide)) (Nat.le_of_ble_eq_true rfl) (fun D dA => j_X8_sameAs D dA x0 x1)
theorem cw_X8_sameAs (Y : JY) (h : 17 ≤ Y.2.2.2.1) : JCw Y (ws_ yX8_sameAs cX8_sameAs 3 (some .int)) yX8_sameAs cX8_sameAs 3 (some .int) 16 := ⟨h, by decide, lw_meth q2224, q198, by decide, by decide⟩
theorem np_X8_sameAs : JNp yX8_sameAs.desc 1 := by decide +kernel
-- BracketRoomModel.tries()I
abbrev Y_X8_tries : JY := (cX8_tries, yX8_tries.cls, 1, 2, yX8_tries.name, (some .int), [])
noncomputable def f_X8_tries (x0 : Nat) : JM Mem Int32 :=
  jb (jputI 7 1 x0 0) fun _ =>
  jb (jputI 7 0 x0 0) fun _ =>
  jb (jgetI 7 44 x0) fun v1 =>
  if 0 ≤ v1 then
    jb (jgetI 7 44 x0) fun v2 =>
    jp v2
  else
  jb (jcall 7 x0 (f_X8_refuse x0 8)) fun v3 =>
  jp v3
theorem j_X8_tries (D : va_G) (dA : Nat → ClassId) (x0 : Nat) : J (PM D dA false) Y_X8_tries [(0, .ref x0)] [] 0 (f_X8_tries x0) (FRet injI) := by
  unfold f_X8_tries
  refine J_aload_n dX8_tries_0 rfl 0 rfl ?_
  refine J_iconst (v := 0) dX8_tries_1 (by decide) ?_
  refine J_putI dX8_tries_2 ⟨fl_X8_132, Or.inl rfl⟩ rfl ?_
  refine J_aload_n dX8_tries_5 rfl 0 rfl ?_
  refine J_iconst (v := 0) dX8_tries_6 (by decide) ?_
  refine J_putI dX8_tries_7 ⟨fl_X8_135, Or.inl rfl⟩ rfl ?_
  refine J_aload_n dX8_tries_10 rfl 0 rfl ?_
  refine J_getI dX8_tries_11 fl_X8_89 rfl (fun v1 => ?_)
  refine J_if_ge (tgt := 26) dX8_tries_14 rfl ?_ ?_
  · refine J_aload_n dX8_tries_26 rfl 0 rfl ?_
    refine J_getI dX8_tries_27 fl_X8_89 rfl (fun v2 => ?_)
    exact J_ireturn dX8_tries_30 rfl
  refine J_aload_n dX8_tries_17 rfl 0 rfl ?_
  refine J_bipush (v := 8) dX8_tries_18 (by decide) ?_
  refine J_callVI (c := 7) (as := [.int 8]) dX8_tries_20 (by decide) rfl (Nat.le_of_ble_eq_true rfl) (cw_X8_refuse _ (by decide)) q1871 q1873 qs90 q1874 np_X8_refuse (i_X8_refuse x0 8) jad_id rfl (fun v3 => ?_)
  refine J_goto (tgt := 30) dX8_tries_23 rfl ?_
  exact J_ireturn dX8_tries_30 rfl
theorem i_X8_tries (x0 : Nat) : Impl (ws_ yX8_tries cX8_tries 1 (some .int)) yX8_tries 2 false 0 0 [.ref x0] (f_X8_tries x0) injI := impl_of (plainFor_of_name (by decide)) (Nat.le_of_ble_eq_true rfl) (fun D dA => j_X8_tries D dA x0)
theorem cw_X8_tries (Y : JY) (h : 3 ≤ Y.2.2.2.1) : JCw Y (ws_ yX8_tries cX8_tries 1 (some .int)) yX8_tries cX8_tries 1 (some .int) 2 := ⟨h, by decide, lw_meth q2236, q198, by decide, by decide⟩
theorem np_X8_tries : JNp yX8_tries.desc 0 := by decide +kernel
-- BracketRoomModel.markBy(I)I
abbrev Y_X8_markBy : JY := (cX8_markBy, yX8_markBy.cls, 2, 6, yX8_markBy.name, (some .int), [])
noncomputable def f_X8_markBy (x0 : Nat) (x1 : Int32) : JM Mem Int32 :=
  jsw x1 1 [
    jb (jcall 7 x0 (f_X8_seriesOf x0 1 0)) fun v2 =>
    jp v2,
    jb (jcall 7 x0 (f_X8_seriesOf x0 2 0)) fun v3 =>
    jp v3,
    jb (jcall 7 x0 (f_X8_seriesOf x0 2 1)) fun v4 =>
    jp v4,
    jb (jcall 7 x0 (f_X8_centreSize x0)) fun v5 =>
    jp v5,
    jb (jcall 7 x0 (f_X8_derivationSize x0)) fun v6 =>
    jp v6,
    jb (jcall 7 x0 (f_X8_formRank x0)) fun v7 =>
    jp v7,
    jb (jcall 7 x0 (f_X8_classSize x0 2)) fun v8 =>
    jp v8] (
    jb (jcall 7 x0 (f_X8_commutingMany x0)) fun v1 =>
    jp v1)
set_option maxHeartbeats 8000000 in
theorem j_X8_markBy (D : va_G) (dA : Nat → ClassId) (x0 : Nat) (x1 : Int32) : J (PM D dA false) Y_X8_markBy [(0, .ref x0), (1, .int x1)] [] 0 (f_X8_markBy x0 x1) (FRet injI) := by
  unfold f_X8_markBy
  refine J_iload_n dX8_markBy_0 rfl 1 rfl ?_
  refine J_tswA [44, 51, 58, 65, 70, 75, 80] dX8_markBy_1 (tgt := 86) rfl rfl rfl rfl ?_ ⟨?_, ?_, ?_, ?_, ?_, ?_, ?_, trivial⟩
  · refine J_aload_n dX8_markBy_86 rfl 0 rfl ?_
    refine J_callVI (c := 7) (as := []) dX8_markBy_87 (by decide) rfl (Nat.le_of_ble_eq_true rfl) (cw_X8_commutingMany _ (by decide)) q2196 q2198 qs146 q2199 np_X8_commutingMany (i_X8_commutingMany x0) jad_id rfl (fun v1 => ?_)
    exact J_ireturn dX8_markBy_90 rfl
  · refine J_aload_n dX8_markBy_44 rfl 0 rfl ?_
    refine J_iconst (v := 1) dX8_markBy_45 (by decide) ?_
    refine J_iconst (v := 0) dX8_markBy_46 (by decide) ?_
    refine J_callVI (c := 7) (as := [.int 1, .int 0]) dX8_markBy_47 (by decide) rfl (Nat.le_of_ble_eq_true rfl) (cw_X8_seriesOf _ (by decide)) q2009 q2011 qs114 q2012 np_X8_seriesOf (i_X8_seriesOf x0 1 0) jad_id rfl (fun v2 => ?_)
    exact J_ireturn dX8_markBy_50 rfl
  · refine J_aload_n dX8_markBy_51 rfl 0 rfl ?_
    refine J_iconst (v := 2) dX8_markBy_52 (by decide) ?_
    refine J_iconst (v := 0) dX8_markBy_53 (by decide) ?_
    refine J_callVI (c := 7) (as := [.int 2, .int 0]) dX8_markBy_54 (by decide) rfl (Nat.le_of_ble_eq_true rfl) (cw_X8_seriesOf _ (by decide)) q2009 q2011 qs114 q2012 np_X8_seriesOf (i_X8_seriesOf x0 2 0) jad_id rfl (fun v3 => ?_)
    exact J_ireturn dX8_markBy_57 rfl
  · refine J_aload_n dX8_markBy_58 rfl 0 rfl ?_
    refine J_iconst (v := 2) dX8_markBy_59 (by decide) ?_
    refine J_iconst (v := 1) dX8_markBy_60 (by decide) ?_
    refine J_callVI (c := 7) (as := [.int 2, .int 1]) dX8_markBy_61 (by decide) rfl (Nat.le_of_ble_eq_true rfl) (cw_X8_seriesOf _ (by decide)) q2009 q2011 qs114 q2012 np_X8_seriesOf (i_X8_seriesOf x0 2 1) jad_id rfl (fun v4 => ?_)
    exact J_ireturn dX8_markBy_64 rfl
  · refine J_aload_n dX8_markBy_65 rfl 0 rfl ?_
    refine J_callVI (c := 7) (as := []) dX8_markBy_66 (by decide) rfl (Nat.le_of_ble_eq_true rfl) (cw_X8_centreSize _ (by decide)) q2025 q2027 qs116 q2028 np_X8_centreSize (i_X8_centreSize x0) jad_id rfl (fun v5 => ?_)
    exact J_ireturn dX8_markBy_69 rfl
  · refine J_aload_n dX8_markBy_70 rfl 0 rfl ?_
    refine J_callVI (c := 7) (as := []) dX8_markBy_71 (by decide) rfl (Nat.le_of_ble_eq_true rfl) (cw_X8_derivationSize _ (by decide)) q2153 q2155 qs139 q2156 np_X8_derivationSize (i_X8_derivationSize x0) jad_id rfl (fun v6 => ?_)
    exact J_ireturn dX8_markBy_74 rfl
  · refine J_aload_n dX8_markBy_75 rfl 0 rfl ?_
    refine J_callVI (c := 7) (as := []) dX8_markBy_76 (by decide) rfl (Nat.le_of_ble_eq_true rfl) (cw_X8_formRank _ (by decide)) q2161 q2163 qs140 q2164 np_X8_formRank (i_X8_formRank x0) jad_id rfl (fun v7 => ?_)
    exact J_ireturn dX8_markBy_79 rfl
  · refine J_aload_n dX8_markBy_80 rfl 0 rfl ?_
    refine J_iconst (v := 2) dX8_markBy_81 (by decide) ?_
    refine J_callVI (c := 7) (as := [.int 2]) dX8_markBy_82 (by decide) rfl (Nat.le_of_ble_eq_true rfl) (cw_X8_classSize _ (by decide)) q2169 q2171 qs141 q2172 np_X8_classSize (i_X8_classSize x0 2) jad_id rfl (fun v8 => ?_)
    exact J_ireturn dX8_markBy_85 rfl
theorem i_X8_markBy (x0 : Nat) (x1 : Int32) : Impl (ws_ yX8_markBy cX8_markBy 2 (some .int)) yX8_markBy 6 false 0 0 [.ref x0, .int x1] (f_X8_markBy x0 x1) injI := impl_of (plainFor_of_name (by decide)) (Nat.le_of_ble_eq_true rfl) (fun D dA => j_X8_markBy D dA x0 x1)
theorem cw_X8_markBy (Y : JY) (h : 7 ≤ Y.2.2.2.1) : JCw Y (ws_ yX8_markBy cX8_markBy 2 (some .int)) yX8_markBy cX8_markBy 2 (some .int) 6 := ⟨h, by decide, lw_meth q2244, q198, by decide, by decide⟩
theorem np_X8_markBy : JNp yX8_markBy.desc 1 := by decide +kernel
-- BracketRoomModel.parted(I)I
abbrev Y_X8_parted : JY := (cX8_parted, yX8_parted.cls, 4, 7, yX8_parted.name, (some .int), [])
noncomputable def X8_parted_b106 (x0 : Nat) : JM Mem Int32 :=
  jb (jcall 7 x0 (f_X8_refuse x0 8)) fun v5 =>
  jp v5
theorem j_X8_parted_b106 (D : va_G) (dA : Nat → ClassId) (x0 : Nat) : J (PM D dA false) Y_X8_parted [(0, .ref x0)] [] 106 (X8_parted_b106 x0) (FRet injI) := by
  unfold X8_parted_b106
  refine J_aload_n dX8_parted_106 rfl 0 rfl ?_
  refine J_bipush (v := 8) dX8_parted_107 (by decide) ?_
  refine J_callVI (c := 7) (as := [.int 8]) dX8_parted_109 (by decide) rfl (Nat.le_of_ble_eq_true rfl) (cw_X8_refuse _ (by decide)) q1871 q1873 qs90 q1874 np_X8_refuse (i_X8_refuse x0 8) jad_id rfl (fun v5 => ?_)
  exact J_ireturn dX8_parted_112 rfl
noncomputable def X8_parted_L59 (x0 : Nat) (x1 : Int32) (x2 : Int32) : JM Mem (Int32 ⊕ (Int32)) :=
  if 9 ≤ x2 then
    jinl (X8_parted_b106 x0)
  else
  jb (jcall 7 x0 (f_X8_askNow x0)) fun _ =>
  jb (jcall 7 x0 (f_X8_markBy x0 x2)) fun v6 =>
  jb (jgetA 7 19 x0) fun v7 =>
  jb (jcall 7 x0 (f_X8_ask x0 v7 (127 * (x1 + 1)))) fun _ =>
  jb (jcall 7 x0 (f_X8_markBy x0 x2)) fun v8 =>
  if v8 = v6 then
    jcont (x2 + 1)
  else
    jinl (jp x2)
theorem j_X8_parted_L59 (D : va_G) (dA : Nat → ClassId) (x0 : Nat) (x1 : Int32) (x2 : Int32) : J (PM D dA false) Y_X8_parted [(0, .ref x0), (1, .int x1), (2, .int x2)] [] 59 (X8_parted_L59 x0 x1 x2) (FLoop (FRet injI) 59 (fun (t : Int32) => [(0, .ref x0), (1, .int x1), (2, .int t)])) := by
  unfold X8_parted_L59
  refine J_iload_n dX8_parted_59 rfl 2 rfl ?_
  refine J_bipush (v := 9) dX8_parted_60 (by decide) ?_
  refine J_icmp_ge (tgt := 106) dX8_parted_62 rfl ?_ ?_
  · refine J_inl ?_
    refine J_sub [0] rfl ?_
    exact j_X8_parted_b106 D dA x0
  refine J_aload_n dX8_parted_65 rfl 0 rfl ?_
  refine J_callVV (c := 7) (as := []) dX8_parted_66 (by decide) rfl (Nat.le_of_ble_eq_true rfl) (cw_X8_askNow _ (by decide)) q1862 q1864 qs88 q1865 np_X8_askNow (i_X8_askNow x0) jad_id rfl ?_
  refine J_aload_n dX8_parted_69 rfl 0 rfl ?_
  refine J_iload_n dX8_parted_70 rfl 2 rfl ?_
  refine J_callVI (c := 7) (as := [.int x2]) dX8_parted_71 (by decide) rfl (Nat.le_of_ble_eq_true rfl) (cw_X8_markBy _ (by decide)) q2241 q2243 qs153 q2244 np_X8_markBy (i_X8_markBy x0 x2) jad_id rfl (fun v6 => ?_)
  refine J_istore_n (env' := [(3, .int v6), (0, .ref x0), (1, .int x1), (2, .int x2)]) dX8_parted_74 rfl (by decide) rfl ?_
  refine J_aload_n dX8_parted_75 rfl 1 rfl ?_
  refine J_aload_n dX8_parted_76 rfl 1 rfl ?_
  refine J_getA dX8_parted_77 fl_X8_35 rfl (fun v7 => ?_)
  refine J_bipush (v := 127) dX8_parted_80 (by decide) ?_
  refine J_iload_n dX8_parted_82 rfl 2 rfl ?_
  refine J_iconst (v := 1) dX8_parted_83 (by decide) ?_
  refine J_iadd dX8_parted_84 ?_
  refine J_imul dX8_parted_85 ?_
  refine J_callVV (c := 7) (as := [.ref v7, .int (127 * (x1 + 1))]) dX8_parted_86 (by decide) rfl (Nat.le_of_ble_eq_true rfl) (cw_X8_ask _ (by decide)) q1866 q1868 qs89 q1869 np_X8_ask (i_X8_ask x0 v7 (127 * (x1 + 1))) jad_id rfl ?_
  refine J_aload_n dX8_parted_89 rfl 1 rfl ?_
  refine J_iload_n dX8_parted_90 rfl 3 rfl ?_
  refine J_callVI (c := 7) (as := [.int x2]) dX8_parted_91 (by decide) rfl (Nat.le_of_ble_eq_true rfl) (cw_X8_markBy _ (by decide)) q2241 q2243 qs153 q2244 np_X8_markBy (i_X8_markBy x0 x2) jad_id rfl (fun v8 => ?_)
  refine J_iload_n dX8_parted_94 rfl 0 rfl ?_
  refine J_icmp_eq (tgt := 100) dX8_parted_95 rfl ?_ ?_
  · refine J_iinc (v := x2 + 1) (env' := [(2, .int (x2 + 1)), (3, .int v6), (0, .ref x0), (1, .int x1)]) dX8_parted_100 3 rfl rfl (by decide) rfl ?_
    refine J_goto (tgt := 59) dX8_parted_103 rfl ?_
    exact J_cont [2, 3, 0] rfl
  refine J_inl ?_
  refine J_iload_n dX8_parted_98 rfl 3 rfl ?_
  exact J_ireturn dX8_parted_99 rfl
noncomputable def f_X8_parted (x0 : Nat) (x1 : Int32) : JM Mem Int32 :=
  jb (jputI 7 1 x0 0) fun _ =>
  jb (jputI 7 0 x0 0) fun _ =>
  jb ((f_X8_isShelf x1)) fun v1 =>
  if v1 = 0 then
    jb (jcall 7 x0 (f_X8_refuse x0 2)) fun v10 =>
    jp v10
  else
  jb (jcall 7 x0 (f_X8_isEmpty x0 x1)) fun v2 =>
  if v2 = 0 then
    jb (jgetA 7 19 x0) fun v3 =>
    jb (jcall 7 x0 (f_X8_isUnlike x0 v3 (127 * (x1 + 1)))) fun v4 =>
    if v4 = 0 then
      jloop (fun (t : Int32) => X8_parted_L59 x0 x1 t) 1
    else
      jp 0
  else
  jb (jcall 7 x0 (f_X8_refuse x0 8)) fun v9 =>
  jp v9
theorem j_X8_parted (D : va_G) (dA : Nat → ClassId) (x0 : Nat) (x1 : Int32) : J (PM D dA false) Y_X8_parted [(0, .ref x0), (1, .int x1)] [] 0 (f_X8_parted x0 x1) (FRet injI) := by
  unfold f_X8_parted
  refine J_aload_n dX8_parted_0 rfl 0 rfl ?_
  refine J_iconst (v := 0) dX8_parted_1 (by decide) ?_
  refine J_putI dX8_parted_2 ⟨fl_X8_132, Or.inl rfl⟩ rfl ?_
  refine J_aload_n dX8_parted_5 rfl 0 rfl ?_
  refine J_iconst (v := 0) dX8_parted_6 (by decide) ?_
  refine J_putI dX8_parted_7 ⟨fl_X8_135, Or.inl rfl⟩ rfl ?_
  refine J_iload_n dX8_parted_10 rfl 1 rfl ?_
  refine J_callSI (host := "") (as := [.int x1]) dX8_parted_11 rfl (Nat.le_of_ble_eq_true rfl) (cw_X8_isShelf _ (by decide)) q1952 q1953 q1954 np_X8_isShelf (i_X8_isShelf x1) jad_id rfl (fun v1 => ?_)
  refine J_if_ne (tgt := 23) dX8_parted_14 rfl ?_ ?_
  · refine J_aload_n dX8_parted_23 rfl 0 rfl ?_
    refine J_iload_n dX8_parted_24 rfl 1 rfl ?_
    refine J_callVI (c := 7) (as := [.int x1]) dX8_parted_25 (by decide) rfl (Nat.le_of_ble_eq_true rfl) (cw_X8_isEmpty _ (by decide)) q1959 q1961 qs104 q1962 np_X8_isEmpty (i_X8_isEmpty x0 x1) jad_id rfl (fun v2 => ?_)
    refine J_if_eq (tgt := 38) dX8_parted_28 rfl ?_ ?_
    · refine J_aload_n dX8_parted_38 rfl 0 rfl ?_
      refine J_aload_n dX8_parted_39 rfl 0 rfl ?_
      refine J_getA dX8_parted_40 fl_X8_35 rfl (fun v3 => ?_)
      refine J_bipush (v := 127) dX8_parted_43 (by decide) ?_
      refine J_iload_n dX8_parted_45 rfl 1 rfl ?_
      refine J_iconst (v := 1) dX8_parted_46 (by decide) ?_
      refine J_iadd dX8_parted_47 ?_
      refine J_imul dX8_parted_48 ?_
      refine J_callVI (c := 7) (as := [.ref v3, .int (127 * (x1 + 1))]) dX8_parted_49 (by decide) rfl (Nat.le_of_ble_eq_true rfl) (cw_X8_isUnlike _ (by decide)) q2229 q2231 qs152 q2232 np_X8_isUnlike (i_X8_isUnlike x0 v3 (127 * (x1 + 1))) jad_id rfl (fun v4 => ?_)
      refine J_if_eq (tgt := 57) dX8_parted_52 rfl ?_ ?_
      · refine J_iconst (v := 1) dX8_parted_57 (by decide) ?_
        refine J_istore_n (env' := [(2, .int 1), (0, .ref x0), (1, .int x1)]) dX8_parted_58 rfl (by decide) rfl ?_
        refine J_loop (he := fun (t : Int32) => [(0, .ref x0), (1, .int x1), (2, .int t)]) [1, 2, 0] rfl (fun t => ?_)
        exact j_X8_parted_L59 D dA x0 x1 t
      refine J_iconst (v := 0) dX8_parted_55 (by decide) ?_
      exact J_ireturn dX8_parted_56 rfl
    refine J_aload_n dX8_parted_31 rfl 0 rfl ?_
    refine J_bipush (v := 8) dX8_parted_32 (by decide) ?_
    refine J_callVI (c := 7) (as := [.int 8]) dX8_parted_34 (by decide) rfl (Nat.le_of_ble_eq_true rfl) (cw_X8_refuse _ (by decide)) q1871 q1873 qs90 q1874 np_X8_refuse (i_X8_refuse x0 8) jad_id rfl (fun v9 => ?_)
    exact J_ireturn dX8_parted_37 rfl
  refine J_aload_n dX8_parted_17 rfl 0 rfl ?_
  refine J_iconst (v := 2) dX8_parted_18 (by decide) ?_
  refine J_callVI (c := 7) (as := [.int 2]) dX8_parted_19 (by decide) rfl (Nat.le_of_ble_eq_true rfl) (cw_X8_refuse _ (by decide)) q1871 q1873 qs90 q1874 np_X8_refuse (i_X8_refuse x0 2) jad_id rfl (fun v10 => ?_)
  exact J_ireturn dX8_parted_22 rfl
theorem i_X8_parted (x0 : Nat) (x1 : Int32) : Impl (ws_ yX8_parted cX8_parted 4 (some .int)) yX8_parted 7 false 0 0 [.ref x0, .int x1] (f_X8_parted x0 x1) injI := impl_of (plainFor_of_name (by decide)) (Nat.le_of_ble_eq_true rfl) (fun D dA => j_X8_parted D dA x0 x1)
theorem cw_X8_parted (Y : JY) (h : 8 ≤ Y.2.2.2.1) : JCw Y (ws_ yX8_parted cX8_parted 4 (some .int)) yX8_parted cX8_parted 4 (some .int) 7 := ⟨h, by decide, lw_meth q2240, q198, by decide, by decide⟩
theorem np_X8_parted : JNp yX8_parted.desc 1 := by decide +kernel
-- BracketRoomModel.exchange([III)V
abbrev Y_X8_exchange : JY := (cX8_exchange, yX8_exchange.cls, 6, 1, yX8_exchange.name, none, [])
noncomputable def X8_exchange_L3 (x0 : Nat) (x1 : Nat) (x2 : Int32) (x3 : Int32) (x4 : Int32) : JM Mem (Unit ⊕ (Int32)) :=
  jb (jgetI 7 27 x0) fun v1 =>
  if v1 ≤ x4 then
    jinl (jp ())
  else
  jb (jald mI 0 x1 ((5 * x2) + x4)) fun v2 =>
  jb (jald mI 0 x1 ((5 * x3) + x4)) fun v3 =>
  jb (jast_i x1 ((5 * x2) + x4) v3) fun _ =>
  jb (jast_i x1 ((5 * x3) + x4) v2) fun _ =>
  jcont (x4 + 1)
theorem j_X8_exchange_L3 (D : va_G) (dA : Nat → ClassId) (x0 : Nat) (x1 : Nat) (x2 : Int32) (x3 : Int32) (x4 : Int32) : J (PM D dA false) Y_X8_exchange [(0, .ref x0), (1, .ref x1), (2, .int x2), (3, .int x3), (4, .int x4)] [] 3 (X8_exchange_L3 x0 x1 x2 x3 x4) (FLoop (FRet injU) 3 (fun (t : Int32) => [(0, .ref x0), (1, .ref x1), (2, .int x2), (3, .int x3), (4, .int t)])) := by
  unfold X8_exchange_L3
  refine J_iload dX8_exchange_3 4 rfl ?_
  refine J_aload_n dX8_exchange_5 rfl 0 rfl ?_
  refine J_getI dX8_exchange_6 fl_X8_253 rfl (fun v1 => ?_)
  refine J_icmp_ge (tgt := 54) dX8_exchange_9 rfl ?_ ?_
  · refine J_inl ?_
    exact J_return dX8_exchange_54 rfl
  refine J_aload_n dX8_exchange_12 rfl 1 rfl ?_
  refine J_iconst (v := 5) dX8_exchange_13 (by decide) ?_
  refine J_iload_n dX8_exchange_14 rfl 2 rfl ?_
  refine J_imul dX8_exchange_15 ?_
  refine J_iload dX8_exchange_16 4 rfl ?_
  refine J_iadd dX8_exchange_18 ?_
  refine J_iald dX8_exchange_19 (fun v2 => ?_)
  refine J_istore (env' := [(5, .int v2), (0, .ref x0), (1, .ref x1), (2, .int x2), (3, .int x3), (4, .int x4)]) dX8_exchange_20 (by decide) rfl ?_
  refine J_aload_n dX8_exchange_22 rfl 2 rfl ?_
  refine J_iconst (v := 5) dX8_exchange_23 (by decide) ?_
  refine J_iload_n dX8_exchange_24 rfl 3 rfl ?_
  refine J_imul dX8_exchange_25 ?_
  refine J_iload dX8_exchange_26 5 rfl ?_
  refine J_iadd dX8_exchange_28 ?_
  refine J_aload_n dX8_exchange_29 rfl 2 rfl ?_
  refine J_iconst (v := 5) dX8_exchange_30 (by decide) ?_
  refine J_iload_n dX8_exchange_31 rfl 4 rfl ?_
  refine J_imul dX8_exchange_32 ?_
  refine J_iload dX8_exchange_33 5 rfl ?_
  refine J_iadd dX8_exchange_35 ?_
  refine J_iald dX8_exchange_36 (fun v3 => ?_)
  refine J_iast dX8_exchange_37 ?_
  refine J_aload_n dX8_exchange_38 rfl 2 rfl ?_
  refine J_iconst (v := 5) dX8_exchange_39 (by decide) ?_
  refine J_iload_n dX8_exchange_40 rfl 4 rfl ?_
  refine J_imul dX8_exchange_41 ?_
  refine J_iload dX8_exchange_42 5 rfl ?_
  refine J_iadd dX8_exchange_44 ?_
  refine J_iload dX8_exchange_45 0 rfl ?_
  refine J_iast dX8_exchange_47 ?_
  refine J_iinc (v := x4 + 1) (env' := [(4, .int (x4 + 1)), (5, .int v2), (0, .ref x0), (1, .ref x1), (2, .int x2), (3, .int x3)]) dX8_exchange_48 5 rfl rfl (by decide) rfl ?_
  refine J_goto (tgt := 3) dX8_exchange_51 rfl ?_
  exact J_cont [2, 3, 4, 5, 0] rfl
noncomputable def f_X8_exchange (x0 : Nat) (x1 : Nat) (x2 : Int32) (x3 : Int32) : JM Mem Unit :=
  jloop (fun (t : Int32) => X8_exchange_L3 x0 x1 x2 x3 t) 0
theorem j_X8_exchange (D : va_G) (dA : Nat → ClassId) (x0 : Nat) (x1 : Nat) (x2 : Int32) (x3 : Int32) : J (PM D dA false) Y_X8_exchange [(0, .ref x0), (1, .ref x1), (2, .int x2), (3, .int x3)] [] 0 (f_X8_exchange x0 x1 x2 x3) (FRet injU) := by
  unfold f_X8_exchange
  refine J_iconst (v := 0) dX8_exchange_0 (by decide) ?_
  refine J_istore (env' := [(4, .int 0), (0, .ref x0), (1, .ref x1), (2, .int x2), (3, .int x3)]) dX8_exchange_1 (by decide) rfl ?_
  refine J_loop (he := fun (t : Int32) => [(0, .ref x0), (1, .ref x1), (2, .int x2), (3, .int x3), (4, .int t)]) [1, 2, 3, 4, 0] rfl (fun t => ?_)
  exact j_X8_exchange_L3 D dA x0 x1 x2 x3 t
theorem i_X8_exchange (x0 : Nat) (x1 : Nat) (x2 : Int32) (x3 : Int32) : Impl (ws_ yX8_exchange cX8_exchange 6 none) yX8_exchange 1 false 0 0 [.ref x0, .ref x1, .int x2, .int x3] (f_X8_exchange x0 x1 x2 x3) injU := impl_of (plainFor_of_name (by decide)) (Nat.le_of_ble_eq_true rfl) (fun D dA => j_X8_exchange D dA x0 x1 x2 x3)
theorem cw_X8_exchange (Y : JY) (h : 2 ≤ Y.2.2.2.1) : JCw Y (ws_ yX8_exchange cX8_exchange 6 none) yX8_exchange cX8_exchange 6 none 1 := ⟨h, by decide, lw_meth q2260, q198, by decide, by decide⟩
theorem np_X8_exchange : JNp yX8_exchange.desc 3 := by decide +kernel
-- BracketRoomModel.turnsBack()Z
abbrev Y_X8_turnsBack : JY := (cX8_turnsBack, yX8_turnsBack.cls, 7, 2, yX8_turnsBack.name, (some .boolean), [])
noncomputable def X8_turnsBack_b337 (x0 : Nat) (x1 : Int32) : JM Mem (Int32 ⊕ (Int32)) :=
  jcont (x1 + 1)
theorem j_X8_turnsBack_b337 (D : va_G) (dA : Nat → ClassId) (x0 : Nat) (x1 : Int32) : J (PM D dA false) Y_X8_turnsBack [(0, .ref x0), (1, .int x1)] [] 337 (X8_turnsBack_b337 x0 x1) (FLoop (FRet injI) 23 (fun (t : Int32) => [(0, .ref x0), (1, .int t)])) := by
  unfold X8_turnsBack_b337
  refine J_iinc (v := x1 + 1) (env' := [(1, .int (x1 + 1)), (0, .ref x0)]) dX8_turnsBack_337 1 rfl rfl (by decide) rfl ?_
  refine J_goto (tgt := 23) dX8_turnsBack_340 rfl ?_
  exact J_cont [1, 0] rfl
noncomputable def X8_turnsBack_b331 (x0 : Nat) (x1 : Int32) (x4 : Int32) : JM Mem ((Int32 ⊕ (Int32)) ⊕ (Int32)) :=
  jcont (x4 + 1)
theorem j_X8_turnsBack_b331 (D : va_G) (dA : Nat → ClassId) (x0 : Nat) (x1 : Int32) (x4 : Int32) : J (PM D dA false) Y_X8_turnsBack [(0, .ref x0), (1, .int x1), (4, .int x4)] [] 331 (X8_turnsBack_b331 x0 x1 x4) (FLoop (FLoop (FRet injI) 23 (fun (t : Int32) => [(0, .ref x0), (1, .int t)])) 184 (fun (t : Int32) => [(0, .ref x0), (1, .int x1), (4, .int t)])) := by
  unfold X8_turnsBack_b331
  refine J_iinc (v := x4 + 1) (env' := [(4, .int (x4 + 1)), (0, .ref x0), (1, .int x1)]) dX8_turnsBack_331 2 rfl rfl (by decide) rfl ?_
  refine J_goto (tgt := 184) dX8_turnsBack_334 rfl ?_
  exact J_cont [1, 2, 0] rfl
noncomputable def X8_turnsBack_L219 (x0 : Nat) (x1 : Int32) (x4 : Int32) (x5 : Int32) (x6 : Int32) : JM Mem (((Int32 ⊕ (Int32)) ⊕ (Int32)) ⊕ (Int32)) :=
  jb (jgetI 7 27 x0) fun v17 =>
  if v17 ≤ x6 then
    jinl (X8_turnsBack_b331 x0 x1 x4)
  else
  if x5 = 0 then
    jinl (X8_turnsBack_b331 x0 x1 x4)
  else
  jb (jgetA 7 61 x0) fun v18 =>
  jb (jgetA 7 61 x0) fun v19 =>
  jb (jald mI 0 v19 ((5 * x4) + x6)) fun v20 =>
  jb (jgetA 7 61 x0) fun v21 =>
  jb (jald mI 0 v21 ((5 * x1) + x6)) fun v22 =>
  jb (jgetI 7 26 x0) fun v23 =>
  jb ((f_X8_left (v20 - (x5 * v22)) v23)) fun v24 =>
  jb (jast_i v18 ((5 * x4) + x6) v24) fun _ =>
  jb (jgetA 7 67 x0) fun v25 =>
  jb (jgetA 7 67 x0) fun v26 =>
  jb (jald mI 0 v26 ((5 * x4) + x6)) fun v27 =>
  jb (jgetA 7 67 x0) fun v28 =>
  jb (jald mI 0 v28 ((5 * x1) + x6)) fun v29 =>
  jb (jgetI 7 26 x0) fun v30 =>
  jb ((f_X8_left (v27 - (x5 * v29)) v30)) fun v31 =>
  jb (jast_i v25 ((5 * x4) + x6) v31) fun _ =>
  jcont (x6 + 1)
theorem j_X8_turnsBack_L219 (D : va_G) (dA : Nat → ClassId) (x0 : Nat) (x1 : Int32) (x4 : Int32) (x5 : Int32) (x6 : Int32) : J (PM D dA false) Y_X8_turnsBack [(0, .ref x0), (1, .int x1), (4, .int x4), (5, .int x5), (6, .int x6)] [] 219 (X8_turnsBack_L219 x0 x1 x4 x5 x6) (FLoop (FLoop (FLoop (FRet injI) 23 (fun (t : Int32) => [(0, .ref x0), (1, .int t)])) 184 (fun (t : Int32) => [(0, .ref x0), (1, .int x1), (4, .int t)])) 219 (fun (t : Int32) => [(0, .ref x0), (1, .int x1), (4, .int x4), (5, .int x5), (6, .int t)])) := by
  unfold X8_turnsBack_L219
  refine J_iload dX8_turnsBack_219 4 rfl ?_
  refine J_aload_n dX8_turnsBack_221 rfl 0 rfl ?_
  refine J_getI dX8_turnsBack_222 fl_X8_253 rfl (fun v17 => ?_)
  refine J_icmp_ge (tgt := 331) dX8_turnsBack_225 rfl ?_ ?_
  · refine J_inl ?_
    refine J_sub [0, 1, 2] rfl ?_
    exact j_X8_turnsBack_b331 D dA x0 x1 x4
  refine J_iload dX8_turnsBack_228 3 rfl ?_
  refine J_if_eq (tgt := 331) dX8_turnsBack_230 rfl ?_ ?_
  · refine J_inl ?_
    refine J_sub [0, 1, 2] rfl ?_
    exact j_X8_turnsBack_b331 D dA x0 x1 x4
  refine J_aload_n dX8_turnsBack_233 rfl 0 rfl ?_
  refine J_getA dX8_turnsBack_234 fl_X8_110 rfl (fun v18 => ?_)
  refine J_iconst (v := 5) dX8_turnsBack_237 (by decide) ?_
  refine J_iload dX8_turnsBack_238 2 rfl ?_
  refine J_imul dX8_turnsBack_240 ?_
  refine J_iload dX8_turnsBack_241 4 rfl ?_
  refine J_iadd dX8_turnsBack_243 ?_
  refine J_aload_n dX8_turnsBack_244 rfl 0 rfl ?_
  refine J_getA dX8_turnsBack_245 fl_X8_110 rfl (fun v19 => ?_)
  refine J_iconst (v := 5) dX8_turnsBack_248 (by decide) ?_
  refine J_iload dX8_turnsBack_249 2 rfl ?_
  refine J_imul dX8_turnsBack_251 ?_
  refine J_iload dX8_turnsBack_252 4 rfl ?_
  refine J_iadd dX8_turnsBack_254 ?_
  refine J_iald dX8_turnsBack_255 (fun v20 => ?_)
  refine J_iload dX8_turnsBack_256 3 rfl ?_
  refine J_aload_n dX8_turnsBack_258 rfl 0 rfl ?_
  refine J_getA dX8_turnsBack_259 fl_X8_110 rfl (fun v21 => ?_)
  refine J_iconst (v := 5) dX8_turnsBack_262 (by decide) ?_
  refine J_iload_n dX8_turnsBack_263 rfl 1 rfl ?_
  refine J_imul dX8_turnsBack_264 ?_
  refine J_iload dX8_turnsBack_265 4 rfl ?_
  refine J_iadd dX8_turnsBack_267 ?_
  refine J_iald dX8_turnsBack_268 (fun v22 => ?_)
  refine J_imul dX8_turnsBack_269 ?_
  refine J_isub dX8_turnsBack_270 ?_
  refine J_aload_n dX8_turnsBack_271 rfl 0 rfl ?_
  refine J_getI dX8_turnsBack_272 fl_X8_250 rfl (fun v23 => ?_)
  refine J_callSI (host := "") (as := [.int (v20 - (x5 * v22)), .int v23]) dX8_turnsBack_275 rfl (Nat.le_of_ble_eq_true rfl) (cw_X8_left _ (by decide)) q1847 q1848 q1849 np_X8_left (i_X8_left (v20 - (x5 * v22)) v23) jad_id rfl (fun v24 => ?_)
  refine J_iast dX8_turnsBack_278 ?_
  refine J_aload_n dX8_turnsBack_279 rfl 0 rfl ?_
  refine J_getA dX8_turnsBack_280 fl_X8_122 rfl (fun v25 => ?_)
  refine J_iconst (v := 5) dX8_turnsBack_283 (by decide) ?_
  refine J_iload dX8_turnsBack_284 2 rfl ?_
  refine J_imul dX8_turnsBack_286 ?_
  refine J_iload dX8_turnsBack_287 4 rfl ?_
  refine J_iadd dX8_turnsBack_289 ?_
  refine J_aload_n dX8_turnsBack_290 rfl 0 rfl ?_
  refine J_getA dX8_turnsBack_291 fl_X8_122 rfl (fun v26 => ?_)
  refine J_iconst (v := 5) dX8_turnsBack_294 (by decide) ?_
  refine J_iload dX8_turnsBack_295 2 rfl ?_
  refine J_imul dX8_turnsBack_297 ?_
  refine J_iload dX8_turnsBack_298 4 rfl ?_
  refine J_iadd dX8_turnsBack_300 ?_
  refine J_iald dX8_turnsBack_301 (fun v27 => ?_)
  refine J_iload dX8_turnsBack_302 3 rfl ?_
  refine J_aload_n dX8_turnsBack_304 rfl 0 rfl ?_
  refine J_getA dX8_turnsBack_305 fl_X8_122 rfl (fun v28 => ?_)
  refine J_iconst (v := 5) dX8_turnsBack_308 (by decide) ?_
  refine J_iload_n dX8_turnsBack_309 rfl 1 rfl ?_
  refine J_imul dX8_turnsBack_310 ?_
  refine J_iload dX8_turnsBack_311 4 rfl ?_
  refine J_iadd dX8_turnsBack_313 ?_
  refine J_iald dX8_turnsBack_314 (fun v29 => ?_)
  refine J_imul dX8_turnsBack_315 ?_
  refine J_isub dX8_turnsBack_316 ?_
  refine J_aload_n dX8_turnsBack_317 rfl 0 rfl ?_
  refine J_getI dX8_turnsBack_318 fl_X8_250 rfl (fun v30 => ?_)
  refine J_callSI (host := "") (as := [.int (v27 - (x5 * v29)), .int v30]) dX8_turnsBack_321 rfl (Nat.le_of_ble_eq_true rfl) (cw_X8_left _ (by decide)) q1847 q1848 q1849 np_X8_left (i_X8_left (v27 - (x5 * v29)) v30) jad_id rfl (fun v31 => ?_)
  refine J_iast dX8_turnsBack_324 ?_
  refine J_iinc (v := x6 + 1) (env' := [(6, .int (x6 + 1)), (0, .ref x0), (1, .int x1), (4, .int x4), (5, .int x5)]) dX8_turnsBack_325 4 rfl rfl (by decide) rfl ?_
  refine J_goto (tgt := 219) dX8_turnsBack_328 rfl ?_
  exact J_cont [1, 2, 3, 4, 0] rfl
noncomputable def X8_turnsBack_b214 (x0 : Nat) (x1 : Int32) (x4 : Int32) (s0 : Int32) : JM Mem ((Int32 ⊕ (Int32)) ⊕ (Int32)) :=
  jloop (fun (t : Int32) => X8_turnsBack_L219 x0 x1 x4 s0 t) 0
theorem j_X8_turnsBack_b214 (D : va_G) (dA : Nat → ClassId) (x0 : Nat) (x1 : Int32) (x4 : Int32) (s0 : Int32) : J (PM D dA false) Y_X8_turnsBack [(0, .ref x0), (1, .int x1), (4, .int x4)] [.int s0] 214 (X8_turnsBack_b214 x0 x1 x4 s0) (FLoop (FLoop (FRet injI) 23 (fun (t : Int32) => [(0, .ref x0), (1, .int t)])) 184 (fun (t : Int32) => [(0, .ref x0), (1, .int x1), (4, .int t)])) := by
  unfold X8_turnsBack_b214
  refine J_istore (env' := [(5, .int s0), (0, .ref x0), (1, .int x1), (4, .int x4)]) dX8_turnsBack_214 (by decide) rfl ?_
  refine J_iconst (v := 0) dX8_turnsBack_216 (by decide) ?_
  refine J_istore (env' := [(6, .int 0), (5, .int s0), (0, .ref x0), (1, .int x1), (4, .int x4)]) dX8_turnsBack_217 (by decide) rfl ?_
  refine J_loop (he := fun (t : Int32) => [(0, .ref x0), (1, .int x1), (4, .int x4), (5, .int s0), (6, .int t)]) [2, 3, 4, 1, 0] rfl (fun t => ?_)
  exact j_X8_turnsBack_L219 D dA x0 x1 x4 s0 t
noncomputable def X8_turnsBack_L184 (x0 : Nat) (x1 : Int32) (x4 : Int32) : JM Mem ((Int32 ⊕ (Int32)) ⊕ (Int32)) :=
  jb (jgetI 7 27 x0) fun v14 =>
  if v14 ≤ x4 then
    jinl (X8_turnsBack_b337 x0 x1)
  else
  if x4 = x1 then
    X8_turnsBack_b214 x0 x1 x4 0
  else
  jb (jgetA 7 61 x0) fun v15 =>
  jb (jald mI 0 v15 ((5 * x4) + x1)) fun v16 =>
  X8_turnsBack_b214 x0 x1 x4 v16
theorem j_X8_turnsBack_L184 (D : va_G) (dA : Nat → ClassId) (x0 : Nat) (x1 : Int32) (x4 : Int32) : J (PM D dA false) Y_X8_turnsBack [(0, .ref x0), (1, .int x1), (4, .int x4)] [] 184 (X8_turnsBack_L184 x0 x1 x4) (FLoop (FLoop (FRet injI) 23 (fun (t : Int32) => [(0, .ref x0), (1, .int t)])) 184 (fun (t : Int32) => [(0, .ref x0), (1, .int x1), (4, .int t)])) := by
  unfold X8_turnsBack_L184
  refine J_iload dX8_turnsBack_184 2 rfl ?_
  refine J_aload_n dX8_turnsBack_186 rfl 0 rfl ?_
  refine J_getI dX8_turnsBack_187 fl_X8_253 rfl (fun v14 => ?_)
  refine J_icmp_ge (tgt := 337) dX8_turnsBack_190 rfl ?_ ?_
  · refine J_inl ?_
    refine J_sub [0, 1] rfl ?_
    exact j_X8_turnsBack_b337 D dA x0 x1
  refine J_iload dX8_turnsBack_193 2 rfl ?_
  refine J_iload_n dX8_turnsBack_195 rfl 1 rfl ?_
  refine J_icmp_ne (tgt := 203) dX8_turnsBack_196 rfl ?_ ?_
  · refine J_aload_n dX8_turnsBack_203 rfl 0 rfl ?_
    refine J_getA dX8_turnsBack_204 fl_X8_110 rfl (fun v15 => ?_)
    refine J_iconst (v := 5) dX8_turnsBack_207 (by decide) ?_
    refine J_iload dX8_turnsBack_208 2 rfl ?_
    refine J_imul dX8_turnsBack_210 ?_
    refine J_iload_n dX8_turnsBack_211 rfl 1 rfl ?_
    refine J_iadd dX8_turnsBack_212 ?_
    refine J_iald dX8_turnsBack_213 (fun v16 => ?_)
    refine J_sub [0, 1, 2] rfl ?_
    exact j_X8_turnsBack_b214 D dA x0 x1 x4 v16
  refine J_iconst (v := 0) dX8_turnsBack_199 (by decide) ?_
  refine J_goto (tgt := 214) dX8_turnsBack_200 rfl ?_
  refine J_sub [0, 1, 2] rfl ?_
  exact j_X8_turnsBack_b214 D dA x0 x1 x4 0
noncomputable def X8_turnsBack_b181 (x0 : Nat) (x1 : Int32) : JM Mem (Int32 ⊕ (Int32)) :=
  jloop (fun (t : Int32) => X8_turnsBack_L184 x0 x1 t) 0
theorem j_X8_turnsBack_b181 (D : va_G) (dA : Nat → ClassId) (x0 : Nat) (x1 : Int32) : J (PM D dA false) Y_X8_turnsBack [(0, .ref x0), (1, .int x1)] [] 181 (X8_turnsBack_b181 x0 x1) (FLoop (FRet injI) 23 (fun (t : Int32) => [(0, .ref x0), (1, .int t)])) := by
  unfold X8_turnsBack_b181
  refine J_iconst (v := 0) dX8_turnsBack_181 (by decide) ?_
  refine J_istore (env' := [(4, .int 0), (0, .ref x0), (1, .int x1)]) dX8_turnsBack_182 (by decide) rfl ?_
  refine J_loop (he := fun (t : Int32) => [(0, .ref x0), (1, .int x1), (4, .int t)]) [1, 2, 0] rfl (fun t => ?_)
  exact j_X8_turnsBack_L184 D dA x0 x1 t
noncomputable def X8_turnsBack_L108 (x0 : Nat) (x1 : Int32) (x3 : Int32) (x4 : Int32) : JM Mem ((Int32 ⊕ (Int32)) ⊕ (Int32)) :=
  jb (jgetI 7 27 x0) fun v13 =>
  if v13 ≤ x4 then
    jinl (X8_turnsBack_b181 x0 x1)
  else
  jb (jgetA 7 61 x0) fun v32 =>
  jb (jgetA 7 61 x0) fun v33 =>
  jb (jald mI 0 v33 ((5 * x1) + x4)) fun v34 =>
  jb (jgetI 7 26 x0) fun v35 =>
  jb (jrem (v34 * x3) v35) fun v36 =>
  jb (jast_i v32 ((5 * x1) + x4) v36) fun _ =>
  jb (jgetA 7 67 x0) fun v37 =>
  jb (jgetA 7 67 x0) fun v38 =>
  jb (jald mI 0 v38 ((5 * x1) + x4)) fun v39 =>
  jb (jgetI 7 26 x0) fun v40 =>
  jb (jrem (v39 * x3) v40) fun v41 =>
  jb (jast_i v37 ((5 * x1) + x4) v41) fun _ =>
  jcont (x4 + 1)
theorem j_X8_turnsBack_L108 (D : va_G) (dA : Nat → ClassId) (x0 : Nat) (x1 : Int32) (x3 : Int32) (x4 : Int32) : J (PM D dA false) Y_X8_turnsBack [(0, .ref x0), (1, .int x1), (3, .int x3), (4, .int x4)] [] 108 (X8_turnsBack_L108 x0 x1 x3 x4) (FLoop (FLoop (FRet injI) 23 (fun (t : Int32) => [(0, .ref x0), (1, .int t)])) 108 (fun (t : Int32) => [(0, .ref x0), (1, .int x1), (3, .int x3), (4, .int t)])) := by
  unfold X8_turnsBack_L108
  refine J_iload dX8_turnsBack_108 3 rfl ?_
  refine J_aload_n dX8_turnsBack_110 rfl 0 rfl ?_
  refine J_getI dX8_turnsBack_111 fl_X8_253 rfl (fun v13 => ?_)
  refine J_icmp_ge (tgt := 181) dX8_turnsBack_114 rfl ?_ ?_
  · refine J_inl ?_
    refine J_sub [0, 1] rfl ?_
    exact j_X8_turnsBack_b181 D dA x0 x1
  refine J_aload_n dX8_turnsBack_117 rfl 0 rfl ?_
  refine J_getA dX8_turnsBack_118 fl_X8_110 rfl (fun v32 => ?_)
  refine J_iconst (v := 5) dX8_turnsBack_121 (by decide) ?_
  refine J_iload_n dX8_turnsBack_122 rfl 1 rfl ?_
  refine J_imul dX8_turnsBack_123 ?_
  refine J_iload dX8_turnsBack_124 3 rfl ?_
  refine J_iadd dX8_turnsBack_126 ?_
  refine J_aload_n dX8_turnsBack_127 rfl 0 rfl ?_
  refine J_getA dX8_turnsBack_128 fl_X8_110 rfl (fun v33 => ?_)
  refine J_iconst (v := 5) dX8_turnsBack_131 (by decide) ?_
  refine J_iload_n dX8_turnsBack_132 rfl 1 rfl ?_
  refine J_imul dX8_turnsBack_133 ?_
  refine J_iload dX8_turnsBack_134 3 rfl ?_
  refine J_iadd dX8_turnsBack_136 ?_
  refine J_iald dX8_turnsBack_137 (fun v34 => ?_)
  refine J_iload_n dX8_turnsBack_138 rfl 2 rfl ?_
  refine J_imul dX8_turnsBack_139 ?_
  refine J_aload_n dX8_turnsBack_140 rfl 0 rfl ?_
  refine J_getI dX8_turnsBack_141 fl_X8_250 rfl (fun v35 => ?_)
  refine J_irem dX8_turnsBack_144 (fun v36 => ?_)
  refine J_iast dX8_turnsBack_145 ?_
  refine J_aload_n dX8_turnsBack_146 rfl 0 rfl ?_
  refine J_getA dX8_turnsBack_147 fl_X8_122 rfl (fun v37 => ?_)
  refine J_iconst (v := 5) dX8_turnsBack_150 (by decide) ?_
  refine J_iload_n dX8_turnsBack_151 rfl 1 rfl ?_
  refine J_imul dX8_turnsBack_152 ?_
  refine J_iload dX8_turnsBack_153 3 rfl ?_
  refine J_iadd dX8_turnsBack_155 ?_
  refine J_aload_n dX8_turnsBack_156 rfl 0 rfl ?_
  refine J_getA dX8_turnsBack_157 fl_X8_122 rfl (fun v38 => ?_)
  refine J_iconst (v := 5) dX8_turnsBack_160 (by decide) ?_
  refine J_iload_n dX8_turnsBack_161 rfl 1 rfl ?_
  refine J_imul dX8_turnsBack_162 ?_
  refine J_iload dX8_turnsBack_163 3 rfl ?_
  refine J_iadd dX8_turnsBack_165 ?_
  refine J_iald dX8_turnsBack_166 (fun v39 => ?_)
  refine J_iload_n dX8_turnsBack_167 rfl 2 rfl ?_
  refine J_imul dX8_turnsBack_168 ?_
  refine J_aload_n dX8_turnsBack_169 rfl 0 rfl ?_
  refine J_getI dX8_turnsBack_170 fl_X8_250 rfl (fun v40 => ?_)
  refine J_irem dX8_turnsBack_173 (fun v41 => ?_)
  refine J_iast dX8_turnsBack_174 ?_
  refine J_iinc (v := x4 + 1) (env' := [(4, .int (x4 + 1)), (0, .ref x0), (1, .int x1), (3, .int x3)]) dX8_turnsBack_175 3 rfl rfl (by decide) rfl ?_
  refine J_goto (tgt := 108) dX8_turnsBack_178 rfl ?_
  exact J_cont [1, 2, 3, 0] rfl
noncomputable def X8_turnsBack_b60 (x0 : Nat) (x1 : Int32) (x2 : Int32) : JM Mem (Int32 ⊕ (Int32)) :=
  jb (jgetI 7 27 x0) fun v7 =>
  if x2 = v7 then
    jinl (jp 0)
  else
  jb (jgetA 7 61 x0) fun v8 =>
  jb (jcall 7 x0 (f_X8_exchange x0 v8 x2 x1)) fun _ =>
  jb (jgetA 7 67 x0) fun v9 =>
  jb (jcall 7 x0 (f_X8_exchange x0 v9 x2 x1)) fun _ =>
  jb (jgetA 7 61 x0) fun v10 =>
  jb (jald mI 0 v10 ((5 * x1) + x1)) fun v11 =>
  jb (jcall 7 x0 (f_X8_inverse x0 v11)) fun v12 =>
  jloop (fun (t : Int32) => X8_turnsBack_L108 x0 x1 v12 t) 0
theorem j_X8_turnsBack_b60 (D : va_G) (dA : Nat → ClassId) (x0 : Nat) (x1 : Int32) (x2 : Int32) : J (PM D dA false) Y_X8_turnsBack [(0, .ref x0), (1, .int x1), (2, .int x2)] [] 60 (X8_turnsBack_b60 x0 x1 x2) (FLoop (FRet injI) 23 (fun (t : Int32) => [(0, .ref x0), (1, .int t)])) := by
  unfold X8_turnsBack_b60
  refine J_iload_n dX8_turnsBack_60 rfl 2 rfl ?_
  refine J_aload_n dX8_turnsBack_61 rfl 0 rfl ?_
  refine J_getI dX8_turnsBack_62 fl_X8_253 rfl (fun v7 => ?_)
  refine J_icmp_ne (tgt := 70) dX8_turnsBack_65 rfl ?_ ?_
  · refine J_aload_n dX8_turnsBack_70 rfl 0 rfl ?_
    refine J_aload_n dX8_turnsBack_71 rfl 0 rfl ?_
    refine J_getA dX8_turnsBack_72 fl_X8_110 rfl (fun v8 => ?_)
    refine J_iload_n dX8_turnsBack_75 rfl 2 rfl ?_
    refine J_iload_n dX8_turnsBack_76 rfl 1 rfl ?_
    refine J_callVV (c := 7) (as := [.ref v8, .int x2, .int x1]) dX8_turnsBack_77 (by decide) rfl (Nat.le_of_ble_eq_true rfl) (cw_X8_exchange _ (by decide)) q2257 q2259 qs156 q2260 np_X8_exchange (i_X8_exchange x0 v8 x2 x1) jad_id rfl ?_
    refine J_aload_n dX8_turnsBack_80 rfl 0 rfl ?_
    refine J_aload_n dX8_turnsBack_81 rfl 0 rfl ?_
    refine J_getA dX8_turnsBack_82 fl_X8_122 rfl (fun v9 => ?_)
    refine J_iload_n dX8_turnsBack_85 rfl 2 rfl ?_
    refine J_iload_n dX8_turnsBack_86 rfl 1 rfl ?_
    refine J_callVV (c := 7) (as := [.ref v9, .int x2, .int x1]) dX8_turnsBack_87 (by decide) rfl (Nat.le_of_ble_eq_true rfl) (cw_X8_exchange _ (by decide)) q2257 q2259 qs156 q2260 np_X8_exchange (i_X8_exchange x0 v9 x2 x1) jad_id rfl ?_
    refine J_aload_n dX8_turnsBack_90 rfl 0 rfl ?_
    refine J_aload_n dX8_turnsBack_91 rfl 0 rfl ?_
    refine J_getA dX8_turnsBack_92 fl_X8_110 rfl (fun v10 => ?_)
    refine J_iconst (v := 5) dX8_turnsBack_95 (by decide) ?_
    refine J_iload_n dX8_turnsBack_96 rfl 1 rfl ?_
    refine J_imul dX8_turnsBack_97 ?_
    refine J_iload_n dX8_turnsBack_98 rfl 1 rfl ?_
    refine J_iadd dX8_turnsBack_99 ?_
    refine J_iald dX8_turnsBack_100 (fun v11 => ?_)
    refine J_callVI (c := 7) (as := [.int v11]) dX8_turnsBack_101 (by decide) rfl (Nat.le_of_ble_eq_true rfl) (cw_X8_inverse _ (by decide)) q1992 q1994 qs111 q1995 np_X8_inverse (i_X8_inverse x0 v11) jad_id rfl (fun v12 => ?_)
    refine J_istore_n (env' := [(3, .int v12), (0, .ref x0), (1, .int x1), (2, .int x2)]) dX8_turnsBack_104 rfl (by decide) rfl ?_
    refine J_iconst (v := 0) dX8_turnsBack_105 (by decide) ?_
    refine J_istore (env' := [(4, .int 0), (3, .int v12), (0, .ref x0), (1, .int x1), (2, .int x2)]) dX8_turnsBack_106 (by decide) rfl ?_
    refine J_loop (he := fun (t : Int32) => [(0, .ref x0), (1, .int x1), (3, .int v12), (4, .int t)]) [2, 3, 1, 0] rfl (fun t => ?_)
    exact j_X8_turnsBack_L108 D dA x0 x1 v12 t
  refine J_inl ?_
  refine J_iconst (v := 0) dX8_turnsBack_68 (by decide) ?_
  exact J_zreturn0 dX8_turnsBack_69 rfl
noncomputable def X8_turnsBack_L33 (x0 : Nat) (x1 : Int32) (x2 : Int32) : JM Mem ((Int32 ⊕ (Int32)) ⊕ (Int32)) :=
  jb (jgetI 7 27 x0) fun v6 =>
  if v6 ≤ x2 then
    jinl (X8_turnsBack_b60 x0 x1 x2)
  else
  jb (jgetA 7 61 x0) fun v42 =>
  jb (jald mI 0 v42 ((5 * x2) + x1)) fun v43 =>
  if v43 = 0 then
    jcont (x2 + 1)
  else
    jinl (X8_turnsBack_b60 x0 x1 x2)
theorem j_X8_turnsBack_L33 (D : va_G) (dA : Nat → ClassId) (x0 : Nat) (x1 : Int32) (x2 : Int32) : J (PM D dA false) Y_X8_turnsBack [(0, .ref x0), (1, .int x1), (2, .int x2)] [] 33 (X8_turnsBack_L33 x0 x1 x2) (FLoop (FLoop (FRet injI) 23 (fun (t : Int32) => [(0, .ref x0), (1, .int t)])) 33 (fun (t : Int32) => [(0, .ref x0), (1, .int x1), (2, .int t)])) := by
  unfold X8_turnsBack_L33
  refine J_iload_n dX8_turnsBack_33 rfl 2 rfl ?_
  refine J_aload_n dX8_turnsBack_34 rfl 0 rfl ?_
  refine J_getI dX8_turnsBack_35 fl_X8_253 rfl (fun v6 => ?_)
  refine J_icmp_ge (tgt := 60) dX8_turnsBack_38 rfl ?_ ?_
  · refine J_inl ?_
    refine J_sub [0, 1, 2] rfl ?_
    exact j_X8_turnsBack_b60 D dA x0 x1 x2
  refine J_aload_n dX8_turnsBack_41 rfl 0 rfl ?_
  refine J_getA dX8_turnsBack_42 fl_X8_110 rfl (fun v42 => ?_)
  refine J_iconst (v := 5) dX8_turnsBack_45 (by decide) ?_
  refine J_iload_n dX8_turnsBack_46 rfl 2 rfl ?_
  refine J_imul dX8_turnsBack_47 ?_
  refine J_iload_n dX8_turnsBack_48 rfl 1 rfl ?_
  refine J_iadd dX8_turnsBack_49 ?_
  refine J_iald dX8_turnsBack_50 (fun v43 => ?_)
  refine J_if_ne (tgt := 60) dX8_turnsBack_51 rfl ?_ ?_
  · refine J_inl ?_
    refine J_sub [0, 1, 2] rfl ?_
    exact j_X8_turnsBack_b60 D dA x0 x1 x2
  refine J_iinc (v := x2 + 1) (env' := [(2, .int (x2 + 1)), (0, .ref x0), (1, .int x1)]) dX8_turnsBack_54 2 rfl rfl (by decide) rfl ?_
  refine J_goto (tgt := 33) dX8_turnsBack_57 rfl ?_
  exact J_cont [1, 2, 0] rfl
noncomputable def X8_turnsBack_L23 (x0 : Nat) (x1 : Int32) : JM Mem (Int32 ⊕ (Int32)) :=
  jb (jgetI 7 27 x0) fun v5 =>
  if v5 ≤ x1 then
    jinl (jp 1)
  else
    jloop (fun (t : Int32) => X8_turnsBack_L33 x0 x1 t) x1
theorem j_X8_turnsBack_L23 (D : va_G) (dA : Nat → ClassId) (x0 : Nat) (x1 : Int32) : J (PM D dA false) Y_X8_turnsBack [(0, .ref x0), (1, .int x1)] [] 23 (X8_turnsBack_L23 x0 x1) (FLoop (FRet injI) 23 (fun (t : Int32) => [(0, .ref x0), (1, .int t)])) := by
  unfold X8_turnsBack_L23
  refine J_iload_n dX8_turnsBack_23 rfl 1 rfl ?_
  refine J_aload_n dX8_turnsBack_24 rfl 0 rfl ?_
  refine J_getI dX8_turnsBack_25 fl_X8_253 rfl (fun v5 => ?_)
  refine J_icmp_ge (tgt := 343) dX8_turnsBack_28 rfl ?_ ?_
  · refine J_inl ?_
    refine J_iconst (v := 1) dX8_turnsBack_343 (by decide) ?_
    exact J_zreturn1 dX8_turnsBack_344 rfl
  refine J_iload_n dX8_turnsBack_31 rfl 1 rfl ?_
  refine J_istore_n (env' := [(2, .int x1), (0, .ref x0), (1, .int x1)]) dX8_turnsBack_32 rfl (by decide) rfl ?_
  refine J_loop (he := fun (t : Int32) => [(0, .ref x0), (1, .int x1), (2, .int t)]) [1, 2, 0] rfl (fun t => ?_)
  exact j_X8_turnsBack_L33 D dA x0 x1 t
noncomputable def f_X8_turnsBack (x0 : Nat) : JM Mem Int32 :=
  jb (jgetA 7 66 x0) fun v1 =>
  jb (jgetA 7 61 x0) fun v2 =>
  jb (jcall 7 x0 (f_X8_copySpan x0 v1 v2)) fun _ =>
  jb (jgetA 7 67 x0) fun v3 =>
  jb (jcall 7 x0 (f_X8_wholeSpan x0 v3)) fun v4 =>
  jloop (fun (t : Int32) => X8_turnsBack_L23 x0 t) 0
theorem j_X8_turnsBack (D : va_G) (dA : Nat → ClassId) (x0 : Nat) : J (PM D dA false) Y_X8_turnsBack [(0, .ref x0)] [] 0 (f_X8_turnsBack x0) (FRet injI) := by
  unfold f_X8_turnsBack
  refine J_aload_n dX8_turnsBack_0 rfl 0 rfl ?_
  refine J_aload_n dX8_turnsBack_1 rfl 0 rfl ?_
  refine J_getA dX8_turnsBack_2 fl_X8_119 rfl (fun v1 => ?_)
  refine J_aload_n dX8_turnsBack_5 rfl 0 rfl ?_
  refine J_getA dX8_turnsBack_6 fl_X8_110 rfl (fun v2 => ?_)
  refine J_callVV (c := 7) (as := [.ref v1, .ref v2]) dX8_turnsBack_9 (by decide) rfl (Nat.le_of_ble_eq_true rfl) (cw_X8_copySpan _ (by decide)) q1996 q1998 qs112 q1999 np_X8_copySpan (i_X8_copySpan x0 v1 v2) jad_id rfl ?_
  refine J_aload_n dX8_turnsBack_12 rfl 0 rfl ?_
  refine J_aload_n dX8_turnsBack_13 rfl 0 rfl ?_
  refine J_getA dX8_turnsBack_14 fl_X8_122 rfl (fun v3 => ?_)
  refine J_callVI (c := 7) (as := [.ref v3]) dX8_turnsBack_17 (by decide) rfl (Nat.le_of_ble_eq_true rfl) (cw_X8_wholeSpan _ (by decide)) q2000 q2002 qs113 q2003 np_X8_wholeSpan (i_X8_wholeSpan x0 v3) jad_id rfl (fun v4 => ?_)
  refine J_pop dX8_turnsBack_20 rfl ?_
  refine J_iconst (v := 0) dX8_turnsBack_21 (by decide) ?_
  refine J_istore_n (env' := [(1, .int 0), (0, .ref x0)]) dX8_turnsBack_22 rfl (by decide) rfl ?_
  refine J_loop (he := fun (t : Int32) => [(0, .ref x0), (1, .int t)]) [1, 0] rfl (fun t => ?_)
  exact j_X8_turnsBack_L23 D dA x0 t
theorem i_X8_turnsBack (x0 : Nat) : Impl (ws_ yX8_turnsBack cX8_turnsBack 7 (some .boolean)) yX8_turnsBack 2 false 0 0 [.ref x0] (f_X8_turnsBack x0) injI := impl_of (plainFor_of_name (by decide)) (Nat.le_of_ble_eq_true rfl) (fun D dA => j_X8_turnsBack D dA x0)
theorem cw_X8_turnsBack (Y : JY) (h : 3 ≤ Y.2.2.2.1) : JCw Y (ws_ yX8_turnsBack cX8_turnsBack 7 (some .boolean)) yX8_turnsBack cX8_turnsBack 7 (some .boolean) 2 := ⟨h, by decide, lw_meth q2256, q198, by decide, by decide⟩
theorem np_X8_turnsBack : JNp yX8_turnsBack.desc 0 := by decide +kernel
-- BracketRoomModel.changeInto()Z
abbrev Y_X8_changeInto : JY := (cX8_changeInto, yX8_changeInto.cls, 6, 4, yX8_changeInto.name, (some .boolean), [])
noncomputable def X8_changeInto_b149 (x0 : Nat) (x1 : Int32) : JM Mem (Int32 ⊕ (Int32)) :=
  jcont (x1 + 1)
theorem j_X8_changeInto_b149 (D : va_G) (dA : Nat → ClassId) (x0 : Nat) (x1 : Int32) : J (PM D dA false) Y_X8_changeInto [(0, .ref x0), (1, .int x1)] [] 149 (X8_changeInto_b149 x0 x1) (FLoop (FRet injI) 27 (fun (t : Int32) => [(0, .ref x0), (1, .int t)])) := by
  unfold X8_changeInto_b149
  refine J_iinc (v := x1 + 1) (env' := [(1, .int (x1 + 1)), (0, .ref x0)]) dX8_changeInto_149 1 rfl rfl (by decide) rfl ?_
  refine J_goto (tgt := 27) dX8_changeInto_152 rfl ?_
  exact J_cont [1, 0] rfl
noncomputable def X8_changeInto_b143 (x0 : Nat) (x1 : Int32) (x2 : Int32) : JM Mem ((Int32 ⊕ (Int32)) ⊕ (Int32)) :=
  jcont (x2 + 1)
theorem j_X8_changeInto_b143 (D : va_G) (dA : Nat → ClassId) (x0 : Nat) (x1 : Int32) (x2 : Int32) : J (PM D dA false) Y_X8_changeInto [(0, .ref x0), (1, .int x1), (2, .int x2)] [] 143 (X8_changeInto_b143 x0 x1 x2) (FLoop (FLoop (FRet injI) 27 (fun (t : Int32) => [(0, .ref x0), (1, .int t)])) 39 (fun (t : Int32) => [(0, .ref x0), (1, .int x1), (2, .int t)])) := by
  unfold X8_changeInto_b143
  refine J_iinc (v := x2 + 1) (env' := [(2, .int (x2 + 1)), (0, .ref x0), (1, .int x1)]) dX8_changeInto_143 2 rfl rfl (by decide) rfl ?_
  refine J_goto (tgt := 39) dX8_changeInto_146 rfl ?_
  exact J_cont [1, 2, 0] rfl
noncomputable def X8_changeInto_b124 (x0 : Nat) (x1 : Int32) (x2 : Int32) (x3 : Int32) (x4 : Int32) : JM Mem (((Int32 ⊕ (Int32)) ⊕ (Int32)) ⊕ (Int32)) :=
  jb (jgetA 7 21 x0) fun v13 =>
  jb ((f_X8_set v13 0 x1 x2 x3 x4)) fun _ =>
  jcont (x3 + 1)
theorem j_X8_changeInto_b124 (D : va_G) (dA : Nat → ClassId) (x0 : Nat) (x1 : Int32) (x2 : Int32) (x3 : Int32) (x4 : Int32) : J (PM D dA false) Y_X8_changeInto [(0, .ref x0), (1, .int x1), (2, .int x2), (3, .int x3), (4, .int x4)] [] 124 (X8_changeInto_b124 x0 x1 x2 x3 x4) (FLoop (FLoop (FLoop (FRet injI) 27 (fun (t : Int32) => [(0, .ref x0), (1, .int t)])) 39 (fun (t : Int32) => [(0, .ref x0), (1, .int x1), (2, .int t)])) 71 (fun (t : Int32) => [(0, .ref x0), (1, .int x1), (2, .int x2), (3, .int t)])) := by
  unfold X8_changeInto_b124
  refine J_aload_n dX8_changeInto_124 rfl 0 rfl ?_
  refine J_getA dX8_changeInto_125 fl_X8_41 rfl (fun v13 => ?_)
  refine J_iconst (v := 0) dX8_changeInto_128 (by decide) ?_
  refine J_iload_n dX8_changeInto_129 rfl 1 rfl ?_
  refine J_iload_n dX8_changeInto_130 rfl 2 rfl ?_
  refine J_iload_n dX8_changeInto_131 rfl 3 rfl ?_
  refine J_iload dX8_changeInto_132 4 rfl ?_
  refine J_callSV (host := "") (as := [.ref v13, .int 0, .int x1, .int x2, .int x3, .int x4]) dX8_changeInto_134 rfl (Nat.le_of_ble_eq_true rfl) (cw_X8_set _ (by decide)) q1844 q1845 q1846 np_X8_set (i_X8_set v13 0 x1 x2 x3 x4) jad_id rfl ?_
  refine J_iinc (v := x3 + 1) (env' := [(3, .int (x3 + 1)), (0, .ref x0), (1, .int x1), (2, .int x2), (4, .int x4)]) dX8_changeInto_137 3 rfl rfl (by decide) rfl ?_
  refine J_goto (tgt := 71) dX8_changeInto_140 rfl ?_
  exact J_cont [1, 2, 3, 0] rfl
noncomputable def X8_changeInto_L85 (x0 : Nat) (x1 : Int32) (x2 : Int32) (x3 : Int32) (x4 : Int32) (x5 : Int32) : JM Mem ((((Int32 ⊕ (Int32)) ⊕ (Int32)) ⊕ (Int32)) ⊕ (Int32 × Int32)) :=
  jb (jgetI 7 27 x0) fun v12 =>
  if v12 ≤ x5 then
    jinl (X8_changeInto_b124 x0 x1 x2 x3 x4)
  else
  jb (jgetA 7 36 x0) fun v14 =>
  jb (jald mI 0 v14 x5) fun v15 =>
  jb (jgetA 7 67 x0) fun v16 =>
  jb (jald mI 0 v16 ((5 * x5) + x3)) fun v17 =>
  jlet (x4 + (v15 * v17)) fun y18 =>
  jcont (y18, x5 + 1)
theorem j_X8_changeInto_L85 (D : va_G) (dA : Nat → ClassId) (x0 : Nat) (x1 : Int32) (x2 : Int32) (x3 : Int32) (x4 : Int32) (x5 : Int32) : J (PM D dA false) Y_X8_changeInto [(0, .ref x0), (1, .int x1), (2, .int x2), (3, .int x3), (4, .int x4), (5, .int x5)] [] 85 (X8_changeInto_L85 x0 x1 x2 x3 x4 x5) (FLoop (FLoop (FLoop (FLoop (FRet injI) 27 (fun (t : Int32) => [(0, .ref x0), (1, .int t)])) 39 (fun (t : Int32) => [(0, .ref x0), (1, .int x1), (2, .int t)])) 71 (fun (t : Int32) => [(0, .ref x0), (1, .int x1), (2, .int x2), (3, .int t)])) 85 (fun (t : Int32 × Int32) => [(0, .ref x0), (1, .int x1), (2, .int x2), (3, .int x3), (4, .int t.1), (5, .int t.2)])) := by
  unfold X8_changeInto_L85
  refine J_iload dX8_changeInto_85 5 rfl ?_
  refine J_aload_n dX8_changeInto_87 rfl 0 rfl ?_
  refine J_getI dX8_changeInto_88 fl_X8_253 rfl (fun v12 => ?_)
  refine J_icmp_ge (tgt := 124) dX8_changeInto_91 rfl ?_ ?_
  · refine J_inl ?_
    refine J_sub [0, 1, 2, 3, 4] rfl ?_
    exact j_X8_changeInto_b124 D dA x0 x1 x2 x3 x4
  refine J_iload dX8_changeInto_94 4 rfl ?_
  refine J_aload_n dX8_changeInto_96 rfl 0 rfl ?_
  refine J_getA dX8_changeInto_97 fl_X8_71 rfl (fun v14 => ?_)
  refine J_iload dX8_changeInto_100 5 rfl ?_
  refine J_iald dX8_changeInto_102 (fun v15 => ?_)
  refine J_aload_n dX8_changeInto_103 rfl 0 rfl ?_
  refine J_getA dX8_changeInto_104 fl_X8_122 rfl (fun v16 => ?_)
  refine J_iconst (v := 5) dX8_changeInto_107 (by decide) ?_
  refine J_iload dX8_changeInto_108 5 rfl ?_
  refine J_imul dX8_changeInto_110 ?_
  refine J_iload_n dX8_changeInto_111 rfl 3 rfl ?_
  refine J_iadd dX8_changeInto_112 ?_
  refine J_iald dX8_changeInto_113 (fun v17 => ?_)
  refine J_imul dX8_changeInto_114 ?_
  refine J_iadd dX8_changeInto_115 ?_
  refine J_letI (fun y18 => ?_)
  refine J_istore (env' := [(4, .int y18), (0, .ref x0), (1, .int x1), (2, .int x2), (3, .int x3), (5, .int x5)]) dX8_changeInto_116 (by decide) rfl ?_
  refine J_iinc (v := x5 + 1) (env' := [(5, .int (x5 + 1)), (4, .int y18), (0, .ref x0), (1, .int x1), (2, .int x2), (3, .int x3)]) dX8_changeInto_118 5 rfl rfl (by decide) rfl ?_
  refine J_goto (tgt := 85) dX8_changeInto_121 rfl ?_
  exact J_cont [2, 3, 4, 5, 1, 0] rfl
noncomputable def X8_changeInto_L71 (x0 : Nat) (x1 : Int32) (x2 : Int32) (x3 : Int32) : JM Mem (((Int32 ⊕ (Int32)) ⊕ (Int32)) ⊕ (Int32)) :=
  jb (jgetI 7 27 x0) fun v11 =>
  if v11 ≤ x3 then
    jinl (X8_changeInto_b143 x0 x1 x2)
  else
    jloop (fun (t : Int32 × Int32) => X8_changeInto_L85 x0 x1 x2 x3 t.1 t.2) (0, 0)
theorem j_X8_changeInto_L71 (D : va_G) (dA : Nat → ClassId) (x0 : Nat) (x1 : Int32) (x2 : Int32) (x3 : Int32) : J (PM D dA false) Y_X8_changeInto [(0, .ref x0), (1, .int x1), (2, .int x2), (3, .int x3)] [] 71 (X8_changeInto_L71 x0 x1 x2 x3) (FLoop (FLoop (FLoop (FRet injI) 27 (fun (t : Int32) => [(0, .ref x0), (1, .int t)])) 39 (fun (t : Int32) => [(0, .ref x0), (1, .int x1), (2, .int t)])) 71 (fun (t : Int32) => [(0, .ref x0), (1, .int x1), (2, .int x2), (3, .int t)])) := by
  unfold X8_changeInto_L71
  refine J_iload_n dX8_changeInto_71 rfl 3 rfl ?_
  refine J_aload_n dX8_changeInto_72 rfl 0 rfl ?_
  refine J_getI dX8_changeInto_73 fl_X8_253 rfl (fun v11 => ?_)
  refine J_icmp_ge (tgt := 143) dX8_changeInto_76 rfl ?_ ?_
  · refine J_inl ?_
    refine J_sub [0, 1, 2] rfl ?_
    exact j_X8_changeInto_b143 D dA x0 x1 x2
  refine J_iconst (v := 0) dX8_changeInto_79 (by decide) ?_
  refine J_istore (env' := [(4, .int 0), (0, .ref x0), (1, .int x1), (2, .int x2), (3, .int x3)]) dX8_changeInto_80 (by decide) rfl ?_
  refine J_iconst (v := 0) dX8_changeInto_82 (by decide) ?_
  refine J_istore (env' := [(5, .int 0), (4, .int 0), (0, .ref x0), (1, .int x1), (2, .int x2), (3, .int x3)]) dX8_changeInto_83 (by decide) rfl ?_
  refine J_loop (he := fun (t : Int32 × Int32) => [(0, .ref x0), (1, .int x1), (2, .int x2), (3, .int x3), (4, .int t.1), (5, .int t.2)]) [2, 3, 4, 5, 1, 0] rfl (fun t => ?_)
  exact j_X8_changeInto_L85 D dA x0 x1 x2 x3 t.1 t.2
noncomputable def X8_changeInto_L39 (x0 : Nat) (x1 : Int32) (x2 : Int32) : JM Mem ((Int32 ⊕ (Int32)) ⊕ (Int32)) :=
  jb (jgetI 7 27 x0) fun v7 =>
  if v7 ≤ x2 then
    jinl (X8_changeInto_b149 x0 x1)
  else
  jb (jgetA 7 66 x0) fun v8 =>
  jb (jgetA 7 66 x0) fun v9 =>
  jb (jgetA 7 36 x0) fun v10 =>
  jb (jcall 7 x0 (f_X8_bracketOf x0 v8 (5 * x1) v9 (5 * x2) v10)) fun _ =>
  jloop (fun (t : Int32) => X8_changeInto_L71 x0 x1 x2 t) 0
theorem j_X8_changeInto_L39 (D : va_G) (dA : Nat → ClassId) (x0 : Nat) (x1 : Int32) (x2 : Int32) : J (PM D dA false) Y_X8_changeInto [(0, .ref x0), (1, .int x1), (2, .int x2)] [] 39 (X8_changeInto_L39 x0 x1 x2) (FLoop (FLoop (FRet injI) 27 (fun (t : Int32) => [(0, .ref x0), (1, .int t)])) 39 (fun (t : Int32) => [(0, .ref x0), (1, .int x1), (2, .int t)])) := by
  unfold X8_changeInto_L39
  refine J_iload_n dX8_changeInto_39 rfl 2 rfl ?_
  refine J_aload_n dX8_changeInto_40 rfl 0 rfl ?_
  refine J_getI dX8_changeInto_41 fl_X8_253 rfl (fun v7 => ?_)
  refine J_icmp_ge (tgt := 149) dX8_changeInto_44 rfl ?_ ?_
  · refine J_inl ?_
    refine J_sub [0, 1] rfl ?_
    exact j_X8_changeInto_b149 D dA x0 x1
  refine J_aload_n dX8_changeInto_47 rfl 0 rfl ?_
  refine J_aload_n dX8_changeInto_48 rfl 0 rfl ?_
  refine J_getA dX8_changeInto_49 fl_X8_119 rfl (fun v8 => ?_)
  refine J_iconst (v := 5) dX8_changeInto_52 (by decide) ?_
  refine J_iload_n dX8_changeInto_53 rfl 1 rfl ?_
  refine J_imul dX8_changeInto_54 ?_
  refine J_aload_n dX8_changeInto_55 rfl 0 rfl ?_
  refine J_getA dX8_changeInto_56 fl_X8_119 rfl (fun v9 => ?_)
  refine J_iconst (v := 5) dX8_changeInto_59 (by decide) ?_
  refine J_iload_n dX8_changeInto_60 rfl 2 rfl ?_
  refine J_imul dX8_changeInto_61 ?_
  refine J_aload_n dX8_changeInto_62 rfl 0 rfl ?_
  refine J_getA dX8_changeInto_63 fl_X8_71 rfl (fun v10 => ?_)
  refine J_callVV (c := 7) (as := [.ref v8, .int (5 * x1), .ref v9, .int (5 * x2), .ref v10]) dX8_changeInto_66 (by decide) rfl (Nat.le_of_ble_eq_true rfl) (cw_X8_bracketOf _ (by decide)) q1911 q1913 qs97 q1914 np_X8_bracketOf (i_X8_bracketOf x0 v8 (5 * x1) v9 (5 * x2) v10) jad_id rfl ?_
  refine J_iconst (v := 0) dX8_changeInto_69 (by decide) ?_
  refine J_istore_n (env' := [(3, .int 0), (0, .ref x0), (1, .int x1), (2, .int x2)]) dX8_changeInto_70 rfl (by decide) rfl ?_
  refine J_loop (he := fun (t : Int32) => [(0, .ref x0), (1, .int x1), (2, .int x2), (3, .int t)]) [1, 2, 3, 0] rfl (fun t => ?_)
  exact j_X8_changeInto_L71 D dA x0 x1 x2 t
noncomputable def X8_changeInto_L27 (x0 : Nat) (x1 : Int32) : JM Mem (Int32 ⊕ (Int32)) :=
  jb (jgetI 7 27 x0) fun v5 =>
  if v5 ≤ x1 then
    jinl (jp 1)
  else
  jlet (x1 + 1) fun y6 =>
  jloop (fun (t : Int32) => X8_changeInto_L39 x0 x1 t) y6
theorem j_X8_changeInto_L27 (D : va_G) (dA : Nat → ClassId) (x0 : Nat) (x1 : Int32) : J (PM D dA false) Y_X8_changeInto [(0, .ref x0), (1, .int x1)] [] 27 (X8_changeInto_L27 x0 x1) (FLoop (FRet injI) 27 (fun (t : Int32) => [(0, .ref x0), (1, .int t)])) := by
  unfold X8_changeInto_L27
  refine J_iload_n dX8_changeInto_27 rfl 1 rfl ?_
  refine J_aload_n dX8_changeInto_28 rfl 0 rfl ?_
  refine J_getI dX8_changeInto_29 fl_X8_253 rfl (fun v5 => ?_)
  refine J_icmp_ge (tgt := 155) dX8_changeInto_32 rfl ?_ ?_
  · refine J_inl ?_
    refine J_iconst (v := 1) dX8_changeInto_155 (by decide) ?_
    exact J_zreturn1 dX8_changeInto_156 rfl
  refine J_iload_n dX8_changeInto_35 rfl 1 rfl ?_
  refine J_iconst (v := 1) dX8_changeInto_36 (by decide) ?_
  refine J_iadd dX8_changeInto_37 ?_
  refine J_letI (fun y6 => ?_)
  refine J_istore_n (env' := [(2, .int y6), (0, .ref x0), (1, .int x1)]) dX8_changeInto_38 rfl (by decide) rfl ?_
  refine J_loop (he := fun (t : Int32) => [(0, .ref x0), (1, .int x1), (2, .int t)]) [1, 2, 0] rfl (fun t => ?_)
  exact j_X8_changeInto_L39 D dA x0 x1 t
noncomputable def f_X8_changeInto (x0 : Nat) : JM Mem Int32 :=
  jb (jcall 7 x0 (f_X8_turnsBack x0)) fun v1 =>
  if v1 = 0 then
    jp 0
  else
  jb (jgetA 7 21 x0) fun v2 =>
  jb (jgetI 7 26 x0) fun v3 =>
  jb (jgetI 7 27 x0) fun v4 =>
  jb ((f_X8_clear v2 0 v3 v4)) fun _ =>
  jloop (fun (t : Int32) => X8_changeInto_L27 x0 t) 0
theorem j_X8_changeInto (D : va_G) (dA : Nat → ClassId) (x0 : Nat) : J (PM D dA false) Y_X8_changeInto [(0, .ref x0)] [] 0 (f_X8_changeInto x0) (FRet injI) := by
  unfold f_X8_changeInto
  refine J_aload_n dX8_changeInto_0 rfl 0 rfl ?_
  refine J_callVI (c := 7) (as := []) dX8_changeInto_1 (by decide) rfl (Nat.le_of_ble_eq_true rfl) (cw_X8_turnsBack _ (by decide)) q2253 q2255 qs155 q2256 np_X8_turnsBack (i_X8_turnsBack x0) jad_id rfl (fun v1 => ?_)
  refine J_if_ne (tgt := 9) dX8_changeInto_4 rfl ?_ ?_
  · refine J_aload_n dX8_changeInto_9 rfl 0 rfl ?_
    refine J_getA dX8_changeInto_10 fl_X8_41 rfl (fun v2 => ?_)
    refine J_iconst (v := 0) dX8_changeInto_13 (by decide) ?_
    refine J_aload_n dX8_changeInto_14 rfl 0 rfl ?_
    refine J_getI dX8_changeInto_15 fl_X8_250 rfl (fun v3 => ?_)
    refine J_aload_n dX8_changeInto_18 rfl 0 rfl ?_
    refine J_getI dX8_changeInto_19 fl_X8_253 rfl (fun v4 => ?_)
    refine J_callSV (host := "") (as := [.ref v2, .int 0, .int v3, .int v4]) dX8_changeInto_22 rfl (Nat.le_of_ble_eq_true rfl) (cw_X8_clear _ (by decide)) q1815 q1816 q1817 np_X8_clear (i_X8_clear v2 0 v3 v4) jad_id rfl ?_
    refine J_iconst (v := 0) dX8_changeInto_25 (by decide) ?_
    refine J_istore_n (env' := [(1, .int 0), (0, .ref x0)]) dX8_changeInto_26 rfl (by decide) rfl ?_
    refine J_loop (he := fun (t : Int32) => [(0, .ref x0), (1, .int t)]) [1, 0] rfl (fun t => ?_)
    exact j_X8_changeInto_L27 D dA x0 t
  refine J_iconst (v := 0) dX8_changeInto_7 (by decide) ?_
  exact J_zreturn0 dX8_changeInto_8 rfl
theorem i_X8_changeInto (x0 : Nat) : Impl (ws_ yX8_changeInto cX8_changeInto 6 (some .boolean)) yX8_changeInto 4 false 0 0 [.ref x0] (f_X8_changeInto x0) injI := impl_of (plainFor_of_name (by decide)) (Nat.le_of_ble_eq_true rfl) (fun D dA => j_X8_changeInto D dA x0)
theorem cw_X8_changeInto (Y : JY) (h : 5 ≤ Y.2.2.2.1) : JCw Y (ws_ yX8_changeInto cX8_changeInto 6 (some .boolean)) yX8_changeInto cX8_changeInto 6 (some .boolean) 4 := ⟨h, by decide, lw_meth q2252, q198, by decide, by decide⟩
theorem np_X8_changeInto : JNp yX8_changeInto.desc 0 := by decide +kernel
-- BracketRoomModel.takeOther()V
abbrev Y_X8_takeOther : JY := (cX8_takeOther, yX8_takeOther.cls, 1, 2, yX8_takeOther.name, none, [])
noncomputable def f_X8_takeOther (x0 : Nat) : JM Mem Unit :=
  jb (jgetA 7 21 x0) fun v1 =>
  jb (jgetA 7 19 x0) fun v2 =>
  jb (jcall 7 x0 (f_X8_move x0 v1 0 v2 0)) fun _ =>
  jp ()
theorem j_X8_takeOther (D : va_G) (dA : Nat → ClassId) (x0 : Nat) : J (PM D dA false) Y_X8_takeOther [(0, .ref x0)] [] 0 (f_X8_takeOther x0) (FRet injU) := by
  unfold f_X8_takeOther
  refine J_aload_n dX8_takeOther_0 rfl 0 rfl ?_
  refine J_aload_n dX8_takeOther_1 rfl 0 rfl ?_
  refine J_getA dX8_takeOther_2 fl_X8_41 rfl (fun v1 => ?_)
  refine J_iconst (v := 0) dX8_takeOther_5 (by decide) ?_
  refine J_aload_n dX8_takeOther_6 rfl 0 rfl ?_
  refine J_getA dX8_takeOther_7 fl_X8_35 rfl (fun v2 => ?_)
  refine J_iconst (v := 0) dX8_takeOther_10 (by decide) ?_
  refine J_callVV (c := 7) (as := [.ref v1, .int 0, .ref v2, .int 0]) dX8_takeOther_11 (by decide) rfl (Nat.le_of_ble_eq_true rfl) (cw_X8_move _ (by decide)) q1854 q1856 qs87 q1857 np_X8_move (i_X8_move x0 v1 0 v2 0) jad_id rfl ?_
  exact J_return dX8_takeOther_14 rfl
theorem i_X8_takeOther (x0 : Nat) : Impl (ws_ yX8_takeOther cX8_takeOther 1 none) yX8_takeOther 2 false 0 0 [.ref x0] (f_X8_takeOther x0) injU := impl_of (plainFor_of_name (by decide)) (Nat.le_of_ble_eq_true rfl) (fun D dA => j_X8_takeOther D dA x0)
theorem cw_X8_takeOther (Y : JY) (h : 3 ≤ Y.2.2.2.1) : JCw Y (ws_ yX8_takeOther cX8_takeOther 1 none) yX8_takeOther cX8_takeOther 1 none 2 := ⟨h, by decide, lw_meth q2264, q198, by decide, by decide⟩
theorem np_X8_takeOther : JNp yX8_takeOther.desc 0 := by decide +kernel
-- BracketRoomModel.change(I)Z
abbrev Y_X8_change : JY := (cX8_change, yX8_change.cls, 3, 5, yX8_change.name, (some .boolean), [])
noncomputable def X8_change_b162 (x0 : Nat) : JM Mem Int32 :=
  jb (jcall 7 x0 (f_X8_changeInto x0)) fun v12 =>
  if v12 = 0 then
    jb (jcall 7 x0 (f_X8_no x0 9)) fun v13 =>
    jrz v13
  else
  jb (jcall 7 x0 (f_X8_takeOther x0)) fun _ =>
  jp 1
theorem j_X8_change_b162 (D : va_G) (dA : Nat → ClassId) (x0 : Nat) : J (PM D dA false) Y_X8_change [(0, .ref x0)] [] 162 (X8_change_b162 x0) (FRet injI) := by
  unfold X8_change_b162
  refine J_aload_n dX8_change_162 rfl 0 rfl ?_
  refine J_callVI (c := 7) (as := []) dX8_change_163 (by decide) rfl (Nat.le_of_ble_eq_true rfl) (cw_X8_changeInto _ (by decide)) q2249 q2251 qs154 q2252 np_X8_changeInto (i_X8_changeInto x0) jad_id rfl (fun v12 => ?_)
  refine J_if_ne (tgt := 176) dX8_change_166 rfl ?_ ?_
  · refine J_aload_n dX8_change_176 rfl 0 rfl ?_
    refine J_callVV (c := 7) (as := []) dX8_change_177 (by decide) rfl (Nat.le_of_ble_eq_true rfl) (cw_X8_takeOther _ (by decide)) q2261 q2263 qs157 q2264 np_X8_takeOther (i_X8_takeOther x0) jad_id rfl ?_
    refine J_iconst (v := 1) dX8_change_180 (by decide) ?_
    exact J_zreturn1 dX8_change_181 rfl
  refine J_aload_n dX8_change_169 rfl 0 rfl ?_
  refine J_bipush (v := 9) dX8_change_170 (by decide) ?_
  refine J_callVI (c := 7) (as := [.int 9]) dX8_change_172 (by decide) rfl (Nat.le_of_ble_eq_true rfl) (cw_X8_no _ (by decide)) q1702 q1704 qs64 q1705 np_X8_no (i_X8_no x0 9) jad_id rfl (fun v13 => ?_)
  exact J_zreturn dX8_change_175 rfl
noncomputable def X8_change_L116 (x0 : Nat) (x1 : Int32) (x2 : Int32) : JM Mem (Int32 ⊕ (Int32)) :=
  jb (jgetI 7 27 x0) fun v10 =>
  jb (jgetI 7 27 x0) fun v11 =>
  if v10 * v11 ≤ x2 then
    jinl (X8_change_b162 x0)
  else
  jb (jgetA 7 66 x0) fun v14 =>
  jb (jgetI 7 27 x0) fun v15 =>
  jb (jdiv x2 v15) fun v16 =>
  jb (jgetI 7 27 x0) fun v17 =>
  jb (jrem x2 v17) fun v18 =>
  jb (jcall 7 x0 (f_X8_numberOf x0 x1 x2)) fun v19 =>
  jb (jast_i v14 ((5 * v16) + v18) ((v19 : Int64).toInt32)) fun _ =>
  jcont (x2 + 1)
theorem j_X8_change_L116 (D : va_G) (dA : Nat → ClassId) (x0 : Nat) (x1 : Int32) (x2 : Int32) : J (PM D dA false) Y_X8_change [(0, .ref x0), (1, .int x1), (2, .int x2)] [] 116 (X8_change_L116 x0 x1 x2) (FLoop (FRet injI) 116 (fun (t : Int32) => [(0, .ref x0), (1, .int x1), (2, .int t)])) := by
  unfold X8_change_L116
  refine J_iload_n dX8_change_116 rfl 2 rfl ?_
  refine J_aload_n dX8_change_117 rfl 0 rfl ?_
  refine J_getI dX8_change_118 fl_X8_253 rfl (fun v10 => ?_)
  refine J_aload_n dX8_change_121 rfl 0 rfl ?_
  refine J_getI dX8_change_122 fl_X8_253 rfl (fun v11 => ?_)
  refine J_imul dX8_change_125 ?_
  refine J_icmp_ge (tgt := 162) dX8_change_126 rfl ?_ ?_
  · refine J_inl ?_
    refine J_sub [0] rfl ?_
    exact j_X8_change_b162 D dA x0
  refine J_aload_n dX8_change_129 rfl 0 rfl ?_
  refine J_getA dX8_change_130 fl_X8_119 rfl (fun v14 => ?_)
  refine J_iconst (v := 5) dX8_change_133 (by decide) ?_
  refine J_iload_n dX8_change_134 rfl 2 rfl ?_
  refine J_aload_n dX8_change_135 rfl 0 rfl ?_
  refine J_getI dX8_change_136 fl_X8_253 rfl (fun v15 => ?_)
  refine J_idiv dX8_change_139 (fun v16 => ?_)
  refine J_imul dX8_change_140 ?_
  refine J_iload_n dX8_change_141 rfl 2 rfl ?_
  refine J_aload_n dX8_change_142 rfl 0 rfl ?_
  refine J_getI dX8_change_143 fl_X8_253 rfl (fun v17 => ?_)
  refine J_irem dX8_change_146 (fun v18 => ?_)
  refine J_iadd dX8_change_147 ?_
  refine J_aload_n dX8_change_148 rfl 0 rfl ?_
  refine J_iload_n dX8_change_149 rfl 1 rfl ?_
  refine J_iload_n dX8_change_150 rfl 2 rfl ?_
  refine J_callVL (c := 7) (as := [.int x1, .int x2]) dX8_change_151 (by decide) rfl (Nat.le_of_ble_eq_true rfl) (cw_X8_numberOf _ (by decide)) q1976 q1978 qs107 q1979 np_X8_numberOf (i_X8_numberOf x0 x1 x2) jad_id rfl (fun v19 => ?_)
  refine J_l2i dX8_change_154 ?_
  refine J_iast dX8_change_155 ?_
  refine J_iinc (v := x2 + 1) (env' := [(2, .int (x2 + 1)), (0, .ref x0), (1, .int x1)]) dX8_change_156 2 rfl rfl (by decide) rfl ?_
  refine J_goto (tgt := 116) dX8_change_159 rfl ?_
  exact J_cont [1, 2, 0] rfl
noncomputable def X8_change_b114 (x0 : Nat) (x1 : Int32) : JM Mem Int32 :=
  jloop (fun (t : Int32) => X8_change_L116 x0 x1 t) 0
theorem j_X8_change_b114 (D : va_G) (dA : Nat → ClassId) (x0 : Nat) (x1 : Int32) : J (PM D dA false) Y_X8_change [(0, .ref x0), (1, .int x1)] [] 114 (X8_change_b114 x0 x1) (FRet injI) := by
  unfold X8_change_b114
  refine J_iconst (v := 0) dX8_change_114 (by decide) ?_
  refine J_istore_n (env' := [(2, .int 0), (0, .ref x0), (1, .int x1)]) dX8_change_115 rfl (by decide) rfl ?_
  refine J_loop (he := fun (t : Int32) => [(0, .ref x0), (1, .int x1), (2, .int t)]) [1, 2, 0] rfl (fun t => ?_)
  exact j_X8_change_L116 D dA x0 x1 t
noncomputable def X8_change_b102 (x0 : Nat) : JM Mem Int32 :=
  jb (jcall 7 x0 (f_X8_no x0 5)) fun v23 =>
  jrz v23
theorem j_X8_change_b102 (D : va_G) (dA : Nat → ClassId) (x0 : Nat) : J (PM D dA false) Y_X8_change [(0, .ref x0)] [] 102 (X8_change_b102 x0) (FRet injI) := by
  unfold X8_change_b102
  refine J_aload_n dX8_change_102 rfl 0 rfl ?_
  refine J_iconst (v := 5) dX8_change_103 (by decide) ?_
  refine J_callVI (c := 7) (as := [.int 5]) dX8_change_104 (by decide) rfl (Nat.le_of_ble_eq_true rfl) (cw_X8_no _ (by decide)) q1702 q1704 qs64 q1705 np_X8_no (i_X8_no x0 5) jad_id rfl (fun v23 => ?_)
  exact J_zreturn dX8_change_107 rfl
noncomputable def X8_change_L69 (x0 : Nat) (x1 : Int32) (x2 : Int32) : JM Mem (Int32 ⊕ (Int32)) :=
  jb (jgetI 7 27 x0) fun v8 =>
  jb (jgetI 7 27 x0) fun v9 =>
  if v8 * v9 ≤ x2 then
    jinl (X8_change_b114 x0 x1)
  else
  jb (jcall 7 x0 (f_X8_numberOf x0 x1 x2)) fun v20 =>
  jb (jgetI 7 26 x0) fun v21 =>
  jb ((f_X8_isIn v20 0 ((v21 - 1 : Int32).toInt64))) fun v22 =>
  if v22 = 0 then
    jinl (X8_change_b102 x0)
  else
    jcont (x2 + 1)
theorem j_X8_change_L69 (D : va_G) (dA : Nat → ClassId) (x0 : Nat) (x1 : Int32) (x2 : Int32) : J (PM D dA false) Y_X8_change [(0, .ref x0), (1, .int x1), (2, .int x2)] [] 69 (X8_change_L69 x0 x1 x2) (FLoop (FRet injI) 69 (fun (t : Int32) => [(0, .ref x0), (1, .int x1), (2, .int t)])) := by
  unfold X8_change_L69
  refine J_iload_n dX8_change_69 rfl 2 rfl ?_
  refine J_aload_n dX8_change_70 rfl 0 rfl ?_
  refine J_getI dX8_change_71 fl_X8_253 rfl (fun v8 => ?_)
  refine J_aload_n dX8_change_74 rfl 0 rfl ?_
  refine J_getI dX8_change_75 fl_X8_253 rfl (fun v9 => ?_)
  refine J_imul dX8_change_78 ?_
  refine J_icmp_ge (tgt := 114) dX8_change_79 rfl ?_ ?_
  · refine J_inl ?_
    refine J_sub [0, 1] rfl ?_
    exact j_X8_change_b114 D dA x0 x1
  refine J_aload_n dX8_change_82 rfl 0 rfl ?_
  refine J_iload_n dX8_change_83 rfl 1 rfl ?_
  refine J_iload_n dX8_change_84 rfl 2 rfl ?_
  refine J_callVL (c := 7) (as := [.int x1, .int x2]) dX8_change_85 (by decide) rfl (Nat.le_of_ble_eq_true rfl) (cw_X8_numberOf _ (by decide)) q1976 q1978 qs107 q1979 np_X8_numberOf (i_X8_numberOf x0 x1 x2) jad_id rfl (fun v20 => ?_)
  refine J_lconst (v := 0) dX8_change_88 (by decide) ?_
  refine J_aload_n dX8_change_89 rfl 0 rfl ?_
  refine J_getI dX8_change_90 fl_X8_250 rfl (fun v21 => ?_)
  refine J_iconst (v := 1) dX8_change_93 (by decide) ?_
  refine J_isub dX8_change_94 ?_
  refine J_i2l dX8_change_95 ?_
  refine J_callSI (host := "") (as := [.long v20, .long 0, .long ((v21 - 1 : Int32).toInt64)]) dX8_change_96 rfl (Nat.le_of_ble_eq_true rfl) (cw_X8_isIn _ (by decide)) q1801 q1802 q1803 np_X8_isIn (i_X8_isIn v20 0 ((v21 - 1 : Int32).toInt64)) jad_id rfl (fun v22 => ?_)
  refine J_if_ne (tgt := 108) dX8_change_99 rfl ?_ ?_
  · refine J_iinc (v := x2 + 1) (env' := [(2, .int (x2 + 1)), (0, .ref x0), (1, .int x1)]) dX8_change_108 2 rfl rfl (by decide) rfl ?_
    refine J_goto (tgt := 69) dX8_change_111 rfl ?_
    exact J_cont [1, 2, 0] rfl
  refine J_inl ?_
  refine J_sub [0] rfl ?_
  exact j_X8_change_b102 D dA x0
noncomputable def f_X8_change (x0 : Nat) (x1 : Int32) : JM Mem Int32 :=
  jb (jputI 7 1 x0 0) fun _ =>
  jb (jputI 7 0 x0 0) fun _ =>
  jb (jcall 7 x0 (f_X8_askNow x0)) fun _ =>
  jb (jcall 7 x0 (f_X8_isTray x0 x1)) fun v1 =>
  if v1 = 0 then
    jb (jcall 7 x0 (f_X8_no x0 1)) fun v26 =>
    jrz v26
  else
  jb (jgetA 7 5 x0) fun v2 =>
  jb (jald mI 0 v2 x1) fun v3 =>
  if 0 ≤ v3 then
    jb (jgetA 7 5 x0) fun v4 =>
    jb (jald mI 0 v4 x1) fun v5 =>
    jb (jgetI 7 27 x0) fun v6 =>
    jb (jgetI 7 27 x0) fun v7 =>
    if v6 * v7 ≤ v5 then
      jloop (fun (t : Int32) => X8_change_L69 x0 x1 t) 0
    else
    jb (jcall 7 x0 (f_X8_no x0 4)) fun v24 =>
    jrz v24
  else
  jb (jcall 7 x0 (f_X8_no x0 3)) fun v25 =>
  jrz v25
theorem j_X8_change (D : va_G) (dA : Nat → ClassId) (x0 : Nat) (x1 : Int32) : J (PM D dA false) Y_X8_change [(0, .ref x0), (1, .int x1)] [] 0 (f_X8_change x0 x1) (FRet injI) := by
  unfold f_X8_change
  refine J_aload_n dX8_change_0 rfl 0 rfl ?_
  refine J_iconst (v := 0) dX8_change_1 (by decide) ?_
  refine J_putI dX8_change_2 ⟨fl_X8_132, Or.inl rfl⟩ rfl ?_
  refine J_aload_n dX8_change_5 rfl 0 rfl ?_
  refine J_iconst (v := 0) dX8_change_6 (by decide) ?_
  refine J_putI dX8_change_7 ⟨fl_X8_135, Or.inl rfl⟩ rfl ?_
  refine J_aload_n dX8_change_10 rfl 0 rfl ?_
  refine J_callVV (c := 7) (as := []) dX8_change_11 (by decide) rfl (Nat.le_of_ble_eq_true rfl) (cw_X8_askNow _ (by decide)) q1862 q1864 qs88 q1865 np_X8_askNow (i_X8_askNow x0) jad_id rfl ?_
  refine J_aload_n dX8_change_14 rfl 0 rfl ?_
  refine J_iload_n dX8_change_15 rfl 1 rfl ?_
  refine J_callVI (c := 7) (as := [.int x1]) dX8_change_16 (by decide) rfl (Nat.le_of_ble_eq_true rfl) (cw_X8_isTray _ (by decide)) q1967 q1969 qs105 q1970 np_X8_isTray (i_X8_isTray x0 x1) jad_id rfl (fun v1 => ?_)
  refine J_if_ne (tgt := 28) dX8_change_19 rfl ?_ ?_
  · refine J_aload_n dX8_change_28 rfl 0 rfl ?_
    refine J_getA dX8_change_29 fl_X8_17 rfl (fun v2 => ?_)
    refine J_iload_n dX8_change_32 rfl 1 rfl ?_
    refine J_iald dX8_change_33 (fun v3 => ?_)
    refine J_if_ge (tgt := 43) dX8_change_34 rfl ?_ ?_
    · refine J_aload_n dX8_change_43 rfl 0 rfl ?_
      refine J_getA dX8_change_44 fl_X8_17 rfl (fun v4 => ?_)
      refine J_iload_n dX8_change_47 rfl 1 rfl ?_
      refine J_iald dX8_change_48 (fun v5 => ?_)
      refine J_aload_n dX8_change_49 rfl 0 rfl ?_
      refine J_getI dX8_change_50 fl_X8_253 rfl (fun v6 => ?_)
      refine J_aload_n dX8_change_53 rfl 0 rfl ?_
      refine J_getI dX8_change_54 fl_X8_253 rfl (fun v7 => ?_)
      refine J_imul dX8_change_57 ?_
      refine J_icmp_ge (tgt := 67) dX8_change_58 rfl ?_ ?_
      · refine J_iconst (v := 0) dX8_change_67 (by decide) ?_
        refine J_istore_n (env' := [(2, .int 0), (0, .ref x0), (1, .int x1)]) dX8_change_68 rfl (by decide) rfl ?_
        refine J_loop (he := fun (t : Int32) => [(0, .ref x0), (1, .int x1), (2, .int t)]) [1, 2, 0] rfl (fun t => ?_)
        exact j_X8_change_L69 D dA x0 x1 t
      refine J_aload_n dX8_change_61 rfl 0 rfl ?_
      refine J_iconst (v := 4) dX8_change_62 (by decide) ?_
      refine J_callVI (c := 7) (as := [.int 4]) dX8_change_63 (by decide) rfl (Nat.le_of_ble_eq_true rfl) (cw_X8_no _ (by decide)) q1702 q1704 qs64 q1705 np_X8_no (i_X8_no x0 4) jad_id rfl (fun v24 => ?_)
      exact J_zreturn dX8_change_66 rfl
    refine J_aload_n dX8_change_37 rfl 0 rfl ?_
    refine J_iconst (v := 3) dX8_change_38 (by decide) ?_
    refine J_callVI (c := 7) (as := [.int 3]) dX8_change_39 (by decide) rfl (Nat.le_of_ble_eq_true rfl) (cw_X8_no _ (by decide)) q1702 q1704 qs64 q1705 np_X8_no (i_X8_no x0 3) jad_id rfl (fun v25 => ?_)
    exact J_zreturn dX8_change_42 rfl
  refine J_aload_n dX8_change_22 rfl 0 rfl ?_
  refine J_iconst (v := 1) dX8_change_23 (by decide) ?_
  refine J_callVI (c := 7) (as := [.int 1]) dX8_change_24 (by decide) rfl (Nat.le_of_ble_eq_true rfl) (cw_X8_no _ (by decide)) q1702 q1704 qs64 q1705 np_X8_no (i_X8_no x0 1) jad_id rfl (fun v26 => ?_)
  exact J_zreturn dX8_change_27 rfl
theorem i_X8_change (x0 : Nat) (x1 : Int32) : Impl (ws_ yX8_change cX8_change 3 (some .boolean)) yX8_change 5 false 0 0 [.ref x0, .int x1] (f_X8_change x0 x1) injI := impl_of (plainFor_of_name (by decide)) (Nat.le_of_ble_eq_true rfl) (fun D dA => j_X8_change D dA x0 x1)
theorem cw_X8_change (Y : JY) (h : 6 ≤ Y.2.2.2.1) : JCw Y (ws_ yX8_change cX8_change 3 (some .boolean)) yX8_change cX8_change 3 (some .boolean) 5 := ⟨h, by decide, lw_meth q2248, q198, by decide, by decide⟩
theorem np_X8_change : JNp yX8_change.desc 1 := by decide +kernel
-- BracketRoomModel.squeeze(I)Z
abbrev Y_X8_squeeze : JY := (cX8_squeeze, yX8_squeeze.cls, 7, 3, yX8_squeeze.name, (some .boolean), [])
noncomputable def X8_squeeze_b236 (x0 : Nat) : JM Mem Int32 :=
  jb (jcall 7 x0 (f_X8_takeOther x0)) fun _ =>
  jp 1
theorem j_X8_squeeze_b236 (D : va_G) (dA : Nat → ClassId) (x0 : Nat) : J (PM D dA false) Y_X8_squeeze [(0, .ref x0)] [] 236 (X8_squeeze_b236 x0) (FRet injI) := by
  unfold X8_squeeze_b236
  refine J_aload_n dX8_squeeze_236 rfl 0 rfl ?_
  refine J_callVV (c := 7) (as := []) dX8_squeeze_237 (by decide) rfl (Nat.le_of_ble_eq_true rfl) (cw_X8_takeOther _ (by decide)) q2261 q2263 qs157 q2264 np_X8_takeOther (i_X8_takeOther x0) jad_id rfl ?_
  refine J_iconst (v := 1) dX8_squeeze_240 (by decide) ?_
  exact J_zreturn1 dX8_squeeze_241 rfl
noncomputable def X8_squeeze_b230 (x0 : Nat) (x1 : Int32) (x2 : Int32) : JM Mem (Int32 ⊕ (Int32)) :=
  jcont (x2 + 1)
theorem j_X8_squeeze_b230 (D : va_G) (dA : Nat → ClassId) (x0 : Nat) (x1 : Int32) (x2 : Int32) : J (PM D dA false) Y_X8_squeeze [(0, .ref x0), (1, .int x1), (2, .int x2)] [] 230 (X8_squeeze_b230 x0 x1 x2) (FLoop (FRet injI) 118 (fun (t : Int32) => [(0, .ref x0), (1, .int x1), (2, .int t)])) := by
  unfold X8_squeeze_b230
  refine J_iinc (v := x2 + 1) (env' := [(2, .int (x2 + 1)), (0, .ref x0), (1, .int x1)]) dX8_squeeze_230 2 rfl rfl (by decide) rfl ?_
  refine J_goto (tgt := 118) dX8_squeeze_233 rfl ?_
  exact J_cont [1, 2, 0] rfl
noncomputable def X8_squeeze_b224 (x0 : Nat) (x1 : Int32) (x2 : Int32) (x3 : Int32) : JM Mem ((Int32 ⊕ (Int32)) ⊕ (Int32)) :=
  jcont (x3 + 1)
theorem j_X8_squeeze_b224 (D : va_G) (dA : Nat → ClassId) (x0 : Nat) (x1 : Int32) (x2 : Int32) (x3 : Int32) : J (PM D dA false) Y_X8_squeeze [(0, .ref x0), (1, .int x1), (2, .int x2), (3, .int x3)] [] 224 (X8_squeeze_b224 x0 x1 x2 x3) (FLoop (FLoop (FRet injI) 118 (fun (t : Int32) => [(0, .ref x0), (1, .int x1), (2, .int t)])) 130 (fun (t : Int32) => [(0, .ref x0), (1, .int x1), (2, .int x2), (3, .int t)])) := by
  unfold X8_squeeze_b224
  refine J_iinc (v := x3 + 1) (env' := [(3, .int (x3 + 1)), (0, .ref x0), (1, .int x1), (2, .int x2)]) dX8_squeeze_224 3 rfl rfl (by decide) rfl ?_
  refine J_goto (tgt := 130) dX8_squeeze_227 rfl ?_
  exact J_cont [1, 2, 3, 0] rfl
noncomputable def X8_squeeze_b218 (x0 : Nat) (x1 : Int32) (x2 : Int32) (x3 : Int32) (x4 : Int32) : JM Mem (((Int32 ⊕ (Int32)) ⊕ (Int32)) ⊕ (Int32)) :=
  jcont (x4 + 1)
theorem j_X8_squeeze_b218 (D : va_G) (dA : Nat → ClassId) (x0 : Nat) (x1 : Int32) (x2 : Int32) (x3 : Int32) (x4 : Int32) : J (PM D dA false) Y_X8_squeeze [(0, .ref x0), (1, .int x1), (2, .int x2), (3, .int x3), (4, .int x4)] [] 218 (X8_squeeze_b218 x0 x1 x2 x3 x4) (FLoop (FLoop (FLoop (FRet injI) 118 (fun (t : Int32) => [(0, .ref x0), (1, .int x1), (2, .int t)])) 130 (fun (t : Int32) => [(0, .ref x0), (1, .int x1), (2, .int x2), (3, .int t)])) 141 (fun (t : Int32) => [(0, .ref x0), (1, .int x1), (2, .int x2), (3, .int x3), (4, .int t)])) := by
  unfold X8_squeeze_b218
  refine J_iinc (v := x4 + 1) (env' := [(4, .int (x4 + 1)), (0, .ref x0), (1, .int x1), (2, .int x2), (3, .int x3)]) dX8_squeeze_218 4 rfl rfl (by decide) rfl ?_
  refine J_goto (tgt := 141) dX8_squeeze_221 rfl ?_
  exact J_cont [1, 2, 3, 4, 0] rfl
noncomputable def X8_squeeze_b198 (x0 : Nat) (x1 : Int32) (x2 : Int32) (x3 : Int32) (x4 : Int32) (x5 : Int64) : JM Mem (((Int32 ⊕ (Int32)) ⊕ (Int32)) ⊕ (Int32)) :=
  if x5 ≤ (0 : Int64) then
    X8_squeeze_b218 x0 x1 x2 x3 x4
  else
  jb (jgetA 7 21 x0) fun v19 =>
  jb ((f_X8_set v19 0 x2 x3 x4 0)) fun _ =>
  X8_squeeze_b218 x0 x1 x2 x3 x4
theorem j_X8_squeeze_b198 (D : va_G) (dA : Nat → ClassId) (x0 : Nat) (x1 : Int32) (x2 : Int32) (x3 : Int32) (x4 : Int32) (x5 : Int64) : J (PM D dA false) Y_X8_squeeze [(0, .ref x0), (1, .int x1), (2, .int x2), (3, .int x3), (4, .int x4), (5, .long x5)] [] 198 (X8_squeeze_b198 x0 x1 x2 x3 x4 x5) (FLoop (FLoop (FLoop (FRet injI) 118 (fun (t : Int32) => [(0, .ref x0), (1, .int x1), (2, .int t)])) 130 (fun (t : Int32) => [(0, .ref x0), (1, .int x1), (2, .int x2), (3, .int t)])) 141 (fun (t : Int32) => [(0, .ref x0), (1, .int x1), (2, .int x2), (3, .int x3), (4, .int t)])) := by
  unfold X8_squeeze_b198
  refine J_lload dX8_squeeze_198 5 rfl ?_
  refine J_lconst (v := 0) dX8_squeeze_200 (by decide) ?_
  refine J_lcmp_le (tgt := 218) dX8_squeeze_201 dX8_squeeze_202 rfl ?_ ?_
  · refine J_sub [0, 1, 2, 3, 4] rfl ?_
    exact j_X8_squeeze_b218 D dA x0 x1 x2 x3 x4
  refine J_aload_n dX8_squeeze_205 rfl 0 rfl ?_
  refine J_getA dX8_squeeze_206 fl_X8_41 rfl (fun v19 => ?_)
  refine J_iconst (v := 0) dX8_squeeze_209 (by decide) ?_
  refine J_iload_n dX8_squeeze_210 rfl 2 rfl ?_
  refine J_iload_n dX8_squeeze_211 rfl 3 rfl ?_
  refine J_iload dX8_squeeze_212 4 rfl ?_
  refine J_iconst (v := 0) dX8_squeeze_214 (by decide) ?_
  refine J_callSV (host := "") (as := [.ref v19, .int 0, .int x2, .int x3, .int x4, .int 0]) dX8_squeeze_215 rfl (Nat.le_of_ble_eq_true rfl) (cw_X8_set _ (by decide)) q1844 q1845 q1846 np_X8_set (i_X8_set v19 0 x2 x3 x4 0) jad_id rfl ?_
  refine J_sub [0, 1, 2, 3, 4] rfl ?_
  exact j_X8_squeeze_b218 D dA x0 x1 x2 x3 x4
noncomputable def X8_squeeze_b191 (x0 : Nat) : JM Mem Int32 :=
  jb (jcall 7 x0 (f_X8_no x0 9)) fun v20 =>
  jrz v20
theorem j_X8_squeeze_b191 (D : va_G) (dA : Nat → ClassId) (x0 : Nat) : J (PM D dA false) Y_X8_squeeze [(0, .ref x0)] [] 191 (X8_squeeze_b191 x0) (FRet injI) := by
  unfold X8_squeeze_b191
  refine J_aload_n dX8_squeeze_191 rfl 0 rfl ?_
  refine J_bipush (v := 9) dX8_squeeze_192 (by decide) ?_
  refine J_callVI (c := 7) (as := [.int 9]) dX8_squeeze_194 (by decide) rfl (Nat.le_of_ble_eq_true rfl) (cw_X8_no _ (by decide)) q1702 q1704 qs64 q1705 np_X8_no (i_X8_no x0 9) jad_id rfl (fun v20 => ?_)
  exact J_zreturn dX8_squeeze_197 rfl
noncomputable def X8_squeeze_L141 (x0 : Nat) (x1 : Int32) (x2 : Int32) (x3 : Int32) (x4 : Int32) : JM Mem (((Int32 ⊕ (Int32)) ⊕ (Int32)) ⊕ (Int32)) :=
  jb (jgetI 7 27 x0) fun v13 =>
  if v13 ≤ x4 then
    jinl (X8_squeeze_b224 x0 x1 x2 x3)
  else
  jb (jcall 7 x0 (f_X8_numberOf x0 x1 x2)) fun v14 =>
  jb (jcall 7 x0 (f_X8_numberOf x0 x1 x3)) fun v15 =>
  jb (jcall 7 x0 (f_X8_numberOf x0 x1 x4)) fun v16 =>
  jlet ((v14 + v15) - v16) fun y17 =>
  jb (jcall 7 x0 (f_X8_table x0 x2 x3 x4)) fun v18 =>
  if v18 = 0 then
    X8_squeeze_b198 x0 x1 x2 x3 x4 y17
  else
  if (0 : Int64) ≤ y17 then
    X8_squeeze_b198 x0 x1 x2 x3 x4 y17
  else
    jinl (jinl (jinl (X8_squeeze_b191 x0)))
theorem j_X8_squeeze_L141 (D : va_G) (dA : Nat → ClassId) (x0 : Nat) (x1 : Int32) (x2 : Int32) (x3 : Int32) (x4 : Int32) : J (PM D dA false) Y_X8_squeeze [(0, .ref x0), (1, .int x1), (2, .int x2), (3, .int x3), (4, .int x4)] [] 141 (X8_squeeze_L141 x0 x1 x2 x3 x4) (FLoop (FLoop (FLoop (FRet injI) 118 (fun (t : Int32) => [(0, .ref x0), (1, .int x1), (2, .int t)])) 130 (fun (t : Int32) => [(0, .ref x0), (1, .int x1), (2, .int x2), (3, .int t)])) 141 (fun (t : Int32) => [(0, .ref x0), (1, .int x1), (2, .int x2), (3, .int x3), (4, .int t)])) := by
  unfold X8_squeeze_L141
  refine J_iload dX8_squeeze_141 4 rfl ?_
  refine J_aload_n dX8_squeeze_143 rfl 0 rfl ?_
  refine J_getI dX8_squeeze_144 fl_X8_253 rfl (fun v13 => ?_)
  refine J_icmp_ge (tgt := 224) dX8_squeeze_147 rfl ?_ ?_
  · refine J_inl ?_
    refine J_sub [0, 1, 2, 3] rfl ?_
    exact j_X8_squeeze_b224 D dA x0 x1 x2 x3
  refine J_aload_n dX8_squeeze_150 rfl 0 rfl ?_
  refine J_iload_n dX8_squeeze_151 rfl 1 rfl ?_
  refine J_iload_n dX8_squeeze_152 rfl 2 rfl ?_
  refine J_callVL (c := 7) (as := [.int x1, .int x2]) dX8_squeeze_153 (by decide) rfl (Nat.le_of_ble_eq_true rfl) (cw_X8_numberOf _ (by decide)) q1976 q1978 qs107 q1979 np_X8_numberOf (i_X8_numberOf x0 x1 x2) jad_id rfl (fun v14 => ?_)
  refine J_aload_n dX8_squeeze_156 rfl 0 rfl ?_
  refine J_iload_n dX8_squeeze_157 rfl 1 rfl ?_
  refine J_iload_n dX8_squeeze_158 rfl 3 rfl ?_
  refine J_callVL (c := 7) (as := [.int x1, .int x3]) dX8_squeeze_159 (by decide) rfl (Nat.le_of_ble_eq_true rfl) (cw_X8_numberOf _ (by decide)) q1976 q1978 qs107 q1979 np_X8_numberOf (i_X8_numberOf x0 x1 x3) jad_id rfl (fun v15 => ?_)
  refine J_ladd dX8_squeeze_162 ?_
  refine J_aload_n dX8_squeeze_163 rfl 0 rfl ?_
  refine J_iload_n dX8_squeeze_164 rfl 1 rfl ?_
  refine J_iload dX8_squeeze_165 4 rfl ?_
  refine J_callVL (c := 7) (as := [.int x1, .int x4]) dX8_squeeze_167 (by decide) rfl (Nat.le_of_ble_eq_true rfl) (cw_X8_numberOf _ (by decide)) q1976 q1978 qs107 q1979 np_X8_numberOf (i_X8_numberOf x0 x1 x4) jad_id rfl (fun v16 => ?_)
  refine J_lsub dX8_squeeze_170 ?_
  refine J_letL (fun y17 => ?_)
  refine J_lstore (env' := [(5, .long y17), (0, .ref x0), (1, .int x1), (2, .int x2), (3, .int x3), (4, .int x4)]) dX8_squeeze_171 (by decide) rfl ?_
  refine J_aload_n dX8_squeeze_173 rfl 1 rfl ?_
  refine J_iload_n dX8_squeeze_174 rfl 3 rfl ?_
  refine J_iload_n dX8_squeeze_175 rfl 4 rfl ?_
  refine J_iload dX8_squeeze_176 5 rfl ?_
  refine J_callVI (c := 7) (as := [.int x2, .int x3, .int x4]) dX8_squeeze_178 (by decide) rfl (Nat.le_of_ble_eq_true rfl) (cw_X8_table _ (by decide)) q1875 q1877 qs91 q1878 np_X8_table (i_X8_table x0 x2 x3 x4) jad_id rfl (fun v18 => ?_)
  refine J_if_eq (tgt := 198) dX8_squeeze_181 rfl ?_ ?_
  · refine J_sub [1, 2, 3, 4, 5, 0] rfl ?_
    exact j_X8_squeeze_b198 D dA x0 x1 x2 x3 x4 y17
  refine J_lload dX8_squeeze_184 0 rfl ?_
  refine J_lconst (v := 0) dX8_squeeze_186 (by decide) ?_
  refine J_lcmp_ge (tgt := 198) dX8_squeeze_187 dX8_squeeze_188 rfl ?_ ?_
  · refine J_sub [1, 2, 3, 4, 5, 0] rfl ?_
    exact j_X8_squeeze_b198 D dA x0 x1 x2 x3 x4 y17
  refine J_inl ?_
  refine J_inl ?_
  refine J_inl ?_
  refine J_sub [1] rfl ?_
  exact j_X8_squeeze_b191 D dA x0
noncomputable def X8_squeeze_L130 (x0 : Nat) (x1 : Int32) (x2 : Int32) (x3 : Int32) : JM Mem ((Int32 ⊕ (Int32)) ⊕ (Int32)) :=
  jb (jgetI 7 27 x0) fun v12 =>
  if v12 ≤ x3 then
    jinl (X8_squeeze_b230 x0 x1 x2)
  else
    jloop (fun (t : Int32) => X8_squeeze_L141 x0 x1 x2 x3 t) 0
theorem j_X8_squeeze_L130 (D : va_G) (dA : Nat → ClassId) (x0 : Nat) (x1 : Int32) (x2 : Int32) (x3 : Int32) : J (PM D dA false) Y_X8_squeeze [(0, .ref x0), (1, .int x1), (2, .int x2), (3, .int x3)] [] 130 (X8_squeeze_L130 x0 x1 x2 x3) (FLoop (FLoop (FRet injI) 118 (fun (t : Int32) => [(0, .ref x0), (1, .int x1), (2, .int t)])) 130 (fun (t : Int32) => [(0, .ref x0), (1, .int x1), (2, .int x2), (3, .int t)])) := by
  unfold X8_squeeze_L130
  refine J_iload_n dX8_squeeze_130 rfl 3 rfl ?_
  refine J_aload_n dX8_squeeze_131 rfl 0 rfl ?_
  refine J_getI dX8_squeeze_132 fl_X8_253 rfl (fun v12 => ?_)
  refine J_icmp_ge (tgt := 230) dX8_squeeze_135 rfl ?_ ?_
  · refine J_inl ?_
    refine J_sub [0, 1, 2] rfl ?_
    exact j_X8_squeeze_b230 D dA x0 x1 x2
  refine J_iconst (v := 0) dX8_squeeze_138 (by decide) ?_
  refine J_istore (env' := [(4, .int 0), (0, .ref x0), (1, .int x1), (2, .int x2), (3, .int x3)]) dX8_squeeze_139 (by decide) rfl ?_
  refine J_loop (he := fun (t : Int32) => [(0, .ref x0), (1, .int x1), (2, .int x2), (3, .int x3), (4, .int t)]) [1, 2, 3, 4, 0] rfl (fun t => ?_)
  exact j_X8_squeeze_L141 D dA x0 x1 x2 x3 t
noncomputable def X8_squeeze_L118 (x0 : Nat) (x1 : Int32) (x2 : Int32) : JM Mem (Int32 ⊕ (Int32)) :=
  jb (jgetI 7 27 x0) fun v10 =>
  if v10 ≤ x2 then
    jinl (X8_squeeze_b236 x0)
  else
  jlet (x2 + 1) fun y11 =>
  jloop (fun (t : Int32) => X8_squeeze_L130 x0 x1 x2 t) y11
theorem j_X8_squeeze_L118 (D : va_G) (dA : Nat → ClassId) (x0 : Nat) (x1 : Int32) (x2 : Int32) : J (PM D dA false) Y_X8_squeeze [(0, .ref x0), (1, .int x1), (2, .int x2)] [] 118 (X8_squeeze_L118 x0 x1 x2) (FLoop (FRet injI) 118 (fun (t : Int32) => [(0, .ref x0), (1, .int x1), (2, .int t)])) := by
  unfold X8_squeeze_L118
  refine J_iload_n dX8_squeeze_118 rfl 2 rfl ?_
  refine J_aload_n dX8_squeeze_119 rfl 0 rfl ?_
  refine J_getI dX8_squeeze_120 fl_X8_253 rfl (fun v10 => ?_)
  refine J_icmp_ge (tgt := 236) dX8_squeeze_123 rfl ?_ ?_
  · refine J_inl ?_
    refine J_sub [0] rfl ?_
    exact j_X8_squeeze_b236 D dA x0
  refine J_iload_n dX8_squeeze_126 rfl 2 rfl ?_
  refine J_iconst (v := 1) dX8_squeeze_127 (by decide) ?_
  refine J_iadd dX8_squeeze_128 ?_
  refine J_letI (fun y11 => ?_)
  refine J_istore_n (env' := [(3, .int y11), (0, .ref x0), (1, .int x1), (2, .int x2)]) dX8_squeeze_129 rfl (by decide) rfl ?_
  refine J_loop (he := fun (t : Int32) => [(0, .ref x0), (1, .int x1), (2, .int x2), (3, .int t)]) [1, 2, 3, 0] rfl (fun t => ?_)
  exact j_X8_squeeze_L130 D dA x0 x1 x2 t
noncomputable def X8_squeeze_b102 (x0 : Nat) (x1 : Int32) : JM Mem Int32 :=
  jb (jgetA 7 19 x0) fun v8 =>
  jb (jgetA 7 21 x0) fun v9 =>
  jb (jcall 7 x0 (f_X8_move x0 v8 0 v9 0)) fun _ =>
  jloop (fun (t : Int32) => X8_squeeze_L118 x0 x1 t) 0
theorem j_X8_squeeze_b102 (D : va_G) (dA : Nat → ClassId) (x0 : Nat) (x1 : Int32) : J (PM D dA false) Y_X8_squeeze [(0, .ref x0), (1, .int x1)] [] 102 (X8_squeeze_b102 x0 x1) (FRet injI) := by
  unfold X8_squeeze_b102
  refine J_aload_n dX8_squeeze_102 rfl 0 rfl ?_
  refine J_aload_n dX8_squeeze_103 rfl 0 rfl ?_
  refine J_getA dX8_squeeze_104 fl_X8_35 rfl (fun v8 => ?_)
  refine J_iconst (v := 0) dX8_squeeze_107 (by decide) ?_
  refine J_aload_n dX8_squeeze_108 rfl 0 rfl ?_
  refine J_getA dX8_squeeze_109 fl_X8_41 rfl (fun v9 => ?_)
  refine J_iconst (v := 0) dX8_squeeze_112 (by decide) ?_
  refine J_callVV (c := 7) (as := [.ref v8, .int 0, .ref v9, .int 0]) dX8_squeeze_113 (by decide) rfl (Nat.le_of_ble_eq_true rfl) (cw_X8_move _ (by decide)) q1854 q1856 qs87 q1857 np_X8_move (i_X8_move x0 v8 0 v9 0) jad_id rfl ?_
  refine J_iconst (v := 0) dX8_squeeze_116 (by decide) ?_
  refine J_istore_n (env' := [(2, .int 0), (0, .ref x0), (1, .int x1)]) dX8_squeeze_117 rfl (by decide) rfl ?_
  refine J_loop (he := fun (t : Int32) => [(0, .ref x0), (1, .int x1), (2, .int t)]) [1, 2, 0] rfl (fun t => ?_)
  exact j_X8_squeeze_L118 D dA x0 x1 t
noncomputable def X8_squeeze_b90 (x0 : Nat) : JM Mem Int32 :=
  jb (jcall 7 x0 (f_X8_no x0 5)) fun v23 =>
  jrz v23
theorem j_X8_squeeze_b90 (D : va_G) (dA : Nat → ClassId) (x0 : Nat) : J (PM D dA false) Y_X8_squeeze [(0, .ref x0)] [] 90 (X8_squeeze_b90 x0) (FRet injI) := by
  unfold X8_squeeze_b90
  refine J_aload_n dX8_squeeze_90 rfl 0 rfl ?_
  refine J_iconst (v := 5) dX8_squeeze_91 (by decide) ?_
  refine J_callVI (c := 7) (as := [.int 5]) dX8_squeeze_92 (by decide) rfl (Nat.le_of_ble_eq_true rfl) (cw_X8_no _ (by decide)) q1702 q1704 qs64 q1705 np_X8_no (i_X8_no x0 5) jad_id rfl (fun v23 => ?_)
  exact J_zreturn dX8_squeeze_95 rfl
noncomputable def X8_squeeze_L64 (x0 : Nat) (x1 : Int32) (x2 : Int32) : JM Mem (Int32 ⊕ (Int32)) :=
  jb (jgetI 7 27 x0) fun v7 =>
  if v7 ≤ x2 then
    jinl (X8_squeeze_b102 x0 x1)
  else
  jb (jcall 7 x0 (f_X8_numberOf x0 x1 x2)) fun v21 =>
  jb ((f_X8_isIn v21 (-20) 20)) fun v22 =>
  if v22 = 0 then
    jinl (X8_squeeze_b90 x0)
  else
    jcont (x2 + 1)
theorem j_X8_squeeze_L64 (D : va_G) (dA : Nat → ClassId) (x0 : Nat) (x1 : Int32) (x2 : Int32) : J (PM D dA false) Y_X8_squeeze [(0, .ref x0), (1, .int x1), (2, .int x2)] [] 64 (X8_squeeze_L64 x0 x1 x2) (FLoop (FRet injI) 64 (fun (t : Int32) => [(0, .ref x0), (1, .int x1), (2, .int t)])) := by
  unfold X8_squeeze_L64
  refine J_iload_n dX8_squeeze_64 rfl 2 rfl ?_
  refine J_aload_n dX8_squeeze_65 rfl 0 rfl ?_
  refine J_getI dX8_squeeze_66 fl_X8_253 rfl (fun v7 => ?_)
  refine J_icmp_ge (tgt := 102) dX8_squeeze_69 rfl ?_ ?_
  · refine J_inl ?_
    refine J_sub [0, 1] rfl ?_
    exact j_X8_squeeze_b102 D dA x0 x1
  refine J_aload_n dX8_squeeze_72 rfl 0 rfl ?_
  refine J_iload_n dX8_squeeze_73 rfl 1 rfl ?_
  refine J_iload_n dX8_squeeze_74 rfl 2 rfl ?_
  refine J_callVL (c := 7) (as := [.int x1, .int x2]) dX8_squeeze_75 (by decide) rfl (Nat.le_of_ble_eq_true rfl) (cw_X8_numberOf _ (by decide)) q1976 q1978 qs107 q1979 np_X8_numberOf (i_X8_numberOf x0 x1 x2) jad_id rfl (fun v21 => ?_)
  refine J_ldc2 dX8_squeeze_78 q2269 ?_
  refine J_ldc2 dX8_squeeze_81 q1971 ?_
  refine J_callSI (host := "") (as := [.long v21, .long ((-20)), .long 20]) dX8_squeeze_84 rfl (Nat.le_of_ble_eq_true rfl) (cw_X8_isIn _ (by decide)) q1801 q1802 q1803 np_X8_isIn (i_X8_isIn v21 (-20) 20) jad_id rfl (fun v22 => ?_)
  refine J_if_ne (tgt := 96) dX8_squeeze_87 rfl ?_ ?_
  · refine J_iinc (v := x2 + 1) (env' := [(2, .int (x2 + 1)), (0, .ref x0), (1, .int x1)]) dX8_squeeze_96 2 rfl rfl (by decide) rfl ?_
    refine J_goto (tgt := 64) dX8_squeeze_99 rfl ?_
    exact J_cont [1, 2, 0] rfl
  refine J_inl ?_
  refine J_sub [0] rfl ?_
  exact j_X8_squeeze_b90 D dA x0
noncomputable def f_X8_squeeze (x0 : Nat) (x1 : Int32) : JM Mem Int32 :=
  jb (jputI 7 1 x0 0) fun _ =>
  jb (jputI 7 0 x0 0) fun _ =>
  jb (jcall 7 x0 (f_X8_askNow x0)) fun _ =>
  jb (jcall 7 x0 (f_X8_isTray x0 x1)) fun v1 =>
  if v1 = 0 then
    jb (jcall 7 x0 (f_X8_no x0 1)) fun v26 =>
    jrz v26
  else
  jb (jgetA 7 5 x0) fun v2 =>
  jb (jald mI 0 v2 x1) fun v3 =>
  if 0 ≤ v3 then
    jb (jgetA 7 5 x0) fun v4 =>
    jb (jald mI 0 v4 x1) fun v5 =>
    jb (jgetI 7 27 x0) fun v6 =>
    if v6 ≤ v5 then
      jloop (fun (t : Int32) => X8_squeeze_L64 x0 x1 t) 0
    else
    jb (jcall 7 x0 (f_X8_no x0 4)) fun v24 =>
    jrz v24
  else
  jb (jcall 7 x0 (f_X8_no x0 3)) fun v25 =>
  jrz v25
theorem j_X8_squeeze (D : va_G) (dA : Nat → ClassId) (x0 : Nat) (x1 : Int32) : J (PM D dA false) Y_X8_squeeze [(0, .ref x0), (1, .int x1)] [] 0 (f_X8_squeeze x0 x1) (FRet injI) := by
  unfold f_X8_squeeze
  refine J_aload_n dX8_squeeze_0 rfl 0 rfl ?_
  refine J_iconst (v := 0) dX8_squeeze_1 (by decide) ?_
  refine J_putI dX8_squeeze_2 ⟨fl_X8_132, Or.inl rfl⟩ rfl ?_
  refine J_aload_n dX8_squeeze_5 rfl 0 rfl ?_
  refine J_iconst (v := 0) dX8_squeeze_6 (by decide) ?_
  refine J_putI dX8_squeeze_7 ⟨fl_X8_135, Or.inl rfl⟩ rfl ?_
  refine J_aload_n dX8_squeeze_10 rfl 0 rfl ?_
  refine J_callVV (c := 7) (as := []) dX8_squeeze_11 (by decide) rfl (Nat.le_of_ble_eq_true rfl) (cw_X8_askNow _ (by decide)) q1862 q1864 qs88 q1865 np_X8_askNow (i_X8_askNow x0) jad_id rfl ?_
  refine J_aload_n dX8_squeeze_14 rfl 0 rfl ?_
  refine J_iload_n dX8_squeeze_15 rfl 1 rfl ?_
  refine J_callVI (c := 7) (as := [.int x1]) dX8_squeeze_16 (by decide) rfl (Nat.le_of_ble_eq_true rfl) (cw_X8_isTray _ (by decide)) q1967 q1969 qs105 q1970 np_X8_isTray (i_X8_isTray x0 x1) jad_id rfl (fun v1 => ?_)
  refine J_if_ne (tgt := 28) dX8_squeeze_19 rfl ?_ ?_
  · refine J_aload_n dX8_squeeze_28 rfl 0 rfl ?_
    refine J_getA dX8_squeeze_29 fl_X8_17 rfl (fun v2 => ?_)
    refine J_iload_n dX8_squeeze_32 rfl 1 rfl ?_
    refine J_iald dX8_squeeze_33 (fun v3 => ?_)
    refine J_if_ge (tgt := 43) dX8_squeeze_34 rfl ?_ ?_
    · refine J_aload_n dX8_squeeze_43 rfl 0 rfl ?_
      refine J_getA dX8_squeeze_44 fl_X8_17 rfl (fun v4 => ?_)
      refine J_iload_n dX8_squeeze_47 rfl 1 rfl ?_
      refine J_iald dX8_squeeze_48 (fun v5 => ?_)
      refine J_aload_n dX8_squeeze_49 rfl 0 rfl ?_
      refine J_getI dX8_squeeze_50 fl_X8_253 rfl (fun v6 => ?_)
      refine J_icmp_ge (tgt := 62) dX8_squeeze_53 rfl ?_ ?_
      · refine J_iconst (v := 0) dX8_squeeze_62 (by decide) ?_
        refine J_istore_n (env' := [(2, .int 0), (0, .ref x0), (1, .int x1)]) dX8_squeeze_63 rfl (by decide) rfl ?_
        refine J_loop (he := fun (t : Int32) => [(0, .ref x0), (1, .int x1), (2, .int t)]) [1, 2, 0] rfl (fun t => ?_)
        exact j_X8_squeeze_L64 D dA x0 x1 t
      refine J_aload_n dX8_squeeze_56 rfl 0 rfl ?_
      refine J_iconst (v := 4) dX8_squeeze_57 (by decide) ?_
      refine J_callVI (c := 7) (as := [.int 4]) dX8_squeeze_58 (by decide) rfl (Nat.le_of_ble_eq_true rfl) (cw_X8_no _ (by decide)) q1702 q1704 qs64 q1705 np_X8_no (i_X8_no x0 4) jad_id rfl (fun v24 => ?_)
      exact J_zreturn dX8_squeeze_61 rfl
    refine J_aload_n dX8_squeeze_37 rfl 0 rfl ?_
    refine J_iconst (v := 3) dX8_squeeze_38 (by decide) ?_
    refine J_callVI (c := 7) (as := [.int 3]) dX8_squeeze_39 (by decide) rfl (Nat.le_of_ble_eq_true rfl) (cw_X8_no _ (by decide)) q1702 q1704 qs64 q1705 np_X8_no (i_X8_no x0 3) jad_id rfl (fun v25 => ?_)
    exact J_zreturn dX8_squeeze_42 rfl
  refine J_aload_n dX8_squeeze_22 rfl 0 rfl ?_
  refine J_iconst (v := 1) dX8_squeeze_23 (by decide) ?_
  refine J_callVI (c := 7) (as := [.int 1]) dX8_squeeze_24 (by decide) rfl (Nat.le_of_ble_eq_true rfl) (cw_X8_no _ (by decide)) q1702 q1704 qs64 q1705 np_X8_no (i_X8_no x0 1) jad_id rfl (fun v26 => ?_)
  exact J_zreturn dX8_squeeze_27 rfl
theorem i_X8_squeeze (x0 : Nat) (x1 : Int32) : Impl (ws_ yX8_squeeze cX8_squeeze 7 (some .boolean)) yX8_squeeze 3 false 0 0 [.ref x0, .int x1] (f_X8_squeeze x0 x1) injI := impl_of (plainFor_of_name (by decide)) (Nat.le_of_ble_eq_true rfl) (fun D dA => j_X8_squeeze D dA x0 x1)
theorem cw_X8_squeeze (Y : JY) (h : 4 ≤ Y.2.2.2.1) : JCw Y (ws_ yX8_squeeze cX8_squeeze 7 (some .boolean)) yX8_squeeze cX8_squeeze 7 (some .boolean) 3 := ⟨h, by decide, lw_meth q2268, q198, by decide, by decide⟩
theorem np_X8_squeeze : JNp yX8_squeeze.desc 1 := by decide +kernel
-- BracketRoomModel.barred(I)I
abbrev Y_X8_barred : JY := (cX8_barred, yX8_barred.cls, 6, 7, yX8_barred.name, (some .int), [])
noncomputable def X8_barred_b144 (x0 : Nat) (x1 : Int32) (x2 : Int32) : JM Mem (Int32 ⊕ (Int32)) :=
  jcont (x2 + 1)
theorem j_X8_barred_b144 (D : va_G) (dA : Nat → ClassId) (x0 : Nat) (x1 : Int32) (x2 : Int32) : J (PM D dA false) Y_X8_barred [(0, .ref x0), (1, .int x1), (2, .int x2)] [] 144 (X8_barred_b144 x0 x1 x2) (FLoop (FRet injI) 63 (fun (t : Int32) => [(0, .ref x0), (1, .int x1), (2, .int t)])) := by
  unfold X8_barred_b144
  refine J_iinc (v := x2 + 1) (env' := [(2, .int (x2 + 1)), (0, .ref x0), (1, .int x1)]) dX8_barred_144 2 rfl rfl (by decide) rfl ?_
  refine J_goto (tgt := 63) dX8_barred_147 rfl ?_
  exact J_cont [1, 2, 0] rfl
noncomputable def X8_barred_b87 (x0 : Nat) (x1 : Int32) (x2 : Int32) (s0 : Int32) : JM Mem (Int32 ⊕ (Int32)) :=
  jb (jcall 7 x0 (f_X8_askNow x0)) fun _ =>
  jb (jcall 7 x0 (f_X8_markBy x0 s0)) fun v5 =>
  jb (jgetA 7 19 x0) fun v6 =>
  jb (jcall 7 x0 (f_X8_ask x0 v6 (127 * (x1 + 1)))) fun _ =>
  jb (jcall 7 x0 (f_X8_markBy x0 s0)) fun v7 =>
  if x2 = 2 then
    if v7 ≤ v5 then
      X8_barred_b144 x0 x1 x2
    else
      jinl (jp x2)
  else
  if v5 ≤ v7 then
    X8_barred_b144 x0 x1 x2
  else
    jinl (jp x2)
theorem j_X8_barred_b87 (D : va_G) (dA : Nat → ClassId) (x0 : Nat) (x1 : Int32) (x2 : Int32) (s0 : Int32) : J (PM D dA false) Y_X8_barred [(0, .ref x0), (1, .int x1), (2, .int x2)] [.int s0] 87 (X8_barred_b87 x0 x1 x2 s0) (FLoop (FRet injI) 63 (fun (t : Int32) => [(0, .ref x0), (1, .int x1), (2, .int t)])) := by
  unfold X8_barred_b87
  refine J_istore_n (env' := [(3, .int s0), (0, .ref x0), (1, .int x1), (2, .int x2)]) dX8_barred_87 rfl (by decide) rfl ?_
  refine J_aload_n dX8_barred_88 rfl 1 rfl ?_
  refine J_callVV (c := 7) (as := []) dX8_barred_89 (by decide) rfl (Nat.le_of_ble_eq_true rfl) (cw_X8_askNow _ (by decide)) q1862 q1864 qs88 q1865 np_X8_askNow (i_X8_askNow x0) jad_id rfl ?_
  refine J_aload_n dX8_barred_92 rfl 1 rfl ?_
  refine J_iload_n dX8_barred_93 rfl 0 rfl ?_
  refine J_callVI (c := 7) (as := [.int s0]) dX8_barred_94 (by decide) rfl (Nat.le_of_ble_eq_true rfl) (cw_X8_markBy _ (by decide)) q2241 q2243 qs153 q2244 np_X8_markBy (i_X8_markBy x0 s0) jad_id rfl (fun v5 => ?_)
  refine J_istore (env' := [(4, .int v5), (3, .int s0), (0, .ref x0), (1, .int x1), (2, .int x2)]) dX8_barred_97 (by decide) rfl ?_
  refine J_aload_n dX8_barred_99 rfl 2 rfl ?_
  refine J_aload_n dX8_barred_100 rfl 2 rfl ?_
  refine J_getA dX8_barred_101 fl_X8_35 rfl (fun v6 => ?_)
  refine J_bipush (v := 127) dX8_barred_104 (by decide) ?_
  refine J_iload_n dX8_barred_106 rfl 3 rfl ?_
  refine J_iconst (v := 1) dX8_barred_107 (by decide) ?_
  refine J_iadd dX8_barred_108 ?_
  refine J_imul dX8_barred_109 ?_
  refine J_callVV (c := 7) (as := [.ref v6, .int (127 * (x1 + 1))]) dX8_barred_110 (by decide) rfl (Nat.le_of_ble_eq_true rfl) (cw_X8_ask _ (by decide)) q1866 q1868 qs89 q1869 np_X8_ask (i_X8_ask x0 v6 (127 * (x1 + 1))) jad_id rfl ?_
  refine J_aload_n dX8_barred_113 rfl 2 rfl ?_
  refine J_iload_n dX8_barred_114 rfl 1 rfl ?_
  refine J_callVI (c := 7) (as := [.int s0]) dX8_barred_115 (by decide) rfl (Nat.le_of_ble_eq_true rfl) (cw_X8_markBy _ (by decide)) q2241 q2243 qs153 q2244 np_X8_markBy (i_X8_markBy x0 s0) jad_id rfl (fun v7 => ?_)
  refine J_istore (env' := [(5, .int v7), (4, .int v5), (3, .int s0), (0, .ref x0), (1, .int x1), (2, .int x2)]) dX8_barred_118 (by decide) rfl ?_
  refine J_iload_n dX8_barred_120 rfl 5 rfl ?_
  refine J_iconst (v := 2) dX8_barred_121 (by decide) ?_
  refine J_icmp_ne (tgt := 135) dX8_barred_122 rfl ?_ ?_
  · refine J_iload dX8_barred_135 0 rfl ?_
    refine J_iload dX8_barred_137 1 rfl ?_
    refine J_icmp_ge (tgt := 144) dX8_barred_139 rfl ?_ ?_
    · refine J_sub [3, 4, 5] rfl ?_
      exact j_X8_barred_b144 D dA x0 x1 x2
    refine J_inl ?_
    refine J_iload_n dX8_barred_142 rfl 5 rfl ?_
    exact J_ireturn dX8_barred_143 rfl
  refine J_iload dX8_barred_125 0 rfl ?_
  refine J_iload dX8_barred_127 1 rfl ?_
  refine J_icmp_le (tgt := 144) dX8_barred_129 rfl ?_ ?_
  · refine J_sub [3, 4, 5] rfl ?_
    exact j_X8_barred_b144 D dA x0 x1 x2
  refine J_inl ?_
  refine J_goto (tgt := 142) dX8_barred_132 rfl ?_
  refine J_iload_n dX8_barred_142 rfl 5 rfl ?_
  exact J_ireturn dX8_barred_143 rfl
noncomputable def X8_barred_L63 (x0 : Nat) (x1 : Int32) (x2 : Int32) : JM Mem (Int32 ⊕ (Int32)) :=
  if 4 ≤ x2 then
    jinl (jp 0)
  else
  if x2 = 1 then
    X8_barred_b87 x0 x1 x2 5
  else
  if x2 = 2 then
    X8_barred_b87 x0 x1 x2 1
  else
    X8_barred_b87 x0 x1 x2 4
theorem j_X8_barred_L63 (D : va_G) (dA : Nat → ClassId) (x0 : Nat) (x1 : Int32) (x2 : Int32) : J (PM D dA false) Y_X8_barred [(0, .ref x0), (1, .int x1), (2, .int x2)] [] 63 (X8_barred_L63 x0 x1 x2) (FLoop (FRet injI) 63 (fun (t : Int32) => [(0, .ref x0), (1, .int x1), (2, .int t)])) := by
  unfold X8_barred_L63
  refine J_iload_n dX8_barred_63 rfl 2 rfl ?_
  refine J_iconst (v := 4) dX8_barred_64 (by decide) ?_
  refine J_icmp_ge (tgt := 150) dX8_barred_65 rfl ?_ ?_
  · refine J_inl ?_
    refine J_iconst (v := 0) dX8_barred_150 (by decide) ?_
    exact J_ireturn dX8_barred_151 rfl
  refine J_iload_n dX8_barred_68 rfl 2 rfl ?_
  refine J_iconst (v := 1) dX8_barred_69 (by decide) ?_
  refine J_icmp_ne (tgt := 77) dX8_barred_70 rfl ?_ ?_
  · refine J_iload_n dX8_barred_77 rfl 2 rfl ?_
    refine J_iconst (v := 2) dX8_barred_78 (by decide) ?_
    refine J_icmp_ne (tgt := 86) dX8_barred_79 rfl ?_ ?_
    · refine J_iconst (v := 4) dX8_barred_86 (by decide) ?_
      refine J_sub [0, 1, 2] rfl ?_
      exact j_X8_barred_b87 D dA x0 x1 x2 4
    refine J_iconst (v := 1) dX8_barred_82 (by decide) ?_
    refine J_goto (tgt := 87) dX8_barred_83 rfl ?_
    refine J_sub [0, 1, 2] rfl ?_
    exact j_X8_barred_b87 D dA x0 x1 x2 1
  refine J_iconst (v := 5) dX8_barred_73 (by decide) ?_
  refine J_goto (tgt := 87) dX8_barred_74 rfl ?_
  refine J_sub [0, 1, 2] rfl ?_
  exact j_X8_barred_b87 D dA x0 x1 x2 5
noncomputable def f_X8_barred (x0 : Nat) (x1 : Int32) : JM Mem Int32 :=
  jb (jputI 7 1 x0 0) fun _ =>
  jb (jputI 7 0 x0 0) fun _ =>
  jb ((f_X8_isShelf x1)) fun v1 =>
  if v1 = 0 then
    jb (jcall 7 x0 (f_X8_refuse x0 2)) fun v10 =>
    jp v10
  else
  jb (jcall 7 x0 (f_X8_isEmpty x0 x1)) fun v2 =>
  if v2 = 0 then
    jb (jgetA 7 19 x0) fun v3 =>
    jb (jcall 7 x0 (f_X8_isUnlike x0 v3 (127 * (x1 + 1)))) fun v4 =>
    if v4 = 0 then
      jloop (fun (t : Int32) => X8_barred_L63 x0 x1 t) 1
    else
    jb (jcall 7 x0 (f_X8_refuse x0 5)) fun v8 =>
    jp v8
  else
  jb (jcall 7 x0 (f_X8_refuse x0 8)) fun v9 =>
  jp v9
theorem j_X8_barred (D : va_G) (dA : Nat → ClassId) (x0 : Nat) (x1 : Int32) : J (PM D dA false) Y_X8_barred [(0, .ref x0), (1, .int x1)] [] 0 (f_X8_barred x0 x1) (FRet injI) := by
  unfold f_X8_barred
  refine J_aload_n dX8_barred_0 rfl 0 rfl ?_
  refine J_iconst (v := 0) dX8_barred_1 (by decide) ?_
  refine J_putI dX8_barred_2 ⟨fl_X8_132, Or.inl rfl⟩ rfl ?_
  refine J_aload_n dX8_barred_5 rfl 0 rfl ?_
  refine J_iconst (v := 0) dX8_barred_6 (by decide) ?_
  refine J_putI dX8_barred_7 ⟨fl_X8_135, Or.inl rfl⟩ rfl ?_
  refine J_iload_n dX8_barred_10 rfl 1 rfl ?_
  refine J_callSI (host := "") (as := [.int x1]) dX8_barred_11 rfl (Nat.le_of_ble_eq_true rfl) (cw_X8_isShelf _ (by decide)) q1952 q1953 q1954 np_X8_isShelf (i_X8_isShelf x1) jad_id rfl (fun v1 => ?_)
  refine J_if_ne (tgt := 23) dX8_barred_14 rfl ?_ ?_
  · refine J_aload_n dX8_barred_23 rfl 0 rfl ?_
    refine J_iload_n dX8_barred_24 rfl 1 rfl ?_
    refine J_callVI (c := 7) (as := [.int x1]) dX8_barred_25 (by decide) rfl (Nat.le_of_ble_eq_true rfl) (cw_X8_isEmpty _ (by decide)) q1959 q1961 qs104 q1962 np_X8_isEmpty (i_X8_isEmpty x0 x1) jad_id rfl (fun v2 => ?_)
    refine J_if_eq (tgt := 38) dX8_barred_28 rfl ?_ ?_
    · refine J_aload_n dX8_barred_38 rfl 0 rfl ?_
      refine J_aload_n dX8_barred_39 rfl 0 rfl ?_
      refine J_getA dX8_barred_40 fl_X8_35 rfl (fun v3 => ?_)
      refine J_bipush (v := 127) dX8_barred_43 (by decide) ?_
      refine J_iload_n dX8_barred_45 rfl 1 rfl ?_
      refine J_iconst (v := 1) dX8_barred_46 (by decide) ?_
      refine J_iadd dX8_barred_47 ?_
      refine J_imul dX8_barred_48 ?_
      refine J_callVI (c := 7) (as := [.ref v3, .int (127 * (x1 + 1))]) dX8_barred_49 (by decide) rfl (Nat.le_of_ble_eq_true rfl) (cw_X8_isUnlike _ (by decide)) q2229 q2231 qs152 q2232 np_X8_isUnlike (i_X8_isUnlike x0 v3 (127 * (x1 + 1))) jad_id rfl (fun v4 => ?_)
      refine J_if_eq (tgt := 61) dX8_barred_52 rfl ?_ ?_
      · refine J_iconst (v := 1) dX8_barred_61 (by decide) ?_
        refine J_istore_n (env' := [(2, .int 1), (0, .ref x0), (1, .int x1)]) dX8_barred_62 rfl (by decide) rfl ?_
        refine J_loop (he := fun (t : Int32) => [(0, .ref x0), (1, .int x1), (2, .int t)]) [1, 2, 0] rfl (fun t => ?_)
        exact j_X8_barred_L63 D dA x0 x1 t
      refine J_aload_n dX8_barred_55 rfl 0 rfl ?_
      refine J_iconst (v := 5) dX8_barred_56 (by decide) ?_
      refine J_callVI (c := 7) (as := [.int 5]) dX8_barred_57 (by decide) rfl (Nat.le_of_ble_eq_true rfl) (cw_X8_refuse _ (by decide)) q1871 q1873 qs90 q1874 np_X8_refuse (i_X8_refuse x0 5) jad_id rfl (fun v8 => ?_)
      exact J_ireturn dX8_barred_60 rfl
    refine J_aload_n dX8_barred_31 rfl 0 rfl ?_
    refine J_bipush (v := 8) dX8_barred_32 (by decide) ?_
    refine J_callVI (c := 7) (as := [.int 8]) dX8_barred_34 (by decide) rfl (Nat.le_of_ble_eq_true rfl) (cw_X8_refuse _ (by decide)) q1871 q1873 qs90 q1874 np_X8_refuse (i_X8_refuse x0 8) jad_id rfl (fun v9 => ?_)
    exact J_ireturn dX8_barred_37 rfl
  refine J_aload_n dX8_barred_17 rfl 0 rfl ?_
  refine J_iconst (v := 2) dX8_barred_18 (by decide) ?_
  refine J_callVI (c := 7) (as := [.int 2]) dX8_barred_19 (by decide) rfl (Nat.le_of_ble_eq_true rfl) (cw_X8_refuse _ (by decide)) q1871 q1873 qs90 q1874 np_X8_refuse (i_X8_refuse x0 2) jad_id rfl (fun v10 => ?_)
  exact J_ireturn dX8_barred_22 rfl
theorem i_X8_barred (x0 : Nat) (x1 : Int32) : Impl (ws_ yX8_barred cX8_barred 6 (some .int)) yX8_barred 7 false 0 0 [.ref x0, .int x1] (f_X8_barred x0 x1) injI := impl_of (plainFor_of_name (by decide)) (Nat.le_of_ble_eq_true rfl) (fun D dA => j_X8_barred D dA x0 x1)
theorem cw_X8_barred (Y : JY) (h : 8 ≤ Y.2.2.2.1) : JCw Y (ws_ yX8_barred cX8_barred 6 (some .int)) yX8_barred cX8_barred 6 (some .int) 7 := ⟨h, by decide, lw_meth q2273, q198, by decide, by decide⟩
theorem np_X8_barred : JNp yX8_barred.desc 1 := by decide +kernel
-- BracketRoomModel.couples()I
abbrev Y_X8_couples : JY := (cX8_couples, yX8_couples.cls, 1, 1, yX8_couples.name, (some .int), [])
noncomputable def f_X8_couples (x0 : Nat) : JM Mem Int32 :=
  jb (jgetI 7 27 x0) fun v1 =>
  jb (jgetI 7 27 x0) fun v2 =>
  jb (jdiv (v1 * (v2 - 1)) 2) fun v3 =>
  jp v3
theorem j_X8_couples (D : va_G) (dA : Nat → ClassId) (x0 : Nat) : J (PM D dA false) Y_X8_couples [(0, .ref x0)] [] 0 (f_X8_couples x0) (FRet injI) := by
  unfold f_X8_couples
  refine J_aload_n dX8_couples_0 rfl 0 rfl ?_
  refine J_getI dX8_couples_1 fl_X8_253 rfl (fun v1 => ?_)
  refine J_aload_n dX8_couples_4 rfl 0 rfl ?_
  refine J_getI dX8_couples_5 fl_X8_253 rfl (fun v2 => ?_)
  refine J_iconst (v := 1) dX8_couples_8 (by decide) ?_
  refine J_isub dX8_couples_9 ?_
  refine J_imul dX8_couples_10 ?_
  refine J_iconst (v := 2) dX8_couples_11 (by decide) ?_
  refine J_idiv dX8_couples_12 (fun v3 => ?_)
  exact J_ireturn dX8_couples_13 rfl
theorem i_X8_couples (x0 : Nat) : Impl (ws_ yX8_couples cX8_couples 1 (some .int)) yX8_couples 1 false 0 0 [.ref x0] (f_X8_couples x0) injI := impl_of (plainFor_of_name (by decide)) (Nat.le_of_ble_eq_true rfl) (fun D dA => j_X8_couples D dA x0)
theorem cw_X8_couples (Y : JY) (h : 2 ≤ Y.2.2.2.1) : JCw Y (ws_ yX8_couples cX8_couples 1 (some .int)) yX8_couples cX8_couples 1 (some .int) 1 := ⟨h, by decide, lw_meth q2285, q198, by decide, by decide⟩
theorem np_X8_couples : JNp yX8_couples.desc 0 := by decide +kernel
-- BracketRoomModel.wrongForm(I)I
abbrev Y_X8_wrongForm : JY := (cX8_wrongForm, yX8_wrongForm.cls, 3, 2, yX8_wrongForm.name, (some .int), [])
noncomputable def X8_wrongForm_L17 (x0 : Nat) (x1 : Int32) (x2 : Int32) : JM Mem (Int32 ⊕ (Int32)) :=
  jb (jcall 7 x0 (f_X8_couples x0)) fun v4 =>
  if v4 ≤ x2 then
    jinl (jp 0)
  else
  jb (jcall 7 x0 (f_X8_numberOf x0 x1 x2)) fun v5 =>
  jb (jgetI 7 26 x0) fun v6 =>
  jb ((f_X8_isIn v5 0 ((v6 - 1 : Int32).toInt64))) fun v7 =>
  if v7 = 0 then
    jinl (jp 5)
  else
    jcont (x2 + 1)
theorem j_X8_wrongForm_L17 (D : va_G) (dA : Nat → ClassId) (x0 : Nat) (x1 : Int32) (x2 : Int32) : J (PM D dA false) Y_X8_wrongForm [(0, .ref x0), (1, .int x1), (2, .int x2)] [] 17 (X8_wrongForm_L17 x0 x1 x2) (FLoop (FRet injI) 17 (fun (t : Int32) => [(0, .ref x0), (1, .int x1), (2, .int t)])) := by
  unfold X8_wrongForm_L17
  refine J_iload_n dX8_wrongForm_17 rfl 2 rfl ?_
  refine J_aload_n dX8_wrongForm_18 rfl 0 rfl ?_
  refine J_callVI (c := 7) (as := []) dX8_wrongForm_19 (by decide) rfl (Nat.le_of_ble_eq_true rfl) (cw_X8_couples _ (by decide)) q2282 q2284 qs159 q2285 np_X8_couples (i_X8_couples x0) jad_id rfl (fun v4 => ?_)
  refine J_icmp_ge (tgt := 53) dX8_wrongForm_22 rfl ?_ ?_
  · refine J_inl ?_
    refine J_iconst (v := 0) dX8_wrongForm_53 (by decide) ?_
    exact J_ireturn dX8_wrongForm_54 rfl
  refine J_aload_n dX8_wrongForm_25 rfl 0 rfl ?_
  refine J_iload_n dX8_wrongForm_26 rfl 1 rfl ?_
  refine J_iload_n dX8_wrongForm_27 rfl 2 rfl ?_
  refine J_callVL (c := 7) (as := [.int x1, .int x2]) dX8_wrongForm_28 (by decide) rfl (Nat.le_of_ble_eq_true rfl) (cw_X8_numberOf _ (by decide)) q1976 q1978 qs107 q1979 np_X8_numberOf (i_X8_numberOf x0 x1 x2) jad_id rfl (fun v5 => ?_)
  refine J_lconst (v := 0) dX8_wrongForm_31 (by decide) ?_
  refine J_aload_n dX8_wrongForm_32 rfl 0 rfl ?_
  refine J_getI dX8_wrongForm_33 fl_X8_250 rfl (fun v6 => ?_)
  refine J_iconst (v := 1) dX8_wrongForm_36 (by decide) ?_
  refine J_isub dX8_wrongForm_37 ?_
  refine J_i2l dX8_wrongForm_38 ?_
  refine J_callSI (host := "") (as := [.long v5, .long 0, .long ((v6 - 1 : Int32).toInt64)]) dX8_wrongForm_39 rfl (Nat.le_of_ble_eq_true rfl) (cw_X8_isIn _ (by decide)) q1801 q1802 q1803 np_X8_isIn (i_X8_isIn v5 0 ((v6 - 1 : Int32).toInt64)) jad_id rfl (fun v7 => ?_)
  refine J_if_ne (tgt := 47) dX8_wrongForm_42 rfl ?_ ?_
  · refine J_iinc (v := x2 + 1) (env' := [(2, .int (x2 + 1)), (0, .ref x0), (1, .int x1)]) dX8_wrongForm_47 2 rfl rfl (by decide) rfl ?_
    refine J_goto (tgt := 17) dX8_wrongForm_50 rfl ?_
    exact J_cont [1, 2, 0] rfl
  refine J_inl ?_
  refine J_iconst (v := 5) dX8_wrongForm_45 (by decide) ?_
  exact J_ireturn dX8_wrongForm_46 rfl
noncomputable def f_X8_wrongForm (x0 : Nat) (x1 : Int32) : JM Mem Int32 :=
  jb (jgetA 7 5 x0) fun v1 =>
  jb (jald mI 0 v1 x1) fun v2 =>
  jb (jcall 7 x0 (f_X8_couples x0)) fun v3 =>
  if v3 ≤ v2 then
    jloop (fun (t : Int32) => X8_wrongForm_L17 x0 x1 t) 0
  else
    jp 4
theorem j_X8_wrongForm (D : va_G) (dA : Nat → ClassId) (x0 : Nat) (x1 : Int32) : J (PM D dA false) Y_X8_wrongForm [(0, .ref x0), (1, .int x1)] [] 0 (f_X8_wrongForm x0 x1) (FRet injI) := by
  unfold f_X8_wrongForm
  refine J_aload_n dX8_wrongForm_0 rfl 0 rfl ?_
  refine J_getA dX8_wrongForm_1 fl_X8_17 rfl (fun v1 => ?_)
  refine J_iload_n dX8_wrongForm_4 rfl 1 rfl ?_
  refine J_iald dX8_wrongForm_5 (fun v2 => ?_)
  refine J_aload_n dX8_wrongForm_6 rfl 0 rfl ?_
  refine J_callVI (c := 7) (as := []) dX8_wrongForm_7 (by decide) rfl (Nat.le_of_ble_eq_true rfl) (cw_X8_couples _ (by decide)) q2282 q2284 qs159 q2285 np_X8_couples (i_X8_couples x0) jad_id rfl (fun v3 => ?_)
  refine J_icmp_ge (tgt := 15) dX8_wrongForm_10 rfl ?_ ?_
  · refine J_iconst (v := 0) dX8_wrongForm_15 (by decide) ?_
    refine J_istore_n (env' := [(2, .int 0), (0, .ref x0), (1, .int x1)]) dX8_wrongForm_16 rfl (by decide) rfl ?_
    refine J_loop (he := fun (t : Int32) => [(0, .ref x0), (1, .int x1), (2, .int t)]) [1, 2, 0] rfl (fun t => ?_)
    exact j_X8_wrongForm_L17 D dA x0 x1 t
  refine J_iconst (v := 4) dX8_wrongForm_13 (by decide) ?_
  exact J_ireturn dX8_wrongForm_14 rfl
theorem i_X8_wrongForm (x0 : Nat) (x1 : Int32) : Impl (ws_ yX8_wrongForm cX8_wrongForm 3 (some .int)) yX8_wrongForm 2 false 0 0 [.ref x0, .int x1] (f_X8_wrongForm x0 x1) injI := impl_of (plainFor_of_name (by decide)) (Nat.le_of_ble_eq_true rfl) (fun D dA => j_X8_wrongForm D dA x0 x1)
theorem cw_X8_wrongForm (Y : JY) (h : 3 ≤ Y.2.2.2.1) : JCw Y (ws_ yX8_wrongForm cX8_wrongForm 3 (some .int)) yX8_wrongForm cX8_wrongForm 3 (some .int) 2 := ⟨h, by decide, lw_meth q2281, q198, by decide, by decide⟩
theorem np_X8_wrongForm : JNp yX8_wrongForm.desc 1 := by decide +kernel
-- BracketRoomModel.coupleOf(II)I
abbrev Y_X8_coupleOf : JY := (cX8_coupleOf, yX8_coupleOf.cls, 3, 1, yX8_coupleOf.name, (some .int), [])
noncomputable def f_X8_coupleOf (x0 : Nat) (x1 : Int32) (x2 : Int32) : JM Mem Int32 :=
  jb (jgetI 7 27 x0) fun v1 =>
  jb (jdiv (x1 * (x1 + 1)) 2) fun v2 =>
  jp (((((x1 * v1) - v2) + x2) - x1) - 1)
theorem j_X8_coupleOf (D : va_G) (dA : Nat → ClassId) (x0 : Nat) (x1 : Int32) (x2 : Int32) : J (PM D dA false) Y_X8_coupleOf [(0, .ref x0), (1, .int x1), (2, .int x2)] [] 0 (f_X8_coupleOf x0 x1 x2) (FRet injI) := by
  unfold f_X8_coupleOf
  refine J_iload_n dX8_coupleOf_0 rfl 1 rfl ?_
  refine J_aload_n dX8_coupleOf_1 rfl 0 rfl ?_
  refine J_getI dX8_coupleOf_2 fl_X8_253 rfl (fun v1 => ?_)
  refine J_imul dX8_coupleOf_5 ?_
  refine J_iload_n dX8_coupleOf_6 rfl 1 rfl ?_
  refine J_iload_n dX8_coupleOf_7 rfl 1 rfl ?_
  refine J_iconst (v := 1) dX8_coupleOf_8 (by decide) ?_
  refine J_iadd dX8_coupleOf_9 ?_
  refine J_imul dX8_coupleOf_10 ?_
  refine J_iconst (v := 2) dX8_coupleOf_11 (by decide) ?_
  refine J_idiv dX8_coupleOf_12 (fun v2 => ?_)
  refine J_isub dX8_coupleOf_13 ?_
  refine J_iload_n dX8_coupleOf_14 rfl 2 rfl ?_
  refine J_iadd dX8_coupleOf_15 ?_
  refine J_iload_n dX8_coupleOf_16 rfl 1 rfl ?_
  refine J_isub dX8_coupleOf_17 ?_
  refine J_iconst (v := 1) dX8_coupleOf_18 (by decide) ?_
  refine J_isub dX8_coupleOf_19 ?_
  exact J_ireturn dX8_coupleOf_20 rfl
theorem i_X8_coupleOf (x0 : Nat) (x1 : Int32) (x2 : Int32) : Impl (ws_ yX8_coupleOf cX8_coupleOf 3 (some .int)) yX8_coupleOf 1 false 0 0 [.ref x0, .int x1, .int x2] (f_X8_coupleOf x0 x1 x2) injI := impl_of (plainFor_of_name (by decide)) (Nat.le_of_ble_eq_true rfl) (fun D dA => j_X8_coupleOf D dA x0 x1 x2)
theorem cw_X8_coupleOf (Y : JY) (h : 2 ≤ Y.2.2.2.1) : JCw Y (ws_ yX8_coupleOf cX8_coupleOf 3 (some .int)) yX8_coupleOf cX8_coupleOf 3 (some .int) 1 := ⟨h, by decide, lw_meth q2301, q198, by decide, by decide⟩
theorem np_X8_coupleOf : JNp yX8_coupleOf.desc 2 := by decide +kernel
-- BracketRoomModel.formOf(III)I
abbrev Y_X8_formOf : JY := (cX8_formOf, yX8_formOf.cls, 4, 2, yX8_formOf.name, (some .int), [])
noncomputable def f_X8_formOf (x0 : Nat) (x1 : Int32) (x2 : Int32) (x3 : Int32) : JM Mem Int32 :=
  if x2 = x3 then
    jp 0
  else
  if x3 ≤ x2 then
    jb (jcall 7 x0 (f_X8_coupleOf x0 x3 x2)) fun v1 =>
    jb (jcall 7 x0 (f_X8_numberOf x0 x1 v1)) fun v2 =>
    jp (-((v2 : Int64).toInt32))
  else
  jb (jcall 7 x0 (f_X8_coupleOf x0 x2 x3)) fun v3 =>
  jb (jcall 7 x0 (f_X8_numberOf x0 x1 v3)) fun v4 =>
  jp ((v4 : Int64).toInt32)
theorem j_X8_formOf (D : va_G) (dA : Nat → ClassId) (x0 : Nat) (x1 : Int32) (x2 : Int32) (x3 : Int32) : J (PM D dA false) Y_X8_formOf [(0, .ref x0), (1, .int x1), (2, .int x2), (3, .int x3)] [] 0 (f_X8_formOf x0 x1 x2 x3) (FRet injI) := by
  unfold f_X8_formOf
  refine J_iload_n dX8_formOf_0 rfl 2 rfl ?_
  refine J_iload_n dX8_formOf_1 rfl 3 rfl ?_
  refine J_icmp_ne (tgt := 9) dX8_formOf_2 rfl ?_ ?_
  · refine J_iload_n dX8_formOf_9 rfl 2 rfl ?_
    refine J_iload_n dX8_formOf_10 rfl 3 rfl ?_
    refine J_icmp_ge (tgt := 29) dX8_formOf_11 rfl ?_ ?_
    · refine J_aload_n dX8_formOf_29 rfl 0 rfl ?_
      refine J_iload_n dX8_formOf_30 rfl 1 rfl ?_
      refine J_aload_n dX8_formOf_31 rfl 0 rfl ?_
      refine J_iload_n dX8_formOf_32 rfl 3 rfl ?_
      refine J_iload_n dX8_formOf_33 rfl 2 rfl ?_
      refine J_callVI (c := 7) (as := [.int x3, .int x2]) dX8_formOf_34 (by decide) rfl (Nat.le_of_ble_eq_true rfl) (cw_X8_coupleOf _ (by decide)) q2298 q2300 qs163 q2301 np_X8_coupleOf (i_X8_coupleOf x0 x3 x2) jad_id rfl (fun v1 => ?_)
      refine J_callVL (c := 7) (as := [.int x1, .int v1]) dX8_formOf_37 (by decide) rfl (Nat.le_of_ble_eq_true rfl) (cw_X8_numberOf _ (by decide)) q1976 q1978 qs107 q1979 np_X8_numberOf (i_X8_numberOf x0 x1 v1) jad_id rfl (fun v2 => ?_)
      refine J_l2i dX8_formOf_40 ?_
      refine J_ineg dX8_formOf_41 ?_
      exact J_ireturn dX8_formOf_42 rfl
    refine J_aload_n dX8_formOf_14 rfl 0 rfl ?_
    refine J_iload_n dX8_formOf_15 rfl 1 rfl ?_
    refine J_aload_n dX8_formOf_16 rfl 0 rfl ?_
    refine J_iload_n dX8_formOf_17 rfl 2 rfl ?_
    refine J_iload_n dX8_formOf_18 rfl 3 rfl ?_
    refine J_callVI (c := 7) (as := [.int x2, .int x3]) dX8_formOf_19 (by decide) rfl (Nat.le_of_ble_eq_true rfl) (cw_X8_coupleOf _ (by decide)) q2298 q2300 qs163 q2301 np_X8_coupleOf (i_X8_coupleOf x0 x2 x3) jad_id rfl (fun v3 => ?_)
    refine J_callVL (c := 7) (as := [.int x1, .int v3]) dX8_formOf_22 (by decide) rfl (Nat.le_of_ble_eq_true rfl) (cw_X8_numberOf _ (by decide)) q1976 q1978 qs107 q1979 np_X8_numberOf (i_X8_numberOf x0 x1 v3) jad_id rfl (fun v4 => ?_)
    refine J_l2i dX8_formOf_25 ?_
    refine J_goto (tgt := 42) dX8_formOf_26 rfl ?_
    exact J_ireturn dX8_formOf_42 rfl
  refine J_iconst (v := 0) dX8_formOf_5 (by decide) ?_
  refine J_goto (tgt := 42) dX8_formOf_6 rfl ?_
  exact J_ireturn dX8_formOf_42 rfl
theorem i_X8_formOf (x0 : Nat) (x1 : Int32) (x2 : Int32) (x3 : Int32) : Impl (ws_ yX8_formOf cX8_formOf 4 (some .int)) yX8_formOf 2 false 0 0 [.ref x0, .int x1, .int x2, .int x3] (f_X8_formOf x0 x1 x2 x3) injI := impl_of (plainFor_of_name (by decide)) (Nat.le_of_ble_eq_true rfl) (fun D dA => j_X8_formOf D dA x0 x1 x2 x3)
theorem cw_X8_formOf (Y : JY) (h : 3 ≤ Y.2.2.2.1) : JCw Y (ws_ yX8_formOf cX8_formOf 4 (some .int)) yX8_formOf cX8_formOf 4 (some .int) 2 := ⟨h, by decide, lw_meth q2297, q198, by decide, by decide⟩
theorem np_X8_formOf : JNp yX8_formOf.desc 3 := by decide +kernel
-- BracketRoomModel.formOfBracket(IIII)I
abbrev Y_X8_formOfBracket : JY := (cX8_formOfBracket, yX8_formOfBracket.cls, 7, 3, yX8_formOfBracket.name, (some .int), [])
noncomputable def X8_formOfBracket_L6 (x0 : Nat) (x1 : Int32) (x2 : Int32) (x3 : Int32) (x4 : Int32) (x5 : Int32) (x6 : Int32) : JM Mem (Int32 ⊕ (Int32 × Int32)) :=
  jb (jgetI 7 27 x0) fun v1 =>
  if v1 ≤ x6 then
    jinl (jp x5)
  else
  jb (jcall 7 x0 (f_X8_table x0 x2 x3 x6)) fun v2 =>
  jb (jcall 7 x0 (f_X8_formOf x0 x1 x6 x4)) fun v3 =>
  jlet (x5 + (v2 * v3)) fun y4 =>
  jcont (y4, x6 + 1)
theorem j_X8_formOfBracket_L6 (D : va_G) (dA : Nat → ClassId) (x0 : Nat) (x1 : Int32) (x2 : Int32) (x3 : Int32) (x4 : Int32) (x5 : Int32) (x6 : Int32) : J (PM D dA false) Y_X8_formOfBracket [(0, .ref x0), (1, .int x1), (2, .int x2), (3, .int x3), (4, .int x4), (5, .int x5), (6, .int x6)] [] 6 (X8_formOfBracket_L6 x0 x1 x2 x3 x4 x5 x6) (FLoop (FRet injI) 6 (fun (t : Int32 × Int32) => [(0, .ref x0), (1, .int x1), (2, .int x2), (3, .int x3), (4, .int x4), (5, .int t.1), (6, .int t.2)])) := by
  unfold X8_formOfBracket_L6
  refine J_iload dX8_formOfBracket_6 6 rfl ?_
  refine J_aload_n dX8_formOfBracket_8 rfl 0 rfl ?_
  refine J_getI dX8_formOfBracket_9 fl_X8_253 rfl (fun v1 => ?_)
  refine J_icmp_ge (tgt := 44) dX8_formOfBracket_12 rfl ?_ ?_
  · refine J_inl ?_
    refine J_iload dX8_formOfBracket_44 5 rfl ?_
    exact J_ireturn dX8_formOfBracket_46 rfl
  refine J_iload dX8_formOfBracket_15 5 rfl ?_
  refine J_aload_n dX8_formOfBracket_17 rfl 0 rfl ?_
  refine J_iload_n dX8_formOfBracket_18 rfl 2 rfl ?_
  refine J_iload_n dX8_formOfBracket_19 rfl 3 rfl ?_
  refine J_iload dX8_formOfBracket_20 6 rfl ?_
  refine J_callVI (c := 7) (as := [.int x2, .int x3, .int x6]) dX8_formOfBracket_22 (by decide) rfl (Nat.le_of_ble_eq_true rfl) (cw_X8_table _ (by decide)) q1875 q1877 qs91 q1878 np_X8_table (i_X8_table x0 x2 x3 x6) jad_id rfl (fun v2 => ?_)
  refine J_aload_n dX8_formOfBracket_25 rfl 0 rfl ?_
  refine J_iload_n dX8_formOfBracket_26 rfl 1 rfl ?_
  refine J_iload dX8_formOfBracket_27 6 rfl ?_
  refine J_iload dX8_formOfBracket_29 4 rfl ?_
  refine J_callVI (c := 7) (as := [.int x1, .int x6, .int x4]) dX8_formOfBracket_31 (by decide) rfl (Nat.le_of_ble_eq_true rfl) (cw_X8_formOf _ (by decide)) q2294 q2296 qs162 q2297 np_X8_formOf (i_X8_formOf x0 x1 x6 x4) jad_id rfl (fun v3 => ?_)
  refine J_imul dX8_formOfBracket_34 ?_
  refine J_iadd dX8_formOfBracket_35 ?_
  refine J_letI (fun y4 => ?_)
  refine J_istore (env' := [(5, .int y4), (0, .ref x0), (1, .int x1), (2, .int x2), (3, .int x3), (4, .int x4), (6, .int x6)]) dX8_formOfBracket_36 (by decide) rfl ?_
  refine J_iinc (v := x6 + 1) (env' := [(6, .int (x6 + 1)), (5, .int y4), (0, .ref x0), (1, .int x1), (2, .int x2), (3, .int x3), (4, .int x4)]) dX8_formOfBracket_38 6 rfl rfl (by decide) rfl ?_
  refine J_goto (tgt := 6) dX8_formOfBracket_41 rfl ?_
  exact J_cont [2, 3, 4, 5, 6, 1, 0] rfl
noncomputable def f_X8_formOfBracket (x0 : Nat) (x1 : Int32) (x2 : Int32) (x3 : Int32) (x4 : Int32) : JM Mem Int32 :=
  jloop (fun (t : Int32 × Int32) => X8_formOfBracket_L6 x0 x1 x2 x3 x4 t.1 t.2) (0, 0)
theorem j_X8_formOfBracket (D : va_G) (dA : Nat → ClassId) (x0 : Nat) (x1 : Int32) (x2 : Int32) (x3 : Int32) (x4 : Int32) : J (PM D dA false) Y_X8_formOfBracket [(0, .ref x0), (1, .int x1), (2, .int x2), (3, .int x3), (4, .int x4)] [] 0 (f_X8_formOfBracket x0 x1 x2 x3 x4) (FRet injI) := by
  unfold f_X8_formOfBracket
  refine J_iconst (v := 0) dX8_formOfBracket_0 (by decide) ?_
  refine J_istore (env' := [(5, .int 0), (0, .ref x0), (1, .int x1), (2, .int x2), (3, .int x3), (4, .int x4)]) dX8_formOfBracket_1 (by decide) rfl ?_
  refine J_iconst (v := 0) dX8_formOfBracket_3 (by decide) ?_
  refine J_istore (env' := [(6, .int 0), (5, .int 0), (0, .ref x0), (1, .int x1), (2, .int x2), (3, .int x3), (4, .int x4)]) dX8_formOfBracket_4 (by decide) rfl ?_
  refine J_loop (he := fun (t : Int32 × Int32) => [(0, .ref x0), (1, .int x1), (2, .int x2), (3, .int x3), (4, .int x4), (5, .int t.1), (6, .int t.2)]) [2, 3, 4, 5, 6, 1, 0] rfl (fun t => ?_)
  exact j_X8_formOfBracket_L6 D dA x0 x1 x2 x3 x4 t.1 t.2
theorem i_X8_formOfBracket (x0 : Nat) (x1 : Int32) (x2 : Int32) (x3 : Int32) (x4 : Int32) : Impl (ws_ yX8_formOfBracket cX8_formOfBracket 7 (some .int)) yX8_formOfBracket 3 false 0 0 [.ref x0, .int x1, .int x2, .int x3, .int x4] (f_X8_formOfBracket x0 x1 x2 x3 x4) injI := impl_of (plainFor_of_name (by decide)) (Nat.le_of_ble_eq_true rfl) (fun D dA => j_X8_formOfBracket D dA x0 x1 x2 x3 x4)
theorem cw_X8_formOfBracket (Y : JY) (h : 4 ≤ Y.2.2.2.1) : JCw Y (ws_ yX8_formOfBracket cX8_formOfBracket 7 (some .int)) yX8_formOfBracket cX8_formOfBracket 7 (some .int) 3 := ⟨h, by decide, lw_meth q2293, q198, by decide, by decide⟩
theorem np_X8_formOfBracket : JNp yX8_formOfBracket.desc 4 := by decide +kernel
-- BracketRoomModel.isClosed(I)Z
abbrev Y_X8_isClosed : JY := (cX8_isClosed, yX8_isClosed.cls, 5, 4, yX8_isClosed.name, (some .boolean), [])
noncomputable def X8_isClosed_b90 (x0 : Nat) (x1 : Int32) (x2 : Int32) : JM Mem (Int32 ⊕ (Int32)) :=
  jcont (x2 + 1)
theorem j_X8_isClosed_b90 (D : va_G) (dA : Nat → ClassId) (x0 : Nat) (x1 : Int32) (x2 : Int32) : J (PM D dA false) Y_X8_isClosed [(0, .ref x0), (1, .int x1), (2, .int x2)] [] 90 (X8_isClosed_b90 x0 x1 x2) (FLoop (FRet injI) 2 (fun (t : Int32) => [(0, .ref x0), (1, .int x1), (2, .int t)])) := by
  unfold X8_isClosed_b90
  refine J_iinc (v := x2 + 1) (env' := [(2, .int (x2 + 1)), (0, .ref x0), (1, .int x1)]) dX8_isClosed_90 2 rfl rfl (by decide) rfl ?_
  refine J_goto (tgt := 2) dX8_isClosed_93 rfl ?_
  exact J_cont [1, 2, 0] rfl
noncomputable def X8_isClosed_b84 (x0 : Nat) (x1 : Int32) (x2 : Int32) (x3 : Int32) : JM Mem ((Int32 ⊕ (Int32)) ⊕ (Int32)) :=
  jcont (x3 + 1)
theorem j_X8_isClosed_b84 (D : va_G) (dA : Nat → ClassId) (x0 : Nat) (x1 : Int32) (x2 : Int32) (x3 : Int32) : J (PM D dA false) Y_X8_isClosed [(0, .ref x0), (1, .int x1), (2, .int x2), (3, .int x3)] [] 84 (X8_isClosed_b84 x0 x1 x2 x3) (FLoop (FLoop (FRet injI) 2 (fun (t : Int32) => [(0, .ref x0), (1, .int x1), (2, .int t)])) 14 (fun (t : Int32) => [(0, .ref x0), (1, .int x1), (2, .int x2), (3, .int t)])) := by
  unfold X8_isClosed_b84
  refine J_iinc (v := x3 + 1) (env' := [(3, .int (x3 + 1)), (0, .ref x0), (1, .int x1), (2, .int x2)]) dX8_isClosed_84 3 rfl rfl (by decide) rfl ?_
  refine J_goto (tgt := 14) dX8_isClosed_87 rfl ?_
  exact J_cont [1, 2, 3, 0] rfl
noncomputable def X8_isClosed_L27 (x0 : Nat) (x1 : Int32) (x2 : Int32) (x3 : Int32) (x4 : Int32) : JM Mem (((Int32 ⊕ (Int32)) ⊕ (Int32)) ⊕ (Int32)) :=
  jb (jgetI 7 27 x0) fun v5 =>
  if v5 ≤ x4 then
    jinl (X8_isClosed_b84 x0 x1 x2 x3)
  else
  jb (jcall 7 x0 (f_X8_formOfBracket x0 x1 x2 x3 x4)) fun v6 =>
  jb (jcall 7 x0 (f_X8_formOfBracket x0 x1 x2 x4 x3)) fun v7 =>
  jb (jcall 7 x0 (f_X8_formOfBracket x0 x1 x3 x4 x2)) fun v8 =>
  jb (jgetI 7 26 x0) fun v9 =>
  jb ((f_X8_left (((-v6) + v7) - v8) v9)) fun v10 =>
  if v10 = 0 then
    jcont (x4 + 1)
  else
    jinl (jinl (jinl (jp 0)))
theorem j_X8_isClosed_L27 (D : va_G) (dA : Nat → ClassId) (x0 : Nat) (x1 : Int32) (x2 : Int32) (x3 : Int32) (x4 : Int32) : J (PM D dA false) Y_X8_isClosed [(0, .ref x0), (1, .int x1), (2, .int x2), (3, .int x3), (4, .int x4)] [] 27 (X8_isClosed_L27 x0 x1 x2 x3 x4) (FLoop (FLoop (FLoop (FRet injI) 2 (fun (t : Int32) => [(0, .ref x0), (1, .int x1), (2, .int t)])) 14 (fun (t : Int32) => [(0, .ref x0), (1, .int x1), (2, .int x2), (3, .int t)])) 27 (fun (t : Int32) => [(0, .ref x0), (1, .int x1), (2, .int x2), (3, .int x3), (4, .int t)])) := by
  unfold X8_isClosed_L27
  refine J_iload dX8_isClosed_27 4 rfl ?_
  refine J_aload_n dX8_isClosed_29 rfl 0 rfl ?_
  refine J_getI dX8_isClosed_30 fl_X8_253 rfl (fun v5 => ?_)
  refine J_icmp_ge (tgt := 84) dX8_isClosed_33 rfl ?_ ?_
  · refine J_inl ?_
    refine J_sub [0, 1, 2, 3] rfl ?_
    exact j_X8_isClosed_b84 D dA x0 x1 x2 x3
  refine J_aload_n dX8_isClosed_36 rfl 0 rfl ?_
  refine J_iload_n dX8_isClosed_37 rfl 1 rfl ?_
  refine J_iload_n dX8_isClosed_38 rfl 2 rfl ?_
  refine J_iload_n dX8_isClosed_39 rfl 3 rfl ?_
  refine J_iload dX8_isClosed_40 4 rfl ?_
  refine J_callVI (c := 7) (as := [.int x1, .int x2, .int x3, .int x4]) dX8_isClosed_42 (by decide) rfl (Nat.le_of_ble_eq_true rfl) (cw_X8_formOfBracket _ (by decide)) q2290 q2292 qs161 q2293 np_X8_formOfBracket (i_X8_formOfBracket x0 x1 x2 x3 x4) jad_id rfl (fun v6 => ?_)
  refine J_ineg dX8_isClosed_45 ?_
  refine J_aload_n dX8_isClosed_46 rfl 0 rfl ?_
  refine J_iload_n dX8_isClosed_47 rfl 1 rfl ?_
  refine J_iload_n dX8_isClosed_48 rfl 2 rfl ?_
  refine J_iload dX8_isClosed_49 4 rfl ?_
  refine J_iload_n dX8_isClosed_51 rfl 3 rfl ?_
  refine J_callVI (c := 7) (as := [.int x1, .int x2, .int x4, .int x3]) dX8_isClosed_52 (by decide) rfl (Nat.le_of_ble_eq_true rfl) (cw_X8_formOfBracket _ (by decide)) q2290 q2292 qs161 q2293 np_X8_formOfBracket (i_X8_formOfBracket x0 x1 x2 x4 x3) jad_id rfl (fun v7 => ?_)
  refine J_iadd dX8_isClosed_55 ?_
  refine J_aload_n dX8_isClosed_56 rfl 0 rfl ?_
  refine J_iload_n dX8_isClosed_57 rfl 1 rfl ?_
  refine J_iload_n dX8_isClosed_58 rfl 3 rfl ?_
  refine J_iload dX8_isClosed_59 4 rfl ?_
  refine J_iload_n dX8_isClosed_61 rfl 2 rfl ?_
  refine J_callVI (c := 7) (as := [.int x1, .int x3, .int x4, .int x2]) dX8_isClosed_62 (by decide) rfl (Nat.le_of_ble_eq_true rfl) (cw_X8_formOfBracket _ (by decide)) q2290 q2292 qs161 q2293 np_X8_formOfBracket (i_X8_formOfBracket x0 x1 x3 x4 x2) jad_id rfl (fun v8 => ?_)
  refine J_isub dX8_isClosed_65 ?_
  refine J_aload_n dX8_isClosed_66 rfl 0 rfl ?_
  refine J_getI dX8_isClosed_67 fl_X8_250 rfl (fun v9 => ?_)
  refine J_callSI (host := "") (as := [.int (((-v6) + v7) - v8), .int v9]) dX8_isClosed_70 rfl (Nat.le_of_ble_eq_true rfl) (cw_X8_left _ (by decide)) q1847 q1848 q1849 np_X8_left (i_X8_left (((-v6) + v7) - v8) v9) jad_id rfl (fun v10 => ?_)
  refine J_if_eq (tgt := 78) dX8_isClosed_73 rfl ?_ ?_
  · refine J_iinc (v := x4 + 1) (env' := [(4, .int (x4 + 1)), (0, .ref x0), (1, .int x1), (2, .int x2), (3, .int x3)]) dX8_isClosed_78 4 rfl rfl (by decide) rfl ?_
    refine J_goto (tgt := 27) dX8_isClosed_81 rfl ?_
    exact J_cont [1, 2, 3, 4, 0] rfl
  refine J_inl ?_
  refine J_inl ?_
  refine J_inl ?_
  refine J_iconst (v := 0) dX8_isClosed_76 (by decide) ?_
  exact J_zreturn0 dX8_isClosed_77 rfl
noncomputable def X8_isClosed_L14 (x0 : Nat) (x1 : Int32) (x2 : Int32) (x3 : Int32) : JM Mem ((Int32 ⊕ (Int32)) ⊕ (Int32)) :=
  jb (jgetI 7 27 x0) fun v3 =>
  if v3 ≤ x3 then
    jinl (X8_isClosed_b90 x0 x1 x2)
  else
  jlet (x3 + 1) fun y4 =>
  jloop (fun (t : Int32) => X8_isClosed_L27 x0 x1 x2 x3 t) y4
theorem j_X8_isClosed_L14 (D : va_G) (dA : Nat → ClassId) (x0 : Nat) (x1 : Int32) (x2 : Int32) (x3 : Int32) : J (PM D dA false) Y_X8_isClosed [(0, .ref x0), (1, .int x1), (2, .int x2), (3, .int x3)] [] 14 (X8_isClosed_L14 x0 x1 x2 x3) (FLoop (FLoop (FRet injI) 2 (fun (t : Int32) => [(0, .ref x0), (1, .int x1), (2, .int t)])) 14 (fun (t : Int32) => [(0, .ref x0), (1, .int x1), (2, .int x2), (3, .int t)])) := by
  unfold X8_isClosed_L14
  refine J_iload_n dX8_isClosed_14 rfl 3 rfl ?_
  refine J_aload_n dX8_isClosed_15 rfl 0 rfl ?_
  refine J_getI dX8_isClosed_16 fl_X8_253 rfl (fun v3 => ?_)
  refine J_icmp_ge (tgt := 90) dX8_isClosed_19 rfl ?_ ?_
  · refine J_inl ?_
    refine J_sub [0, 1, 2] rfl ?_
    exact j_X8_isClosed_b90 D dA x0 x1 x2
  refine J_iload_n dX8_isClosed_22 rfl 3 rfl ?_
  refine J_iconst (v := 1) dX8_isClosed_23 (by decide) ?_
  refine J_iadd dX8_isClosed_24 ?_
  refine J_letI (fun y4 => ?_)
  refine J_istore (env' := [(4, .int y4), (0, .ref x0), (1, .int x1), (2, .int x2), (3, .int x3)]) dX8_isClosed_25 (by decide) rfl ?_
  refine J_loop (he := fun (t : Int32) => [(0, .ref x0), (1, .int x1), (2, .int x2), (3, .int x3), (4, .int t)]) [1, 2, 3, 4, 0] rfl (fun t => ?_)
  exact j_X8_isClosed_L27 D dA x0 x1 x2 x3 t
noncomputable def X8_isClosed_L2 (x0 : Nat) (x1 : Int32) (x2 : Int32) : JM Mem (Int32 ⊕ (Int32)) :=
  jb (jgetI 7 27 x0) fun v1 =>
  if v1 ≤ x2 then
    jinl (jp 1)
  else
  jlet (x2 + 1) fun y2 =>
  jloop (fun (t : Int32) => X8_isClosed_L14 x0 x1 x2 t) y2
theorem j_X8_isClosed_L2 (D : va_G) (dA : Nat → ClassId) (x0 : Nat) (x1 : Int32) (x2 : Int32) : J (PM D dA false) Y_X8_isClosed [(0, .ref x0), (1, .int x1), (2, .int x2)] [] 2 (X8_isClosed_L2 x0 x1 x2) (FLoop (FRet injI) 2 (fun (t : Int32) => [(0, .ref x0), (1, .int x1), (2, .int t)])) := by
  unfold X8_isClosed_L2
  refine J_iload_n dX8_isClosed_2 rfl 2 rfl ?_
  refine J_aload_n dX8_isClosed_3 rfl 0 rfl ?_
  refine J_getI dX8_isClosed_4 fl_X8_253 rfl (fun v1 => ?_)
  refine J_icmp_ge (tgt := 96) dX8_isClosed_7 rfl ?_ ?_
  · refine J_inl ?_
    refine J_iconst (v := 1) dX8_isClosed_96 (by decide) ?_
    exact J_zreturn1 dX8_isClosed_97 rfl
  refine J_iload_n dX8_isClosed_10 rfl 2 rfl ?_
  refine J_iconst (v := 1) dX8_isClosed_11 (by decide) ?_
  refine J_iadd dX8_isClosed_12 ?_
  refine J_letI (fun y2 => ?_)
  refine J_istore_n (env' := [(3, .int y2), (0, .ref x0), (1, .int x1), (2, .int x2)]) dX8_isClosed_13 rfl (by decide) rfl ?_
  refine J_loop (he := fun (t : Int32) => [(0, .ref x0), (1, .int x1), (2, .int x2), (3, .int t)]) [1, 2, 3, 0] rfl (fun t => ?_)
  exact j_X8_isClosed_L14 D dA x0 x1 x2 t
noncomputable def f_X8_isClosed (x0 : Nat) (x1 : Int32) : JM Mem Int32 :=
  jloop (fun (t : Int32) => X8_isClosed_L2 x0 x1 t) 0
theorem j_X8_isClosed (D : va_G) (dA : Nat → ClassId) (x0 : Nat) (x1 : Int32) : J (PM D dA false) Y_X8_isClosed [(0, .ref x0), (1, .int x1)] [] 0 (f_X8_isClosed x0 x1) (FRet injI) := by
  unfold f_X8_isClosed
  refine J_iconst (v := 0) dX8_isClosed_0 (by decide) ?_
  refine J_istore_n (env' := [(2, .int 0), (0, .ref x0), (1, .int x1)]) dX8_isClosed_1 rfl (by decide) rfl ?_
  refine J_loop (he := fun (t : Int32) => [(0, .ref x0), (1, .int x1), (2, .int t)]) [1, 2, 0] rfl (fun t => ?_)
  exact j_X8_isClosed_L2 D dA x0 x1 t
theorem i_X8_isClosed (x0 : Nat) (x1 : Int32) : Impl (ws_ yX8_isClosed cX8_isClosed 5 (some .boolean)) yX8_isClosed 4 false 0 0 [.ref x0, .int x1] (f_X8_isClosed x0 x1) injI := impl_of (plainFor_of_name (by decide)) (Nat.le_of_ble_eq_true rfl) (fun D dA => j_X8_isClosed D dA x0 x1)
theorem cw_X8_isClosed (Y : JY) (h : 5 ≤ Y.2.2.2.1) : JCw Y (ws_ yX8_isClosed cX8_isClosed 5 (some .boolean)) yX8_isClosed cX8_isClosed 5 (some .boolean) 4 := ⟨h, by decide, lw_meth q2289, q198, by decide, by decide⟩
theorem np_X8_isClosed : JNp yX8_isClosed.desc 1 := by decide +kernel
-- BracketRoomModel.cocycle(I)I
abbrev Y_X8_cocycle : JY := (cX8_cocycle, yX8_cocycle.cls, 3, 5, yX8_cocycle.name, (some .int), [])
noncomputable def f_X8_cocycle (x0 : Nat) (x1 : Int32) : JM Mem Int32 :=
  jb (jputI 7 1 x0 0) fun _ =>
  jb (jputI 7 0 x0 0) fun _ =>
  jb (jcall 7 x0 (f_X8_askNow x0)) fun _ =>
  jb (jcall 7 x0 (f_X8_isTray x0 x1)) fun v1 =>
  if v1 = 0 then
    jb (jcall 7 x0 (f_X8_refuse x0 1)) fun v8 =>
    jp v8
  else
  jb (jgetA 7 5 x0) fun v2 =>
  jb (jald mI 0 v2 x1) fun v3 =>
  if 0 ≤ v3 then
    jb (jcall 7 x0 (f_X8_wrongForm x0 x1)) fun v4 =>
    if v4 ≤ 0 then
      jb (jcall 7 x0 (f_X8_isClosed x0 x1)) fun v5 =>
      if v5 = 0 then
        jp 0
      else
        jp 1
    else
    jb (jcall 7 x0 (f_X8_refuse x0 v4)) fun v6 =>
    jp v6
  else
  jb (jcall 7 x0 (f_X8_refuse x0 3)) fun v7 =>
  jp v7
theorem j_X8_cocycle (D : va_G) (dA : Nat → ClassId) (x0 : Nat) (x1 : Int32) : J (PM D dA false) Y_X8_cocycle [(0, .ref x0), (1, .int x1)] [] 0 (f_X8_cocycle x0 x1) (FRet injI) := by
  unfold f_X8_cocycle
  refine J_aload_n dX8_cocycle_0 rfl 0 rfl ?_
  refine J_iconst (v := 0) dX8_cocycle_1 (by decide) ?_
  refine J_putI dX8_cocycle_2 ⟨fl_X8_132, Or.inl rfl⟩ rfl ?_
  refine J_aload_n dX8_cocycle_5 rfl 0 rfl ?_
  refine J_iconst (v := 0) dX8_cocycle_6 (by decide) ?_
  refine J_putI dX8_cocycle_7 ⟨fl_X8_135, Or.inl rfl⟩ rfl ?_
  refine J_aload_n dX8_cocycle_10 rfl 0 rfl ?_
  refine J_callVV (c := 7) (as := []) dX8_cocycle_11 (by decide) rfl (Nat.le_of_ble_eq_true rfl) (cw_X8_askNow _ (by decide)) q1862 q1864 qs88 q1865 np_X8_askNow (i_X8_askNow x0) jad_id rfl ?_
  refine J_aload_n dX8_cocycle_14 rfl 0 rfl ?_
  refine J_iload_n dX8_cocycle_15 rfl 1 rfl ?_
  refine J_callVI (c := 7) (as := [.int x1]) dX8_cocycle_16 (by decide) rfl (Nat.le_of_ble_eq_true rfl) (cw_X8_isTray _ (by decide)) q1967 q1969 qs105 q1970 np_X8_isTray (i_X8_isTray x0 x1) jad_id rfl (fun v1 => ?_)
  refine J_if_ne (tgt := 28) dX8_cocycle_19 rfl ?_ ?_
  · refine J_aload_n dX8_cocycle_28 rfl 0 rfl ?_
    refine J_getA dX8_cocycle_29 fl_X8_17 rfl (fun v2 => ?_)
    refine J_iload_n dX8_cocycle_32 rfl 1 rfl ?_
    refine J_iald dX8_cocycle_33 (fun v3 => ?_)
    refine J_if_ge (tgt := 43) dX8_cocycle_34 rfl ?_ ?_
    · refine J_aload_n dX8_cocycle_43 rfl 0 rfl ?_
      refine J_iload_n dX8_cocycle_44 rfl 1 rfl ?_
      refine J_callVI (c := 7) (as := [.int x1]) dX8_cocycle_45 (by decide) rfl (Nat.le_of_ble_eq_true rfl) (cw_X8_wrongForm _ (by decide)) q2278 q2280 qs158 q2281 np_X8_wrongForm (i_X8_wrongForm x0 x1) jad_id rfl (fun v4 => ?_)
      refine J_istore_n (env' := [(2, .int v4), (0, .ref x0), (1, .int x1)]) dX8_cocycle_48 rfl (by decide) rfl ?_
      refine J_iload_n dX8_cocycle_49 rfl 0 rfl ?_
      refine J_if_le (tgt := 61) dX8_cocycle_50 rfl ?_ ?_
      · refine J_aload_n dX8_cocycle_61 rfl 1 rfl ?_
        refine J_iload_n dX8_cocycle_62 rfl 2 rfl ?_
        refine J_callVI (c := 7) (as := [.int x1]) dX8_cocycle_63 (by decide) rfl (Nat.le_of_ble_eq_true rfl) (cw_X8_isClosed _ (by decide)) q2286 q2288 qs160 q2289 np_X8_isClosed (i_X8_isClosed x0 x1) jad_id rfl (fun v5 => ?_)
        refine J_if_eq (tgt := 73) dX8_cocycle_66 rfl ?_ ?_
        · refine J_iconst (v := 0) dX8_cocycle_73 (by decide) ?_
          exact J_ireturn dX8_cocycle_74 rfl
        refine J_iconst (v := 1) dX8_cocycle_69 (by decide) ?_
        refine J_goto (tgt := 74) dX8_cocycle_70 rfl ?_
        exact J_ireturn dX8_cocycle_74 rfl
      refine J_aload_n dX8_cocycle_53 rfl 1 rfl ?_
      refine J_iload_n dX8_cocycle_54 rfl 0 rfl ?_
      refine J_callVI (c := 7) (as := [.int v4]) dX8_cocycle_55 (by decide) rfl (Nat.le_of_ble_eq_true rfl) (cw_X8_refuse _ (by decide)) q1871 q1873 qs90 q1874 np_X8_refuse (i_X8_refuse x0 v4) jad_id rfl (fun v6 => ?_)
      refine J_goto (tgt := 74) dX8_cocycle_58 rfl ?_
      exact J_ireturn dX8_cocycle_74 rfl
    refine J_aload_n dX8_cocycle_37 rfl 0 rfl ?_
    refine J_iconst (v := 3) dX8_cocycle_38 (by decide) ?_
    refine J_callVI (c := 7) (as := [.int 3]) dX8_cocycle_39 (by decide) rfl (Nat.le_of_ble_eq_true rfl) (cw_X8_refuse _ (by decide)) q1871 q1873 qs90 q1874 np_X8_refuse (i_X8_refuse x0 3) jad_id rfl (fun v7 => ?_)
    exact J_ireturn dX8_cocycle_42 rfl
  refine J_aload_n dX8_cocycle_22 rfl 0 rfl ?_
  refine J_iconst (v := 1) dX8_cocycle_23 (by decide) ?_
  refine J_callVI (c := 7) (as := [.int 1]) dX8_cocycle_24 (by decide) rfl (Nat.le_of_ble_eq_true rfl) (cw_X8_refuse _ (by decide)) q1871 q1873 qs90 q1874 np_X8_refuse (i_X8_refuse x0 1) jad_id rfl (fun v8 => ?_)
  exact J_ireturn dX8_cocycle_27 rfl
theorem i_X8_cocycle (x0 : Nat) (x1 : Int32) : Impl (ws_ yX8_cocycle cX8_cocycle 3 (some .int)) yX8_cocycle 5 false 0 0 [.ref x0, .int x1] (f_X8_cocycle x0 x1) injI := impl_of (plainFor_of_name (by decide)) (Nat.le_of_ble_eq_true rfl) (fun D dA => j_X8_cocycle D dA x0 x1)
theorem cw_X8_cocycle (Y : JY) (h : 6 ≤ Y.2.2.2.1) : JCw Y (ws_ yX8_cocycle cX8_cocycle 3 (some .int)) yX8_cocycle cX8_cocycle 3 (some .int) 5 := ⟨h, by decide, lw_meth q2277, q198, by decide, by decide⟩
theorem np_X8_cocycle : JNp yX8_cocycle.desc 1 := by decide +kernel
-- BracketRoomModel.grow(I)I
abbrev Y_X8_grow : JY := (cX8_grow, yX8_grow.cls, 6, 5, yX8_grow.name, (some .int), [])
noncomputable def X8_grow_b160 (x0 : Nat) (x3 : Int32) : JM Mem Int32 :=
  jb (jgetA 7 19 x0) fun v10 =>
  jb (jast_i v10 1 (x3 + 1)) fun _ =>
  jp (x3 + 1)
theorem j_X8_grow_b160 (D : va_G) (dA : Nat → ClassId) (x0 : Nat) (x3 : Int32) : J (PM D dA false) Y_X8_grow [(0, .ref x0), (3, .int x3)] [] 160 (X8_grow_b160 x0 x3) (FRet injI) := by
  unfold X8_grow_b160
  refine J_aload_n dX8_grow_160 rfl 0 rfl ?_
  refine J_getA dX8_grow_161 fl_X8_35 rfl (fun v10 => ?_)
  refine J_iconst (v := 1) dX8_grow_164 (by decide) ?_
  refine J_iload_n dX8_grow_165 rfl 1 rfl ?_
  refine J_iconst (v := 1) dX8_grow_166 (by decide) ?_
  refine J_iadd dX8_grow_167 ?_
  refine J_iast dX8_grow_168 ?_
  refine J_iload_n dX8_grow_169 rfl 1 rfl ?_
  refine J_iconst (v := 1) dX8_grow_170 (by decide) ?_
  refine J_iadd dX8_grow_171 ?_
  exact J_ireturn dX8_grow_172 rfl
noncomputable def X8_grow_b154 (x0 : Nat) (x1 : Int32) (x3 : Int32) (x4 : Int32) : JM Mem (Int32 ⊕ (Int32)) :=
  jcont (x4 + 1)
theorem j_X8_grow_b154 (D : va_G) (dA : Nat → ClassId) (x0 : Nat) (x1 : Int32) (x3 : Int32) (x4 : Int32) : J (PM D dA false) Y_X8_grow [(0, .ref x0), (1, .int x1), (3, .int x3), (4, .int x4)] [] 154 (X8_grow_b154 x0 x1 x3 x4) (FLoop (FRet injI) 103 (fun (t : Int32) => [(0, .ref x0), (1, .int x1), (3, .int x3), (4, .int t)])) := by
  unfold X8_grow_b154
  refine J_iinc (v := x4 + 1) (env' := [(4, .int (x4 + 1)), (0, .ref x0), (1, .int x1), (3, .int x3)]) dX8_grow_154 3 rfl rfl (by decide) rfl ?_
  refine J_goto (tgt := 103) dX8_grow_157 rfl ?_
  exact J_cont [1, 2, 3, 0] rfl
noncomputable def X8_grow_L115 (x0 : Nat) (x1 : Int32) (x3 : Int32) (x4 : Int32) (x5 : Int32) : JM Mem ((Int32 ⊕ (Int32)) ⊕ (Int32)) :=
  if x3 ≤ x5 then
    jinl (X8_grow_b154 x0 x1 x3 x4)
  else
  jb (jgetA 7 19 x0) fun v12 =>
  jb (jcall 7 x0 (f_X8_coupleOf x0 x4 x5)) fun v13 =>
  jb (jcall 7 x0 (f_X8_numberOf x0 x1 v13)) fun v14 =>
  jb ((f_X8_set v12 0 x4 x5 x3 ((v14 : Int64).toInt32))) fun _ =>
  jcont (x5 + 1)
theorem j_X8_grow_L115 (D : va_G) (dA : Nat → ClassId) (x0 : Nat) (x1 : Int32) (x3 : Int32) (x4 : Int32) (x5 : Int32) : J (PM D dA false) Y_X8_grow [(0, .ref x0), (1, .int x1), (3, .int x3), (4, .int x4), (5, .int x5)] [] 115 (X8_grow_L115 x0 x1 x3 x4 x5) (FLoop (FLoop (FRet injI) 103 (fun (t : Int32) => [(0, .ref x0), (1, .int x1), (3, .int x3), (4, .int t)])) 115 (fun (t : Int32) => [(0, .ref x0), (1, .int x1), (3, .int x3), (4, .int x4), (5, .int t)])) := by
  unfold X8_grow_L115
  refine J_iload dX8_grow_115 4 rfl ?_
  refine J_iload_n dX8_grow_117 rfl 2 rfl ?_
  refine J_icmp_ge (tgt := 154) dX8_grow_118 rfl ?_ ?_
  · refine J_inl ?_
    refine J_sub [0, 1, 2, 3] rfl ?_
    exact j_X8_grow_b154 D dA x0 x1 x3 x4
  refine J_aload_n dX8_grow_121 rfl 0 rfl ?_
  refine J_getA dX8_grow_122 fl_X8_35 rfl (fun v12 => ?_)
  refine J_iconst (v := 0) dX8_grow_125 (by decide) ?_
  refine J_iload dX8_grow_126 3 rfl ?_
  refine J_iload dX8_grow_128 4 rfl ?_
  refine J_iload_n dX8_grow_130 rfl 2 rfl ?_
  refine J_aload_n dX8_grow_131 rfl 0 rfl ?_
  refine J_iload_n dX8_grow_132 rfl 1 rfl ?_
  refine J_aload_n dX8_grow_133 rfl 0 rfl ?_
  refine J_iload dX8_grow_134 3 rfl ?_
  refine J_iload dX8_grow_136 4 rfl ?_
  refine J_callVI (c := 7) (as := [.int x4, .int x5]) dX8_grow_138 (by decide) rfl (Nat.le_of_ble_eq_true rfl) (cw_X8_coupleOf _ (by decide)) q2298 q2300 qs163 q2301 np_X8_coupleOf (i_X8_coupleOf x0 x4 x5) jad_id rfl (fun v13 => ?_)
  refine J_callVL (c := 7) (as := [.int x1, .int v13]) dX8_grow_141 (by decide) rfl (Nat.le_of_ble_eq_true rfl) (cw_X8_numberOf _ (by decide)) q1976 q1978 qs107 q1979 np_X8_numberOf (i_X8_numberOf x0 x1 v13) jad_id rfl (fun v14 => ?_)
  refine J_l2i dX8_grow_144 ?_
  refine J_callSV (host := "") (as := [.ref v12, .int 0, .int x4, .int x5, .int x3, .int ((v14 : Int64).toInt32)]) dX8_grow_145 rfl (Nat.le_of_ble_eq_true rfl) (cw_X8_set _ (by decide)) q1844 q1845 q1846 np_X8_set (i_X8_set v12 0 x4 x5 x3 ((v14 : Int64).toInt32)) jad_id rfl ?_
  refine J_iinc (v := x5 + 1) (env' := [(5, .int (x5 + 1)), (0, .ref x0), (1, .int x1), (3, .int x3), (4, .int x4)]) dX8_grow_148 4 rfl rfl (by decide) rfl ?_
  refine J_goto (tgt := 115) dX8_grow_151 rfl ?_
  exact J_cont [1, 2, 3, 4, 0] rfl
noncomputable def X8_grow_L103 (x0 : Nat) (x1 : Int32) (x3 : Int32) (x4 : Int32) : JM Mem (Int32 ⊕ (Int32)) :=
  if x3 ≤ x4 then
    jinl (X8_grow_b160 x0 x3)
  else
  jlet (x4 + 1) fun y11 =>
  jloop (fun (t : Int32) => X8_grow_L115 x0 x1 x3 x4 t) y11
theorem j_X8_grow_L103 (D : va_G) (dA : Nat → ClassId) (x0 : Nat) (x1 : Int32) (x3 : Int32) (x4 : Int32) : J (PM D dA false) Y_X8_grow [(0, .ref x0), (1, .int x1), (3, .int x3), (4, .int x4)] [] 103 (X8_grow_L103 x0 x1 x3 x4) (FLoop (FRet injI) 103 (fun (t : Int32) => [(0, .ref x0), (1, .int x1), (3, .int x3), (4, .int t)])) := by
  unfold X8_grow_L103
  refine J_iload dX8_grow_103 3 rfl ?_
  refine J_iload_n dX8_grow_105 rfl 2 rfl ?_
  refine J_icmp_ge (tgt := 160) dX8_grow_106 rfl ?_ ?_
  · refine J_inl ?_
    refine J_sub [0, 2] rfl ?_
    exact j_X8_grow_b160 D dA x0 x3
  refine J_iload dX8_grow_109 3 rfl ?_
  refine J_iconst (v := 1) dX8_grow_111 (by decide) ?_
  refine J_iadd dX8_grow_112 ?_
  refine J_letI (fun y11 => ?_)
  refine J_istore (env' := [(5, .int y11), (0, .ref x0), (1, .int x1), (3, .int x3), (4, .int x4)]) dX8_grow_113 (by decide) rfl ?_
  refine J_loop (he := fun (t : Int32) => [(0, .ref x0), (1, .int x1), (3, .int x3), (4, .int x4), (5, .int t)]) [1, 2, 3, 4, 0] rfl (fun t => ?_)
  exact j_X8_grow_L115 D dA x0 x1 x3 x4 t
noncomputable def f_X8_grow (x0 : Nat) (x1 : Int32) : JM Mem Int32 :=
  jb (jputI 7 1 x0 0) fun _ =>
  jb (jputI 7 0 x0 0) fun _ =>
  jb (jcall 7 x0 (f_X8_askNow x0)) fun _ =>
  jb (jgetI 7 27 x0) fun v1 =>
  jb (jgetI 7 26 x0) fun v2 =>
  jb ((f_X8_greatest v2)) fun v3 =>
  if v1 = v3 then
    jb (jcall 7 x0 (f_X8_refuse x0 7)) fun v19 =>
    jp v19
  else
  jb (jcall 7 x0 (f_X8_isTray x0 x1)) fun v4 =>
  if v4 = 0 then
    jb (jcall 7 x0 (f_X8_refuse x0 1)) fun v18 =>
    jp v18
  else
  jb (jgetA 7 5 x0) fun v5 =>
  jb (jald mI 0 v5 x1) fun v6 =>
  if 0 ≤ v6 then
    jb (jcall 7 x0 (f_X8_wrongForm x0 x1)) fun v7 =>
    if v7 ≤ 0 then
      jb (jcall 7 x0 (f_X8_isClosed x0 x1)) fun v8 =>
      if v8 = 0 then
        jb (jcall 7 x0 (f_X8_refuse x0 9)) fun v15 =>
        jp v15
      else
      jb (jgetI 7 27 x0) fun v9 =>
      jloop (fun (t : Int32) => X8_grow_L103 x0 x1 v9 t) 0
    else
    jb (jcall 7 x0 (f_X8_refuse x0 v7)) fun v16 =>
    jp v16
  else
  jb (jcall 7 x0 (f_X8_refuse x0 3)) fun v17 =>
  jp v17
theorem j_X8_grow (D : va_G) (dA : Nat → ClassId) (x0 : Nat) (x1 : Int32) : J (PM D dA false) Y_X8_grow [(0, .ref x0), (1, .int x1)] [] 0 (f_X8_grow x0 x1) (FRet injI) := by
  unfold f_X8_grow
  refine J_aload_n dX8_grow_0 rfl 0 rfl ?_
  refine J_iconst (v := 0) dX8_grow_1 (by decide) ?_
  refine J_putI dX8_grow_2 ⟨fl_X8_132, Or.inl rfl⟩ rfl ?_
  refine J_aload_n dX8_grow_5 rfl 0 rfl ?_
  refine J_iconst (v := 0) dX8_grow_6 (by decide) ?_
  refine J_putI dX8_grow_7 ⟨fl_X8_135, Or.inl rfl⟩ rfl ?_
  refine J_aload_n dX8_grow_10 rfl 0 rfl ?_
  refine J_callVV (c := 7) (as := []) dX8_grow_11 (by decide) rfl (Nat.le_of_ble_eq_true rfl) (cw_X8_askNow _ (by decide)) q1862 q1864 qs88 q1865 np_X8_askNow (i_X8_askNow x0) jad_id rfl ?_
  refine J_aload_n dX8_grow_14 rfl 0 rfl ?_
  refine J_getI dX8_grow_15 fl_X8_253 rfl (fun v1 => ?_)
  refine J_aload_n dX8_grow_18 rfl 0 rfl ?_
  refine J_getI dX8_grow_19 fl_X8_250 rfl (fun v2 => ?_)
  refine J_callSI (host := "") (as := [.int v2]) dX8_grow_22 rfl (Nat.le_of_ble_eq_true rfl) (cw_X8_greatest _ (by decide)) q1812 q1813 q1814 np_X8_greatest (i_X8_greatest v2) jad_id rfl (fun v3 => ?_)
  refine J_icmp_ne (tgt := 35) dX8_grow_25 rfl ?_ ?_
  · refine J_aload_n dX8_grow_35 rfl 0 rfl ?_
    refine J_iload_n dX8_grow_36 rfl 1 rfl ?_
    refine J_callVI (c := 7) (as := [.int x1]) dX8_grow_37 (by decide) rfl (Nat.le_of_ble_eq_true rfl) (cw_X8_isTray _ (by decide)) q1967 q1969 qs105 q1970 np_X8_isTray (i_X8_isTray x0 x1) jad_id rfl (fun v4 => ?_)
    refine J_if_ne (tgt := 49) dX8_grow_40 rfl ?_ ?_
    · refine J_aload_n dX8_grow_49 rfl 0 rfl ?_
      refine J_getA dX8_grow_50 fl_X8_17 rfl (fun v5 => ?_)
      refine J_iload_n dX8_grow_53 rfl 1 rfl ?_
      refine J_iald dX8_grow_54 (fun v6 => ?_)
      refine J_if_ge (tgt := 64) dX8_grow_55 rfl ?_ ?_
      · refine J_aload_n dX8_grow_64 rfl 0 rfl ?_
        refine J_iload_n dX8_grow_65 rfl 1 rfl ?_
        refine J_callVI (c := 7) (as := [.int x1]) dX8_grow_66 (by decide) rfl (Nat.le_of_ble_eq_true rfl) (cw_X8_wrongForm _ (by decide)) q2278 q2280 qs158 q2281 np_X8_wrongForm (i_X8_wrongForm x0 x1) jad_id rfl (fun v7 => ?_)
        refine J_istore_n (env' := [(2, .int v7), (0, .ref x0), (1, .int x1)]) dX8_grow_69 rfl (by decide) rfl ?_
        refine J_iload_n dX8_grow_70 rfl 0 rfl ?_
        refine J_if_le (tgt := 80) dX8_grow_71 rfl ?_ ?_
        · refine J_aload_n dX8_grow_80 rfl 1 rfl ?_
          refine J_iload_n dX8_grow_81 rfl 2 rfl ?_
          refine J_callVI (c := 7) (as := [.int x1]) dX8_grow_82 (by decide) rfl (Nat.le_of_ble_eq_true rfl) (cw_X8_isClosed _ (by decide)) q2286 q2288 qs160 q2289 np_X8_isClosed (i_X8_isClosed x0 x1) jad_id rfl (fun v8 => ?_)
          refine J_if_ne (tgt := 95) dX8_grow_85 rfl ?_ ?_
          · refine J_aload_n dX8_grow_95 rfl 1 rfl ?_
            refine J_getI dX8_grow_96 fl_X8_253 rfl (fun v9 => ?_)
            refine J_istore_n (env' := [(3, .int v9), (2, .int v7), (0, .ref x0), (1, .int x1)]) dX8_grow_99 rfl (by decide) rfl ?_
            refine J_iconst (v := 0) dX8_grow_100 (by decide) ?_
            refine J_istore (env' := [(4, .int 0), (3, .int v9), (2, .int v7), (0, .ref x0), (1, .int x1)]) dX8_grow_101 (by decide) rfl ?_
            refine J_loop (he := fun (t : Int32) => [(0, .ref x0), (1, .int x1), (3, .int v9), (4, .int t)]) [3, 4, 1, 0] rfl (fun t => ?_)
            exact j_X8_grow_L103 D dA x0 x1 v9 t
          refine J_aload_n dX8_grow_88 rfl 1 rfl ?_
          refine J_bipush (v := 9) dX8_grow_89 (by decide) ?_
          refine J_callVI (c := 7) (as := [.int 9]) dX8_grow_91 (by decide) rfl (Nat.le_of_ble_eq_true rfl) (cw_X8_refuse _ (by decide)) q1871 q1873 qs90 q1874 np_X8_refuse (i_X8_refuse x0 9) jad_id rfl (fun v15 => ?_)
          exact J_ireturn dX8_grow_94 rfl
        refine J_aload_n dX8_grow_74 rfl 1 rfl ?_
        refine J_iload_n dX8_grow_75 rfl 0 rfl ?_
        refine J_callVI (c := 7) (as := [.int v7]) dX8_grow_76 (by decide) rfl (Nat.le_of_ble_eq_true rfl) (cw_X8_refuse _ (by decide)) q1871 q1873 qs90 q1874 np_X8_refuse (i_X8_refuse x0 v7) jad_id rfl (fun v16 => ?_)
        exact J_ireturn dX8_grow_79 rfl
      refine J_aload_n dX8_grow_58 rfl 0 rfl ?_
      refine J_iconst (v := 3) dX8_grow_59 (by decide) ?_
      refine J_callVI (c := 7) (as := [.int 3]) dX8_grow_60 (by decide) rfl (Nat.le_of_ble_eq_true rfl) (cw_X8_refuse _ (by decide)) q1871 q1873 qs90 q1874 np_X8_refuse (i_X8_refuse x0 3) jad_id rfl (fun v17 => ?_)
      exact J_ireturn dX8_grow_63 rfl
    refine J_aload_n dX8_grow_43 rfl 0 rfl ?_
    refine J_iconst (v := 1) dX8_grow_44 (by decide) ?_
    refine J_callVI (c := 7) (as := [.int 1]) dX8_grow_45 (by decide) rfl (Nat.le_of_ble_eq_true rfl) (cw_X8_refuse _ (by decide)) q1871 q1873 qs90 q1874 np_X8_refuse (i_X8_refuse x0 1) jad_id rfl (fun v18 => ?_)
    exact J_ireturn dX8_grow_48 rfl
  refine J_aload_n dX8_grow_28 rfl 0 rfl ?_
  refine J_bipush (v := 7) dX8_grow_29 (by decide) ?_
  refine J_callVI (c := 7) (as := [.int 7]) dX8_grow_31 (by decide) rfl (Nat.le_of_ble_eq_true rfl) (cw_X8_refuse _ (by decide)) q1871 q1873 qs90 q1874 np_X8_refuse (i_X8_refuse x0 7) jad_id rfl (fun v19 => ?_)
  exact J_ireturn dX8_grow_34 rfl
theorem i_X8_grow (x0 : Nat) (x1 : Int32) : Impl (ws_ yX8_grow cX8_grow 6 (some .int)) yX8_grow 5 false 0 0 [.ref x0, .int x1] (f_X8_grow x0 x1) injI := impl_of (plainFor_of_name (by decide)) (Nat.le_of_ble_eq_true rfl) (fun D dA => j_X8_grow D dA x0 x1)
theorem cw_X8_grow (Y : JY) (h : 6 ≤ Y.2.2.2.1) : JCw Y (ws_ yX8_grow cX8_grow 6 (some .int)) yX8_grow cX8_grow 6 (some .int) 5 := ⟨h, by decide, lw_meth q2305, q198, by decide, by decide⟩
theorem np_X8_grow : JNp yX8_grow.desc 1 := by decide +kernel
-- BracketRoomModel.sumWith(I)I
abbrev Y_X8_sumWith : JY := (cX8_sumWith, yX8_sumWith.cls, 7, 3, yX8_sumWith.name, (some .int), [])
noncomputable def X8_sumWith_b143 (x0 : Nat) (x3 : Int32) : JM Mem Int32 :=
  jb (jgetA 7 19 x0) fun v10 =>
  jb (jgetI 7 27 x0) fun v11 =>
  jb (jast_i v10 1 (v11 + x3)) fun _ =>
  jp 0
theorem j_X8_sumWith_b143 (D : va_G) (dA : Nat → ClassId) (x0 : Nat) (x3 : Int32) : J (PM D dA false) Y_X8_sumWith [(0, .ref x0), (3, .int x3)] [] 143 (X8_sumWith_b143 x0 x3) (FRet injI) := by
  unfold X8_sumWith_b143
  refine J_aload_n dX8_sumWith_143 rfl 0 rfl ?_
  refine J_getA dX8_sumWith_144 fl_X8_35 rfl (fun v10 => ?_)
  refine J_iconst (v := 1) dX8_sumWith_147 (by decide) ?_
  refine J_aload_n dX8_sumWith_148 rfl 0 rfl ?_
  refine J_getI dX8_sumWith_149 fl_X8_253 rfl (fun v11 => ?_)
  refine J_iload_n dX8_sumWith_152 rfl 1 rfl ?_
  refine J_iadd dX8_sumWith_153 ?_
  refine J_iast dX8_sumWith_154 ?_
  refine J_iconst (v := 0) dX8_sumWith_155 (by decide) ?_
  exact J_ireturn dX8_sumWith_156 rfl
noncomputable def X8_sumWith_b137 (x0 : Nat) (x2 : Int32) (x3 : Int32) (x4 : Int32) : JM Mem (Int32 ⊕ (Int32)) :=
  jcont (x4 + 1)
theorem j_X8_sumWith_b137 (D : va_G) (dA : Nat → ClassId) (x0 : Nat) (x2 : Int32) (x3 : Int32) (x4 : Int32) : J (PM D dA false) Y_X8_sumWith [(0, .ref x0), (2, .int x2), (3, .int x3), (4, .int x4)] [] 137 (X8_sumWith_b137 x0 x2 x3 x4) (FLoop (FRet injI) 53 (fun (t : Int32) => [(0, .ref x0), (2, .int x2), (3, .int x3), (4, .int t)])) := by
  unfold X8_sumWith_b137
  refine J_iinc (v := x4 + 1) (env' := [(4, .int (x4 + 1)), (0, .ref x0), (2, .int x2), (3, .int x3)]) dX8_sumWith_137 3 rfl rfl (by decide) rfl ?_
  refine J_goto (tgt := 53) dX8_sumWith_140 rfl ?_
  exact J_cont [1, 2, 3, 0] rfl
noncomputable def X8_sumWith_b131 (x0 : Nat) (x2 : Int32) (x3 : Int32) (x4 : Int32) (x5 : Int32) : JM Mem ((Int32 ⊕ (Int32)) ⊕ (Int32)) :=
  jcont (x5 + 1)
theorem j_X8_sumWith_b131 (D : va_G) (dA : Nat → ClassId) (x0 : Nat) (x2 : Int32) (x3 : Int32) (x4 : Int32) (x5 : Int32) : J (PM D dA false) Y_X8_sumWith [(0, .ref x0), (2, .int x2), (3, .int x3), (4, .int x4), (5, .int x5)] [] 131 (X8_sumWith_b131 x0 x2 x3 x4 x5) (FLoop (FLoop (FRet injI) 53 (fun (t : Int32) => [(0, .ref x0), (2, .int x2), (3, .int x3), (4, .int t)])) 65 (fun (t : Int32) => [(0, .ref x0), (2, .int x2), (3, .int x3), (4, .int x4), (5, .int t)])) := by
  unfold X8_sumWith_b131
  refine J_iinc (v := x5 + 1) (env' := [(5, .int (x5 + 1)), (0, .ref x0), (2, .int x2), (3, .int x3), (4, .int x4)]) dX8_sumWith_131 4 rfl rfl (by decide) rfl ?_
  refine J_goto (tgt := 65) dX8_sumWith_134 rfl ?_
  exact J_cont [1, 2, 3, 4, 0] rfl
noncomputable def X8_sumWith_L74 (x0 : Nat) (x2 : Int32) (x3 : Int32) (x4 : Int32) (x5 : Int32) (x6 : Int32) : JM Mem (((Int32 ⊕ (Int32)) ⊕ (Int32)) ⊕ (Int32)) :=
  if x3 ≤ x6 then
    jinl (X8_sumWith_b131 x0 x2 x3 x4 x5)
  else
  jb (jgetA 7 19 x0) fun v13 =>
  jb (jgetI 7 27 x0) fun v14 =>
  jb (jgetI 7 27 x0) fun v15 =>
  jb (jgetI 7 27 x0) fun v16 =>
  jb (jgetA 7 19 x0) fun v17 =>
  jb ((f_X8_cell x4 x5 x6)) fun v18 =>
  jb (jald mI 0 v17 (x2 + v18)) fun v19 =>
  jb ((f_X8_set v13 0 (v14 + x4) (v15 + x5) (v16 + x6) v19)) fun _ =>
  jcont (x6 + 1)
theorem j_X8_sumWith_L74 (D : va_G) (dA : Nat → ClassId) (x0 : Nat) (x2 : Int32) (x3 : Int32) (x4 : Int32) (x5 : Int32) (x6 : Int32) : J (PM D dA false) Y_X8_sumWith [(0, .ref x0), (2, .int x2), (3, .int x3), (4, .int x4), (5, .int x5), (6, .int x6)] [] 74 (X8_sumWith_L74 x0 x2 x3 x4 x5 x6) (FLoop (FLoop (FLoop (FRet injI) 53 (fun (t : Int32) => [(0, .ref x0), (2, .int x2), (3, .int x3), (4, .int t)])) 65 (fun (t : Int32) => [(0, .ref x0), (2, .int x2), (3, .int x3), (4, .int x4), (5, .int t)])) 74 (fun (t : Int32) => [(0, .ref x0), (2, .int x2), (3, .int x3), (4, .int x4), (5, .int x5), (6, .int t)])) := by
  unfold X8_sumWith_L74
  refine J_iload dX8_sumWith_74 5 rfl ?_
  refine J_iload_n dX8_sumWith_76 rfl 2 rfl ?_
  refine J_icmp_ge (tgt := 131) dX8_sumWith_77 rfl ?_ ?_
  · refine J_inl ?_
    refine J_sub [0, 1, 2, 3, 4] rfl ?_
    exact j_X8_sumWith_b131 D dA x0 x2 x3 x4 x5
  refine J_aload_n dX8_sumWith_80 rfl 0 rfl ?_
  refine J_getA dX8_sumWith_81 fl_X8_35 rfl (fun v13 => ?_)
  refine J_iconst (v := 0) dX8_sumWith_84 (by decide) ?_
  refine J_aload_n dX8_sumWith_85 rfl 0 rfl ?_
  refine J_getI dX8_sumWith_86 fl_X8_253 rfl (fun v14 => ?_)
  refine J_iload dX8_sumWith_89 3 rfl ?_
  refine J_iadd dX8_sumWith_91 ?_
  refine J_aload_n dX8_sumWith_92 rfl 0 rfl ?_
  refine J_getI dX8_sumWith_93 fl_X8_253 rfl (fun v15 => ?_)
  refine J_iload dX8_sumWith_96 4 rfl ?_
  refine J_iadd dX8_sumWith_98 ?_
  refine J_aload_n dX8_sumWith_99 rfl 0 rfl ?_
  refine J_getI dX8_sumWith_100 fl_X8_253 rfl (fun v16 => ?_)
  refine J_iload dX8_sumWith_103 5 rfl ?_
  refine J_iadd dX8_sumWith_105 ?_
  refine J_aload_n dX8_sumWith_106 rfl 0 rfl ?_
  refine J_getA dX8_sumWith_107 fl_X8_35 rfl (fun v17 => ?_)
  refine J_iload_n dX8_sumWith_110 rfl 1 rfl ?_
  refine J_iload dX8_sumWith_111 3 rfl ?_
  refine J_iload dX8_sumWith_113 4 rfl ?_
  refine J_iload dX8_sumWith_115 5 rfl ?_
  refine J_callSI (host := "") (as := [.int x4, .int x5, .int x6]) dX8_sumWith_117 rfl (Nat.le_of_ble_eq_true rfl) (cw_X8_cell _ (by decide)) q1829 q1830 q1831 np_X8_cell (i_X8_cell x4 x5 x6) jad_id rfl (fun v18 => ?_)
  refine J_iadd dX8_sumWith_120 ?_
  refine J_iald dX8_sumWith_121 (fun v19 => ?_)
  refine J_callSV (host := "") (as := [.ref v13, .int 0, .int (v14 + x4), .int (v15 + x5), .int (v16 + x6), .int v19]) dX8_sumWith_122 rfl (Nat.le_of_ble_eq_true rfl) (cw_X8_set _ (by decide)) q1844 q1845 q1846 np_X8_set (i_X8_set v13 0 (v14 + x4) (v15 + x5) (v16 + x6) v19) jad_id rfl ?_
  refine J_iinc (v := x6 + 1) (env' := [(6, .int (x6 + 1)), (0, .ref x0), (2, .int x2), (3, .int x3), (4, .int x4), (5, .int x5)]) dX8_sumWith_125 5 rfl rfl (by decide) rfl ?_
  refine J_goto (tgt := 74) dX8_sumWith_128 rfl ?_
  exact J_cont [1, 2, 3, 4, 5, 0] rfl
noncomputable def X8_sumWith_L65 (x0 : Nat) (x2 : Int32) (x3 : Int32) (x4 : Int32) (x5 : Int32) : JM Mem ((Int32 ⊕ (Int32)) ⊕ (Int32)) :=
  if x3 ≤ x5 then
    jinl (X8_sumWith_b137 x0 x2 x3 x4)
  else
    jloop (fun (t : Int32) => X8_sumWith_L74 x0 x2 x3 x4 x5 t) 0
theorem j_X8_sumWith_L65 (D : va_G) (dA : Nat → ClassId) (x0 : Nat) (x2 : Int32) (x3 : Int32) (x4 : Int32) (x5 : Int32) : J (PM D dA false) Y_X8_sumWith [(0, .ref x0), (2, .int x2), (3, .int x3), (4, .int x4), (5, .int x5)] [] 65 (X8_sumWith_L65 x0 x2 x3 x4 x5) (FLoop (FLoop (FRet injI) 53 (fun (t : Int32) => [(0, .ref x0), (2, .int x2), (3, .int x3), (4, .int t)])) 65 (fun (t : Int32) => [(0, .ref x0), (2, .int x2), (3, .int x3), (4, .int x4), (5, .int t)])) := by
  unfold X8_sumWith_L65
  refine J_iload dX8_sumWith_65 4 rfl ?_
  refine J_iload_n dX8_sumWith_67 rfl 2 rfl ?_
  refine J_icmp_ge (tgt := 137) dX8_sumWith_68 rfl ?_ ?_
  · refine J_inl ?_
    refine J_sub [0, 1, 2, 3] rfl ?_
    exact j_X8_sumWith_b137 D dA x0 x2 x3 x4
  refine J_iconst (v := 0) dX8_sumWith_71 (by decide) ?_
  refine J_istore (env' := [(6, .int 0), (0, .ref x0), (2, .int x2), (3, .int x3), (4, .int x4), (5, .int x5)]) dX8_sumWith_72 (by decide) rfl ?_
  refine J_loop (he := fun (t : Int32) => [(0, .ref x0), (2, .int x2), (3, .int x3), (4, .int x4), (5, .int x5), (6, .int t)]) [1, 2, 3, 4, 5, 0] rfl (fun t => ?_)
  exact j_X8_sumWith_L74 D dA x0 x2 x3 x4 x5 t
noncomputable def X8_sumWith_L53 (x0 : Nat) (x2 : Int32) (x3 : Int32) (x4 : Int32) : JM Mem (Int32 ⊕ (Int32)) :=
  if x3 ≤ x4 then
    jinl (X8_sumWith_b143 x0 x3)
  else
  jlet (x4 + 1) fun y12 =>
  jloop (fun (t : Int32) => X8_sumWith_L65 x0 x2 x3 x4 t) y12
theorem j_X8_sumWith_L53 (D : va_G) (dA : Nat → ClassId) (x0 : Nat) (x2 : Int32) (x3 : Int32) (x4 : Int32) : J (PM D dA false) Y_X8_sumWith [(0, .ref x0), (2, .int x2), (3, .int x3), (4, .int x4)] [] 53 (X8_sumWith_L53 x0 x2 x3 x4) (FLoop (FRet injI) 53 (fun (t : Int32) => [(0, .ref x0), (2, .int x2), (3, .int x3), (4, .int t)])) := by
  unfold X8_sumWith_L53
  refine J_iload dX8_sumWith_53 3 rfl ?_
  refine J_iload_n dX8_sumWith_55 rfl 2 rfl ?_
  refine J_icmp_ge (tgt := 143) dX8_sumWith_56 rfl ?_ ?_
  · refine J_inl ?_
    refine J_sub [0, 2] rfl ?_
    exact j_X8_sumWith_b143 D dA x0 x3
  refine J_iload dX8_sumWith_59 3 rfl ?_
  refine J_iconst (v := 1) dX8_sumWith_61 (by decide) ?_
  refine J_iadd dX8_sumWith_62 ?_
  refine J_letI (fun y12 => ?_)
  refine J_istore (env' := [(5, .int y12), (0, .ref x0), (2, .int x2), (3, .int x3), (4, .int x4)]) dX8_sumWith_63 (by decide) rfl ?_
  refine J_loop (he := fun (t : Int32) => [(0, .ref x0), (2, .int x2), (3, .int x3), (4, .int x4), (5, .int t)]) [1, 2, 3, 4, 0] rfl (fun t => ?_)
  exact j_X8_sumWith_L65 D dA x0 x2 x3 x4 t
noncomputable def f_X8_sumWith (x0 : Nat) (x1 : Int32) : JM Mem Int32 :=
  jlet (127 * (x1 + 1)) fun y1 =>
  jb (jgetA 7 19 x0) fun v2 =>
  jb (jald mI 0 v2 y1) fun v3 =>
  jb (jgetI 7 26 x0) fun v4 =>
  if v3 = v4 then
    jb (jgetA 7 19 x0) fun v5 =>
    jb (jald mI 0 v5 (y1 + 1)) fun v6 =>
    jb (jgetI 7 27 x0) fun v7 =>
    jb (jgetI 7 26 x0) fun v8 =>
    jb ((f_X8_greatest v8)) fun v9 =>
    if v7 + v6 ≤ v9 then
      jloop (fun (t : Int32) => X8_sumWith_L53 x0 y1 v6 t) 0
    else
      jp 7
  else
    jp 5
theorem j_X8_sumWith (D : va_G) (dA : Nat → ClassId) (x0 : Nat) (x1 : Int32) : J (PM D dA false) Y_X8_sumWith [(0, .ref x0), (1, .int x1)] [] 0 (f_X8_sumWith x0 x1) (FRet injI) := by
  unfold f_X8_sumWith
  refine J_bipush (v := 127) dX8_sumWith_0 (by decide) ?_
  refine J_iload_n dX8_sumWith_2 rfl 1 rfl ?_
  refine J_iconst (v := 1) dX8_sumWith_3 (by decide) ?_
  refine J_iadd dX8_sumWith_4 ?_
  refine J_imul dX8_sumWith_5 ?_
  refine J_letI (fun y1 => ?_)
  refine J_istore_n (env' := [(2, .int y1), (0, .ref x0), (1, .int x1)]) dX8_sumWith_6 rfl (by decide) rfl ?_
  refine J_aload_n dX8_sumWith_7 rfl 1 rfl ?_
  refine J_getA dX8_sumWith_8 fl_X8_35 rfl (fun v2 => ?_)
  refine J_iload_n dX8_sumWith_11 rfl 0 rfl ?_
  refine J_iald dX8_sumWith_12 (fun v3 => ?_)
  refine J_aload_n dX8_sumWith_13 rfl 1 rfl ?_
  refine J_getI dX8_sumWith_14 fl_X8_250 rfl (fun v4 => ?_)
  refine J_icmp_eq (tgt := 22) dX8_sumWith_17 rfl ?_ ?_
  · refine J_aload_n dX8_sumWith_22 rfl 1 rfl ?_
    refine J_getA dX8_sumWith_23 fl_X8_35 rfl (fun v5 => ?_)
    refine J_iload_n dX8_sumWith_26 rfl 0 rfl ?_
    refine J_iconst (v := 1) dX8_sumWith_27 (by decide) ?_
    refine J_iadd dX8_sumWith_28 ?_
    refine J_iald dX8_sumWith_29 (fun v6 => ?_)
    refine J_istore_n (env' := [(3, .int v6), (2, .int y1), (0, .ref x0), (1, .int x1)]) dX8_sumWith_30 rfl (by decide) rfl ?_
    refine J_aload_n dX8_sumWith_31 rfl 2 rfl ?_
    refine J_getI dX8_sumWith_32 fl_X8_253 rfl (fun v7 => ?_)
    refine J_iload_n dX8_sumWith_35 rfl 0 rfl ?_
    refine J_iadd dX8_sumWith_36 ?_
    refine J_aload_n dX8_sumWith_37 rfl 2 rfl ?_
    refine J_getI dX8_sumWith_38 fl_X8_250 rfl (fun v8 => ?_)
    refine J_callSI (host := "") (as := [.int v8]) dX8_sumWith_41 rfl (Nat.le_of_ble_eq_true rfl) (cw_X8_greatest _ (by decide)) q1812 q1813 q1814 np_X8_greatest (i_X8_greatest v8) jad_id rfl (fun v9 => ?_)
    refine J_icmp_le (tgt := 50) dX8_sumWith_44 rfl ?_ ?_
    · refine J_iconst (v := 0) dX8_sumWith_50 (by decide) ?_
      refine J_istore (env' := [(4, .int 0), (3, .int v6), (2, .int y1), (0, .ref x0), (1, .int x1)]) dX8_sumWith_51 (by decide) rfl ?_
      refine J_loop (he := fun (t : Int32) => [(0, .ref x0), (2, .int y1), (3, .int v6), (4, .int t)]) [3, 2, 1, 0] rfl (fun t => ?_)
      exact j_X8_sumWith_L53 D dA x0 y1 v6 t
    refine J_bipush (v := 7) dX8_sumWith_47 (by decide) ?_
    exact J_ireturn dX8_sumWith_49 rfl
  refine J_iconst (v := 5) dX8_sumWith_20 (by decide) ?_
  exact J_ireturn dX8_sumWith_21 rfl
theorem i_X8_sumWith (x0 : Nat) (x1 : Int32) : Impl (ws_ yX8_sumWith cX8_sumWith 7 (some .int)) yX8_sumWith 3 false 0 0 [.ref x0, .int x1] (f_X8_sumWith x0 x1) injI := impl_of (plainFor_of_name (by decide)) (Nat.le_of_ble_eq_true rfl) (fun D dA => j_X8_sumWith D dA x0 x1)
theorem cw_X8_sumWith (Y : JY) (h : 4 ≤ Y.2.2.2.1) : JCw Y (ws_ yX8_sumWith cX8_sumWith 7 (some .int)) yX8_sumWith cX8_sumWith 7 (some .int) 3 := ⟨h, by decide, lw_meth q2313, q198, by decide, by decide⟩
theorem np_X8_sumWith : JNp yX8_sumWith.desc 1 := by decide +kernel
-- BracketRoomModel.sum(I)I
abbrev Y_X8_sum : JY := (cX8_sum, yX8_sum.cls, 3, 4, yX8_sum.name, (some .int), [])
noncomputable def f_X8_sum (x0 : Nat) (x1 : Int32) : JM Mem Int32 :=
  jb (jputI 7 1 x0 0) fun _ =>
  jb (jputI 7 0 x0 0) fun _ =>
  jb (jcall 7 x0 (f_X8_askNow x0)) fun _ =>
  jb ((f_X8_isShelf x1)) fun v1 =>
  if v1 = 0 then
    jb (jcall 7 x0 (f_X8_refuse x0 2)) fun v8 =>
    jp v8
  else
  jb (jcall 7 x0 (f_X8_isEmpty x0 x1)) fun v2 =>
  if v2 = 0 then
    jb (jcall 7 x0 (f_X8_sumWith x0 x1)) fun v3 =>
    if v3 ≤ 0 then
      jb (jgetA 7 19 x0) fun v4 =>
      jb (jald mI 0 v4 1) fun v5 =>
      jp v5
    else
    jb (jcall 7 x0 (f_X8_refuse x0 v3)) fun v6 =>
    jp v6
  else
  jb (jcall 7 x0 (f_X8_refuse x0 8)) fun v7 =>
  jp v7
theorem j_X8_sum (D : va_G) (dA : Nat → ClassId) (x0 : Nat) (x1 : Int32) : J (PM D dA false) Y_X8_sum [(0, .ref x0), (1, .int x1)] [] 0 (f_X8_sum x0 x1) (FRet injI) := by
  unfold f_X8_sum
  refine J_aload_n dX8_sum_0 rfl 0 rfl ?_
  refine J_iconst (v := 0) dX8_sum_1 (by decide) ?_
  refine J_putI dX8_sum_2 ⟨fl_X8_132, Or.inl rfl⟩ rfl ?_
  refine J_aload_n dX8_sum_5 rfl 0 rfl ?_
  refine J_iconst (v := 0) dX8_sum_6 (by decide) ?_
  refine J_putI dX8_sum_7 ⟨fl_X8_135, Or.inl rfl⟩ rfl ?_
  refine J_aload_n dX8_sum_10 rfl 0 rfl ?_
  refine J_callVV (c := 7) (as := []) dX8_sum_11 (by decide) rfl (Nat.le_of_ble_eq_true rfl) (cw_X8_askNow _ (by decide)) q1862 q1864 qs88 q1865 np_X8_askNow (i_X8_askNow x0) jad_id rfl ?_
  refine J_iload_n dX8_sum_14 rfl 1 rfl ?_
  refine J_callSI (host := "") (as := [.int x1]) dX8_sum_15 rfl (Nat.le_of_ble_eq_true rfl) (cw_X8_isShelf _ (by decide)) q1952 q1953 q1954 np_X8_isShelf (i_X8_isShelf x1) jad_id rfl (fun v1 => ?_)
  refine J_if_ne (tgt := 27) dX8_sum_18 rfl ?_ ?_
  · refine J_aload_n dX8_sum_27 rfl 0 rfl ?_
    refine J_iload_n dX8_sum_28 rfl 1 rfl ?_
    refine J_callVI (c := 7) (as := [.int x1]) dX8_sum_29 (by decide) rfl (Nat.le_of_ble_eq_true rfl) (cw_X8_isEmpty _ (by decide)) q1959 q1961 qs104 q1962 np_X8_isEmpty (i_X8_isEmpty x0 x1) jad_id rfl (fun v2 => ?_)
    refine J_if_eq (tgt := 42) dX8_sum_32 rfl ?_ ?_
    · refine J_aload_n dX8_sum_42 rfl 0 rfl ?_
      refine J_iload_n dX8_sum_43 rfl 1 rfl ?_
      refine J_callVI (c := 7) (as := [.int x1]) dX8_sum_44 (by decide) rfl (Nat.le_of_ble_eq_true rfl) (cw_X8_sumWith _ (by decide)) q2310 q2312 qs164 q2313 np_X8_sumWith (i_X8_sumWith x0 x1) jad_id rfl (fun v3 => ?_)
      refine J_istore_n (env' := [(2, .int v3), (0, .ref x0), (1, .int x1)]) dX8_sum_47 rfl (by decide) rfl ?_
      refine J_iload_n dX8_sum_48 rfl 0 rfl ?_
      refine J_if_le (tgt := 60) dX8_sum_49 rfl ?_ ?_
      · refine J_aload_n dX8_sum_60 rfl 1 rfl ?_
        refine J_getA dX8_sum_61 fl_X8_35 rfl (fun v4 => ?_)
        refine J_iconst (v := 1) dX8_sum_64 (by decide) ?_
        refine J_iald dX8_sum_65 (fun v5 => ?_)
        exact J_ireturn dX8_sum_66 rfl
      refine J_aload_n dX8_sum_52 rfl 1 rfl ?_
      refine J_iload_n dX8_sum_53 rfl 0 rfl ?_
      refine J_callVI (c := 7) (as := [.int v3]) dX8_sum_54 (by decide) rfl (Nat.le_of_ble_eq_true rfl) (cw_X8_refuse _ (by decide)) q1871 q1873 qs90 q1874 np_X8_refuse (i_X8_refuse x0 v3) jad_id rfl (fun v6 => ?_)
      refine J_goto (tgt := 66) dX8_sum_57 rfl ?_
      exact J_ireturn dX8_sum_66 rfl
    refine J_aload_n dX8_sum_35 rfl 0 rfl ?_
    refine J_bipush (v := 8) dX8_sum_36 (by decide) ?_
    refine J_callVI (c := 7) (as := [.int 8]) dX8_sum_38 (by decide) rfl (Nat.le_of_ble_eq_true rfl) (cw_X8_refuse _ (by decide)) q1871 q1873 qs90 q1874 np_X8_refuse (i_X8_refuse x0 8) jad_id rfl (fun v7 => ?_)
    exact J_ireturn dX8_sum_41 rfl
  refine J_aload_n dX8_sum_21 rfl 0 rfl ?_
  refine J_iconst (v := 2) dX8_sum_22 (by decide) ?_
  refine J_callVI (c := 7) (as := [.int 2]) dX8_sum_23 (by decide) rfl (Nat.le_of_ble_eq_true rfl) (cw_X8_refuse _ (by decide)) q1871 q1873 qs90 q1874 np_X8_refuse (i_X8_refuse x0 2) jad_id rfl (fun v8 => ?_)
  exact J_ireturn dX8_sum_26 rfl
theorem i_X8_sum (x0 : Nat) (x1 : Int32) : Impl (ws_ yX8_sum cX8_sum 3 (some .int)) yX8_sum 4 false 0 0 [.ref x0, .int x1] (f_X8_sum x0 x1) injI := impl_of (plainFor_of_name (by decide)) (Nat.le_of_ble_eq_true rfl) (fun D dA => j_X8_sum D dA x0 x1)
theorem cw_X8_sum (Y : JY) (h : 5 ≤ Y.2.2.2.1) : JCw Y (ws_ yX8_sum cX8_sum 3 (some .int)) yX8_sum cX8_sum 3 (some .int) 4 := ⟨h, by decide, lw_meth q2309, q198, by decide, by decide⟩
theorem np_X8_sum : JNp yX8_sum.desc 1 := by decide +kernel
-- BracketRoomModel.wrongMade(II)I
abbrev Y_X8_wrongMade : JY := (cX8_wrongMade, yX8_wrongMade.cls, 3, 5, yX8_wrongMade.name, (some .int), [])
noncomputable def f_X8_wrongMade (x0 : Nat) (x1 : Int32) (x2 : Int32) : JM Mem Int32 :=
  jb (jcall 7 x0 (f_X8_isTray x0 x1)) fun v1 =>
  if v1 = 0 then
    jp 1
  else
  jb (jgetA 7 5 x0) fun v2 =>
  jb (jald mI 0 v2 x1) fun v3 =>
  if 0 ≤ v3 then
    jb ((f_X8_isIn ((x2 : Int32).toInt64) 1 20)) fun v4 =>
    if v4 = 0 then
      jp 5
    else
    jb (jcall 7 x0 (f_X8_wrongVectors x0 x1 x2)) fun v5 =>
    jp v5
  else
    jp 3
theorem j_X8_wrongMade (D : va_G) (dA : Nat → ClassId) (x0 : Nat) (x1 : Int32) (x2 : Int32) : J (PM D dA false) Y_X8_wrongMade [(0, .ref x0), (1, .int x1), (2, .int x2)] [] 0 (f_X8_wrongMade x0 x1 x2) (FRet injI) := by
  unfold f_X8_wrongMade
  refine J_aload_n dX8_wrongMade_0 rfl 0 rfl ?_
  refine J_iload_n dX8_wrongMade_1 rfl 1 rfl ?_
  refine J_callVI (c := 7) (as := [.int x1]) dX8_wrongMade_2 (by decide) rfl (Nat.le_of_ble_eq_true rfl) (cw_X8_isTray _ (by decide)) q1967 q1969 qs105 q1970 np_X8_isTray (i_X8_isTray x0 x1) jad_id rfl (fun v1 => ?_)
  refine J_if_ne (tgt := 10) dX8_wrongMade_5 rfl ?_ ?_
  · refine J_aload_n dX8_wrongMade_10 rfl 0 rfl ?_
    refine J_getA dX8_wrongMade_11 fl_X8_17 rfl (fun v2 => ?_)
    refine J_iload_n dX8_wrongMade_14 rfl 1 rfl ?_
    refine J_iald dX8_wrongMade_15 (fun v3 => ?_)
    refine J_if_ge (tgt := 21) dX8_wrongMade_16 rfl ?_ ?_
    · refine J_iload_n dX8_wrongMade_21 rfl 2 rfl ?_
      refine J_i2l dX8_wrongMade_22 ?_
      refine J_lconst (v := 1) dX8_wrongMade_23 (by decide) ?_
      refine J_ldc2 dX8_wrongMade_24 q1971 ?_
      refine J_callSI (host := "") (as := [.long ((x2 : Int32).toInt64), .long 1, .long 20]) dX8_wrongMade_27 rfl (Nat.le_of_ble_eq_true rfl) (cw_X8_isIn _ (by decide)) q1801 q1802 q1803 np_X8_isIn (i_X8_isIn ((x2 : Int32).toInt64) 1 20) jad_id rfl (fun v4 => ?_)
      refine J_if_ne (tgt := 35) dX8_wrongMade_30 rfl ?_ ?_
      · refine J_aload_n dX8_wrongMade_35 rfl 0 rfl ?_
        refine J_iload_n dX8_wrongMade_36 rfl 1 rfl ?_
        refine J_iload_n dX8_wrongMade_37 rfl 2 rfl ?_
        refine J_callVI (c := 7) (as := [.int x1, .int x2]) dX8_wrongMade_38 (by decide) rfl (Nat.le_of_ble_eq_true rfl) (cw_X8_wrongVectors _ (by decide)) q1972 q1974 qs106 q1975 np_X8_wrongVectors (i_X8_wrongVectors x0 x1 x2) jad_id rfl (fun v5 => ?_)
        exact J_ireturn dX8_wrongMade_41 rfl
      refine J_iconst (v := 5) dX8_wrongMade_33 (by decide) ?_
      exact J_ireturn dX8_wrongMade_34 rfl
    refine J_iconst (v := 3) dX8_wrongMade_19 (by decide) ?_
    exact J_ireturn dX8_wrongMade_20 rfl
  refine J_iconst (v := 1) dX8_wrongMade_8 (by decide) ?_
  exact J_ireturn dX8_wrongMade_9 rfl
theorem i_X8_wrongMade (x0 : Nat) (x1 : Int32) (x2 : Int32) : Impl (ws_ yX8_wrongMade cX8_wrongMade 3 (some .int)) yX8_wrongMade 5 false 0 0 [.ref x0, .int x1, .int x2] (f_X8_wrongMade x0 x1 x2) injI := impl_of (plainFor_of_name (by decide)) (Nat.le_of_ble_eq_true rfl) (fun D dA => j_X8_wrongMade D dA x0 x1 x2)
theorem cw_X8_wrongMade (Y : JY) (h : 6 ≤ Y.2.2.2.1) : JCw Y (ws_ yX8_wrongMade cX8_wrongMade 3 (some .int)) yX8_wrongMade cX8_wrongMade 3 (some .int) 5 := ⟨h, by decide, lw_meth q2321, q198, by decide, by decide⟩
theorem np_X8_wrongMade : JNp yX8_wrongMade.desc 2 := by decide +kernel
-- BracketRoomModel.rest(II)I
abbrev Y_X8_rest : JY := (cX8_rest, yX8_rest.cls, 9, 6, yX8_rest.name, (some .int), [])
noncomputable def X8_rest_b296 (x0 : Nat) (x5 : Int32) : JM Mem Int32 :=
  jb (jcall 7 x0 (f_X8_takeOther x0)) fun _ =>
  jp x5
theorem j_X8_rest_b296 (D : va_G) (dA : Nat → ClassId) (x0 : Nat) (x5 : Int32) : J (PM D dA false) Y_X8_rest [(0, .ref x0), (5, .int x5)] [] 296 (X8_rest_b296 x0 x5) (FRet injI) := by
  unfold X8_rest_b296
  refine J_aload_n dX8_rest_296 rfl 0 rfl ?_
  refine J_callVV (c := 7) (as := []) dX8_rest_297 (by decide) rfl (Nat.le_of_ble_eq_true rfl) (cw_X8_takeOther _ (by decide)) q2261 q2263 qs157 q2264 np_X8_takeOther (i_X8_takeOther x0) jad_id rfl ?_
  refine J_iload dX8_rest_300 1 rfl ?_
  exact J_ireturn dX8_rest_302 rfl
noncomputable def X8_rest_b290 (x0 : Nat) (x4 : Int32) (x5 : Int32) (x6 : Int32) : JM Mem (Int32 ⊕ (Int32)) :=
  jcont (x6 + 1)
theorem j_X8_rest_b290 (D : va_G) (dA : Nat → ClassId) (x0 : Nat) (x4 : Int32) (x5 : Int32) (x6 : Int32) : J (PM D dA false) Y_X8_rest [(0, .ref x0), (4, .int x4), (5, .int x5), (6, .int x6)] [] 290 (X8_rest_b290 x0 x4 x5 x6) (FLoop (FRet injI) 162 (fun (t : Int32) => [(0, .ref x0), (4, .int x4), (5, .int x5), (6, .int t)])) := by
  unfold X8_rest_b290
  refine J_iinc (v := x6 + 1) (env' := [(6, .int (x6 + 1)), (0, .ref x0), (4, .int x4), (5, .int x5)]) dX8_rest_290 3 rfl rfl (by decide) rfl ?_
  refine J_goto (tgt := 162) dX8_rest_293 rfl ?_
  exact J_cont [1, 2, 3, 0] rfl
noncomputable def X8_rest_b284 (x0 : Nat) (x4 : Int32) (x5 : Int32) (x6 : Int32) (x7 : Int32) : JM Mem ((Int32 ⊕ (Int32)) ⊕ (Int32)) :=
  jcont (x7 + 1)
theorem j_X8_rest_b284 (D : va_G) (dA : Nat → ClassId) (x0 : Nat) (x4 : Int32) (x5 : Int32) (x6 : Int32) (x7 : Int32) : J (PM D dA false) Y_X8_rest [(0, .ref x0), (4, .int x4), (5, .int x5), (6, .int x6), (7, .int x7)] [] 284 (X8_rest_b284 x0 x4 x5 x6 x7) (FLoop (FLoop (FRet injI) 162 (fun (t : Int32) => [(0, .ref x0), (4, .int x4), (5, .int x5), (6, .int t)])) 175 (fun (t : Int32) => [(0, .ref x0), (4, .int x4), (5, .int x5), (6, .int x6), (7, .int t)])) := by
  unfold X8_rest_b284
  refine J_iinc (v := x7 + 1) (env' := [(7, .int (x7 + 1)), (0, .ref x0), (4, .int x4), (5, .int x5), (6, .int x6)]) dX8_rest_284 4 rfl rfl (by decide) rfl ?_
  refine J_goto (tgt := 175) dX8_rest_287 rfl ?_
  exact J_cont [1, 2, 3, 4, 0] rfl
noncomputable def X8_rest_L245 (x0 : Nat) (x4 : Int32) (x5 : Int32) (x6 : Int32) (x7 : Int32) (x8 : Int32) : JM Mem (((Int32 ⊕ (Int32)) ⊕ (Int32)) ⊕ (Int32)) :=
  if x5 ≤ x8 then
    jinl (X8_rest_b284 x0 x4 x5 x6 x7)
  else
  jb (jgetA 7 21 x0) fun v11 =>
  jb (jgetA 7 54 x0) fun v12 =>
  jb (jgetA 7 56 x0) fun v13 =>
  jb (jald mI 0 v13 x8) fun v14 =>
  jb (jald mI 0 v12 v14) fun v15 =>
  jb ((f_X8_set v11 0 x6 x7 x8 v15)) fun _ =>
  jcont (x8 + 1)
theorem j_X8_rest_L245 (D : va_G) (dA : Nat → ClassId) (x0 : Nat) (x4 : Int32) (x5 : Int32) (x6 : Int32) (x7 : Int32) (x8 : Int32) : J (PM D dA false) Y_X8_rest [(0, .ref x0), (4, .int x4), (5, .int x5), (6, .int x6), (7, .int x7), (8, .int x8)] [] 245 (X8_rest_L245 x0 x4 x5 x6 x7 x8) (FLoop (FLoop (FLoop (FRet injI) 162 (fun (t : Int32) => [(0, .ref x0), (4, .int x4), (5, .int x5), (6, .int t)])) 175 (fun (t : Int32) => [(0, .ref x0), (4, .int x4), (5, .int x5), (6, .int x6), (7, .int t)])) 245 (fun (t : Int32) => [(0, .ref x0), (4, .int x4), (5, .int x5), (6, .int x6), (7, .int x7), (8, .int t)])) := by
  unfold X8_rest_L245
  refine J_iload dX8_rest_245 5 rfl ?_
  refine J_iload dX8_rest_247 2 rfl ?_
  refine J_icmp_ge (tgt := 284) dX8_rest_249 rfl ?_ ?_
  · refine J_inl ?_
    refine J_sub [0, 1, 2, 3, 4] rfl ?_
    exact j_X8_rest_b284 D dA x0 x4 x5 x6 x7
  refine J_aload_n dX8_rest_252 rfl 0 rfl ?_
  refine J_getA dX8_rest_253 fl_X8_41 rfl (fun v11 => ?_)
  refine J_iconst (v := 0) dX8_rest_256 (by decide) ?_
  refine J_iload dX8_rest_257 3 rfl ?_
  refine J_iload dX8_rest_259 4 rfl ?_
  refine J_iload dX8_rest_261 5 rfl ?_
  refine J_aload_n dX8_rest_263 rfl 0 rfl ?_
  refine J_getA dX8_rest_264 fl_X8_95 rfl (fun v12 => ?_)
  refine J_aload_n dX8_rest_267 rfl 0 rfl ?_
  refine J_getA dX8_rest_268 fl_X8_101 rfl (fun v13 => ?_)
  refine J_iload dX8_rest_271 5 rfl ?_
  refine J_iald dX8_rest_273 (fun v14 => ?_)
  refine J_iald dX8_rest_274 (fun v15 => ?_)
  refine J_callSV (host := "") (as := [.ref v11, .int 0, .int x6, .int x7, .int x8, .int v15]) dX8_rest_275 rfl (Nat.le_of_ble_eq_true rfl) (cw_X8_set _ (by decide)) q1844 q1845 q1846 np_X8_set (i_X8_set v11 0 x6 x7 x8 v15) jad_id rfl ?_
  refine J_iinc (v := x8 + 1) (env' := [(8, .int (x8 + 1)), (0, .ref x0), (4, .int x4), (5, .int x5), (6, .int x6), (7, .int x7)]) dX8_rest_278 5 rfl rfl (by decide) rfl ?_
  refine J_goto (tgt := 245) dX8_rest_281 rfl ?_
  exact J_cont [1, 2, 3, 4, 5, 0] rfl
noncomputable def X8_rest_b227 (x0 : Nat) (x4 : Int32) (x5 : Int32) (x6 : Int32) (x7 : Int32) : JM Mem ((Int32 ⊕ (Int32)) ⊕ (Int32)) :=
  jb (jgetA 7 30 x0) fun v9 =>
  jb (jgetA 7 33 x0) fun v10 =>
  jb (jcall 7 x0 (f_X8_reduce x0 v9 x4 v10 0)) fun _ =>
  jloop (fun (t : Int32) => X8_rest_L245 x0 x4 x5 x6 x7 t) 0
theorem j_X8_rest_b227 (D : va_G) (dA : Nat → ClassId) (x0 : Nat) (x4 : Int32) (x5 : Int32) (x6 : Int32) (x7 : Int32) : J (PM D dA false) Y_X8_rest [(0, .ref x0), (4, .int x4), (5, .int x5), (6, .int x6), (7, .int x7)] [] 227 (X8_rest_b227 x0 x4 x5 x6 x7) (FLoop (FLoop (FRet injI) 162 (fun (t : Int32) => [(0, .ref x0), (4, .int x4), (5, .int x5), (6, .int t)])) 175 (fun (t : Int32) => [(0, .ref x0), (4, .int x4), (5, .int x5), (6, .int x6), (7, .int t)])) := by
  unfold X8_rest_b227
  refine J_aload_n dX8_rest_227 rfl 0 rfl ?_
  refine J_aload_n dX8_rest_228 rfl 0 rfl ?_
  refine J_getA dX8_rest_229 fl_X8_53 rfl (fun v9 => ?_)
  refine J_iload dX8_rest_232 1 rfl ?_
  refine J_aload_n dX8_rest_234 rfl 0 rfl ?_
  refine J_getA dX8_rest_235 fl_X8_62 rfl (fun v10 => ?_)
  refine J_iconst (v := 0) dX8_rest_238 (by decide) ?_
  refine J_callVV (c := 7) (as := [.ref v9, .int x4, .ref v10, .int 0]) dX8_rest_239 (by decide) rfl (Nat.le_of_ble_eq_true rfl) (cw_X8_reduce _ (by decide)) q1988 q1990 qs110 q1991 np_X8_reduce (i_X8_reduce x0 v9 x4 v10 0) jad_id rfl ?_
  refine J_iconst (v := 0) dX8_rest_242 (by decide) ?_
  refine J_istore (env' := [(8, .int 0), (0, .ref x0), (4, .int x4), (5, .int x5), (6, .int x6), (7, .int x7)]) dX8_rest_243 (by decide) rfl ?_
  refine J_loop (he := fun (t : Int32) => [(0, .ref x0), (4, .int x4), (5, .int x5), (6, .int x6), (7, .int x7), (8, .int t)]) [1, 2, 3, 4, 5, 0] rfl (fun t => ?_)
  exact j_X8_rest_L245 D dA x0 x4 x5 x6 x7 t
noncomputable def X8_rest_L185 (x0 : Nat) (x4 : Int32) (x5 : Int32) (x6 : Int32) (x7 : Int32) (x8 : Int32) : JM Mem (((Int32 ⊕ (Int32)) ⊕ (Int32)) ⊕ (Int32)) :=
  jb (jgetI 7 27 x0) fun v8 =>
  if v8 ≤ x8 then
    jinl (X8_rest_b227 x0 x4 x5 x6 x7)
  else
  jb (jgetA 7 33 x0) fun v16 =>
  jb (jgetA 7 56 x0) fun v17 =>
  jb (jald mI 0 v17 x6) fun v18 =>
  jb (jgetA 7 56 x0) fun v19 =>
  jb (jald mI 0 v19 x7) fun v20 =>
  jb (jcall 7 x0 (f_X8_table x0 v18 v20 x8)) fun v21 =>
  jb (jast_i v16 x8 v21) fun _ =>
  jcont (x8 + 1)
theorem j_X8_rest_L185 (D : va_G) (dA : Nat → ClassId) (x0 : Nat) (x4 : Int32) (x5 : Int32) (x6 : Int32) (x7 : Int32) (x8 : Int32) : J (PM D dA false) Y_X8_rest [(0, .ref x0), (4, .int x4), (5, .int x5), (6, .int x6), (7, .int x7), (8, .int x8)] [] 185 (X8_rest_L185 x0 x4 x5 x6 x7 x8) (FLoop (FLoop (FLoop (FRet injI) 162 (fun (t : Int32) => [(0, .ref x0), (4, .int x4), (5, .int x5), (6, .int t)])) 175 (fun (t : Int32) => [(0, .ref x0), (4, .int x4), (5, .int x5), (6, .int x6), (7, .int t)])) 185 (fun (t : Int32) => [(0, .ref x0), (4, .int x4), (5, .int x5), (6, .int x6), (7, .int x7), (8, .int t)])) := by
  unfold X8_rest_L185
  refine J_iload dX8_rest_185 5 rfl ?_
  refine J_aload_n dX8_rest_187 rfl 0 rfl ?_
  refine J_getI dX8_rest_188 fl_X8_253 rfl (fun v8 => ?_)
  refine J_icmp_ge (tgt := 227) dX8_rest_191 rfl ?_ ?_
  · refine J_inl ?_
    refine J_sub [0, 1, 2, 3, 4] rfl ?_
    exact j_X8_rest_b227 D dA x0 x4 x5 x6 x7
  refine J_aload_n dX8_rest_194 rfl 0 rfl ?_
  refine J_getA dX8_rest_195 fl_X8_62 rfl (fun v16 => ?_)
  refine J_iload dX8_rest_198 5 rfl ?_
  refine J_aload_n dX8_rest_200 rfl 0 rfl ?_
  refine J_aload_n dX8_rest_201 rfl 0 rfl ?_
  refine J_getA dX8_rest_202 fl_X8_101 rfl (fun v17 => ?_)
  refine J_iload dX8_rest_205 3 rfl ?_
  refine J_iald dX8_rest_207 (fun v18 => ?_)
  refine J_aload_n dX8_rest_208 rfl 0 rfl ?_
  refine J_getA dX8_rest_209 fl_X8_101 rfl (fun v19 => ?_)
  refine J_iload dX8_rest_212 4 rfl ?_
  refine J_iald dX8_rest_214 (fun v20 => ?_)
  refine J_iload dX8_rest_215 5 rfl ?_
  refine J_callVI (c := 7) (as := [.int v18, .int v20, .int x8]) dX8_rest_217 (by decide) rfl (Nat.le_of_ble_eq_true rfl) (cw_X8_table _ (by decide)) q1875 q1877 qs91 q1878 np_X8_table (i_X8_table x0 v18 v20 x8) jad_id rfl (fun v21 => ?_)
  refine J_iast dX8_rest_220 ?_
  refine J_iinc (v := x8 + 1) (env' := [(8, .int (x8 + 1)), (0, .ref x0), (4, .int x4), (5, .int x5), (6, .int x6), (7, .int x7)]) dX8_rest_221 5 rfl rfl (by decide) rfl ?_
  refine J_goto (tgt := 185) dX8_rest_224 rfl ?_
  exact J_cont [1, 2, 3, 4, 5, 0] rfl
noncomputable def X8_rest_L175 (x0 : Nat) (x4 : Int32) (x5 : Int32) (x6 : Int32) (x7 : Int32) : JM Mem ((Int32 ⊕ (Int32)) ⊕ (Int32)) :=
  if x5 ≤ x7 then
    jinl (X8_rest_b290 x0 x4 x5 x6)
  else
    jloop (fun (t : Int32) => X8_rest_L185 x0 x4 x5 x6 x7 t) 0
theorem j_X8_rest_L175 (D : va_G) (dA : Nat → ClassId) (x0 : Nat) (x4 : Int32) (x5 : Int32) (x6 : Int32) (x7 : Int32) : J (PM D dA false) Y_X8_rest [(0, .ref x0), (4, .int x4), (5, .int x5), (6, .int x6), (7, .int x7)] [] 175 (X8_rest_L175 x0 x4 x5 x6 x7) (FLoop (FLoop (FRet injI) 162 (fun (t : Int32) => [(0, .ref x0), (4, .int x4), (5, .int x5), (6, .int t)])) 175 (fun (t : Int32) => [(0, .ref x0), (4, .int x4), (5, .int x5), (6, .int x6), (7, .int t)])) := by
  unfold X8_rest_L175
  refine J_iload dX8_rest_175 4 rfl ?_
  refine J_iload dX8_rest_177 2 rfl ?_
  refine J_icmp_ge (tgt := 290) dX8_rest_179 rfl ?_ ?_
  · refine J_inl ?_
    refine J_sub [0, 1, 2, 3] rfl ?_
    exact j_X8_rest_b290 D dA x0 x4 x5 x6
  refine J_iconst (v := 0) dX8_rest_182 (by decide) ?_
  refine J_istore (env' := [(8, .int 0), (0, .ref x0), (4, .int x4), (5, .int x5), (6, .int x6), (7, .int x7)]) dX8_rest_183 (by decide) rfl ?_
  refine J_loop (he := fun (t : Int32) => [(0, .ref x0), (4, .int x4), (5, .int x5), (6, .int x6), (7, .int x7), (8, .int t)]) [1, 2, 3, 4, 5, 0] rfl (fun t => ?_)
  exact j_X8_rest_L185 D dA x0 x4 x5 x6 x7 t
noncomputable def X8_rest_L162 (x0 : Nat) (x4 : Int32) (x5 : Int32) (x6 : Int32) : JM Mem (Int32 ⊕ (Int32)) :=
  if x5 ≤ x6 then
    jinl (X8_rest_b296 x0 x5)
  else
  jlet (x6 + 1) fun y7 =>
  jloop (fun (t : Int32) => X8_rest_L175 x0 x4 x5 x6 t) y7
theorem j_X8_rest_L162 (D : va_G) (dA : Nat → ClassId) (x0 : Nat) (x4 : Int32) (x5 : Int32) (x6 : Int32) : J (PM D dA false) Y_X8_rest [(0, .ref x0), (4, .int x4), (5, .int x5), (6, .int x6)] [] 162 (X8_rest_L162 x0 x4 x5 x6) (FLoop (FRet injI) 162 (fun (t : Int32) => [(0, .ref x0), (4, .int x4), (5, .int x5), (6, .int t)])) := by
  unfold X8_rest_L162
  refine J_iload dX8_rest_162 3 rfl ?_
  refine J_iload dX8_rest_164 2 rfl ?_
  refine J_icmp_ge (tgt := 296) dX8_rest_166 rfl ?_ ?_
  · refine J_inl ?_
    refine J_sub [0, 2] rfl ?_
    exact j_X8_rest_b296 D dA x0 x5
  refine J_iload dX8_rest_169 3 rfl ?_
  refine J_iconst (v := 1) dX8_rest_171 (by decide) ?_
  refine J_iadd dX8_rest_172 ?_
  refine J_letI (fun y7 => ?_)
  refine J_istore (env' := [(7, .int y7), (0, .ref x0), (4, .int x4), (5, .int x5), (6, .int x6)]) dX8_rest_173 (by decide) rfl ?_
  refine J_loop (he := fun (t : Int32) => [(0, .ref x0), (4, .int x4), (5, .int x5), (6, .int x6), (7, .int t)]) [1, 2, 3, 4, 0] rfl (fun t => ?_)
  exact j_X8_rest_L175 D dA x0 x4 x5 x6 t
noncomputable def X8_rest_b145 (x0 : Nat) (x4 : Int32) (x5 : Int32) : JM Mem Int32 :=
  jb (jgetA 7 21 x0) fun v5 =>
  jb (jgetI 7 26 x0) fun v6 =>
  jb ((f_X8_clear v5 0 v6 x5)) fun _ =>
  jloop (fun (t : Int32) => X8_rest_L162 x0 x4 x5 t) 0
theorem j_X8_rest_b145 (D : va_G) (dA : Nat → ClassId) (x0 : Nat) (x4 : Int32) (x5 : Int32) : J (PM D dA false) Y_X8_rest [(0, .ref x0), (4, .int x4), (5, .int x5)] [] 145 (X8_rest_b145 x0 x4 x5) (FRet injI) := by
  unfold X8_rest_b145
  refine J_aload_n dX8_rest_145 rfl 0 rfl ?_
  refine J_getA dX8_rest_146 fl_X8_41 rfl (fun v5 => ?_)
  refine J_iconst (v := 0) dX8_rest_149 (by decide) ?_
  refine J_aload_n dX8_rest_150 rfl 0 rfl ?_
  refine J_getI dX8_rest_151 fl_X8_250 rfl (fun v6 => ?_)
  refine J_iload dX8_rest_154 2 rfl ?_
  refine J_callSV (host := "") (as := [.ref v5, .int 0, .int v6, .int x5]) dX8_rest_156 rfl (Nat.le_of_ble_eq_true rfl) (cw_X8_clear _ (by decide)) q1815 q1816 q1817 np_X8_clear (i_X8_clear v5 0 v6 x5) jad_id rfl ?_
  refine J_iconst (v := 0) dX8_rest_159 (by decide) ?_
  refine J_istore (env' := [(6, .int 0), (0, .ref x0), (4, .int x4), (5, .int x5)]) dX8_rest_160 (by decide) rfl ?_
  refine J_loop (he := fun (t : Int32) => [(0, .ref x0), (4, .int x4), (5, .int x5), (6, .int t)]) [1, 2, 3, 0] rfl (fun t => ?_)
  exact j_X8_rest_L162 D dA x0 x4 x5 t
noncomputable def X8_rest_b139 (x0 : Nat) (x4 : Int32) (x5 : Int32) (x6 : Int32) : JM Mem (Int32 ⊕ (Int32 × Int32)) :=
  jcont (x5, x6 + 1)
theorem j_X8_rest_b139 (D : va_G) (dA : Nat → ClassId) (x0 : Nat) (x4 : Int32) (x5 : Int32) (x6 : Int32) : J (PM D dA false) Y_X8_rest [(0, .ref x0), (4, .int x4), (5, .int x5), (6, .int x6)] [] 139 (X8_rest_b139 x0 x4 x5 x6) (FLoop (FRet injI) 62 (fun (t : Int32 × Int32) => [(0, .ref x0), (4, .int x4), (5, .int t.1), (6, .int t.2)])) := by
  unfold X8_rest_b139
  refine J_iinc (v := x6 + 1) (env' := [(6, .int (x6 + 1)), (0, .ref x0), (4, .int x4), (5, .int x5)]) dX8_rest_139 3 rfl rfl (by decide) rfl ?_
  refine J_goto (tgt := 62) dX8_rest_142 rfl ?_
  exact J_cont [1, 2, 3, 0] rfl
noncomputable def X8_rest_b119 (x0 : Nat) (x4 : Int32) (x5 : Int32) (x6 : Int32) (x7 : Int32) : JM Mem (Int32 ⊕ (Int32 × Int32)) :=
  if x7 = 0 then
    jb (jgetA 7 56 x0) fun v22 =>
    jb (jast_i v22 x5 x6) fun _ =>
    X8_rest_b139 x0 x4 (x5 + 1) x6
  else
    X8_rest_b139 x0 x4 x5 x6
theorem j_X8_rest_b119 (D : va_G) (dA : Nat → ClassId) (x0 : Nat) (x4 : Int32) (x5 : Int32) (x6 : Int32) (x7 : Int32) : J (PM D dA false) Y_X8_rest [(0, .ref x0), (4, .int x4), (5, .int x5), (6, .int x6), (7, .int x7)] [] 119 (X8_rest_b119 x0 x4 x5 x6 x7) (FLoop (FRet injI) 62 (fun (t : Int32 × Int32) => [(0, .ref x0), (4, .int x4), (5, .int t.1), (6, .int t.2)])) := by
  unfold X8_rest_b119
  refine J_iload dX8_rest_119 4 rfl ?_
  refine J_if_eq (tgt := 127) dX8_rest_121 rfl ?_ ?_
  · refine J_aload_n dX8_rest_127 rfl 0 rfl ?_
    refine J_getA dX8_rest_128 fl_X8_101 rfl (fun v22 => ?_)
    refine J_iload dX8_rest_131 2 rfl ?_
    refine J_iload dX8_rest_133 3 rfl ?_
    refine J_iast dX8_rest_135 ?_
    refine J_iinc (v := x5 + 1) (env' := [(5, .int (x5 + 1)), (0, .ref x0), (4, .int x4), (6, .int x6), (7, .int x7)]) dX8_rest_136 2 rfl rfl (by decide) rfl ?_
    refine J_sub [1, 2, 0, 3] rfl ?_
    exact j_X8_rest_b139 D dA x0 x4 (x5 + 1) x6
  refine J_goto (tgt := 139) dX8_rest_124 rfl ?_
  refine J_sub [0, 1, 2, 3] rfl ?_
  exact j_X8_rest_b139 D dA x0 x4 x5 x6
noncomputable def X8_rest_b111 (x0 : Nat) (x4 : Int32) (x5 : Int32) (x6 : Int32) (x8 : Int32) (s0 : Int32) : JM Mem ((Int32 ⊕ (Int32 × Int32)) ⊕ (Int32 × Int32)) :=
  jcont (s0, x8 + 1)
theorem j_X8_rest_b111 (D : va_G) (dA : Nat → ClassId) (x0 : Nat) (x4 : Int32) (x5 : Int32) (x6 : Int32) (x8 : Int32) (s0 : Int32) : J (PM D dA false) Y_X8_rest [(0, .ref x0), (4, .int x4), (5, .int x5), (6, .int x6), (8, .int x8)] [.int s0] 111 (X8_rest_b111 x0 x4 x5 x6 x8 s0) (FLoop (FLoop (FRet injI) 62 (fun (t : Int32 × Int32) => [(0, .ref x0), (4, .int x4), (5, .int t.1), (6, .int t.2)])) 77 (fun (t : Int32 × Int32) => [(0, .ref x0), (4, .int x4), (5, .int x5), (6, .int x6), (7, .int t.1), (8, .int t.2)])) := by
  unfold X8_rest_b111
  refine J_istore (env' := [(7, .int s0), (0, .ref x0), (4, .int x4), (5, .int x5), (6, .int x6), (8, .int x8)]) dX8_rest_111 (by decide) rfl ?_
  refine J_iinc (v := x8 + 1) (env' := [(8, .int (x8 + 1)), (7, .int s0), (0, .ref x0), (4, .int x4), (5, .int x5), (6, .int x6)]) dX8_rest_113 5 rfl rfl (by decide) rfl ?_
  refine J_goto (tgt := 77) dX8_rest_116 rfl ?_
  exact J_cont [2, 3, 4, 5, 1, 0] rfl
noncomputable def X8_rest_b106 (x0 : Nat) (x4 : Int32) (x5 : Int32) (x6 : Int32) (x8 : Int32) : JM Mem ((Int32 ⊕ (Int32 × Int32)) ⊕ (Int32 × Int32)) :=
  X8_rest_b111 x0 x4 x5 x6 x8 1
theorem j_X8_rest_b106 (D : va_G) (dA : Nat → ClassId) (x0 : Nat) (x4 : Int32) (x5 : Int32) (x6 : Int32) (x8 : Int32) : J (PM D dA false) Y_X8_rest [(0, .ref x0), (4, .int x4), (5, .int x5), (6, .int x6), (8, .int x8)] [] 106 (X8_rest_b106 x0 x4 x5 x6 x8) (FLoop (FLoop (FRet injI) 62 (fun (t : Int32 × Int32) => [(0, .ref x0), (4, .int x4), (5, .int t.1), (6, .int t.2)])) 77 (fun (t : Int32 × Int32) => [(0, .ref x0), (4, .int x4), (5, .int x5), (6, .int x6), (7, .int t.1), (8, .int t.2)])) := by
  unfold X8_rest_b106
  refine J_iconst (v := 1) dX8_rest_106 (by decide) ?_
  refine J_goto (tgt := 111) dX8_rest_107 rfl ?_
  refine J_sub [0, 1, 2, 3, 4] rfl ?_
  exact j_X8_rest_b111 D dA x0 x4 x5 x6 x8 1
noncomputable def X8_rest_L77 (x0 : Nat) (x4 : Int32) (x5 : Int32) (x6 : Int32) (x7 : Int32) (x8 : Int32) : JM Mem ((Int32 ⊕ (Int32 × Int32)) ⊕ (Int32 × Int32)) :=
  if x4 ≤ x8 then
    jinl (X8_rest_b119 x0 x4 x5 x6 x7)
  else
  if x7 = 0 then
    jb (jgetA 7 30 x0) fun v23 =>
    jb (jcall 7 x0 (f_X8_leadOf x0 v23 (5 * x8))) fun v24 =>
    if v24 = x6 then
      X8_rest_b106 x0 x4 x5 x6 x8
    else
      X8_rest_b111 x0 x4 x5 x6 x8 0
  else
    X8_rest_b106 x0 x4 x5 x6 x8
theorem j_X8_rest_L77 (D : va_G) (dA : Nat → ClassId) (x0 : Nat) (x4 : Int32) (x5 : Int32) (x6 : Int32) (x7 : Int32) (x8 : Int32) : J (PM D dA false) Y_X8_rest [(0, .ref x0), (4, .int x4), (5, .int x5), (6, .int x6), (7, .int x7), (8, .int x8)] [] 77 (X8_rest_L77 x0 x4 x5 x6 x7 x8) (FLoop (FLoop (FRet injI) 62 (fun (t : Int32 × Int32) => [(0, .ref x0), (4, .int x4), (5, .int t.1), (6, .int t.2)])) 77 (fun (t : Int32 × Int32) => [(0, .ref x0), (4, .int x4), (5, .int x5), (6, .int x6), (7, .int t.1), (8, .int t.2)])) := by
  unfold X8_rest_L77
  refine J_iload dX8_rest_77 5 rfl ?_
  refine J_iload dX8_rest_79 1 rfl ?_
  refine J_icmp_ge (tgt := 119) dX8_rest_81 rfl ?_ ?_
  · refine J_inl ?_
    refine J_sub [0, 1, 2, 3, 4] rfl ?_
    exact j_X8_rest_b119 D dA x0 x4 x5 x6 x7
  refine J_iload dX8_rest_84 4 rfl ?_
  refine J_if_ne (tgt := 106) dX8_rest_86 rfl ?_ ?_
  · refine J_sub [0, 1, 2, 3, 5] rfl ?_
    exact j_X8_rest_b106 D dA x0 x4 x5 x6 x8
  refine J_aload_n dX8_rest_89 rfl 0 rfl ?_
  refine J_aload_n dX8_rest_90 rfl 0 rfl ?_
  refine J_getA dX8_rest_91 fl_X8_53 rfl (fun v23 => ?_)
  refine J_iconst (v := 5) dX8_rest_94 (by decide) ?_
  refine J_iload dX8_rest_95 5 rfl ?_
  refine J_imul dX8_rest_97 ?_
  refine J_callVI (c := 7) (as := [.ref v23, .int (5 * x8)]) dX8_rest_98 (by decide) rfl (Nat.le_of_ble_eq_true rfl) (cw_X8_leadOf _ (by decide)) q1939 q1941 qs103 q1942 np_X8_leadOf (i_X8_leadOf x0 v23 (5 * x8)) jad_id rfl (fun v24 => ?_)
  refine J_iload dX8_rest_101 3 rfl ?_
  refine J_icmp_ne (tgt := 110) dX8_rest_103 rfl ?_ ?_
  · refine J_iconst (v := 0) dX8_rest_110 (by decide) ?_
    refine J_sub [0, 1, 2, 3, 5] rfl ?_
    exact j_X8_rest_b111 D dA x0 x4 x5 x6 x8 0
  refine J_sub [0, 1, 2, 3, 5] rfl ?_
  exact j_X8_rest_b106 D dA x0 x4 x5 x6 x8
noncomputable def X8_rest_L62 (x0 : Nat) (x4 : Int32) (x5 : Int32) (x6 : Int32) : JM Mem (Int32 ⊕ (Int32 × Int32)) :=
  jb (jgetI 7 27 x0) fun v4 =>
  if v4 ≤ x6 then
    jinl (X8_rest_b145 x0 x4 x5)
  else
    jloop (fun (t : Int32 × Int32) => X8_rest_L77 x0 x4 x5 x6 t.1 t.2) (0, 0)
theorem j_X8_rest_L62 (D : va_G) (dA : Nat → ClassId) (x0 : Nat) (x4 : Int32) (x5 : Int32) (x6 : Int32) : J (PM D dA false) Y_X8_rest [(0, .ref x0), (4, .int x4), (5, .int x5), (6, .int x6)] [] 62 (X8_rest_L62 x0 x4 x5 x6) (FLoop (FRet injI) 62 (fun (t : Int32 × Int32) => [(0, .ref x0), (4, .int x4), (5, .int t.1), (6, .int t.2)])) := by
  unfold X8_rest_L62
  refine J_iload dX8_rest_62 3 rfl ?_
  refine J_aload_n dX8_rest_64 rfl 0 rfl ?_
  refine J_getI dX8_rest_65 fl_X8_253 rfl (fun v4 => ?_)
  refine J_icmp_ge (tgt := 145) dX8_rest_68 rfl ?_ ?_
  · refine J_inl ?_
    refine J_sub [0, 1, 2] rfl ?_
    exact j_X8_rest_b145 D dA x0 x4 x5
  refine J_iconst (v := 0) dX8_rest_71 (by decide) ?_
  refine J_istore (env' := [(7, .int 0), (0, .ref x0), (4, .int x4), (5, .int x5), (6, .int x6)]) dX8_rest_72 (by decide) rfl ?_
  refine J_iconst (v := 0) dX8_rest_74 (by decide) ?_
  refine J_istore (env' := [(8, .int 0), (7, .int 0), (0, .ref x0), (4, .int x4), (5, .int x5), (6, .int x6)]) dX8_rest_75 (by decide) rfl ?_
  refine J_loop (he := fun (t : Int32 × Int32) => [(0, .ref x0), (4, .int x4), (5, .int x5), (6, .int x6), (7, .int t.1), (8, .int t.2)]) [2, 3, 4, 5, 1, 0] rfl (fun t => ?_)
  exact j_X8_rest_L77 D dA x0 x4 x5 x6 t.1 t.2
noncomputable def f_X8_rest (x0 : Nat) (x1 : Int32) (x2 : Int32) : JM Mem Int32 :=
  jb (jputI 7 1 x0 0) fun _ =>
  jb (jputI 7 0 x0 0) fun _ =>
  jb (jcall 7 x0 (f_X8_askNow x0)) fun _ =>
  jb (jcall 7 x0 (f_X8_wrongMade x0 x1 x2)) fun v1 =>
  if v1 ≤ 0 then
    jb (jcall 7 x0 (f_X8_made x0 x1 x2 2)) fun v2 =>
    jb (jgetI 7 27 x0) fun v3 =>
    if v2 = v3 then
      jb (jcall 7 x0 (f_X8_refuse x0 9)) fun v25 =>
      jp v25
    else
      jloop (fun (t : Int32 × Int32) => X8_rest_L62 x0 v2 t.1 t.2) (0, 0)
  else
  jb (jcall 7 x0 (f_X8_refuse x0 v1)) fun v26 =>
  jp v26
theorem j_X8_rest (D : va_G) (dA : Nat → ClassId) (x0 : Nat) (x1 : Int32) (x2 : Int32) : J (PM D dA false) Y_X8_rest [(0, .ref x0), (1, .int x1), (2, .int x2)] [] 0 (f_X8_rest x0 x1 x2) (FRet injI) := by
  unfold f_X8_rest
  refine J_aload_n dX8_rest_0 rfl 0 rfl ?_
  refine J_iconst (v := 0) dX8_rest_1 (by decide) ?_
  refine J_putI dX8_rest_2 ⟨fl_X8_132, Or.inl rfl⟩ rfl ?_
  refine J_aload_n dX8_rest_5 rfl 0 rfl ?_
  refine J_iconst (v := 0) dX8_rest_6 (by decide) ?_
  refine J_putI dX8_rest_7 ⟨fl_X8_135, Or.inl rfl⟩ rfl ?_
  refine J_aload_n dX8_rest_10 rfl 0 rfl ?_
  refine J_callVV (c := 7) (as := []) dX8_rest_11 (by decide) rfl (Nat.le_of_ble_eq_true rfl) (cw_X8_askNow _ (by decide)) q1862 q1864 qs88 q1865 np_X8_askNow (i_X8_askNow x0) jad_id rfl ?_
  refine J_aload_n dX8_rest_14 rfl 0 rfl ?_
  refine J_iload_n dX8_rest_15 rfl 1 rfl ?_
  refine J_iload_n dX8_rest_16 rfl 2 rfl ?_
  refine J_callVI (c := 7) (as := [.int x1, .int x2]) dX8_rest_17 (by decide) rfl (Nat.le_of_ble_eq_true rfl) (cw_X8_wrongMade _ (by decide)) q2318 q2320 qs165 q2321 np_X8_wrongMade (i_X8_wrongMade x0 x1 x2) jad_id rfl (fun v1 => ?_)
  refine J_istore_n (env' := [(3, .int v1), (0, .ref x0), (1, .int x1), (2, .int x2)]) dX8_rest_20 rfl (by decide) rfl ?_
  refine J_iload_n dX8_rest_21 rfl 0 rfl ?_
  refine J_if_le (tgt := 31) dX8_rest_22 rfl ?_ ?_
  · refine J_aload_n dX8_rest_31 rfl 1 rfl ?_
    refine J_iload_n dX8_rest_32 rfl 2 rfl ?_
    refine J_iload_n dX8_rest_33 rfl 3 rfl ?_
    refine J_iconst (v := 2) dX8_rest_34 (by decide) ?_
    refine J_callVI (c := 7) (as := [.int x1, .int x2, .int 2]) dX8_rest_35 (by decide) rfl (Nat.le_of_ble_eq_true rfl) (cw_X8_made _ (by decide)) q1980 q1982 qs108 q1983 np_X8_made (i_X8_made x0 x1 x2 2) jad_id rfl (fun v2 => ?_)
    refine J_istore (env' := [(4, .int v2), (3, .int v1), (0, .ref x0), (1, .int x1), (2, .int x2)]) dX8_rest_38 (by decide) rfl ?_
    refine J_iload dX8_rest_40 0 rfl ?_
    refine J_aload_n dX8_rest_42 rfl 2 rfl ?_
    refine J_getI dX8_rest_43 fl_X8_253 rfl (fun v3 => ?_)
    refine J_icmp_ne (tgt := 56) dX8_rest_46 rfl ?_ ?_
    · refine J_iconst (v := 0) dX8_rest_56 (by decide) ?_
      refine J_istore (env' := [(5, .int 0), (4, .int v2), (3, .int v1), (0, .ref x0), (1, .int x1), (2, .int x2)]) dX8_rest_57 (by decide) rfl ?_
      refine J_iconst (v := 0) dX8_rest_59 (by decide) ?_
      refine J_istore (env' := [(6, .int 0), (5, .int 0), (4, .int v2), (3, .int v1), (0, .ref x0), (1, .int x1), (2, .int x2)]) dX8_rest_60 (by decide) rfl ?_
      refine J_loop (he := fun (t : Int32 × Int32) => [(0, .ref x0), (4, .int v2), (5, .int t.1), (6, .int t.2)]) [4, 2, 1, 0] rfl (fun t => ?_)
      exact j_X8_rest_L62 D dA x0 v2 t.1 t.2
    refine J_aload_n dX8_rest_49 rfl 2 rfl ?_
    refine J_bipush (v := 9) dX8_rest_50 (by decide) ?_
    refine J_callVI (c := 7) (as := [.int 9]) dX8_rest_52 (by decide) rfl (Nat.le_of_ble_eq_true rfl) (cw_X8_refuse _ (by decide)) q1871 q1873 qs90 q1874 np_X8_refuse (i_X8_refuse x0 9) jad_id rfl (fun v25 => ?_)
    exact J_ireturn dX8_rest_55 rfl
  refine J_aload_n dX8_rest_25 rfl 1 rfl ?_
  refine J_iload_n dX8_rest_26 rfl 0 rfl ?_
  refine J_callVI (c := 7) (as := [.int v1]) dX8_rest_27 (by decide) rfl (Nat.le_of_ble_eq_true rfl) (cw_X8_refuse _ (by decide)) q1871 q1873 qs90 q1874 np_X8_refuse (i_X8_refuse x0 v1) jad_id rfl (fun v26 => ?_)
  exact J_ireturn dX8_rest_30 rfl
theorem i_X8_rest (x0 : Nat) (x1 : Int32) (x2 : Int32) : Impl (ws_ yX8_rest cX8_rest 9 (some .int)) yX8_rest 6 false 0 0 [.ref x0, .int x1, .int x2] (f_X8_rest x0 x1 x2) injI := impl_of (plainFor_of_name (by decide)) (Nat.le_of_ble_eq_true rfl) (fun D dA => j_X8_rest D dA x0 x1 x2)
theorem cw_X8_rest (Y : JY) (h : 7 ≤ Y.2.2.2.1) : JCw Y (ws_ yX8_rest cX8_rest 9 (some .int)) yX8_rest cX8_rest 9 (some .int) 6 := ⟨h, by decide, lw_meth q2317, q198, by decide, by decide⟩
theorem np_X8_rest : JNp yX8_rest.desc 2 := by decide +kernel
-- BracketRoomModel.takeOut(II)I
abbrev Y_X8_takeOut : JY := (cX8_takeOut, yX8_takeOut.cls, 8, 6, yX8_takeOut.name, (some .int), [])
noncomputable def X8_takeOut_b172 (x0 : Nat) (x4 : Int32) : JM Mem Int32 :=
  jb (jcall 7 x0 (f_X8_takeOther x0)) fun _ =>
  jp x4
theorem j_X8_takeOut_b172 (D : va_G) (dA : Nat → ClassId) (x0 : Nat) (x4 : Int32) : J (PM D dA false) Y_X8_takeOut [(0, .ref x0), (4, .int x4)] [] 172 (X8_takeOut_b172 x0 x4) (FRet injI) := by
  unfold X8_takeOut_b172
  refine J_aload_n dX8_takeOut_172 rfl 0 rfl ?_
  refine J_callVV (c := 7) (as := []) dX8_takeOut_173 (by decide) rfl (Nat.le_of_ble_eq_true rfl) (cw_X8_takeOther _ (by decide)) q2261 q2263 qs157 q2264 np_X8_takeOther (i_X8_takeOther x0) jad_id rfl ?_
  refine J_iload dX8_takeOut_176 1 rfl ?_
  exact J_ireturn dX8_takeOut_178 rfl
noncomputable def X8_takeOut_b166 (x0 : Nat) (x4 : Int32) (x5 : Int32) : JM Mem (Int32 ⊕ (Int32)) :=
  jcont (x5 + 1)
theorem j_X8_takeOut_b166 (D : va_G) (dA : Nat → ClassId) (x0 : Nat) (x4 : Int32) (x5 : Int32) : J (PM D dA false) Y_X8_takeOut [(0, .ref x0), (4, .int x4), (5, .int x5)] [] 166 (X8_takeOut_b166 x0 x4 x5) (FLoop (FRet injI) 69 (fun (t : Int32) => [(0, .ref x0), (4, .int x4), (5, .int t)])) := by
  unfold X8_takeOut_b166
  refine J_iinc (v := x5 + 1) (env' := [(5, .int (x5 + 1)), (0, .ref x0), (4, .int x4)]) dX8_takeOut_166 2 rfl rfl (by decide) rfl ?_
  refine J_goto (tgt := 69) dX8_takeOut_169 rfl ?_
  exact J_cont [1, 2, 0] rfl
noncomputable def X8_takeOut_b160 (x0 : Nat) (x4 : Int32) (x5 : Int32) (x6 : Int32) : JM Mem ((Int32 ⊕ (Int32)) ⊕ (Int32)) :=
  jcont (x6 + 1)
theorem j_X8_takeOut_b160 (D : va_G) (dA : Nat → ClassId) (x0 : Nat) (x4 : Int32) (x5 : Int32) (x6 : Int32) : J (PM D dA false) Y_X8_takeOut [(0, .ref x0), (4, .int x4), (5, .int x5), (6, .int x6)] [] 160 (X8_takeOut_b160 x0 x4 x5 x6) (FLoop (FLoop (FRet injI) 69 (fun (t : Int32) => [(0, .ref x0), (4, .int x4), (5, .int t)])) 82 (fun (t : Int32) => [(0, .ref x0), (4, .int x4), (5, .int x5), (6, .int t)])) := by
  unfold X8_takeOut_b160
  refine J_iinc (v := x6 + 1) (env' := [(6, .int (x6 + 1)), (0, .ref x0), (4, .int x4), (5, .int x5)]) dX8_takeOut_160 3 rfl rfl (by decide) rfl ?_
  refine J_goto (tgt := 82) dX8_takeOut_163 rfl ?_
  exact J_cont [1, 2, 3, 0] rfl
noncomputable def X8_takeOut_L116 (x0 : Nat) (x4 : Int32) (x5 : Int32) (x6 : Int32) (x7 : Int32) : JM Mem (((Int32 ⊕ (Int32)) ⊕ (Int32)) ⊕ (Int32)) :=
  if x4 ≤ x7 then
    jinl (X8_takeOut_b160 x0 x4 x5 x6)
  else
  jb (jgetA 7 21 x0) fun v9 =>
  jb (jgetA 7 36 x0) fun v10 =>
  jb (jgetA 7 30 x0) fun v11 =>
  jb (jcall 7 x0 (f_X8_leadOf x0 v11 (5 * x7))) fun v12 =>
  jb (jald mI 0 v10 v12) fun v13 =>
  jb ((f_X8_set v9 0 x5 x6 x7 v13)) fun _ =>
  jcont (x7 + 1)
theorem j_X8_takeOut_L116 (D : va_G) (dA : Nat → ClassId) (x0 : Nat) (x4 : Int32) (x5 : Int32) (x6 : Int32) (x7 : Int32) : J (PM D dA false) Y_X8_takeOut [(0, .ref x0), (4, .int x4), (5, .int x5), (6, .int x6), (7, .int x7)] [] 116 (X8_takeOut_L116 x0 x4 x5 x6 x7) (FLoop (FLoop (FLoop (FRet injI) 69 (fun (t : Int32) => [(0, .ref x0), (4, .int x4), (5, .int t)])) 82 (fun (t : Int32) => [(0, .ref x0), (4, .int x4), (5, .int x5), (6, .int t)])) 116 (fun (t : Int32) => [(0, .ref x0), (4, .int x4), (5, .int x5), (6, .int x6), (7, .int t)])) := by
  unfold X8_takeOut_L116
  refine J_iload dX8_takeOut_116 4 rfl ?_
  refine J_iload dX8_takeOut_118 1 rfl ?_
  refine J_icmp_ge (tgt := 160) dX8_takeOut_120 rfl ?_ ?_
  · refine J_inl ?_
    refine J_sub [0, 1, 2, 3] rfl ?_
    exact j_X8_takeOut_b160 D dA x0 x4 x5 x6
  refine J_aload_n dX8_takeOut_123 rfl 0 rfl ?_
  refine J_getA dX8_takeOut_124 fl_X8_41 rfl (fun v9 => ?_)
  refine J_iconst (v := 0) dX8_takeOut_127 (by decide) ?_
  refine J_iload dX8_takeOut_128 2 rfl ?_
  refine J_iload dX8_takeOut_130 3 rfl ?_
  refine J_iload dX8_takeOut_132 4 rfl ?_
  refine J_aload_n dX8_takeOut_134 rfl 0 rfl ?_
  refine J_getA dX8_takeOut_135 fl_X8_71 rfl (fun v10 => ?_)
  refine J_aload_n dX8_takeOut_138 rfl 0 rfl ?_
  refine J_aload_n dX8_takeOut_139 rfl 0 rfl ?_
  refine J_getA dX8_takeOut_140 fl_X8_53 rfl (fun v11 => ?_)
  refine J_iconst (v := 5) dX8_takeOut_143 (by decide) ?_
  refine J_iload dX8_takeOut_144 4 rfl ?_
  refine J_imul dX8_takeOut_146 ?_
  refine J_callVI (c := 7) (as := [.ref v11, .int (5 * x7)]) dX8_takeOut_147 (by decide) rfl (Nat.le_of_ble_eq_true rfl) (cw_X8_leadOf _ (by decide)) q1939 q1941 qs103 q1942 np_X8_leadOf (i_X8_leadOf x0 v11 (5 * x7)) jad_id rfl (fun v12 => ?_)
  refine J_iald dX8_takeOut_150 (fun v13 => ?_)
  refine J_callSV (host := "") (as := [.ref v9, .int 0, .int x5, .int x6, .int x7, .int v13]) dX8_takeOut_151 rfl (Nat.le_of_ble_eq_true rfl) (cw_X8_set _ (by decide)) q1844 q1845 q1846 np_X8_set (i_X8_set v9 0 x5 x6 x7 v13) jad_id rfl ?_
  refine J_iinc (v := x7 + 1) (env' := [(7, .int (x7 + 1)), (0, .ref x0), (4, .int x4), (5, .int x5), (6, .int x6)]) dX8_takeOut_154 4 rfl rfl (by decide) rfl ?_
  refine J_goto (tgt := 116) dX8_takeOut_157 rfl ?_
  exact J_cont [1, 2, 3, 4, 0] rfl
noncomputable def X8_takeOut_L82 (x0 : Nat) (x4 : Int32) (x5 : Int32) (x6 : Int32) : JM Mem ((Int32 ⊕ (Int32)) ⊕ (Int32)) :=
  if x4 ≤ x6 then
    jinl (X8_takeOut_b166 x0 x4 x5)
  else
  jb (jgetA 7 30 x0) fun v6 =>
  jb (jgetA 7 30 x0) fun v7 =>
  jb (jgetA 7 36 x0) fun v8 =>
  jb (jcall 7 x0 (f_X8_bracketOf x0 v6 (5 * x5) v7 (5 * x6) v8)) fun _ =>
  jloop (fun (t : Int32) => X8_takeOut_L116 x0 x4 x5 x6 t) 0
theorem j_X8_takeOut_L82 (D : va_G) (dA : Nat → ClassId) (x0 : Nat) (x4 : Int32) (x5 : Int32) (x6 : Int32) : J (PM D dA false) Y_X8_takeOut [(0, .ref x0), (4, .int x4), (5, .int x5), (6, .int x6)] [] 82 (X8_takeOut_L82 x0 x4 x5 x6) (FLoop (FLoop (FRet injI) 69 (fun (t : Int32) => [(0, .ref x0), (4, .int x4), (5, .int t)])) 82 (fun (t : Int32) => [(0, .ref x0), (4, .int x4), (5, .int x5), (6, .int t)])) := by
  unfold X8_takeOut_L82
  refine J_iload dX8_takeOut_82 3 rfl ?_
  refine J_iload dX8_takeOut_84 1 rfl ?_
  refine J_icmp_ge (tgt := 166) dX8_takeOut_86 rfl ?_ ?_
  · refine J_inl ?_
    refine J_sub [0, 1, 2] rfl ?_
    exact j_X8_takeOut_b166 D dA x0 x4 x5
  refine J_aload_n dX8_takeOut_89 rfl 0 rfl ?_
  refine J_aload_n dX8_takeOut_90 rfl 0 rfl ?_
  refine J_getA dX8_takeOut_91 fl_X8_53 rfl (fun v6 => ?_)
  refine J_iconst (v := 5) dX8_takeOut_94 (by decide) ?_
  refine J_iload dX8_takeOut_95 2 rfl ?_
  refine J_imul dX8_takeOut_97 ?_
  refine J_aload_n dX8_takeOut_98 rfl 0 rfl ?_
  refine J_getA dX8_takeOut_99 fl_X8_53 rfl (fun v7 => ?_)
  refine J_iconst (v := 5) dX8_takeOut_102 (by decide) ?_
  refine J_iload dX8_takeOut_103 3 rfl ?_
  refine J_imul dX8_takeOut_105 ?_
  refine J_aload_n dX8_takeOut_106 rfl 0 rfl ?_
  refine J_getA dX8_takeOut_107 fl_X8_71 rfl (fun v8 => ?_)
  refine J_callVV (c := 7) (as := [.ref v6, .int (5 * x5), .ref v7, .int (5 * x6), .ref v8]) dX8_takeOut_110 (by decide) rfl (Nat.le_of_ble_eq_true rfl) (cw_X8_bracketOf _ (by decide)) q1911 q1913 qs97 q1914 np_X8_bracketOf (i_X8_bracketOf x0 v6 (5 * x5) v7 (5 * x6) v8) jad_id rfl ?_
  refine J_iconst (v := 0) dX8_takeOut_113 (by decide) ?_
  refine J_istore (env' := [(7, .int 0), (0, .ref x0), (4, .int x4), (5, .int x5), (6, .int x6)]) dX8_takeOut_114 (by decide) rfl ?_
  refine J_loop (he := fun (t : Int32) => [(0, .ref x0), (4, .int x4), (5, .int x5), (6, .int x6), (7, .int t)]) [1, 2, 3, 4, 0] rfl (fun t => ?_)
  exact j_X8_takeOut_L116 D dA x0 x4 x5 x6 t
noncomputable def X8_takeOut_L69 (x0 : Nat) (x4 : Int32) (x5 : Int32) : JM Mem (Int32 ⊕ (Int32)) :=
  if x4 ≤ x5 then
    jinl (X8_takeOut_b172 x0 x4)
  else
  jlet (x5 + 1) fun y5 =>
  jloop (fun (t : Int32) => X8_takeOut_L82 x0 x4 x5 t) y5
theorem j_X8_takeOut_L69 (D : va_G) (dA : Nat → ClassId) (x0 : Nat) (x4 : Int32) (x5 : Int32) : J (PM D dA false) Y_X8_takeOut [(0, .ref x0), (4, .int x4), (5, .int x5)] [] 69 (X8_takeOut_L69 x0 x4 x5) (FLoop (FRet injI) 69 (fun (t : Int32) => [(0, .ref x0), (4, .int x4), (5, .int t)])) := by
  unfold X8_takeOut_L69
  refine J_iload dX8_takeOut_69 2 rfl ?_
  refine J_iload dX8_takeOut_71 1 rfl ?_
  refine J_icmp_ge (tgt := 172) dX8_takeOut_73 rfl ?_ ?_
  · refine J_inl ?_
    refine J_sub [0, 1] rfl ?_
    exact j_X8_takeOut_b172 D dA x0 x4
  refine J_iload dX8_takeOut_76 2 rfl ?_
  refine J_iconst (v := 1) dX8_takeOut_78 (by decide) ?_
  refine J_iadd dX8_takeOut_79 ?_
  refine J_letI (fun y5 => ?_)
  refine J_istore (env' := [(6, .int y5), (0, .ref x0), (4, .int x4), (5, .int x5)]) dX8_takeOut_80 (by decide) rfl ?_
  refine J_loop (he := fun (t : Int32) => [(0, .ref x0), (4, .int x4), (5, .int x5), (6, .int t)]) [1, 2, 3, 0] rfl (fun t => ?_)
  exact j_X8_takeOut_L82 D dA x0 x4 x5 t
noncomputable def f_X8_takeOut (x0 : Nat) (x1 : Int32) (x2 : Int32) : JM Mem Int32 :=
  jb (jputI 7 1 x0 0) fun _ =>
  jb (jputI 7 0 x0 0) fun _ =>
  jb (jcall 7 x0 (f_X8_askNow x0)) fun _ =>
  jb (jcall 7 x0 (f_X8_wrongMade x0 x1 x2)) fun v1 =>
  if v1 ≤ 0 then
    jb (jcall 7 x0 (f_X8_made x0 x1 x2 1)) fun v2 =>
    if v2 = 0 then
      jb (jcall 7 x0 (f_X8_refuse x0 9)) fun v14 =>
      jp v14
    else
    jb (jgetA 7 21 x0) fun v3 =>
    jb (jgetI 7 26 x0) fun v4 =>
    jb ((f_X8_clear v3 0 v4 v2)) fun _ =>
    jloop (fun (t : Int32) => X8_takeOut_L69 x0 v2 t) 0
  else
  jb (jcall 7 x0 (f_X8_refuse x0 v1)) fun v15 =>
  jp v15
theorem j_X8_takeOut (D : va_G) (dA : Nat → ClassId) (x0 : Nat) (x1 : Int32) (x2 : Int32) : J (PM D dA false) Y_X8_takeOut [(0, .ref x0), (1, .int x1), (2, .int x2)] [] 0 (f_X8_takeOut x0 x1 x2) (FRet injI) := by
  unfold f_X8_takeOut
  refine J_aload_n dX8_takeOut_0 rfl 0 rfl ?_
  refine J_iconst (v := 0) dX8_takeOut_1 (by decide) ?_
  refine J_putI dX8_takeOut_2 ⟨fl_X8_132, Or.inl rfl⟩ rfl ?_
  refine J_aload_n dX8_takeOut_5 rfl 0 rfl ?_
  refine J_iconst (v := 0) dX8_takeOut_6 (by decide) ?_
  refine J_putI dX8_takeOut_7 ⟨fl_X8_135, Or.inl rfl⟩ rfl ?_
  refine J_aload_n dX8_takeOut_10 rfl 0 rfl ?_
  refine J_callVV (c := 7) (as := []) dX8_takeOut_11 (by decide) rfl (Nat.le_of_ble_eq_true rfl) (cw_X8_askNow _ (by decide)) q1862 q1864 qs88 q1865 np_X8_askNow (i_X8_askNow x0) jad_id rfl ?_
  refine J_aload_n dX8_takeOut_14 rfl 0 rfl ?_
  refine J_iload_n dX8_takeOut_15 rfl 1 rfl ?_
  refine J_iload_n dX8_takeOut_16 rfl 2 rfl ?_
  refine J_callVI (c := 7) (as := [.int x1, .int x2]) dX8_takeOut_17 (by decide) rfl (Nat.le_of_ble_eq_true rfl) (cw_X8_wrongMade _ (by decide)) q2318 q2320 qs165 q2321 np_X8_wrongMade (i_X8_wrongMade x0 x1 x2) jad_id rfl (fun v1 => ?_)
  refine J_istore_n (env' := [(3, .int v1), (0, .ref x0), (1, .int x1), (2, .int x2)]) dX8_takeOut_20 rfl (by decide) rfl ?_
  refine J_iload_n dX8_takeOut_21 rfl 0 rfl ?_
  refine J_if_le (tgt := 31) dX8_takeOut_22 rfl ?_ ?_
  · refine J_aload_n dX8_takeOut_31 rfl 1 rfl ?_
    refine J_iload_n dX8_takeOut_32 rfl 2 rfl ?_
    refine J_iload_n dX8_takeOut_33 rfl 3 rfl ?_
    refine J_iconst (v := 1) dX8_takeOut_34 (by decide) ?_
    refine J_callVI (c := 7) (as := [.int x1, .int x2, .int 1]) dX8_takeOut_35 (by decide) rfl (Nat.le_of_ble_eq_true rfl) (cw_X8_made _ (by decide)) q1980 q1982 qs108 q1983 np_X8_made (i_X8_made x0 x1 x2 1) jad_id rfl (fun v2 => ?_)
    refine J_istore (env' := [(4, .int v2), (3, .int v1), (0, .ref x0), (1, .int x1), (2, .int x2)]) dX8_takeOut_38 (by decide) rfl ?_
    refine J_iload dX8_takeOut_40 0 rfl ?_
    refine J_if_ne (tgt := 52) dX8_takeOut_42 rfl ?_ ?_
    · refine J_aload_n dX8_takeOut_52 rfl 2 rfl ?_
      refine J_getA dX8_takeOut_53 fl_X8_41 rfl (fun v3 => ?_)
      refine J_iconst (v := 0) dX8_takeOut_56 (by decide) ?_
      refine J_aload_n dX8_takeOut_57 rfl 2 rfl ?_
      refine J_getI dX8_takeOut_58 fl_X8_250 rfl (fun v4 => ?_)
      refine J_iload dX8_takeOut_61 0 rfl ?_
      refine J_callSV (host := "") (as := [.ref v3, .int 0, .int v4, .int v2]) dX8_takeOut_63 rfl (Nat.le_of_ble_eq_true rfl) (cw_X8_clear _ (by decide)) q1815 q1816 q1817 np_X8_clear (i_X8_clear v3 0 v4 v2) jad_id rfl ?_
      refine J_iconst (v := 0) dX8_takeOut_66 (by decide) ?_
      refine J_istore (env' := [(5, .int 0), (4, .int v2), (3, .int v1), (0, .ref x0), (1, .int x1), (2, .int x2)]) dX8_takeOut_67 (by decide) rfl ?_
      refine J_loop (he := fun (t : Int32) => [(0, .ref x0), (4, .int v2), (5, .int t)]) [3, 1, 0] rfl (fun t => ?_)
      exact j_X8_takeOut_L69 D dA x0 v2 t
    refine J_aload_n dX8_takeOut_45 rfl 2 rfl ?_
    refine J_bipush (v := 9) dX8_takeOut_46 (by decide) ?_
    refine J_callVI (c := 7) (as := [.int 9]) dX8_takeOut_48 (by decide) rfl (Nat.le_of_ble_eq_true rfl) (cw_X8_refuse _ (by decide)) q1871 q1873 qs90 q1874 np_X8_refuse (i_X8_refuse x0 9) jad_id rfl (fun v14 => ?_)
    exact J_ireturn dX8_takeOut_51 rfl
  refine J_aload_n dX8_takeOut_25 rfl 1 rfl ?_
  refine J_iload_n dX8_takeOut_26 rfl 0 rfl ?_
  refine J_callVI (c := 7) (as := [.int v1]) dX8_takeOut_27 (by decide) rfl (Nat.le_of_ble_eq_true rfl) (cw_X8_refuse _ (by decide)) q1871 q1873 qs90 q1874 np_X8_refuse (i_X8_refuse x0 v1) jad_id rfl (fun v15 => ?_)
  exact J_ireturn dX8_takeOut_30 rfl
theorem i_X8_takeOut (x0 : Nat) (x1 : Int32) (x2 : Int32) : Impl (ws_ yX8_takeOut cX8_takeOut 8 (some .int)) yX8_takeOut 6 false 0 0 [.ref x0, .int x1, .int x2] (f_X8_takeOut x0 x1 x2) injI := impl_of (plainFor_of_name (by decide)) (Nat.le_of_ble_eq_true rfl) (fun D dA => j_X8_takeOut D dA x0 x1 x2)
theorem cw_X8_takeOut (Y : JY) (h : 7 ≤ Y.2.2.2.1) : JCw Y (ws_ yX8_takeOut cX8_takeOut 8 (some .int)) yX8_takeOut cX8_takeOut 8 (some .int) 6 := ⟨h, by decide, lw_meth q2325, q198, by decide, by decide⟩
theorem np_X8_takeOut : JNp yX8_takeOut.desc 2 := by decide +kernel
-- BracketRoomModel.numbersOf(I)I
abbrev Y_X8_numbersOf : JY := (cX8_numbersOf, yX8_numbersOf.cls, 2, 1, yX8_numbersOf.name, (some .int), [])
noncomputable def f_X8_numbersOf (x0 : Nat) (x1 : Int32) : JM Mem Int32 :=
  jb (jdiv (x1 * (x1 - 1)) 2) fun v1 =>
  jp (v1 * x1)
theorem j_X8_numbersOf (D : va_G) (dA : Nat → ClassId) (x0 : Nat) (x1 : Int32) : J (PM D dA false) Y_X8_numbersOf [(0, .ref x0), (1, .int x1)] [] 0 (f_X8_numbersOf x0 x1) (FRet injI) := by
  unfold f_X8_numbersOf
  refine J_iload_n dX8_numbersOf_0 rfl 1 rfl ?_
  refine J_iload_n dX8_numbersOf_1 rfl 1 rfl ?_
  refine J_iconst (v := 1) dX8_numbersOf_2 (by decide) ?_
  refine J_isub dX8_numbersOf_3 ?_
  refine J_imul dX8_numbersOf_4 ?_
  refine J_iconst (v := 2) dX8_numbersOf_5 (by decide) ?_
  refine J_idiv dX8_numbersOf_6 (fun v1 => ?_)
  refine J_iload_n dX8_numbersOf_7 rfl 1 rfl ?_
  refine J_imul dX8_numbersOf_8 ?_
  exact J_ireturn dX8_numbersOf_9 rfl
theorem i_X8_numbersOf (x0 : Nat) (x1 : Int32) : Impl (ws_ yX8_numbersOf cX8_numbersOf 2 (some .int)) yX8_numbersOf 1 false 0 0 [.ref x0, .int x1] (f_X8_numbersOf x0 x1) injI := impl_of (plainFor_of_name (by decide)) (Nat.le_of_ble_eq_true rfl) (fun D dA => j_X8_numbersOf D dA x0 x1)
theorem cw_X8_numbersOf (Y : JY) (h : 2 ≤ Y.2.2.2.1) : JCw Y (ws_ yX8_numbersOf cX8_numbersOf 2 (some .int)) yX8_numbersOf cX8_numbersOf 2 (some .int) 1 := ⟨h, by decide, lw_meth q2333, q198, by decide, by decide⟩
theorem np_X8_numbersOf : JNp yX8_numbersOf.desc 1 := by decide +kernel
-- BracketRoomModel.tableBy(I)V
abbrev Y_X8_tableBy : JY := (cX8_tableBy, yX8_tableBy.cls, 6, 3, yX8_tableBy.name, none, [])
noncomputable def X8_tableBy_b76 (x0 : Nat) (x2 : Int32) (x3 : Int32) : JM Mem (Unit ⊕ (Int32 × Int32)) :=
  jcont (x2, x3 + 1)
theorem j_X8_tableBy_b76 (D : va_G) (dA : Nat → ClassId) (x0 : Nat) (x2 : Int32) (x3 : Int32) : J (PM D dA false) Y_X8_tableBy [(0, .ref x0), (2, .int x2), (3, .int x3)] [] 76 (X8_tableBy_b76 x0 x2 x3) (FLoop (FRet injU) 4 (fun (t : Int32 × Int32) => [(0, .ref x0), (2, .int t.1), (3, .int t.2)])) := by
  unfold X8_tableBy_b76
  refine J_iinc (v := x3 + 1) (env' := [(3, .int (x3 + 1)), (0, .ref x0), (2, .int x2)]) dX8_tableBy_76 2 rfl rfl (by decide) rfl ?_
  refine J_goto (tgt := 4) dX8_tableBy_79 rfl ?_
  exact J_cont [1, 2, 0] rfl
noncomputable def X8_tableBy_b70 (x0 : Nat) (x2 : Int32) (x3 : Int32) (x4 : Int32) : JM Mem ((Unit ⊕ (Int32 × Int32)) ⊕ (Int32 × Int32)) :=
  jcont (x2, x4 + 1)
theorem j_X8_tableBy_b70 (D : va_G) (dA : Nat → ClassId) (x0 : Nat) (x2 : Int32) (x3 : Int32) (x4 : Int32) : J (PM D dA false) Y_X8_tableBy [(0, .ref x0), (2, .int x2), (3, .int x3), (4, .int x4)] [] 70 (X8_tableBy_b70 x0 x2 x3 x4) (FLoop (FLoop (FRet injU) 4 (fun (t : Int32 × Int32) => [(0, .ref x0), (2, .int t.1), (3, .int t.2)])) 17 (fun (t : Int32 × Int32) => [(0, .ref x0), (2, .int t.1), (3, .int x3), (4, .int t.2)])) := by
  unfold X8_tableBy_b70
  refine J_iinc (v := x4 + 1) (env' := [(4, .int (x4 + 1)), (0, .ref x0), (2, .int x2), (3, .int x3)]) dX8_tableBy_70 3 rfl rfl (by decide) rfl ?_
  refine J_goto (tgt := 17) dX8_tableBy_73 rfl ?_
  exact J_cont [1, 2, 3, 0] rfl
noncomputable def X8_tableBy_L29 (x0 : Nat) (x3 : Int32) (x4 : Int32) (x2 : Int32) (x5 : Int32) : JM Mem (((Unit ⊕ (Int32 × Int32)) ⊕ (Int32 × Int32)) ⊕ (Int32 × Int32)) :=
  jb (jgetI 7 27 x0) fun v4 =>
  if v4 ≤ x5 then
    jinl (X8_tableBy_b70 x0 x2 x3 x4)
  else
  jb (jgetA 7 69 x0) fun v5 =>
  jb (jgetI 7 26 x0) fun v6 =>
  jb (jrem x2 v6) fun v7 =>
  jb ((f_X8_set v5 0 x3 x4 x5 v7)) fun _ =>
  jb (jgetI 7 26 x0) fun v8 =>
  jb (jdiv x2 v8) fun v9 =>
  jcont (v9, x5 + 1)
theorem j_X8_tableBy_L29 (D : va_G) (dA : Nat → ClassId) (x0 : Nat) (x3 : Int32) (x4 : Int32) (x2 : Int32) (x5 : Int32) : J (PM D dA false) Y_X8_tableBy [(0, .ref x0), (2, .int x2), (3, .int x3), (4, .int x4), (5, .int x5)] [] 29 (X8_tableBy_L29 x0 x3 x4 x2 x5) (FLoop (FLoop (FLoop (FRet injU) 4 (fun (t : Int32 × Int32) => [(0, .ref x0), (2, .int t.1), (3, .int t.2)])) 17 (fun (t : Int32 × Int32) => [(0, .ref x0), (2, .int t.1), (3, .int x3), (4, .int t.2)])) 29 (fun (t : Int32 × Int32) => [(0, .ref x0), (2, .int t.1), (3, .int x3), (4, .int x4), (5, .int t.2)])) := by
  unfold X8_tableBy_L29
  refine J_iload dX8_tableBy_29 4 rfl ?_
  refine J_aload_n dX8_tableBy_31 rfl 0 rfl ?_
  refine J_getI dX8_tableBy_32 fl_X8_253 rfl (fun v4 => ?_)
  refine J_icmp_ge (tgt := 70) dX8_tableBy_35 rfl ?_ ?_
  · refine J_inl ?_
    refine J_sub [0, 1, 2, 3] rfl ?_
    exact j_X8_tableBy_b70 D dA x0 x2 x3 x4
  refine J_aload_n dX8_tableBy_38 rfl 0 rfl ?_
  refine J_getA dX8_tableBy_39 fl_X8_129 rfl (fun v5 => ?_)
  refine J_iconst (v := 0) dX8_tableBy_42 (by decide) ?_
  refine J_iload_n dX8_tableBy_43 rfl 2 rfl ?_
  refine J_iload dX8_tableBy_44 3 rfl ?_
  refine J_iload dX8_tableBy_46 4 rfl ?_
  refine J_iload_n dX8_tableBy_48 rfl 1 rfl ?_
  refine J_aload_n dX8_tableBy_49 rfl 0 rfl ?_
  refine J_getI dX8_tableBy_50 fl_X8_250 rfl (fun v6 => ?_)
  refine J_irem dX8_tableBy_53 (fun v7 => ?_)
  refine J_callSV (host := "") (as := [.ref v5, .int 0, .int x3, .int x4, .int x5, .int v7]) dX8_tableBy_54 rfl (Nat.le_of_ble_eq_true rfl) (cw_X8_set _ (by decide)) q1844 q1845 q1846 np_X8_set (i_X8_set v5 0 x3 x4 x5 v7) jad_id rfl ?_
  refine J_iload_n dX8_tableBy_57 rfl 1 rfl ?_
  refine J_aload_n dX8_tableBy_58 rfl 0 rfl ?_
  refine J_getI dX8_tableBy_59 fl_X8_250 rfl (fun v8 => ?_)
  refine J_idiv dX8_tableBy_62 (fun v9 => ?_)
  refine J_istore_n (env' := [(2, .int v9), (0, .ref x0), (3, .int x3), (4, .int x4), (5, .int x5)]) dX8_tableBy_63 rfl (by decide) rfl ?_
  refine J_iinc (v := x5 + 1) (env' := [(5, .int (x5 + 1)), (2, .int v9), (0, .ref x0), (3, .int x3), (4, .int x4)]) dX8_tableBy_64 4 rfl rfl (by decide) rfl ?_
  refine J_goto (tgt := 29) dX8_tableBy_67 rfl ?_
  exact J_cont [2, 1, 3, 4, 0] rfl
noncomputable def X8_tableBy_L17 (x0 : Nat) (x3 : Int32) (x2 : Int32) (x4 : Int32) : JM Mem ((Unit ⊕ (Int32 × Int32)) ⊕ (Int32 × Int32)) :=
  jb (jgetI 7 27 x0) fun v3 =>
  if v3 ≤ x4 then
    jinl (X8_tableBy_b76 x0 x2 x3)
  else
    jloop (fun (t : Int32 × Int32) => X8_tableBy_L29 x0 x3 x4 t.1 t.2) (x2, 0)
theorem j_X8_tableBy_L17 (D : va_G) (dA : Nat → ClassId) (x0 : Nat) (x3 : Int32) (x2 : Int32) (x4 : Int32) : J (PM D dA false) Y_X8_tableBy [(0, .ref x0), (2, .int x2), (3, .int x3), (4, .int x4)] [] 17 (X8_tableBy_L17 x0 x3 x2 x4) (FLoop (FLoop (FRet injU) 4 (fun (t : Int32 × Int32) => [(0, .ref x0), (2, .int t.1), (3, .int t.2)])) 17 (fun (t : Int32 × Int32) => [(0, .ref x0), (2, .int t.1), (3, .int x3), (4, .int t.2)])) := by
  unfold X8_tableBy_L17
  refine J_iload dX8_tableBy_17 3 rfl ?_
  refine J_aload_n dX8_tableBy_19 rfl 0 rfl ?_
  refine J_getI dX8_tableBy_20 fl_X8_253 rfl (fun v3 => ?_)
  refine J_icmp_ge (tgt := 76) dX8_tableBy_23 rfl ?_ ?_
  · refine J_inl ?_
    refine J_sub [0, 1, 2] rfl ?_
    exact j_X8_tableBy_b76 D dA x0 x2 x3
  refine J_iconst (v := 0) dX8_tableBy_26 (by decide) ?_
  refine J_istore (env' := [(5, .int 0), (0, .ref x0), (2, .int x2), (3, .int x3), (4, .int x4)]) dX8_tableBy_27 (by decide) rfl ?_
  refine J_loop (he := fun (t : Int32 × Int32) => [(0, .ref x0), (2, .int t.1), (3, .int x3), (4, .int x4), (5, .int t.2)]) [1, 2, 3, 4, 0] rfl (fun t => ?_)
  exact j_X8_tableBy_L29 D dA x0 x3 x4 t.1 t.2
noncomputable def X8_tableBy_L4 (x0 : Nat) (x2 : Int32) (x3 : Int32) : JM Mem (Unit ⊕ (Int32 × Int32)) :=
  jb (jgetI 7 27 x0) fun v1 =>
  if v1 ≤ x3 then
    jinl (jp ())
  else
  jlet (x3 + 1) fun y2 =>
  jloop (fun (t : Int32 × Int32) => X8_tableBy_L17 x0 x3 t.1 t.2) (x2, y2)
theorem j_X8_tableBy_L4 (D : va_G) (dA : Nat → ClassId) (x0 : Nat) (x2 : Int32) (x3 : Int32) : J (PM D dA false) Y_X8_tableBy [(0, .ref x0), (2, .int x2), (3, .int x3)] [] 4 (X8_tableBy_L4 x0 x2 x3) (FLoop (FRet injU) 4 (fun (t : Int32 × Int32) => [(0, .ref x0), (2, .int t.1), (3, .int t.2)])) := by
  unfold X8_tableBy_L4
  refine J_iload_n dX8_tableBy_4 rfl 2 rfl ?_
  refine J_aload_n dX8_tableBy_5 rfl 0 rfl ?_
  refine J_getI dX8_tableBy_6 fl_X8_253 rfl (fun v1 => ?_)
  refine J_icmp_ge (tgt := 82) dX8_tableBy_9 rfl ?_ ?_
  · refine J_inl ?_
    exact J_return dX8_tableBy_82 rfl
  refine J_iload_n dX8_tableBy_12 rfl 2 rfl ?_
  refine J_iconst (v := 1) dX8_tableBy_13 (by decide) ?_
  refine J_iadd dX8_tableBy_14 ?_
  refine J_letI (fun y2 => ?_)
  refine J_istore (env' := [(4, .int y2), (0, .ref x0), (2, .int x2), (3, .int x3)]) dX8_tableBy_15 (by decide) rfl ?_
  refine J_loop (he := fun (t : Int32 × Int32) => [(0, .ref x0), (2, .int t.1), (3, .int x3), (4, .int t.2)]) [1, 2, 3, 0] rfl (fun t => ?_)
  exact j_X8_tableBy_L17 D dA x0 x3 t.1 t.2
noncomputable def f_X8_tableBy (x0 : Nat) (x1 : Int32) : JM Mem Unit :=
  jloop (fun (t : Int32 × Int32) => X8_tableBy_L4 x0 t.1 t.2) (x1, 0)
theorem j_X8_tableBy (D : va_G) (dA : Nat → ClassId) (x0 : Nat) (x1 : Int32) : J (PM D dA false) Y_X8_tableBy [(0, .ref x0), (1, .int x1)] [] 0 (f_X8_tableBy x0 x1) (FRet injU) := by
  unfold f_X8_tableBy
  refine J_iload_n dX8_tableBy_0 rfl 1 rfl ?_
  refine J_istore_n (env' := [(2, .int x1), (0, .ref x0), (1, .int x1)]) dX8_tableBy_1 rfl (by decide) rfl ?_
  refine J_iconst (v := 0) dX8_tableBy_2 (by decide) ?_
  refine J_istore_n (env' := [(3, .int 0), (2, .int x1), (0, .ref x0), (1, .int x1)]) dX8_tableBy_3 rfl (by decide) rfl ?_
  refine J_loop (he := fun (t : Int32 × Int32) => [(0, .ref x0), (2, .int t.1), (3, .int t.2)]) [2, 1, 0] rfl (fun t => ?_)
  exact j_X8_tableBy_L4 D dA x0 t.1 t.2
theorem i_X8_tableBy (x0 : Nat) (x1 : Int32) : Impl (ws_ yX8_tableBy cX8_tableBy 6 none) yX8_tableBy 3 false 0 0 [.ref x0, .int x1] (f_X8_tableBy x0 x1) injU := impl_of (plainFor_of_name (by decide)) (Nat.le_of_ble_eq_true rfl) (fun D dA => j_X8_tableBy D dA x0 x1)
theorem cw_X8_tableBy (Y : JY) (h : 4 ≤ Y.2.2.2.1) : JCw Y (ws_ yX8_tableBy cX8_tableBy 6 none) yX8_tableBy cX8_tableBy 6 none 3 := ⟨h, by decide, lw_meth q2337, q198, by decide, by decide⟩
theorem np_X8_tableBy : JNp yX8_tableBy.desc 1 := by decide +kernel
-- BracketRoomModel.codeOf([I)I
abbrev Y_X8_codeOf : JY := (cX8_codeOf, yX8_codeOf.cls, 6, 2, yX8_codeOf.name, (some .int), [])
noncomputable def X8_codeOf_b70 (x0 : Nat) (x1 : Nat) (x2 : Int32) (x3 : Int32) : JM Mem (Int32 ⊕ (Int32 × Int32)) :=
  jcont (x2, x3 + (-1))
theorem j_X8_codeOf_b70 (D : va_G) (dA : Nat → ClassId) (x0 : Nat) (x1 : Nat) (x2 : Int32) (x3 : Int32) : J (PM D dA false) Y_X8_codeOf [(0, .ref x0), (1, .ref x1), (2, .int x2), (3, .int x3)] [] 70 (X8_codeOf_b70 x0 x1 x2 x3) (FLoop (FRet injI) 9 (fun (t : Int32 × Int32) => [(0, .ref x0), (1, .ref x1), (2, .int t.1), (3, .int t.2)])) := by
  unfold X8_codeOf_b70
  refine J_iinc (v := x3 + (-1)) (env' := [(3, .int (x3 + (-1))), (0, .ref x0), (1, .ref x1), (2, .int x2)]) dX8_codeOf_70 3 rfl rfl (by decide) rfl ?_
  refine J_goto (tgt := 9) dX8_codeOf_73 rfl ?_
  exact J_cont [1, 2, 3, 0] rfl
noncomputable def X8_codeOf_b64 (x0 : Nat) (x1 : Nat) (x2 : Int32) (x3 : Int32) (x4 : Int32) : JM Mem ((Int32 ⊕ (Int32 × Int32)) ⊕ (Int32 × Int32)) :=
  jcont (x2, x4 + (-1))
theorem j_X8_codeOf_b64 (D : va_G) (dA : Nat → ClassId) (x0 : Nat) (x1 : Nat) (x2 : Int32) (x3 : Int32) (x4 : Int32) : J (PM D dA false) Y_X8_codeOf [(0, .ref x0), (1, .ref x1), (2, .int x2), (3, .int x3), (4, .int x4)] [] 64 (X8_codeOf_b64 x0 x1 x2 x3 x4) (FLoop (FLoop (FRet injI) 9 (fun (t : Int32 × Int32) => [(0, .ref x0), (1, .ref x1), (2, .int t.1), (3, .int t.2)])) 21 (fun (t : Int32 × Int32) => [(0, .ref x0), (1, .ref x1), (2, .int t.1), (3, .int x3), (4, .int t.2)])) := by
  unfold X8_codeOf_b64
  refine J_iinc (v := x4 + (-1)) (env' := [(4, .int (x4 + (-1))), (0, .ref x0), (1, .ref x1), (2, .int x2), (3, .int x3)]) dX8_codeOf_64 4 rfl rfl (by decide) rfl ?_
  refine J_goto (tgt := 21) dX8_codeOf_67 rfl ?_
  exact J_cont [1, 2, 3, 4, 0] rfl
noncomputable def X8_codeOf_L35 (x0 : Nat) (x1 : Nat) (x3 : Int32) (x4 : Int32) (x2 : Int32) (x5 : Int32) : JM Mem (((Int32 ⊕ (Int32 × Int32)) ⊕ (Int32 × Int32)) ⊕ (Int32 × Int32)) :=
  if x5 < 0 then
    jinl (X8_codeOf_b64 x0 x1 x2 x3 x4)
  else
  jb (jgetI 7 26 x0) fun v7 =>
  jb ((f_X8_cell x3 x4 x5)) fun v8 =>
  jb (jald mI 0 x1 v8) fun v9 =>
  jlet ((x2 * v7) + v9) fun y10 =>
  jcont (y10, x5 + (-1))
theorem j_X8_codeOf_L35 (D : va_G) (dA : Nat → ClassId) (x0 : Nat) (x1 : Nat) (x3 : Int32) (x4 : Int32) (x2 : Int32) (x5 : Int32) : J (PM D dA false) Y_X8_codeOf [(0, .ref x0), (1, .ref x1), (2, .int x2), (3, .int x3), (4, .int x4), (5, .int x5)] [] 35 (X8_codeOf_L35 x0 x1 x3 x4 x2 x5) (FLoop (FLoop (FLoop (FRet injI) 9 (fun (t : Int32 × Int32) => [(0, .ref x0), (1, .ref x1), (2, .int t.1), (3, .int t.2)])) 21 (fun (t : Int32 × Int32) => [(0, .ref x0), (1, .ref x1), (2, .int t.1), (3, .int x3), (4, .int t.2)])) 35 (fun (t : Int32 × Int32) => [(0, .ref x0), (1, .ref x1), (2, .int t.1), (3, .int x3), (4, .int x4), (5, .int t.2)])) := by
  unfold X8_codeOf_L35
  refine J_iload dX8_codeOf_35 5 rfl ?_
  refine J_if_lt (tgt := 64) dX8_codeOf_37 rfl ?_ ?_
  · refine J_inl ?_
    refine J_sub [0, 1, 2, 3, 4] rfl ?_
    exact j_X8_codeOf_b64 D dA x0 x1 x2 x3 x4
  refine J_iload_n dX8_codeOf_40 rfl 2 rfl ?_
  refine J_aload_n dX8_codeOf_41 rfl 0 rfl ?_
  refine J_getI dX8_codeOf_42 fl_X8_250 rfl (fun v7 => ?_)
  refine J_imul dX8_codeOf_45 ?_
  refine J_aload_n dX8_codeOf_46 rfl 1 rfl ?_
  refine J_iload_n dX8_codeOf_47 rfl 3 rfl ?_
  refine J_iload dX8_codeOf_48 4 rfl ?_
  refine J_iload dX8_codeOf_50 5 rfl ?_
  refine J_callSI (host := "") (as := [.int x3, .int x4, .int x5]) dX8_codeOf_52 rfl (Nat.le_of_ble_eq_true rfl) (cw_X8_cell _ (by decide)) q1829 q1830 q1831 np_X8_cell (i_X8_cell x3 x4 x5) jad_id rfl (fun v8 => ?_)
  refine J_iald dX8_codeOf_55 (fun v9 => ?_)
  refine J_iadd dX8_codeOf_56 ?_
  refine J_letI (fun y10 => ?_)
  refine J_istore_n (env' := [(2, .int y10), (0, .ref x0), (1, .ref x1), (3, .int x3), (4, .int x4), (5, .int x5)]) dX8_codeOf_57 rfl (by decide) rfl ?_
  refine J_iinc (v := x5 + (-1)) (env' := [(5, .int (x5 + (-1))), (2, .int y10), (0, .ref x0), (1, .ref x1), (3, .int x3), (4, .int x4)]) dX8_codeOf_58 5 rfl rfl (by decide) rfl ?_
  refine J_goto (tgt := 35) dX8_codeOf_61 rfl ?_
  exact J_cont [2, 3, 1, 4, 5, 0] rfl
noncomputable def X8_codeOf_L21 (x0 : Nat) (x1 : Nat) (x3 : Int32) (x2 : Int32) (x4 : Int32) : JM Mem ((Int32 ⊕ (Int32 × Int32)) ⊕ (Int32 × Int32)) :=
  if x4 ≤ x3 then
    jinl (X8_codeOf_b70 x0 x1 x2 x3)
  else
  jb (jgetI 7 27 x0) fun v5 =>
  jlet (v5 - 1) fun y6 =>
  jloop (fun (t : Int32 × Int32) => X8_codeOf_L35 x0 x1 x3 x4 t.1 t.2) (x2, y6)
theorem j_X8_codeOf_L21 (D : va_G) (dA : Nat → ClassId) (x0 : Nat) (x1 : Nat) (x3 : Int32) (x2 : Int32) (x4 : Int32) : J (PM D dA false) Y_X8_codeOf [(0, .ref x0), (1, .ref x1), (2, .int x2), (3, .int x3), (4, .int x4)] [] 21 (X8_codeOf_L21 x0 x1 x3 x2 x4) (FLoop (FLoop (FRet injI) 9 (fun (t : Int32 × Int32) => [(0, .ref x0), (1, .ref x1), (2, .int t.1), (3, .int t.2)])) 21 (fun (t : Int32 × Int32) => [(0, .ref x0), (1, .ref x1), (2, .int t.1), (3, .int x3), (4, .int t.2)])) := by
  unfold X8_codeOf_L21
  refine J_iload dX8_codeOf_21 4 rfl ?_
  refine J_iload_n dX8_codeOf_23 rfl 3 rfl ?_
  refine J_icmp_le (tgt := 70) dX8_codeOf_24 rfl ?_ ?_
  · refine J_inl ?_
    refine J_sub [0, 1, 2, 3] rfl ?_
    exact j_X8_codeOf_b70 D dA x0 x1 x2 x3
  refine J_aload_n dX8_codeOf_27 rfl 0 rfl ?_
  refine J_getI dX8_codeOf_28 fl_X8_253 rfl (fun v5 => ?_)
  refine J_iconst (v := 1) dX8_codeOf_31 (by decide) ?_
  refine J_isub dX8_codeOf_32 ?_
  refine J_letI (fun y6 => ?_)
  refine J_istore (env' := [(5, .int y6), (0, .ref x0), (1, .ref x1), (2, .int x2), (3, .int x3), (4, .int x4)]) dX8_codeOf_33 (by decide) rfl ?_
  refine J_loop (he := fun (t : Int32 × Int32) => [(0, .ref x0), (1, .ref x1), (2, .int t.1), (3, .int x3), (4, .int x4), (5, .int t.2)]) [1, 2, 3, 4, 5, 0] rfl (fun t => ?_)
  exact j_X8_codeOf_L35 D dA x0 x1 x3 x4 t.1 t.2
noncomputable def X8_codeOf_L9 (x0 : Nat) (x1 : Nat) (x2 : Int32) (x3 : Int32) : JM Mem (Int32 ⊕ (Int32 × Int32)) :=
  if x3 < 0 then
    jinl (jp x2)
  else
  jb (jgetI 7 27 x0) fun v3 =>
  jlet (v3 - 1) fun y4 =>
  jloop (fun (t : Int32 × Int32) => X8_codeOf_L21 x0 x1 x3 t.1 t.2) (x2, y4)
theorem j_X8_codeOf_L9 (D : va_G) (dA : Nat → ClassId) (x0 : Nat) (x1 : Nat) (x2 : Int32) (x3 : Int32) : J (PM D dA false) Y_X8_codeOf [(0, .ref x0), (1, .ref x1), (2, .int x2), (3, .int x3)] [] 9 (X8_codeOf_L9 x0 x1 x2 x3) (FLoop (FRet injI) 9 (fun (t : Int32 × Int32) => [(0, .ref x0), (1, .ref x1), (2, .int t.1), (3, .int t.2)])) := by
  unfold X8_codeOf_L9
  refine J_iload_n dX8_codeOf_9 rfl 3 rfl ?_
  refine J_if_lt (tgt := 76) dX8_codeOf_10 rfl ?_ ?_
  · refine J_inl ?_
    refine J_iload_n dX8_codeOf_76 rfl 2 rfl ?_
    exact J_ireturn dX8_codeOf_77 rfl
  refine J_aload_n dX8_codeOf_13 rfl 0 rfl ?_
  refine J_getI dX8_codeOf_14 fl_X8_253 rfl (fun v3 => ?_)
  refine J_iconst (v := 1) dX8_codeOf_17 (by decide) ?_
  refine J_isub dX8_codeOf_18 ?_
  refine J_letI (fun y4 => ?_)
  refine J_istore (env' := [(4, .int y4), (0, .ref x0), (1, .ref x1), (2, .int x2), (3, .int x3)]) dX8_codeOf_19 (by decide) rfl ?_
  refine J_loop (he := fun (t : Int32 × Int32) => [(0, .ref x0), (1, .ref x1), (2, .int t.1), (3, .int x3), (4, .int t.2)]) [1, 2, 3, 4, 0] rfl (fun t => ?_)
  exact j_X8_codeOf_L21 D dA x0 x1 x3 t.1 t.2
noncomputable def f_X8_codeOf (x0 : Nat) (x1 : Nat) : JM Mem Int32 :=
  jb (jgetI 7 27 x0) fun v1 =>
  jlet (v1 - 1) fun y2 =>
  jloop (fun (t : Int32 × Int32) => X8_codeOf_L9 x0 x1 t.1 t.2) (0, y2)
theorem j_X8_codeOf (D : va_G) (dA : Nat → ClassId) (x0 : Nat) (x1 : Nat) : J (PM D dA false) Y_X8_codeOf [(0, .ref x0), (1, .ref x1)] [] 0 (f_X8_codeOf x0 x1) (FRet injI) := by
  unfold f_X8_codeOf
  refine J_iconst (v := 0) dX8_codeOf_0 (by decide) ?_
  refine J_istore_n (env' := [(2, .int 0), (0, .ref x0), (1, .ref x1)]) dX8_codeOf_1 rfl (by decide) rfl ?_
  refine J_aload_n dX8_codeOf_2 rfl 1 rfl ?_
  refine J_getI dX8_codeOf_3 fl_X8_253 rfl (fun v1 => ?_)
  refine J_iconst (v := 1) dX8_codeOf_6 (by decide) ?_
  refine J_isub dX8_codeOf_7 ?_
  refine J_letI (fun y2 => ?_)
  refine J_istore_n (env' := [(3, .int y2), (2, .int 0), (0, .ref x0), (1, .ref x1)]) dX8_codeOf_8 rfl (by decide) rfl ?_
  refine J_loop (he := fun (t : Int32 × Int32) => [(0, .ref x0), (1, .ref x1), (2, .int t.1), (3, .int t.2)]) [2, 3, 1, 0] rfl (fun t => ?_)
  exact j_X8_codeOf_L9 D dA x0 x1 t.1 t.2
theorem i_X8_codeOf (x0 : Nat) (x1 : Nat) : Impl (ws_ yX8_codeOf cX8_codeOf 6 (some .int)) yX8_codeOf 2 false 0 0 [.ref x0, .ref x1] (f_X8_codeOf x0 x1) injI := impl_of (plainFor_of_name (by decide)) (Nat.le_of_ble_eq_true rfl) (fun D dA => j_X8_codeOf D dA x0 x1)
theorem cw_X8_codeOf (Y : JY) (h : 3 ≤ Y.2.2.2.1) : JCw Y (ws_ yX8_codeOf cX8_codeOf 6 (some .int)) yX8_codeOf cX8_codeOf 6 (some .int) 2 := ⟨h, by decide, lw_meth q2345, q198, by decide, by decide⟩
theorem np_X8_codeOf : JNp yX8_codeOf.desc 1 := by decide +kernel
-- BracketRoomModel.seeAll()V
abbrev Y_X8_seeAll : JY := (cX8_seeAll, yX8_seeAll.cls, 5, 5, yX8_seeAll.name, none, [])
noncomputable def X8_seeAll_b102 (x0 : Nat) (x1 : Int32) (x2 : Int32) : JM Mem (Unit ⊕ (Int32)) :=
  jcont (x2 + 1)
theorem j_X8_seeAll_b102 (D : va_G) (dA : Nat → ClassId) (x0 : Nat) (x1 : Int32) (x2 : Int32) : J (PM D dA false) Y_X8_seeAll [(0, .ref x0), (1, .int x1), (2, .int x2)] [] 102 (X8_seeAll_b102 x0 x1 x2) (FLoop (FRet injU) 16 (fun (t : Int32) => [(0, .ref x0), (1, .int x1), (2, .int t)])) := by
  unfold X8_seeAll_b102
  refine J_iinc (v := x2 + 1) (env' := [(2, .int (x2 + 1)), (0, .ref x0), (1, .int x1)]) dX8_seeAll_102 2 rfl rfl (by decide) rfl ?_
  refine J_goto (tgt := 16) dX8_seeAll_105 rfl ?_
  exact J_cont [1, 2, 0] rfl
noncomputable def X8_seeAll_b81 (x0 : Nat) (x1 : Int32) (x2 : Int32) : JM Mem (Unit ⊕ (Int32)) :=
  jb (jcall 7 x0 (f_X8_changeInto x0)) fun v6 =>
  if v6 = 0 then
    X8_seeAll_b102 x0 x1 x2
  else
  jb (jgetA 7 68 x0) fun v7 =>
  jb (jgetA 7 21 x0) fun v8 =>
  jb (jcall 7 x0 (f_X8_codeOf x0 v8)) fun v9 =>
  jb (jast_z v7 v9 1) fun _ =>
  X8_seeAll_b102 x0 x1 x2
theorem j_X8_seeAll_b81 (D : va_G) (dA : Nat → ClassId) (x0 : Nat) (x1 : Int32) (x2 : Int32) : J (PM D dA false) Y_X8_seeAll [(0, .ref x0), (1, .int x1), (2, .int x2)] [] 81 (X8_seeAll_b81 x0 x1 x2) (FLoop (FRet injU) 16 (fun (t : Int32) => [(0, .ref x0), (1, .int x1), (2, .int t)])) := by
  unfold X8_seeAll_b81
  refine J_aload_n dX8_seeAll_81 rfl 0 rfl ?_
  refine J_callVI (c := 7) (as := []) dX8_seeAll_82 (by decide) rfl (Nat.le_of_ble_eq_true rfl) (cw_X8_changeInto _ (by decide)) q2249 q2251 qs154 q2252 np_X8_changeInto (i_X8_changeInto x0) jad_id rfl (fun v6 => ?_)
  refine J_if_eq (tgt := 102) dX8_seeAll_85 rfl ?_ ?_
  · refine J_sub [0, 1, 2] rfl ?_
    exact j_X8_seeAll_b102 D dA x0 x1 x2
  refine J_aload_n dX8_seeAll_88 rfl 0 rfl ?_
  refine J_getA dX8_seeAll_89 fl_X8_125 rfl (fun v7 => ?_)
  refine J_aload_n dX8_seeAll_92 rfl 0 rfl ?_
  refine J_aload_n dX8_seeAll_93 rfl 0 rfl ?_
  refine J_getA dX8_seeAll_94 fl_X8_41 rfl (fun v8 => ?_)
  refine J_callVI (c := 7) (as := [.ref v8]) dX8_seeAll_97 (by decide) rfl (Nat.le_of_ble_eq_true rfl) (cw_X8_codeOf _ (by decide)) q2342 q2344 qs169 q2345 np_X8_codeOf (i_X8_codeOf x0 v8) jad_id rfl (fun v9 => ?_)
  refine J_iconst (v := 1) dX8_seeAll_100 (by decide) ?_
  refine J_zast dX8_seeAll_101 ?_
  refine J_sub [0, 1, 2] rfl ?_
  exact j_X8_seeAll_b102 D dA x0 x1 x2
noncomputable def X8_seeAll_L26 (x0 : Nat) (x1 : Int32) (x2 : Int32) (x3 : Int32) (x4 : Int32) : JM Mem ((Unit ⊕ (Int32)) ⊕ (Int32 × Int32)) :=
  jb (jgetI 7 27 x0) fun v4 =>
  jb (jgetI 7 27 x0) fun v5 =>
  if v4 * v5 ≤ x4 then
    jinl (X8_seeAll_b81 x0 x1 x2)
  else
  jb (jgetA 7 66 x0) fun v10 =>
  jb (jgetI 7 27 x0) fun v11 =>
  jb (jdiv x4 v11) fun v12 =>
  jb (jgetI 7 27 x0) fun v13 =>
  jb (jrem x4 v13) fun v14 =>
  jb (jgetI 7 26 x0) fun v15 =>
  jb (jrem x3 v15) fun v16 =>
  jb (jast_i v10 ((5 * v12) + v14) v16) fun _ =>
  jb (jgetI 7 26 x0) fun v17 =>
  jb (jdiv x3 v17) fun v18 =>
  jcont (v18, x4 + 1)
theorem j_X8_seeAll_L26 (D : va_G) (dA : Nat → ClassId) (x0 : Nat) (x1 : Int32) (x2 : Int32) (x3 : Int32) (x4 : Int32) : J (PM D dA false) Y_X8_seeAll [(0, .ref x0), (1, .int x1), (2, .int x2), (3, .int x3), (4, .int x4)] [] 26 (X8_seeAll_L26 x0 x1 x2 x3 x4) (FLoop (FLoop (FRet injU) 16 (fun (t : Int32) => [(0, .ref x0), (1, .int x1), (2, .int t)])) 26 (fun (t : Int32 × Int32) => [(0, .ref x0), (1, .int x1), (2, .int x2), (3, .int t.1), (4, .int t.2)])) := by
  unfold X8_seeAll_L26
  refine J_iload dX8_seeAll_26 4 rfl ?_
  refine J_aload_n dX8_seeAll_28 rfl 0 rfl ?_
  refine J_getI dX8_seeAll_29 fl_X8_253 rfl (fun v4 => ?_)
  refine J_aload_n dX8_seeAll_32 rfl 0 rfl ?_
  refine J_getI dX8_seeAll_33 fl_X8_253 rfl (fun v5 => ?_)
  refine J_imul dX8_seeAll_36 ?_
  refine J_icmp_ge (tgt := 81) dX8_seeAll_37 rfl ?_ ?_
  · refine J_inl ?_
    refine J_sub [0, 1, 2] rfl ?_
    exact j_X8_seeAll_b81 D dA x0 x1 x2
  refine J_aload_n dX8_seeAll_40 rfl 0 rfl ?_
  refine J_getA dX8_seeAll_41 fl_X8_119 rfl (fun v10 => ?_)
  refine J_iconst (v := 5) dX8_seeAll_44 (by decide) ?_
  refine J_iload dX8_seeAll_45 4 rfl ?_
  refine J_aload_n dX8_seeAll_47 rfl 0 rfl ?_
  refine J_getI dX8_seeAll_48 fl_X8_253 rfl (fun v11 => ?_)
  refine J_idiv dX8_seeAll_51 (fun v12 => ?_)
  refine J_imul dX8_seeAll_52 ?_
  refine J_iload dX8_seeAll_53 4 rfl ?_
  refine J_aload_n dX8_seeAll_55 rfl 0 rfl ?_
  refine J_getI dX8_seeAll_56 fl_X8_253 rfl (fun v13 => ?_)
  refine J_irem dX8_seeAll_59 (fun v14 => ?_)
  refine J_iadd dX8_seeAll_60 ?_
  refine J_iload_n dX8_seeAll_61 rfl 3 rfl ?_
  refine J_aload_n dX8_seeAll_62 rfl 0 rfl ?_
  refine J_getI dX8_seeAll_63 fl_X8_250 rfl (fun v15 => ?_)
  refine J_irem dX8_seeAll_66 (fun v16 => ?_)
  refine J_iast dX8_seeAll_67 ?_
  refine J_iload_n dX8_seeAll_68 rfl 3 rfl ?_
  refine J_aload_n dX8_seeAll_69 rfl 0 rfl ?_
  refine J_getI dX8_seeAll_70 fl_X8_250 rfl (fun v17 => ?_)
  refine J_idiv dX8_seeAll_73 (fun v18 => ?_)
  refine J_istore_n (env' := [(3, .int v18), (0, .ref x0), (1, .int x1), (2, .int x2), (4, .int x4)]) dX8_seeAll_74 rfl (by decide) rfl ?_
  refine J_iinc (v := x4 + 1) (env' := [(4, .int (x4 + 1)), (3, .int v18), (0, .ref x0), (1, .int x1), (2, .int x2)]) dX8_seeAll_75 4 rfl rfl (by decide) rfl ?_
  refine J_goto (tgt := 26) dX8_seeAll_78 rfl ?_
  exact J_cont [2, 3, 4, 1, 0] rfl
noncomputable def X8_seeAll_L16 (x0 : Nat) (x1 : Int32) (x2 : Int32) : JM Mem (Unit ⊕ (Int32)) :=
  if x1 ≤ x2 then
    jinl (jp ())
  else
    jloop (fun (t : Int32 × Int32) => X8_seeAll_L26 x0 x1 x2 t.1 t.2) (x2, 0)
theorem j_X8_seeAll_L16 (D : va_G) (dA : Nat → ClassId) (x0 : Nat) (x1 : Int32) (x2 : Int32) : J (PM D dA false) Y_X8_seeAll [(0, .ref x0), (1, .int x1), (2, .int x2)] [] 16 (X8_seeAll_L16 x0 x1 x2) (FLoop (FRet injU) 16 (fun (t : Int32) => [(0, .ref x0), (1, .int x1), (2, .int t)])) := by
  unfold X8_seeAll_L16
  refine J_iload_n dX8_seeAll_16 rfl 2 rfl ?_
  refine J_iload_n dX8_seeAll_17 rfl 1 rfl ?_
  refine J_icmp_ge (tgt := 108) dX8_seeAll_18 rfl ?_ ?_
  · refine J_inl ?_
    exact J_return dX8_seeAll_108 rfl
  refine J_iload_n dX8_seeAll_21 rfl 2 rfl ?_
  refine J_istore_n (env' := [(3, .int x2), (0, .ref x0), (1, .int x1), (2, .int x2)]) dX8_seeAll_22 rfl (by decide) rfl ?_
  refine J_iconst (v := 0) dX8_seeAll_23 (by decide) ?_
  refine J_istore (env' := [(4, .int 0), (3, .int x2), (0, .ref x0), (1, .int x1), (2, .int x2)]) dX8_seeAll_24 (by decide) rfl ?_
  refine J_loop (he := fun (t : Int32 × Int32) => [(0, .ref x0), (1, .int x1), (2, .int x2), (3, .int t.1), (4, .int t.2)]) [2, 3, 4, 1, 0] rfl (fun t => ?_)
  exact j_X8_seeAll_L26 D dA x0 x1 x2 t.1 t.2
noncomputable def f_X8_seeAll (x0 : Nat) : JM Mem Unit :=
  jb (jgetI 7 27 x0) fun v1 =>
  jb (jgetI 7 27 x0) fun v2 =>
  jb (jcall 7 x0 (f_X8_powerOf x0 (v1 * v2))) fun v3 =>
  jloop (fun (t : Int32) => X8_seeAll_L16 x0 v3 t) 0
theorem j_X8_seeAll (D : va_G) (dA : Nat → ClassId) (x0 : Nat) : J (PM D dA false) Y_X8_seeAll [(0, .ref x0)] [] 0 (f_X8_seeAll x0) (FRet injU) := by
  unfold f_X8_seeAll
  refine J_aload_n dX8_seeAll_0 rfl 0 rfl ?_
  refine J_aload_n dX8_seeAll_1 rfl 0 rfl ?_
  refine J_getI dX8_seeAll_2 fl_X8_253 rfl (fun v1 => ?_)
  refine J_aload_n dX8_seeAll_5 rfl 0 rfl ?_
  refine J_getI dX8_seeAll_6 fl_X8_253 rfl (fun v2 => ?_)
  refine J_imul dX8_seeAll_9 ?_
  refine J_callVI (c := 7) (as := [.int (v1 * v2)]) dX8_seeAll_10 (by decide) rfl (Nat.le_of_ble_eq_true rfl) (cw_X8_powerOf _ (by decide)) q1903 q1905 qs95 q1906 np_X8_powerOf (i_X8_powerOf x0 (v1 * v2)) jad_id rfl (fun v3 => ?_)
  refine J_istore_n (env' := [(1, .int v3), (0, .ref x0)]) dX8_seeAll_13 rfl (by decide) rfl ?_
  refine J_iconst (v := 0) dX8_seeAll_14 (by decide) ?_
  refine J_istore_n (env' := [(2, .int 0), (1, .int v3), (0, .ref x0)]) dX8_seeAll_15 rfl (by decide) rfl ?_
  refine J_loop (he := fun (t : Int32) => [(0, .ref x0), (1, .int v3), (2, .int t)]) [2, 1, 0] rfl (fun t => ?_)
  exact j_X8_seeAll_L16 D dA x0 v3 t
theorem i_X8_seeAll (x0 : Nat) : Impl (ws_ yX8_seeAll cX8_seeAll 5 none) yX8_seeAll 5 false 0 0 [.ref x0] (f_X8_seeAll x0) injU := impl_of (plainFor_of_name (by decide)) (Nat.le_of_ble_eq_true rfl) (fun D dA => j_X8_seeAll D dA x0)
theorem cw_X8_seeAll (Y : JY) (h : 6 ≤ Y.2.2.2.1) : JCw Y (ws_ yX8_seeAll cX8_seeAll 5 none) yX8_seeAll cX8_seeAll 5 none 5 := ⟨h, by decide, lw_meth q2341, q198, by decide, by decide⟩
theorem np_X8_seeAll : JNp yX8_seeAll.desc 0 := by decide +kernel
-- BracketRoomModel.tables(III)I
abbrev Y_X8_tables : JY := (cX8_tables, yX8_tables.cls, 8, 7, yX8_tables.name, (some .int), [])
noncomputable def X8_tables_b64 (x0 : Nat) : JM Mem Int32 :=
  jb (jcall 7 x0 (f_X8_refuse x0 5)) fun v2 =>
  jp v2
theorem j_X8_tables_b64 (D : va_G) (dA : Nat → ClassId) (x0 : Nat) : J (PM D dA false) Y_X8_tables [(0, .ref x0)] [] 64 (X8_tables_b64 x0) (FRet injI) := by
  unfold X8_tables_b64
  refine J_aload_n dX8_tables_64 rfl 0 rfl ?_
  refine J_iconst (v := 5) dX8_tables_65 (by decide) ?_
  refine J_callVI (c := 7) (as := [.int 5]) dX8_tables_66 (by decide) rfl (Nat.le_of_ble_eq_true rfl) (cw_X8_refuse _ (by decide)) q1871 q1873 qs90 q1874 np_X8_refuse (i_X8_refuse x0 5) jad_id rfl (fun v2 => ?_)
  exact J_ireturn dX8_tables_69 rfl
noncomputable def X8_tables_b180 (x0 : Nat) (x3 : Int32) (x5 : Int32) (x6 : Int32) (x7 : Int32) : JM Mem (Int32 ⊕ (Int32 × Int32)) :=
  jcont (x6, x7 + 1)
theorem j_X8_tables_b180 (D : va_G) (dA : Nat → ClassId) (x0 : Nat) (x3 : Int32) (x5 : Int32) (x6 : Int32) (x7 : Int32) : J (PM D dA false) Y_X8_tables [(0, .ref x0), (3, .int x3), (5, .int x5), (6, .int x6), (7, .int x7)] [] 180 (X8_tables_b180 x0 x3 x5 x6 x7) (FLoop (FRet injI) 130 (fun (t : Int32 × Int32) => [(0, .ref x0), (3, .int x3), (5, .int x5), (6, .int t.1), (7, .int t.2)])) := by
  unfold X8_tables_b180
  refine J_iinc (v := x7 + 1) (env' := [(7, .int (x7 + 1)), (0, .ref x0), (3, .int x3), (5, .int x5), (6, .int x6)]) dX8_tables_180 4 rfl rfl (by decide) rfl ?_
  refine J_goto (tgt := 130) dX8_tables_183 rfl ?_
  exact J_cont [1, 2, 3, 4, 0] rfl
noncomputable def X8_tables_b168 (x0 : Nat) (x3 : Int32) (x5 : Int32) (x6 : Int32) (x7 : Int32) : JM Mem (Int32 ⊕ (Int32 × Int32)) :=
  if x3 = 1 then
    jb (jcall 7 x0 (f_X8_seeAll x0)) fun _ =>
    X8_tables_b180 x0 x3 x5 (x6 + 1) x7
  else
    X8_tables_b180 x0 x3 x5 (x6 + 1) x7
theorem j_X8_tables_b168 (D : va_G) (dA : Nat → ClassId) (x0 : Nat) (x3 : Int32) (x5 : Int32) (x6 : Int32) (x7 : Int32) : J (PM D dA false) Y_X8_tables [(0, .ref x0), (3, .int x3), (5, .int x5), (6, .int x6), (7, .int x7)] [] 168 (X8_tables_b168 x0 x3 x5 x6 x7) (FLoop (FRet injI) 130 (fun (t : Int32 × Int32) => [(0, .ref x0), (3, .int x3), (5, .int x5), (6, .int t.1), (7, .int t.2)])) := by
  unfold X8_tables_b168
  refine J_iinc (v := x6 + 1) (env' := [(6, .int (x6 + 1)), (0, .ref x0), (3, .int x3), (5, .int x5), (7, .int x7)]) dX8_tables_168 3 rfl rfl (by decide) rfl ?_
  refine J_iload_n dX8_tables_171 rfl 2 rfl ?_
  refine J_iconst (v := 1) dX8_tables_172 (by decide) ?_
  refine J_icmp_ne (tgt := 180) dX8_tables_173 rfl ?_ ?_
  · refine J_sub [1, 2, 3, 0, 4] rfl ?_
    exact j_X8_tables_b180 D dA x0 x3 x5 (x6 + 1) x7
  refine J_aload_n dX8_tables_176 rfl 1 rfl ?_
  refine J_callVV (c := 7) (as := []) dX8_tables_177 (by decide) rfl (Nat.le_of_ble_eq_true rfl) (cw_X8_seeAll _ (by decide)) q2338 q2340 qs168 q2341 np_X8_seeAll (i_X8_seeAll x0) jad_id rfl ?_
  refine J_sub [1, 2, 3, 0, 4] rfl ?_
  exact j_X8_tables_b180 D dA x0 x3 x5 (x6 + 1) x7
noncomputable def X8_tables_L130 (x0 : Nat) (x3 : Int32) (x5 : Int32) (x6 : Int32) (x7 : Int32) : JM Mem (Int32 ⊕ (Int32 × Int32)) :=
  if x5 ≤ x7 then
    jinl (jp x6)
  else
  jb (jcall 7 x0 (f_X8_tableBy x0 x7)) fun _ =>
  jb (jcall 7 x0 (f_X8_isLawful x0)) fun v8 =>
  if v8 = 0 then
    X8_tables_b180 x0 x3 x5 x6 x7
  else
  if x3 = 1 then
    jb (jgetA 7 68 x0) fun v9 =>
    jb (jald mI 4 v9 x7) fun v10 =>
    if v10 = 0 then
      X8_tables_b168 x0 x3 x5 x6 x7
    else
      X8_tables_b180 x0 x3 x5 x6 x7
  else
    X8_tables_b168 x0 x3 x5 x6 x7
theorem j_X8_tables_L130 (D : va_G) (dA : Nat → ClassId) (x0 : Nat) (x3 : Int32) (x5 : Int32) (x6 : Int32) (x7 : Int32) : J (PM D dA false) Y_X8_tables [(0, .ref x0), (3, .int x3), (5, .int x5), (6, .int x6), (7, .int x7)] [] 130 (X8_tables_L130 x0 x3 x5 x6 x7) (FLoop (FRet injI) 130 (fun (t : Int32 × Int32) => [(0, .ref x0), (3, .int x3), (5, .int x5), (6, .int t.1), (7, .int t.2)])) := by
  unfold X8_tables_L130
  refine J_iload dX8_tables_130 4 rfl ?_
  refine J_iload dX8_tables_132 2 rfl ?_
  refine J_icmp_ge (tgt := 186) dX8_tables_134 rfl ?_ ?_
  · refine J_inl ?_
    refine J_iload dX8_tables_186 3 rfl ?_
    exact J_ireturn dX8_tables_188 rfl
  refine J_aload_n dX8_tables_137 rfl 0 rfl ?_
  refine J_iload dX8_tables_138 4 rfl ?_
  refine J_callVV (c := 7) (as := [.int x7]) dX8_tables_140 (by decide) rfl (Nat.le_of_ble_eq_true rfl) (cw_X8_tableBy _ (by decide)) q2334 q2336 qs167 q2337 np_X8_tableBy (i_X8_tableBy x0 x7) jad_id rfl ?_
  refine J_aload_n dX8_tables_143 rfl 0 rfl ?_
  refine J_callVI (c := 7) (as := []) dX8_tables_144 (by decide) rfl (Nat.le_of_ble_eq_true rfl) (cw_X8_isLawful _ (by decide)) q1923 q1925 qs99 q1926 np_X8_isLawful (i_X8_isLawful x0) jad_id rfl (fun v8 => ?_)
  refine J_if_eq (tgt := 180) dX8_tables_147 rfl ?_ ?_
  · refine J_sub [0, 1, 2, 3, 4] rfl ?_
    exact j_X8_tables_b180 D dA x0 x3 x5 x6 x7
  refine J_iload_n dX8_tables_150 rfl 1 rfl ?_
  refine J_iconst (v := 1) dX8_tables_151 (by decide) ?_
  refine J_icmp_ne (tgt := 168) dX8_tables_152 rfl ?_ ?_
  · refine J_sub [0, 1, 2, 3, 4] rfl ?_
    exact j_X8_tables_b168 D dA x0 x3 x5 x6 x7
  refine J_aload_n dX8_tables_155 rfl 0 rfl ?_
  refine J_getA dX8_tables_156 fl_X8_125 rfl (fun v9 => ?_)
  refine J_iload dX8_tables_159 4 rfl ?_
  refine J_zald dX8_tables_161 (fun v10 => ?_)
  refine J_if_eq (tgt := 168) dX8_tables_162 rfl ?_ ?_
  · refine J_sub [0, 1, 2, 3, 4] rfl ?_
    exact j_X8_tables_b168 D dA x0 x3 x5 x6 x7
  refine J_goto (tgt := 180) dX8_tables_165 rfl ?_
  refine J_sub [0, 1, 2, 3, 4] rfl ?_
  exact j_X8_tables_b180 D dA x0 x3 x5 x6 x7
noncomputable def X8_tables_b124 (x0 : Nat) (x3 : Int32) (x5 : Int32) : JM Mem Int32 :=
  jloop (fun (t : Int32 × Int32) => X8_tables_L130 x0 x3 x5 t.1 t.2) (0, 0)
theorem j_X8_tables_b124 (D : va_G) (dA : Nat → ClassId) (x0 : Nat) (x3 : Int32) (x5 : Int32) : J (PM D dA false) Y_X8_tables [(0, .ref x0), (3, .int x3), (5, .int x5)] [] 124 (X8_tables_b124 x0 x3 x5) (FRet injI) := by
  unfold X8_tables_b124
  refine J_iconst (v := 0) dX8_tables_124 (by decide) ?_
  refine J_istore (env' := [(6, .int 0), (0, .ref x0), (3, .int x3), (5, .int x5)]) dX8_tables_125 (by decide) rfl ?_
  refine J_iconst (v := 0) dX8_tables_127 (by decide) ?_
  refine J_istore (env' := [(7, .int 0), (6, .int 0), (0, .ref x0), (3, .int x3), (5, .int x5)]) dX8_tables_128 (by decide) rfl ?_
  refine J_loop (he := fun (t : Int32 × Int32) => [(0, .ref x0), (3, .int x3), (5, .int x5), (6, .int t.1), (7, .int t.2)]) [2, 3, 4, 1, 0] rfl (fun t => ?_)
  exact j_X8_tables_L130 D dA x0 x3 x5 t.1 t.2
noncomputable def X8_tables_L103 (x0 : Nat) (x3 : Int32) (x5 : Int32) (x6 : Int32) : JM Mem (Int32 ⊕ (Int32)) :=
  if x5 ≤ x6 then
    jinl (X8_tables_b124 x0 x3 x5)
  else
  jb (jgetA 7 68 x0) fun v11 =>
  jb (jast_z v11 x6 0) fun _ =>
  jcont (x6 + 1)
theorem j_X8_tables_L103 (D : va_G) (dA : Nat → ClassId) (x0 : Nat) (x3 : Int32) (x5 : Int32) (x6 : Int32) : J (PM D dA false) Y_X8_tables [(0, .ref x0), (3, .int x3), (5, .int x5), (6, .int x6)] [] 103 (X8_tables_L103 x0 x3 x5 x6) (FLoop (FRet injI) 103 (fun (t : Int32) => [(0, .ref x0), (3, .int x3), (5, .int x5), (6, .int t)])) := by
  unfold X8_tables_L103
  refine J_iload dX8_tables_103 3 rfl ?_
  refine J_iload dX8_tables_105 2 rfl ?_
  refine J_icmp_ge (tgt := 124) dX8_tables_107 rfl ?_ ?_
  · refine J_inl ?_
    refine J_sub [0, 1, 2] rfl ?_
    exact j_X8_tables_b124 D dA x0 x3 x5
  refine J_aload_n dX8_tables_110 rfl 0 rfl ?_
  refine J_getA dX8_tables_111 fl_X8_125 rfl (fun v11 => ?_)
  refine J_iload dX8_tables_114 3 rfl ?_
  refine J_iconst (v := 0) dX8_tables_116 (by decide) ?_
  refine J_zast dX8_tables_117 ?_
  refine J_iinc (v := x6 + 1) (env' := [(6, .int (x6 + 1)), (0, .ref x0), (3, .int x3), (5, .int x5)]) dX8_tables_118 3 rfl rfl (by decide) rfl ?_
  refine J_goto (tgt := 103) dX8_tables_121 rfl ?_
  exact J_cont [1, 2, 3, 0] rfl
noncomputable def X8_tables_b47 (x0 : Nat) (x1 : Int32) (x2 : Int32) (x3 : Int32) (s0 : Int32) : JM Mem Int32 :=
  if s0 = 0 then
    X8_tables_b64 x0
  else
  jb ((f_X8_isIn ((x3 : Int32).toInt64) 0 1)) fun v3 =>
  if v3 = 0 then
    X8_tables_b64 x0
  else
  jb (jgetA 7 69 x0) fun v4 =>
  jb ((f_X8_clear v4 0 x1 x2)) fun _ =>
  jb (jgetA 7 69 x0) fun v5 =>
  jb (jcall 7 x0 (f_X8_ask x0 v5 0)) fun _ =>
  jb (jcall 7 x0 (f_X8_numbersOf x0 x2)) fun v6 =>
  jb (jcall 7 x0 (f_X8_powerOf x0 v6)) fun v7 =>
  jloop (fun (t : Int32) => X8_tables_L103 x0 x3 v7 t) 0
theorem j_X8_tables_b47 (D : va_G) (dA : Nat → ClassId) (x0 : Nat) (x1 : Int32) (x2 : Int32) (x3 : Int32) (s0 : Int32) : J (PM D dA false) Y_X8_tables [(0, .ref x0), (1, .int x1), (2, .int x2), (3, .int x3)] [.int s0] 47 (X8_tables_b47 x0 x1 x2 x3 s0) (FRet injI) := by
  unfold X8_tables_b47
  refine J_istore (env' := [(4, .int s0), (0, .ref x0), (1, .int x1), (2, .int x2), (3, .int x3)]) dX8_tables_47 (by decide) rfl ?_
  refine J_iload dX8_tables_49 0 rfl ?_
  refine J_if_eq (tgt := 64) dX8_tables_51 rfl ?_ ?_
  · refine J_sub [1] rfl ?_
    exact j_X8_tables_b64 D dA x0
  refine J_iload_n dX8_tables_54 rfl 4 rfl ?_
  refine J_i2l dX8_tables_55 ?_
  refine J_lconst (v := 0) dX8_tables_56 (by decide) ?_
  refine J_lconst (v := 1) dX8_tables_57 (by decide) ?_
  refine J_callSI (host := "") (as := [.long ((x3 : Int32).toInt64), .long 0, .long 1]) dX8_tables_58 rfl (Nat.le_of_ble_eq_true rfl) (cw_X8_isIn _ (by decide)) q1801 q1802 q1803 np_X8_isIn (i_X8_isIn ((x3 : Int32).toInt64) 0 1) jad_id rfl (fun v3 => ?_)
  refine J_if_ne (tgt := 70) dX8_tables_61 rfl ?_ ?_
  · refine J_aload_n dX8_tables_70 rfl 1 rfl ?_
    refine J_getA dX8_tables_71 fl_X8_129 rfl (fun v4 => ?_)
    refine J_iconst (v := 0) dX8_tables_74 (by decide) ?_
    refine J_iload_n dX8_tables_75 rfl 2 rfl ?_
    refine J_iload_n dX8_tables_76 rfl 3 rfl ?_
    refine J_callSV (host := "") (as := [.ref v4, .int 0, .int x1, .int x2]) dX8_tables_77 rfl (Nat.le_of_ble_eq_true rfl) (cw_X8_clear _ (by decide)) q1815 q1816 q1817 np_X8_clear (i_X8_clear v4 0 x1 x2) jad_id rfl ?_
    refine J_aload_n dX8_tables_80 rfl 1 rfl ?_
    refine J_aload_n dX8_tables_81 rfl 1 rfl ?_
    refine J_getA dX8_tables_82 fl_X8_129 rfl (fun v5 => ?_)
    refine J_iconst (v := 0) dX8_tables_85 (by decide) ?_
    refine J_callVV (c := 7) (as := [.ref v5, .int 0]) dX8_tables_86 (by decide) rfl (Nat.le_of_ble_eq_true rfl) (cw_X8_ask _ (by decide)) q1866 q1868 qs89 q1869 np_X8_ask (i_X8_ask x0 v5 0) jad_id rfl ?_
    refine J_aload_n dX8_tables_89 rfl 1 rfl ?_
    refine J_aload_n dX8_tables_90 rfl 1 rfl ?_
    refine J_iload_n dX8_tables_91 rfl 3 rfl ?_
    refine J_callVI (c := 7) (as := [.int x2]) dX8_tables_92 (by decide) rfl (Nat.le_of_ble_eq_true rfl) (cw_X8_numbersOf _ (by decide)) q2330 q2332 qs166 q2333 np_X8_numbersOf (i_X8_numbersOf x0 x2) jad_id rfl (fun v6 => ?_)
    refine J_callVI (c := 7) (as := [.int v6]) dX8_tables_95 (by decide) rfl (Nat.le_of_ble_eq_true rfl) (cw_X8_powerOf _ (by decide)) q1903 q1905 qs95 q1906 np_X8_powerOf (i_X8_powerOf x0 v6) jad_id rfl (fun v7 => ?_)
    refine J_istore (env' := [(5, .int v7), (4, .int s0), (0, .ref x0), (1, .int x1), (2, .int x2), (3, .int x3)]) dX8_tables_98 (by decide) rfl ?_
    refine J_iconst (v := 0) dX8_tables_100 (by decide) ?_
    refine J_istore (env' := [(6, .int 0), (5, .int v7), (4, .int s0), (0, .ref x0), (1, .int x1), (2, .int x2), (3, .int x3)]) dX8_tables_101 (by decide) rfl ?_
    refine J_loop (he := fun (t : Int32) => [(0, .ref x0), (3, .int x3), (5, .int v7), (6, .int t)]) [3, 6, 1, 0] rfl (fun t => ?_)
    exact j_X8_tables_L103 D dA x0 x3 v7 t
  refine J_sub [1] rfl ?_
  exact j_X8_tables_b64 D dA x0
noncomputable def X8_tables_b42 (x0 : Nat) (x1 : Int32) (x2 : Int32) (x3 : Int32) : JM Mem Int32 :=
  X8_tables_b47 x0 x1 x2 x3 1
theorem j_X8_tables_b42 (D : va_G) (dA : Nat → ClassId) (x0 : Nat) (x1 : Int32) (x2 : Int32) (x3 : Int32) : J (PM D dA false) Y_X8_tables [(0, .ref x0), (1, .int x1), (2, .int x2), (3, .int x3)] [] 42 (X8_tables_b42 x0 x1 x2 x3) (FRet injI) := by
  unfold X8_tables_b42
  refine J_iconst (v := 1) dX8_tables_42 (by decide) ?_
  refine J_goto (tgt := 47) dX8_tables_43 rfl ?_
  refine J_sub [0, 1, 2, 3] rfl ?_
  exact j_X8_tables_b47 D dA x0 x1 x2 x3 1
noncomputable def X8_tables_b46 (x0 : Nat) (x1 : Int32) (x2 : Int32) (x3 : Int32) : JM Mem Int32 :=
  X8_tables_b47 x0 x1 x2 x3 0
theorem j_X8_tables_b46 (D : va_G) (dA : Nat → ClassId) (x0 : Nat) (x1 : Int32) (x2 : Int32) (x3 : Int32) : J (PM D dA false) Y_X8_tables [(0, .ref x0), (1, .int x1), (2, .int x2), (3, .int x3)] [] 46 (X8_tables_b46 x0 x1 x2 x3) (FRet injI) := by
  unfold X8_tables_b46
  refine J_iconst (v := 0) dX8_tables_46 (by decide) ?_
  refine J_sub [0, 1, 2, 3] rfl ?_
  exact j_X8_tables_b47 D dA x0 x1 x2 x3 0
noncomputable def X8_tables_b20 (x0 : Nat) (x1 : Int32) (x2 : Int32) (x3 : Int32) : JM Mem Int32 :=
  jb ((f_X8_isIn ((x2 : Int32).toInt64) 1 2)) fun v1 =>
  if v1 = 0 then
    if x2 = 3 then
      if x1 = 2 then
        X8_tables_b42 x0 x1 x2 x3
      else
        X8_tables_b46 x0 x1 x2 x3
    else
      X8_tables_b46 x0 x1 x2 x3
  else
    X8_tables_b42 x0 x1 x2 x3
theorem j_X8_tables_b20 (D : va_G) (dA : Nat → ClassId) (x0 : Nat) (x1 : Int32) (x2 : Int32) (x3 : Int32) : J (PM D dA false) Y_X8_tables [(0, .ref x0), (1, .int x1), (2, .int x2), (3, .int x3)] [] 20 (X8_tables_b20 x0 x1 x2 x3) (FRet injI) := by
  unfold X8_tables_b20
  refine J_iload_n dX8_tables_20 rfl 2 rfl ?_
  refine J_i2l dX8_tables_21 ?_
  refine J_lconst (v := 1) dX8_tables_22 (by decide) ?_
  refine J_ldc2 dX8_tables_23 q1947 ?_
  refine J_callSI (host := "") (as := [.long ((x2 : Int32).toInt64), .long 1, .long 2]) dX8_tables_26 rfl (Nat.le_of_ble_eq_true rfl) (cw_X8_isIn _ (by decide)) q1801 q1802 q1803 np_X8_isIn (i_X8_isIn ((x2 : Int32).toInt64) 1 2) jad_id rfl (fun v1 => ?_)
  refine J_if_ne (tgt := 42) dX8_tables_29 rfl ?_ ?_
  · refine J_sub [0, 1, 2, 3] rfl ?_
    exact j_X8_tables_b42 D dA x0 x1 x2 x3
  refine J_iload_n dX8_tables_32 rfl 2 rfl ?_
  refine J_iconst (v := 3) dX8_tables_33 (by decide) ?_
  refine J_icmp_ne (tgt := 46) dX8_tables_34 rfl ?_ ?_
  · refine J_sub [0, 1, 2, 3] rfl ?_
    exact j_X8_tables_b46 D dA x0 x1 x2 x3
  refine J_iload_n dX8_tables_37 rfl 1 rfl ?_
  refine J_iconst (v := 2) dX8_tables_38 (by decide) ?_
  refine J_icmp_ne (tgt := 46) dX8_tables_39 rfl ?_ ?_
  · refine J_sub [0, 1, 2, 3] rfl ?_
    exact j_X8_tables_b46 D dA x0 x1 x2 x3
  refine J_sub [0, 1, 2, 3] rfl ?_
  exact j_X8_tables_b42 D dA x0 x1 x2 x3
noncomputable def f_X8_tables (x0 : Nat) (x1 : Int32) (x2 : Int32) (x3 : Int32) : JM Mem Int32 :=
  jb (jputI 7 1 x0 0) fun _ =>
  jb (jputI 7 0 x0 0) fun _ =>
  if x1 = 2 then
    X8_tables_b20 x0 x1 x2 x3
  else
  if x1 = 3 then
    X8_tables_b20 x0 x1 x2 x3
  else
    X8_tables_b46 x0 x1 x2 x3
theorem j_X8_tables (D : va_G) (dA : Nat → ClassId) (x0 : Nat) (x1 : Int32) (x2 : Int32) (x3 : Int32) : J (PM D dA false) Y_X8_tables [(0, .ref x0), (1, .int x1), (2, .int x2), (3, .int x3)] [] 0 (f_X8_tables x0 x1 x2 x3) (FRet injI) := by
  unfold f_X8_tables
  refine J_aload_n dX8_tables_0 rfl 0 rfl ?_
  refine J_iconst (v := 0) dX8_tables_1 (by decide) ?_
  refine J_putI dX8_tables_2 ⟨fl_X8_132, Or.inl rfl⟩ rfl ?_
  refine J_aload_n dX8_tables_5 rfl 0 rfl ?_
  refine J_iconst (v := 0) dX8_tables_6 (by decide) ?_
  refine J_putI dX8_tables_7 ⟨fl_X8_135, Or.inl rfl⟩ rfl ?_
  refine J_iload_n dX8_tables_10 rfl 1 rfl ?_
  refine J_iconst (v := 2) dX8_tables_11 (by decide) ?_
  refine J_icmp_eq (tgt := 20) dX8_tables_12 rfl ?_ ?_
  · refine J_sub [0, 1, 2, 3] rfl ?_
    exact j_X8_tables_b20 D dA x0 x1 x2 x3
  refine J_iload_n dX8_tables_15 rfl 1 rfl ?_
  refine J_iconst (v := 3) dX8_tables_16 (by decide) ?_
  refine J_icmp_ne (tgt := 46) dX8_tables_17 rfl ?_ ?_
  · refine J_sub [0, 1, 2, 3] rfl ?_
    exact j_X8_tables_b46 D dA x0 x1 x2 x3
  refine J_sub [0, 1, 2, 3] rfl ?_
  exact j_X8_tables_b20 D dA x0 x1 x2 x3
theorem i_X8_tables (x0 : Nat) (x1 : Int32) (x2 : Int32) (x3 : Int32) : Impl (ws_ yX8_tables cX8_tables 8 (some .int)) yX8_tables 7 false 0 0 [.ref x0, .int x1, .int x2, .int x3] (f_X8_tables x0 x1 x2 x3) injI := impl_of (plainFor_of_name (by decide)) (Nat.le_of_ble_eq_true rfl) (fun D dA => j_X8_tables D dA x0 x1 x2 x3)
theorem cw_X8_tables (Y : JY) (h : 8 ≤ Y.2.2.2.1) : JCw Y (ws_ yX8_tables cX8_tables 8 (some .int)) yX8_tables cX8_tables 8 (some .int) 7 := ⟨h, by decide, lw_meth q2329, q198, by decide, by decide⟩
theorem np_X8_tables : JNp yX8_tables.desc 3 := by decide +kernel
-- BracketRoomModel.stepWord()I
abbrev Y_X8_stepWord : JY := (cX8_stepWord, yX8_stepWord.cls, 1, 2, yX8_stepWord.name, (some .int), [])
noncomputable def f_X8_stepWord (x0 : Nat) : JM Mem Int32 :=
  jb ((f_X8_spelled 115 119 97 112 0 0)) fun v1 =>
  jb (jcall 7 x0 (f_X8_isWord x0 v1)) fun v2 =>
  if v2 = 0 then
    jb ((f_X8_spelled 115 99 97 108 101 0)) fun v3 =>
    jb (jcall 7 x0 (f_X8_isWord x0 v3)) fun v4 =>
    if v4 = 0 then
      jb ((f_X8_spelled 97 100 100 0 0 0)) fun v5 =>
      jb (jcall 7 x0 (f_X8_isWord x0 v5)) fun v6 =>
      if v6 = 0 then
        jb ((f_X8_spelled 107 101 101 112 0 0)) fun v7 =>
        jb (jcall 7 x0 (f_X8_isWord x0 v7)) fun v8 =>
        if v8 = 0 then
          jb ((f_X8_spelled 116 97 107 101 0 0)) fun v9 =>
          jb (jcall 7 x0 (f_X8_isWord x0 v9)) fun v10 =>
          if v10 = 0 then
            jb ((f_X8_spelled 115 117 109 0 0 0)) fun v11 =>
            jb (jcall 7 x0 (f_X8_isWord x0 v11)) fun v12 =>
            if v12 = 0 then
              jb ((f_X8_spelled 119 104 101 110 0 0)) fun v13 =>
              jb (jcall 7 x0 (f_X8_isWord x0 v13)) fun v14 =>
              if v14 = 0 then
                jb ((f_X8_spelled 108 111 111 112 0 0)) fun v15 =>
                jb (jcall 7 x0 (f_X8_isWord x0 v15)) fun v16 =>
                if v16 = 0 then
                  jb ((f_X8_spelled 115 116 111 112 0 0)) fun v17 =>
                  jb (jcall 7 x0 (f_X8_isWord x0 v17)) fun v18 =>
                  if v18 = 0 then
                    jp (-1)
                  else
                    jp 8
                else
                  jp 7
              else
                jp 6
            else
              jp 5
          else
            jp 4
        else
          jp 3
      else
        jp 2
    else
      jp 1
  else
    jp 0
theorem j_X8_stepWord (D : va_G) (dA : Nat → ClassId) (x0 : Nat) : J (PM D dA false) Y_X8_stepWord [(0, .ref x0)] [] 0 (f_X8_stepWord x0) (FRet injI) := by
  unfold f_X8_stepWord
  refine J_aload_n dX8_stepWord_0 rfl 0 rfl ?_
  refine J_bipush (v := 115) dX8_stepWord_1 (by decide) ?_
  refine J_bipush (v := 119) dX8_stepWord_3 (by decide) ?_
  refine J_bipush (v := 97) dX8_stepWord_5 (by decide) ?_
  refine J_bipush (v := 112) dX8_stepWord_7 (by decide) ?_
  refine J_iconst (v := 0) dX8_stepWord_9 (by decide) ?_
  refine J_iconst (v := 0) dX8_stepWord_10 (by decide) ?_
  refine J_callSL (host := "") (as := [.int 115, .int 119, .int 97, .int 112, .int 0, .int 0]) dX8_stepWord_11 rfl (Nat.le_of_ble_eq_true rfl) (cw_X8_spelled _ (by decide)) q1774 q1775 q1776 np_X8_spelled (i_X8_spelled 115 119 97 112 0 0) jad_id rfl (fun v1 => ?_)
  refine J_callVI (c := 7) (as := [.long v1]) dX8_stepWord_14 (by decide) rfl (Nat.le_of_ble_eq_true rfl) (cw_X8_isWord _ (by decide)) q1777 q1779 qs73 q1780 np_X8_isWord (i_X8_isWord x0 v1) jad_id rfl (fun v2 => ?_)
  refine J_if_eq (tgt := 22) dX8_stepWord_17 rfl ?_ ?_
  · refine J_aload_n dX8_stepWord_22 rfl 0 rfl ?_
    refine J_bipush (v := 115) dX8_stepWord_23 (by decide) ?_
    refine J_bipush (v := 99) dX8_stepWord_25 (by decide) ?_
    refine J_bipush (v := 97) dX8_stepWord_27 (by decide) ?_
    refine J_bipush (v := 108) dX8_stepWord_29 (by decide) ?_
    refine J_bipush (v := 101) dX8_stepWord_31 (by decide) ?_
    refine J_iconst (v := 0) dX8_stepWord_33 (by decide) ?_
    refine J_callSL (host := "") (as := [.int 115, .int 99, .int 97, .int 108, .int 101, .int 0]) dX8_stepWord_34 rfl (Nat.le_of_ble_eq_true rfl) (cw_X8_spelled _ (by decide)) q1774 q1775 q1776 np_X8_spelled (i_X8_spelled 115 99 97 108 101 0) jad_id rfl (fun v3 => ?_)
    refine J_callVI (c := 7) (as := [.long v3]) dX8_stepWord_37 (by decide) rfl (Nat.le_of_ble_eq_true rfl) (cw_X8_isWord _ (by decide)) q1777 q1779 qs73 q1780 np_X8_isWord (i_X8_isWord x0 v3) jad_id rfl (fun v4 => ?_)
    refine J_if_eq (tgt := 45) dX8_stepWord_40 rfl ?_ ?_
    · refine J_aload_n dX8_stepWord_45 rfl 0 rfl ?_
      refine J_bipush (v := 97) dX8_stepWord_46 (by decide) ?_
      refine J_bipush (v := 100) dX8_stepWord_48 (by decide) ?_
      refine J_bipush (v := 100) dX8_stepWord_50 (by decide) ?_
      refine J_iconst (v := 0) dX8_stepWord_52 (by decide) ?_
      refine J_iconst (v := 0) dX8_stepWord_53 (by decide) ?_
      refine J_iconst (v := 0) dX8_stepWord_54 (by decide) ?_
      refine J_callSL (host := "") (as := [.int 97, .int 100, .int 100, .int 0, .int 0, .int 0]) dX8_stepWord_55 rfl (Nat.le_of_ble_eq_true rfl) (cw_X8_spelled _ (by decide)) q1774 q1775 q1776 np_X8_spelled (i_X8_spelled 97 100 100 0 0 0) jad_id rfl (fun v5 => ?_)
      refine J_callVI (c := 7) (as := [.long v5]) dX8_stepWord_58 (by decide) rfl (Nat.le_of_ble_eq_true rfl) (cw_X8_isWord _ (by decide)) q1777 q1779 qs73 q1780 np_X8_isWord (i_X8_isWord x0 v5) jad_id rfl (fun v6 => ?_)
      refine J_if_eq (tgt := 66) dX8_stepWord_61 rfl ?_ ?_
      · refine J_aload_n dX8_stepWord_66 rfl 0 rfl ?_
        refine J_bipush (v := 107) dX8_stepWord_67 (by decide) ?_
        refine J_bipush (v := 101) dX8_stepWord_69 (by decide) ?_
        refine J_bipush (v := 101) dX8_stepWord_71 (by decide) ?_
        refine J_bipush (v := 112) dX8_stepWord_73 (by decide) ?_
        refine J_iconst (v := 0) dX8_stepWord_75 (by decide) ?_
        refine J_iconst (v := 0) dX8_stepWord_76 (by decide) ?_
        refine J_callSL (host := "") (as := [.int 107, .int 101, .int 101, .int 112, .int 0, .int 0]) dX8_stepWord_77 rfl (Nat.le_of_ble_eq_true rfl) (cw_X8_spelled _ (by decide)) q1774 q1775 q1776 np_X8_spelled (i_X8_spelled 107 101 101 112 0 0) jad_id rfl (fun v7 => ?_)
        refine J_callVI (c := 7) (as := [.long v7]) dX8_stepWord_80 (by decide) rfl (Nat.le_of_ble_eq_true rfl) (cw_X8_isWord _ (by decide)) q1777 q1779 qs73 q1780 np_X8_isWord (i_X8_isWord x0 v7) jad_id rfl (fun v8 => ?_)
        refine J_if_eq (tgt := 88) dX8_stepWord_83 rfl ?_ ?_
        · refine J_aload_n dX8_stepWord_88 rfl 0 rfl ?_
          refine J_bipush (v := 116) dX8_stepWord_89 (by decide) ?_
          refine J_bipush (v := 97) dX8_stepWord_91 (by decide) ?_
          refine J_bipush (v := 107) dX8_stepWord_93 (by decide) ?_
          refine J_bipush (v := 101) dX8_stepWord_95 (by decide) ?_
          refine J_iconst (v := 0) dX8_stepWord_97 (by decide) ?_
          refine J_iconst (v := 0) dX8_stepWord_98 (by decide) ?_
          refine J_callSL (host := "") (as := [.int 116, .int 97, .int 107, .int 101, .int 0, .int 0]) dX8_stepWord_99 rfl (Nat.le_of_ble_eq_true rfl) (cw_X8_spelled _ (by decide)) q1774 q1775 q1776 np_X8_spelled (i_X8_spelled 116 97 107 101 0 0) jad_id rfl (fun v9 => ?_)
          refine J_callVI (c := 7) (as := [.long v9]) dX8_stepWord_102 (by decide) rfl (Nat.le_of_ble_eq_true rfl) (cw_X8_isWord _ (by decide)) q1777 q1779 qs73 q1780 np_X8_isWord (i_X8_isWord x0 v9) jad_id rfl (fun v10 => ?_)
          refine J_if_eq (tgt := 110) dX8_stepWord_105 rfl ?_ ?_
          · refine J_aload_n dX8_stepWord_110 rfl 0 rfl ?_
            refine J_bipush (v := 115) dX8_stepWord_111 (by decide) ?_
            refine J_bipush (v := 117) dX8_stepWord_113 (by decide) ?_
            refine J_bipush (v := 109) dX8_stepWord_115 (by decide) ?_
            refine J_iconst (v := 0) dX8_stepWord_117 (by decide) ?_
            refine J_iconst (v := 0) dX8_stepWord_118 (by decide) ?_
            refine J_iconst (v := 0) dX8_stepWord_119 (by decide) ?_
            refine J_callSL (host := "") (as := [.int 115, .int 117, .int 109, .int 0, .int 0, .int 0]) dX8_stepWord_120 rfl (Nat.le_of_ble_eq_true rfl) (cw_X8_spelled _ (by decide)) q1774 q1775 q1776 np_X8_spelled (i_X8_spelled 115 117 109 0 0 0) jad_id rfl (fun v11 => ?_)
            refine J_callVI (c := 7) (as := [.long v11]) dX8_stepWord_123 (by decide) rfl (Nat.le_of_ble_eq_true rfl) (cw_X8_isWord _ (by decide)) q1777 q1779 qs73 q1780 np_X8_isWord (i_X8_isWord x0 v11) jad_id rfl (fun v12 => ?_)
            refine J_if_eq (tgt := 131) dX8_stepWord_126 rfl ?_ ?_
            · refine J_aload_n dX8_stepWord_131 rfl 0 rfl ?_
              refine J_bipush (v := 119) dX8_stepWord_132 (by decide) ?_
              refine J_bipush (v := 104) dX8_stepWord_134 (by decide) ?_
              refine J_bipush (v := 101) dX8_stepWord_136 (by decide) ?_
              refine J_bipush (v := 110) dX8_stepWord_138 (by decide) ?_
              refine J_iconst (v := 0) dX8_stepWord_140 (by decide) ?_
              refine J_iconst (v := 0) dX8_stepWord_141 (by decide) ?_
              refine J_callSL (host := "") (as := [.int 119, .int 104, .int 101, .int 110, .int 0, .int 0]) dX8_stepWord_142 rfl (Nat.le_of_ble_eq_true rfl) (cw_X8_spelled _ (by decide)) q1774 q1775 q1776 np_X8_spelled (i_X8_spelled 119 104 101 110 0 0) jad_id rfl (fun v13 => ?_)
              refine J_callVI (c := 7) (as := [.long v13]) dX8_stepWord_145 (by decide) rfl (Nat.le_of_ble_eq_true rfl) (cw_X8_isWord _ (by decide)) q1777 q1779 qs73 q1780 np_X8_isWord (i_X8_isWord x0 v13) jad_id rfl (fun v14 => ?_)
              refine J_if_eq (tgt := 154) dX8_stepWord_148 rfl ?_ ?_
              · refine J_aload_n dX8_stepWord_154 rfl 0 rfl ?_
                refine J_bipush (v := 108) dX8_stepWord_155 (by decide) ?_
                refine J_bipush (v := 111) dX8_stepWord_157 (by decide) ?_
                refine J_bipush (v := 111) dX8_stepWord_159 (by decide) ?_
                refine J_bipush (v := 112) dX8_stepWord_161 (by decide) ?_
                refine J_iconst (v := 0) dX8_stepWord_163 (by decide) ?_
                refine J_iconst (v := 0) dX8_stepWord_164 (by decide) ?_
                refine J_callSL (host := "") (as := [.int 108, .int 111, .int 111, .int 112, .int 0, .int 0]) dX8_stepWord_165 rfl (Nat.le_of_ble_eq_true rfl) (cw_X8_spelled _ (by decide)) q1774 q1775 q1776 np_X8_spelled (i_X8_spelled 108 111 111 112 0 0) jad_id rfl (fun v15 => ?_)
                refine J_callVI (c := 7) (as := [.long v15]) dX8_stepWord_168 (by decide) rfl (Nat.le_of_ble_eq_true rfl) (cw_X8_isWord _ (by decide)) q1777 q1779 qs73 q1780 np_X8_isWord (i_X8_isWord x0 v15) jad_id rfl (fun v16 => ?_)
                refine J_if_eq (tgt := 177) dX8_stepWord_171 rfl ?_ ?_
                · refine J_aload_n dX8_stepWord_177 rfl 0 rfl ?_
                  refine J_bipush (v := 115) dX8_stepWord_178 (by decide) ?_
                  refine J_bipush (v := 116) dX8_stepWord_180 (by decide) ?_
                  refine J_bipush (v := 111) dX8_stepWord_182 (by decide) ?_
                  refine J_bipush (v := 112) dX8_stepWord_184 (by decide) ?_
                  refine J_iconst (v := 0) dX8_stepWord_186 (by decide) ?_
                  refine J_iconst (v := 0) dX8_stepWord_187 (by decide) ?_
                  refine J_callSL (host := "") (as := [.int 115, .int 116, .int 111, .int 112, .int 0, .int 0]) dX8_stepWord_188 rfl (Nat.le_of_ble_eq_true rfl) (cw_X8_spelled _ (by decide)) q1774 q1775 q1776 np_X8_spelled (i_X8_spelled 115 116 111 112 0 0) jad_id rfl (fun v17 => ?_)
                  refine J_callVI (c := 7) (as := [.long v17]) dX8_stepWord_191 (by decide) rfl (Nat.le_of_ble_eq_true rfl) (cw_X8_isWord _ (by decide)) q1777 q1779 qs73 q1780 np_X8_isWord (i_X8_isWord x0 v17) jad_id rfl (fun v18 => ?_)
                  refine J_if_eq (tgt := 202) dX8_stepWord_194 rfl ?_ ?_
                  · refine J_iconst (v := (-1)) dX8_stepWord_202 (by decide) ?_
                    exact J_ireturn dX8_stepWord_203 rfl
                  refine J_bipush (v := 8) dX8_stepWord_197 (by decide) ?_
                  refine J_goto (tgt := 203) dX8_stepWord_199 rfl ?_
                  exact J_ireturn dX8_stepWord_203 rfl
                refine J_bipush (v := 7) dX8_stepWord_174 (by decide) ?_
                exact J_ireturn dX8_stepWord_176 rfl
              refine J_bipush (v := 6) dX8_stepWord_151 (by decide) ?_
              exact J_ireturn dX8_stepWord_153 rfl
            refine J_iconst (v := 5) dX8_stepWord_129 (by decide) ?_
            exact J_ireturn dX8_stepWord_130 rfl
          refine J_iconst (v := 4) dX8_stepWord_108 (by decide) ?_
          exact J_ireturn dX8_stepWord_109 rfl
        refine J_iconst (v := 3) dX8_stepWord_86 (by decide) ?_
        exact J_ireturn dX8_stepWord_87 rfl
      refine J_iconst (v := 2) dX8_stepWord_64 (by decide) ?_
      exact J_ireturn dX8_stepWord_65 rfl
    refine J_iconst (v := 1) dX8_stepWord_43 (by decide) ?_
    exact J_ireturn dX8_stepWord_44 rfl
  refine J_iconst (v := 0) dX8_stepWord_20 (by decide) ?_
  exact J_ireturn dX8_stepWord_21 rfl
theorem i_X8_stepWord (x0 : Nat) : Impl (ws_ yX8_stepWord cX8_stepWord 1 (some .int)) yX8_stepWord 2 false 0 0 [.ref x0] (f_X8_stepWord x0) injI := impl_of (plainFor_of_name (by decide)) (Nat.le_of_ble_eq_true rfl) (fun D dA => j_X8_stepWord D dA x0)
theorem cw_X8_stepWord (Y : JY) (h : 3 ≤ Y.2.2.2.1) : JCw Y (ws_ yX8_stepWord cX8_stepWord 1 (some .int)) yX8_stepWord cX8_stepWord 1 (some .int) 2 := ⟨h, by decide, lw_meth q2357, q198, by decide, by decide⟩
theorem np_X8_stepWord : JNp yX8_stepWord.desc 0 := by decide +kernel
-- BracketRoomModel.isBy()Z
abbrev Y_X8_isBy : JY := (cX8_isBy, yX8_isBy.cls, 1, 2, yX8_isBy.name, (some .boolean), [])
noncomputable def f_X8_isBy (x0 : Nat) : JM Mem Int32 :=
  jb ((f_X8_spelled 98 121 0 0 0 0)) fun v1 =>
  jb (jcall 7 x0 (f_X8_isWord x0 v1)) fun v2 =>
  jrz v2
theorem j_X8_isBy (D : va_G) (dA : Nat → ClassId) (x0 : Nat) : J (PM D dA false) Y_X8_isBy [(0, .ref x0)] [] 0 (f_X8_isBy x0) (FRet injI) := by
  unfold f_X8_isBy
  refine J_aload_n dX8_isBy_0 rfl 0 rfl ?_
  refine J_bipush (v := 98) dX8_isBy_1 (by decide) ?_
  refine J_bipush (v := 121) dX8_isBy_3 (by decide) ?_
  refine J_iconst (v := 0) dX8_isBy_5 (by decide) ?_
  refine J_iconst (v := 0) dX8_isBy_6 (by decide) ?_
  refine J_iconst (v := 0) dX8_isBy_7 (by decide) ?_
  refine J_iconst (v := 0) dX8_isBy_8 (by decide) ?_
  refine J_callSL (host := "") (as := [.int 98, .int 121, .int 0, .int 0, .int 0, .int 0]) dX8_isBy_9 rfl (Nat.le_of_ble_eq_true rfl) (cw_X8_spelled _ (by decide)) q1774 q1775 q1776 np_X8_spelled (i_X8_spelled 98 121 0 0 0 0) jad_id rfl (fun v1 => ?_)
  refine J_callVI (c := 7) (as := [.long v1]) dX8_isBy_12 (by decide) rfl (Nat.le_of_ble_eq_true rfl) (cw_X8_isWord _ (by decide)) q1777 q1779 qs73 q1780 np_X8_isWord (i_X8_isWord x0 v1) jad_id rfl (fun v2 => ?_)
  exact J_zreturn dX8_isBy_15 rfl
theorem i_X8_isBy (x0 : Nat) : Impl (ws_ yX8_isBy cX8_isBy 1 (some .boolean)) yX8_isBy 2 false 0 0 [.ref x0] (f_X8_isBy x0) injI := impl_of (plainFor_of_name (by decide)) (Nat.le_of_ble_eq_true rfl) (fun D dA => j_X8_isBy D dA x0)
theorem cw_X8_isBy (Y : JY) (h : 3 ≤ Y.2.2.2.1) : JCw Y (ws_ yX8_isBy cX8_isBy 1 (some .boolean)) yX8_isBy cX8_isBy 1 (some .boolean) 2 := ⟨h, by decide, lw_meth q2365, q198, by decide, by decide⟩
theorem np_X8_isBy : JNp yX8_isBy.desc 0 := by decide +kernel
-- BracketRoomModel.isTo()Z
abbrev Y_X8_isTo : JY := (cX8_isTo, yX8_isTo.cls, 1, 2, yX8_isTo.name, (some .boolean), [])
noncomputable def f_X8_isTo (x0 : Nat) : JM Mem Int32 :=
  jb ((f_X8_spelled 116 111 0 0 0 0)) fun v1 =>
  jb (jcall 7 x0 (f_X8_isWord x0 v1)) fun v2 =>
  jrz v2
theorem j_X8_isTo (D : va_G) (dA : Nat → ClassId) (x0 : Nat) : J (PM D dA false) Y_X8_isTo [(0, .ref x0)] [] 0 (f_X8_isTo x0) (FRet injI) := by
  unfold f_X8_isTo
  refine J_aload_n dX8_isTo_0 rfl 0 rfl ?_
  refine J_bipush (v := 116) dX8_isTo_1 (by decide) ?_
  refine J_bipush (v := 111) dX8_isTo_3 (by decide) ?_
  refine J_iconst (v := 0) dX8_isTo_5 (by decide) ?_
  refine J_iconst (v := 0) dX8_isTo_6 (by decide) ?_
  refine J_iconst (v := 0) dX8_isTo_7 (by decide) ?_
  refine J_iconst (v := 0) dX8_isTo_8 (by decide) ?_
  refine J_callSL (host := "") (as := [.int 116, .int 111, .int 0, .int 0, .int 0, .int 0]) dX8_isTo_9 rfl (Nat.le_of_ble_eq_true rfl) (cw_X8_spelled _ (by decide)) q1774 q1775 q1776 np_X8_spelled (i_X8_spelled 116 111 0 0 0 0) jad_id rfl (fun v1 => ?_)
  refine J_callVI (c := 7) (as := [.long v1]) dX8_isTo_12 (by decide) rfl (Nat.le_of_ble_eq_true rfl) (cw_X8_isWord _ (by decide)) q1777 q1779 qs73 q1780 np_X8_isWord (i_X8_isWord x0 v1) jad_id rfl (fun v2 => ?_)
  exact J_zreturn dX8_isTo_15 rfl
theorem i_X8_isTo (x0 : Nat) : Impl (ws_ yX8_isTo cX8_isTo 1 (some .boolean)) yX8_isTo 2 false 0 0 [.ref x0] (f_X8_isTo x0) injI := impl_of (plainFor_of_name (by decide)) (Nat.le_of_ble_eq_true rfl) (fun D dA => j_X8_isTo D dA x0)
theorem cw_X8_isTo (Y : JY) (h : 3 ≤ Y.2.2.2.1) : JCw Y (ws_ yX8_isTo cX8_isTo 1 (some .boolean)) yX8_isTo cX8_isTo 1 (some .boolean) 2 := ⟨h, by decide, lw_meth q2369, q198, by decide, by decide⟩
theorem np_X8_isTo : JNp yX8_isTo.desc 0 := by decide +kernel
-- BracketRoomModel.testWord()I
abbrev Y_X8_testWord : JY := (cX8_testWord, yX8_testWord.cls, 1, 3, yX8_testWord.name, (some .int), [])
noncomputable def f_X8_testWord (x0 : Nat) : JM Mem Int32 :=
  jb ((f_X8_spelled 108 97 119 102 117 108)) fun v1 =>
  jb (jcall 7 x0 (f_X8_isWord x0 v1)) fun v2 =>
  if v2 = 0 then
    jb ((f_X8_spelled 97 98 101 108 105 97)) fun v3 =>
    jb ((f_X8_longer v3 110 0 0)) fun v4 =>
    jb (jcall 7 x0 (f_X8_isWord x0 v4)) fun v5 =>
    if v5 = 0 then
      jb ((f_X8_spelled 110 105 108 112 111 116)) fun v6 =>
      jb ((f_X8_longer v6 101 110 116)) fun v7 =>
      jb (jcall 7 x0 (f_X8_isWord x0 v7)) fun v8 =>
      if v8 = 0 then
        jb ((f_X8_spelled 115 111 108 118 97 98)) fun v9 =>
        jb ((f_X8_longer v9 108 101 0)) fun v10 =>
        jb (jcall 7 x0 (f_X8_isWord x0 v10)) fun v11 =>
        if v11 = 0 then
          jb ((f_X8_spelled 100 101 114 105 118 101)) fun v12 =>
          jb ((f_X8_longer v12 100 0 0)) fun v13 =>
          jb (jcall 7 x0 (f_X8_isWord x0 v13)) fun v14 =>
          if v14 = 0 then
            jb (jcall 7 x0 (f_X8_isSizeWord x0)) fun v15 =>
            if v15 = 0 then
              jb ((f_X8_spelled 115 97 109 101 0 0)) fun v16 =>
              jb (jcall 7 x0 (f_X8_isWord x0 v16)) fun v17 =>
              if v17 = 0 then
                jp (-1)
              else
                jp 6
            else
              jp 5
          else
            jp 4
        else
          jp 3
      else
        jp 2
    else
      jp 1
  else
    jp 0
theorem j_X8_testWord (D : va_G) (dA : Nat → ClassId) (x0 : Nat) : J (PM D dA false) Y_X8_testWord [(0, .ref x0)] [] 0 (f_X8_testWord x0) (FRet injI) := by
  unfold f_X8_testWord
  refine J_aload_n dX8_testWord_0 rfl 0 rfl ?_
  refine J_bipush (v := 108) dX8_testWord_1 (by decide) ?_
  refine J_bipush (v := 97) dX8_testWord_3 (by decide) ?_
  refine J_bipush (v := 119) dX8_testWord_5 (by decide) ?_
  refine J_bipush (v := 102) dX8_testWord_7 (by decide) ?_
  refine J_bipush (v := 117) dX8_testWord_9 (by decide) ?_
  refine J_bipush (v := 108) dX8_testWord_11 (by decide) ?_
  refine J_callSL (host := "") (as := [.int 108, .int 97, .int 119, .int 102, .int 117, .int 108]) dX8_testWord_13 rfl (Nat.le_of_ble_eq_true rfl) (cw_X8_spelled _ (by decide)) q1774 q1775 q1776 np_X8_spelled (i_X8_spelled 108 97 119 102 117 108) jad_id rfl (fun v1 => ?_)
  refine J_callVI (c := 7) (as := [.long v1]) dX8_testWord_16 (by decide) rfl (Nat.le_of_ble_eq_true rfl) (cw_X8_isWord _ (by decide)) q1777 q1779 qs73 q1780 np_X8_isWord (i_X8_isWord x0 v1) jad_id rfl (fun v2 => ?_)
  refine J_if_eq (tgt := 24) dX8_testWord_19 rfl ?_ ?_
  · refine J_aload_n dX8_testWord_24 rfl 0 rfl ?_
    refine J_bipush (v := 97) dX8_testWord_25 (by decide) ?_
    refine J_bipush (v := 98) dX8_testWord_27 (by decide) ?_
    refine J_bipush (v := 101) dX8_testWord_29 (by decide) ?_
    refine J_bipush (v := 108) dX8_testWord_31 (by decide) ?_
    refine J_bipush (v := 105) dX8_testWord_33 (by decide) ?_
    refine J_bipush (v := 97) dX8_testWord_35 (by decide) ?_
    refine J_callSL (host := "") (as := [.int 97, .int 98, .int 101, .int 108, .int 105, .int 97]) dX8_testWord_37 rfl (Nat.le_of_ble_eq_true rfl) (cw_X8_spelled _ (by decide)) q1774 q1775 q1776 np_X8_spelled (i_X8_spelled 97 98 101 108 105 97) jad_id rfl (fun v3 => ?_)
    refine J_bipush (v := 110) dX8_testWord_40 (by decide) ?_
    refine J_iconst (v := 0) dX8_testWord_42 (by decide) ?_
    refine J_iconst (v := 0) dX8_testWord_43 (by decide) ?_
    refine J_callSL (host := "") (as := [.long v3, .int 110, .int 0, .int 0]) dX8_testWord_44 rfl (Nat.le_of_ble_eq_true rfl) (cw_X8_longer _ (by decide)) q1822 q1823 q1824 np_X8_longer (i_X8_longer v3 110 0 0) jad_id rfl (fun v4 => ?_)
    refine J_callVI (c := 7) (as := [.long v4]) dX8_testWord_47 (by decide) rfl (Nat.le_of_ble_eq_true rfl) (cw_X8_isWord _ (by decide)) q1777 q1779 qs73 q1780 np_X8_isWord (i_X8_isWord x0 v4) jad_id rfl (fun v5 => ?_)
    refine J_if_eq (tgt := 55) dX8_testWord_50 rfl ?_ ?_
    · refine J_aload_n dX8_testWord_55 rfl 0 rfl ?_
      refine J_bipush (v := 110) dX8_testWord_56 (by decide) ?_
      refine J_bipush (v := 105) dX8_testWord_58 (by decide) ?_
      refine J_bipush (v := 108) dX8_testWord_60 (by decide) ?_
      refine J_bipush (v := 112) dX8_testWord_62 (by decide) ?_
      refine J_bipush (v := 111) dX8_testWord_64 (by decide) ?_
      refine J_bipush (v := 116) dX8_testWord_66 (by decide) ?_
      refine J_callSL (host := "") (as := [.int 110, .int 105, .int 108, .int 112, .int 111, .int 116]) dX8_testWord_68 rfl (Nat.le_of_ble_eq_true rfl) (cw_X8_spelled _ (by decide)) q1774 q1775 q1776 np_X8_spelled (i_X8_spelled 110 105 108 112 111 116) jad_id rfl (fun v6 => ?_)
      refine J_bipush (v := 101) dX8_testWord_71 (by decide) ?_
      refine J_bipush (v := 110) dX8_testWord_73 (by decide) ?_
      refine J_bipush (v := 116) dX8_testWord_75 (by decide) ?_
      refine J_callSL (host := "") (as := [.long v6, .int 101, .int 110, .int 116]) dX8_testWord_77 rfl (Nat.le_of_ble_eq_true rfl) (cw_X8_longer _ (by decide)) q1822 q1823 q1824 np_X8_longer (i_X8_longer v6 101 110 116) jad_id rfl (fun v7 => ?_)
      refine J_callVI (c := 7) (as := [.long v7]) dX8_testWord_80 (by decide) rfl (Nat.le_of_ble_eq_true rfl) (cw_X8_isWord _ (by decide)) q1777 q1779 qs73 q1780 np_X8_isWord (i_X8_isWord x0 v7) jad_id rfl (fun v8 => ?_)
      refine J_if_eq (tgt := 88) dX8_testWord_83 rfl ?_ ?_
      · refine J_aload_n dX8_testWord_88 rfl 0 rfl ?_
        refine J_bipush (v := 115) dX8_testWord_89 (by decide) ?_
        refine J_bipush (v := 111) dX8_testWord_91 (by decide) ?_
        refine J_bipush (v := 108) dX8_testWord_93 (by decide) ?_
        refine J_bipush (v := 118) dX8_testWord_95 (by decide) ?_
        refine J_bipush (v := 97) dX8_testWord_97 (by decide) ?_
        refine J_bipush (v := 98) dX8_testWord_99 (by decide) ?_
        refine J_callSL (host := "") (as := [.int 115, .int 111, .int 108, .int 118, .int 97, .int 98]) dX8_testWord_101 rfl (Nat.le_of_ble_eq_true rfl) (cw_X8_spelled _ (by decide)) q1774 q1775 q1776 np_X8_spelled (i_X8_spelled 115 111 108 118 97 98) jad_id rfl (fun v9 => ?_)
        refine J_bipush (v := 108) dX8_testWord_104 (by decide) ?_
        refine J_bipush (v := 101) dX8_testWord_106 (by decide) ?_
        refine J_iconst (v := 0) dX8_testWord_108 (by decide) ?_
        refine J_callSL (host := "") (as := [.long v9, .int 108, .int 101, .int 0]) dX8_testWord_109 rfl (Nat.le_of_ble_eq_true rfl) (cw_X8_longer _ (by decide)) q1822 q1823 q1824 np_X8_longer (i_X8_longer v9 108 101 0) jad_id rfl (fun v10 => ?_)
        refine J_callVI (c := 7) (as := [.long v10]) dX8_testWord_112 (by decide) rfl (Nat.le_of_ble_eq_true rfl) (cw_X8_isWord _ (by decide)) q1777 q1779 qs73 q1780 np_X8_isWord (i_X8_isWord x0 v10) jad_id rfl (fun v11 => ?_)
        refine J_if_eq (tgt := 120) dX8_testWord_115 rfl ?_ ?_
        · refine J_aload_n dX8_testWord_120 rfl 0 rfl ?_
          refine J_bipush (v := 100) dX8_testWord_121 (by decide) ?_
          refine J_bipush (v := 101) dX8_testWord_123 (by decide) ?_
          refine J_bipush (v := 114) dX8_testWord_125 (by decide) ?_
          refine J_bipush (v := 105) dX8_testWord_127 (by decide) ?_
          refine J_bipush (v := 118) dX8_testWord_129 (by decide) ?_
          refine J_bipush (v := 101) dX8_testWord_131 (by decide) ?_
          refine J_callSL (host := "") (as := [.int 100, .int 101, .int 114, .int 105, .int 118, .int 101]) dX8_testWord_133 rfl (Nat.le_of_ble_eq_true rfl) (cw_X8_spelled _ (by decide)) q1774 q1775 q1776 np_X8_spelled (i_X8_spelled 100 101 114 105 118 101) jad_id rfl (fun v12 => ?_)
          refine J_bipush (v := 100) dX8_testWord_136 (by decide) ?_
          refine J_iconst (v := 0) dX8_testWord_138 (by decide) ?_
          refine J_iconst (v := 0) dX8_testWord_139 (by decide) ?_
          refine J_callSL (host := "") (as := [.long v12, .int 100, .int 0, .int 0]) dX8_testWord_140 rfl (Nat.le_of_ble_eq_true rfl) (cw_X8_longer _ (by decide)) q1822 q1823 q1824 np_X8_longer (i_X8_longer v12 100 0 0) jad_id rfl (fun v13 => ?_)
          refine J_callVI (c := 7) (as := [.long v13]) dX8_testWord_143 (by decide) rfl (Nat.le_of_ble_eq_true rfl) (cw_X8_isWord _ (by decide)) q1777 q1779 qs73 q1780 np_X8_isWord (i_X8_isWord x0 v13) jad_id rfl (fun v14 => ?_)
          refine J_if_eq (tgt := 151) dX8_testWord_146 rfl ?_ ?_
          · refine J_aload_n dX8_testWord_151 rfl 0 rfl ?_
            refine J_callVI (c := 7) (as := []) dX8_testWord_152 (by decide) rfl (Nat.le_of_ble_eq_true rfl) (cw_X8_isSizeWord _ (by decide)) q1808 q1810 qs80 q1811 np_X8_isSizeWord (i_X8_isSizeWord x0) jad_id rfl (fun v15 => ?_)
            refine J_if_eq (tgt := 160) dX8_testWord_155 rfl ?_ ?_
            · refine J_aload_n dX8_testWord_160 rfl 0 rfl ?_
              refine J_bipush (v := 115) dX8_testWord_161 (by decide) ?_
              refine J_bipush (v := 97) dX8_testWord_163 (by decide) ?_
              refine J_bipush (v := 109) dX8_testWord_165 (by decide) ?_
              refine J_bipush (v := 101) dX8_testWord_167 (by decide) ?_
              refine J_iconst (v := 0) dX8_testWord_169 (by decide) ?_
              refine J_iconst (v := 0) dX8_testWord_170 (by decide) ?_
              refine J_callSL (host := "") (as := [.int 115, .int 97, .int 109, .int 101, .int 0, .int 0]) dX8_testWord_171 rfl (Nat.le_of_ble_eq_true rfl) (cw_X8_spelled _ (by decide)) q1774 q1775 q1776 np_X8_spelled (i_X8_spelled 115 97 109 101 0 0) jad_id rfl (fun v16 => ?_)
              refine J_callVI (c := 7) (as := [.long v16]) dX8_testWord_174 (by decide) rfl (Nat.le_of_ble_eq_true rfl) (cw_X8_isWord _ (by decide)) q1777 q1779 qs73 q1780 np_X8_isWord (i_X8_isWord x0 v16) jad_id rfl (fun v17 => ?_)
              refine J_if_eq (tgt := 185) dX8_testWord_177 rfl ?_ ?_
              · refine J_iconst (v := (-1)) dX8_testWord_185 (by decide) ?_
                exact J_ireturn dX8_testWord_186 rfl
              refine J_bipush (v := 6) dX8_testWord_180 (by decide) ?_
              refine J_goto (tgt := 186) dX8_testWord_182 rfl ?_
              exact J_ireturn dX8_testWord_186 rfl
            refine J_iconst (v := 5) dX8_testWord_158 (by decide) ?_
            exact J_ireturn dX8_testWord_159 rfl
          refine J_iconst (v := 4) dX8_testWord_149 (by decide) ?_
          exact J_ireturn dX8_testWord_150 rfl
        refine J_iconst (v := 3) dX8_testWord_118 (by decide) ?_
        exact J_ireturn dX8_testWord_119 rfl
      refine J_iconst (v := 2) dX8_testWord_86 (by decide) ?_
      exact J_ireturn dX8_testWord_87 rfl
    refine J_iconst (v := 1) dX8_testWord_53 (by decide) ?_
    exact J_ireturn dX8_testWord_54 rfl
  refine J_iconst (v := 0) dX8_testWord_22 (by decide) ?_
  exact J_ireturn dX8_testWord_23 rfl
theorem i_X8_testWord (x0 : Nat) : Impl (ws_ yX8_testWord cX8_testWord 1 (some .int)) yX8_testWord 3 false 0 0 [.ref x0] (f_X8_testWord x0) injI := impl_of (plainFor_of_name (by decide)) (Nat.le_of_ble_eq_true rfl) (fun D dA => j_X8_testWord D dA x0)
theorem cw_X8_testWord (Y : JY) (h : 4 ≤ Y.2.2.2.1) : JCw Y (ws_ yX8_testWord cX8_testWord 1 (some .int)) yX8_testWord cX8_testWord 1 (some .int) 3 := ⟨h, by decide, lw_meth q2377, q198, by decide, by decide⟩
theorem np_X8_testWord : JNp yX8_testWord.desc 0 := by decide +kernel
-- BracketRoomModel.readSign(I)V
abbrev Y_X8_readSign : JY := (cX8_readSign, yX8_readSign.cls, 3, 4, yX8_readSign.name, none, [])
noncomputable def X8_readSign_b50 (x0 : Nat) (x1 : Int32) (x2 : Int32) (s0 : Nat) (s1 : Int32) : JM Mem Unit :=
  jb (jcall 7 s0 (f_X8_must s0 s1)) fun _ =>
  jb (jgetA 7 22 x0) fun v3 =>
  jb (jast_i v3 (x1 + 4) x2) fun _ =>
  jb (jgetA 7 22 x0) fun v4 =>
  jb (jcall 7 x0 (f_X8_count x0 0 5)) fun v5 =>
  jb (jast_i v4 (x1 + 5) v5) fun _ =>
  jp ()
theorem j_X8_readSign_b50 (D : va_G) (dA : Nat → ClassId) (x0 : Nat) (x1 : Int32) (x2 : Int32) (s0 : Nat) (s1 : Int32) : J (PM D dA false) Y_X8_readSign [(0, .ref x0), (1, .int x1), (2, .int x2)] [.int s1, .ref s0] 50 (X8_readSign_b50 x0 x1 x2 s0 s1) (FRet injU) := by
  unfold X8_readSign_b50
  refine J_callVV (c := 7) (as := [.int s1]) dX8_readSign_50 (by decide) rfl (Nat.le_of_ble_eq_true rfl) (cw_X8_must _ (by decide)) q1781 q1783 qs74 q1784 np_X8_must (i_X8_must s0 s1) jad_id rfl ?_
  refine J_aload_n dX8_readSign_53 rfl 0 rfl ?_
  refine J_getA dX8_readSign_54 fl_X8_44 rfl (fun v3 => ?_)
  refine J_iload_n dX8_readSign_57 rfl 1 rfl ?_
  refine J_iconst (v := 4) dX8_readSign_58 (by decide) ?_
  refine J_iadd dX8_readSign_59 ?_
  refine J_iload_n dX8_readSign_60 rfl 2 rfl ?_
  refine J_iast dX8_readSign_61 ?_
  refine J_aload_n dX8_readSign_62 rfl 0 rfl ?_
  refine J_getA dX8_readSign_63 fl_X8_44 rfl (fun v4 => ?_)
  refine J_iload_n dX8_readSign_66 rfl 1 rfl ?_
  refine J_iconst (v := 5) dX8_readSign_67 (by decide) ?_
  refine J_iadd dX8_readSign_68 ?_
  refine J_aload_n dX8_readSign_69 rfl 0 rfl ?_
  refine J_iconst (v := 0) dX8_readSign_70 (by decide) ?_
  refine J_iconst (v := 5) dX8_readSign_71 (by decide) ?_
  refine J_callVI (c := 7) (as := [.int 0, .int 5]) dX8_readSign_72 (by decide) rfl (Nat.le_of_ble_eq_true rfl) (cw_X8_count _ (by decide)) q1797 q1799 qs78 q1800 np_X8_count (i_X8_count x0 0 5) jad_id rfl (fun v5 => ?_)
  refine J_iast dX8_readSign_75 ?_
  exact J_return dX8_readSign_76 rfl
noncomputable def X8_readSign_b45 (x0 : Nat) (x1 : Int32) (x2 : Int32) (s0 : Nat) : JM Mem Unit :=
  X8_readSign_b50 x0 x1 x2 s0 1
theorem j_X8_readSign_b45 (D : va_G) (dA : Nat → ClassId) (x0 : Nat) (x1 : Int32) (x2 : Int32) (s0 : Nat) : J (PM D dA false) Y_X8_readSign [(0, .ref x0), (1, .int x1), (2, .int x2)] [.ref s0] 45 (X8_readSign_b45 x0 x1 x2 s0) (FRet injU) := by
  unfold X8_readSign_b45
  refine J_iconst (v := 1) dX8_readSign_45 (by decide) ?_
  refine J_goto (tgt := 50) dX8_readSign_46 rfl ?_
  refine J_sub [0, 1, 2] rfl ?_
  exact j_X8_readSign_b50 D dA x0 x1 x2 s0 1
noncomputable def X8_readSign_b16 (x0 : Nat) (x1 : Int32) (s0 : Int32) : JM Mem Unit :=
  jb (jcall 7 x0 (f_X8_isSign x0 60)) fun v2 =>
  if v2 = 0 then
    jb (jcall 7 x0 (f_X8_isSign x0 62)) fun v6 =>
    if v6 = 0 then
      jb (jcall 7 x0 (f_X8_isSign x0 61)) fun v7 =>
      if v7 = 0 then
        X8_readSign_b50 x0 x1 s0 x0 0
      else
        X8_readSign_b45 x0 x1 s0 x0
    else
      X8_readSign_b45 x0 x1 s0 x0
  else
    X8_readSign_b45 x0 x1 s0 x0
theorem j_X8_readSign_b16 (D : va_G) (dA : Nat → ClassId) (x0 : Nat) (x1 : Int32) (s0 : Int32) : J (PM D dA false) Y_X8_readSign [(0, .ref x0), (1, .int x1)] [.int s0] 16 (X8_readSign_b16 x0 x1 s0) (FRet injU) := by
  unfold X8_readSign_b16
  refine J_istore_n (env' := [(2, .int s0), (0, .ref x0), (1, .int x1)]) dX8_readSign_16 rfl (by decide) rfl ?_
  refine J_aload_n dX8_readSign_17 rfl 1 rfl ?_
  refine J_aload_n dX8_readSign_18 rfl 1 rfl ?_
  refine J_bipush (v := 60) dX8_readSign_19 (by decide) ?_
  refine J_callVI (c := 7) (as := [.int 60]) dX8_readSign_21 (by decide) rfl (Nat.le_of_ble_eq_true rfl) (cw_X8_isSign _ (by decide)) q1804 q1806 qs79 q1807 np_X8_isSign (i_X8_isSign x0 60) jad_id rfl (fun v2 => ?_)
  refine J_if_ne (tgt := 45) dX8_readSign_24 rfl ?_ ?_
  · refine J_sub [1, 2, 0] rfl ?_
    exact j_X8_readSign_b45 D dA x0 x1 s0 x0
  refine J_aload_n dX8_readSign_27 rfl 1 rfl ?_
  refine J_bipush (v := 62) dX8_readSign_28 (by decide) ?_
  refine J_callVI (c := 7) (as := [.int 62]) dX8_readSign_30 (by decide) rfl (Nat.le_of_ble_eq_true rfl) (cw_X8_isSign _ (by decide)) q1804 q1806 qs79 q1807 np_X8_isSign (i_X8_isSign x0 62) jad_id rfl (fun v6 => ?_)
  refine J_if_ne (tgt := 45) dX8_readSign_33 rfl ?_ ?_
  · refine J_sub [1, 2, 0] rfl ?_
    exact j_X8_readSign_b45 D dA x0 x1 s0 x0
  refine J_aload_n dX8_readSign_36 rfl 1 rfl ?_
  refine J_bipush (v := 61) dX8_readSign_37 (by decide) ?_
  refine J_callVI (c := 7) (as := [.int 61]) dX8_readSign_39 (by decide) rfl (Nat.le_of_ble_eq_true rfl) (cw_X8_isSign _ (by decide)) q1804 q1806 qs79 q1807 np_X8_isSign (i_X8_isSign x0 61) jad_id rfl (fun v7 => ?_)
  refine J_if_eq (tgt := 49) dX8_readSign_42 rfl ?_ ?_
  · refine J_iconst (v := 0) dX8_readSign_49 (by decide) ?_
    refine J_sub [1, 2, 0] rfl ?_
    exact j_X8_readSign_b50 D dA x0 x1 s0 x0 0
  refine J_sub [1, 2, 0] rfl ?_
  exact j_X8_readSign_b45 D dA x0 x1 s0 x0
noncomputable def f_X8_readSign (x0 : Nat) (x1 : Int32) : JM Mem Unit :=
  jb (jgetI 7 14 x0) fun v1 =>
  if v1 = 3 then
    jb (jgetI 7 17 x0) fun v8 =>
    X8_readSign_b16 x0 x1 v8
  else
    X8_readSign_b16 x0 x1 0
theorem j_X8_readSign (D : va_G) (dA : Nat → ClassId) (x0 : Nat) (x1 : Int32) : J (PM D dA false) Y_X8_readSign [(0, .ref x0), (1, .int x1)] [] 0 (f_X8_readSign x0 x1) (FRet injU) := by
  unfold f_X8_readSign
  refine J_aload_n dX8_readSign_0 rfl 0 rfl ?_
  refine J_getI dX8_readSign_1 fl_X8_183 rfl (fun v1 => ?_)
  refine J_iconst (v := 3) dX8_readSign_4 (by decide) ?_
  refine J_icmp_ne (tgt := 15) dX8_readSign_5 rfl ?_ ?_
  · refine J_iconst (v := 0) dX8_readSign_15 (by decide) ?_
    refine J_sub [0, 1] rfl ?_
    exact j_X8_readSign_b16 D dA x0 x1 0
  refine J_aload_n dX8_readSign_8 rfl 0 rfl ?_
  refine J_getI dX8_readSign_9 fl_X8_199 rfl (fun v8 => ?_)
  refine J_goto (tgt := 16) dX8_readSign_12 rfl ?_
  refine J_sub [0, 1] rfl ?_
  exact j_X8_readSign_b16 D dA x0 x1 v8
theorem i_X8_readSign (x0 : Nat) (x1 : Int32) : Impl (ws_ yX8_readSign cX8_readSign 3 none) yX8_readSign 4 false 0 0 [.ref x0, .int x1] (f_X8_readSign x0 x1) injU := impl_of (plainFor_of_name (by decide)) (Nat.le_of_ble_eq_true rfl) (fun D dA => j_X8_readSign D dA x0 x1)
theorem cw_X8_readSign (Y : JY) (h : 5 ≤ Y.2.2.2.1) : JCw Y (ws_ yX8_readSign cX8_readSign 3 none) yX8_readSign cX8_readSign 3 none 4 := ⟨h, by decide, lw_meth q2381, q198, by decide, by decide⟩
theorem np_X8_readSign : JNp yX8_readSign.desc 1 := by decide +kernel
-- BracketRoomModel.readTest(I)V
abbrev Y_X8_readTest : JY := (cX8_readTest, yX8_readTest.cls, 3, 5, yX8_readTest.name, none, [])
noncomputable def X8_readTest_b56 (x0 : Nat) (x1 : Int32) : JM Mem Unit :=
  jb (jcall 7 x0 (f_X8_readSign x0 x1)) fun _ =>
  jp ()
theorem j_X8_readTest_b56 (D : va_G) (dA : Nat → ClassId) (x0 : Nat) (x1 : Int32) : J (PM D dA false) Y_X8_readTest [(0, .ref x0), (1, .int x1)] [] 56 (X8_readTest_b56 x0 x1) (FRet injU) := by
  unfold X8_readTest_b56
  refine J_aload_n dX8_readTest_56 rfl 0 rfl ?_
  refine J_iload_n dX8_readTest_57 rfl 1 rfl ?_
  refine J_callVV (c := 7) (as := [.int x1]) dX8_readTest_58 (by decide) rfl (Nat.le_of_ble_eq_true rfl) (cw_X8_readSign _ (by decide)) q2378 q2380 qs177 q2381 np_X8_readSign (i_X8_readSign x0 x1) jad_id rfl ?_
  refine J_goto (tgt := 84) dX8_readTest_61 rfl ?_
  exact J_return dX8_readTest_84 rfl
noncomputable def X8_readTest_b46 (x0 : Nat) (x1 : Int32) (x2 : Int32) : JM Mem Unit :=
  if x2 = 4 then
    X8_readTest_b56 x0 x1
  else
  if x2 = 5 then
    X8_readTest_b56 x0 x1
  else
  if x2 = 6 then
    jb (jgetA 7 22 x0) fun v3 =>
    jb (jcall 7 x0 (f_X8_count x0 0 3)) fun v4 =>
    jb (jast_i v3 (x1 + 2) v4) fun _ =>
    jp ()
  else
    jp ()
theorem j_X8_readTest_b46 (D : va_G) (dA : Nat → ClassId) (x0 : Nat) (x1 : Int32) (x2 : Int32) : J (PM D dA false) Y_X8_readTest [(0, .ref x0), (1, .int x1), (2, .int x2)] [] 46 (X8_readTest_b46 x0 x1 x2) (FRet injU) := by
  unfold X8_readTest_b46
  refine J_iload_n dX8_readTest_46 rfl 2 rfl ?_
  refine J_iconst (v := 4) dX8_readTest_47 (by decide) ?_
  refine J_icmp_eq (tgt := 56) dX8_readTest_48 rfl ?_ ?_
  · refine J_sub [0, 1] rfl ?_
    exact j_X8_readTest_b56 D dA x0 x1
  refine J_iload_n dX8_readTest_51 rfl 2 rfl ?_
  refine J_iconst (v := 5) dX8_readTest_52 (by decide) ?_
  refine J_icmp_ne (tgt := 64) dX8_readTest_53 rfl ?_ ?_
  · refine J_iload_n dX8_readTest_64 rfl 2 rfl ?_
    refine J_bipush (v := 6) dX8_readTest_65 (by decide) ?_
    refine J_icmp_ne (tgt := 84) dX8_readTest_67 rfl ?_ ?_
    · exact J_return dX8_readTest_84 rfl
    refine J_aload_n dX8_readTest_70 rfl 0 rfl ?_
    refine J_getA dX8_readTest_71 fl_X8_44 rfl (fun v3 => ?_)
    refine J_iload_n dX8_readTest_74 rfl 1 rfl ?_
    refine J_iconst (v := 2) dX8_readTest_75 (by decide) ?_
    refine J_iadd dX8_readTest_76 ?_
    refine J_aload_n dX8_readTest_77 rfl 0 rfl ?_
    refine J_iconst (v := 0) dX8_readTest_78 (by decide) ?_
    refine J_iconst (v := 3) dX8_readTest_79 (by decide) ?_
    refine J_callVI (c := 7) (as := [.int 0, .int 3]) dX8_readTest_80 (by decide) rfl (Nat.le_of_ble_eq_true rfl) (cw_X8_count _ (by decide)) q1797 q1799 qs78 q1800 np_X8_count (i_X8_count x0 0 3) jad_id rfl (fun v4 => ?_)
    refine J_iast dX8_readTest_83 ?_
    exact J_return dX8_readTest_84 rfl
  refine J_sub [0, 1] rfl ?_
  exact j_X8_readTest_b56 D dA x0 x1
noncomputable def X8_readTest_b15 (x0 : Nat) (x1 : Int32) (x2 : Int32) (s0 : Nat) (s1 : Int32) : JM Mem Unit :=
  jb (jcall 7 s0 (f_X8_must s0 s1)) fun _ =>
  jb (jgetA 7 22 x0) fun v2 =>
  jb (jast_i v2 (x1 + 1) x2) fun _ =>
  if x2 = 4 then
    jb (jgetA 7 22 x0) fun v5 =>
    jb (jcall 7 x0 (f_X8_count x0 0 5)) fun v6 =>
    jb (jast_i v5 (x1 + 2) v6) fun _ =>
    X8_readTest_b46 x0 x1 x2
  else
    X8_readTest_b46 x0 x1 x2
theorem j_X8_readTest_b15 (D : va_G) (dA : Nat → ClassId) (x0 : Nat) (x1 : Int32) (x2 : Int32) (s0 : Nat) (s1 : Int32) : J (PM D dA false) Y_X8_readTest [(0, .ref x0), (1, .int x1), (2, .int x2)] [.int s1, .ref s0] 15 (X8_readTest_b15 x0 x1 x2 s0 s1) (FRet injU) := by
  unfold X8_readTest_b15
  refine J_callVV (c := 7) (as := [.int s1]) dX8_readTest_15 (by decide) rfl (Nat.le_of_ble_eq_true rfl) (cw_X8_must _ (by decide)) q1781 q1783 qs74 q1784 np_X8_must (i_X8_must s0 s1) jad_id rfl ?_
  refine J_aload_n dX8_readTest_18 rfl 0 rfl ?_
  refine J_getA dX8_readTest_19 fl_X8_44 rfl (fun v2 => ?_)
  refine J_iload_n dX8_readTest_22 rfl 1 rfl ?_
  refine J_iconst (v := 1) dX8_readTest_23 (by decide) ?_
  refine J_iadd dX8_readTest_24 ?_
  refine J_iload_n dX8_readTest_25 rfl 2 rfl ?_
  refine J_iast dX8_readTest_26 ?_
  refine J_iload_n dX8_readTest_27 rfl 2 rfl ?_
  refine J_iconst (v := 4) dX8_readTest_28 (by decide) ?_
  refine J_icmp_ne (tgt := 46) dX8_readTest_29 rfl ?_ ?_
  · refine J_sub [0, 1, 2] rfl ?_
    exact j_X8_readTest_b46 D dA x0 x1 x2
  refine J_aload_n dX8_readTest_32 rfl 0 rfl ?_
  refine J_getA dX8_readTest_33 fl_X8_44 rfl (fun v5 => ?_)
  refine J_iload_n dX8_readTest_36 rfl 1 rfl ?_
  refine J_iconst (v := 2) dX8_readTest_37 (by decide) ?_
  refine J_iadd dX8_readTest_38 ?_
  refine J_aload_n dX8_readTest_39 rfl 0 rfl ?_
  refine J_iconst (v := 0) dX8_readTest_40 (by decide) ?_
  refine J_iconst (v := 5) dX8_readTest_41 (by decide) ?_
  refine J_callVI (c := 7) (as := [.int 0, .int 5]) dX8_readTest_42 (by decide) rfl (Nat.le_of_ble_eq_true rfl) (cw_X8_count _ (by decide)) q1797 q1799 qs78 q1800 np_X8_count (i_X8_count x0 0 5) jad_id rfl (fun v6 => ?_)
  refine J_iast dX8_readTest_45 ?_
  refine J_sub [0, 1, 2] rfl ?_
  exact j_X8_readTest_b46 D dA x0 x1 x2
noncomputable def f_X8_readTest (x0 : Nat) (x1 : Int32) : JM Mem Unit :=
  jb (jcall 7 x0 (f_X8_testWord x0)) fun v1 =>
  if v1 < 0 then
    X8_readTest_b15 x0 x1 v1 x0 0
  else
    X8_readTest_b15 x0 x1 v1 x0 1
theorem j_X8_readTest (D : va_G) (dA : Nat → ClassId) (x0 : Nat) (x1 : Int32) : J (PM D dA false) Y_X8_readTest [(0, .ref x0), (1, .int x1)] [] 0 (f_X8_readTest x0 x1) (FRet injU) := by
  unfold f_X8_readTest
  refine J_aload_n dX8_readTest_0 rfl 0 rfl ?_
  refine J_callVI (c := 7) (as := []) dX8_readTest_1 (by decide) rfl (Nat.le_of_ble_eq_true rfl) (cw_X8_testWord _ (by decide)) q2374 q2376 qs176 q2377 np_X8_testWord (i_X8_testWord x0) jad_id rfl (fun v1 => ?_)
  refine J_istore_n (env' := [(2, .int v1), (0, .ref x0), (1, .int x1)]) dX8_readTest_4 rfl (by decide) rfl ?_
  refine J_aload_n dX8_readTest_5 rfl 1 rfl ?_
  refine J_iload_n dX8_readTest_6 rfl 0 rfl ?_
  refine J_if_lt (tgt := 14) dX8_readTest_7 rfl ?_ ?_
  · refine J_iconst (v := 0) dX8_readTest_14 (by decide) ?_
    refine J_sub [1, 2, 0] rfl ?_
    exact j_X8_readTest_b15 D dA x0 x1 v1 x0 0
  refine J_iconst (v := 1) dX8_readTest_10 (by decide) ?_
  refine J_goto (tgt := 15) dX8_readTest_11 rfl ?_
  refine J_sub [1, 2, 0] rfl ?_
  exact j_X8_readTest_b15 D dA x0 x1 v1 x0 1
theorem i_X8_readTest (x0 : Nat) (x1 : Int32) : Impl (ws_ yX8_readTest cX8_readTest 3 none) yX8_readTest 5 false 0 0 [.ref x0, .int x1] (f_X8_readTest x0 x1) injU := impl_of (plainFor_of_name (by decide)) (Nat.le_of_ble_eq_true rfl) (fun D dA => j_X8_readTest D dA x0 x1)
theorem cw_X8_readTest (Y : JY) (h : 6 ≤ Y.2.2.2.1) : JCw Y (ws_ yX8_readTest cX8_readTest 3 none) yX8_readTest cX8_readTest 3 none 5 := ⟨h, by decide, lw_meth q2373, q198, by decide, by decide⟩
theorem np_X8_readTest : JNp yX8_readTest.desc 1 := by decide +kernel
-- BracketRoomModel.readRest(I)V
abbrev Y_X8_readRest : JY := (cX8_readRest, yX8_readRest.cls, 3, 6, yX8_readRest.name, none, [])
noncomputable def f_X8_readRest (x0 : Nat) (x1 : Int32) : JM Mem Unit :=
  jb (jgetA 7 22 x0) fun v1 =>
  jb (jald mI 0 v1 x1) fun v2 =>
  if v2 = 0 then
    jb (jgetA 7 22 x0) fun v20 =>
    jb (jcall 7 x0 (f_X8_count x0 0 4)) fun v21 =>
    jb (jast_i v20 (x1 + 1) v21) fun _ =>
    jb (jgetA 7 22 x0) fun v22 =>
    jb (jcall 7 x0 (f_X8_count x0 0 4)) fun v23 =>
    jb (jast_i v22 (x1 + 2) v23) fun _ =>
    jp ()
  else
  if v2 = 1 then
    jb (jgetA 7 22 x0) fun v15 =>
    jb (jcall 7 x0 (f_X8_count x0 0 4)) fun v16 =>
    jb (jast_i v15 (x1 + 1) v16) fun _ =>
    jb (jcall 7 x0 (f_X8_isBy x0)) fun v17 =>
    jb (jcall 7 x0 (f_X8_must x0 v17)) fun _ =>
    jb (jgetA 7 22 x0) fun v18 =>
    jb (jcall 7 x0 (f_X8_count x0 1 6)) fun v19 =>
    jb (jast_i v18 (x1 + 2) v19) fun _ =>
    jp ()
  else
  if v2 = 2 then
    jb (jgetA 7 22 x0) fun v7 =>
    jb (jcall 7 x0 (f_X8_count x0 0 6)) fun v8 =>
    jb (jast_i v7 (x1 + 3) v8) fun _ =>
    jb (jcall 7 x0 (f_X8_isOf x0)) fun v9 =>
    jb (jcall 7 x0 (f_X8_must x0 v9)) fun _ =>
    jb (jgetA 7 22 x0) fun v10 =>
    jb (jcall 7 x0 (f_X8_count x0 0 4)) fun v11 =>
    jb (jast_i v10 (x1 + 1) v11) fun _ =>
    jb (jcall 7 x0 (f_X8_isTo x0)) fun v12 =>
    jb (jcall 7 x0 (f_X8_must x0 v12)) fun _ =>
    jb (jgetA 7 22 x0) fun v13 =>
    jb (jcall 7 x0 (f_X8_count x0 0 4)) fun v14 =>
    jb (jast_i v13 (x1 + 2) v14) fun _ =>
    jp ()
  else
  if 6 ≤ v2 then
    if v2 = 6 then
      jb (jcall 7 x0 (f_X8_readTest x0 x1)) fun _ =>
      jp ()
    else
    if v2 = 7 then
      jb (jgetA 7 22 x0) fun v3 =>
      jb (jcall 7 x0 (f_X8_count x0 1 99)) fun v4 =>
      jb (jast_i v3 (x1 + 1) v4) fun _ =>
      jp ()
    else
      jp ()
  else
  jb (jgetA 7 22 x0) fun v5 =>
  jb (jcall 7 x0 (f_X8_count x0 0 3)) fun v6 =>
  jb (jast_i v5 (x1 + 1) v6) fun _ =>
  jp ()
theorem j_X8_readRest (D : va_G) (dA : Nat → ClassId) (x0 : Nat) (x1 : Int32) : J (PM D dA false) Y_X8_readRest [(0, .ref x0), (1, .int x1)] [] 0 (f_X8_readRest x0 x1) (FRet injU) := by
  unfold f_X8_readRest
  refine J_aload_n dX8_readRest_0 rfl 0 rfl ?_
  refine J_getA dX8_readRest_1 fl_X8_44 rfl (fun v1 => ?_)
  refine J_iload_n dX8_readRest_4 rfl 1 rfl ?_
  refine J_iald dX8_readRest_5 (fun v2 => ?_)
  refine J_istore_n (env' := [(2, .int v2), (0, .ref x0), (1, .int x1)]) dX8_readRest_6 rfl (by decide) rfl ?_
  refine J_iload_n dX8_readRest_7 rfl 0 rfl ?_
  refine J_if_ne (tgt := 42) dX8_readRest_8 rfl ?_ ?_
  · refine J_iload_n dX8_readRest_42 rfl 0 rfl ?_
    refine J_iconst (v := 1) dX8_readRest_43 (by decide) ?_
    refine J_icmp_ne (tgt := 87) dX8_readRest_44 rfl ?_ ?_
    · refine J_iload_n dX8_readRest_87 rfl 0 rfl ?_
      refine J_iconst (v := 2) dX8_readRest_88 (by decide) ?_
      refine J_icmp_ne (tgt := 154) dX8_readRest_89 rfl ?_ ?_
      · refine J_iload_n dX8_readRest_154 rfl 0 rfl ?_
        refine J_bipush (v := 6) dX8_readRest_155 (by decide) ?_
        refine J_icmp_ge (tgt := 177) dX8_readRest_157 rfl ?_ ?_
        · refine J_iload_n dX8_readRest_177 rfl 0 rfl ?_
          refine J_bipush (v := 6) dX8_readRest_178 (by decide) ?_
          refine J_icmp_ne (tgt := 191) dX8_readRest_180 rfl ?_ ?_
          · refine J_iload_n dX8_readRest_191 rfl 0 rfl ?_
            refine J_bipush (v := 7) dX8_readRest_192 (by decide) ?_
            refine J_icmp_ne (tgt := 212) dX8_readRest_194 rfl ?_ ?_
            · exact J_return dX8_readRest_212 rfl
            refine J_aload_n dX8_readRest_197 rfl 1 rfl ?_
            refine J_getA dX8_readRest_198 fl_X8_44 rfl (fun v3 => ?_)
            refine J_iload_n dX8_readRest_201 rfl 2 rfl ?_
            refine J_iconst (v := 1) dX8_readRest_202 (by decide) ?_
            refine J_iadd dX8_readRest_203 ?_
            refine J_aload_n dX8_readRest_204 rfl 1 rfl ?_
            refine J_iconst (v := 1) dX8_readRest_205 (by decide) ?_
            refine J_bipush (v := 99) dX8_readRest_206 (by decide) ?_
            refine J_callVI (c := 7) (as := [.int 1, .int 99]) dX8_readRest_208 (by decide) rfl (Nat.le_of_ble_eq_true rfl) (cw_X8_count _ (by decide)) q1797 q1799 qs78 q1800 np_X8_count (i_X8_count x0 1 99) jad_id rfl (fun v4 => ?_)
            refine J_iast dX8_readRest_211 ?_
            exact J_return dX8_readRest_212 rfl
          refine J_aload_n dX8_readRest_183 rfl 1 rfl ?_
          refine J_iload_n dX8_readRest_184 rfl 2 rfl ?_
          refine J_callVV (c := 7) (as := [.int x1]) dX8_readRest_185 (by decide) rfl (Nat.le_of_ble_eq_true rfl) (cw_X8_readTest _ (by decide)) q2370 q2372 qs175 q2373 np_X8_readTest (i_X8_readTest x0 x1) jad_id rfl ?_
          refine J_goto (tgt := 212) dX8_readRest_188 rfl ?_
          exact J_return dX8_readRest_212 rfl
        refine J_aload_n dX8_readRest_160 rfl 1 rfl ?_
        refine J_getA dX8_readRest_161 fl_X8_44 rfl (fun v5 => ?_)
        refine J_iload_n dX8_readRest_164 rfl 2 rfl ?_
        refine J_iconst (v := 1) dX8_readRest_165 (by decide) ?_
        refine J_iadd dX8_readRest_166 ?_
        refine J_aload_n dX8_readRest_167 rfl 1 rfl ?_
        refine J_iconst (v := 0) dX8_readRest_168 (by decide) ?_
        refine J_iconst (v := 3) dX8_readRest_169 (by decide) ?_
        refine J_callVI (c := 7) (as := [.int 0, .int 3]) dX8_readRest_170 (by decide) rfl (Nat.le_of_ble_eq_true rfl) (cw_X8_count _ (by decide)) q1797 q1799 qs78 q1800 np_X8_count (i_X8_count x0 0 3) jad_id rfl (fun v6 => ?_)
        refine J_iast dX8_readRest_173 ?_
        refine J_goto (tgt := 212) dX8_readRest_174 rfl ?_
        exact J_return dX8_readRest_212 rfl
      refine J_aload_n dX8_readRest_92 rfl 1 rfl ?_
      refine J_getA dX8_readRest_93 fl_X8_44 rfl (fun v7 => ?_)
      refine J_iload_n dX8_readRest_96 rfl 2 rfl ?_
      refine J_iconst (v := 3) dX8_readRest_97 (by decide) ?_
      refine J_iadd dX8_readRest_98 ?_
      refine J_aload_n dX8_readRest_99 rfl 1 rfl ?_
      refine J_iconst (v := 0) dX8_readRest_100 (by decide) ?_
      refine J_bipush (v := 6) dX8_readRest_101 (by decide) ?_
      refine J_callVI (c := 7) (as := [.int 0, .int 6]) dX8_readRest_103 (by decide) rfl (Nat.le_of_ble_eq_true rfl) (cw_X8_count _ (by decide)) q1797 q1799 qs78 q1800 np_X8_count (i_X8_count x0 0 6) jad_id rfl (fun v8 => ?_)
      refine J_iast dX8_readRest_106 ?_
      refine J_aload_n dX8_readRest_107 rfl 1 rfl ?_
      refine J_aload_n dX8_readRest_108 rfl 1 rfl ?_
      refine J_callVI (c := 7) (as := []) dX8_readRest_109 (by decide) rfl (Nat.le_of_ble_eq_true rfl) (cw_X8_isOf _ (by decide)) q1840 q1842 qs85 q1843 np_X8_isOf (i_X8_isOf x0) jad_id rfl (fun v9 => ?_)
      refine J_callVV (c := 7) (as := [.int v9]) dX8_readRest_112 (by decide) rfl (Nat.le_of_ble_eq_true rfl) (cw_X8_must _ (by decide)) q1781 q1783 qs74 q1784 np_X8_must (i_X8_must x0 v9) jad_id rfl ?_
      refine J_aload_n dX8_readRest_115 rfl 1 rfl ?_
      refine J_getA dX8_readRest_116 fl_X8_44 rfl (fun v10 => ?_)
      refine J_iload_n dX8_readRest_119 rfl 2 rfl ?_
      refine J_iconst (v := 1) dX8_readRest_120 (by decide) ?_
      refine J_iadd dX8_readRest_121 ?_
      refine J_aload_n dX8_readRest_122 rfl 1 rfl ?_
      refine J_iconst (v := 0) dX8_readRest_123 (by decide) ?_
      refine J_iconst (v := 4) dX8_readRest_124 (by decide) ?_
      refine J_callVI (c := 7) (as := [.int 0, .int 4]) dX8_readRest_125 (by decide) rfl (Nat.le_of_ble_eq_true rfl) (cw_X8_count _ (by decide)) q1797 q1799 qs78 q1800 np_X8_count (i_X8_count x0 0 4) jad_id rfl (fun v11 => ?_)
      refine J_iast dX8_readRest_128 ?_
      refine J_aload_n dX8_readRest_129 rfl 1 rfl ?_
      refine J_aload_n dX8_readRest_130 rfl 1 rfl ?_
      refine J_callVI (c := 7) (as := []) dX8_readRest_131 (by decide) rfl (Nat.le_of_ble_eq_true rfl) (cw_X8_isTo _ (by decide)) q2366 q2368 qs174 q2369 np_X8_isTo (i_X8_isTo x0) jad_id rfl (fun v12 => ?_)
      refine J_callVV (c := 7) (as := [.int v12]) dX8_readRest_134 (by decide) rfl (Nat.le_of_ble_eq_true rfl) (cw_X8_must _ (by decide)) q1781 q1783 qs74 q1784 np_X8_must (i_X8_must x0 v12) jad_id rfl ?_
      refine J_aload_n dX8_readRest_137 rfl 1 rfl ?_
      refine J_getA dX8_readRest_138 fl_X8_44 rfl (fun v13 => ?_)
      refine J_iload_n dX8_readRest_141 rfl 2 rfl ?_
      refine J_iconst (v := 2) dX8_readRest_142 (by decide) ?_
      refine J_iadd dX8_readRest_143 ?_
      refine J_aload_n dX8_readRest_144 rfl 1 rfl ?_
      refine J_iconst (v := 0) dX8_readRest_145 (by decide) ?_
      refine J_iconst (v := 4) dX8_readRest_146 (by decide) ?_
      refine J_callVI (c := 7) (as := [.int 0, .int 4]) dX8_readRest_147 (by decide) rfl (Nat.le_of_ble_eq_true rfl) (cw_X8_count _ (by decide)) q1797 q1799 qs78 q1800 np_X8_count (i_X8_count x0 0 4) jad_id rfl (fun v14 => ?_)
      refine J_iast dX8_readRest_150 ?_
      refine J_goto (tgt := 212) dX8_readRest_151 rfl ?_
      exact J_return dX8_readRest_212 rfl
    refine J_aload_n dX8_readRest_47 rfl 1 rfl ?_
    refine J_getA dX8_readRest_48 fl_X8_44 rfl (fun v15 => ?_)
    refine J_iload_n dX8_readRest_51 rfl 2 rfl ?_
    refine J_iconst (v := 1) dX8_readRest_52 (by decide) ?_
    refine J_iadd dX8_readRest_53 ?_
    refine J_aload_n dX8_readRest_54 rfl 1 rfl ?_
    refine J_iconst (v := 0) dX8_readRest_55 (by decide) ?_
    refine J_iconst (v := 4) dX8_readRest_56 (by decide) ?_
    refine J_callVI (c := 7) (as := [.int 0, .int 4]) dX8_readRest_57 (by decide) rfl (Nat.le_of_ble_eq_true rfl) (cw_X8_count _ (by decide)) q1797 q1799 qs78 q1800 np_X8_count (i_X8_count x0 0 4) jad_id rfl (fun v16 => ?_)
    refine J_iast dX8_readRest_60 ?_
    refine J_aload_n dX8_readRest_61 rfl 1 rfl ?_
    refine J_aload_n dX8_readRest_62 rfl 1 rfl ?_
    refine J_callVI (c := 7) (as := []) dX8_readRest_63 (by decide) rfl (Nat.le_of_ble_eq_true rfl) (cw_X8_isBy _ (by decide)) q2362 q2364 qs173 q2365 np_X8_isBy (i_X8_isBy x0) jad_id rfl (fun v17 => ?_)
    refine J_callVV (c := 7) (as := [.int v17]) dX8_readRest_66 (by decide) rfl (Nat.le_of_ble_eq_true rfl) (cw_X8_must _ (by decide)) q1781 q1783 qs74 q1784 np_X8_must (i_X8_must x0 v17) jad_id rfl ?_
    refine J_aload_n dX8_readRest_69 rfl 1 rfl ?_
    refine J_getA dX8_readRest_70 fl_X8_44 rfl (fun v18 => ?_)
    refine J_iload_n dX8_readRest_73 rfl 2 rfl ?_
    refine J_iconst (v := 2) dX8_readRest_74 (by decide) ?_
    refine J_iadd dX8_readRest_75 ?_
    refine J_aload_n dX8_readRest_76 rfl 1 rfl ?_
    refine J_iconst (v := 1) dX8_readRest_77 (by decide) ?_
    refine J_bipush (v := 6) dX8_readRest_78 (by decide) ?_
    refine J_callVI (c := 7) (as := [.int 1, .int 6]) dX8_readRest_80 (by decide) rfl (Nat.le_of_ble_eq_true rfl) (cw_X8_count _ (by decide)) q1797 q1799 qs78 q1800 np_X8_count (i_X8_count x0 1 6) jad_id rfl (fun v19 => ?_)
    refine J_iast dX8_readRest_83 ?_
    refine J_goto (tgt := 212) dX8_readRest_84 rfl ?_
    exact J_return dX8_readRest_212 rfl
  refine J_aload_n dX8_readRest_11 rfl 1 rfl ?_
  refine J_getA dX8_readRest_12 fl_X8_44 rfl (fun v20 => ?_)
  refine J_iload_n dX8_readRest_15 rfl 2 rfl ?_
  refine J_iconst (v := 1) dX8_readRest_16 (by decide) ?_
  refine J_iadd dX8_readRest_17 ?_
  refine J_aload_n dX8_readRest_18 rfl 1 rfl ?_
  refine J_iconst (v := 0) dX8_readRest_19 (by decide) ?_
  refine J_iconst (v := 4) dX8_readRest_20 (by decide) ?_
  refine J_callVI (c := 7) (as := [.int 0, .int 4]) dX8_readRest_21 (by decide) rfl (Nat.le_of_ble_eq_true rfl) (cw_X8_count _ (by decide)) q1797 q1799 qs78 q1800 np_X8_count (i_X8_count x0 0 4) jad_id rfl (fun v21 => ?_)
  refine J_iast dX8_readRest_24 ?_
  refine J_aload_n dX8_readRest_25 rfl 1 rfl ?_
  refine J_getA dX8_readRest_26 fl_X8_44 rfl (fun v22 => ?_)
  refine J_iload_n dX8_readRest_29 rfl 2 rfl ?_
  refine J_iconst (v := 2) dX8_readRest_30 (by decide) ?_
  refine J_iadd dX8_readRest_31 ?_
  refine J_aload_n dX8_readRest_32 rfl 1 rfl ?_
  refine J_iconst (v := 0) dX8_readRest_33 (by decide) ?_
  refine J_iconst (v := 4) dX8_readRest_34 (by decide) ?_
  refine J_callVI (c := 7) (as := [.int 0, .int 4]) dX8_readRest_35 (by decide) rfl (Nat.le_of_ble_eq_true rfl) (cw_X8_count _ (by decide)) q1797 q1799 qs78 q1800 np_X8_count (i_X8_count x0 0 4) jad_id rfl (fun v23 => ?_)
  refine J_iast dX8_readRest_38 ?_
  refine J_goto (tgt := 212) dX8_readRest_39 rfl ?_
  exact J_return dX8_readRest_212 rfl
theorem i_X8_readRest (x0 : Nat) (x1 : Int32) : Impl (ws_ yX8_readRest cX8_readRest 3 none) yX8_readRest 6 false 0 0 [.ref x0, .int x1] (f_X8_readRest x0 x1) injU := impl_of (plainFor_of_name (by decide)) (Nat.le_of_ble_eq_true rfl) (fun D dA => j_X8_readRest D dA x0 x1)
theorem cw_X8_readRest (Y : JY) (h : 7 ≤ Y.2.2.2.1) : JCw Y (ws_ yX8_readRest cX8_readRest 3 none) yX8_readRest cX8_readRest 3 none 6 := ⟨h, by decide, lw_meth q2361, q198, by decide, by decide⟩
theorem np_X8_readRest : JNp yX8_readRest.desc 1 := by decide +kernel
-- BracketRoomModel.isEnd()Z
abbrev Y_X8_isEnd : JY := (cX8_isEnd, yX8_isEnd.cls, 1, 2, yX8_isEnd.name, (some .boolean), [])
noncomputable def f_X8_isEnd (x0 : Nat) : JM Mem Int32 :=
  jb ((f_X8_spelled 101 110 100 0 0 0)) fun v1 =>
  jb (jcall 7 x0 (f_X8_isWord x0 v1)) fun v2 =>
  jrz v2
theorem j_X8_isEnd (D : va_G) (dA : Nat → ClassId) (x0 : Nat) : J (PM D dA false) Y_X8_isEnd [(0, .ref x0)] [] 0 (f_X8_isEnd x0) (FRet injI) := by
  unfold f_X8_isEnd
  refine J_aload_n dX8_isEnd_0 rfl 0 rfl ?_
  refine J_bipush (v := 101) dX8_isEnd_1 (by decide) ?_
  refine J_bipush (v := 110) dX8_isEnd_3 (by decide) ?_
  refine J_bipush (v := 100) dX8_isEnd_5 (by decide) ?_
  refine J_iconst (v := 0) dX8_isEnd_7 (by decide) ?_
  refine J_iconst (v := 0) dX8_isEnd_8 (by decide) ?_
  refine J_iconst (v := 0) dX8_isEnd_9 (by decide) ?_
  refine J_callSL (host := "") (as := [.int 101, .int 110, .int 100, .int 0, .int 0, .int 0]) dX8_isEnd_10 rfl (Nat.le_of_ble_eq_true rfl) (cw_X8_spelled _ (by decide)) q1774 q1775 q1776 np_X8_spelled (i_X8_spelled 101 110 100 0 0 0) jad_id rfl (fun v1 => ?_)
  refine J_callVI (c := 7) (as := [.long v1]) dX8_isEnd_13 (by decide) rfl (Nat.le_of_ble_eq_true rfl) (cw_X8_isWord _ (by decide)) q1777 q1779 qs73 q1780 np_X8_isWord (i_X8_isWord x0 v1) jad_id rfl (fun v2 => ?_)
  exact J_zreturn dX8_isEnd_16 rfl
theorem i_X8_isEnd (x0 : Nat) : Impl (ws_ yX8_isEnd cX8_isEnd 1 (some .boolean)) yX8_isEnd 2 false 0 0 [.ref x0] (f_X8_isEnd x0) injI := impl_of (plainFor_of_name (by decide)) (Nat.le_of_ble_eq_true rfl) (fun D dA => j_X8_isEnd D dA x0)
theorem cw_X8_isEnd (Y : JY) (h : 3 ≤ Y.2.2.2.1) : JCw Y (ws_ yX8_isEnd cX8_isEnd 1 (some .boolean)) yX8_isEnd cX8_isEnd 1 (some .boolean) 2 := ⟨h, by decide, lw_meth q2385, q198, by decide, by decide⟩
theorem np_X8_isEnd : JNp yX8_isEnd.desc 0 := by decide +kernel
-- BracketRoomModel.readStep(I)V
abbrev Y_X8_readStep (dd : Nat) : JY := (cX8_readStep, yX8_readStep.cls, 5, dd + 1, yX8_readStep.name, none, [])
theorem np_X8_readStep : JNp yX8_readStep.desc 1 := by decide +kernel
noncomputable def X8_readStep_b188 (r_readStep : Nat → Int32 → JM Mem Unit) (x0 : Nat) (x4 : Int32) : JM Mem Unit :=
  jb (jgetA 7 22 x0) fun v10 =>
  jb (jgetI 7 70 x0) fun v11 =>
  jb (jast_i v10 (x4 + 6) v11) fun _ =>
  jp ()
theorem j_X8_readStep_b188 (D : va_G) (dA : Nat → ClassId) (dd : Nat) (hdd : 7 ≤ dd) (r_readStep : Nat → Int32 → JM Mem Unit) (h_readStep : ∀ a0 a1, Impl (ws_ yX8_readStep cX8_readStep 5 none) yX8_readStep dd false 0 0 [.ref a0, .int a1] (r_readStep a0 a1) injU) (x0 : Nat) (x4 : Int32) : J (PM D dA false) (Y_X8_readStep dd) [(0, .ref x0), (4, .int x4)] [] 188 (X8_readStep_b188 r_readStep x0 x4) (FRet injU) := by
  unfold X8_readStep_b188
  refine J_aload_n dX8_readStep_188 rfl 0 rfl ?_
  refine J_getA dX8_readStep_189 fl_X8_44 rfl (fun v10 => ?_)
  refine J_iload dX8_readStep_192 1 rfl ?_
  refine J_bipush (v := 6) dX8_readStep_194 (by decide) ?_
  refine J_iadd dX8_readStep_196 ?_
  refine J_aload_n dX8_readStep_197 rfl 0 rfl ?_
  refine J_getI dX8_readStep_198 fl_X8_649 rfl (fun v11 => ?_)
  refine J_iast dX8_readStep_201 ?_
  exact J_return dX8_readStep_202 rfl
noncomputable def X8_readStep_b166 (r_readStep : Nat → Int32 → JM Mem Unit) (x0 : Nat) (x3 : Int32) (x4 : Int32) : JM Mem Unit :=
  if x3 = 0 then
    X8_readStep_b188 r_readStep x0 x4
  else
  jb (jcall 7 x0 (f_X8_isEnd x0)) fun v12 =>
  jb (jcall 7 x0 (f_X8_must x0 v12)) fun _ =>
  jb (jcall 7 x0 (f_X8_isSign x0 59)) fun v13 =>
  jb (jcall 7 x0 (f_X8_must x0 v13)) fun _ =>
  X8_readStep_b188 r_readStep x0 x4
theorem j_X8_readStep_b166 (D : va_G) (dA : Nat → ClassId) (dd : Nat) (hdd : 7 ≤ dd) (r_readStep : Nat → Int32 → JM Mem Unit) (h_readStep : ∀ a0 a1, Impl (ws_ yX8_readStep cX8_readStep 5 none) yX8_readStep dd false 0 0 [.ref a0, .int a1] (r_readStep a0 a1) injU) (x0 : Nat) (x3 : Int32) (x4 : Int32) : J (PM D dA false) (Y_X8_readStep dd) [(0, .ref x0), (3, .int x3), (4, .int x4)] [] 166 (X8_readStep_b166 r_readStep x0 x3 x4) (FRet injU) := by
  unfold X8_readStep_b166
  refine J_iload_n dX8_readStep_166 rfl 1 rfl ?_
  refine J_if_eq (tgt := 188) dX8_readStep_167 rfl ?_ ?_
  · refine J_sub [0, 2] rfl ?_
    exact j_X8_readStep_b188 D dA dd hdd r_readStep h_readStep x0 x4
  refine J_aload_n dX8_readStep_170 rfl 0 rfl ?_
  refine J_aload_n dX8_readStep_171 rfl 0 rfl ?_
  refine J_callVI (c := 7) (as := []) dX8_readStep_172 (by decide) rfl (Nat.le_of_ble_eq_true rfl) (cw_X8_isEnd _ (Nat.succ_le_succ (Nat.le_trans (by decide) hdd))) q2382 q2384 qs178 q2385 np_X8_isEnd (i_X8_isEnd x0) jad_id rfl (fun v12 => ?_)
  refine J_callVV (c := 7) (as := [.int v12]) dX8_readStep_175 (by decide) rfl (Nat.le_of_ble_eq_true rfl) (cw_X8_must _ (Nat.succ_le_succ (Nat.le_trans (by decide) hdd))) q1781 q1783 qs74 q1784 np_X8_must (i_X8_must x0 v12) jad_id rfl ?_
  refine J_aload_n dX8_readStep_178 rfl 0 rfl ?_
  refine J_aload_n dX8_readStep_179 rfl 0 rfl ?_
  refine J_bipush (v := 59) dX8_readStep_180 (by decide) ?_
  refine J_callVI (c := 7) (as := [.int 59]) dX8_readStep_182 (by decide) rfl (Nat.le_of_ble_eq_true rfl) (cw_X8_isSign _ (Nat.succ_le_succ (Nat.le_trans (by decide) hdd))) q1804 q1806 qs79 q1807 np_X8_isSign (i_X8_isSign x0 59) jad_id rfl (fun v13 => ?_)
  refine J_callVV (c := 7) (as := [.int v13]) dX8_readStep_185 (by decide) rfl (Nat.le_of_ble_eq_true rfl) (cw_X8_must _ (Nat.succ_le_succ (Nat.le_trans (by decide) hdd))) q1781 q1783 qs74 q1784 np_X8_must (i_X8_must x0 v13) jad_id rfl ?_
  refine J_sub [0, 2] rfl ?_
  exact j_X8_readStep_b188 D dA dd hdd r_readStep h_readStep x0 x4
noncomputable def X8_readStep_L138 (r_readStep : Nat → Int32 → JM Mem Unit) (x0 : Nat) (x1 : Int32) (x3 : Int32) (x4 : Int32) : JM Mem (Unit ⊕ (Unit)) :=
  if x3 = 0 then
    jinl (X8_readStep_b166 r_readStep x0 x3 x4)
  else
  jb (jgetI 7 12 x0) fun v14 =>
  if v14 = 0 then
    jb (jcall 7 x0 (f_X8_isEnd x0)) fun v15 =>
    if v15 = 0 then
      jb (jcall 7 x0 (r_readStep x0 (x1 + 1))) fun _ =>
      jcont ()
    else
      jinl (X8_readStep_b166 r_readStep x0 x3 x4)
  else
    jinl (X8_readStep_b166 r_readStep x0 x3 x4)
theorem j_X8_readStep_L138 (D : va_G) (dA : Nat → ClassId) (dd : Nat) (hdd : 7 ≤ dd) (r_readStep : Nat → Int32 → JM Mem Unit) (h_readStep : ∀ a0 a1, Impl (ws_ yX8_readStep cX8_readStep 5 none) yX8_readStep dd false 0 0 [.ref a0, .int a1] (r_readStep a0 a1) injU) (x0 : Nat) (x1 : Int32) (x3 : Int32) (x4 : Int32) : J (PM D dA false) (Y_X8_readStep dd) [(0, .ref x0), (1, .int x1), (3, .int x3), (4, .int x4)] [] 138 (X8_readStep_L138 r_readStep x0 x1 x3 x4) (FLoop (FRet injU) 138 (fun (t : Unit) => [(0, .ref x0), (1, .int x1), (3, .int x3), (4, .int x4)])) := by
  unfold X8_readStep_L138
  refine J_iload_n dX8_readStep_138 rfl 2 rfl ?_
  refine J_if_eq (tgt := 166) dX8_readStep_139 rfl ?_ ?_
  · refine J_inl ?_
    refine J_sub [0, 2, 3] rfl ?_
    exact j_X8_readStep_b166 D dA dd hdd r_readStep h_readStep x0 x3 x4
  refine J_aload_n dX8_readStep_142 rfl 0 rfl ?_
  refine J_getI dX8_readStep_143 fl_X8_221 rfl (fun v14 => ?_)
  refine J_if_ne (tgt := 166) dX8_readStep_146 rfl ?_ ?_
  · refine J_inl ?_
    refine J_sub [0, 2, 3] rfl ?_
    exact j_X8_readStep_b166 D dA dd hdd r_readStep h_readStep x0 x3 x4
  refine J_aload_n dX8_readStep_149 rfl 0 rfl ?_
  refine J_callVI (c := 7) (as := []) dX8_readStep_150 (by decide) rfl (Nat.le_of_ble_eq_true rfl) (cw_X8_isEnd _ (Nat.succ_le_succ (Nat.le_trans (by decide) hdd))) q2382 q2384 qs178 q2385 np_X8_isEnd (i_X8_isEnd x0) jad_id rfl (fun v15 => ?_)
  refine J_if_ne (tgt := 166) dX8_readStep_153 rfl ?_ ?_
  · refine J_inl ?_
    refine J_sub [0, 2, 3] rfl ?_
    exact j_X8_readStep_b166 D dA dd hdd r_readStep h_readStep x0 x3 x4
  refine J_aload_n dX8_readStep_156 rfl 0 rfl ?_
  refine J_iload_n dX8_readStep_157 rfl 1 rfl ?_
  refine J_iconst (v := 1) dX8_readStep_158 (by decide) ?_
  refine J_iadd dX8_readStep_159 ?_
  refine J_callVV (c := 7) (as := [.int (x1 + 1)]) dX8_readStep_160 (by decide) rfl (Nat.le_of_ble_eq_true rfl) ⟨Nat.le_refl _, by decide, lw_meth q2353, q198, by decide, by decide⟩ q2350 q2352 qs170 q2353 np_X8_readStep (h_readStep x0 (x1 + 1)) jad_id rfl ?_
  refine J_goto (tgt := 138) dX8_readStep_163 rfl ?_
  exact J_cont [0, 1, 2, 3] rfl
noncomputable def X8_readStep_b83 (r_readStep : Nat → Int32 → JM Mem Unit) (x0 : Nat) (x1 : Int32) (x2 : Int32) (x3 : Int32) : JM Mem Unit :=
  jb (jgetI 7 12 x0) fun v4 =>
  if v4 ≤ 0 then
    jb (jgetI 7 70 x0) fun v5 =>
    jlet (7 * v5) fun y6 =>
    jb (jgetI 7 70 x0) fun v7 =>
    jb (jputI 7 70 x0 (v7 + 1)) fun _ =>
    jb (jcall 7 x0 (f_X8_next x0)) fun _ =>
    jb (jgetA 7 22 x0) fun v8 =>
    jb (jast_i v8 y6 x2) fun _ =>
    jb (jcall 7 x0 (f_X8_readRest x0 y6)) fun _ =>
    jb (jcall 7 x0 (f_X8_isSign x0 59)) fun v9 =>
    jb (jcall 7 x0 (f_X8_must x0 v9)) fun _ =>
    jloop (fun (t : Unit) => X8_readStep_L138 r_readStep x0 x1 x3 y6) ()
  else
    jp ()
theorem j_X8_readStep_b83 (D : va_G) (dA : Nat → ClassId) (dd : Nat) (hdd : 7 ≤ dd) (r_readStep : Nat → Int32 → JM Mem Unit) (h_readStep : ∀ a0 a1, Impl (ws_ yX8_readStep cX8_readStep 5 none) yX8_readStep dd false 0 0 [.ref a0, .int a1] (r_readStep a0 a1) injU) (x0 : Nat) (x1 : Int32) (x2 : Int32) (x3 : Int32) : J (PM D dA false) (Y_X8_readStep dd) [(0, .ref x0), (1, .int x1), (2, .int x2), (3, .int x3)] [] 83 (X8_readStep_b83 r_readStep x0 x1 x2 x3) (FRet injU) := by
  unfold X8_readStep_b83
  refine J_aload_n dX8_readStep_83 rfl 0 rfl ?_
  refine J_getI dX8_readStep_84 fl_X8_221 rfl (fun v4 => ?_)
  refine J_if_le (tgt := 91) dX8_readStep_87 rfl ?_ ?_
  · refine J_bipush (v := 7) dX8_readStep_91 (by decide) ?_
    refine J_aload_n dX8_readStep_93 rfl 0 rfl ?_
    refine J_getI dX8_readStep_94 fl_X8_649 rfl (fun v5 => ?_)
    refine J_imul dX8_readStep_97 ?_
    refine J_letI (fun y6 => ?_)
    refine J_istore (env' := [(4, .int y6), (0, .ref x0), (1, .int x1), (2, .int x2), (3, .int x3)]) dX8_readStep_98 (Nat.le_of_ble_eq_true rfl) rfl ?_
    refine J_aload_n dX8_readStep_100 rfl 1 rfl ?_
    refine J_dup dX8_readStep_101 rfl ?_
    refine J_getI dX8_readStep_102 fl_X8_649 rfl (fun v7 => ?_)
    refine J_iconst (v := 1) dX8_readStep_105 (by decide) ?_
    refine J_iadd dX8_readStep_106 ?_
    refine J_putI dX8_readStep_107 ⟨fl_X8_649, Or.inl rfl⟩ rfl ?_
    refine J_aload_n dX8_readStep_110 rfl 1 rfl ?_
    refine J_callVV (c := 7) (as := []) dX8_readStep_111 (by decide) rfl (Nat.le_of_ble_eq_true rfl) (cw_X8_next _ (Nat.succ_le_succ (Nat.le_trans (by decide) hdd))) q1750 q1752 qs69 q1753 np_X8_next (i_X8_next x0) jad_id rfl ?_
    refine J_aload_n dX8_readStep_114 rfl 1 rfl ?_
    refine J_getA dX8_readStep_115 fl_X8_44 rfl (fun v8 => ?_)
    refine J_iload dX8_readStep_118 0 rfl ?_
    refine J_iload_n dX8_readStep_120 rfl 3 rfl ?_
    refine J_iast dX8_readStep_121 ?_
    refine J_aload_n dX8_readStep_122 rfl 1 rfl ?_
    refine J_iload dX8_readStep_123 0 rfl ?_
    refine J_callVV (c := 7) (as := [.int y6]) dX8_readStep_125 (by decide) rfl (Nat.le_of_ble_eq_true rfl) (cw_X8_readRest _ (Nat.succ_le_succ (Nat.le_trans (by decide) hdd))) q2358 q2360 qs172 q2361 np_X8_readRest (i_X8_readRest x0 y6) jad_id rfl ?_
    refine J_aload_n dX8_readStep_128 rfl 1 rfl ?_
    refine J_aload_n dX8_readStep_129 rfl 1 rfl ?_
    refine J_bipush (v := 59) dX8_readStep_130 (by decide) ?_
    refine J_callVI (c := 7) (as := [.int 59]) dX8_readStep_132 (by decide) rfl (Nat.le_of_ble_eq_true rfl) (cw_X8_isSign _ (Nat.succ_le_succ (Nat.le_trans (by decide) hdd))) q1804 q1806 qs79 q1807 np_X8_isSign (i_X8_isSign x0 59) jad_id rfl (fun v9 => ?_)
    refine J_callVV (c := 7) (as := [.int v9]) dX8_readStep_135 (by decide) rfl (Nat.le_of_ble_eq_true rfl) (cw_X8_must _ (Nat.succ_le_succ (Nat.le_trans (by decide) hdd))) q1781 q1783 qs74 q1784 np_X8_must (i_X8_must x0 v9) jad_id rfl ?_
    refine J_loop (he := fun (t : Unit) => [(0, .ref x0), (1, .int x1), (3, .int x3), (4, .int y6)]) [1, 2, 4, 0] rfl (fun t => ?_)
    exact j_X8_readStep_L138 D dA dd hdd r_readStep h_readStep x0 x1 x3 y6
  exact J_return dX8_readStep_90 rfl
noncomputable def X8_readStep_b57 (r_readStep : Nat → Int32 → JM Mem Unit) (x0 : Nat) (x1 : Int32) (x2 : Int32) (x3 : Int32) : JM Mem Unit :=
  jb (jgetI 7 12 x0) fun v3 =>
  if v3 = 0 then
    if x3 = 0 then
      X8_readStep_b83 r_readStep x0 x1 x2 x3
    else
    if x1 = 3 then
      jb (jgetI 7 15 x0) fun v16 =>
      jb (jcall 7 x0 (f_X8_fail x0 7 v16)) fun _ =>
      X8_readStep_b83 r_readStep x0 x1 x2 x3
    else
      X8_readStep_b83 r_readStep x0 x1 x2 x3
  else
    X8_readStep_b83 r_readStep x0 x1 x2 x3
theorem j_X8_readStep_b57 (D : va_G) (dA : Nat → ClassId) (dd : Nat) (hdd : 7 ≤ dd) (r_readStep : Nat → Int32 → JM Mem Unit) (h_readStep : ∀ a0 a1, Impl (ws_ yX8_readStep cX8_readStep 5 none) yX8_readStep dd false 0 0 [.ref a0, .int a1] (r_readStep a0 a1) injU) (x0 : Nat) (x1 : Int32) (x2 : Int32) (x3 : Int32) : J (PM D dA false) (Y_X8_readStep dd) [(0, .ref x0), (1, .int x1), (2, .int x2), (3, .int x3)] [] 57 (X8_readStep_b57 r_readStep x0 x1 x2 x3) (FRet injU) := by
  unfold X8_readStep_b57
  refine J_aload_n dX8_readStep_57 rfl 0 rfl ?_
  refine J_getI dX8_readStep_58 fl_X8_221 rfl (fun v3 => ?_)
  refine J_if_ne (tgt := 83) dX8_readStep_61 rfl ?_ ?_
  · refine J_sub [0, 1, 2, 3] rfl ?_
    exact j_X8_readStep_b83 D dA dd hdd r_readStep h_readStep x0 x1 x2 x3
  refine J_iload_n dX8_readStep_64 rfl 3 rfl ?_
  refine J_if_eq (tgt := 83) dX8_readStep_65 rfl ?_ ?_
  · refine J_sub [0, 1, 2, 3] rfl ?_
    exact j_X8_readStep_b83 D dA dd hdd r_readStep h_readStep x0 x1 x2 x3
  refine J_iload_n dX8_readStep_68 rfl 1 rfl ?_
  refine J_iconst (v := 3) dX8_readStep_69 (by decide) ?_
  refine J_icmp_ne (tgt := 83) dX8_readStep_70 rfl ?_ ?_
  · refine J_sub [0, 1, 2, 3] rfl ?_
    exact j_X8_readStep_b83 D dA dd hdd r_readStep h_readStep x0 x1 x2 x3
  refine J_aload_n dX8_readStep_73 rfl 0 rfl ?_
  refine J_bipush (v := 7) dX8_readStep_74 (by decide) ?_
  refine J_aload_n dX8_readStep_76 rfl 0 rfl ?_
  refine J_getI dX8_readStep_77 fl_X8_177 rfl (fun v16 => ?_)
  refine J_callVV (c := 7) (as := [.int 7, .int v16]) dX8_readStep_80 (by decide) rfl (Nat.le_of_ble_eq_true rfl) (cw_X8_fail _ (Nat.succ_le_succ (Nat.le_trans (by decide) hdd))) q1789 q1791 qs76 q1792 np_X8_fail (i_X8_fail x0 7 v16) jad_id rfl ?_
  refine J_sub [0, 1, 2, 3] rfl ?_
  exact j_X8_readStep_b83 D dA dd hdd r_readStep h_readStep x0 x1 x2 x3
noncomputable def X8_readStep_b31 (r_readStep : Nat → Int32 → JM Mem Unit) (x0 : Nat) (x1 : Int32) (x2 : Int32) (x3 : Int32) : JM Mem Unit :=
  jb (jgetI 7 12 x0) fun v2 =>
  if v2 = 0 then
    jb (jgetI 7 70 x0) fun v17 =>
    if v17 = 30 then
      jb (jgetI 7 15 x0) fun v18 =>
      jb (jcall 7 x0 (f_X8_fail x0 6 v18)) fun _ =>
      X8_readStep_b57 r_readStep x0 x1 x2 x3
    else
      X8_readStep_b57 r_readStep x0 x1 x2 x3
  else
    X8_readStep_b57 r_readStep x0 x1 x2 x3
theorem j_X8_readStep_b31 (D : va_G) (dA : Nat → ClassId) (dd : Nat) (hdd : 7 ≤ dd) (r_readStep : Nat → Int32 → JM Mem Unit) (h_readStep : ∀ a0 a1, Impl (ws_ yX8_readStep cX8_readStep 5 none) yX8_readStep dd false 0 0 [.ref a0, .int a1] (r_readStep a0 a1) injU) (x0 : Nat) (x1 : Int32) (x2 : Int32) (x3 : Int32) : J (PM D dA false) (Y_X8_readStep dd) [(0, .ref x0), (1, .int x1), (2, .int x2), (3, .int x3)] [] 31 (X8_readStep_b31 r_readStep x0 x1 x2 x3) (FRet injU) := by
  unfold X8_readStep_b31
  refine J_aload_n dX8_readStep_31 rfl 0 rfl ?_
  refine J_getI dX8_readStep_32 fl_X8_221 rfl (fun v2 => ?_)
  refine J_if_ne (tgt := 57) dX8_readStep_35 rfl ?_ ?_
  · refine J_sub [0, 1, 2, 3] rfl ?_
    exact j_X8_readStep_b57 D dA dd hdd r_readStep h_readStep x0 x1 x2 x3
  refine J_aload_n dX8_readStep_38 rfl 0 rfl ?_
  refine J_getI dX8_readStep_39 fl_X8_649 rfl (fun v17 => ?_)
  refine J_bipush (v := 30) dX8_readStep_42 (by decide) ?_
  refine J_icmp_ne (tgt := 57) dX8_readStep_44 rfl ?_ ?_
  · refine J_sub [0, 1, 2, 3] rfl ?_
    exact j_X8_readStep_b57 D dA dd hdd r_readStep h_readStep x0 x1 x2 x3
  refine J_aload_n dX8_readStep_47 rfl 0 rfl ?_
  refine J_bipush (v := 6) dX8_readStep_48 (by decide) ?_
  refine J_aload_n dX8_readStep_50 rfl 0 rfl ?_
  refine J_getI dX8_readStep_51 fl_X8_177 rfl (fun v18 => ?_)
  refine J_callVV (c := 7) (as := [.int 6, .int v18]) dX8_readStep_54 (by decide) rfl (Nat.le_of_ble_eq_true rfl) (cw_X8_fail _ (Nat.succ_le_succ (Nat.le_trans (by decide) hdd))) q1789 q1791 qs76 q1792 np_X8_fail (i_X8_fail x0 6 v18) jad_id rfl ?_
  refine J_sub [0, 1, 2, 3] rfl ?_
  exact j_X8_readStep_b57 D dA dd hdd r_readStep h_readStep x0 x1 x2 x3
noncomputable def X8_readStep_b22 (r_readStep : Nat → Int32 → JM Mem Unit) (x0 : Nat) (x1 : Int32) (x2 : Int32) (s0 : Int32) : JM Mem Unit :=
  if 0 ≤ x2 then
    X8_readStep_b31 r_readStep x0 x1 x2 s0
  else
  jb (jcall 7 x0 (f_X8_wrong x0)) fun _ =>
  X8_readStep_b31 r_readStep x0 x1 x2 s0
theorem j_X8_readStep_b22 (D : va_G) (dA : Nat → ClassId) (dd : Nat) (hdd : 7 ≤ dd) (r_readStep : Nat → Int32 → JM Mem Unit) (h_readStep : ∀ a0 a1, Impl (ws_ yX8_readStep cX8_readStep 5 none) yX8_readStep dd false 0 0 [.ref a0, .int a1] (r_readStep a0 a1) injU) (x0 : Nat) (x1 : Int32) (x2 : Int32) (s0 : Int32) : J (PM D dA false) (Y_X8_readStep dd) [(0, .ref x0), (1, .int x1), (2, .int x2)] [.int s0] 22 (X8_readStep_b22 r_readStep x0 x1 x2 s0) (FRet injU) := by
  unfold X8_readStep_b22
  refine J_istore_n (env' := [(3, .int s0), (0, .ref x0), (1, .int x1), (2, .int x2)]) dX8_readStep_22 rfl (Nat.le_of_ble_eq_true rfl) rfl ?_
  refine J_iload_n dX8_readStep_23 rfl 3 rfl ?_
  refine J_if_ge (tgt := 31) dX8_readStep_24 rfl ?_ ?_
  · refine J_sub [1, 2, 3, 0] rfl ?_
    exact j_X8_readStep_b31 D dA dd hdd r_readStep h_readStep x0 x1 x2 s0
  refine J_aload_n dX8_readStep_27 rfl 1 rfl ?_
  refine J_callVV (c := 7) (as := []) dX8_readStep_28 (by decide) rfl (Nat.le_of_ble_eq_true rfl) (cw_X8_wrong _ (Nat.succ_le_succ (Nat.le_trans (by decide) hdd))) q1785 q1787 qs75 q1788 np_X8_wrong (i_X8_wrong x0) jad_id rfl ?_
  refine J_sub [1, 2, 3, 0] rfl ?_
  exact j_X8_readStep_b31 D dA dd hdd r_readStep h_readStep x0 x1 x2 s0
noncomputable def X8_readStep_b17 (r_readStep : Nat → Int32 → JM Mem Unit) (x0 : Nat) (x1 : Int32) (x2 : Int32) : JM Mem Unit :=
  X8_readStep_b22 r_readStep x0 x1 x2 1
theorem j_X8_readStep_b17 (D : va_G) (dA : Nat → ClassId) (dd : Nat) (hdd : 7 ≤ dd) (r_readStep : Nat → Int32 → JM Mem Unit) (h_readStep : ∀ a0 a1, Impl (ws_ yX8_readStep cX8_readStep 5 none) yX8_readStep dd false 0 0 [.ref a0, .int a1] (r_readStep a0 a1) injU) (x0 : Nat) (x1 : Int32) (x2 : Int32) : J (PM D dA false) (Y_X8_readStep dd) [(0, .ref x0), (1, .int x1), (2, .int x2)] [] 17 (X8_readStep_b17 r_readStep x0 x1 x2) (FRet injU) := by
  unfold X8_readStep_b17
  refine J_iconst (v := 1) dX8_readStep_17 (by decide) ?_
  refine J_goto (tgt := 22) dX8_readStep_18 rfl ?_
  refine J_sub [0, 1, 2] rfl ?_
  exact j_X8_readStep_b22 D dA dd hdd r_readStep h_readStep x0 x1 x2 1
noncomputable def e_X8_readStep (r_readStep : Nat → Int32 → JM Mem Unit) (x0 : Nat) (x1 : Int32) : JM Mem Unit :=
  jb (jcall 7 x0 (f_X8_stepWord x0)) fun v1 =>
  if v1 = 6 then
    X8_readStep_b17 r_readStep x0 x1 v1
  else
  if v1 = 7 then
    X8_readStep_b17 r_readStep x0 x1 v1
  else
    X8_readStep_b22 r_readStep x0 x1 v1 0
theorem j_X8_readStep (D : va_G) (dA : Nat → ClassId) (dd : Nat) (hdd : 7 ≤ dd) (r_readStep : Nat → Int32 → JM Mem Unit) (h_readStep : ∀ a0 a1, Impl (ws_ yX8_readStep cX8_readStep 5 none) yX8_readStep dd false 0 0 [.ref a0, .int a1] (r_readStep a0 a1) injU) (x0 : Nat) (x1 : Int32) : J (PM D dA false) (Y_X8_readStep dd) [(0, .ref x0), (1, .int x1)] [] 0 (e_X8_readStep r_readStep x0 x1) (FRet injU) := by
  unfold e_X8_readStep
  refine J_aload_n dX8_readStep_0 rfl 0 rfl ?_
  refine J_callVI (c := 7) (as := []) dX8_readStep_1 (by decide) rfl (Nat.le_of_ble_eq_true rfl) (cw_X8_stepWord _ (Nat.succ_le_succ (Nat.le_trans (by decide) hdd))) q2354 q2356 qs171 q2357 np_X8_stepWord (i_X8_stepWord x0) jad_id rfl (fun v1 => ?_)
  refine J_istore_n (env' := [(2, .int v1), (0, .ref x0), (1, .int x1)]) dX8_readStep_4 rfl (Nat.le_of_ble_eq_true rfl) rfl ?_
  refine J_iload_n dX8_readStep_5 rfl 0 rfl ?_
  refine J_bipush (v := 6) dX8_readStep_6 (by decide) ?_
  refine J_icmp_eq (tgt := 17) dX8_readStep_8 rfl ?_ ?_
  · refine J_sub [1, 2, 0] rfl ?_
    exact j_X8_readStep_b17 D dA dd hdd r_readStep h_readStep x0 x1 v1
  refine J_iload_n dX8_readStep_11 rfl 0 rfl ?_
  refine J_bipush (v := 7) dX8_readStep_12 (by decide) ?_
  refine J_icmp_ne (tgt := 21) dX8_readStep_14 rfl ?_ ?_
  · refine J_iconst (v := 0) dX8_readStep_21 (by decide) ?_
    refine J_sub [1, 2, 0] rfl ?_
    exact j_X8_readStep_b22 D dA dd hdd r_readStep h_readStep x0 x1 v1 0
  refine J_sub [1, 2, 0] rfl ?_
  exact j_X8_readStep_b17 D dA dd hdd r_readStep h_readStep x0 x1 v1
noncomputable def f_X8_readStep : Nat → Nat → Int32 → JM Mem Unit
  | 0 => fun _ _ => jfail
  | n + 1 => fun x0 x1 => e_X8_readStep (f_X8_readStep n) x0 x1
theorem i_X8_readStep (n : Nat) : ∀ (x0 : Nat) (x1 : Int32), Impl (ws_ yX8_readStep cX8_readStep 5 none) yX8_readStep (7 + n) false 0 0 [.ref x0, .int x1] (f_X8_readStep n x0 x1) injU := by
  induction n with
  | zero => intro x0 x1 l D dA M r M' hst hb hf; cases hf
  | succ n ih => intro x0 x1; exact impl_of (plainFor_of_name (by decide)) (Nat.le_of_ble_eq_true rfl) (fun D dA => j_X8_readStep D dA (7 + n) (Nat.le_add_right _ _) (f_X8_readStep n) ih x0 x1)
theorem cw_X8_readStep (Y : JY) (h : 16 ≤ Y.2.2.2.1) : JCw Y (ws_ yX8_readStep cX8_readStep 5 none) yX8_readStep cX8_readStep 5 none (7 + 8) := ⟨h, by decide, lw_meth q2353, q198, by decide, by decide⟩
-- BracketRoomModel.script(I)I
abbrev Y_X8_script : JY := (cX8_script, yX8_script.cls, 3, 16, yX8_script.name, (some .int), [])
noncomputable def X8_script_b115 (x0 : Nat) : JM Mem Int32 :=
  jb (jgetI 7 70 x0) fun v8 =>
  jp v8
theorem j_X8_script_b115 (D : va_G) (dA : Nat → ClassId) (x0 : Nat) : J (PM D dA false) Y_X8_script [(0, .ref x0)] [] 115 (X8_script_b115 x0) (FRet injI) := by
  unfold X8_script_b115
  refine J_aload_n dX8_script_115 rfl 0 rfl ?_
  refine J_getI dX8_script_116 fl_X8_649 rfl (fun v8 => ?_)
  exact J_ireturn dX8_script_119 rfl
noncomputable def X8_script_L82 (x0 : Nat) (x2 : Int32) : JM Mem (Int32 ⊕ (Int32)) :=
  jb (jgetI 7 70 x0) fun v7 =>
  if 7 * v7 ≤ x2 then
    jinl (X8_script_b115 x0)
  else
  jb (jgetA 7 19 x0) fun v9 =>
  jb (jgetA 7 22 x0) fun v10 =>
  jb (jald mI 0 v10 x2) fun v11 =>
  jb (jast_i v9 (637 + x2) v11) fun _ =>
  jcont (x2 + 1)
theorem j_X8_script_L82 (D : va_G) (dA : Nat → ClassId) (x0 : Nat) (x2 : Int32) : J (PM D dA false) Y_X8_script [(0, .ref x0), (2, .int x2)] [] 82 (X8_script_L82 x0 x2) (FLoop (FRet injI) 82 (fun (t : Int32) => [(0, .ref x0), (2, .int t)])) := by
  unfold X8_script_L82
  refine J_iload_n dX8_script_82 rfl 1 rfl ?_
  refine J_bipush (v := 7) dX8_script_83 (by decide) ?_
  refine J_aload_n dX8_script_85 rfl 0 rfl ?_
  refine J_getI dX8_script_86 fl_X8_649 rfl (fun v7 => ?_)
  refine J_imul dX8_script_89 ?_
  refine J_icmp_ge (tgt := 115) dX8_script_90 rfl ?_ ?_
  · refine J_inl ?_
    refine J_sub [0] rfl ?_
    exact j_X8_script_b115 D dA x0
  refine J_aload_n dX8_script_93 rfl 0 rfl ?_
  refine J_getA dX8_script_94 fl_X8_35 rfl (fun v9 => ?_)
  refine J_sipush (v := 637) dX8_script_97 (by decide) ?_
  refine J_iload_n dX8_script_100 rfl 1 rfl ?_
  refine J_iadd dX8_script_101 ?_
  refine J_aload_n dX8_script_102 rfl 0 rfl ?_
  refine J_getA dX8_script_103 fl_X8_44 rfl (fun v10 => ?_)
  refine J_iload_n dX8_script_106 rfl 1 rfl ?_
  refine J_iald dX8_script_107 (fun v11 => ?_)
  refine J_iast dX8_script_108 ?_
  refine J_iinc (v := x2 + 1) (env' := [(2, .int (x2 + 1)), (0, .ref x0)]) dX8_script_109 1 rfl rfl (by decide) rfl ?_
  refine J_goto (tgt := 82) dX8_script_112 rfl ?_
  exact J_cont [1, 0] rfl
noncomputable def X8_script_b50 (x0 : Nat) : JM Mem Int32 :=
  jb (jcall 7 x0 (f_X8_isWell x0)) fun v3 =>
  if v3 = 0 then
    jp (-1)
  else
  jb (jgetA 7 19 x0) fun v4 =>
  jb (jast_i v4 635 1) fun _ =>
  jb (jgetA 7 19 x0) fun v5 =>
  jb (jgetI 7 70 x0) fun v6 =>
  jb (jast_i v5 636 v6) fun _ =>
  jloop (fun (t : Int32) => X8_script_L82 x0 t) 0
theorem j_X8_script_b50 (D : va_G) (dA : Nat → ClassId) (x0 : Nat) : J (PM D dA false) Y_X8_script [(0, .ref x0)] [] 50 (X8_script_b50 x0) (FRet injI) := by
  unfold X8_script_b50
  refine J_aload_n dX8_script_50 rfl 0 rfl ?_
  refine J_callVI (c := 7) (as := []) dX8_script_51 (by decide) rfl (Nat.le_of_ble_eq_true rfl) (cw_X8_isWell _ (by decide)) q1850 q1852 qs86 q1853 np_X8_isWell (i_X8_isWell x0) jad_id rfl (fun v3 => ?_)
  refine J_if_ne (tgt := 59) dX8_script_54 rfl ?_ ?_
  · refine J_aload_n dX8_script_59 rfl 0 rfl ?_
    refine J_getA dX8_script_60 fl_X8_35 rfl (fun v4 => ?_)
    refine J_sipush (v := 635) dX8_script_63 (by decide) ?_
    refine J_iconst (v := 1) dX8_script_66 (by decide) ?_
    refine J_iast dX8_script_67 ?_
    refine J_aload_n dX8_script_68 rfl 0 rfl ?_
    refine J_getA dX8_script_69 fl_X8_35 rfl (fun v5 => ?_)
    refine J_sipush (v := 636) dX8_script_72 (by decide) ?_
    refine J_aload_n dX8_script_75 rfl 0 rfl ?_
    refine J_getI dX8_script_76 fl_X8_649 rfl (fun v6 => ?_)
    refine J_iast dX8_script_79 ?_
    refine J_iconst (v := 0) dX8_script_80 (by decide) ?_
    refine J_istore_n (env' := [(2, .int 0), (0, .ref x0)]) dX8_script_81 rfl (by decide) rfl ?_
    refine J_loop (he := fun (t : Int32) => [(0, .ref x0), (2, .int t)]) [1, 0] rfl (fun t => ?_)
    exact j_X8_script_L82 D dA x0 t
  refine J_iconst (v := (-1)) dX8_script_57 (by decide) ?_
  exact J_ireturn dX8_script_58 rfl
noncomputable def X8_script_L28 (x0 : Nat) : JM Mem (Int32 ⊕ (Unit)) :=
  jb (jgetI 7 12 x0) fun v2 =>
  if v2 = 0 then
    jb (jgetI 7 14 x0) fun v12 =>
    if v12 = 0 then
      jinl (X8_script_b50 x0)
    else
    jb (jcall 7 x0 (f_X8_readStep 8 x0 0)) fun _ =>
    jcont ()
  else
    jinl (X8_script_b50 x0)
theorem j_X8_script_L28 (D : va_G) (dA : Nat → ClassId) (x0 : Nat) : J (PM D dA false) Y_X8_script [(0, .ref x0)] [] 28 (X8_script_L28 x0) (FLoop (FRet injI) 28 (fun (t : Unit) => [(0, .ref x0)])) := by
  unfold X8_script_L28
  refine J_aload_n dX8_script_28 rfl 0 rfl ?_
  refine J_getI dX8_script_29 fl_X8_221 rfl (fun v2 => ?_)
  refine J_if_ne (tgt := 50) dX8_script_32 rfl ?_ ?_
  · refine J_inl ?_
    refine J_sub [0] rfl ?_
    exact j_X8_script_b50 D dA x0
  refine J_aload_n dX8_script_35 rfl 0 rfl ?_
  refine J_getI dX8_script_36 fl_X8_183 rfl (fun v12 => ?_)
  refine J_if_eq (tgt := 50) dX8_script_39 rfl ?_ ?_
  · refine J_inl ?_
    refine J_sub [0] rfl ?_
    exact j_X8_script_b50 D dA x0
  refine J_aload_n dX8_script_42 rfl 0 rfl ?_
  refine J_iconst (v := 0) dX8_script_43 (by decide) ?_
  refine J_callVV (c := 7) (as := [.int 0]) dX8_script_44 (by decide) rfl (Nat.le_of_ble_eq_true rfl) (cw_X8_readStep _ (by decide)) q2350 q2352 qs170 q2353 np_X8_readStep (i_X8_readStep 8 x0 0) jad_id rfl ?_
  refine J_goto (tgt := 28) dX8_script_47 rfl ?_
  exact J_cont [0] rfl
noncomputable def f_X8_script (x0 : Nat) (x1 : Int32) : JM Mem Int32 :=
  jb (jputI 7 1 x0 0) fun _ =>
  jb (jputI 7 0 x0 0) fun _ =>
  jb (jcall 7 x0 (f_X8_opens x0 x1 300)) fun v1 =>
  if v1 = 0 then
    jp (-1)
  else
  jb (jputI 7 70 x0 0) fun _ =>
  jloop (fun (t : Unit) => X8_script_L28 x0) ()
theorem j_X8_script (D : va_G) (dA : Nat → ClassId) (x0 : Nat) (x1 : Int32) : J (PM D dA false) Y_X8_script [(0, .ref x0), (1, .int x1)] [] 0 (f_X8_script x0 x1) (FRet injI) := by
  unfold f_X8_script
  refine J_aload_n dX8_script_0 rfl 0 rfl ?_
  refine J_iconst (v := 0) dX8_script_1 (by decide) ?_
  refine J_putI dX8_script_2 ⟨fl_X8_132, Or.inl rfl⟩ rfl ?_
  refine J_aload_n dX8_script_5 rfl 0 rfl ?_
  refine J_iconst (v := 0) dX8_script_6 (by decide) ?_
  refine J_putI dX8_script_7 ⟨fl_X8_135, Or.inl rfl⟩ rfl ?_
  refine J_aload_n dX8_script_10 rfl 0 rfl ?_
  refine J_iload_n dX8_script_11 rfl 1 rfl ?_
  refine J_sipush (v := 300) dX8_script_12 (by decide) ?_
  refine J_callVI (c := 7) (as := [.int x1, .int 300]) dX8_script_15 (by decide) rfl (Nat.le_of_ble_eq_true rfl) (cw_X8_opens _ (by decide)) q1746 q1748 qs68 q1749 np_X8_opens (i_X8_opens x0 x1 300) jad_id rfl (fun v1 => ?_)
  refine J_if_ne (tgt := 23) dX8_script_18 rfl ?_ ?_
  · refine J_aload_n dX8_script_23 rfl 0 rfl ?_
    refine J_iconst (v := 0) dX8_script_24 (by decide) ?_
    refine J_putI dX8_script_25 ⟨fl_X8_649, Or.inl rfl⟩ rfl ?_
    refine J_loop (he := fun (t : Unit) => [(0, .ref x0)]) [0] rfl (fun t => ?_)
    exact j_X8_script_L28 D dA x0
  refine J_iconst (v := (-1)) dX8_script_21 (by decide) ?_
  exact J_ireturn dX8_script_22 rfl
theorem i_X8_script (x0 : Nat) (x1 : Int32) : Impl (ws_ yX8_script cX8_script 3 (some .int)) yX8_script 16 false 0 0 [.ref x0, .int x1] (f_X8_script x0 x1) injI := impl_of (plainFor_of_name (by decide)) (Nat.le_of_ble_eq_true rfl) (fun D dA => j_X8_script D dA x0 x1)
theorem cw_X8_script (Y : JY) (h : 17 ≤ Y.2.2.2.1) : JCw Y (ws_ yX8_script cX8_script 3 (some .int)) yX8_script cX8_script 3 (some .int) 16 := ⟨h, by decide, lw_meth q2349, q198, by decide, by decide⟩
theorem np_X8_script : JNp yX8_script.desc 1 := by decide +kernel
-- BracketRoomModel.compares(II)Z
abbrev Y_X8_compares : JY := (cX8_compares, yX8_compares.cls, 3, 1, yX8_compares.name, (some .boolean), [])
noncomputable def f_X8_compares (x0 : Nat) (x1 : Int32) (x2 : Int32) : JM Mem Int32 :=
  jb (jgetA 7 19 x0) fun v1 =>
  jb (jald mI 0 v1 (x2 + 4)) fun v2 =>
  if v2 = 60 then
    jb (jgetA 7 19 x0) fun v9 =>
    jb (jald mI 0 v9 (x2 + 5)) fun v10 =>
    if v10 ≤ x1 then
      jp 0
    else
      jp 1
  else
  jb (jgetA 7 19 x0) fun v3 =>
  jb (jald mI 0 v3 (x2 + 4)) fun v4 =>
  if v4 = 62 then
    jb (jgetA 7 19 x0) fun v7 =>
    jb (jald mI 0 v7 (x2 + 5)) fun v8 =>
    if x1 ≤ v8 then
      jp 0
    else
      jp 1
  else
  jb (jgetA 7 19 x0) fun v5 =>
  jb (jald mI 0 v5 (x2 + 5)) fun v6 =>
  if x1 = v6 then
    jp 1
  else
    jp 0
theorem j_X8_compares (D : va_G) (dA : Nat → ClassId) (x0 : Nat) (x1 : Int32) (x2 : Int32) : J (PM D dA false) Y_X8_compares [(0, .ref x0), (1, .int x1), (2, .int x2)] [] 0 (f_X8_compares x0 x1 x2) (FRet injI) := by
  unfold f_X8_compares
  refine J_aload_n dX8_compares_0 rfl 0 rfl ?_
  refine J_getA dX8_compares_1 fl_X8_35 rfl (fun v1 => ?_)
  refine J_iload_n dX8_compares_4 rfl 2 rfl ?_
  refine J_iconst (v := 4) dX8_compares_5 (by decide) ?_
  refine J_iadd dX8_compares_6 ?_
  refine J_iald dX8_compares_7 (fun v2 => ?_)
  refine J_bipush (v := 60) dX8_compares_8 (by decide) ?_
  refine J_icmp_ne (tgt := 33) dX8_compares_10 rfl ?_ ?_
  · refine J_aload_n dX8_compares_33 rfl 0 rfl ?_
    refine J_getA dX8_compares_34 fl_X8_35 rfl (fun v3 => ?_)
    refine J_iload_n dX8_compares_37 rfl 2 rfl ?_
    refine J_iconst (v := 4) dX8_compares_38 (by decide) ?_
    refine J_iadd dX8_compares_39 ?_
    refine J_iald dX8_compares_40 (fun v4 => ?_)
    refine J_bipush (v := 62) dX8_compares_41 (by decide) ?_
    refine J_icmp_ne (tgt := 66) dX8_compares_43 rfl ?_ ?_
    · refine J_iload_n dX8_compares_66 rfl 1 rfl ?_
      refine J_aload_n dX8_compares_67 rfl 0 rfl ?_
      refine J_getA dX8_compares_68 fl_X8_35 rfl (fun v5 => ?_)
      refine J_iload_n dX8_compares_71 rfl 2 rfl ?_
      refine J_iconst (v := 5) dX8_compares_72 (by decide) ?_
      refine J_iadd dX8_compares_73 ?_
      refine J_iald dX8_compares_74 (fun v6 => ?_)
      refine J_icmp_ne (tgt := 82) dX8_compares_75 rfl ?_ ?_
      · refine J_iconst (v := 0) dX8_compares_82 (by decide) ?_
        exact J_zreturn0 dX8_compares_83 rfl
      refine J_iconst (v := 1) dX8_compares_78 (by decide) ?_
      refine J_goto (tgt := 83) dX8_compares_79 rfl ?_
      exact J_zreturn1 dX8_compares_83 rfl
    refine J_iload_n dX8_compares_46 rfl 1 rfl ?_
    refine J_aload_n dX8_compares_47 rfl 0 rfl ?_
    refine J_getA dX8_compares_48 fl_X8_35 rfl (fun v7 => ?_)
    refine J_iload_n dX8_compares_51 rfl 2 rfl ?_
    refine J_iconst (v := 5) dX8_compares_52 (by decide) ?_
    refine J_iadd dX8_compares_53 ?_
    refine J_iald dX8_compares_54 (fun v8 => ?_)
    refine J_icmp_le (tgt := 62) dX8_compares_55 rfl ?_ ?_
    · refine J_iconst (v := 0) dX8_compares_62 (by decide) ?_
      refine J_goto (tgt := 83) dX8_compares_63 rfl ?_
      exact J_zreturn0 dX8_compares_83 rfl
    refine J_iconst (v := 1) dX8_compares_58 (by decide) ?_
    refine J_goto (tgt := 83) dX8_compares_59 rfl ?_
    exact J_zreturn1 dX8_compares_83 rfl
  refine J_iload_n dX8_compares_13 rfl 1 rfl ?_
  refine J_aload_n dX8_compares_14 rfl 0 rfl ?_
  refine J_getA dX8_compares_15 fl_X8_35 rfl (fun v9 => ?_)
  refine J_iload_n dX8_compares_18 rfl 2 rfl ?_
  refine J_iconst (v := 5) dX8_compares_19 (by decide) ?_
  refine J_iadd dX8_compares_20 ?_
  refine J_iald dX8_compares_21 (fun v10 => ?_)
  refine J_icmp_ge (tgt := 29) dX8_compares_22 rfl ?_ ?_
  · refine J_iconst (v := 0) dX8_compares_29 (by decide) ?_
    refine J_goto (tgt := 83) dX8_compares_30 rfl ?_
    exact J_zreturn0 dX8_compares_83 rfl
  refine J_iconst (v := 1) dX8_compares_25 (by decide) ?_
  refine J_goto (tgt := 83) dX8_compares_26 rfl ?_
  exact J_zreturn1 dX8_compares_83 rfl
theorem i_X8_compares (x0 : Nat) (x1 : Int32) (x2 : Int32) : Impl (ws_ yX8_compares cX8_compares 3 (some .boolean)) yX8_compares 1 false 0 0 [.ref x0, .int x1, .int x2] (f_X8_compares x0 x1 x2) injI := impl_of (plainFor_of_name (by decide)) (Nat.le_of_ble_eq_true rfl) (fun D dA => j_X8_compares D dA x0 x1 x2)
theorem cw_X8_compares (Y : JY) (h : 2 ≤ Y.2.2.2.1) : JCw Y (ws_ yX8_compares cX8_compares 3 (some .boolean)) yX8_compares cX8_compares 3 (some .boolean) 1 := ⟨h, by decide, lw_meth q2405, q198, by decide, by decide⟩
theorem np_X8_compares : JNp yX8_compares.desc 2 := by decide +kernel
-- BracketRoomModel.isSoNow(I)Z
abbrev Y_X8_isSoNow : JY := (cX8_isSoNow, yX8_isSoNow.cls, 3, 16, yX8_isSoNow.name, (some .boolean), [])
noncomputable def f_X8_isSoNow (x0 : Nat) (x1 : Int32) : JM Mem Int32 :=
  jb (jgetA 7 19 x0) fun v1 =>
  jb (jald mI 0 v1 (x1 + 1)) fun v2 =>
  if v2 = 0 then
    jb (jcall 7 x0 (f_X8_isLawful x0)) fun v16 =>
    jrz v16
  else
  if 4 ≤ v2 then
    if v2 = 4 then
      jb (jgetA 7 19 x0) fun v11 =>
      jb (jald mI 0 v11 (x1 + 2)) fun v12 =>
      jb (jcall 7 x0 (f_X8_seriesOf x0 v12 0)) fun v13 =>
      jb (jcall 7 x0 (f_X8_compares x0 v13 x1)) fun v14 =>
      jrz v14
    else
    if v2 = 5 then
      jb (jgetI 7 27 x0) fun v9 =>
      jb (jcall 7 x0 (f_X8_compares x0 v9 x1)) fun v10 =>
      jrz v10
    else
    jb (jgetA 7 19 x0) fun v3 =>
    jb (jald mI 0 v3 (x1 + 2)) fun v4 =>
    jb (jcall 7 x0 (f_X8_isEmpty x0 v4)) fun v5 =>
    if v5 = 0 then
      jb (jgetA 7 19 x0) fun v6 =>
      jb (jald mI 0 v6 (x1 + 2)) fun v7 =>
      jb (jcall 7 x0 (f_X8_same x0 v7)) fun v8 =>
      if v8 = 1 then
        jp 1
      else
        jp 0
    else
      jp 0
  else
  jb (jcall 7 x0 (f_X8_isSo x0 (v2 - 1))) fun v15 =>
  jrz v15
theorem j_X8_isSoNow (D : va_G) (dA : Nat → ClassId) (x0 : Nat) (x1 : Int32) : J (PM D dA false) Y_X8_isSoNow [(0, .ref x0), (1, .int x1)] [] 0 (f_X8_isSoNow x0 x1) (FRet injI) := by
  unfold f_X8_isSoNow
  refine J_aload_n dX8_isSoNow_0 rfl 0 rfl ?_
  refine J_getA dX8_isSoNow_1 fl_X8_35 rfl (fun v1 => ?_)
  refine J_iload_n dX8_isSoNow_4 rfl 1 rfl ?_
  refine J_iconst (v := 1) dX8_isSoNow_5 (by decide) ?_
  refine J_iadd dX8_isSoNow_6 ?_
  refine J_iald dX8_isSoNow_7 (fun v2 => ?_)
  refine J_istore_n (env' := [(2, .int v2), (0, .ref x0), (1, .int x1)]) dX8_isSoNow_8 rfl (by decide) rfl ?_
  refine J_iload_n dX8_isSoNow_9 rfl 0 rfl ?_
  refine J_if_ne (tgt := 18) dX8_isSoNow_10 rfl ?_ ?_
  · refine J_iload_n dX8_isSoNow_18 rfl 0 rfl ?_
    refine J_iconst (v := 4) dX8_isSoNow_19 (by decide) ?_
    refine J_icmp_ge (tgt := 31) dX8_isSoNow_20 rfl ?_ ?_
    · refine J_iload_n dX8_isSoNow_31 rfl 0 rfl ?_
      refine J_iconst (v := 4) dX8_isSoNow_32 (by decide) ?_
      refine J_icmp_ne (tgt := 55) dX8_isSoNow_33 rfl ?_ ?_
      · refine J_iload_n dX8_isSoNow_55 rfl 0 rfl ?_
        refine J_iconst (v := 5) dX8_isSoNow_56 (by decide) ?_
        refine J_icmp_ne (tgt := 70) dX8_isSoNow_57 rfl ?_ ?_
        · refine J_aload_n dX8_isSoNow_70 rfl 1 rfl ?_
          refine J_aload_n dX8_isSoNow_71 rfl 1 rfl ?_
          refine J_getA dX8_isSoNow_72 fl_X8_35 rfl (fun v3 => ?_)
          refine J_iload_n dX8_isSoNow_75 rfl 2 rfl ?_
          refine J_iconst (v := 2) dX8_isSoNow_76 (by decide) ?_
          refine J_iadd dX8_isSoNow_77 ?_
          refine J_iald dX8_isSoNow_78 (fun v4 => ?_)
          refine J_callVI (c := 7) (as := [.int v4]) dX8_isSoNow_79 (by decide) rfl (Nat.le_of_ble_eq_true rfl) (cw_X8_isEmpty _ (by decide)) q1959 q1961 qs104 q1962 np_X8_isEmpty (i_X8_isEmpty x0 v4) jad_id rfl (fun v5 => ?_)
          refine J_if_ne (tgt := 105) dX8_isSoNow_82 rfl ?_ ?_
          · refine J_iconst (v := 0) dX8_isSoNow_105 (by decide) ?_
            exact J_zreturn0 dX8_isSoNow_106 rfl
          refine J_aload_n dX8_isSoNow_85 rfl 1 rfl ?_
          refine J_aload_n dX8_isSoNow_86 rfl 1 rfl ?_
          refine J_getA dX8_isSoNow_87 fl_X8_35 rfl (fun v6 => ?_)
          refine J_iload_n dX8_isSoNow_90 rfl 2 rfl ?_
          refine J_iconst (v := 2) dX8_isSoNow_91 (by decide) ?_
          refine J_iadd dX8_isSoNow_92 ?_
          refine J_iald dX8_isSoNow_93 (fun v7 => ?_)
          refine J_callVI (c := 7) (as := [.int v7]) dX8_isSoNow_94 (by decide) rfl (Nat.le_of_ble_eq_true rfl) (cw_X8_same _ (by decide)) q2225 q2227 qs151 q2228 np_X8_same (i_X8_same x0 v7) jad_id rfl (fun v8 => ?_)
          refine J_iconst (v := 1) dX8_isSoNow_97 (by decide) ?_
          refine J_icmp_ne (tgt := 105) dX8_isSoNow_98 rfl ?_ ?_
          · refine J_iconst (v := 0) dX8_isSoNow_105 (by decide) ?_
            exact J_zreturn0 dX8_isSoNow_106 rfl
          refine J_iconst (v := 1) dX8_isSoNow_101 (by decide) ?_
          refine J_goto (tgt := 106) dX8_isSoNow_102 rfl ?_
          exact J_zreturn1 dX8_isSoNow_106 rfl
        refine J_aload_n dX8_isSoNow_60 rfl 1 rfl ?_
        refine J_aload_n dX8_isSoNow_61 rfl 1 rfl ?_
        refine J_getI dX8_isSoNow_62 fl_X8_253 rfl (fun v9 => ?_)
        refine J_iload_n dX8_isSoNow_65 rfl 2 rfl ?_
        refine J_callVI (c := 7) (as := [.int v9, .int x1]) dX8_isSoNow_66 (by decide) rfl (Nat.le_of_ble_eq_true rfl) (cw_X8_compares _ (by decide)) q2402 q2404 qs182 q2405 np_X8_compares (i_X8_compares x0 v9 x1) jad_id rfl (fun v10 => ?_)
        exact J_zreturn dX8_isSoNow_69 rfl
      refine J_aload_n dX8_isSoNow_36 rfl 1 rfl ?_
      refine J_aload_n dX8_isSoNow_37 rfl 1 rfl ?_
      refine J_aload_n dX8_isSoNow_38 rfl 1 rfl ?_
      refine J_getA dX8_isSoNow_39 fl_X8_35 rfl (fun v11 => ?_)
      refine J_iload_n dX8_isSoNow_42 rfl 2 rfl ?_
      refine J_iconst (v := 2) dX8_isSoNow_43 (by decide) ?_
      refine J_iadd dX8_isSoNow_44 ?_
      refine J_iald dX8_isSoNow_45 (fun v12 => ?_)
      refine J_iconst (v := 0) dX8_isSoNow_46 (by decide) ?_
      refine J_callVI (c := 7) (as := [.int v12, .int 0]) dX8_isSoNow_47 (by decide) rfl (Nat.le_of_ble_eq_true rfl) (cw_X8_seriesOf _ (by decide)) q2009 q2011 qs114 q2012 np_X8_seriesOf (i_X8_seriesOf x0 v12 0) jad_id rfl (fun v13 => ?_)
      refine J_iload_n dX8_isSoNow_50 rfl 2 rfl ?_
      refine J_callVI (c := 7) (as := [.int v13, .int x1]) dX8_isSoNow_51 (by decide) rfl (Nat.le_of_ble_eq_true rfl) (cw_X8_compares _ (by decide)) q2402 q2404 qs182 q2405 np_X8_compares (i_X8_compares x0 v13 x1) jad_id rfl (fun v14 => ?_)
      exact J_zreturn dX8_isSoNow_54 rfl
    refine J_aload_n dX8_isSoNow_23 rfl 1 rfl ?_
    refine J_iload_n dX8_isSoNow_24 rfl 0 rfl ?_
    refine J_iconst (v := 1) dX8_isSoNow_25 (by decide) ?_
    refine J_isub dX8_isSoNow_26 ?_
    refine J_callVI (c := 7) (as := [.int (v2 - 1)]) dX8_isSoNow_27 (by decide) rfl (Nat.le_of_ble_eq_true rfl) (cw_X8_isSo _ (by decide)) q2113 q2115 qs132 q2116 np_X8_isSo (i_X8_isSo x0 (v2 - 1)) jad_id rfl (fun v15 => ?_)
    exact J_zreturn dX8_isSoNow_30 rfl
  refine J_aload_n dX8_isSoNow_13 rfl 1 rfl ?_
  refine J_callVI (c := 7) (as := []) dX8_isSoNow_14 (by decide) rfl (Nat.le_of_ble_eq_true rfl) (cw_X8_isLawful _ (by decide)) q1923 q1925 qs99 q1926 np_X8_isLawful (i_X8_isLawful x0) jad_id rfl (fun v16 => ?_)
  exact J_zreturn dX8_isSoNow_17 rfl
theorem i_X8_isSoNow (x0 : Nat) (x1 : Int32) : Impl (ws_ yX8_isSoNow cX8_isSoNow 3 (some .boolean)) yX8_isSoNow 16 false 0 0 [.ref x0, .int x1] (f_X8_isSoNow x0 x1) injI := impl_of (plainFor_of_name (by decide)) (Nat.le_of_ble_eq_true rfl) (fun D dA => j_X8_isSoNow D dA x0 x1)
theorem cw_X8_isSoNow (Y : JY) (h : 17 ≤ Y.2.2.2.1) : JCw Y (ws_ yX8_isSoNow cX8_isSoNow 3 (some .boolean)) yX8_isSoNow cX8_isSoNow 3 (some .boolean) 16 := ⟨h, by decide, lw_meth q2401, q198, by decide, by decide⟩
theorem np_X8_isSoNow : JNp yX8_isSoNow.desc 1 := by decide +kernel
-- BracketRoomModel.linear(I)Z
abbrev Y_X8_linear : JY := (cX8_linear, yX8_linear.cls, 5, 5, yX8_linear.name, (some .boolean), [])
noncomputable def X8_linear_b147 (x0 : Nat) : JM Mem Int32 :=
  jb (jcall 7 x0 (f_X8_changeInto x0)) fun v15 =>
  jb (jcall 7 x0 (f_X8_takeOther x0)) fun _ =>
  jp 1
theorem j_X8_linear_b147 (D : va_G) (dA : Nat → ClassId) (x0 : Nat) : J (PM D dA false) Y_X8_linear [(0, .ref x0)] [] 147 (X8_linear_b147 x0) (FRet injI) := by
  unfold X8_linear_b147
  refine J_aload_n dX8_linear_147 rfl 0 rfl ?_
  refine J_callVI (c := 7) (as := []) dX8_linear_148 (by decide) rfl (Nat.le_of_ble_eq_true rfl) (cw_X8_changeInto _ (by decide)) q2249 q2251 qs154 q2252 np_X8_changeInto (i_X8_changeInto x0) jad_id rfl (fun v15 => ?_)
  refine J_pop dX8_linear_151 rfl ?_
  refine J_aload_n dX8_linear_152 rfl 0 rfl ?_
  refine J_callVV (c := 7) (as := []) dX8_linear_153 (by decide) rfl (Nat.le_of_ble_eq_true rfl) (cw_X8_takeOther _ (by decide)) q2261 q2263 qs157 q2264 np_X8_takeOther (i_X8_takeOther x0) jad_id rfl ?_
  refine J_iconst (v := 1) dX8_linear_156 (by decide) ?_
  exact J_zreturn1 dX8_linear_157 rfl
noncomputable def X8_linear_b71 (x0 : Nat) (x1 : Int32) (x2 : Int32) (x3 : Int32) (x4 : Int32) : JM Mem Int32 :=
  jb (jgetA 7 66 x0) fun v8 =>
  jb (jcall 7 x0 (f_X8_wholeSpan x0 v8)) fun v9 =>
  if x2 = 0 then
    jb (jgetA 7 66 x0) fun v19 =>
    jb (jcall 7 x0 (f_X8_exchange x0 v19 x3 x4)) fun _ =>
    X8_linear_b147 x0
  else
  if x2 = 1 then
    jb (jgetA 7 66 x0) fun v16 =>
    jb (jgetI 7 26 x0) fun v17 =>
    jb (jrem x4 v17) fun v18 =>
    jb (jast_i v16 ((5 * x3) + x3) v18) fun _ =>
    X8_linear_b147 x0
  else
  jb (jgetA 7 66 x0) fun v10 =>
  jb (jgetA 7 19 x0) fun v11 =>
  jb (jald mI 0 v11 (x1 + 3)) fun v12 =>
  jb (jgetI 7 26 x0) fun v13 =>
  jb (jrem v12 v13) fun v14 =>
  jb (jast_i v10 ((5 * x4) + x3) v14) fun _ =>
  X8_linear_b147 x0
theorem j_X8_linear_b71 (D : va_G) (dA : Nat → ClassId) (x0 : Nat) (x1 : Int32) (x2 : Int32) (x3 : Int32) (x4 : Int32) : J (PM D dA false) Y_X8_linear [(0, .ref x0), (1, .int x1), (2, .int x2), (3, .int x3), (4, .int x4)] [] 71 (X8_linear_b71 x0 x1 x2 x3 x4) (FRet injI) := by
  unfold X8_linear_b71
  refine J_aload_n dX8_linear_71 rfl 0 rfl ?_
  refine J_aload_n dX8_linear_72 rfl 0 rfl ?_
  refine J_getA dX8_linear_73 fl_X8_119 rfl (fun v8 => ?_)
  refine J_callVI (c := 7) (as := [.ref v8]) dX8_linear_76 (by decide) rfl (Nat.le_of_ble_eq_true rfl) (cw_X8_wholeSpan _ (by decide)) q2000 q2002 qs113 q2003 np_X8_wholeSpan (i_X8_wholeSpan x0 v8) jad_id rfl (fun v9 => ?_)
  refine J_pop dX8_linear_79 rfl ?_
  refine J_iload_n dX8_linear_80 rfl 2 rfl ?_
  refine J_if_ne (tgt := 98) dX8_linear_81 rfl ?_ ?_
  · refine J_iload_n dX8_linear_98 rfl 2 rfl ?_
    refine J_iconst (v := 1) dX8_linear_99 (by decide) ?_
    refine J_icmp_ne (tgt := 123) dX8_linear_100 rfl ?_ ?_
    · refine J_aload_n dX8_linear_123 rfl 0 rfl ?_
      refine J_getA dX8_linear_124 fl_X8_119 rfl (fun v10 => ?_)
      refine J_iconst (v := 5) dX8_linear_127 (by decide) ?_
      refine J_iload dX8_linear_128 4 rfl ?_
      refine J_imul dX8_linear_130 ?_
      refine J_iload_n dX8_linear_131 rfl 3 rfl ?_
      refine J_iadd dX8_linear_132 ?_
      refine J_aload_n dX8_linear_133 rfl 0 rfl ?_
      refine J_getA dX8_linear_134 fl_X8_35 rfl (fun v11 => ?_)
      refine J_iload_n dX8_linear_137 rfl 1 rfl ?_
      refine J_iconst (v := 3) dX8_linear_138 (by decide) ?_
      refine J_iadd dX8_linear_139 ?_
      refine J_iald dX8_linear_140 (fun v12 => ?_)
      refine J_aload_n dX8_linear_141 rfl 0 rfl ?_
      refine J_getI dX8_linear_142 fl_X8_250 rfl (fun v13 => ?_)
      refine J_irem dX8_linear_145 (fun v14 => ?_)
      refine J_iast dX8_linear_146 ?_
      refine J_sub [0] rfl ?_
      exact j_X8_linear_b147 D dA x0
    refine J_aload_n dX8_linear_103 rfl 0 rfl ?_
    refine J_getA dX8_linear_104 fl_X8_119 rfl (fun v16 => ?_)
    refine J_iconst (v := 5) dX8_linear_107 (by decide) ?_
    refine J_iload_n dX8_linear_108 rfl 3 rfl ?_
    refine J_imul dX8_linear_109 ?_
    refine J_iload_n dX8_linear_110 rfl 3 rfl ?_
    refine J_iadd dX8_linear_111 ?_
    refine J_iload dX8_linear_112 4 rfl ?_
    refine J_aload_n dX8_linear_114 rfl 0 rfl ?_
    refine J_getI dX8_linear_115 fl_X8_250 rfl (fun v17 => ?_)
    refine J_irem dX8_linear_118 (fun v18 => ?_)
    refine J_iast dX8_linear_119 ?_
    refine J_goto (tgt := 147) dX8_linear_120 rfl ?_
    refine J_sub [0] rfl ?_
    exact j_X8_linear_b147 D dA x0
  refine J_aload_n dX8_linear_84 rfl 0 rfl ?_
  refine J_aload_n dX8_linear_85 rfl 0 rfl ?_
  refine J_getA dX8_linear_86 fl_X8_119 rfl (fun v19 => ?_)
  refine J_iload_n dX8_linear_89 rfl 3 rfl ?_
  refine J_iload dX8_linear_90 4 rfl ?_
  refine J_callVV (c := 7) (as := [.ref v19, .int x3, .int x4]) dX8_linear_92 (by decide) rfl (Nat.le_of_ble_eq_true rfl) (cw_X8_exchange _ (by decide)) q2257 q2259 qs156 q2260 np_X8_exchange (i_X8_exchange x0 v19 x3 x4) jad_id rfl ?_
  refine J_goto (tgt := 147) dX8_linear_95 rfl ?_
  refine J_sub [0] rfl ?_
  exact j_X8_linear_b147 D dA x0
noncomputable def X8_linear_b54 (x0 : Nat) (x1 : Int32) (x2 : Int32) (x3 : Int32) (x4 : Int32) : JM Mem Int32 :=
  if x2 = 1 then
    jb (jgetI 7 26 x0) fun v20 =>
    jb (jrem x4 v20) fun v21 =>
    if v21 = 0 then
      jp 0
    else
      X8_linear_b71 x0 x1 x2 x3 x4
  else
    X8_linear_b71 x0 x1 x2 x3 x4
theorem j_X8_linear_b54 (D : va_G) (dA : Nat → ClassId) (x0 : Nat) (x1 : Int32) (x2 : Int32) (x3 : Int32) (x4 : Int32) : J (PM D dA false) Y_X8_linear [(0, .ref x0), (1, .int x1), (2, .int x2), (3, .int x3), (4, .int x4)] [] 54 (X8_linear_b54 x0 x1 x2 x3 x4) (FRet injI) := by
  unfold X8_linear_b54
  refine J_iload_n dX8_linear_54 rfl 2 rfl ?_
  refine J_iconst (v := 1) dX8_linear_55 (by decide) ?_
  refine J_icmp_ne (tgt := 71) dX8_linear_56 rfl ?_ ?_
  · refine J_sub [0, 1, 2, 3, 4] rfl ?_
    exact j_X8_linear_b71 D dA x0 x1 x2 x3 x4
  refine J_iload dX8_linear_59 4 rfl ?_
  refine J_aload_n dX8_linear_61 rfl 0 rfl ?_
  refine J_getI dX8_linear_62 fl_X8_250 rfl (fun v20 => ?_)
  refine J_irem dX8_linear_65 (fun v21 => ?_)
  refine J_if_ne (tgt := 71) dX8_linear_66 rfl ?_ ?_
  · refine J_sub [0, 1, 2, 3, 4] rfl ?_
    exact j_X8_linear_b71 D dA x0 x1 x2 x3 x4
  refine J_iconst (v := 0) dX8_linear_69 (by decide) ?_
  exact J_zreturn0 dX8_linear_70 rfl
noncomputable def f_X8_linear (x0 : Nat) (x1 : Int32) : JM Mem Int32 :=
  jb (jgetA 7 19 x0) fun v1 =>
  jb (jald mI 0 v1 x1) fun v2 =>
  jb (jgetA 7 19 x0) fun v3 =>
  jb (jald mI 0 v3 (x1 + 1)) fun v4 =>
  jb (jgetA 7 19 x0) fun v5 =>
  jb (jald mI 0 v5 (x1 + 2)) fun v6 =>
  jb (jcall 7 x0 (f_X8_isBase x0 v4)) fun v7 =>
  if v7 = 0 then
    jp 0
  else
  if v2 = 1 then
    X8_linear_b54 x0 x1 v2 v4 v6
  else
  jb (jcall 7 x0 (f_X8_isBase x0 v6)) fun v22 =>
  if v22 = 0 then
    jp 0
  else
  if v4 = v6 then
    jp 0
  else
    X8_linear_b54 x0 x1 v2 v4 v6
theorem j_X8_linear (D : va_G) (dA : Nat → ClassId) (x0 : Nat) (x1 : Int32) : J (PM D dA false) Y_X8_linear [(0, .ref x0), (1, .int x1)] [] 0 (f_X8_linear x0 x1) (FRet injI) := by
  unfold f_X8_linear
  refine J_aload_n dX8_linear_0 rfl 0 rfl ?_
  refine J_getA dX8_linear_1 fl_X8_35 rfl (fun v1 => ?_)
  refine J_iload_n dX8_linear_4 rfl 1 rfl ?_
  refine J_iald dX8_linear_5 (fun v2 => ?_)
  refine J_istore_n (env' := [(2, .int v2), (0, .ref x0), (1, .int x1)]) dX8_linear_6 rfl (by decide) rfl ?_
  refine J_aload_n dX8_linear_7 rfl 1 rfl ?_
  refine J_getA dX8_linear_8 fl_X8_35 rfl (fun v3 => ?_)
  refine J_iload_n dX8_linear_11 rfl 2 rfl ?_
  refine J_iconst (v := 1) dX8_linear_12 (by decide) ?_
  refine J_iadd dX8_linear_13 ?_
  refine J_iald dX8_linear_14 (fun v4 => ?_)
  refine J_istore_n (env' := [(3, .int v4), (2, .int v2), (0, .ref x0), (1, .int x1)]) dX8_linear_15 rfl (by decide) rfl ?_
  refine J_aload_n dX8_linear_16 rfl 2 rfl ?_
  refine J_getA dX8_linear_17 fl_X8_35 rfl (fun v5 => ?_)
  refine J_iload_n dX8_linear_20 rfl 3 rfl ?_
  refine J_iconst (v := 2) dX8_linear_21 (by decide) ?_
  refine J_iadd dX8_linear_22 ?_
  refine J_iald dX8_linear_23 (fun v6 => ?_)
  refine J_istore (env' := [(4, .int v6), (3, .int v4), (2, .int v2), (0, .ref x0), (1, .int x1)]) dX8_linear_24 (by decide) rfl ?_
  refine J_aload_n dX8_linear_26 rfl 3 rfl ?_
  refine J_iload_n dX8_linear_27 rfl 1 rfl ?_
  refine J_callVI (c := 7) (as := [.int v4]) dX8_linear_28 (by decide) rfl (Nat.le_of_ble_eq_true rfl) (cw_X8_isBase _ (by decide)) q1883 q1885 qs92 q1886 np_X8_isBase (i_X8_isBase x0 v4) jad_id rfl (fun v7 => ?_)
  refine J_if_eq (tgt := 69) dX8_linear_31 rfl ?_ ?_
  · refine J_iconst (v := 0) dX8_linear_69 (by decide) ?_
    exact J_zreturn0 dX8_linear_70 rfl
  refine J_iload_n dX8_linear_34 rfl 2 rfl ?_
  refine J_iconst (v := 1) dX8_linear_35 (by decide) ?_
  refine J_icmp_eq (tgt := 54) dX8_linear_36 rfl ?_ ?_
  · refine J_sub [3, 4, 2, 1, 0] rfl ?_
    exact j_X8_linear_b54 D dA x0 x1 v2 v4 v6
  refine J_aload_n dX8_linear_39 rfl 3 rfl ?_
  refine J_iload dX8_linear_40 0 rfl ?_
  refine J_callVI (c := 7) (as := [.int v6]) dX8_linear_42 (by decide) rfl (Nat.le_of_ble_eq_true rfl) (cw_X8_isBase _ (by decide)) q1883 q1885 qs92 q1886 np_X8_isBase (i_X8_isBase x0 v6) jad_id rfl (fun v22 => ?_)
  refine J_if_eq (tgt := 69) dX8_linear_45 rfl ?_ ?_
  · refine J_iconst (v := 0) dX8_linear_69 (by decide) ?_
    exact J_zreturn0 dX8_linear_70 rfl
  refine J_iload_n dX8_linear_48 rfl 1 rfl ?_
  refine J_iload dX8_linear_49 0 rfl ?_
  refine J_icmp_eq (tgt := 69) dX8_linear_51 rfl ?_ ?_
  · refine J_iconst (v := 0) dX8_linear_69 (by decide) ?_
    exact J_zreturn0 dX8_linear_70 rfl
  refine J_sub [3, 4, 2, 1, 0] rfl ?_
  exact j_X8_linear_b54 D dA x0 x1 v2 v4 v6
theorem i_X8_linear (x0 : Nat) (x1 : Int32) : Impl (ws_ yX8_linear cX8_linear 5 (some .boolean)) yX8_linear 5 false 0 0 [.ref x0, .int x1] (f_X8_linear x0 x1) injI := impl_of (plainFor_of_name (by decide)) (Nat.le_of_ble_eq_true rfl) (fun D dA => j_X8_linear D dA x0 x1)
theorem cw_X8_linear (Y : JY) (h : 6 ≤ Y.2.2.2.1) : JCw Y (ws_ yX8_linear cX8_linear 5 (some .boolean)) yX8_linear cX8_linear 5 (some .boolean) 5 := ⟨h, by decide, lw_meth q2413, q198, by decide, by decide⟩
theorem np_X8_linear : JNp yX8_linear.desc 1 := by decide +kernel
-- BracketRoomModel.doPlain(I)Z
abbrev Y_X8_doPlain : JY := (cX8_doPlain, yX8_doPlain.cls, 4, 6, yX8_doPlain.name, (some .boolean), [])
noncomputable def f_X8_doPlain (x0 : Nat) (x1 : Int32) : JM Mem Int32 :=
  jb (jgetA 7 19 x0) fun v1 =>
  jb (jald mI 0 v1 x1) fun v2 =>
  if 3 ≤ v2 then
    jb (jgetA 7 19 x0) fun v3 =>
    jb (jald mI 0 v3 (x1 + 1)) fun v4 =>
    if v2 = 3 then
      jb (jgetA 7 19 x0) fun v9 =>
      jb (jgetA 7 19 x0) fun v10 =>
      jb (jcall 7 x0 (f_X8_move x0 v9 0 v10 (127 * (v4 + 1)))) fun _ =>
      jp 1
    else
    jb (jcall 7 x0 (f_X8_isEmpty x0 v4)) fun v5 =>
    if v5 = 0 then
      if v2 = 5 then
        jb (jcall 7 x0 (f_X8_sumWith x0 v4)) fun v8 =>
        if v8 = 0 then
          jp 1
        else
          jp 0
      else
      jb (jgetA 7 19 x0) fun v6 =>
      jb (jgetA 7 19 x0) fun v7 =>
      jb (jcall 7 x0 (f_X8_move x0 v6 (127 * (v4 + 1)) v7 0)) fun _ =>
      jp 1
    else
      jp 0
  else
  jb (jcall 7 x0 (f_X8_linear x0 x1)) fun v11 =>
  jrz v11
theorem j_X8_doPlain (D : va_G) (dA : Nat → ClassId) (x0 : Nat) (x1 : Int32) : J (PM D dA false) Y_X8_doPlain [(0, .ref x0), (1, .int x1)] [] 0 (f_X8_doPlain x0 x1) (FRet injI) := by
  unfold f_X8_doPlain
  refine J_aload_n dX8_doPlain_0 rfl 0 rfl ?_
  refine J_getA dX8_doPlain_1 fl_X8_35 rfl (fun v1 => ?_)
  refine J_iload_n dX8_doPlain_4 rfl 1 rfl ?_
  refine J_iald dX8_doPlain_5 (fun v2 => ?_)
  refine J_istore_n (env' := [(2, .int v2), (0, .ref x0), (1, .int x1)]) dX8_doPlain_6 rfl (by decide) rfl ?_
  refine J_iload_n dX8_doPlain_7 rfl 0 rfl ?_
  refine J_iconst (v := 3) dX8_doPlain_8 (by decide) ?_
  refine J_icmp_ge (tgt := 18) dX8_doPlain_9 rfl ?_ ?_
  · refine J_aload_n dX8_doPlain_18 rfl 1 rfl ?_
    refine J_getA dX8_doPlain_19 fl_X8_35 rfl (fun v3 => ?_)
    refine J_iload_n dX8_doPlain_22 rfl 2 rfl ?_
    refine J_iconst (v := 1) dX8_doPlain_23 (by decide) ?_
    refine J_iadd dX8_doPlain_24 ?_
    refine J_iald dX8_doPlain_25 (fun v4 => ?_)
    refine J_istore_n (env' := [(3, .int v4), (2, .int v2), (0, .ref x0), (1, .int x1)]) dX8_doPlain_26 rfl (by decide) rfl ?_
    refine J_iload_n dX8_doPlain_27 rfl 1 rfl ?_
    refine J_iconst (v := 3) dX8_doPlain_28 (by decide) ?_
    refine J_icmp_ne (tgt := 53) dX8_doPlain_29 rfl ?_ ?_
    · refine J_aload_n dX8_doPlain_53 rfl 2 rfl ?_
      refine J_iload_n dX8_doPlain_54 rfl 0 rfl ?_
      refine J_callVI (c := 7) (as := [.int v4]) dX8_doPlain_55 (by decide) rfl (Nat.le_of_ble_eq_true rfl) (cw_X8_isEmpty _ (by decide)) q1959 q1961 qs104 q1962 np_X8_isEmpty (i_X8_isEmpty x0 v4) jad_id rfl (fun v5 => ?_)
      refine J_if_eq (tgt := 63) dX8_doPlain_58 rfl ?_ ?_
      · refine J_iload_n dX8_doPlain_63 rfl 1 rfl ?_
        refine J_iconst (v := 5) dX8_doPlain_64 (by decide) ?_
        refine J_icmp_ne (tgt := 82) dX8_doPlain_65 rfl ?_ ?_
        · refine J_aload_n dX8_doPlain_82 rfl 2 rfl ?_
          refine J_aload_n dX8_doPlain_83 rfl 2 rfl ?_
          refine J_getA dX8_doPlain_84 fl_X8_35 rfl (fun v6 => ?_)
          refine J_bipush (v := 127) dX8_doPlain_87 (by decide) ?_
          refine J_iload_n dX8_doPlain_89 rfl 0 rfl ?_
          refine J_iconst (v := 1) dX8_doPlain_90 (by decide) ?_
          refine J_iadd dX8_doPlain_91 ?_
          refine J_imul dX8_doPlain_92 ?_
          refine J_aload_n dX8_doPlain_93 rfl 2 rfl ?_
          refine J_getA dX8_doPlain_94 fl_X8_35 rfl (fun v7 => ?_)
          refine J_iconst (v := 0) dX8_doPlain_97 (by decide) ?_
          refine J_callVV (c := 7) (as := [.ref v6, .int (127 * (v4 + 1)), .ref v7, .int 0]) dX8_doPlain_98 (by decide) rfl (Nat.le_of_ble_eq_true rfl) (cw_X8_move _ (by decide)) q1854 q1856 qs87 q1857 np_X8_move (i_X8_move x0 v6 (127 * (v4 + 1)) v7 0) jad_id rfl ?_
          refine J_iconst (v := 1) dX8_doPlain_101 (by decide) ?_
          exact J_zreturn1 dX8_doPlain_102 rfl
        refine J_aload_n dX8_doPlain_68 rfl 2 rfl ?_
        refine J_iload_n dX8_doPlain_69 rfl 0 rfl ?_
        refine J_callVI (c := 7) (as := [.int v4]) dX8_doPlain_70 (by decide) rfl (Nat.le_of_ble_eq_true rfl) (cw_X8_sumWith _ (by decide)) q2310 q2312 qs164 q2313 np_X8_sumWith (i_X8_sumWith x0 v4) jad_id rfl (fun v8 => ?_)
        refine J_if_ne (tgt := 80) dX8_doPlain_73 rfl ?_ ?_
        · refine J_iconst (v := 0) dX8_doPlain_80 (by decide) ?_
          exact J_zreturn0 dX8_doPlain_81 rfl
        refine J_iconst (v := 1) dX8_doPlain_76 (by decide) ?_
        refine J_goto (tgt := 81) dX8_doPlain_77 rfl ?_
        exact J_zreturn1 dX8_doPlain_81 rfl
      refine J_iconst (v := 0) dX8_doPlain_61 (by decide) ?_
      exact J_zreturn0 dX8_doPlain_62 rfl
    refine J_aload_n dX8_doPlain_32 rfl 2 rfl ?_
    refine J_aload_n dX8_doPlain_33 rfl 2 rfl ?_
    refine J_getA dX8_doPlain_34 fl_X8_35 rfl (fun v9 => ?_)
    refine J_iconst (v := 0) dX8_doPlain_37 (by decide) ?_
    refine J_aload_n dX8_doPlain_38 rfl 2 rfl ?_
    refine J_getA dX8_doPlain_39 fl_X8_35 rfl (fun v10 => ?_)
    refine J_bipush (v := 127) dX8_doPlain_42 (by decide) ?_
    refine J_iload_n dX8_doPlain_44 rfl 0 rfl ?_
    refine J_iconst (v := 1) dX8_doPlain_45 (by decide) ?_
    refine J_iadd dX8_doPlain_46 ?_
    refine J_imul dX8_doPlain_47 ?_
    refine J_callVV (c := 7) (as := [.ref v9, .int 0, .ref v10, .int (127 * (v4 + 1))]) dX8_doPlain_48 (by decide) rfl (Nat.le_of_ble_eq_true rfl) (cw_X8_move _ (by decide)) q1854 q1856 qs87 q1857 np_X8_move (i_X8_move x0 v9 0 v10 (127 * (v4 + 1))) jad_id rfl ?_
    refine J_iconst (v := 1) dX8_doPlain_51 (by decide) ?_
    exact J_zreturn1 dX8_doPlain_52 rfl
  refine J_aload_n dX8_doPlain_12 rfl 1 rfl ?_
  refine J_iload_n dX8_doPlain_13 rfl 2 rfl ?_
  refine J_callVI (c := 7) (as := [.int x1]) dX8_doPlain_14 (by decide) rfl (Nat.le_of_ble_eq_true rfl) (cw_X8_linear _ (by decide)) q2410 q2412 qs184 q2413 np_X8_linear (i_X8_linear x0 x1) jad_id rfl (fun v11 => ?_)
  exact J_zreturn dX8_doPlain_17 rfl
theorem i_X8_doPlain (x0 : Nat) (x1 : Int32) : Impl (ws_ yX8_doPlain cX8_doPlain 4 (some .boolean)) yX8_doPlain 6 false 0 0 [.ref x0, .int x1] (f_X8_doPlain x0 x1) injI := impl_of (plainFor_of_name (by decide)) (Nat.le_of_ble_eq_true rfl) (fun D dA => j_X8_doPlain D dA x0 x1)
theorem cw_X8_doPlain (Y : JY) (h : 7 ≤ Y.2.2.2.1) : JCw Y (ws_ yX8_doPlain cX8_doPlain 4 (some .boolean)) yX8_doPlain cX8_doPlain 4 (some .boolean) 6 := ⟨h, by decide, lw_meth q2409, q198, by decide, by decide⟩
theorem np_X8_doPlain : JNp yX8_doPlain.desc 1 := by decide +kernel
-- BracketRoomModel.doAll(II)V
abbrev Y_X8_doAll (dd : Nat) : JY := (cX8_doAll, yX8_doAll.cls, 4, dd + 1, yX8_doAll.name, none, [])
theorem np_X8_doAll : JNp yX8_doAll.desc 2 := by decide +kernel
theorem np_X8_doOne : JNp yX8_doOne.desc 1 := by decide +kernel
noncomputable def X8_doAll_L2 (r_doOne : Nat → Int32 → JM Mem Unit) (x0 : Nat) (x2 : Int32) (x3 : Int32) : JM Mem (Unit ⊕ (Int32)) :=
  if x2 ≤ x3 then
    jinl (jp ())
  else
  jb (jgetI 7 50 x0) fun v1 =>
  if v1 = 0 then
    jb (jcall 7 x0 (r_doOne x0 x3)) fun _ =>
    jb (jgetA 7 19 x0) fun v2 =>
    jb (jald mI 0 v2 ((637 + (7 * x3)) + 6)) fun v3 =>
    jcont v3
  else
    jinl (jp ())
theorem j_X8_doAll_L2 (D : va_G) (dA : Nat → ClassId) (dd : Nat) (hdd : 17 ≤ dd) (r_doOne : Nat → Int32 → JM Mem Unit) (h_doOne : ∀ a0 a1, Impl (ws_ yX8_doOne cX8_doOne 4 none) yX8_doOne dd false 0 0 [.ref a0, .int a1] (r_doOne a0 a1) injU) (x0 : Nat) (x2 : Int32) (x3 : Int32) : J (PM D dA false) (Y_X8_doAll dd) [(0, .ref x0), (2, .int x2), (3, .int x3)] [] 2 (X8_doAll_L2 r_doOne x0 x2 x3) (FLoop (FRet injU) 2 (fun (t : Int32) => [(0, .ref x0), (2, .int x2), (3, .int t)])) := by
  unfold X8_doAll_L2
  refine J_iload_n dX8_doAll_2 rfl 2 rfl ?_
  refine J_iload_n dX8_doAll_3 rfl 1 rfl ?_
  refine J_icmp_ge (tgt := 39) dX8_doAll_4 rfl ?_ ?_
  · refine J_inl ?_
    exact J_return dX8_doAll_39 rfl
  refine J_aload_n dX8_doAll_7 rfl 0 rfl ?_
  refine J_getI dX8_doAll_8 fl_X8_673 rfl (fun v1 => ?_)
  refine J_if_ne (tgt := 39) dX8_doAll_11 rfl ?_ ?_
  · refine J_inl ?_
    exact J_return dX8_doAll_39 rfl
  refine J_aload_n dX8_doAll_14 rfl 0 rfl ?_
  refine J_iload_n dX8_doAll_15 rfl 2 rfl ?_
  refine J_callVV (c := 7) (as := [.int x3]) dX8_doAll_16 (by decide) rfl (Nat.le_of_ble_eq_true rfl) ⟨Nat.le_refl _, by decide, lw_meth q2397, q198, by decide, by decide⟩ q2394 q2396 qs180 q2397 np_X8_doOne (h_doOne x0 x3) jad_id rfl ?_
  refine J_aload_n dX8_doAll_19 rfl 0 rfl ?_
  refine J_getA dX8_doAll_20 fl_X8_35 rfl (fun v2 => ?_)
  refine J_sipush (v := 637) dX8_doAll_23 (by decide) ?_
  refine J_bipush (v := 7) dX8_doAll_26 (by decide) ?_
  refine J_iload_n dX8_doAll_28 rfl 2 rfl ?_
  refine J_imul dX8_doAll_29 ?_
  refine J_iadd dX8_doAll_30 ?_
  refine J_bipush (v := 6) dX8_doAll_31 (by decide) ?_
  refine J_iadd dX8_doAll_33 ?_
  refine J_iald dX8_doAll_34 (fun v3 => ?_)
  refine J_istore_n (env' := [(3, .int v3), (0, .ref x0), (2, .int x2)]) dX8_doAll_35 rfl (Nat.le_of_ble_eq_true rfl) rfl ?_
  refine J_goto (tgt := 2) dX8_doAll_36 rfl ?_
  exact J_cont [1, 2, 0] rfl
noncomputable def e_X8_doAll (r_doOne : Nat → Int32 → JM Mem Unit) (x0 : Nat) (x1 : Int32) (x2 : Int32) : JM Mem Unit :=
  jloop (fun (t : Int32) => X8_doAll_L2 r_doOne x0 x2 t) x1
theorem j_X8_doAll (D : va_G) (dA : Nat → ClassId) (dd : Nat) (hdd : 17 ≤ dd) (r_doOne : Nat → Int32 → JM Mem Unit) (h_doOne : ∀ a0 a1, Impl (ws_ yX8_doOne cX8_doOne 4 none) yX8_doOne dd false 0 0 [.ref a0, .int a1] (r_doOne a0 a1) injU) (x0 : Nat) (x1 : Int32) (x2 : Int32) : J (PM D dA false) (Y_X8_doAll dd) [(0, .ref x0), (1, .int x1), (2, .int x2)] [] 0 (e_X8_doAll r_doOne x0 x1 x2) (FRet injU) := by
  unfold e_X8_doAll
  refine J_iload_n dX8_doAll_0 rfl 1 rfl ?_
  refine J_istore_n (env' := [(3, .int x1), (0, .ref x0), (1, .int x1), (2, .int x2)]) dX8_doAll_1 rfl (Nat.le_of_ble_eq_true rfl) rfl ?_
  refine J_loop (he := fun (t : Int32) => [(0, .ref x0), (2, .int x2), (3, .int t)]) [1, 3, 0] rfl (fun t => ?_)
  exact j_X8_doAll_L2 D dA dd hdd r_doOne h_doOne x0 x2 t
abbrev Y_X8_doOne (dd : Nat) : JY := (cX8_doOne, yX8_doOne.cls, 4, dd + 1, yX8_doOne.name, none, [])
noncomputable def X8_doOne_L95 (r_doAll : Nat → Int32 → Int32 → JM Mem Unit) (x0 : Nat) (x1 : Int32) (x2 : Int32) (x3 : Int32) : JM Mem (Unit ⊕ (Int32)) :=
  jb (jgetA 7 19 x0) fun v12 =>
  jb (jald mI 0 v12 (x2 + 1)) fun v13 =>
  if v13 ≤ x3 then
    jinl (jp ())
  else
  jb (jgetI 7 50 x0) fun v14 =>
  if v14 = 0 then
    jb (jgetA 7 19 x0) fun v15 =>
    jb (jald mI 0 v15 (x2 + 6)) fun v16 =>
    jb (jcall 7 x0 (r_doAll x0 (x1 + 1) v16)) fun _ =>
    jcont (x3 + 1)
  else
    jinl (jp ())
theorem j_X8_doOne_L95 (D : va_G) (dA : Nat → ClassId) (dd : Nat) (hdd : 17 ≤ dd) (r_doAll : Nat → Int32 → Int32 → JM Mem Unit) (h_doAll : ∀ a0 a1 a2, Impl (ws_ yX8_doAll cX8_doAll 4 none) yX8_doAll dd false 0 0 [.ref a0, .int a1, .int a2] (r_doAll a0 a1 a2) injU) (x0 : Nat) (x1 : Int32) (x2 : Int32) (x3 : Int32) : J (PM D dA false) (Y_X8_doOne dd) [(0, .ref x0), (1, .int x1), (2, .int x2), (3, .int x3)] [] 95 (X8_doOne_L95 r_doAll x0 x1 x2 x3) (FLoop (FRet injU) 95 (fun (t : Int32) => [(0, .ref x0), (1, .int x1), (2, .int x2), (3, .int t)])) := by
  unfold X8_doOne_L95
  refine J_iload_n dX8_doOne_95 rfl 3 rfl ?_
  refine J_aload_n dX8_doOne_96 rfl 0 rfl ?_
  refine J_getA dX8_doOne_97 fl_X8_35 rfl (fun v12 => ?_)
  refine J_iload_n dX8_doOne_100 rfl 2 rfl ?_
  refine J_iconst (v := 1) dX8_doOne_101 (by decide) ?_
  refine J_iadd dX8_doOne_102 ?_
  refine J_iald dX8_doOne_103 (fun v13 => ?_)
  refine J_icmp_ge (tgt := 136) dX8_doOne_104 rfl ?_ ?_
  · refine J_inl ?_
    refine J_goto (tgt := 176) dX8_doOne_136 rfl ?_
    exact J_return dX8_doOne_176 rfl
  refine J_aload_n dX8_doOne_107 rfl 0 rfl ?_
  refine J_getI dX8_doOne_108 fl_X8_673 rfl (fun v14 => ?_)
  refine J_if_ne (tgt := 136) dX8_doOne_111 rfl ?_ ?_
  · refine J_inl ?_
    refine J_goto (tgt := 176) dX8_doOne_136 rfl ?_
    exact J_return dX8_doOne_176 rfl
  refine J_aload_n dX8_doOne_114 rfl 0 rfl ?_
  refine J_iload_n dX8_doOne_115 rfl 1 rfl ?_
  refine J_iconst (v := 1) dX8_doOne_116 (by decide) ?_
  refine J_iadd dX8_doOne_117 ?_
  refine J_aload_n dX8_doOne_118 rfl 0 rfl ?_
  refine J_getA dX8_doOne_119 fl_X8_35 rfl (fun v15 => ?_)
  refine J_iload_n dX8_doOne_122 rfl 2 rfl ?_
  refine J_bipush (v := 6) dX8_doOne_123 (by decide) ?_
  refine J_iadd dX8_doOne_125 ?_
  refine J_iald dX8_doOne_126 (fun v16 => ?_)
  refine J_callVV (c := 7) (as := [.int (x1 + 1), .int v16]) dX8_doOne_127 (by decide) rfl (Nat.le_of_ble_eq_true rfl) ⟨Nat.le_refl _, by decide, lw_meth q2393, q198, by decide, by decide⟩ q2390 q2392 qs179 q2393 np_X8_doAll (h_doAll x0 (x1 + 1) v16) jad_id rfl ?_
  refine J_iinc (v := x3 + 1) (env' := [(3, .int (x3 + 1)), (0, .ref x0), (1, .int x1), (2, .int x2)]) dX8_doOne_130 3 rfl rfl (Nat.le_of_ble_eq_true rfl) rfl ?_
  refine J_goto (tgt := 95) dX8_doOne_133 rfl ?_
  exact J_cont [1, 2, 3, 0] rfl
noncomputable def e_X8_doOne (r_doAll : Nat → Int32 → Int32 → JM Mem Unit) (x0 : Nat) (x1 : Int32) : JM Mem Unit :=
  jb (jgetI 7 51 x0) fun v1 =>
  if v1 = 300 then
    jb (jputI 7 53 x0 1) fun _ =>
    jb (jputZ 7 50 x0 1) fun _ =>
    jp ()
  else
  jb (jgetI 7 51 x0) fun v2 =>
  jb (jputI 7 51 x0 (v2 + 1)) fun _ =>
  jlet (637 + (7 * x1)) fun y3 =>
  jb (jcall 7 x0 (f_X8_askNow x0)) fun _ =>
  jb (jgetA 7 19 x0) fun v4 =>
  jb (jald mI 0 v4 y3) fun v5 =>
  if v5 = 6 then
    jb (jcall 7 x0 (f_X8_isSoNow x0 y3)) fun v17 =>
    if v17 = 0 then
      jp ()
    else
    jb (jgetA 7 19 x0) fun v18 =>
    jb (jald mI 0 v18 (y3 + 6)) fun v19 =>
    jb (jcall 7 x0 (r_doAll x0 (x1 + 1) v19)) fun _ =>
    jp ()
  else
  jb (jgetA 7 19 x0) fun v6 =>
  jb (jald mI 0 v6 y3) fun v7 =>
  if v7 = 7 then
    jloop (fun (t : Int32) => X8_doOne_L95 r_doAll x0 x1 y3 t) 0
  else
  jb (jgetA 7 19 x0) fun v8 =>
  jb (jald mI 0 v8 y3) fun v9 =>
  if v9 ≤ 7 then
    jb (jcall 7 x0 (f_X8_doPlain x0 y3)) fun v10 =>
    if v10 = 0 then
      jb (jgetI 7 52 x0) fun v11 =>
      jb (jputI 7 52 x0 (v11 + 1)) fun _ =>
      jp ()
    else
      jp ()
  else
  jb (jputZ 7 50 x0 1) fun _ =>
  jp ()
theorem j_X8_doOne (D : va_G) (dA : Nat → ClassId) (dd : Nat) (hdd : 17 ≤ dd) (r_doAll : Nat → Int32 → Int32 → JM Mem Unit) (h_doAll : ∀ a0 a1 a2, Impl (ws_ yX8_doAll cX8_doAll 4 none) yX8_doAll dd false 0 0 [.ref a0, .int a1, .int a2] (r_doAll a0 a1 a2) injU) (x0 : Nat) (x1 : Int32) : J (PM D dA false) (Y_X8_doOne dd) [(0, .ref x0), (1, .int x1)] [] 0 (e_X8_doOne r_doAll x0 x1) (FRet injU) := by
  unfold e_X8_doOne
  refine J_aload_n dX8_doOne_0 rfl 0 rfl ?_
  refine J_getI dX8_doOne_1 fl_X8_667 rfl (fun v1 => ?_)
  refine J_sipush (v := 300) dX8_doOne_4 (by decide) ?_
  refine J_icmp_ne (tgt := 21) dX8_doOne_7 rfl ?_ ?_
  · refine J_aload_n dX8_doOne_21 rfl 0 rfl ?_
    refine J_dup dX8_doOne_22 rfl ?_
    refine J_getI dX8_doOne_23 fl_X8_667 rfl (fun v2 => ?_)
    refine J_iconst (v := 1) dX8_doOne_26 (by decide) ?_
    refine J_iadd dX8_doOne_27 ?_
    refine J_putI dX8_doOne_28 ⟨fl_X8_667, Or.inl rfl⟩ rfl ?_
    refine J_sipush (v := 637) dX8_doOne_31 (by decide) ?_
    refine J_bipush (v := 7) dX8_doOne_34 (by decide) ?_
    refine J_iload_n dX8_doOne_36 rfl 1 rfl ?_
    refine J_imul dX8_doOne_37 ?_
    refine J_iadd dX8_doOne_38 ?_
    refine J_letI (fun y3 => ?_)
    refine J_istore_n (env' := [(2, .int y3), (0, .ref x0), (1, .int x1)]) dX8_doOne_39 rfl (Nat.le_of_ble_eq_true rfl) rfl ?_
    refine J_aload_n dX8_doOne_40 rfl 1 rfl ?_
    refine J_callVV (c := 7) (as := []) dX8_doOne_41 (by decide) rfl (Nat.le_of_ble_eq_true rfl) (cw_X8_askNow _ (Nat.succ_le_succ (Nat.le_trans (by decide) hdd))) q1862 q1864 qs88 q1865 np_X8_askNow (i_X8_askNow x0) jad_id rfl ?_
    refine J_aload_n dX8_doOne_44 rfl 1 rfl ?_
    refine J_getA dX8_doOne_45 fl_X8_35 rfl (fun v4 => ?_)
    refine J_iload_n dX8_doOne_48 rfl 0 rfl ?_
    refine J_iald dX8_doOne_49 (fun v5 => ?_)
    refine J_bipush (v := 6) dX8_doOne_50 (by decide) ?_
    refine J_icmp_ne (tgt := 82) dX8_doOne_52 rfl ?_ ?_
    · refine J_aload_n dX8_doOne_82 rfl 1 rfl ?_
      refine J_getA dX8_doOne_83 fl_X8_35 rfl (fun v6 => ?_)
      refine J_iload_n dX8_doOne_86 rfl 0 rfl ?_
      refine J_iald dX8_doOne_87 (fun v7 => ?_)
      refine J_bipush (v := 7) dX8_doOne_88 (by decide) ?_
      refine J_icmp_ne (tgt := 139) dX8_doOne_90 rfl ?_ ?_
      · refine J_aload_n dX8_doOne_139 rfl 1 rfl ?_
        refine J_getA dX8_doOne_140 fl_X8_35 rfl (fun v8 => ?_)
        refine J_iload_n dX8_doOne_143 rfl 0 rfl ?_
        refine J_iald dX8_doOne_144 (fun v9 => ?_)
        refine J_bipush (v := 7) dX8_doOne_145 (by decide) ?_
        refine J_icmp_le (tgt := 158) dX8_doOne_147 rfl ?_ ?_
        · refine J_aload_n dX8_doOne_158 rfl 1 rfl ?_
          refine J_iload_n dX8_doOne_159 rfl 0 rfl ?_
          refine J_callVI (c := 7) (as := [.int y3]) dX8_doOne_160 (by decide) rfl (Nat.le_of_ble_eq_true rfl) (cw_X8_doPlain _ (Nat.succ_le_succ (Nat.le_trans (by decide) hdd))) q2406 q2408 qs183 q2409 np_X8_doPlain (i_X8_doPlain x0 y3) jad_id rfl (fun v10 => ?_)
          refine J_if_ne (tgt := 176) dX8_doOne_163 rfl ?_ ?_
          · exact J_return dX8_doOne_176 rfl
          refine J_aload_n dX8_doOne_166 rfl 1 rfl ?_
          refine J_dup dX8_doOne_167 rfl ?_
          refine J_getI dX8_doOne_168 fl_X8_685 rfl (fun v11 => ?_)
          refine J_iconst (v := 1) dX8_doOne_171 (by decide) ?_
          refine J_iadd dX8_doOne_172 ?_
          refine J_putI dX8_doOne_173 ⟨fl_X8_685, Or.inl rfl⟩ rfl ?_
          exact J_return dX8_doOne_176 rfl
        refine J_aload_n dX8_doOne_150 rfl 1 rfl ?_
        refine J_iconst (v := 1) dX8_doOne_151 (by decide) ?_
        refine J_putZ dX8_doOne_152 ⟨fl_X8_673, Or.inl rfl⟩ rfl ?_
        refine J_goto (tgt := 176) dX8_doOne_155 rfl ?_
        exact J_return dX8_doOne_176 rfl
      refine J_iconst (v := 0) dX8_doOne_93 (by decide) ?_
      refine J_istore_n (env' := [(3, .int 0), (2, .int y3), (0, .ref x0), (1, .int x1)]) dX8_doOne_94 rfl (Nat.le_of_ble_eq_true rfl) rfl ?_
      refine J_loop (he := fun (t : Int32) => [(0, .ref x0), (1, .int x1), (2, .int y3), (3, .int t)]) [2, 3, 1, 0] rfl (fun t => ?_)
      exact j_X8_doOne_L95 D dA dd hdd r_doAll h_doAll x0 x1 y3 t
    refine J_aload_n dX8_doOne_55 rfl 1 rfl ?_
    refine J_iload_n dX8_doOne_56 rfl 0 rfl ?_
    refine J_callVI (c := 7) (as := [.int y3]) dX8_doOne_57 (by decide) rfl (Nat.le_of_ble_eq_true rfl) (cw_X8_isSoNow _ (Nat.succ_le_succ (Nat.le_trans (by decide) hdd))) q2398 q2400 qs181 q2401 np_X8_isSoNow (i_X8_isSoNow x0 y3) jad_id rfl (fun v17 => ?_)
    refine J_if_eq (tgt := 176) dX8_doOne_60 rfl ?_ ?_
    · exact J_return dX8_doOne_176 rfl
    refine J_aload_n dX8_doOne_63 rfl 1 rfl ?_
    refine J_iload_n dX8_doOne_64 rfl 2 rfl ?_
    refine J_iconst (v := 1) dX8_doOne_65 (by decide) ?_
    refine J_iadd dX8_doOne_66 ?_
    refine J_aload_n dX8_doOne_67 rfl 1 rfl ?_
    refine J_getA dX8_doOne_68 fl_X8_35 rfl (fun v18 => ?_)
    refine J_iload_n dX8_doOne_71 rfl 0 rfl ?_
    refine J_bipush (v := 6) dX8_doOne_72 (by decide) ?_
    refine J_iadd dX8_doOne_74 ?_
    refine J_iald dX8_doOne_75 (fun v19 => ?_)
    refine J_callVV (c := 7) (as := [.int (x1 + 1), .int v19]) dX8_doOne_76 (by decide) rfl (Nat.le_of_ble_eq_true rfl) ⟨Nat.le_refl _, by decide, lw_meth q2393, q198, by decide, by decide⟩ q2390 q2392 qs179 q2393 np_X8_doAll (h_doAll x0 (x1 + 1) v19) jad_id rfl ?_
    refine J_goto (tgt := 176) dX8_doOne_79 rfl ?_
    exact J_return dX8_doOne_176 rfl
  refine J_aload_n dX8_doOne_10 rfl 0 rfl ?_
  refine J_iconst (v := 1) dX8_doOne_11 (by decide) ?_
  refine J_putI dX8_doOne_12 ⟨fl_X8_670, Or.inl rfl⟩ rfl ?_
  refine J_aload_n dX8_doOne_15 rfl 0 rfl ?_
  refine J_iconst (v := 1) dX8_doOne_16 (by decide) ?_
  refine J_putZ dX8_doOne_17 ⟨fl_X8_673, Or.inl rfl⟩ rfl ?_
  exact J_return dX8_doOne_20 rfl
noncomputable def f_X8_doOne : Nat → Nat → Int32 → JM Mem Unit
  | 0 => fun _ _ => jfail
  | n + 1 => fun x0 x1 => e_X8_doOne (e_X8_doAll (f_X8_doOne n)) x0 x1
theorem i_X8_doAll_of (dd : Nat) (hdd : 17 ≤ dd) (r_doOne : Nat → Int32 → JM Mem Unit) (h_doOne : ∀ a0 a1, Impl (ws_ yX8_doOne cX8_doOne 4 none) yX8_doOne dd false 0 0 [.ref a0, .int a1] (r_doOne a0 a1) injU) : ∀ (x0 : Nat) (x1 : Int32) (x2 : Int32), Impl (ws_ yX8_doAll cX8_doAll 4 none) yX8_doAll (dd + 1) false 0 0 [.ref x0, .int x1, .int x2] (e_X8_doAll r_doOne x0 x1 x2) injU := fun x0 x1 x2 => impl_of (plainFor_of_name (by decide)) (Nat.le_of_ble_eq_true rfl) (fun D dA => j_X8_doAll D dA dd hdd r_doOne h_doOne x0 x1 x2)
theorem i_X8_doOne (n : Nat) : ∀ (x0 : Nat) (x1 : Int32), Impl (ws_ yX8_doOne cX8_doOne 4 none) yX8_doOne (17 + 2 * n) false 0 0 [.ref x0, .int x1] (f_X8_doOne n x0 x1) injU := by
  induction n with
  | zero => intro x0 x1 l D dA M r M' hst hb hf; cases hf
  | succ n ih => intro x0 x1; exact impl_of (plainFor_of_name (by decide)) (Nat.le_of_ble_eq_true rfl) (fun D dA => j_X8_doOne D dA (17 + 2 * n + 1) (Nat.le_trans (Nat.le_add_right _ _) (Nat.le_succ _)) (e_X8_doAll (f_X8_doOne n)) (i_X8_doAll_of (17 + 2 * n) (Nat.le_add_right _ _) (f_X8_doOne n) ih) x0 x1)
noncomputable def f_X8_doAll (x0 : Nat) (x1 : Int32) (x2 : Int32) : JM Mem Unit := e_X8_doAll (f_X8_doOne 8) x0 x1 x2
theorem i_X8_doAll (x0 : Nat) (x1 : Int32) (x2 : Int32) : Impl (ws_ yX8_doAll cX8_doAll 4 none) yX8_doAll 34 false 0 0 [.ref x0, .int x1, .int x2] (f_X8_doAll x0 x1 x2) injU := i_X8_doAll_of 33 (by decide) (f_X8_doOne 8) (i_X8_doOne 8) x0 x1 x2
theorem cw_X8_doAll (Y : JY) (h : 35 ≤ Y.2.2.2.1) : JCw Y (ws_ yX8_doAll cX8_doAll 4 none) yX8_doAll cX8_doAll 4 none 34 := ⟨h, by decide, lw_meth q2393, q198, by decide, by decide⟩
-- BracketRoomModel.run()I
abbrev Y_X8_run : JY := (cX8_run, yX8_run.cls, 1, 35, yX8_run.name, (some .int), [])
noncomputable def f_X8_run (x0 : Nat) : JM Mem Int32 :=
  jb (jputI 7 1 x0 0) fun _ =>
  jb (jputI 7 0 x0 0) fun _ =>
  jb (jgetA 7 19 x0) fun v1 =>
  jb (jald mI 0 v1 635) fun v2 =>
  if v2 = 0 then
    jb (jcall 7 x0 (f_X8_refuse x0 8)) fun v10 =>
    jp v10
  else
  jb (jputI 7 51 x0 0) fun _ =>
  jb (jputI 7 52 x0 0) fun _ =>
  jb (jputI 7 53 x0 0) fun _ =>
  jb (jputZ 7 50 x0 0) fun _ =>
  jb (jgetA 7 19 x0) fun v3 =>
  jb (jald mI 0 v3 636) fun v4 =>
  jb (jcall 7 x0 (f_X8_doAll x0 0 v4)) fun _ =>
  jb (jgetA 7 48 x0) fun v5 =>
  jb (jgetI 7 52 x0) fun v6 =>
  jb (jast_i v5 0 v6) fun _ =>
  jb (jgetA 7 48 x0) fun v7 =>
  jb (jgetI 7 53 x0) fun v8 =>
  jb (jast_i v7 1 v8) fun _ =>
  jb (jputZ 7 49 x0 1) fun _ =>
  jb (jgetI 7 51 x0) fun v9 =>
  jp v9
theorem j_X8_run (D : va_G) (dA : Nat → ClassId) (x0 : Nat) : J (PM D dA false) Y_X8_run [(0, .ref x0)] [] 0 (f_X8_run x0) (FRet injI) := by
  unfold f_X8_run
  refine J_aload_n dX8_run_0 rfl 0 rfl ?_
  refine J_iconst (v := 0) dX8_run_1 (by decide) ?_
  refine J_putI dX8_run_2 ⟨fl_X8_132, Or.inl rfl⟩ rfl ?_
  refine J_aload_n dX8_run_5 rfl 0 rfl ?_
  refine J_iconst (v := 0) dX8_run_6 (by decide) ?_
  refine J_putI dX8_run_7 ⟨fl_X8_135, Or.inl rfl⟩ rfl ?_
  refine J_aload_n dX8_run_10 rfl 0 rfl ?_
  refine J_getA dX8_run_11 fl_X8_35 rfl (fun v1 => ?_)
  refine J_sipush (v := 635) dX8_run_14 (by decide) ?_
  refine J_iald dX8_run_17 (fun v2 => ?_)
  refine J_if_ne (tgt := 28) dX8_run_18 rfl ?_ ?_
  · refine J_aload_n dX8_run_28 rfl 0 rfl ?_
    refine J_iconst (v := 0) dX8_run_29 (by decide) ?_
    refine J_putI dX8_run_30 ⟨fl_X8_667, Or.inl rfl⟩ rfl ?_
    refine J_aload_n dX8_run_33 rfl 0 rfl ?_
    refine J_iconst (v := 0) dX8_run_34 (by decide) ?_
    refine J_putI dX8_run_35 ⟨fl_X8_685, Or.inl rfl⟩ rfl ?_
    refine J_aload_n dX8_run_38 rfl 0 rfl ?_
    refine J_iconst (v := 0) dX8_run_39 (by decide) ?_
    refine J_putI dX8_run_40 ⟨fl_X8_670, Or.inl rfl⟩ rfl ?_
    refine J_aload_n dX8_run_43 rfl 0 rfl ?_
    refine J_iconst (v := 0) dX8_run_44 (by decide) ?_
    refine J_putZ dX8_run_45 ⟨fl_X8_673, Or.inl rfl⟩ rfl ?_
    refine J_aload_n dX8_run_48 rfl 0 rfl ?_
    refine J_iconst (v := 0) dX8_run_49 (by decide) ?_
    refine J_aload_n dX8_run_50 rfl 0 rfl ?_
    refine J_getA dX8_run_51 fl_X8_35 rfl (fun v3 => ?_)
    refine J_sipush (v := 636) dX8_run_54 (by decide) ?_
    refine J_iald dX8_run_57 (fun v4 => ?_)
    refine J_callVV (c := 7) (as := [.int 0, .int v4]) dX8_run_58 (by decide) rfl (Nat.le_of_ble_eq_true rfl) (cw_X8_doAll _ (by decide)) q2390 q2392 qs179 q2393 np_X8_doAll (i_X8_doAll x0 0 v4) jad_id rfl ?_
    refine J_aload_n dX8_run_61 rfl 0 rfl ?_
    refine J_getA dX8_run_62 fl_X8_92 rfl (fun v5 => ?_)
    refine J_iconst (v := 0) dX8_run_65 (by decide) ?_
    refine J_aload_n dX8_run_66 rfl 0 rfl ?_
    refine J_getI dX8_run_67 fl_X8_685 rfl (fun v6 => ?_)
    refine J_iast dX8_run_70 ?_
    refine J_aload_n dX8_run_71 rfl 0 rfl ?_
    refine J_getA dX8_run_72 fl_X8_92 rfl (fun v7 => ?_)
    refine J_iconst (v := 1) dX8_run_75 (by decide) ?_
    refine J_aload_n dX8_run_76 rfl 0 rfl ?_
    refine J_getI dX8_run_77 fl_X8_670 rfl (fun v8 => ?_)
    refine J_iast dX8_run_80 ?_
    refine J_aload_n dX8_run_81 rfl 0 rfl ?_
    refine J_iconst (v := 1) dX8_run_82 (by decide) ?_
    refine J_putZ dX8_run_83 ⟨fl_X8_691, Or.inl rfl⟩ rfl ?_
    refine J_aload_n dX8_run_86 rfl 0 rfl ?_
    refine J_getI dX8_run_87 fl_X8_667 rfl (fun v9 => ?_)
    exact J_ireturn dX8_run_90 rfl
  refine J_aload_n dX8_run_21 rfl 0 rfl ?_
  refine J_bipush (v := 8) dX8_run_22 (by decide) ?_
  refine J_callVI (c := 7) (as := [.int 8]) dX8_run_24 (by decide) rfl (Nat.le_of_ble_eq_true rfl) (cw_X8_refuse _ (by decide)) q1871 q1873 qs90 q1874 np_X8_refuse (i_X8_refuse x0 8) jad_id rfl (fun v10 => ?_)
  exact J_ireturn dX8_run_27 rfl
theorem i_X8_run (x0 : Nat) : Impl (ws_ yX8_run cX8_run 1 (some .int)) yX8_run 35 false 0 0 [.ref x0] (f_X8_run x0) injI := impl_of (plainFor_of_name (by decide)) (Nat.le_of_ble_eq_true rfl) (fun D dA => j_X8_run D dA x0)
theorem cw_X8_run (Y : JY) (h : 36 ≤ Y.2.2.2.1) : JCw Y (ws_ yX8_run cX8_run 1 (some .int)) yX8_run cX8_run 1 (some .int) 35 := ⟨h, by decide, lw_meth q2389, q198, by decide, by decide⟩
theorem np_X8_run : JNp yX8_run.desc 0 := by decide +kernel
-- BracketRoomModel.ran(I)I
abbrev Y_X8_ran : JY := (cX8_ran, yX8_ran.cls, 2, 2, yX8_ran.name, (some .int), [])
noncomputable def f_X8_ran (x0 : Nat) (x1 : Int32) : JM Mem Int32 :=
  jb (jputI 7 1 x0 0) fun _ =>
  jb (jputI 7 0 x0 0) fun _ =>
  jb ((f_X8_isIn ((x1 : Int32).toInt64) 0 1)) fun v1 =>
  if v1 = 0 then
    jb (jcall 7 x0 (f_X8_refuse x0 5)) fun v6 =>
    jp v6
  else
  jb (jgetI 7 49 x0) fun v2 =>
  if v2 = 0 then
    jb (jcall 7 x0 (f_X8_refuse x0 8)) fun v3 =>
    jp v3
  else
  jb (jgetA 7 48 x0) fun v4 =>
  jb (jald mI 0 v4 x1) fun v5 =>
  jp v5
theorem j_X8_ran (D : va_G) (dA : Nat → ClassId) (x0 : Nat) (x1 : Int32) : J (PM D dA false) Y_X8_ran [(0, .ref x0), (1, .int x1)] [] 0 (f_X8_ran x0 x1) (FRet injI) := by
  unfold f_X8_ran
  refine J_aload_n dX8_ran_0 rfl 0 rfl ?_
  refine J_iconst (v := 0) dX8_ran_1 (by decide) ?_
  refine J_putI dX8_ran_2 ⟨fl_X8_132, Or.inl rfl⟩ rfl ?_
  refine J_aload_n dX8_ran_5 rfl 0 rfl ?_
  refine J_iconst (v := 0) dX8_ran_6 (by decide) ?_
  refine J_putI dX8_ran_7 ⟨fl_X8_135, Or.inl rfl⟩ rfl ?_
  refine J_iload_n dX8_ran_10 rfl 1 rfl ?_
  refine J_i2l dX8_ran_11 ?_
  refine J_lconst (v := 0) dX8_ran_12 (by decide) ?_
  refine J_lconst (v := 1) dX8_ran_13 (by decide) ?_
  refine J_callSI (host := "") (as := [.long ((x1 : Int32).toInt64), .long 0, .long 1]) dX8_ran_14 rfl (Nat.le_of_ble_eq_true rfl) (cw_X8_isIn _ (by decide)) q1801 q1802 q1803 np_X8_isIn (i_X8_isIn ((x1 : Int32).toInt64) 0 1) jad_id rfl (fun v1 => ?_)
  refine J_if_ne (tgt := 26) dX8_ran_17 rfl ?_ ?_
  · refine J_aload_n dX8_ran_26 rfl 0 rfl ?_
    refine J_getI dX8_ran_27 fl_X8_691 rfl (fun v2 => ?_)
    refine J_if_eq (tgt := 42) dX8_ran_30 rfl ?_ ?_
    · refine J_aload_n dX8_ran_42 rfl 0 rfl ?_
      refine J_bipush (v := 8) dX8_ran_43 (by decide) ?_
      refine J_callVI (c := 7) (as := [.int 8]) dX8_ran_45 (by decide) rfl (Nat.le_of_ble_eq_true rfl) (cw_X8_refuse _ (by decide)) q1871 q1873 qs90 q1874 np_X8_refuse (i_X8_refuse x0 8) jad_id rfl (fun v3 => ?_)
      exact J_ireturn dX8_ran_48 rfl
    refine J_aload_n dX8_ran_33 rfl 0 rfl ?_
    refine J_getA dX8_ran_34 fl_X8_92 rfl (fun v4 => ?_)
    refine J_iload_n dX8_ran_37 rfl 1 rfl ?_
    refine J_iald dX8_ran_38 (fun v5 => ?_)
    refine J_goto (tgt := 48) dX8_ran_39 rfl ?_
    exact J_ireturn dX8_ran_48 rfl
  refine J_aload_n dX8_ran_20 rfl 0 rfl ?_
  refine J_iconst (v := 5) dX8_ran_21 (by decide) ?_
  refine J_callVI (c := 7) (as := [.int 5]) dX8_ran_22 (by decide) rfl (Nat.le_of_ble_eq_true rfl) (cw_X8_refuse _ (by decide)) q1871 q1873 qs90 q1874 np_X8_refuse (i_X8_refuse x0 5) jad_id rfl (fun v6 => ?_)
  exact J_ireturn dX8_ran_25 rfl
theorem i_X8_ran (x0 : Nat) (x1 : Int32) : Impl (ws_ yX8_ran cX8_ran 2 (some .int)) yX8_ran 2 false 0 0 [.ref x0, .int x1] (f_X8_ran x0 x1) injI := impl_of (plainFor_of_name (by decide)) (Nat.le_of_ble_eq_true rfl) (fun D dA => j_X8_ran D dA x0 x1)
theorem cw_X8_ran (Y : JY) (h : 3 ≤ Y.2.2.2.1) : JCw Y (ws_ yX8_ran cX8_ran 2 (some .int)) yX8_ran cX8_ran 2 (some .int) 2 := ⟨h, by decide, lw_meth q2417, q198, by decide, by decide⟩
theorem np_X8_ran : JNp yX8_ran.desc 1 := by decide +kernel
-- BracketRoomModel.copy(II)V
abbrev Y_X8_copy : JY := (cX8_copy, yX8_copy.cls, 4, 1, yX8_copy.name, none, [])
noncomputable def X8_copy_L2 (x0 : Nat) (x1 : Int32) (x2 : Int32) (x3 : Int32) : JM Mem (Unit ⊕ (Int32)) :=
  if 860 ≤ x3 then
    jinl (jp ())
  else
  jb (jgetA 7 19 x0) fun v1 =>
  jb (jgetA 7 19 x0) fun v2 =>
  jb (jald mI 0 v2 ((860 * x1) + x3)) fun v3 =>
  jb (jast_i v1 ((860 * x2) + x3) v3) fun _ =>
  jcont (x3 + 1)
theorem j_X8_copy_L2 (D : va_G) (dA : Nat → ClassId) (x0 : Nat) (x1 : Int32) (x2 : Int32) (x3 : Int32) : J (PM D dA false) Y_X8_copy [(0, .ref x0), (1, .int x1), (2, .int x2), (3, .int x3)] [] 2 (X8_copy_L2 x0 x1 x2 x3) (FLoop (FRet injU) 2 (fun (t : Int32) => [(0, .ref x0), (1, .int x1), (2, .int x2), (3, .int t)])) := by
  unfold X8_copy_L2
  refine J_iload_n dX8_copy_2 rfl 3 rfl ?_
  refine J_sipush (v := 860) dX8_copy_3 (by decide) ?_
  refine J_icmp_ge (tgt := 39) dX8_copy_6 rfl ?_ ?_
  · refine J_inl ?_
    exact J_return dX8_copy_39 rfl
  refine J_aload_n dX8_copy_9 rfl 0 rfl ?_
  refine J_getA dX8_copy_10 fl_X8_35 rfl (fun v1 => ?_)
  refine J_sipush (v := 860) dX8_copy_13 (by decide) ?_
  refine J_iload_n dX8_copy_16 rfl 2 rfl ?_
  refine J_imul dX8_copy_17 ?_
  refine J_iload_n dX8_copy_18 rfl 3 rfl ?_
  refine J_iadd dX8_copy_19 ?_
  refine J_aload_n dX8_copy_20 rfl 0 rfl ?_
  refine J_getA dX8_copy_21 fl_X8_35 rfl (fun v2 => ?_)
  refine J_sipush (v := 860) dX8_copy_24 (by decide) ?_
  refine J_iload_n dX8_copy_27 rfl 1 rfl ?_
  refine J_imul dX8_copy_28 ?_
  refine J_iload_n dX8_copy_29 rfl 3 rfl ?_
  refine J_iadd dX8_copy_30 ?_
  refine J_iald dX8_copy_31 (fun v3 => ?_)
  refine J_iast dX8_copy_32 ?_
  refine J_iinc (v := x3 + 1) (env' := [(3, .int (x3 + 1)), (0, .ref x0), (1, .int x1), (2, .int x2)]) dX8_copy_33 3 rfl rfl (by decide) rfl ?_
  refine J_goto (tgt := 2) dX8_copy_36 rfl ?_
  exact J_cont [1, 2, 3, 0] rfl
noncomputable def f_X8_copy (x0 : Nat) (x1 : Int32) (x2 : Int32) : JM Mem Unit :=
  jloop (fun (t : Int32) => X8_copy_L2 x0 x1 x2 t) 0
theorem j_X8_copy (D : va_G) (dA : Nat → ClassId) (x0 : Nat) (x1 : Int32) (x2 : Int32) : J (PM D dA false) Y_X8_copy [(0, .ref x0), (1, .int x1), (2, .int x2)] [] 0 (f_X8_copy x0 x1 x2) (FRet injU) := by
  unfold f_X8_copy
  refine J_iconst (v := 0) dX8_copy_0 (by decide) ?_
  refine J_istore_n (env' := [(3, .int 0), (0, .ref x0), (1, .int x1), (2, .int x2)]) dX8_copy_1 rfl (by decide) rfl ?_
  refine J_loop (he := fun (t : Int32) => [(0, .ref x0), (1, .int x1), (2, .int x2), (3, .int t)]) [1, 2, 3, 0] rfl (fun t => ?_)
  exact j_X8_copy_L2 D dA x0 x1 x2 t
theorem i_X8_copy (x0 : Nat) (x1 : Int32) (x2 : Int32) : Impl (ws_ yX8_copy cX8_copy 4 none) yX8_copy 1 false 0 0 [.ref x0, .int x1, .int x2] (f_X8_copy x0 x1 x2) injU := impl_of (plainFor_of_name (by decide)) (Nat.le_of_ble_eq_true rfl) (fun D dA => j_X8_copy D dA x0 x1 x2)
theorem cw_X8_copy (Y : JY) (h : 2 ≤ Y.2.2.2.1) : JCw Y (ws_ yX8_copy cX8_copy 4 none) yX8_copy cX8_copy 4 none 1 := ⟨h, by decide, lw_meth q2425, q198, by decide, by decide⟩
theorem np_X8_copy : JNp yX8_copy.desc 2 := by decide +kernel
-- BracketRoomModel.mark()I
abbrev Y_X8_mark : JY := (cX8_mark, yX8_mark.cls, 1, 2, yX8_mark.name, (some .int), [])
noncomputable def f_X8_mark (x0 : Nat) : JM Mem Int32 :=
  jb (jputI 7 1 x0 0) fun _ =>
  jb (jputI 7 0 x0 0) fun _ =>
  jb (jgetI 7 23 x0) fun v1 =>
  if v1 = 3 then
    jb (jcall 7 x0 (f_X8_refuse x0 7)) fun v5 =>
    jp v5
  else
  jb (jgetI 7 23 x0) fun v2 =>
  jb (jputI 7 23 x0 (v2 + 1)) fun _ =>
  jb (jgetI 7 23 x0) fun v3 =>
  jb (jcall 7 x0 (f_X8_copy x0 0 v3)) fun _ =>
  jb (jgetI 7 23 x0) fun v4 =>
  jp v4
theorem j_X8_mark (D : va_G) (dA : Nat → ClassId) (x0 : Nat) : J (PM D dA false) Y_X8_mark [(0, .ref x0)] [] 0 (f_X8_mark x0) (FRet injI) := by
  unfold f_X8_mark
  refine J_aload_n dX8_mark_0 rfl 0 rfl ?_
  refine J_iconst (v := 0) dX8_mark_1 (by decide) ?_
  refine J_putI dX8_mark_2 ⟨fl_X8_132, Or.inl rfl⟩ rfl ?_
  refine J_aload_n dX8_mark_5 rfl 0 rfl ?_
  refine J_iconst (v := 0) dX8_mark_6 (by decide) ?_
  refine J_putI dX8_mark_7 ⟨fl_X8_135, Or.inl rfl⟩ rfl ?_
  refine J_aload_n dX8_mark_10 rfl 0 rfl ?_
  refine J_getI dX8_mark_11 fl_X8_694 rfl (fun v1 => ?_)
  refine J_iconst (v := 3) dX8_mark_14 (by decide) ?_
  refine J_icmp_ne (tgt := 25) dX8_mark_15 rfl ?_ ?_
  · refine J_aload_n dX8_mark_25 rfl 0 rfl ?_
    refine J_dup dX8_mark_26 rfl ?_
    refine J_getI dX8_mark_27 fl_X8_694 rfl (fun v2 => ?_)
    refine J_iconst (v := 1) dX8_mark_30 (by decide) ?_
    refine J_iadd dX8_mark_31 ?_
    refine J_putI dX8_mark_32 ⟨fl_X8_694, Or.inl rfl⟩ rfl ?_
    refine J_aload_n dX8_mark_35 rfl 0 rfl ?_
    refine J_iconst (v := 0) dX8_mark_36 (by decide) ?_
    refine J_aload_n dX8_mark_37 rfl 0 rfl ?_
    refine J_getI dX8_mark_38 fl_X8_694 rfl (fun v3 => ?_)
    refine J_callVV (c := 7) (as := [.int 0, .int v3]) dX8_mark_41 (by decide) rfl (Nat.le_of_ble_eq_true rfl) (cw_X8_copy _ (by decide)) q2422 q2424 qs185 q2425 np_X8_copy (i_X8_copy x0 0 v3) jad_id rfl ?_
    refine J_aload_n dX8_mark_44 rfl 0 rfl ?_
    refine J_getI dX8_mark_45 fl_X8_694 rfl (fun v4 => ?_)
    exact J_ireturn dX8_mark_48 rfl
  refine J_aload_n dX8_mark_18 rfl 0 rfl ?_
  refine J_bipush (v := 7) dX8_mark_19 (by decide) ?_
  refine J_callVI (c := 7) (as := [.int 7]) dX8_mark_21 (by decide) rfl (Nat.le_of_ble_eq_true rfl) (cw_X8_refuse _ (by decide)) q1871 q1873 qs90 q1874 np_X8_refuse (i_X8_refuse x0 7) jad_id rfl (fun v5 => ?_)
  exact J_ireturn dX8_mark_24 rfl
theorem i_X8_mark (x0 : Nat) : Impl (ws_ yX8_mark cX8_mark 1 (some .int)) yX8_mark 2 false 0 0 [.ref x0] (f_X8_mark x0) injI := impl_of (plainFor_of_name (by decide)) (Nat.le_of_ble_eq_true rfl) (fun D dA => j_X8_mark D dA x0)
theorem cw_X8_mark (Y : JY) (h : 3 ≤ Y.2.2.2.1) : JCw Y (ws_ yX8_mark cX8_mark 1 (some .int)) yX8_mark cX8_mark 1 (some .int) 2 := ⟨h, by decide, lw_meth q2421, q198, by decide, by decide⟩
theorem np_X8_mark : JNp yX8_mark.desc 0 := by decide +kernel
-- BracketRoomModel.back()I
abbrev Y_X8_back : JY := (cX8_back, yX8_back.cls, 1, 2, yX8_back.name, (some .int), [])
noncomputable def f_X8_back (x0 : Nat) : JM Mem Int32 :=
  jb (jputI 7 1 x0 0) fun _ =>
  jb (jputI 7 0 x0 0) fun _ =>
  jb (jgetI 7 23 x0) fun v1 =>
  if v1 = 0 then
    jb (jcall 7 x0 (f_X8_refuse x0 8)) fun v5 =>
    jp v5
  else
  jb (jgetI 7 23 x0) fun v2 =>
  jb (jcall 7 x0 (f_X8_copy x0 v2 0)) fun _ =>
  jb (jgetI 7 23 x0) fun v3 =>
  jb (jputI 7 23 x0 (v3 - 1)) fun _ =>
  jb (jgetI 7 23 x0) fun v4 =>
  jp v4
theorem j_X8_back (D : va_G) (dA : Nat → ClassId) (x0 : Nat) : J (PM D dA false) Y_X8_back [(0, .ref x0)] [] 0 (f_X8_back x0) (FRet injI) := by
  unfold f_X8_back
  refine J_aload_n dX8_back_0 rfl 0 rfl ?_
  refine J_iconst (v := 0) dX8_back_1 (by decide) ?_
  refine J_putI dX8_back_2 ⟨fl_X8_132, Or.inl rfl⟩ rfl ?_
  refine J_aload_n dX8_back_5 rfl 0 rfl ?_
  refine J_iconst (v := 0) dX8_back_6 (by decide) ?_
  refine J_putI dX8_back_7 ⟨fl_X8_135, Or.inl rfl⟩ rfl ?_
  refine J_aload_n dX8_back_10 rfl 0 rfl ?_
  refine J_getI dX8_back_11 fl_X8_694 rfl (fun v1 => ?_)
  refine J_if_ne (tgt := 24) dX8_back_14 rfl ?_ ?_
  · refine J_aload_n dX8_back_24 rfl 0 rfl ?_
    refine J_aload_n dX8_back_25 rfl 0 rfl ?_
    refine J_getI dX8_back_26 fl_X8_694 rfl (fun v2 => ?_)
    refine J_iconst (v := 0) dX8_back_29 (by decide) ?_
    refine J_callVV (c := 7) (as := [.int v2, .int 0]) dX8_back_30 (by decide) rfl (Nat.le_of_ble_eq_true rfl) (cw_X8_copy _ (by decide)) q2422 q2424 qs185 q2425 np_X8_copy (i_X8_copy x0 v2 0) jad_id rfl ?_
    refine J_aload_n dX8_back_33 rfl 0 rfl ?_
    refine J_dup dX8_back_34 rfl ?_
    refine J_getI dX8_back_35 fl_X8_694 rfl (fun v3 => ?_)
    refine J_iconst (v := 1) dX8_back_38 (by decide) ?_
    refine J_isub dX8_back_39 ?_
    refine J_putI dX8_back_40 ⟨fl_X8_694, Or.inl rfl⟩ rfl ?_
    refine J_aload_n dX8_back_43 rfl 0 rfl ?_
    refine J_getI dX8_back_44 fl_X8_694 rfl (fun v4 => ?_)
    exact J_ireturn dX8_back_47 rfl
  refine J_aload_n dX8_back_17 rfl 0 rfl ?_
  refine J_bipush (v := 8) dX8_back_18 (by decide) ?_
  refine J_callVI (c := 7) (as := [.int 8]) dX8_back_20 (by decide) rfl (Nat.le_of_ble_eq_true rfl) (cw_X8_refuse _ (by decide)) q1871 q1873 qs90 q1874 np_X8_refuse (i_X8_refuse x0 8) jad_id rfl (fun v5 => ?_)
  exact J_ireturn dX8_back_23 rfl
theorem i_X8_back (x0 : Nat) : Impl (ws_ yX8_back cX8_back 1 (some .int)) yX8_back 2 false 0 0 [.ref x0] (f_X8_back x0) injI := impl_of (plainFor_of_name (by decide)) (Nat.le_of_ble_eq_true rfl) (fun D dA => j_X8_back D dA x0)
theorem cw_X8_back (Y : JY) (h : 3 ≤ Y.2.2.2.1) : JCw Y (ws_ yX8_back cX8_back 1 (some .int)) yX8_back cX8_back 1 (some .int) 2 := ⟨h, by decide, lw_meth q2429, q198, by decide, by decide⟩
theorem np_X8_back : JNp yX8_back.desc 0 := by decide +kernel
