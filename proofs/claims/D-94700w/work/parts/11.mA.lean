/-! printed by gen.py: what the bytecode does -/
set_option maxRecDepth 100000
-- java/lang/Throwable.<init>()V
abbrev Y_J0_init : JY := (cJ0_init, yJ0_init.cls, 1, 1, yJ0_init.name, none, [])
noncomputable def f_J0_init (x0 : Nat) : JM Mem Unit :=
  jb (jputO 2 0 x0 (some x0)) fun _ =>
  jb (jgetsO 0) fun v1 =>
  jb (jputO 2 1 x0 v1) fun _ =>
  jb (jgetsO 1) fun v2 =>
  jb (jputO 2 2 x0 v2) fun _ =>
  jfail
theorem j_J0_init (D : va_G) (dA : Nat → ClassId) (x0 : Nat) : J (PM D dA false) Y_J0_init [(0, .ref x0)] [] 0 (f_J0_init x0) (FRet injU) := by
  unfold f_J0_init
  refine J_aload_n dJ0_init_0 rfl 0 rfl ?_
  refine J_objInit dJ0_init_1 (Nat.le_of_ble_eq_true rfl) (by decide) q248 q217 q218 ?_
  refine J_aload_n dJ0_init_4 rfl 0 rfl ?_
  refine J_aload_n dJ0_init_5 rfl 0 rfl ?_
  refine J_putO (x := (some x0)) dJ0_init_6 ⟨fl_J0_7, Or.inl rfl⟩ rfl ?_
  refine J_aload_n dJ0_init_9 rfl 0 rfl ?_
  refine J_getsO (n := 0) dJ0_init_10 (by decide) q249 (fun v1 => ?_)
  refine J_putO (x := v1) dJ0_init_13 ⟨fl_J0_17, Or.inl rfl⟩ rfl ?_
  refine J_aload_n dJ0_init_16 rfl 0 rfl ?_
  refine J_getsO (n := 1) dJ0_init_17 (by decide) q251 (fun v2 => ?_)
  refine J_putO (x := v2) dJ0_init_20 ⟨fl_J0_24, Or.inl rfl⟩ rfl ?_
  refine J_aload_n dJ0_init_23 rfl 0 rfl ?_
  exact J_fail
theorem i_J0_init (x0 : Nat) : Impl (ws_ yJ0_init cJ0_init 1 none) yJ0_init 1 false 0 0 [.ref x0] (f_J0_init x0) injU := impl_of (by decide +kernel) (Nat.le_of_ble_eq_true rfl) (fun D dA => j_J0_init D dA x0)
theorem cw_J0_init (Y : JY) (h : 2 ≤ Y.2.2.2.1) : JCw Y (ws_ yJ0_init cJ0_init 1 none) yJ0_init cJ0_init 1 none 1 := ⟨h, by decide, lw_meth q247, q190, by decide, by decide⟩
theorem np_J0_init : JNp yJ0_init.desc 0 := by decide +kernel
-- java/lang/Throwable.<init>(Ljava/lang/String;Ljava/lang/Throwable;ZZ)V
abbrev Y_J0_init_2 : JY := (cJ0_init_2, yJ0_init_2.cls, 5, 1, yJ0_init_2.name, none, [])
noncomputable def f_J0_init_2 (x0 : Nat) (x1 : Option Nat) (x2 : Option Nat) (x3 : Int32) (x4 : Int32) : JM Mem Unit :=
  jb (jputO 2 0 x0 (some x0)) fun _ =>
  jb (jgetsO 0) fun v1 =>
  jb (jputO 2 1 x0 v1) fun _ =>
  jb (jgetsO 1) fun v2 =>
  jb (jputO 2 2 x0 v2) fun _ =>
  if x4 = 0 then
    jb (jputO 2 1 x0 none) fun _ =>
    jb (jputO 2 3 x0 x1) fun _ =>
    jb (jputO 2 0 x0 x2) fun _ =>
    if x3 = 0 then
      jb (jputO 2 2 x0 none) fun _ =>
      jp ()
    else
      jp ()
  else
    jfail
theorem j_J0_init_2 (D : va_G) (dA : Nat → ClassId) (x0 : Nat) (x1 : Option Nat) (x2 : Option Nat) (x3 : Int32) (x4 : Int32) : J (PM D dA false) Y_J0_init_2 [(0, .ref x0), (1, va_rf x1), (2, va_rf x2), (3, .int x3), (4, .int x4)] [] 0 (f_J0_init_2 x0 x1 x2 x3 x4) (FRet injU) := by
  unfold f_J0_init_2
  refine J_aload_n dJ0_init_2_0 rfl 0 rfl ?_
  refine J_objInit dJ0_init_2_1 (Nat.le_of_ble_eq_true rfl) (by decide) q248 q217 q218 ?_
  refine J_aload_n dJ0_init_2_4 rfl 0 rfl ?_
  refine J_aload_n dJ0_init_2_5 rfl 0 rfl ?_
  refine J_putO (x := (some x0)) dJ0_init_2_6 ⟨fl_J0_7, Or.inl rfl⟩ rfl ?_
  refine J_aload_n dJ0_init_2_9 rfl 0 rfl ?_
  refine J_getsO (n := 0) dJ0_init_2_10 (by decide) q249 (fun v1 => ?_)
  refine J_putO (x := v1) dJ0_init_2_13 ⟨fl_J0_17, Or.inl rfl⟩ rfl ?_
  refine J_aload_n dJ0_init_2_16 rfl 0 rfl ?_
  refine J_getsO (n := 1) dJ0_init_2_17 (by decide) q251 (fun v2 => ?_)
  refine J_putO (x := v2) dJ0_init_2_20 ⟨fl_J0_24, Or.inl rfl⟩ rfl ?_
  refine J_iload dJ0_init_2_23 4 rfl ?_
  refine J_if_eq (tgt := 36) dJ0_init_2_25 rfl ?_ ?_
  · refine J_aload_n dJ0_init_2_36 rfl 0 rfl ?_
    refine J_null dJ0_init_2_37 ?_
    refine J_putO (x := none) dJ0_init_2_38 ⟨fl_J0_17, Or.inl rfl⟩ rfl ?_
    refine J_aload_n dJ0_init_2_41 rfl 0 rfl ?_
    refine J_aloadO_n dJ0_init_2_42 rfl 1 rfl ?_
    refine J_putO (x := x1) dJ0_init_2_43 ⟨fl_J0_31, Or.inl rfl⟩ rfl ?_
    refine J_aload_n dJ0_init_2_46 rfl 0 rfl ?_
    refine J_aloadO_n dJ0_init_2_47 rfl 2 rfl ?_
    refine J_putO (x := x2) dJ0_init_2_48 ⟨fl_J0_7, Or.inl rfl⟩ rfl ?_
    refine J_iload_n dJ0_init_2_51 rfl 3 rfl ?_
    refine J_if_ne (tgt := 60) dJ0_init_2_52 rfl ?_ ?_
    · exact J_return dJ0_init_2_60 rfl
    refine J_aload_n dJ0_init_2_55 rfl 0 rfl ?_
    refine J_null dJ0_init_2_56 ?_
    refine J_putO (x := none) dJ0_init_2_57 ⟨fl_J0_24, Or.inl rfl⟩ rfl ?_
    exact J_return dJ0_init_2_60 rfl
  refine J_aload_n dJ0_init_2_28 rfl 0 rfl ?_
  exact J_fail
theorem i_J0_init_2 (x0 : Nat) (x1 : Option Nat) (x2 : Option Nat) (x3 : Int32) (x4 : Int32) : Impl (ws_ yJ0_init_2 cJ0_init_2 5 none) yJ0_init_2 1 false 0 0 [.ref x0, va_rf x1, va_rf x2, .int x3, .int x4] (f_J0_init_2 x0 x1 x2 x3 x4) injU := by
  cases x1 <;> cases x2 <;> exact impl_of (by decide +kernel) (Nat.le_of_ble_eq_true rfl) (fun D dA => j_J0_init_2 D dA x0 _ _ x3 x4)
theorem cw_J0_init_2 (Y : JY) (h : 2 ≤ Y.2.2.2.1) : JCw Y (ws_ yJ0_init_2 cJ0_init_2 5 none) yJ0_init_2 cJ0_init_2 5 none 1 := ⟨h, by decide, lw_meth q289, q190, by decide, by decide⟩
theorem np_J0_init_2 : JNp yJ0_init_2.desc 4 := by decide +kernel
-- java/lang/Throwable.<init>(Ljava/lang/String;)V
abbrev Y_J0_init_3 : JY := (cJ0_init_3, yJ0_init_3.cls, 2, 1, yJ0_init_3.name, none, [])
noncomputable def f_J0_init_3 (x0 : Nat) (x1 : Nat) : JM Mem Unit :=
  jb (jputO 2 0 x0 (some x0)) fun _ =>
  jb (jgetsO 0) fun v1 =>
  jb (jputO 2 1 x0 v1) fun _ =>
  jb (jgetsO 1) fun v2 =>
  jb (jputO 2 2 x0 v2) fun _ =>
  jfail
theorem j_J0_init_3 (D : va_G) (dA : Nat → ClassId) (x0 : Nat) (x1 : Nat) : J (PM D dA false) Y_J0_init_3 [(0, .ref x0), (1, .ref x1)] [] 0 (f_J0_init_3 x0 x1) (FRet injU) := by
  unfold f_J0_init_3
  refine J_aload_n dJ0_init_3_0 rfl 0 rfl ?_
  refine J_objInit dJ0_init_3_1 (Nat.le_of_ble_eq_true rfl) (by decide) q248 q217 q218 ?_
  refine J_aload_n dJ0_init_3_4 rfl 0 rfl ?_
  refine J_aload_n dJ0_init_3_5 rfl 0 rfl ?_
  refine J_putO (x := (some x0)) dJ0_init_3_6 ⟨fl_J0_7, Or.inl rfl⟩ rfl ?_
  refine J_aload_n dJ0_init_3_9 rfl 0 rfl ?_
  refine J_getsO (n := 0) dJ0_init_3_10 (by decide) q249 (fun v1 => ?_)
  refine J_putO (x := v1) dJ0_init_3_13 ⟨fl_J0_17, Or.inl rfl⟩ rfl ?_
  refine J_aload_n dJ0_init_3_16 rfl 0 rfl ?_
  refine J_getsO (n := 1) dJ0_init_3_17 (by decide) q251 (fun v2 => ?_)
  refine J_putO (x := v2) dJ0_init_3_20 ⟨fl_J0_24, Or.inl rfl⟩ rfl ?_
  refine J_aload_n dJ0_init_3_23 rfl 0 rfl ?_
  exact J_fail
theorem i_J0_init_3 (x0 : Nat) (x1 : Nat) : Impl (ws_ yJ0_init_3 cJ0_init_3 2 none) yJ0_init_3 1 false 0 0 [.ref x0, .ref x1] (f_J0_init_3 x0 x1) injU := impl_of (by decide +kernel) (Nat.le_of_ble_eq_true rfl) (fun D dA => j_J0_init_3 D dA x0 x1)
theorem cw_J0_init_3 (Y : JY) (h : 2 ≤ Y.2.2.2.1) : JCw Y (ws_ yJ0_init_3 cJ0_init_3 2 none) yJ0_init_3 cJ0_init_3 2 none 1 := ⟨h, by decide, lw_meth q641, q190, by decide, by decide⟩
theorem np_J0_init_3 : JNp yJ0_init_3.desc 1 := by decide +kernel
-- java/lang/Exception.<init>(Ljava/lang/String;Ljava/lang/Throwable;ZZ)V
abbrev Y_J1_init : JY := (cJ1_init, yJ1_init.cls, 5, 2, yJ1_init.name, none, [])
noncomputable def f_J1_init (x0 : Nat) (x1 : Option Nat) (x2 : Option Nat) (x3 : Int32) (x4 : Int32) : JM Mem Unit :=
  jb ((f_J0_init_2 x0 x1 x2 x3 x4)) fun _ =>
  jp ()
theorem j_J1_init (D : va_G) (dA : Nat → ClassId) (x0 : Nat) (x1 : Option Nat) (x2 : Option Nat) (x3 : Int32) (x4 : Int32) : J (PM D dA false) Y_J1_init [(0, .ref x0), (1, va_rf x1), (2, va_rf x2), (3, .int x3), (4, .int x4)] [] 0 (f_J1_init x0 x1 x2 x3 x4) (FRet injU) := by
  unfold f_J1_init
  refine J_aload_n dJ1_init_0 rfl 0 rfl ?_
  refine J_aloadO_n dJ1_init_1 rfl 1 rfl ?_
  refine J_aloadO_n dJ1_init_2 rfl 2 rfl ?_
  refine J_iload_n dJ1_init_3 rfl 3 rfl ?_
  refine J_iload dJ1_init_4 4 rfl ?_
  refine J_callIV (host := "") (as := [va_rf x1, va_rf x2, .int x3, .int x4]) dJ1_init_6 rfl (Nat.le_of_ble_eq_true rfl) (cw_J0_init_2 _ (by decide)) rfl q287 q288 q289 np_J0_init_2 (i_J0_init_2 x0 x1 x2 x3 x4) jad_id rfl ?_
  exact J_return dJ1_init_9 rfl
theorem i_J1_init (x0 : Nat) (x1 : Option Nat) (x2 : Option Nat) (x3 : Int32) (x4 : Int32) : Impl (ws_ yJ1_init cJ1_init 5 none) yJ1_init 2 false 0 0 [.ref x0, va_rf x1, va_rf x2, .int x3, .int x4] (f_J1_init x0 x1 x2 x3 x4) injU := by
  cases x1 <;> cases x2 <;> exact impl_of (by decide +kernel) (Nat.le_of_ble_eq_true rfl) (fun D dA => j_J1_init D dA x0 _ _ x3 x4)
theorem cw_J1_init (Y : JY) (h : 3 ≤ Y.2.2.2.1) : JCw Y (ws_ yJ1_init cJ1_init 5 none) yJ1_init cJ1_init 5 none 2 := ⟨h, by decide, lw_meth q286, q191, by decide, by decide⟩
theorem np_J1_init : JNp yJ1_init.desc 4 := by decide +kernel
-- java/lang/Exception.<init>(Ljava/lang/String;)V
abbrev Y_J1_init_2 : JY := (cJ1_init_2, yJ1_init_2.cls, 2, 2, yJ1_init_2.name, none, [])
noncomputable def f_J1_init_2 (x0 : Nat) (x1 : Nat) : JM Mem Unit :=
  jb ((f_J0_init_3 x0 x1)) fun _ =>
  jp ()
theorem j_J1_init_2 (D : va_G) (dA : Nat → ClassId) (x0 : Nat) (x1 : Nat) : J (PM D dA false) Y_J1_init_2 [(0, .ref x0), (1, .ref x1)] [] 0 (f_J1_init_2 x0 x1) (FRet injU) := by
  unfold f_J1_init_2
  refine J_aload_n dJ1_init_2_0 rfl 0 rfl ?_
  refine J_aload_n dJ1_init_2_1 rfl 1 rfl ?_
  refine J_callIV (host := "") (as := [.ref x1]) dJ1_init_2_2 rfl (Nat.le_of_ble_eq_true rfl) (cw_J0_init_3 _ (by decide)) rfl q639 q640 q641 np_J0_init_3 (i_J0_init_3 x0 x1) jad_id rfl ?_
  exact J_return dJ1_init_2_5 rfl
theorem i_J1_init_2 (x0 : Nat) (x1 : Nat) : Impl (ws_ yJ1_init_2 cJ1_init_2 2 none) yJ1_init_2 2 false 0 0 [.ref x0, .ref x1] (f_J1_init_2 x0 x1) injU := impl_of (by decide +kernel) (Nat.le_of_ble_eq_true rfl) (fun D dA => j_J1_init_2 D dA x0 x1)
theorem cw_J1_init_2 (Y : JY) (h : 3 ≤ Y.2.2.2.1) : JCw Y (ws_ yJ1_init_2 cJ1_init_2 2 none) yJ1_init_2 cJ1_init_2 2 none 2 := ⟨h, by decide, lw_meth q638, q191, by decide, by decide⟩
theorem np_J1_init_2 : JNp yJ1_init_2.desc 1 := by decide +kernel
-- java/lang/Exception.<init>()V
abbrev Y_J1_init_3 : JY := (cJ1_init_3, yJ1_init_3.cls, 1, 2, yJ1_init_3.name, none, [])
noncomputable def f_J1_init_3 (x0 : Nat) : JM Mem Unit :=
  jb ((f_J0_init x0)) fun _ =>
  jp ()
theorem j_J1_init_3 (D : va_G) (dA : Nat → ClassId) (x0 : Nat) : J (PM D dA false) Y_J1_init_3 [(0, .ref x0)] [] 0 (f_J1_init_3 x0) (FRet injU) := by
  unfold f_J1_init_3
  refine J_aload_n dJ1_init_3_0 rfl 0 rfl ?_
  refine J_callIV (host := "") (as := []) dJ1_init_3_1 rfl (Nat.le_of_ble_eq_true rfl) (cw_J0_init _ (by decide)) rfl q682 q246 q247 np_J0_init (i_J0_init x0) jad_id rfl ?_
  exact J_return dJ1_init_3_4 rfl
theorem i_J1_init_3 (x0 : Nat) : Impl (ws_ yJ1_init_3 cJ1_init_3 1 none) yJ1_init_3 2 false 0 0 [.ref x0] (f_J1_init_3 x0) injU := impl_of (by decide +kernel) (Nat.le_of_ble_eq_true rfl) (fun D dA => j_J1_init_3 D dA x0)
theorem cw_J1_init_3 (Y : JY) (h : 3 ≤ Y.2.2.2.1) : JCw Y (ws_ yJ1_init_3 cJ1_init_3 1 none) yJ1_init_3 cJ1_init_3 1 none 2 := ⟨h, by decide, lw_meth q681, q191, by decide, by decide⟩
theorem np_J1_init_3 : JNp yJ1_init_3.desc 0 := by decide +kernel
-- jdk/internal/util/Preconditions.checkIndex(IILjava/util/function/BiFunction;)I
abbrev Y_J10_checkIndex : JY := (cJ10_checkIndex, yJ10_checkIndex.cls, 3, 1, yJ10_checkIndex.name, (some .int), [])
noncomputable def J10_checkIndex_b9 (x0 : Int32) (x1 : Int32) (x2 : Option Nat) : JM Mem Int32 :=
  jfail
theorem j_J10_checkIndex_b9 (D : va_G) (dA : Nat → ClassId) (x0 : Int32) (x1 : Int32) (x2 : Option Nat) : J (PM D dA false) Y_J10_checkIndex [(0, .int x0), (1, .int x1), (2, va_rf x2)] [] 9 (J10_checkIndex_b9 x0 x1 x2) (FRet injI) := by
  unfold J10_checkIndex_b9
  refine J_aloadO_n dJ10_checkIndex_9 rfl 2 rfl ?_
  refine J_iload_n dJ10_checkIndex_10 rfl 0 rfl ?_
  refine J_iload_n dJ10_checkIndex_11 rfl 1 rfl ?_
  exact J_fail
noncomputable def f_J10_checkIndex (x0 : Int32) (x1 : Int32) (x2 : Option Nat) : JM Mem Int32 :=
  if x0 < 0 then
    J10_checkIndex_b9 x0 x1 x2
  else
  if x0 < x1 then
    jp x0
  else
    J10_checkIndex_b9 x0 x1 x2
theorem j_J10_checkIndex (D : va_G) (dA : Nat → ClassId) (x0 : Int32) (x1 : Int32) (x2 : Option Nat) : J (PM D dA false) Y_J10_checkIndex [(0, .int x0), (1, .int x1), (2, va_rf x2)] [] 0 (f_J10_checkIndex x0 x1 x2) (FRet injI) := by
  unfold f_J10_checkIndex
  refine J_iload_n dJ10_checkIndex_0 rfl 0 rfl ?_
  refine J_if_lt (tgt := 9) dJ10_checkIndex_1 rfl ?_ ?_
  · refine J_sub [0, 1, 2] rfl ?_
    exact j_J10_checkIndex_b9 D dA x0 x1 x2
  refine J_iload_n dJ10_checkIndex_4 rfl 0 rfl ?_
  refine J_iload_n dJ10_checkIndex_5 rfl 1 rfl ?_
  refine J_icmp_lt (tgt := 16) dJ10_checkIndex_6 rfl ?_ ?_
  · refine J_iload_n dJ10_checkIndex_16 rfl 0 rfl ?_
    exact J_ireturn dJ10_checkIndex_17 rfl
  refine J_sub [0, 1, 2] rfl ?_
  exact j_J10_checkIndex_b9 D dA x0 x1 x2
theorem i_J10_checkIndex (x0 : Int32) (x1 : Int32) (x2 : Option Nat) : Impl (ws_ yJ10_checkIndex cJ10_checkIndex 3 (some .int)) yJ10_checkIndex 1 false 0 0 [.int x0, .int x1, va_rf x2] (f_J10_checkIndex x0 x1 x2) injI := by
  cases x2 <;> exact impl_of (by decide +kernel) (Nat.le_of_ble_eq_true rfl) (fun D dA => j_J10_checkIndex D dA x0 x1 _)
theorem cw_J10_checkIndex (Y : JY) (h : 2 ≤ Y.2.2.2.1) : JCw Y (ws_ yJ10_checkIndex cJ10_checkIndex 3 (some .int)) yJ10_checkIndex cJ10_checkIndex 3 (some .int) 1 := ⟨h, by decide, lw_meth q823, q207, by decide, by decide⟩
theorem np_J10_checkIndex : JNp yJ10_checkIndex.desc 3 := by decide +kernel
-- java/lang/StringUTF16.length([B)I
abbrev Y_J11_length : JY := (cJ11_length, yJ11_length.cls, 1, 1, yJ11_length.name, (some .int), [])
noncomputable def f_J11_length (x0 : Nat) : JM Mem Int32 :=
  jb (jalen x0) fun v1 =>
  jp (v1 >>> (1 &&& 31))
theorem j_J11_length (D : va_G) (dA : Nat → ClassId) (x0 : Nat) : J (PM D dA false) Y_J11_length [(0, .ref x0)] [] 0 (f_J11_length x0) (FRet injI) := by
  unfold f_J11_length
  refine J_aload_n dJ11_length_0 rfl 0 rfl ?_
  refine J_alen dJ11_length_1 (fun v1 => ?_)
  refine J_iconst (v := 1) dJ11_length_2 (by decide) ?_
  refine J_ishr dJ11_length_3 ?_
  exact J_ireturn dJ11_length_4 rfl
theorem i_J11_length (x0 : Nat) : Impl (ws_ yJ11_length cJ11_length 1 (some .int)) yJ11_length 1 false 0 0 [.ref x0] (f_J11_length x0) injI := impl_of (by decide +kernel) (Nat.le_of_ble_eq_true rfl) (fun D dA => j_J11_length D dA x0)
theorem cw_J11_length (Y : JY) (h : 2 ≤ Y.2.2.2.1) : JCw Y (ws_ yJ11_length cJ11_length 1 (some .int)) yJ11_length cJ11_length 1 (some .int) 1 := ⟨h, by decide, lw_meth q832, q208, by decide, by decide⟩
theorem np_J11_length : JNp yJ11_length.desc 1 := by decide +kernel
-- java/lang/String.checkIndex(II)V
abbrev Y_J4_checkIndex : JY := (cJ4_checkIndex, yJ4_checkIndex.cls, 2, 2, yJ4_checkIndex.name, none, [])
noncomputable def f_J4_checkIndex (x0 : Int32) (x1 : Int32) : JM Mem Unit :=
  jb (jgetsO 2) fun v1 =>
  jb ((f_J10_checkIndex x0 x1 v1)) fun v2 =>
  jp ()
theorem j_J4_checkIndex (D : va_G) (dA : Nat → ClassId) (x0 : Int32) (x1 : Int32) : J (PM D dA false) Y_J4_checkIndex [(0, .int x0), (1, .int x1)] [] 0 (f_J4_checkIndex x0 x1) (FRet injU) := by
  unfold f_J4_checkIndex
  refine J_iload_n dJ4_checkIndex_0 rfl 0 rfl ?_
  refine J_iload_n dJ4_checkIndex_1 rfl 1 rfl ?_
  refine J_getsO (n := 2) dJ4_checkIndex_2 (by decide) q819 (fun v1 => ?_)
  refine J_callSI (host := "") (as := [.int x0, .int x1, va_rf v1]) dJ4_checkIndex_5 rfl (Nat.le_of_ble_eq_true rfl) (cw_J10_checkIndex _ (by decide)) q821 q822 q823 np_J10_checkIndex (i_J10_checkIndex x0 x1 v1) jad_id rfl (fun v2 => ?_)
  refine J_pop dJ4_checkIndex_8 rfl ?_
  exact J_return dJ4_checkIndex_9 rfl
theorem i_J4_checkIndex (x0 : Int32) (x1 : Int32) : Impl (ws_ yJ4_checkIndex cJ4_checkIndex 2 none) yJ4_checkIndex 2 false 0 0 [.int x0, .int x1] (f_J4_checkIndex x0 x1) injU := impl_of (by decide +kernel) (Nat.le_of_ble_eq_true rfl) (fun D dA => j_J4_checkIndex D dA x0 x1)
theorem cw_J4_checkIndex (Y : JY) (h : 3 ≤ Y.2.2.2.1) : JCw Y (ws_ yJ4_checkIndex cJ4_checkIndex 2 none) yJ4_checkIndex cJ4_checkIndex 2 none 2 := ⟨h, by decide, lw_meth q818, q200, by decide, by decide⟩
theorem np_J4_checkIndex : JNp yJ4_checkIndex.desc 2 := by decide +kernel
-- java/lang/StringUTF16.checkIndex(I[B)V
abbrev Y_J11_checkIndex : JY := (cJ11_checkIndex, yJ11_checkIndex.cls, 2, 3, yJ11_checkIndex.name, none, [])
noncomputable def f_J11_checkIndex (x0 : Int32) (x1 : Nat) : JM Mem Unit :=
  jb ((f_J11_length x1)) fun v1 =>
  jb ((f_J4_checkIndex x0 v1)) fun _ =>
  jp ()
theorem j_J11_checkIndex (D : va_G) (dA : Nat → ClassId) (x0 : Int32) (x1 : Nat) : J (PM D dA false) Y_J11_checkIndex [(0, .int x0), (1, .ref x1)] [] 0 (f_J11_checkIndex x0 x1) (FRet injU) := by
  unfold f_J11_checkIndex
  refine J_iload_n dJ11_checkIndex_0 rfl 0 rfl ?_
  refine J_aload_n dJ11_checkIndex_1 rfl 1 rfl ?_
  refine J_callSI (host := "") (as := [.ref x1]) dJ11_checkIndex_2 rfl (Nat.le_of_ble_eq_true rfl) (cw_J11_length _ (by decide)) q830 q831 q832 np_J11_length (i_J11_length x1) jad_id rfl (fun v1 => ?_)
  refine J_callSV (host := "") (as := [.int x0, .int v1]) dJ11_checkIndex_5 rfl (Nat.le_of_ble_eq_true rfl) (cw_J4_checkIndex _ (by decide)) q833 q817 q818 np_J4_checkIndex (i_J4_checkIndex x0 v1) jad_id rfl ?_
  exact J_return dJ11_checkIndex_8 rfl
theorem i_J11_checkIndex (x0 : Int32) (x1 : Nat) : Impl (ws_ yJ11_checkIndex cJ11_checkIndex 2 none) yJ11_checkIndex 3 false 0 0 [.int x0, .ref x1] (f_J11_checkIndex x0 x1) injU := impl_of (by decide +kernel) (Nat.le_of_ble_eq_true rfl) (fun D dA => j_J11_checkIndex D dA x0 x1)
theorem cw_J11_checkIndex (Y : JY) (h : 4 ≤ Y.2.2.2.1) : JCw Y (ws_ yJ11_checkIndex cJ11_checkIndex 2 none) yJ11_checkIndex cJ11_checkIndex 2 none 3 := ⟨h, by decide, lw_meth q829, q208, by decide, by decide⟩
theorem np_J11_checkIndex : JNp yJ11_checkIndex.desc 2 := by decide +kernel
-- java/lang/Integer.bitCount(I)I
abbrev Y_J12_bitCount : JY := (cJ12_bitCount, yJ12_bitCount.cls, 1, 1, yJ12_bitCount.name, (some .int), [])
noncomputable def f_J12_bitCount (x0 : Int32) : JM Mem Int32 :=
  jlet (x0 - (((x0.toUInt32 >>> ((1 : Int32).toUInt32 &&& Int32.toUInt32 31)).toInt32) &&& 1431655765)) fun y1 =>
  jlet ((y1 &&& 858993459) + (((y1.toUInt32 >>> ((2 : Int32).toUInt32 &&& Int32.toUInt32 31)).toInt32) &&& 858993459)) fun y2 =>
  jlet ((y2 + ((y2.toUInt32 >>> ((4 : Int32).toUInt32 &&& Int32.toUInt32 31)).toInt32)) &&& 252645135) fun y3 =>
  jlet (y3 + ((y3.toUInt32 >>> ((8 : Int32).toUInt32 &&& Int32.toUInt32 31)).toInt32)) fun y4 =>
  jlet (y4 + ((y4.toUInt32 >>> ((16 : Int32).toUInt32 &&& Int32.toUInt32 31)).toInt32)) fun y5 =>
  jp (y5 &&& 63)
theorem j_J12_bitCount (D : va_G) (dA : Nat → ClassId) (x0 : Int32) : J (PM D dA false) Y_J12_bitCount [(0, .int x0)] [] 0 (f_J12_bitCount x0) (FRet injI) := by
  unfold f_J12_bitCount
  refine J_iload_n dJ12_bitCount_0 rfl 0 rfl ?_
  refine J_iload_n dJ12_bitCount_1 rfl 0 rfl ?_
  refine J_iconst (v := 1) dJ12_bitCount_2 (by decide) ?_
  refine J_iushr dJ12_bitCount_3 ?_
  refine J_ldcw dJ12_bitCount_4 q1210 ?_
  refine J_iand dJ12_bitCount_7 ?_
  refine J_isub dJ12_bitCount_8 ?_
  refine J_letI (fun y1 => ?_)
  refine J_istore_n (env' := [(0, .int y1)]) dJ12_bitCount_9 rfl (by decide) rfl ?_
  refine J_iload_n dJ12_bitCount_10 rfl 0 rfl ?_
  refine J_ldcw dJ12_bitCount_11 q1211 ?_
  refine J_iand dJ12_bitCount_14 ?_
  refine J_iload_n dJ12_bitCount_15 rfl 0 rfl ?_
  refine J_iconst (v := 2) dJ12_bitCount_16 (by decide) ?_
  refine J_iushr dJ12_bitCount_17 ?_
  refine J_ldcw dJ12_bitCount_18 q1211 ?_
  refine J_iand dJ12_bitCount_21 ?_
  refine J_iadd dJ12_bitCount_22 ?_
  refine J_letI (fun y2 => ?_)
  refine J_istore_n (env' := [(0, .int y2)]) dJ12_bitCount_23 rfl (by decide) rfl ?_
  refine J_iload_n dJ12_bitCount_24 rfl 0 rfl ?_
  refine J_iload_n dJ12_bitCount_25 rfl 0 rfl ?_
  refine J_iconst (v := 4) dJ12_bitCount_26 (by decide) ?_
  refine J_iushr dJ12_bitCount_27 ?_
  refine J_iadd dJ12_bitCount_28 ?_
  refine J_ldcw dJ12_bitCount_29 q1212 ?_
  refine J_iand dJ12_bitCount_32 ?_
  refine J_letI (fun y3 => ?_)
  refine J_istore_n (env' := [(0, .int y3)]) dJ12_bitCount_33 rfl (by decide) rfl ?_
  refine J_iload_n dJ12_bitCount_34 rfl 0 rfl ?_
  refine J_iload_n dJ12_bitCount_35 rfl 0 rfl ?_
  refine J_bipush (v := 8) dJ12_bitCount_36 (by decide) ?_
  refine J_iushr dJ12_bitCount_38 ?_
  refine J_iadd dJ12_bitCount_39 ?_
  refine J_letI (fun y4 => ?_)
  refine J_istore_n (env' := [(0, .int y4)]) dJ12_bitCount_40 rfl (by decide) rfl ?_
  refine J_iload_n dJ12_bitCount_41 rfl 0 rfl ?_
  refine J_iload_n dJ12_bitCount_42 rfl 0 rfl ?_
  refine J_bipush (v := 16) dJ12_bitCount_43 (by decide) ?_
  refine J_iushr dJ12_bitCount_45 ?_
  refine J_iadd dJ12_bitCount_46 ?_
  refine J_letI (fun y5 => ?_)
  refine J_istore_n (env' := [(0, .int y5)]) dJ12_bitCount_47 rfl (by decide) rfl ?_
  refine J_iload_n dJ12_bitCount_48 rfl 0 rfl ?_
  refine J_bipush (v := 63) dJ12_bitCount_49 (by decide) ?_
  refine J_iand dJ12_bitCount_51 ?_
  exact J_ireturn dJ12_bitCount_52 rfl
theorem i_J12_bitCount (x0 : Int32) : Impl (ws_ yJ12_bitCount cJ12_bitCount 1 (some .int)) yJ12_bitCount 1 false 0 0 [.int x0] (f_J12_bitCount x0) injI := impl_of (by decide +kernel) (Nat.le_of_ble_eq_true rfl) (fun D dA => j_J12_bitCount D dA x0)
theorem cw_J12_bitCount (Y : JY) (h : 2 ≤ Y.2.2.2.1) : JCw Y (ws_ yJ12_bitCount cJ12_bitCount 1 (some .int)) yJ12_bitCount cJ12_bitCount 1 (some .int) 1 := ⟨h, by decide, lw_meth q1209, q210, by decide, by decide⟩
theorem np_J12_bitCount : JNp yJ12_bitCount.desc 1 := by decide +kernel
-- java/lang/RuntimeException.<init>(Ljava/lang/String;Ljava/lang/Throwable;ZZ)V
abbrev Y_J2_init : JY := (cJ2_init, yJ2_init.cls, 5, 3, yJ2_init.name, none, [])
noncomputable def f_J2_init (x0 : Nat) (x1 : Option Nat) (x2 : Option Nat) (x3 : Int32) (x4 : Int32) : JM Mem Unit :=
  jb ((f_J1_init x0 x1 x2 x3 x4)) fun _ =>
  jp ()
theorem j_J2_init (D : va_G) (dA : Nat → ClassId) (x0 : Nat) (x1 : Option Nat) (x2 : Option Nat) (x3 : Int32) (x4 : Int32) : J (PM D dA false) Y_J2_init [(0, .ref x0), (1, va_rf x1), (2, va_rf x2), (3, .int x3), (4, .int x4)] [] 0 (f_J2_init x0 x1 x2 x3 x4) (FRet injU) := by
  unfold f_J2_init
  refine J_aload_n dJ2_init_0 rfl 0 rfl ?_
  refine J_aloadO_n dJ2_init_1 rfl 1 rfl ?_
  refine J_aloadO_n dJ2_init_2 rfl 2 rfl ?_
  refine J_iload_n dJ2_init_3 rfl 3 rfl ?_
  refine J_iload dJ2_init_4 4 rfl ?_
  refine J_callIV (host := "") (as := [va_rf x1, va_rf x2, .int x3, .int x4]) dJ2_init_6 rfl (Nat.le_of_ble_eq_true rfl) (cw_J1_init _ (by decide)) rfl q284 q285 q286 np_J1_init (i_J1_init x0 x1 x2 x3 x4) jad_id rfl ?_
  exact J_return dJ2_init_9 rfl
theorem i_J2_init (x0 : Nat) (x1 : Option Nat) (x2 : Option Nat) (x3 : Int32) (x4 : Int32) : Impl (ws_ yJ2_init cJ2_init 5 none) yJ2_init 3 false 0 0 [.ref x0, va_rf x1, va_rf x2, .int x3, .int x4] (f_J2_init x0 x1 x2 x3 x4) injU := by
  cases x1 <;> cases x2 <;> exact impl_of (by decide +kernel) (Nat.le_of_ble_eq_true rfl) (fun D dA => j_J2_init D dA x0 _ _ x3 x4)
theorem cw_J2_init (Y : JY) (h : 4 ≤ Y.2.2.2.1) : JCw Y (ws_ yJ2_init cJ2_init 5 none) yJ2_init cJ2_init 5 none 3 := ⟨h, by decide, lw_meth q283, q192, by decide, by decide⟩
theorem np_J2_init : JNp yJ2_init.desc 4 := by decide +kernel
-- java/lang/RuntimeException.<init>(Ljava/lang/String;)V
abbrev Y_J2_init_2 : JY := (cJ2_init_2, yJ2_init_2.cls, 2, 3, yJ2_init_2.name, none, [])
noncomputable def f_J2_init_2 (x0 : Nat) (x1 : Nat) : JM Mem Unit :=
  jb ((f_J1_init_2 x0 x1)) fun _ =>
  jp ()
theorem j_J2_init_2 (D : va_G) (dA : Nat → ClassId) (x0 : Nat) (x1 : Nat) : J (PM D dA false) Y_J2_init_2 [(0, .ref x0), (1, .ref x1)] [] 0 (f_J2_init_2 x0 x1) (FRet injU) := by
  unfold f_J2_init_2
  refine J_aload_n dJ2_init_2_0 rfl 0 rfl ?_
  refine J_aload_n dJ2_init_2_1 rfl 1 rfl ?_
  refine J_callIV (host := "") (as := [.ref x1]) dJ2_init_2_2 rfl (Nat.le_of_ble_eq_true rfl) (cw_J1_init_2 _ (by decide)) rfl q636 q637 q638 np_J1_init_2 (i_J1_init_2 x0 x1) jad_id rfl ?_
  exact J_return dJ2_init_2_5 rfl
theorem i_J2_init_2 (x0 : Nat) (x1 : Nat) : Impl (ws_ yJ2_init_2 cJ2_init_2 2 none) yJ2_init_2 3 false 0 0 [.ref x0, .ref x1] (f_J2_init_2 x0 x1) injU := impl_of (by decide +kernel) (Nat.le_of_ble_eq_true rfl) (fun D dA => j_J2_init_2 D dA x0 x1)
theorem cw_J2_init_2 (Y : JY) (h : 4 ≤ Y.2.2.2.1) : JCw Y (ws_ yJ2_init_2 cJ2_init_2 2 none) yJ2_init_2 cJ2_init_2 2 none 3 := ⟨h, by decide, lw_meth q635, q192, by decide, by decide⟩
theorem np_J2_init_2 : JNp yJ2_init_2.desc 1 := by decide +kernel
-- java/lang/RuntimeException.<init>()V
abbrev Y_J2_init_3 : JY := (cJ2_init_3, yJ2_init_3.cls, 1, 3, yJ2_init_3.name, none, [])
noncomputable def f_J2_init_3 (x0 : Nat) : JM Mem Unit :=
  jb ((f_J1_init_3 x0)) fun _ =>
  jp ()
theorem j_J2_init_3 (D : va_G) (dA : Nat → ClassId) (x0 : Nat) : J (PM D dA false) Y_J2_init_3 [(0, .ref x0)] [] 0 (f_J2_init_3 x0) (FRet injU) := by
  unfold f_J2_init_3
  refine J_aload_n dJ2_init_3_0 rfl 0 rfl ?_
  refine J_callIV (host := "") (as := []) dJ2_init_3_1 rfl (Nat.le_of_ble_eq_true rfl) (cw_J1_init_3 _ (by decide)) rfl q679 q680 q681 np_J1_init_3 (i_J1_init_3 x0) jad_id rfl ?_
  exact J_return dJ2_init_3_4 rfl
theorem i_J2_init_3 (x0 : Nat) : Impl (ws_ yJ2_init_3 cJ2_init_3 1 none) yJ2_init_3 3 false 0 0 [.ref x0] (f_J2_init_3 x0) injU := impl_of (by decide +kernel) (Nat.le_of_ble_eq_true rfl) (fun D dA => j_J2_init_3 D dA x0)
theorem cw_J2_init_3 (Y : JY) (h : 4 ≤ Y.2.2.2.1) : JCw Y (ws_ yJ2_init_3 cJ2_init_3 1 none) yJ2_init_3 cJ2_init_3 1 none 3 := ⟨h, by decide, lw_meth q678, q192, by decide, by decide⟩
theorem np_J2_init_3 : JNp yJ2_init_3.desc 0 := by decide +kernel
-- java/lang/NegativeArraySizeException.<init>(Ljava/lang/String;)V
abbrev Y_J3_init : JY := (cJ3_init, yJ3_init.cls, 2, 4, yJ3_init.name, none, [])
noncomputable def f_J3_init (x0 : Nat) (x1 : Nat) : JM Mem Unit :=
  jb ((f_J2_init_2 x0 x1)) fun _ =>
  jp ()
theorem j_J3_init (D : va_G) (dA : Nat → ClassId) (x0 : Nat) (x1 : Nat) : J (PM D dA false) Y_J3_init [(0, .ref x0), (1, .ref x1)] [] 0 (f_J3_init x0 x1) (FRet injU) := by
  unfold f_J3_init
  refine J_aload_n dJ3_init_0 rfl 0 rfl ?_
  refine J_aload_n dJ3_init_1 rfl 1 rfl ?_
  refine J_callIV (host := "") (as := [.ref x1]) dJ3_init_2 rfl (Nat.le_of_ble_eq_true rfl) (cw_J2_init_2 _ (by decide)) rfl q633 q634 q635 np_J2_init_2 (i_J2_init_2 x0 x1) jad_id rfl ?_
  exact J_return dJ3_init_5 rfl
theorem i_J3_init (x0 : Nat) (x1 : Nat) : Impl (ws_ yJ3_init cJ3_init 2 none) yJ3_init 4 false 0 0 [.ref x0, .ref x1] (f_J3_init x0 x1) injU := impl_of (by decide +kernel) (Nat.le_of_ble_eq_true rfl) (fun D dA => j_J3_init D dA x0 x1)
theorem cw_J3_init (Y : JY) (h : 5 ≤ Y.2.2.2.1) : JCw Y (ws_ yJ3_init cJ3_init 2 none) yJ3_init cJ3_init 2 none 4 := ⟨h, by decide, lw_meth q632, q199, by decide, by decide⟩
theorem np_J3_init : JNp yJ3_init.desc 1 := by decide +kernel
-- java/lang/String.coder()B
abbrev Y_J4_coder : JY := (cJ4_coder, yJ4_coder.cls, 1, 1, yJ4_coder.name, (some .byte), [])
noncomputable def f_J4_coder (x0 : Nat) : JM Mem Int32 :=
  if (1 : Int32) = 0 then
    jrn .byte 1
  else
  jb (jstrI x0) fun v1 =>
  jrn .byte v1
theorem j_J4_coder (D : va_G) (dA : Nat → ClassId) (x0 : Nat) : J (PM D dA false) Y_J4_coder [(0, .ref x0)] [] 0 (f_J4_coder x0) (FRet injI) := by
  unfold f_J4_coder
  refine J_compact dJ4_coder_0 q803 ?_
  refine J_if_eq (tgt := 13) dJ4_coder_3 rfl ?_ ?_
  · refine J_iconst (v := 1) dJ4_coder_13 (by decide) ?_
    exact J_nreturn dJ4_coder_14 rfl
  refine J_aload_n dJ4_coder_6 rfl 0 rfl ?_
  refine J_strI dJ4_coder_7 q2441 (fun v1 => ?_)
  refine J_goto (tgt := 14) dJ4_coder_10 rfl ?_
  exact J_nreturn dJ4_coder_14 rfl
theorem i_J4_coder (x0 : Nat) : Impl (ws_ yJ4_coder cJ4_coder 1 (some .byte)) yJ4_coder 1 false 0 0 [.ref x0] (f_J4_coder x0) injI := impl_of (by decide +kernel) (Nat.le_of_ble_eq_true rfl) (fun D dA => j_J4_coder D dA x0)
theorem cw_J4_coder (Y : JY) (h : 2 ≤ Y.2.2.2.1) : JCw Y (ws_ yJ4_coder cJ4_coder 1 (some .byte)) yJ4_coder cJ4_coder 1 (some .byte) 1 := ⟨h, by decide, lw_meth q802, q200, by decide, by decide⟩
theorem np_J4_coder : JNp yJ4_coder.desc 0 := by decide +kernel
-- java/lang/String.length()I
abbrev Y_J4_length : JY := (cJ4_length, yJ4_length.cls, 1, 2, yJ4_length.name, (some .int), [])
noncomputable def f_J4_length (x0 : Nat) : JM Mem Int32 :=
  jb (jstrV x0) fun v1 =>
  jb (jsalen v1) fun v2 =>
  jb (jcallT x0 (f_J4_coder x0)) fun v3 =>
  jp (v2 >>> (v3 &&& 31))
theorem j_J4_length (D : va_G) (dA : Nat → ClassId) (x0 : Nat) : J (PM D dA false) Y_J4_length [(0, .ref x0)] [] 0 (f_J4_length x0) (FRet injI) := by
  unfold f_J4_length
  refine J_aload_n dJ4_length_0 rfl 0 rfl ?_
  refine J_strV dJ4_length_1 q2440 (fun v1 => ?_)
  refine J_salen dJ4_length_4 (fun v2 => ?_)
  refine J_aload_n dJ4_length_5 rfl 0 rfl ?_
  refine J_callTI (as := []) dJ4_length_6 rfl (Nat.le_of_ble_eq_true rfl) (cw_J4_coder _ (by decide)) q799 q800 q801 q802 np_J4_coder (i_J4_coder x0) jad_id rfl (fun v3 => ?_)
  refine J_ishr dJ4_length_9 ?_
  exact J_ireturn dJ4_length_10 rfl
theorem i_J4_length (x0 : Nat) : Impl (ws_ yJ4_length cJ4_length 1 (some .int)) yJ4_length 2 false 0 0 [.ref x0] (f_J4_length x0) injI := impl_of (by decide +kernel) (Nat.le_of_ble_eq_true rfl) (fun D dA => j_J4_length D dA x0)
theorem cw_J4_length (Y : JY) (h : 3 ≤ Y.2.2.2.1) : JCw Y (ws_ yJ4_length cJ4_length 1 (some .int)) yJ4_length cJ4_length 1 (some .int) 2 := ⟨h, by decide, lw_meth q798, q200, by decide, by decide⟩
theorem np_J4_length : JNp yJ4_length.desc 0 := by decide +kernel
-- java/lang/String.isLatin1()Z
abbrev Y_J4_isLatin1 : JY := (cJ4_isLatin1, yJ4_isLatin1.cls, 1, 1, yJ4_isLatin1.name, (some .boolean), [])
noncomputable def f_J4_isLatin1 (x0 : Nat) : JM Mem Int32 :=
  if (1 : Int32) = 0 then
    jp 0
  else
  jb (jstrI x0) fun v1 =>
  if v1 = 0 then
    jp 1
  else
    jp 0
theorem j_J4_isLatin1 (D : va_G) (dA : Nat → ClassId) (x0 : Nat) : J (PM D dA false) Y_J4_isLatin1 [(0, .ref x0)] [] 0 (f_J4_isLatin1 x0) (FRet injI) := by
  unfold f_J4_isLatin1
  refine J_compact dJ4_isLatin1_0 q803 ?_
  refine J_if_eq (tgt := 17) dJ4_isLatin1_3 rfl ?_ ?_
  · refine J_iconst (v := 0) dJ4_isLatin1_17 (by decide) ?_
    exact J_zreturn0 dJ4_isLatin1_18 rfl
  refine J_aload_n dJ4_isLatin1_6 rfl 0 rfl ?_
  refine J_strI dJ4_isLatin1_7 q2441 (fun v1 => ?_)
  refine J_if_ne (tgt := 17) dJ4_isLatin1_10 rfl ?_ ?_
  · refine J_iconst (v := 0) dJ4_isLatin1_17 (by decide) ?_
    exact J_zreturn0 dJ4_isLatin1_18 rfl
  refine J_iconst (v := 1) dJ4_isLatin1_13 (by decide) ?_
  refine J_goto (tgt := 18) dJ4_isLatin1_14 rfl ?_
  exact J_zreturn1 dJ4_isLatin1_18 rfl
theorem i_J4_isLatin1 (x0 : Nat) : Impl (ws_ yJ4_isLatin1 cJ4_isLatin1 1 (some .boolean)) yJ4_isLatin1 1 false 0 0 [.ref x0] (f_J4_isLatin1 x0) injI := impl_of (by decide +kernel) (Nat.le_of_ble_eq_true rfl) (fun D dA => j_J4_isLatin1 D dA x0)
theorem cw_J4_isLatin1 (Y : JY) (h : 2 ≤ Y.2.2.2.1) : JCw Y (ws_ yJ4_isLatin1 cJ4_isLatin1 1 (some .boolean)) yJ4_isLatin1 cJ4_isLatin1 1 (some .boolean) 1 := ⟨h, by decide, lw_meth q812, q200, by decide, by decide⟩
theorem np_J4_isLatin1 : JNp yJ4_isLatin1.desc 0 := by decide +kernel
-- java/lang/StringLatin1.charAt([BI)C
abbrev Y_J9_charAt : JY := (cJ9_charAt, yJ9_charAt.cls, 2, 3, yJ9_charAt.name, (some .char), [])
noncomputable def f_J9_charAt (x0 : Nat) (x1 : Int32) : JM Mem Int32 :=
  jb (jsalen x0) fun v1 =>
  jb ((f_J4_checkIndex x1 v1)) fun _ =>
  jb (jsald x0 x1) fun v2 =>
  jrn .char (((v2 &&& 255 : Int32).toUInt32 % 65536).toInt32)
theorem j_J9_charAt (D : va_G) (dA : Nat → ClassId) (x0 : Nat) (x1 : Int32) : J (PM D dA false) Y_J9_charAt [(0, .ref x0), (1, .int x1)] [] 0 (f_J9_charAt x0 x1) (FRet injI) := by
  unfold f_J9_charAt
  refine J_iload_n dJ9_charAt_0 rfl 1 rfl ?_
  refine J_aload_n dJ9_charAt_1 rfl 0 rfl ?_
  refine J_salen dJ9_charAt_2 (fun v1 => ?_)
  refine J_callSV (host := "") (as := [.int x1, .int v1]) dJ9_charAt_3 rfl (Nat.le_of_ble_eq_true rfl) (cw_J4_checkIndex _ (by decide)) q816 q817 q818 np_J4_checkIndex (i_J4_checkIndex x1 v1) jad_id rfl ?_
  refine J_aload_n dJ9_charAt_6 rfl 0 rfl ?_
  refine J_iload_n dJ9_charAt_7 rfl 1 rfl ?_
  refine J_sald2 dJ9_charAt_8 (fun v2 => ?_)
  refine J_sipush (v := 255) dJ9_charAt_9 (by decide) ?_
  refine J_iand dJ9_charAt_12 ?_
  refine J_i2c dJ9_charAt_13 ?_
  exact J_nreturn dJ9_charAt_14 rfl
theorem i_J9_charAt (x0 : Nat) (x1 : Int32) : Impl (ws_ yJ9_charAt cJ9_charAt 2 (some .char)) yJ9_charAt 3 false 0 0 [.ref x0, .int x1] (f_J9_charAt x0 x1) injI := impl_of (by decide +kernel) (Nat.le_of_ble_eq_true rfl) (fun D dA => j_J9_charAt D dA x0 x1)
theorem cw_J9_charAt (Y : JY) (h : 4 ≤ Y.2.2.2.1) : JCw Y (ws_ yJ9_charAt cJ9_charAt 2 (some .char)) yJ9_charAt cJ9_charAt 2 (some .char) 3 := ⟨h, by decide, lw_meth q815, q206, by decide, by decide⟩
theorem np_J9_charAt : JNp yJ9_charAt.desc 2 := by decide +kernel
-- java/lang/String.charAt(I)C
abbrev Y_J4_charAt : JY := (cJ4_charAt, yJ4_charAt.cls, 2, 4, yJ4_charAt.name, (some .char), [])
noncomputable def f_J4_charAt (x0 : Nat) (x1 : Int32) : JM Mem Int32 :=
  jb (jcallT x0 (f_J4_isLatin1 x0)) fun v1 =>
  if v1 = 0 then
    jb (jstrV x0) fun v2 =>
    jfail
  else
  jb (jstrV x0) fun v3 =>
  jb ((f_J9_charAt v3 x1)) fun v4 =>
  jrn .char v4
theorem j_J4_charAt (D : va_G) (dA : Nat → ClassId) (x0 : Nat) (x1 : Int32) : J (PM D dA false) Y_J4_charAt [(0, .ref x0), (1, .int x1)] [] 0 (f_J4_charAt x0 x1) (FRet injI) := by
  unfold f_J4_charAt
  refine J_aload_n dJ4_charAt_0 rfl 0 rfl ?_
  refine J_callTI (as := []) dJ4_charAt_1 rfl (Nat.le_of_ble_eq_true rfl) (cw_J4_isLatin1 _ (by decide)) q809 q810 q811 q812 np_J4_isLatin1 (i_J4_isLatin1 x0) jad_id rfl (fun v1 => ?_)
  refine J_if_eq (tgt := 16) dJ4_charAt_4 rfl ?_ ?_
  · refine J_aload_n dJ4_charAt_16 rfl 0 rfl ?_
    refine J_strV dJ4_charAt_17 q2440 (fun v2 => ?_)
    refine J_iload_n dJ4_charAt_20 rfl 1 rfl ?_
    exact J_fail
  refine J_aload_n dJ4_charAt_7 rfl 0 rfl ?_
  refine J_strV dJ4_charAt_8 q2440 (fun v3 => ?_)
  refine J_iload_n dJ4_charAt_11 rfl 1 rfl ?_
  refine J_callSI (host := "") (as := [.ref v3, .int x1]) dJ4_charAt_12 rfl (Nat.le_of_ble_eq_true rfl) (cw_J9_charAt _ (by decide)) q813 q814 q815 np_J9_charAt (i_J9_charAt v3 x1) jad_id rfl (fun v4 => ?_)
  exact J_nreturn dJ4_charAt_15 rfl
theorem i_J4_charAt (x0 : Nat) (x1 : Int32) : Impl (ws_ yJ4_charAt cJ4_charAt 2 (some .char)) yJ4_charAt 4 false 0 0 [.ref x0, .int x1] (f_J4_charAt x0 x1) injI := impl_of (by decide +kernel) (Nat.le_of_ble_eq_true rfl) (fun D dA => j_J4_charAt D dA x0 x1)
theorem cw_J4_charAt (Y : JY) (h : 5 ≤ Y.2.2.2.1) : JCw Y (ws_ yJ4_charAt cJ4_charAt 2 (some .char)) yJ4_charAt cJ4_charAt 2 (some .char) 4 := ⟨h, by decide, lw_meth q808, q200, by decide, by decide⟩
theorem np_J4_charAt : JNp yJ4_charAt.desc 1 := by decide +kernel
-- java/lang/NullPointerException.<init>()V
abbrev Y_J5_init : JY := (cJ5_init, yJ5_init.cls, 1, 4, yJ5_init.name, none, [])
noncomputable def f_J5_init (x0 : Nat) : JM Mem Unit :=
  jb ((f_J2_init_3 x0)) fun _ =>
  jp ()
theorem j_J5_init (D : va_G) (dA : Nat → ClassId) (x0 : Nat) : J (PM D dA false) Y_J5_init [(0, .ref x0)] [] 0 (f_J5_init x0) (FRet injU) := by
  unfold f_J5_init
  refine J_aload_n dJ5_init_0 rfl 0 rfl ?_
  refine J_callIV (host := "") (as := []) dJ5_init_1 rfl (Nat.le_of_ble_eq_true rfl) (cw_J2_init_3 _ (by decide)) rfl q676 q677 q678 np_J2_init_3 (i_J2_init_3 x0) jad_id rfl ?_
  exact J_return dJ5_init_4 rfl
theorem i_J5_init (x0 : Nat) : Impl (ws_ yJ5_init cJ5_init 1 none) yJ5_init 4 false 0 0 [.ref x0] (f_J5_init x0) injU := impl_of (by decide +kernel) (Nat.le_of_ble_eq_true rfl) (fun D dA => j_J5_init D dA x0)
theorem cw_J5_init (Y : JY) (h : 5 ≤ Y.2.2.2.1) : JCw Y (ws_ yJ5_init cJ5_init 1 none) yJ5_init cJ5_init 1 none 4 := ⟨h, by decide, lw_meth q675, q201, by decide, by decide⟩
theorem np_J5_init : JNp yJ5_init.desc 0 := by decide +kernel
-- java/lang/IndexOutOfBoundsException.<init>(Ljava/lang/String;)V
abbrev Y_J6_init : JY := (cJ6_init, yJ6_init.cls, 2, 4, yJ6_init.name, none, [])
noncomputable def f_J6_init (x0 : Nat) (x1 : Nat) : JM Mem Unit :=
  jb ((f_J2_init_2 x0 x1)) fun _ =>
  jp ()
theorem j_J6_init (D : va_G) (dA : Nat → ClassId) (x0 : Nat) (x1 : Nat) : J (PM D dA false) Y_J6_init [(0, .ref x0), (1, .ref x1)] [] 0 (f_J6_init x0 x1) (FRet injU) := by
  unfold f_J6_init
  refine J_aload_n dJ6_init_0 rfl 0 rfl ?_
  refine J_aload_n dJ6_init_1 rfl 1 rfl ?_
  refine J_callIV (host := "") (as := [.ref x1]) dJ6_init_2 rfl (Nat.le_of_ble_eq_true rfl) (cw_J2_init_2 _ (by decide)) rfl q705 q634 q635 np_J2_init_2 (i_J2_init_2 x0 x1) jad_id rfl ?_
  exact J_return dJ6_init_5 rfl
theorem i_J6_init (x0 : Nat) (x1 : Nat) : Impl (ws_ yJ6_init cJ6_init 2 none) yJ6_init 4 false 0 0 [.ref x0, .ref x1] (f_J6_init x0 x1) injU := impl_of (by decide +kernel) (Nat.le_of_ble_eq_true rfl) (fun D dA => j_J6_init D dA x0 x1)
theorem cw_J6_init (Y : JY) (h : 5 ≤ Y.2.2.2.1) : JCw Y (ws_ yJ6_init cJ6_init 2 none) yJ6_init cJ6_init 2 none 4 := ⟨h, by decide, lw_meth q704, q202, by decide, by decide⟩
theorem np_J6_init : JNp yJ6_init.desc 1 := by decide +kernel
-- java/lang/ArrayIndexOutOfBoundsException.<init>(Ljava/lang/String;)V
abbrev Y_J7_init : JY := (cJ7_init, yJ7_init.cls, 2, 5, yJ7_init.name, none, [])
noncomputable def f_J7_init (x0 : Nat) (x1 : Nat) : JM Mem Unit :=
  jb ((f_J6_init x0 x1)) fun _ =>
  jp ()
theorem j_J7_init (D : va_G) (dA : Nat → ClassId) (x0 : Nat) (x1 : Nat) : J (PM D dA false) Y_J7_init [(0, .ref x0), (1, .ref x1)] [] 0 (f_J7_init x0 x1) (FRet injU) := by
  unfold f_J7_init
  refine J_aload_n dJ7_init_0 rfl 0 rfl ?_
  refine J_aload_n dJ7_init_1 rfl 1 rfl ?_
  refine J_callIV (host := "") (as := [.ref x1]) dJ7_init_2 rfl (Nat.le_of_ble_eq_true rfl) (cw_J6_init _ (by decide)) rfl q702 q703 q704 np_J6_init (i_J6_init x0 x1) jad_id rfl ?_
  exact J_return dJ7_init_5 rfl
theorem i_J7_init (x0 : Nat) (x1 : Nat) : Impl (ws_ yJ7_init cJ7_init 2 none) yJ7_init 5 false 0 0 [.ref x0, .ref x1] (f_J7_init x0 x1) injU := impl_of (by decide +kernel) (Nat.le_of_ble_eq_true rfl) (fun D dA => j_J7_init D dA x0 x1)
theorem cw_J7_init (Y : JY) (h : 6 ≤ Y.2.2.2.1) : JCw Y (ws_ yJ7_init cJ7_init 2 none) yJ7_init cJ7_init 2 none 5 := ⟨h, by decide, lw_meth q701, q203, by decide, by decide⟩
theorem np_J7_init : JNp yJ7_init.desc 1 := by decide +kernel
-- java/lang/Math.min(II)I
abbrev Y_J8_min : JY := (cJ8_min, yJ8_min.cls, 2, 1, yJ8_min.name, (some .int), [])
noncomputable def f_J8_min (x0 : Int32) (x1 : Int32) : JM Mem Int32 :=
  if x1 < x0 then
    jp x1
  else
    jp x0
theorem j_J8_min (D : va_G) (dA : Nat → ClassId) (x0 : Int32) (x1 : Int32) : J (PM D dA false) Y_J8_min [(0, .int x0), (1, .int x1)] [] 0 (f_J8_min x0 x1) (FRet injI) := by
  unfold f_J8_min
  refine J_iload_n dJ8_min_0 rfl 0 rfl ?_
  refine J_iload_n dJ8_min_1 rfl 1 rfl ?_
  refine J_icmp_gt (tgt := 9) dJ8_min_2 rfl ?_ ?_
  · refine J_iload_n dJ8_min_9 rfl 1 rfl ?_
    exact J_ireturn dJ8_min_10 rfl
  refine J_iload_n dJ8_min_5 rfl 0 rfl ?_
  refine J_goto (tgt := 10) dJ8_min_6 rfl ?_
  exact J_ireturn dJ8_min_10 rfl
theorem i_J8_min (x0 : Int32) (x1 : Int32) : Impl (ws_ yJ8_min cJ8_min 2 (some .int)) yJ8_min 1 false 0 0 [.int x0, .int x1] (f_J8_min x0 x1) injI := impl_of (by decide +kernel) (Nat.le_of_ble_eq_true rfl) (fun D dA => j_J8_min D dA x0 x1)
theorem cw_J8_min (Y : JY) (h : 2 ≤ Y.2.2.2.1) : JCw Y (ws_ yJ8_min cJ8_min 2 (some .int)) yJ8_min cJ8_min 2 (some .int) 1 := ⟨h, by decide, lw_meth q790, q205, by decide, by decide⟩
theorem np_J8_min : JNp yJ8_min.desc 2 := by decide +kernel
-- java/lang/Math.floorMod(II)I
abbrev Y_J8_floorMod : JY := (cJ8_floorMod, yJ8_floorMod.cls, 3, 1, yJ8_floorMod.name, (some .int), [])
noncomputable def f_J8_floorMod (x0 : Int32) (x1 : Int32) : JM Mem Int32 :=
  jb (jrem x0 x1) fun v1 =>
  if 0 ≤ x0 ^^^ x1 then
    jp v1
  else
  if v1 = 0 then
    jp v1
  else
    jp (v1 + x1)
theorem j_J8_floorMod (D : va_G) (dA : Nat → ClassId) (x0 : Int32) (x1 : Int32) : J (PM D dA false) Y_J8_floorMod [(0, .int x0), (1, .int x1)] [] 0 (f_J8_floorMod x0 x1) (FRet injI) := by
  unfold f_J8_floorMod
  refine J_iload_n dJ8_floorMod_0 rfl 0 rfl ?_
  refine J_iload_n dJ8_floorMod_1 rfl 1 rfl ?_
  refine J_irem dJ8_floorMod_2 (fun v1 => ?_)
  refine J_istore_n (env' := [(2, .int v1), (0, .int x0), (1, .int x1)]) dJ8_floorMod_3 rfl (by decide) rfl ?_
  refine J_iload_n dJ8_floorMod_4 rfl 1 rfl ?_
  refine J_iload_n dJ8_floorMod_5 rfl 2 rfl ?_
  refine J_ixor dJ8_floorMod_6 ?_
  refine J_if_ge (tgt := 18) dJ8_floorMod_7 rfl ?_ ?_
  · refine J_iload_n dJ8_floorMod_18 rfl 0 rfl ?_
    exact J_ireturn dJ8_floorMod_19 rfl
  refine J_iload_n dJ8_floorMod_10 rfl 0 rfl ?_
  refine J_if_eq (tgt := 18) dJ8_floorMod_11 rfl ?_ ?_
  · refine J_iload_n dJ8_floorMod_18 rfl 0 rfl ?_
    exact J_ireturn dJ8_floorMod_19 rfl
  refine J_iload_n dJ8_floorMod_14 rfl 0 rfl ?_
  refine J_iload_n dJ8_floorMod_15 rfl 2 rfl ?_
  refine J_iadd dJ8_floorMod_16 ?_
  exact J_ireturn dJ8_floorMod_17 rfl
theorem i_J8_floorMod (x0 : Int32) (x1 : Int32) : Impl (ws_ yJ8_floorMod cJ8_floorMod 3 (some .int)) yJ8_floorMod 1 false 0 0 [.int x0, .int x1] (f_J8_floorMod x0 x1) injI := impl_of (by decide +kernel) (Nat.le_of_ble_eq_true rfl) (fun D dA => j_J8_floorMod D dA x0 x1)
theorem cw_J8_floorMod (Y : JY) (h : 2 ≤ Y.2.2.2.1) : JCw Y (ws_ yJ8_floorMod cJ8_floorMod 3 (some .int)) yJ8_floorMod cJ8_floorMod 3 (some .int) 1 := ⟨h, by decide, lw_meth q934, q205, by decide, by decide⟩
theorem np_J8_floorMod : JNp yJ8_floorMod.desc 2 := by decide +kernel
-- java/lang/Math.abs(J)J
abbrev Y_J8_abs : JY := (cJ8_abs, yJ8_abs.cls, 2, 1, yJ8_abs.name, (some .long), [])
noncomputable def f_J8_abs (x0 : Int64) : JM Mem Int64 :=
  if (0 : Int64) ≤ x0 then
    jp x0
  else
    jp (-x0)
theorem j_J8_abs (D : va_G) (dA : Nat → ClassId) (x0 : Int64) : J (PM D dA false) Y_J8_abs [(0, .long x0)] [] 0 (f_J8_abs x0) (FRet injL) := by
  unfold f_J8_abs
  refine J_lload_n dJ8_abs_0 rfl 0 rfl ?_
  refine J_lconst (v := 0) dJ8_abs_1 (by decide) ?_
  refine J_lcmp_ge (tgt := 11) dJ8_abs_2 dJ8_abs_3 rfl ?_ ?_
  · refine J_lload_n dJ8_abs_11 rfl 0 rfl ?_
    exact J_lreturn dJ8_abs_12 rfl
  refine J_lload_n dJ8_abs_6 rfl 0 rfl ?_
  refine J_lneg dJ8_abs_7 ?_
  refine J_goto (tgt := 12) dJ8_abs_8 rfl ?_
  exact J_lreturn dJ8_abs_12 rfl
theorem i_J8_abs (x0 : Int64) : Impl (ws_ yJ8_abs cJ8_abs 2 (some .long)) yJ8_abs 1 false 0 0 [.long x0] (f_J8_abs x0) injL := impl_of (by decide +kernel) (Nat.le_of_ble_eq_true rfl) (fun D dA => j_J8_abs D dA x0)
theorem cw_J8_abs (Y : JY) (h : 2 ≤ Y.2.2.2.1) : JCw Y (ws_ yJ8_abs cJ8_abs 2 (some .long)) yJ8_abs cJ8_abs 2 (some .long) 1 := ⟨h, by decide, lw_meth q2107, q205, by decide, by decide⟩
theorem np_J8_abs : JNp yJ8_abs.desc 1 := by decide +kernel
-- BracketRoom$Wrong.<init>()V
abbrev Y_X3_init : JY := (cX3_init, yX3_init.cls, 1, 4, yX3_init.name, none, [])
noncomputable def f_X3_init (x0 : Nat) : JM Mem Unit :=
  jb ((f_J2_init x0 none none 0 0)) fun _ =>
  jp ()
theorem j_X3_init (D : va_G) (dA : Nat → ClassId) (x0 : Nat) : J (PM D dA false) Y_X3_init [(0, .ref x0)] [] 0 (f_X3_init x0) (FRet injU) := by
  unfold f_X3_init
  refine J_aload_n dX3_init_0 rfl 0 rfl ?_
  refine J_null dX3_init_1 ?_
  refine J_null dX3_init_2 ?_
  refine J_iconst (v := 0) dX3_init_3 (by decide) ?_
  refine J_iconst (v := 0) dX3_init_4 (by decide) ?_
  refine J_callIV (host := "") (as := [va_rf none, va_rf none, .int 0, .int 0]) dX3_init_5 rfl (Nat.le_of_ble_eq_true rfl) (cw_J2_init _ (by decide)) rfl q281 q282 q283 np_J2_init (i_J2_init x0 none none 0 0) jad_id rfl ?_
  exact J_return dX3_init_8 rfl
theorem i_X3_init (x0 : Nat) : Impl (ws_ yX3_init cX3_init 1 none) yX3_init 4 false 0 0 [.ref x0] (f_X3_init x0) injU := impl_of (plainFor_of_name (by decide)) (Nat.le_of_ble_eq_true rfl) (fun D dA => j_X3_init D dA x0)
theorem cw_X3_init (Y : JY) (h : 5 ≤ Y.2.2.2.1) : JCw Y (ws_ yX3_init cX3_init 1 none) yX3_init cX3_init 1 none 4 := ⟨h, by decide, lw_meth q280, q193, by decide, by decide⟩
theorem np_X3_init : JNp yX3_init.desc 0 := by decide +kernel
-- BracketRoom$Scan.<init>([BLjava/lang/String;Ljava/lang/String;LBracketRoom$Wrong;)V
abbrev Y_X1_init : JY := (cX1_init, yX1_init.cls, 5, 1, yX1_init.name, none, [])
noncomputable def f_X1_init (x0 : Nat) (x1 : Nat) (x2 : Nat) (x3 : Nat) (x4 : Nat) : JM Mem Unit :=
  jb (jputO 1 0 x0 (some x1)) fun _ =>
  jb (jputO 1 6 x0 (some x2)) fun _ =>
  jb (jputO 1 7 x0 (some x3)) fun _ =>
  jb (jputO 1 8 x0 (some x4)) fun _ =>
  jp ()
theorem j_X1_init (D : va_G) (dA : Nat → ClassId) (x0 : Nat) (x1 : Nat) (x2 : Nat) (x3 : Nat) (x4 : Nat) : J (PM D dA false) Y_X1_init [(0, .ref x0), (1, .ref x1), (2, .ref x2), (3, .ref x3), (4, .ref x4)] [] 0 (f_X1_init x0 x1 x2 x3 x4) (FRet injU) := by
  unfold f_X1_init
  refine J_aload_n dX1_init_0 rfl 0 rfl ?_
  refine J_objInit dX1_init_1 (Nat.le_of_ble_eq_true rfl) (by decide) q319 q217 q218 ?_
  refine J_aload_n dX1_init_4 rfl 0 rfl ?_
  refine J_aload_n dX1_init_5 rfl 1 rfl ?_
  refine J_putO (x := (some x1)) dX1_init_6 ⟨fl_X1_9, Or.inr ⟨rfl, rfl, rfl, q328⟩⟩ rfl ?_
  refine J_aload_n dX1_init_9 rfl 0 rfl ?_
  refine J_aload_n dX1_init_10 rfl 2 rfl ?_
  refine J_putO (x := (some x2)) dX1_init_11 ⟨fl_X1_15, Or.inr ⟨rfl, rfl, rfl, q340⟩⟩ rfl ?_
  refine J_aload_n dX1_init_14 rfl 0 rfl ?_
  refine J_aload_n dX1_init_15 rfl 3 rfl ?_
  refine J_putO (x := (some x3)) dX1_init_16 ⟨fl_X1_19, Or.inr ⟨rfl, rfl, rfl, q341⟩⟩ rfl ?_
  refine J_aload_n dX1_init_19 rfl 0 rfl ?_
  refine J_aload dX1_init_20 4 rfl ?_
  refine J_putO (x := (some x4)) dX1_init_22 ⟨fl_X1_22, Or.inr ⟨rfl, rfl, rfl, q342⟩⟩ rfl ?_
  exact J_return dX1_init_25 rfl
theorem i_X1_init (x0 : Nat) (x1 : Nat) (x2 : Nat) (x3 : Nat) (x4 : Nat) : Impl (ws_ yX1_init cX1_init 5 none) yX1_init 1 false 0 0 [.ref x0, .ref x1, .ref x2, .ref x3, .ref x4] (f_X1_init x0 x1 x2 x3 x4) injU := impl_of (plainFor_of_name (by decide)) (Nat.le_of_ble_eq_true rfl) (fun D dA => j_X1_init D dA x0 x1 x2 x3 x4)
theorem cw_X1_init (Y : JY) (h : 2 ≤ Y.2.2.2.1) : JCw Y (ws_ yX1_init cX1_init 5 none) yX1_init cX1_init 5 none 1 := ⟨h, by decide, lw_meth q318, q188, by decide, by decide⟩
theorem np_X1_init : JNp yX1_init.desc 4 := by decide +kernel
-- BracketRoom$Reader.<init>(LBracketRoom$Wrong;)V
abbrev Y_X2_init : JY := (cX2_init, yX2_init.cls, 2, 2, yX2_init.name, none, [])
noncomputable def f_X2_init (x0 : Nat) (x1 : Nat) : JM Mem Unit :=
  jb (jnew (.inr (1, 600)) 600) fun v1 =>
  jb (jldcS 0) fun v2 =>
  jb (jldcS 1) fun v3 =>
  jb ((jkeep (f_X1_init x0 v1 v2 v3 x1))) fun _ =>
  jb (jnew (.inr (0, 3)) 3) fun v4 =>
  jb (jputO 1 14 x0 (some v4)) fun _ =>
  jp ()
theorem j_X2_init (D : va_G) (dA : Nat → ClassId) (x0 : Nat) (x1 : Nat) : J (PM D dA true) Y_X2_init [(0, .ref x0), (1, .ref x1)] [] 0 (f_X2_init x0 x1) (FRet injU) := by
  unfold f_X2_init
  refine J_aload_n dX2_init_0 rfl 0 rfl ?_
  refine J_sipush (v := 600) dX2_init_1 (by decide) ?_
  refine J_newarray (t := 1) (N := 600) dX2_init_4 (by decide) rfl rfl q374 (by decide) (by decide) (by decide) (fun v1 => ?_)
  refine J_ldcS (k := 0) dX2_init_6 rfl (by decide) (fun v2 => ?_)
  refine J_ldcS (k := 1) dX2_init_8 rfl (by decide) (fun v3 => ?_)
  refine J_aload_n dX2_init_10 rfl 1 rfl ?_
  refine J_callIV (host := "") (as := [.ref v1, .ref v2, .ref v3, .ref x1]) dX2_init_11 rfl (Nat.le_of_ble_eq_true rfl) (cw_X1_init _ (by decide)) rfl q316 q317 q318 np_X1_init (i_X1_init x0 v1 v2 v3 x1) jad_keep rfl ?_
  refine J_aload_n dX2_init_14 rfl 0 rfl ?_
  refine J_iconst (v := 3) dX2_init_15 (by decide) ?_
  refine J_newarray (t := 0) (N := 3) dX2_init_16 (by decide) rfl rfl q375 (by decide) (by decide) (by decide) (fun v4 => ?_)
  refine J_putO (x := (some v4)) dX2_init_18 ⟨fl_X2_13, Or.inr ⟨rfl, rfl, rfl, q327⟩⟩ rfl ?_
  exact J_return dX2_init_21 rfl
theorem i_X2_init (x0 : Nat) (x1 : Nat) : Impl (ws_ yX2_init cX2_init 2 none) yX2_init 2 true 2 603 [.ref x0, .ref x1] (f_X2_init x0 x1) injU := impl_of (plainFor_of_name (by decide)) (Nat.le_of_ble_eq_true rfl) (fun D dA => j_X2_init D dA x0 x1)
theorem cw_X2_init (Y : JY) (h : 3 ≤ Y.2.2.2.1) : JCw Y (ws_ yX2_init cX2_init 2 none) yX2_init cX2_init 2 none 2 := ⟨h, by decide, lw_meth q313, q189, by decide, by decide⟩
theorem np_X2_init : JNp yX2_init.desc 1 := by decide +kernel
-- BracketRoom$World.<init>()V
abbrev Y_X4_init : JY := (cX4_init, yX4_init.cls, 1, 1, yX4_init.name, none, [])
noncomputable def f_X4_init (x0 : Nat) : JM Mem Unit :=
  jb (jm3 5 5 5) fun v1 =>
  jb (jputO 3 0 x0 (some v1)) fun _ =>
  jb (jputI 3 1 x0 2) fun _ =>
  jb (jputI 3 2 x0 1) fun _ =>
  jp ()
theorem j_X4_init (D : va_G) (dA : Nat → ClassId) (x0 : Nat) : J (PM D dA true) Y_X4_init [(0, .ref x0)] [] 0 (f_X4_init x0) (FRet injU) := by
  unfold f_X4_init
  refine J_aload_n dX4_init_0 rfl 0 rfl ?_
  refine J_objInit dX4_init_1 (Nat.le_of_ble_eq_true rfl) (by decide) q381 q217 q218 ?_
  refine J_aload_n dX4_init_4 rfl 0 rfl ?_
  refine J_iconst (v := 5) dX4_init_5 (by decide) ?_
  refine J_iconst (v := 5) dX4_init_6 (by decide) ?_
  refine J_iconst (v := 5) dX4_init_7 (by decide) ?_
  refine J_multi3 (n := 5) (N := 5) (k := 5) (K := 5) (o := 5) (O := 5) dX4_init_8 q382 (by decide) (by decide) (by decide) rfl rfl rfl (by decide) (by decide) (by decide) (fun v1 => ?_)
  refine J_putO (x := (some v1)) dX4_init_12 ⟨fl_X4_11, Or.inr ⟨rfl, rfl, rfl, q385⟩⟩ rfl ?_
  refine J_aload_n dX4_init_15 rfl 0 rfl ?_
  refine J_iconst (v := 2) dX4_init_16 (by decide) ?_
  refine J_putI dX4_init_17 ⟨fl_X4_16, Or.inl rfl⟩ rfl ?_
  refine J_aload_n dX4_init_20 rfl 0 rfl ?_
  refine J_iconst (v := 1) dX4_init_21 (by decide) ?_
  refine J_putI dX4_init_22 ⟨fl_X4_20, Or.inl rfl⟩ rfl ?_
  exact J_return dX4_init_25 rfl
theorem i_X4_init (x0 : Nat) : Impl (ws_ yX4_init cX4_init 1 none) yX4_init 1 true 31 155 [.ref x0] (f_X4_init x0) injU := impl_of (plainFor_of_name (by decide)) (Nat.le_of_ble_eq_true rfl) (fun D dA => j_X4_init D dA x0)
theorem cw_X4_init (Y : JY) (h : 2 ≤ Y.2.2.2.1) : JCw Y (ws_ yX4_init cX4_init 1 none) yX4_init cX4_init 1 none 1 := ⟨h, by decide, lw_meth q380, q194, by decide, by decide⟩
theorem np_X4_init : JNp yX4_init.desc 0 := by decide +kernel
-- BracketRoom$Span.<init>()V
abbrev Y_X5_init : JY := (cX5_init, yX5_init.cls, 1, 1, yX5_init.name, none, [])
noncomputable def f_X5_init (x0 : Nat) : JM Mem Unit :=
  jb (jm2 5 5) fun v1 =>
  jb (jputO 4 0 x0 (some v1)) fun _ =>
  jb (jnew (.inr (0, 5)) 5) fun v2 =>
  jb (jputO 4 1 x0 (some v2)) fun _ =>
  jp ()
theorem j_X5_init (D : va_G) (dA : Nat → ClassId) (x0 : Nat) : J (PM D dA true) Y_X5_init [(0, .ref x0)] [] 0 (f_X5_init x0) (FRet injU) := by
  unfold f_X5_init
  refine J_aload_n dX5_init_0 rfl 0 rfl ?_
  refine J_objInit dX5_init_1 (Nat.le_of_ble_eq_true rfl) (by decide) q408 q217 q218 ?_
  refine J_aload_n dX5_init_4 rfl 0 rfl ?_
  refine J_iconst (v := 5) dX5_init_5 (by decide) ?_
  refine J_iconst (v := 5) dX5_init_6 (by decide) ?_
  refine J_multi2 (n := 5) (N := 5) (k := 5) (K := 5) dX5_init_7 q409 (by decide) (by decide) rfl rfl (by decide) (by decide) (fun v1 => ?_)
  refine J_putO (x := (some v1)) dX5_init_11 ⟨fl_X5_11, Or.inr ⟨rfl, rfl, rfl, q410⟩⟩ rfl ?_
  refine J_aload_n dX5_init_14 rfl 0 rfl ?_
  refine J_iconst (v := 5) dX5_init_15 (by decide) ?_
  refine J_newarray (t := 0) (N := 5) dX5_init_16 (by decide) rfl rfl q375 (by decide) (by decide) (by decide) (fun v2 => ?_)
  refine J_putO (x := (some v2)) dX5_init_18 ⟨fl_X5_16, Or.inr ⟨rfl, rfl, rfl, q412⟩⟩ rfl ?_
  exact J_return dX5_init_21 rfl
theorem i_X5_init (x0 : Nat) : Impl (ws_ yX5_init cX5_init 1 none) yX5_init 1 true 7 35 [.ref x0] (f_X5_init x0) injU := impl_of (plainFor_of_name (by decide)) (Nat.le_of_ble_eq_true rfl) (fun D dA => j_X5_init D dA x0)
theorem cw_X5_init (Y : JY) (h : 2 ≤ Y.2.2.2.1) : JCw Y (ws_ yX5_init cX5_init 1 none) yX5_init cX5_init 1 none 1 := ⟨h, by decide, lw_meth q407, q195, by decide, by decide⟩
theorem np_X5_init : JNp yX5_init.desc 0 := by decide +kernel
-- BracketRoom$Tray.<init>()V
abbrev Y_X6_init : JY := (cX6_init, yX6_init.cls, 1, 1, yX6_init.name, none, [])
noncomputable def f_X6_init (x0 : Nat) : JM Mem Unit :=
  jp ()
theorem j_X6_init (D : va_G) (dA : Nat → ClassId) (x0 : Nat) : J (PM D dA false) Y_X6_init [(0, .ref x0)] [] 0 (f_X6_init x0) (FRet injU) := by
  unfold f_X6_init
  refine J_aload_n dX6_init_0 rfl 0 rfl ?_
  refine J_objInit dX6_init_1 (Nat.le_of_ble_eq_true rfl) (by decide) q432 q217 q218 ?_
  exact J_return dX6_init_4 rfl
theorem i_X6_init (x0 : Nat) : Impl (ws_ yX6_init cX6_init 1 none) yX6_init 1 false 0 0 [.ref x0] (f_X6_init x0) injU := impl_of (plainFor_of_name (by decide)) (Nat.le_of_ble_eq_true rfl) (fun D dA => j_X6_init D dA x0)
theorem cw_X6_init (Y : JY) (h : 2 ≤ Y.2.2.2.1) : JCw Y (ws_ yX6_init cX6_init 1 none) yX6_init cX6_init 1 none 1 := ⟨h, by decide, lw_meth q431, q196, by decide, by decide⟩
theorem np_X6_init : JNp yX6_init.desc 0 := by decide +kernel
-- BracketRoom$Kept.<init>()V
abbrev Y_X7_init : JY := (cX7_init, yX7_init.cls, 2, 2, yX7_init.name, none, [])
noncomputable def X7_init_L32 (x0 : Nat) (x1 : Int32) : JM Mem (Unit ⊕ (Int32)) :=
  if 4 ≤ x1 then
    jinl (jp ())
  else
  jb (jgetA 6 1 x0) fun v4 =>
  jb (jnew (.inl 3) 3) fun v5 =>
  jb ((jpay 31 155 (f_X4_init v5))) fun _ =>
  jb (jast_a 7 3 v4 x1 v5) fun _ =>
  jcont (x1 + 1)
theorem j_X7_init_L32 (D : va_G) (dA : Nat → ClassId) (x0 : Nat) (x1 : Int32) : J (PM D dA true) Y_X7_init [(0, .ref x0), (1, .int x1)] [] 32 (X7_init_L32 x0 x1) (FLoop (FRet injU) 32 (fun (t : Int32) => [(0, .ref x0), (1, .int t)])) := by
  unfold X7_init_L32
  refine J_iload_n dX7_init_32 rfl 1 rfl ?_
  refine J_iconst (v := 4) dX7_init_33 (by decide) ?_
  refine J_icmp_ge (tgt := 56) dX7_init_34 rfl ?_ ?_
  · refine J_inl ?_
    exact J_return dX7_init_56 rfl
  refine J_aload_n dX7_init_37 rfl 0 rfl ?_
  refine J_getA dX7_init_38 fl_X7_18 rfl (fun v4 => ?_)
  refine J_iload_n dX7_init_41 rfl 1 rfl ?_
  refine J_new (c := 3) dX7_init_42 (by decide) (by decide) q447 q377 q194 (fun v5 => ?_)
  refine J_dup dX7_init_45 rfl ?_
  refine J_callINV (as := []) dX7_init_46 rfl (Nat.le_of_ble_eq_true rfl) (cw_X4_init _ (by decide)) rfl q448 q379 q380 np_X4_init (i_X4_init v5) jad_pay rfl ?_
  refine J_aasta dX7_init_49 (by decide) (by decide) rfl ?_
  refine J_iinc (v := x1 + 1) (env' := [(1, .int (x1 + 1)), (0, .ref x0)]) dX7_init_50 1 rfl rfl (by decide) rfl ?_
  refine J_goto (tgt := 32) dX7_init_53 rfl ?_
  exact J_cont [1, 0] rfl
noncomputable def f_X7_init (x0 : Nat) : JM Mem Unit :=
  jb (jnew (.inl 3) 3) fun v1 =>
  jb ((jpay 31 155 (f_X4_init v1))) fun _ =>
  jb (jputO 6 0 x0 (some v1)) fun _ =>
  jb (jnew (.inr (7, 4)) 4) fun v2 =>
  jb (jputO 6 1 x0 (some v2)) fun _ =>
  jb (jnew (.inr (4, 4)) 4) fun v3 =>
  jb (jputO 6 2 x0 (some v3)) fun _ =>
  jloop (fun (t : Int32) => X7_init_L32 x0 t) 0
theorem j_X7_init (D : va_G) (dA : Nat → ClassId) (x0 : Nat) : J (PM D dA true) Y_X7_init [(0, .ref x0)] [] 0 (f_X7_init x0) (FRet injU) := by
  unfold f_X7_init
  refine J_aload_n dX7_init_0 rfl 0 rfl ?_
  refine J_objInit dX7_init_1 (Nat.le_of_ble_eq_true rfl) (by decide) q446 q217 q218 ?_
  refine J_aload_n dX7_init_4 rfl 0 rfl ?_
  refine J_new (c := 3) dX7_init_5 (by decide) (by decide) q447 q377 q194 (fun v1 => ?_)
  refine J_dup dX7_init_8 rfl ?_
  refine J_callINV (as := []) dX7_init_9 rfl (Nat.le_of_ble_eq_true rfl) (cw_X4_init _ (by decide)) rfl q448 q379 q380 np_X4_init (i_X4_init v1) jad_pay rfl ?_
  refine J_putO (x := (some v1)) dX7_init_12 ⟨fl_X7_12, Or.inr ⟨rfl, rfl, rfl, q449⟩⟩ rfl ?_
  refine J_aload_n dX7_init_15 rfl 0 rfl ?_
  refine J_iconst (v := 4) dX7_init_16 (by decide) ?_
  refine J_anewarray (t := 7) (N := 4) dX7_init_17 (by decide) rfl q447 q402 (by decide) (by decide) (by decide) (fun v2 => ?_)
  refine J_putO (x := (some v2)) dX7_init_20 ⟨fl_X7_18, Or.inr ⟨rfl, rfl, rfl, q451⟩⟩ rfl ?_
  refine J_aload_n dX7_init_23 rfl 0 rfl ?_
  refine J_iconst (v := 4) dX7_init_24 (by decide) ?_
  refine J_newarray (t := 4) (N := 4) dX7_init_25 (by decide) rfl rfl q423 (by decide) (by decide) (by decide) (fun v3 => ?_)
  refine J_putO (x := (some v3)) dX7_init_27 ⟨fl_X7_22, Or.inr ⟨rfl, rfl, rfl, q453⟩⟩ rfl ?_
  refine J_iconst (v := 0) dX7_init_30 (by decide) ?_
  refine J_istore_n (env' := [(1, .int 0), (0, .ref x0)]) dX7_init_31 rfl (by decide) rfl ?_
  refine J_loop (he := fun (t : Int32) => [(0, .ref x0), (1, .int t)]) [1, 0] rfl (fun t => ?_)
  exact j_X7_init_L32 D dA x0 t
theorem i_X7_init (x0 : Nat) : Impl (ws_ yX7_init cX7_init 2 none) yX7_init 2 true 162 798 [.ref x0] (f_X7_init x0) injU := impl_of (plainFor_of_name (by decide)) (Nat.le_of_ble_eq_true rfl) (fun D dA => j_X7_init D dA x0)
theorem cw_X7_init (Y : JY) (h : 3 ≤ Y.2.2.2.1) : JCw Y (ws_ yX7_init cX7_init 2 none) yX7_init cX7_init 2 none 2 := ⟨h, by decide, lw_meth q445, q197, by decide, by decide⟩
theorem np_X7_init : JNp yX7_init.desc 0 := by decide +kernel
-- BracketRoom$Tray.make(II)V
abbrev Y_X6_make : JY := (cX6_make, yX6_make.cls, 4, 1, yX6_make.name, none, [])
noncomputable def X6_make_b35 (x0 : Nat) (x1 : Int32) (s0 : Nat) : JM Mem Unit :=
  jb (jputO 5 0 x0 (some s0)) fun _ =>
  jb (jputI 5 1 x0 x1) fun _ =>
  jp ()
theorem j_X6_make_b35 (D : va_G) (dA : Nat → ClassId) (x0 : Nat) (x1 : Int32) (s0 : Nat) : J (PM D dA true) Y_X6_make [(0, .ref x0), (1, .int x1)] [.ref s0] 35 (X6_make_b35 x0 x1 s0) (FRet injU) := by
  unfold X6_make_b35
  refine J_astore_n (env' := [(3, .ref s0), (0, .ref x0), (1, .int x1)]) dX6_make_35 rfl (by decide) rfl ?_
  refine J_aload_n dX6_make_36 rfl 1 rfl ?_
  refine J_aload_n dX6_make_37 rfl 0 rfl ?_
  refine J_putO (x := (some s0)) dX6_make_38 ⟨fl_X6_7, Or.inl rfl⟩ rfl ?_
  refine J_aload_n dX6_make_41 rfl 1 rfl ?_
  refine J_iload_n dX6_make_42 rfl 2 rfl ?_
  refine J_putI dX6_make_43 ⟨fl_X6_13, Or.inl rfl⟩ rfl ?_
  exact J_return dX6_make_46 rfl
noncomputable def f_X6_make (x0 : Nat) (x1 : Int32) (x2 : Int32) : JM Mem Unit :=
  if x1 = 0 then
    jb (jnewN 1 x2) fun v4 =>
    X6_make_b35 x0 x1 v4
  else
  if x1 = 1 then
    jb (jnewN 2 x2) fun v3 =>
    X6_make_b35 x0 x1 v3
  else
  if x1 = 2 then
    jb (jnewN 0 x2) fun v2 =>
    X6_make_b35 x0 x1 v2
  else
  jb (jnewN 3 x2) fun v1 =>
  X6_make_b35 x0 x1 v1
theorem j_X6_make (D : va_G) (dA : Nat → ClassId) (x0 : Nat) (x1 : Int32) (x2 : Int32) : J (PM D dA true) Y_X6_make [(0, .ref x0), (1, .int x1), (2, .int x2)] [] 0 (f_X6_make x0 x1 x2) (FRet injU) := by
  unfold f_X6_make
  refine J_iload_n dX6_make_0 rfl 1 rfl ?_
  refine J_if_ne (tgt := 10) dX6_make_1 rfl ?_ ?_
  · refine J_iload_n dX6_make_10 rfl 1 rfl ?_
    refine J_iconst (v := 1) dX6_make_11 (by decide) ?_
    refine J_icmp_ne (tgt := 21) dX6_make_12 rfl ?_ ?_
    · refine J_iload_n dX6_make_21 rfl 1 rfl ?_
      refine J_iconst (v := 2) dX6_make_22 (by decide) ?_
      refine J_icmp_ne (tgt := 32) dX6_make_23 rfl ?_ ?_
      · refine J_iload_n dX6_make_32 rfl 2 rfl ?_
        refine J_newarrayN (t := 3) dX6_make_33 (by decide) rfl rfl q668 (by decide) (fun v1 => ?_)
        refine J_sub [0, 1] rfl ?_
        exact j_X6_make_b35 D dA x0 x1 v1
      refine J_iload_n dX6_make_26 rfl 2 rfl ?_
      refine J_newarrayN (t := 0) dX6_make_27 (by decide) rfl rfl q375 (by decide) (fun v2 => ?_)
      refine J_goto (tgt := 35) dX6_make_29 rfl ?_
      refine J_sub [0, 1] rfl ?_
      exact j_X6_make_b35 D dA x0 x1 v2
    refine J_iload_n dX6_make_15 rfl 2 rfl ?_
    refine J_newarrayN (t := 2) dX6_make_16 (by decide) rfl rfl q667 (by decide) (fun v3 => ?_)
    refine J_goto (tgt := 35) dX6_make_18 rfl ?_
    refine J_sub [0, 1] rfl ?_
    exact j_X6_make_b35 D dA x0 x1 v3
  refine J_iload_n dX6_make_4 rfl 2 rfl ?_
  refine J_newarrayN (t := 1) dX6_make_5 (by decide) rfl rfl q374 (by decide) (fun v4 => ?_)
  refine J_goto (tgt := 35) dX6_make_7 rfl ?_
  refine J_sub [0, 1] rfl ?_
  exact j_X6_make_b35 D dA x0 x1 v4
theorem i_X6_make (x0 : Nat) (x1 : Int32) (x2 : Int32) : Impl (ws_ yX6_make cX6_make 4 none) yX6_make 1 true 1 1000 [.ref x0, .int x1, .int x2] (f_X6_make x0 x1 x2) injU := impl_of (plainFor_of_name (by decide)) (Nat.le_of_ble_eq_true rfl) (fun D dA => j_X6_make D dA x0 x1 x2)
theorem cw_X6_make (Y : JY) (h : 2 ≤ Y.2.2.2.1) : JCw Y (ws_ yX6_make cX6_make 4 none) yX6_make cX6_make 4 none 1 := ⟨h, by decide, lw_meth q666, q196, by decide, by decide⟩
theorem np_X6_make : JNp yX6_make.desc 2 := by decide +kernel
-- BracketRoom$Tray.set(IJ)V
abbrev Y_X6_set : JY := (cX6_set, yX6_set.cls, 4, 1, yX6_set.name, none, [])
noncomputable def f_X6_set (x0 : Nat) (x1 : Int32) (x2 : Int64) : JM Mem Unit :=
  jb (jgetI 5 1 x0) fun v1 =>
  if v1 = 0 then
    jb (jgetA 5 0 x0) fun v7 =>
    jb (jcast 1 v7) fun _ =>
    jb (jast_b v7 x1 (((x2 : Int64).toInt32 : Int32).toInt8.toInt32)) fun _ =>
    jp ()
  else
  jb (jgetI 5 1 x0) fun v2 =>
  if v2 = 1 then
    jb (jgetA 5 0 x0) fun v6 =>
    jb (jcast 2 v6) fun _ =>
    jb (jast_s v6 x1 (((x2 : Int64).toInt32 : Int32).toInt16.toInt32)) fun _ =>
    jp ()
  else
  jb (jgetI 5 1 x0) fun v3 =>
  if v3 = 2 then
    jb (jgetA 5 0 x0) fun v5 =>
    jb (jcast 0 v5) fun _ =>
    jb (jast_i v5 x1 ((x2 : Int64).toInt32)) fun _ =>
    jp ()
  else
  jb (jgetA 5 0 x0) fun v4 =>
  jb (jcast 3 v4) fun _ =>
  jb (jast_l v4 x1 x2) fun _ =>
  jp ()
theorem j_X6_set (D : va_G) (dA : Nat → ClassId) (x0 : Nat) (x1 : Int32) (x2 : Int64) : J (PM D dA false) Y_X6_set [(0, .ref x0), (1, .int x1), (2, .long x2)] [] 0 (f_X6_set x0 x1 x2) (FRet injU) := by
  unfold f_X6_set
  refine J_aload_n dX6_set_0 rfl 0 rfl ?_
  refine J_getI dX6_set_1 fl_X6_13 rfl (fun v1 => ?_)
  refine J_if_ne (tgt := 22) dX6_set_4 rfl ?_ ?_
  · refine J_aload_n dX6_set_22 rfl 0 rfl ?_
    refine J_getI dX6_set_23 fl_X6_13 rfl (fun v2 => ?_)
    refine J_iconst (v := 1) dX6_set_26 (by decide) ?_
    refine J_icmp_ne (tgt := 45) dX6_set_27 rfl ?_ ?_
    · refine J_aload_n dX6_set_45 rfl 0 rfl ?_
      refine J_getI dX6_set_46 fl_X6_13 rfl (fun v3 => ?_)
      refine J_iconst (v := 2) dX6_set_49 (by decide) ?_
      refine J_icmp_ne (tgt := 67) dX6_set_50 rfl ?_ ?_
      · refine J_aload_n dX6_set_67 rfl 0 rfl ?_
        refine J_getA dX6_set_68 fl_X6_7 rfl (fun v4 => ?_)
        refine J_castA (t := 3) dX6_set_71 q724 (by decide +kernel) ?_
        refine J_iload_n dX6_set_74 rfl 1 rfl ?_
        refine J_lload_n dX6_set_75 rfl 2 rfl ?_
        refine J_last dX6_set_76 ?_
        exact J_return dX6_set_77 rfl
      refine J_aload_n dX6_set_53 rfl 0 rfl ?_
      refine J_getA dX6_set_54 fl_X6_7 rfl (fun v5 => ?_)
      refine J_castA (t := 0) dX6_set_57 q723 (by decide +kernel) ?_
      refine J_iload_n dX6_set_60 rfl 1 rfl ?_
      refine J_lload_n dX6_set_61 rfl 2 rfl ?_
      refine J_l2i dX6_set_62 ?_
      refine J_iast dX6_set_63 ?_
      refine J_goto (tgt := 77) dX6_set_64 rfl ?_
      exact J_return dX6_set_77 rfl
    refine J_aload_n dX6_set_30 rfl 0 rfl ?_
    refine J_getA dX6_set_31 fl_X6_7 rfl (fun v6 => ?_)
    refine J_castA (t := 2) dX6_set_34 q722 (by decide +kernel) ?_
    refine J_iload_n dX6_set_37 rfl 1 rfl ?_
    refine J_lload_n dX6_set_38 rfl 2 rfl ?_
    refine J_l2i dX6_set_39 ?_
    refine J_i2s dX6_set_40 ?_
    refine J_sast dX6_set_41 ?_
    refine J_goto (tgt := 77) dX6_set_42 rfl ?_
    exact J_return dX6_set_77 rfl
  refine J_aload_n dX6_set_7 rfl 0 rfl ?_
  refine J_getA dX6_set_8 fl_X6_7 rfl (fun v7 => ?_)
  refine J_castA (t := 1) dX6_set_11 q721 (by decide +kernel) ?_
  refine J_iload_n dX6_set_14 rfl 1 rfl ?_
  refine J_lload_n dX6_set_15 rfl 2 rfl ?_
  refine J_l2i dX6_set_16 ?_
  refine J_i2b dX6_set_17 ?_
  refine J_bast dX6_set_18 ?_
  refine J_goto (tgt := 77) dX6_set_19 rfl ?_
  exact J_return dX6_set_77 rfl
theorem i_X6_set (x0 : Nat) (x1 : Int32) (x2 : Int64) : Impl (ws_ yX6_set cX6_set 4 none) yX6_set 1 false 0 0 [.ref x0, .int x1, .long x2] (f_X6_set x0 x1 x2) injU := impl_of (plainFor_of_name (by decide)) (Nat.le_of_ble_eq_true rfl) (fun D dA => j_X6_set D dA x0 x1 x2)
theorem cw_X6_set (Y : JY) (h : 2 ≤ Y.2.2.2.1) : JCw Y (ws_ yX6_set cX6_set 4 none) yX6_set cX6_set 4 none 1 := ⟨h, by decide, lw_meth q720, q196, by decide, by decide⟩
theorem np_X6_set : JNp yX6_set.desc 2 := by decide +kernel
-- BracketRoom$Tray.get(I)J
abbrev Y_X6_get : JY := (cX6_get, yX6_get.cls, 2, 1, yX6_get.name, (some .long), [])
noncomputable def f_X6_get (x0 : Nat) (x1 : Int32) : JM Mem Int64 :=
  jb (jgetI 5 1 x0) fun v1 =>
  if v1 = 0 then
    jb (jgetA 5 0 x0) fun v10 =>
    jb (jcast 1 v10) fun _ =>
    jb (jald mI 1 v10 x1) fun v11 =>
    jp ((v11 : Int32).toInt64)
  else
  jb (jgetI 5 1 x0) fun v2 =>
  if v2 = 1 then
    jb (jgetA 5 0 x0) fun v8 =>
    jb (jcast 2 v8) fun _ =>
    jb (jald mI 2 v8 x1) fun v9 =>
    jp ((v9 : Int32).toInt64)
  else
  jb (jgetI 5 1 x0) fun v3 =>
  if v3 = 2 then
    jb (jgetA 5 0 x0) fun v6 =>
    jb (jcast 0 v6) fun _ =>
    jb (jald mI 0 v6 x1) fun v7 =>
    jp ((v7 : Int32).toInt64)
  else
  jb (jgetA 5 0 x0) fun v4 =>
  jb (jcast 3 v4) fun _ =>
  jb (jald mL 3 v4 x1) fun v5 =>
  jp v5
theorem j_X6_get (D : va_G) (dA : Nat → ClassId) (x0 : Nat) (x1 : Int32) : J (PM D dA false) Y_X6_get [(0, .ref x0), (1, .int x1)] [] 0 (f_X6_get x0 x1) (FRet injL) := by
  unfold f_X6_get
  refine J_aload_n dX6_get_0 rfl 0 rfl ?_
  refine J_getI dX6_get_1 fl_X6_13 rfl (fun v1 => ?_)
  refine J_if_ne (tgt := 20) dX6_get_4 rfl ?_ ?_
  · refine J_aload_n dX6_get_20 rfl 0 rfl ?_
    refine J_getI dX6_get_21 fl_X6_13 rfl (fun v2 => ?_)
    refine J_iconst (v := 1) dX6_get_24 (by decide) ?_
    refine J_icmp_ne (tgt := 41) dX6_get_25 rfl ?_ ?_
    · refine J_aload_n dX6_get_41 rfl 0 rfl ?_
      refine J_getI dX6_get_42 fl_X6_13 rfl (fun v3 => ?_)
      refine J_iconst (v := 2) dX6_get_45 (by decide) ?_
      refine J_icmp_ne (tgt := 62) dX6_get_46 rfl ?_ ?_
      · refine J_aload_n dX6_get_62 rfl 0 rfl ?_
        refine J_getA dX6_get_63 fl_X6_7 rfl (fun v4 => ?_)
        refine J_castA (t := 3) dX6_get_66 q724 (by decide +kernel) ?_
        refine J_iload_n dX6_get_69 rfl 1 rfl ?_
        refine J_lald dX6_get_70 (fun v5 => ?_)
        exact J_lreturn dX6_get_71 rfl
      refine J_aload_n dX6_get_49 rfl 0 rfl ?_
      refine J_getA dX6_get_50 fl_X6_7 rfl (fun v6 => ?_)
      refine J_castA (t := 0) dX6_get_53 q723 (by decide +kernel) ?_
      refine J_iload_n dX6_get_56 rfl 1 rfl ?_
      refine J_iald dX6_get_57 (fun v7 => ?_)
      refine J_i2l dX6_get_58 ?_
      refine J_goto (tgt := 71) dX6_get_59 rfl ?_
      exact J_lreturn dX6_get_71 rfl
    refine J_aload_n dX6_get_28 rfl 0 rfl ?_
    refine J_getA dX6_get_29 fl_X6_7 rfl (fun v8 => ?_)
    refine J_castA (t := 2) dX6_get_32 q722 (by decide +kernel) ?_
    refine J_iload_n dX6_get_35 rfl 1 rfl ?_
    refine J_sald dX6_get_36 (fun v9 => ?_)
    refine J_i2l dX6_get_37 ?_
    refine J_goto (tgt := 71) dX6_get_38 rfl ?_
    exact J_lreturn dX6_get_71 rfl
  refine J_aload_n dX6_get_7 rfl 0 rfl ?_
  refine J_getA dX6_get_8 fl_X6_7 rfl (fun v10 => ?_)
  refine J_castA (t := 1) dX6_get_11 q721 (by decide +kernel) ?_
  refine J_iload_n dX6_get_14 rfl 1 rfl ?_
  refine J_bald dX6_get_15 (fun v11 => ?_)
  refine J_i2l dX6_get_16 ?_
  refine J_goto (tgt := 71) dX6_get_17 rfl ?_
  exact J_lreturn dX6_get_71 rfl
theorem i_X6_get (x0 : Nat) (x1 : Int32) : Impl (ws_ yX6_get cX6_get 2 (some .long)) yX6_get 1 false 0 0 [.ref x0, .int x1] (f_X6_get x0 x1) injL := impl_of (plainFor_of_name (by decide)) (Nat.le_of_ble_eq_true rfl) (fun D dA => j_X6_get D dA x0 x1)
theorem cw_X6_get (Y : JY) (h : 2 ≤ Y.2.2.2.1) : JCw Y (ws_ yX6_get cX6_get 2 (some .long)) yX6_get cX6_get 2 (some .long) 1 := ⟨h, by decide, lw_meth q736, q196, by decide, by decide⟩
theorem np_X6_get : JNp yX6_get.desc 1 := by decide +kernel
-- BracketRoom$Scan.at(I)I
abbrev Y_X1_at : JY := (cX1_at, yX1_at.cls, 2, 1, yX1_at.name, (some .int), [])
noncomputable def f_X1_at (x0 : Nat) (x1 : Int32) : JM Mem Int32 :=
  jb (jgetI 1 1 x0) fun v1 =>
  if v1 ≤ x1 then
    jp (-1)
  else
  jb (jgetA 1 0 x0) fun v2 =>
  jb (jald mI 1 v2 x1) fun v3 =>
  jp (v3 &&& 255)
theorem j_X1_at (D : va_G) (dA : Nat → ClassId) (x0 : Nat) (x1 : Int32) : J (PM D dA false) Y_X1_at [(0, .ref x0), (1, .int x1)] [] 0 (f_X1_at x0 x1) (FRet injI) := by
  unfold f_X1_at
  refine J_iload_n dX1_at_0 rfl 1 rfl ?_
  refine J_aload_n dX1_at_1 rfl 0 rfl ?_
  refine J_getI dX1_at_2 fl_X1_26 rfl (fun v1 => ?_)
  refine J_icmp_ge (tgt := 21) dX1_at_5 rfl ?_ ?_
  · refine J_iconst (v := (-1)) dX1_at_21 (by decide) ?_
    exact J_ireturn dX1_at_22 rfl
  refine J_aload_n dX1_at_8 rfl 0 rfl ?_
  refine J_getA dX1_at_9 fl_X1_9 rfl (fun v2 => ?_)
  refine J_iload_n dX1_at_12 rfl 1 rfl ?_
  refine J_bald dX1_at_13 (fun v3 => ?_)
  refine J_sipush (v := 255) dX1_at_14 (by decide) ?_
  refine J_iand dX1_at_17 ?_
  refine J_goto (tgt := 22) dX1_at_18 rfl ?_
  exact J_ireturn dX1_at_22 rfl
theorem i_X1_at (x0 : Nat) (x1 : Int32) : Impl (ws_ yX1_at cX1_at 2 (some .int)) yX1_at 1 false 0 0 [.ref x0, .int x1] (f_X1_at x0 x1) injI := impl_of (plainFor_of_name (by decide)) (Nat.le_of_ble_eq_true rfl) (fun D dA => j_X1_at D dA x0 x1)
theorem cw_X1_at (Y : JY) (h : 2 ≤ Y.2.2.2.1) : JCw Y (ws_ yX1_at cX1_at 2 (some .int)) yX1_at cX1_at 2 (some .int) 1 := ⟨h, by decide, lw_meth q780, q188, by decide, by decide⟩
theorem np_X1_at : JNp yX1_at.desc 1 := by decide +kernel
-- BracketRoom$Scan.isSmall(I)Z
abbrev Y_X1_isSmall : JY := (cX1_isSmall, yX1_isSmall.cls, 1, 1, yX1_isSmall.name, (some .boolean), [])
noncomputable def f_X1_isSmall (x0 : Int32) : JM Mem Int32 :=
  if x0 < 97 then
    jp 0
  else
  if 122 < x0 then
    jp 0
  else
    jp 1
theorem j_X1_isSmall (D : va_G) (dA : Nat → ClassId) (x0 : Int32) : J (PM D dA false) Y_X1_isSmall [(0, .int x0)] [] 0 (f_X1_isSmall x0) (FRet injI) := by
  unfold f_X1_isSmall
  refine J_iload_n dX1_isSmall_0 rfl 0 rfl ?_
  refine J_bipush (v := 97) dX1_isSmall_1 (by decide) ?_
  refine J_icmp_lt (tgt := 16) dX1_isSmall_3 rfl ?_ ?_
  · refine J_iconst (v := 0) dX1_isSmall_16 (by decide) ?_
    exact J_zreturn0 dX1_isSmall_17 rfl
  refine J_iload_n dX1_isSmall_6 rfl 0 rfl ?_
  refine J_bipush (v := 122) dX1_isSmall_7 (by decide) ?_
  refine J_icmp_gt (tgt := 16) dX1_isSmall_9 rfl ?_ ?_
  · refine J_iconst (v := 0) dX1_isSmall_16 (by decide) ?_
    exact J_zreturn0 dX1_isSmall_17 rfl
  refine J_iconst (v := 1) dX1_isSmall_12 (by decide) ?_
  refine J_goto (tgt := 17) dX1_isSmall_13 rfl ?_
  exact J_zreturn1 dX1_isSmall_17 rfl
theorem i_X1_isSmall (x0 : Int32) : Impl (ws_ yX1_isSmall cX1_isSmall 1 (some .boolean)) yX1_isSmall 1 false 0 0 [.int x0] (f_X1_isSmall x0) injI := impl_of (plainFor_of_name (by decide)) (Nat.le_of_ble_eq_true rfl) (fun D dA => j_X1_isSmall D dA x0)
theorem cw_X1_isSmall (Y : JY) (h : 2 ≤ Y.2.2.2.1) : JCw Y (ws_ yX1_isSmall cX1_isSmall 1 (some .boolean)) yX1_isSmall cX1_isSmall 1 (some .boolean) 1 := ⟨h, by decide, lw_meth q783, q188, by decide, by decide⟩
theorem np_X1_isSmall : JNp yX1_isSmall.desc 1 := by decide +kernel
-- BracketRoom$Scan.isDigit(I)Z
abbrev Y_X1_isDigit : JY := (cX1_isDigit, yX1_isDigit.cls, 1, 1, yX1_isDigit.name, (some .boolean), [])
noncomputable def f_X1_isDigit (x0 : Int32) : JM Mem Int32 :=
  if x0 < 48 then
    jp 0
  else
  if 57 < x0 then
    jp 0
  else
    jp 1
theorem j_X1_isDigit (D : va_G) (dA : Nat → ClassId) (x0 : Int32) : J (PM D dA false) Y_X1_isDigit [(0, .int x0)] [] 0 (f_X1_isDigit x0) (FRet injI) := by
  unfold f_X1_isDigit
  refine J_iload_n dX1_isDigit_0 rfl 0 rfl ?_
  refine J_bipush (v := 48) dX1_isDigit_1 (by decide) ?_
  refine J_icmp_lt (tgt := 16) dX1_isDigit_3 rfl ?_ ?_
  · refine J_iconst (v := 0) dX1_isDigit_16 (by decide) ?_
    exact J_zreturn0 dX1_isDigit_17 rfl
  refine J_iload_n dX1_isDigit_6 rfl 0 rfl ?_
  refine J_bipush (v := 57) dX1_isDigit_7 (by decide) ?_
  refine J_icmp_gt (tgt := 16) dX1_isDigit_9 rfl ?_ ?_
  · refine J_iconst (v := 0) dX1_isDigit_16 (by decide) ?_
    exact J_zreturn0 dX1_isDigit_17 rfl
  refine J_iconst (v := 1) dX1_isDigit_12 (by decide) ?_
  refine J_goto (tgt := 17) dX1_isDigit_13 rfl ?_
  exact J_zreturn1 dX1_isDigit_17 rfl
theorem i_X1_isDigit (x0 : Int32) : Impl (ws_ yX1_isDigit cX1_isDigit 1 (some .boolean)) yX1_isDigit 1 false 0 0 [.int x0] (f_X1_isDigit x0) injI := impl_of (plainFor_of_name (by decide)) (Nat.le_of_ble_eq_true rfl) (fun D dA => j_X1_isDigit D dA x0)
theorem cw_X1_isDigit (Y : JY) (h : 2 ≤ Y.2.2.2.1) : JCw Y (ws_ yX1_isDigit cX1_isDigit 1 (some .boolean)) yX1_isDigit cX1_isDigit 1 (some .boolean) 1 := ⟨h, by decide, lw_meth q786, q188, by decide, by decide⟩
theorem np_X1_isDigit : JNp yX1_isDigit.desc 1 := by decide +kernel
-- BracketRoom$Scan.isSign(I)Z
abbrev Y_X1_isSign : JY := (cX1_isSign, yX1_isSign.cls, 3, 5, yX1_isSign.name, (some .boolean), [])
noncomputable def X1_isSign_L2 (x0 : Nat) (x1 : Int32) (x2 : Int32) : JM Mem (Int32 ⊕ (Int32)) :=
  jb (jgetA 1 7 x0) fun v1 =>
  jb (jcallT v1 (f_J4_length v1)) fun v2 =>
  if v2 ≤ x2 then
    jinl (jp 0)
  else
  jb (jgetA 1 7 x0) fun v3 =>
  jb (jcallT v3 (f_J4_charAt v3 x2)) fun v4 =>
  if v4 = x1 then
    jinl (jp 1)
  else
    jcont (x2 + 1)
theorem j_X1_isSign_L2 (D : va_G) (dA : Nat → ClassId) (x0 : Nat) (x1 : Int32) (x2 : Int32) : J (PM D dA false) Y_X1_isSign [(0, .ref x0), (1, .int x1), (2, .int x2)] [] 2 (X1_isSign_L2 x0 x1 x2) (FLoop (FRet injI) 2 (fun (t : Int32) => [(0, .ref x0), (1, .int x1), (2, .int t)])) := by
  unfold X1_isSign_L2
  refine J_iload_n dX1_isSign_2 rfl 2 rfl ?_
  refine J_aload_n dX1_isSign_3 rfl 0 rfl ?_
  refine J_getA dX1_isSign_4 fl_X1_19 rfl (fun v1 => ?_)
  refine J_callTI (as := []) dX1_isSign_7 rfl (Nat.le_of_ble_eq_true rfl) (cw_J4_length _ (by decide)) q795 q796 q797 q798 np_J4_length (i_J4_length v1) jad_id rfl (fun v2 => ?_)
  refine J_icmp_ge (tgt := 33) dX1_isSign_10 rfl ?_ ?_
  · refine J_inl ?_
    refine J_iconst (v := 0) dX1_isSign_33 (by decide) ?_
    exact J_zreturn0 dX1_isSign_34 rfl
  refine J_aload_n dX1_isSign_13 rfl 0 rfl ?_
  refine J_getA dX1_isSign_14 fl_X1_19 rfl (fun v3 => ?_)
  refine J_iload_n dX1_isSign_17 rfl 2 rfl ?_
  refine J_callTI (as := [.int x2]) dX1_isSign_18 rfl (Nat.le_of_ble_eq_true rfl) (cw_J4_charAt _ (by decide)) q805 q806 q807 q808 np_J4_charAt (i_J4_charAt v3 x2) jad_id rfl (fun v4 => ?_)
  refine J_iload_n dX1_isSign_21 rfl 1 rfl ?_
  refine J_icmp_ne (tgt := 27) dX1_isSign_22 rfl ?_ ?_
  · refine J_iinc (v := x2 + 1) (env' := [(2, .int (x2 + 1)), (0, .ref x0), (1, .int x1)]) dX1_isSign_27 2 rfl rfl (by decide) rfl ?_
    refine J_goto (tgt := 2) dX1_isSign_30 rfl ?_
    exact J_cont [1, 2, 0] rfl
  refine J_inl ?_
  refine J_iconst (v := 1) dX1_isSign_25 (by decide) ?_
  exact J_zreturn1 dX1_isSign_26 rfl
noncomputable def f_X1_isSign (x0 : Nat) (x1 : Int32) : JM Mem Int32 :=
  jloop (fun (t : Int32) => X1_isSign_L2 x0 x1 t) 0
theorem j_X1_isSign (D : va_G) (dA : Nat → ClassId) (x0 : Nat) (x1 : Int32) : J (PM D dA false) Y_X1_isSign [(0, .ref x0), (1, .int x1)] [] 0 (f_X1_isSign x0 x1) (FRet injI) := by
  unfold f_X1_isSign
  refine J_iconst (v := 0) dX1_isSign_0 (by decide) ?_
  refine J_istore_n (env' := [(2, .int 0), (0, .ref x0), (1, .int x1)]) dX1_isSign_1 rfl (by decide) rfl ?_
  refine J_loop (he := fun (t : Int32) => [(0, .ref x0), (1, .int x1), (2, .int t)]) [1, 2, 0] rfl (fun t => ?_)
  exact j_X1_isSign_L2 D dA x0 x1 t
theorem i_X1_isSign (x0 : Nat) (x1 : Int32) : Impl (ws_ yX1_isSign cX1_isSign 3 (some .boolean)) yX1_isSign 5 false 0 0 [.ref x0, .int x1] (f_X1_isSign x0 x1) injI := impl_of (plainFor_of_name (by decide)) (Nat.le_of_ble_eq_true rfl) (fun D dA => j_X1_isSign D dA x0 x1)
theorem cw_X1_isSign (Y : JY) (h : 6 ≤ Y.2.2.2.1) : JCw Y (ws_ yX1_isSign cX1_isSign 3 (some .boolean)) yX1_isSign cX1_isSign 3 (some .boolean) 5 := ⟨h, by decide, lw_meth q794, q188, by decide, by decide⟩
theorem np_X1_isSign : JNp yX1_isSign.desc 1 := by decide +kernel
-- BracketRoom$Scan.next()V
abbrev Y_X1_next : JY := (cX1_next, yX1_next.cls, 2, 6, yX1_next.name, none, [])
noncomputable def X1_next_b26 (x0 : Nat) : JM Mem (Unit ⊕ (Unit)) :=
  jb (jgetI 1 4 x0) fun v3 =>
  jb (jputI 1 4 x0 (v3 + 1)) fun _ =>
  jcont ()
theorem j_X1_next_b26 (D : va_G) (dA : Nat → ClassId) (x0 : Nat) : J (PM D dA false) Y_X1_next [(0, .ref x0)] [] 26 (X1_next_b26 x0) (FLoop (FRet injU) 0 (fun (t : Unit) => [(0, .ref x0)])) := by
  unfold X1_next_b26
  refine J_aload_n dX1_next_26 rfl 0 rfl ?_
  refine J_dup dX1_next_27 rfl ?_
  refine J_getI dX1_next_28 fl_X1_30 rfl (fun v3 => ?_)
  refine J_iconst (v := 1) dX1_next_31 (by decide) ?_
  refine J_iadd dX1_next_32 ?_
  refine J_putI dX1_next_33 ⟨fl_X1_30, Or.inl rfl⟩ rfl ?_
  refine J_goto (tgt := 0) dX1_next_36 rfl ?_
  exact J_cont [0] rfl
noncomputable def X1_next_b232 (s0 : Nat) (s1 : Int32) : JM Mem Unit :=
  jb (jputI 1 2 s0 s1) fun _ =>
  jp ()
theorem j_X1_next_b232 (D : va_G) (dA : Nat → ClassId) (s0 : Nat) (s1 : Int32) : J (PM D dA false) Y_X1_next [] [.int s1, .ref s0] 232 (X1_next_b232 s0 s1) (FRet injU) := by
  unfold X1_next_b232
  refine J_putI dX1_next_232 ⟨fl_X1_56, Or.inl rfl⟩ rfl ?_
  exact J_return dX1_next_235 rfl
noncomputable def X1_next_b202 (s0 : Nat) (s1 : Int32) : JM Mem Unit :=
  jb (jputI 1 2 s0 s1) fun _ =>
  jp ()
theorem j_X1_next_b202 (D : va_G) (dA : Nat → ClassId) (s0 : Nat) (s1 : Int32) : J (PM D dA false) Y_X1_next [] [.int s1, .ref s0] 202 (X1_next_b202 s0 s1) (FRet injU) := by
  unfold X1_next_b202
  refine J_putI dX1_next_202 ⟨fl_X1_56, Or.inl rfl⟩ rfl ?_
  refine J_goto (tgt := 235) dX1_next_205 rfl ?_
  exact J_return dX1_next_235 rfl
noncomputable def X1_next_b183 (x0 : Nat) : JM Mem Unit :=
  jb (jgetI 1 4 x0) fun v16 =>
  jb (jgetI 1 3 x0) fun v17 =>
  if v16 - v17 ≤ 4 then
    X1_next_b202 x0 3
  else
    X1_next_b202 x0 1
theorem j_X1_next_b183 (D : va_G) (dA : Nat → ClassId) (x0 : Nat) : J (PM D dA false) Y_X1_next [(0, .ref x0)] [] 183 (X1_next_b183 x0) (FRet injU) := by
  unfold X1_next_b183
  refine J_aload_n dX1_next_183 rfl 0 rfl ?_
  refine J_aload_n dX1_next_184 rfl 0 rfl ?_
  refine J_getI dX1_next_185 fl_X1_30 rfl (fun v16 => ?_)
  refine J_aload_n dX1_next_188 rfl 0 rfl ?_
  refine J_getI dX1_next_189 fl_X1_50 rfl (fun v17 => ?_)
  refine J_isub dX1_next_192 ?_
  refine J_iconst (v := 4) dX1_next_193 (by decide) ?_
  refine J_icmp_le (tgt := 201) dX1_next_194 rfl ?_ ?_
  · refine J_iconst (v := 3) dX1_next_201 (by decide) ?_
    refine J_sub [] rfl ?_
    exact j_X1_next_b202 D dA x0 3
  refine J_iconst (v := 1) dX1_next_197 (by decide) ?_
  refine J_goto (tgt := 202) dX1_next_198 rfl ?_
  refine J_sub [] rfl ?_
  exact j_X1_next_b202 D dA x0 1
noncomputable def X1_next_L128 (x0 : Nat) : JM Mem (Unit ⊕ (Unit)) :=
  jb (jgetI 1 4 x0) fun v13 =>
  jb (jcall 1 x0 (f_X1_at x0 v13)) fun v14 =>
  jb ((f_X1_isDigit v14)) fun v15 =>
  if v15 = 0 then
    jinl (X1_next_b183 x0)
  else
  jb (jgetI 1 5 x0) fun v18 =>
  jb (jgetI 1 4 x0) fun v19 =>
  jb (jcall 1 x0 (f_X1_at x0 v19)) fun v20 =>
  jb ((f_J8_min 100000 (((10 * v18) + v20) - 48))) fun v21 =>
  jb (jputI 1 5 x0 v21) fun _ =>
  jb (jgetI 1 4 x0) fun v22 =>
  jb (jputI 1 4 x0 (v22 + 1)) fun _ =>
  jcont ()
theorem j_X1_next_L128 (D : va_G) (dA : Nat → ClassId) (x0 : Nat) : J (PM D dA false) Y_X1_next [(0, .ref x0)] [] 128 (X1_next_L128 x0) (FLoop (FRet injU) 128 (fun (t : Unit) => [(0, .ref x0)])) := by
  unfold X1_next_L128
  refine J_aload_n dX1_next_128 rfl 0 rfl ?_
  refine J_aload_n dX1_next_129 rfl 0 rfl ?_
  refine J_getI dX1_next_130 fl_X1_30 rfl (fun v13 => ?_)
  refine J_callPI (c := 1) (as := [.int v13]) dX1_next_133 (by decide) rfl (Nat.le_of_ble_eq_true rfl) (cw_X1_at _ (by decide)) q777 q779 q769 rfl q778 q780 np_X1_at (i_X1_at x0 v13) jad_id rfl (fun v14 => ?_)
  refine J_callSI (host := "") (as := [.int v14]) dX1_next_136 rfl (Nat.le_of_ble_eq_true rfl) (cw_X1_isDigit _ (by decide)) q784 q785 q786 np_X1_isDigit (i_X1_isDigit v14) jad_id rfl (fun v15 => ?_)
  refine J_if_eq (tgt := 183) dX1_next_139 rfl ?_ ?_
  · refine J_inl ?_
    refine J_sub [0] rfl ?_
    exact j_X1_next_b183 D dA x0
  refine J_aload_n dX1_next_142 rfl 0 rfl ?_
  refine J_ldc dX1_next_143 q787 ?_
  refine J_bipush (v := 10) dX1_next_145 (by decide) ?_
  refine J_aload_n dX1_next_147 rfl 0 rfl ?_
  refine J_getI dX1_next_148 fl_X1_53 rfl (fun v18 => ?_)
  refine J_imul dX1_next_151 ?_
  refine J_aload_n dX1_next_152 rfl 0 rfl ?_
  refine J_aload_n dX1_next_153 rfl 0 rfl ?_
  refine J_getI dX1_next_154 fl_X1_30 rfl (fun v19 => ?_)
  refine J_callPI (c := 1) (as := [.int v19]) dX1_next_157 (by decide) rfl (Nat.le_of_ble_eq_true rfl) (cw_X1_at _ (by decide)) q777 q779 q769 rfl q778 q780 np_X1_at (i_X1_at x0 v19) jad_id rfl (fun v20 => ?_)
  refine J_iadd dX1_next_160 ?_
  refine J_bipush (v := 48) dX1_next_161 (by decide) ?_
  refine J_isub dX1_next_163 ?_
  refine J_callSI (host := "") (as := [.int 100000, .int (((10 * v18) + v20) - 48)]) dX1_next_164 rfl (Nat.le_of_ble_eq_true rfl) (cw_J8_min _ (by decide)) q788 q789 q790 np_J8_min (i_J8_min 100000 (((10 * v18) + v20) - 48)) jad_id rfl (fun v21 => ?_)
  refine J_putI dX1_next_167 ⟨fl_X1_53, Or.inl rfl⟩ rfl ?_
  refine J_aload_n dX1_next_170 rfl 0 rfl ?_
  refine J_dup dX1_next_171 rfl ?_
  refine J_getI dX1_next_172 fl_X1_30 rfl (fun v22 => ?_)
  refine J_iconst (v := 1) dX1_next_175 (by decide) ?_
  refine J_iadd dX1_next_176 ?_
  refine J_putI dX1_next_177 ⟨fl_X1_30, Or.inl rfl⟩ rfl ?_
  refine J_goto (tgt := 128) dX1_next_180 rfl ?_
  exact J_cont [0] rfl
noncomputable def X1_next_b108 (x0 : Nat) : JM Mem Unit :=
  jb (jputI 1 2 x0 2) fun _ =>
  jp ()
theorem j_X1_next_b108 (D : va_G) (dA : Nat → ClassId) (x0 : Nat) : J (PM D dA false) Y_X1_next [(0, .ref x0)] [] 108 (X1_next_b108 x0) (FRet injU) := by
  unfold X1_next_b108
  refine J_aload_n dX1_next_108 rfl 0 rfl ?_
  refine J_iconst (v := 2) dX1_next_109 (by decide) ?_
  refine J_putI dX1_next_110 ⟨fl_X1_56, Or.inl rfl⟩ rfl ?_
  refine J_goto (tgt := 235) dX1_next_113 rfl ?_
  exact J_return dX1_next_235 rfl
noncomputable def X1_next_L81 (x0 : Nat) : JM Mem (Unit ⊕ (Unit)) :=
  jb (jgetI 1 4 x0) fun v23 =>
  jb (jcall 1 x0 (f_X1_at x0 v23)) fun v24 =>
  jb ((f_X1_isSmall v24)) fun v25 =>
  if v25 = 0 then
    jinl (X1_next_b108 x0)
  else
  jb (jgetI 1 4 x0) fun v26 =>
  jb (jputI 1 4 x0 (v26 + 1)) fun _ =>
  jcont ()
theorem j_X1_next_L81 (D : va_G) (dA : Nat → ClassId) (x0 : Nat) : J (PM D dA false) Y_X1_next [(0, .ref x0)] [] 81 (X1_next_L81 x0) (FLoop (FRet injU) 81 (fun (t : Unit) => [(0, .ref x0)])) := by
  unfold X1_next_L81
  refine J_aload_n dX1_next_81 rfl 0 rfl ?_
  refine J_aload_n dX1_next_82 rfl 0 rfl ?_
  refine J_getI dX1_next_83 fl_X1_30 rfl (fun v23 => ?_)
  refine J_callPI (c := 1) (as := [.int v23]) dX1_next_86 (by decide) rfl (Nat.le_of_ble_eq_true rfl) (cw_X1_at _ (by decide)) q777 q779 q769 rfl q778 q780 np_X1_at (i_X1_at x0 v23) jad_id rfl (fun v24 => ?_)
  refine J_callSI (host := "") (as := [.int v24]) dX1_next_89 rfl (Nat.le_of_ble_eq_true rfl) (cw_X1_isSmall _ (by decide)) q781 q782 q783 np_X1_isSmall (i_X1_isSmall v24) jad_id rfl (fun v25 => ?_)
  refine J_if_eq (tgt := 108) dX1_next_92 rfl ?_ ?_
  · refine J_inl ?_
    refine J_sub [0] rfl ?_
    exact j_X1_next_b108 D dA x0
  refine J_aload_n dX1_next_95 rfl 0 rfl ?_
  refine J_dup dX1_next_96 rfl ?_
  refine J_getI dX1_next_97 fl_X1_30 rfl (fun v26 => ?_)
  refine J_iconst (v := 1) dX1_next_100 (by decide) ?_
  refine J_iadd dX1_next_101 ?_
  refine J_putI dX1_next_102 ⟨fl_X1_30, Or.inl rfl⟩ rfl ?_
  refine J_goto (tgt := 81) dX1_next_105 rfl ?_
  exact J_cont [0] rfl
noncomputable def X1_next_b39 (x0 : Nat) : JM Mem Unit :=
  jb (jgetI 1 4 x0) fun v6 =>
  jb (jputI 1 3 x0 v6) fun _ =>
  jb (jgetI 1 4 x0) fun v7 =>
  jb (jcall 1 x0 (f_X1_at x0 v7)) fun v8 =>
  jb (jputI 1 5 x0 v8) fun _ =>
  if v8 = (-1) then
    jb (jputI 1 2 x0 0) fun _ =>
    jp ()
  else
  jb ((f_X1_isSmall v8)) fun v9 =>
  if v9 = 0 then
    jb ((f_X1_isDigit v8)) fun v10 =>
    if v10 = 0 then
      jb (jgetI 1 4 x0) fun v11 =>
      jb (jputI 1 4 x0 (v11 + 1)) fun _ =>
      jb (jcall 1 x0 (f_X1_isSign x0 v8)) fun v12 =>
      if v12 = 0 then
        X1_next_b232 x0 1
      else
        X1_next_b232 x0 4
    else
    jb (jputI 1 5 x0 0) fun _ =>
    jloop (fun (t : Unit) => X1_next_L128 x0) ()
  else
    jloop (fun (t : Unit) => X1_next_L81 x0) ()
theorem j_X1_next_b39 (D : va_G) (dA : Nat → ClassId) (x0 : Nat) : J (PM D dA false) Y_X1_next [(0, .ref x0)] [] 39 (X1_next_b39 x0) (FRet injU) := by
  unfold X1_next_b39
  refine J_aload_n dX1_next_39 rfl 0 rfl ?_
  refine J_aload_n dX1_next_40 rfl 0 rfl ?_
  refine J_getI dX1_next_41 fl_X1_30 rfl (fun v6 => ?_)
  refine J_putI dX1_next_44 ⟨fl_X1_50, Or.inl rfl⟩ rfl ?_
  refine J_aload_n dX1_next_47 rfl 0 rfl ?_
  refine J_aload_n dX1_next_48 rfl 0 rfl ?_
  refine J_getI dX1_next_49 fl_X1_30 rfl (fun v7 => ?_)
  refine J_callPI (c := 1) (as := [.int v7]) dX1_next_52 (by decide) rfl (Nat.le_of_ble_eq_true rfl) (cw_X1_at _ (by decide)) q777 q779 q769 rfl q778 q780 np_X1_at (i_X1_at x0 v7) jad_id rfl (fun v8 => ?_)
  refine J_istore_n (env' := [(1, .int v8), (0, .ref x0)]) dX1_next_55 rfl (by decide) rfl ?_
  refine J_aload_n dX1_next_56 rfl 1 rfl ?_
  refine J_iload_n dX1_next_57 rfl 0 rfl ?_
  refine J_putI dX1_next_58 ⟨fl_X1_53, Or.inl rfl⟩ rfl ?_
  refine J_iload_n dX1_next_61 rfl 0 rfl ?_
  refine J_iconst (v := (-1)) dX1_next_62 (by decide) ?_
  refine J_icmp_ne (tgt := 74) dX1_next_63 rfl ?_ ?_
  · refine J_iload_n dX1_next_74 rfl 0 rfl ?_
    refine J_callSI (host := "") (as := [.int v8]) dX1_next_75 rfl (Nat.le_of_ble_eq_true rfl) (cw_X1_isSmall _ (by decide)) q781 q782 q783 np_X1_isSmall (i_X1_isSmall v8) jad_id rfl (fun v9 => ?_)
    refine J_if_eq (tgt := 116) dX1_next_78 rfl ?_ ?_
    · refine J_iload_n dX1_next_116 rfl 0 rfl ?_
      refine J_callSI (host := "") (as := [.int v8]) dX1_next_117 rfl (Nat.le_of_ble_eq_true rfl) (cw_X1_isDigit _ (by decide)) q784 q785 q786 np_X1_isDigit (i_X1_isDigit v8) jad_id rfl (fun v10 => ?_)
      refine J_if_eq (tgt := 208) dX1_next_120 rfl ?_ ?_
      · refine J_aload_n dX1_next_208 rfl 1 rfl ?_
        refine J_dup dX1_next_209 rfl ?_
        refine J_getI dX1_next_210 fl_X1_30 rfl (fun v11 => ?_)
        refine J_iconst (v := 1) dX1_next_213 (by decide) ?_
        refine J_iadd dX1_next_214 ?_
        refine J_putI dX1_next_215 ⟨fl_X1_30, Or.inl rfl⟩ rfl ?_
        refine J_aload_n dX1_next_218 rfl 1 rfl ?_
        refine J_aload_n dX1_next_219 rfl 1 rfl ?_
        refine J_iload_n dX1_next_220 rfl 0 rfl ?_
        refine J_callPI (c := 1) (as := [.int v8]) dX1_next_221 (by decide) rfl (Nat.le_of_ble_eq_true rfl) (cw_X1_isSign _ (by decide)) q791 q793 q769 rfl q792 q794 np_X1_isSign (i_X1_isSign x0 v8) jad_id rfl (fun v12 => ?_)
        refine J_if_eq (tgt := 231) dX1_next_224 rfl ?_ ?_
        · refine J_iconst (v := 1) dX1_next_231 (by decide) ?_
          refine J_sub [] rfl ?_
          exact j_X1_next_b232 D dA x0 1
        refine J_iconst (v := 4) dX1_next_227 (by decide) ?_
        refine J_goto (tgt := 232) dX1_next_228 rfl ?_
        refine J_sub [] rfl ?_
        exact j_X1_next_b232 D dA x0 4
      refine J_aload_n dX1_next_123 rfl 1 rfl ?_
      refine J_iconst (v := 0) dX1_next_124 (by decide) ?_
      refine J_putI dX1_next_125 ⟨fl_X1_53, Or.inl rfl⟩ rfl ?_
      refine J_loop (he := fun (t : Unit) => [(0, .ref x0)]) [1] rfl (fun t => ?_)
      exact j_X1_next_L128 D dA x0
    refine J_loop (he := fun (t : Unit) => [(0, .ref x0)]) [1] rfl (fun t => ?_)
    exact j_X1_next_L81 D dA x0
  refine J_aload_n dX1_next_66 rfl 1 rfl ?_
  refine J_iconst (v := 0) dX1_next_67 (by decide) ?_
  refine J_putI dX1_next_68 ⟨fl_X1_56, Or.inl rfl⟩ rfl ?_
  refine J_goto (tgt := 235) dX1_next_71 rfl ?_
  exact J_return dX1_next_235 rfl
noncomputable def X1_next_L0 (x0 : Nat) : JM Mem (Unit ⊕ (Unit)) :=
  jb (jgetI 1 4 x0) fun v1 =>
  jb (jcall 1 x0 (f_X1_at x0 v1)) fun v2 =>
  if v2 = 32 then
    X1_next_b26 x0
  else
  jb (jgetI 1 4 x0) fun v4 =>
  jb (jcall 1 x0 (f_X1_at x0 v4)) fun v5 =>
  if v5 = 10 then
    X1_next_b26 x0
  else
    jinl (X1_next_b39 x0)
theorem j_X1_next_L0 (D : va_G) (dA : Nat → ClassId) (x0 : Nat) : J (PM D dA false) Y_X1_next [(0, .ref x0)] [] 0 (X1_next_L0 x0) (FLoop (FRet injU) 0 (fun (t : Unit) => [(0, .ref x0)])) := by
  unfold X1_next_L0
  refine J_aload_n dX1_next_0 rfl 0 rfl ?_
  refine J_aload_n dX1_next_1 rfl 0 rfl ?_
  refine J_getI dX1_next_2 fl_X1_30 rfl (fun v1 => ?_)
  refine J_callPI (c := 1) (as := [.int v1]) dX1_next_5 (by decide) rfl (Nat.le_of_ble_eq_true rfl) (cw_X1_at _ (by decide)) q777 q779 q769 rfl q778 q780 np_X1_at (i_X1_at x0 v1) jad_id rfl (fun v2 => ?_)
  refine J_bipush (v := 32) dX1_next_8 (by decide) ?_
  refine J_icmp_eq (tgt := 26) dX1_next_10 rfl ?_ ?_
  · refine J_sub [0] rfl ?_
    exact j_X1_next_b26 D dA x0
  refine J_aload_n dX1_next_13 rfl 0 rfl ?_
  refine J_aload_n dX1_next_14 rfl 0 rfl ?_
  refine J_getI dX1_next_15 fl_X1_30 rfl (fun v4 => ?_)
  refine J_callPI (c := 1) (as := [.int v4]) dX1_next_18 (by decide) rfl (Nat.le_of_ble_eq_true rfl) (cw_X1_at _ (by decide)) q777 q779 q769 rfl q778 q780 np_X1_at (i_X1_at x0 v4) jad_id rfl (fun v5 => ?_)
  refine J_bipush (v := 10) dX1_next_21 (by decide) ?_
  refine J_icmp_ne (tgt := 39) dX1_next_23 rfl ?_ ?_
  · refine J_inl ?_
    refine J_sub [0] rfl ?_
    exact j_X1_next_b39 D dA x0
  refine J_sub [0] rfl ?_
  exact j_X1_next_b26 D dA x0
noncomputable def f_X1_next (x0 : Nat) : JM Mem Unit :=
  jloop (fun (t : Unit) => X1_next_L0 x0) ()
theorem j_X1_next (D : va_G) (dA : Nat → ClassId) (x0 : Nat) : J (PM D dA false) Y_X1_next [(0, .ref x0)] [] 0 (f_X1_next x0) (FRet injU) := by
  unfold f_X1_next
  refine J_loop (he := fun (t : Unit) => [(0, .ref x0)]) [0] rfl (fun t => ?_)
  exact j_X1_next_L0 D dA x0
theorem i_X1_next (x0 : Nat) : Impl (ws_ yX1_next cX1_next 2 none) yX1_next 6 false 0 0 [.ref x0] (f_X1_next x0) injU := impl_of (plainFor_of_name (by decide)) (Nat.le_of_ble_eq_true rfl) (fun D dA => j_X1_next D dA x0)
theorem cw_X1_next (Y : JY) (h : 7 ≤ Y.2.2.2.1) : JCw Y (ws_ yX1_next cX1_next 2 none) yX1_next cX1_next 2 none 6 := ⟨h, by decide, lw_meth q776, q188, by decide, by decide⟩
theorem np_X1_next : JNp yX1_next.desc 0 := by decide +kernel
-- BracketRoom$Scan.begin(I)V
abbrev Y_X1_begin : JY := (cX1_begin, yX1_begin.cls, 2, 7, yX1_begin.name, none, [])
noncomputable def f_X1_begin (x0 : Nat) (x1 : Int32) : JM Mem Unit :=
  jb (jputI 1 1 x0 x1) fun _ =>
  jb (jputI 1 4 x0 0) fun _ =>
  jb (jcall 1 x0 (f_X1_next x0)) fun _ =>
  jp ()
theorem j_X1_begin (D : va_G) (dA : Nat → ClassId) (x0 : Nat) (x1 : Int32) : J (PM D dA false) Y_X1_begin [(0, .ref x0), (1, .int x1)] [] 0 (f_X1_begin x0 x1) (FRet injU) := by
  unfold f_X1_begin
  refine J_aload_n dX1_begin_0 rfl 0 rfl ?_
  refine J_iload_n dX1_begin_1 rfl 1 rfl ?_
  refine J_putI dX1_begin_2 ⟨fl_X1_26, Or.inl rfl⟩ rfl ?_
  refine J_aload_n dX1_begin_5 rfl 0 rfl ?_
  refine J_iconst (v := 0) dX1_begin_6 (by decide) ?_
  refine J_putI dX1_begin_7 ⟨fl_X1_30, Or.inl rfl⟩ rfl ?_
  refine J_aload_n dX1_begin_10 rfl 0 rfl ?_
  refine J_callVV (c := 1) (as := []) dX1_begin_11 (by decide) rfl (Nat.le_of_ble_eq_true rfl) (cw_X1_next _ (by decide)) q772 q773 q775 q776 np_X1_next (i_X1_next x0) jad_id rfl ?_
  exact J_return dX1_begin_14 rfl
theorem i_X1_begin (x0 : Nat) (x1 : Int32) : Impl (ws_ yX1_begin cX1_begin 2 none) yX1_begin 7 false 0 0 [.ref x0, .int x1] (f_X1_begin x0 x1) injU := impl_of (plainFor_of_name (by decide)) (Nat.le_of_ble_eq_true rfl) (fun D dA => j_X1_begin D dA x0 x1)
theorem cw_X1_begin (Y : JY) (h : 8 ≤ Y.2.2.2.1) : JCw Y (ws_ yX1_begin cX1_begin 2 none) yX1_begin cX1_begin 2 none 7 := ⟨h, by decide, lw_meth q771, q188, by decide, by decide⟩
theorem np_X1_begin : JNp yX1_begin.desc 1 := by decide +kernel
-- BracketRoom$World.clear()V
abbrev Y_X4_clear : JY := (cX4_clear, yX4_clear.cls, 4, 1, yX4_clear.name, none, [])
noncomputable def X4_clear_b44 (x0 : Nat) (x1 : Int32) : JM Mem (Unit ⊕ (Int32)) :=
  jcont (x1 + 1)
theorem j_X4_clear_b44 (D : va_G) (dA : Nat → ClassId) (x0 : Nat) (x1 : Int32) : J (PM D dA false) Y_X4_clear [(0, .ref x0), (1, .int x1)] [] 44 (X4_clear_b44 x0 x1) (FLoop (FRet injU) 2 (fun (t : Int32) => [(0, .ref x0), (1, .int t)])) := by
  unfold X4_clear_b44
  refine J_iinc (v := x1 + 1) (env' := [(1, .int (x1 + 1)), (0, .ref x0)]) dX4_clear_44 1 rfl rfl (by decide) rfl ?_
  refine J_goto (tgt := 2) dX4_clear_47 rfl ?_
  exact J_cont [1, 0] rfl
noncomputable def X4_clear_b38 (x0 : Nat) (x1 : Int32) (x2 : Int32) : JM Mem ((Unit ⊕ (Int32)) ⊕ (Int32)) :=
  jcont (x2 + 1)
theorem j_X4_clear_b38 (D : va_G) (dA : Nat → ClassId) (x0 : Nat) (x1 : Int32) (x2 : Int32) : J (PM D dA false) Y_X4_clear [(0, .ref x0), (1, .int x1), (2, .int x2)] [] 38 (X4_clear_b38 x0 x1 x2) (FLoop (FLoop (FRet injU) 2 (fun (t : Int32) => [(0, .ref x0), (1, .int t)])) 9 (fun (t : Int32) => [(0, .ref x0), (1, .int x1), (2, .int t)])) := by
  unfold X4_clear_b38
  refine J_iinc (v := x2 + 1) (env' := [(2, .int (x2 + 1)), (0, .ref x0), (1, .int x1)]) dX4_clear_38 2 rfl rfl (by decide) rfl ?_
  refine J_goto (tgt := 9) dX4_clear_41 rfl ?_
  exact J_cont [1, 2, 0] rfl
noncomputable def X4_clear_L16 (x0 : Nat) (x1 : Int32) (x2 : Int32) (x3 : Int32) : JM Mem (((Unit ⊕ (Int32)) ⊕ (Int32)) ⊕ (Int32)) :=
  if 5 ≤ x3 then
    jinl (X4_clear_b38 x0 x1 x2)
  else
  jb (jgetA 3 0 x0) fun v1 =>
  jb (jaldA 6 v1 x1) fun v2 =>
  jb (jaldA 5 v2 x2) fun v3 =>
  jb (jast_i v3 x3 0) fun _ =>
  jcont (x3 + 1)
theorem j_X4_clear_L16 (D : va_G) (dA : Nat → ClassId) (x0 : Nat) (x1 : Int32) (x2 : Int32) (x3 : Int32) : J (PM D dA false) Y_X4_clear [(0, .ref x0), (1, .int x1), (2, .int x2), (3, .int x3)] [] 16 (X4_clear_L16 x0 x1 x2 x3) (FLoop (FLoop (FLoop (FRet injU) 2 (fun (t : Int32) => [(0, .ref x0), (1, .int t)])) 9 (fun (t : Int32) => [(0, .ref x0), (1, .int x1), (2, .int t)])) 16 (fun (t : Int32) => [(0, .ref x0), (1, .int x1), (2, .int x2), (3, .int t)])) := by
  unfold X4_clear_L16
  refine J_iload_n dX4_clear_16 rfl 3 rfl ?_
  refine J_iconst (v := 5) dX4_clear_17 (by decide) ?_
  refine J_icmp_ge (tgt := 38) dX4_clear_18 rfl ?_ ?_
  · refine J_inl ?_
    refine J_sub [0, 1, 2] rfl ?_
    exact j_X4_clear_b38 D dA x0 x1 x2
  refine J_aload_n dX4_clear_21 rfl 0 rfl ?_
  refine J_getA dX4_clear_22 fl_X4_11 rfl (fun v1 => ?_)
  refine J_iload_n dX4_clear_25 rfl 1 rfl ?_
  refine J_aald dX4_clear_26 rfl (by decide) (fun v2 => ?_)
  refine J_iload_n dX4_clear_27 rfl 2 rfl ?_
  refine J_aald dX4_clear_28 rfl (by decide) (fun v3 => ?_)
  refine J_iload_n dX4_clear_29 rfl 3 rfl ?_
  refine J_iconst (v := 0) dX4_clear_30 (by decide) ?_
  refine J_iast dX4_clear_31 ?_
  refine J_iinc (v := x3 + 1) (env' := [(3, .int (x3 + 1)), (0, .ref x0), (1, .int x1), (2, .int x2)]) dX4_clear_32 3 rfl rfl (by decide) rfl ?_
  refine J_goto (tgt := 16) dX4_clear_35 rfl ?_
  exact J_cont [1, 2, 3, 0] rfl
noncomputable def X4_clear_L9 (x0 : Nat) (x1 : Int32) (x2 : Int32) : JM Mem ((Unit ⊕ (Int32)) ⊕ (Int32)) :=
  if 5 ≤ x2 then
    jinl (X4_clear_b44 x0 x1)
  else
    jloop (fun (t : Int32) => X4_clear_L16 x0 x1 x2 t) 0
theorem j_X4_clear_L9 (D : va_G) (dA : Nat → ClassId) (x0 : Nat) (x1 : Int32) (x2 : Int32) : J (PM D dA false) Y_X4_clear [(0, .ref x0), (1, .int x1), (2, .int x2)] [] 9 (X4_clear_L9 x0 x1 x2) (FLoop (FLoop (FRet injU) 2 (fun (t : Int32) => [(0, .ref x0), (1, .int t)])) 9 (fun (t : Int32) => [(0, .ref x0), (1, .int x1), (2, .int t)])) := by
  unfold X4_clear_L9
  refine J_iload_n dX4_clear_9 rfl 2 rfl ?_
  refine J_iconst (v := 5) dX4_clear_10 (by decide) ?_
  refine J_icmp_ge (tgt := 44) dX4_clear_11 rfl ?_ ?_
  · refine J_inl ?_
    refine J_sub [0, 1] rfl ?_
    exact j_X4_clear_b44 D dA x0 x1
  refine J_iconst (v := 0) dX4_clear_14 (by decide) ?_
  refine J_istore_n (env' := [(3, .int 0), (0, .ref x0), (1, .int x1), (2, .int x2)]) dX4_clear_15 rfl (by decide) rfl ?_
  refine J_loop (he := fun (t : Int32) => [(0, .ref x0), (1, .int x1), (2, .int x2), (3, .int t)]) [1, 2, 3, 0] rfl (fun t => ?_)
  exact j_X4_clear_L16 D dA x0 x1 x2 t
noncomputable def X4_clear_L2 (x0 : Nat) (x1 : Int32) : JM Mem (Unit ⊕ (Int32)) :=
  if 5 ≤ x1 then
    jinl (jp ())
  else
    jloop (fun (t : Int32) => X4_clear_L9 x0 x1 t) 0
theorem j_X4_clear_L2 (D : va_G) (dA : Nat → ClassId) (x0 : Nat) (x1 : Int32) : J (PM D dA false) Y_X4_clear [(0, .ref x0), (1, .int x1)] [] 2 (X4_clear_L2 x0 x1) (FLoop (FRet injU) 2 (fun (t : Int32) => [(0, .ref x0), (1, .int t)])) := by
  unfold X4_clear_L2
  refine J_iload_n dX4_clear_2 rfl 1 rfl ?_
  refine J_iconst (v := 5) dX4_clear_3 (by decide) ?_
  refine J_icmp_ge (tgt := 50) dX4_clear_4 rfl ?_ ?_
  · refine J_inl ?_
    exact J_return dX4_clear_50 rfl
  refine J_iconst (v := 0) dX4_clear_7 (by decide) ?_
  refine J_istore_n (env' := [(2, .int 0), (0, .ref x0), (1, .int x1)]) dX4_clear_8 rfl (by decide) rfl ?_
  refine J_loop (he := fun (t : Int32) => [(0, .ref x0), (1, .int x1), (2, .int t)]) [1, 2, 0] rfl (fun t => ?_)
  exact j_X4_clear_L9 D dA x0 x1 t
noncomputable def f_X4_clear (x0 : Nat) : JM Mem Unit :=
  jloop (fun (t : Int32) => X4_clear_L2 x0 t) 0
theorem j_X4_clear (D : va_G) (dA : Nat → ClassId) (x0 : Nat) : J (PM D dA false) Y_X4_clear [(0, .ref x0)] [] 0 (f_X4_clear x0) (FRet injU) := by
  unfold f_X4_clear
  refine J_iconst (v := 0) dX4_clear_0 (by decide) ?_
  refine J_istore_n (env' := [(1, .int 0), (0, .ref x0)]) dX4_clear_1 rfl (by decide) rfl ?_
  refine J_loop (he := fun (t : Int32) => [(0, .ref x0), (1, .int t)]) [1, 0] rfl (fun t => ?_)
  exact j_X4_clear_L2 D dA x0 t
theorem i_X4_clear (x0 : Nat) : Impl (ws_ yX4_clear cX4_clear 4 none) yX4_clear 1 false 0 0 [.ref x0] (f_X4_clear x0) injU := impl_of (plainFor_of_name (by decide)) (Nat.le_of_ble_eq_true rfl) (fun D dA => j_X4_clear D dA x0)
theorem cw_X4_clear (Y : JY) (h : 2 ≤ Y.2.2.2.1) : JCw Y (ws_ yX4_clear cX4_clear 4 none) yX4_clear cX4_clear 4 none 1 := ⟨h, by decide, lw_meth q846, q194, by decide, by decide⟩
theorem np_X4_clear : JNp yX4_clear.desc 0 := by decide +kernel
-- BracketRoom$Scan.isWord(Ljava/lang/String;II)Z
abbrev Y_X1_isWord : JY := (cX1_isWord, yX1_isWord.cls, 5, 5, yX1_isWord.name, (some .boolean), [])
noncomputable def X1_isWord_L20 (x0 : Nat) (x1 : Nat) (x2 : Int32) (x3 : Int32) (x4 : Int32) : JM Mem (Int32 ⊕ (Int32)) :=
  if x3 ≤ x4 then
    jinl (jp 1)
  else
  jb (jcallT x1 (f_J4_charAt x1 x4)) fun v3 =>
  jb (jgetI 1 3 x0) fun v4 =>
  jb (jcall 1 x0 (f_X1_at x0 ((v4 + x4) - x2))) fun v5 =>
  if v3 = v5 then
    jcont (x4 + 1)
  else
    jinl (jp 0)
theorem j_X1_isWord_L20 (D : va_G) (dA : Nat → ClassId) (x0 : Nat) (x1 : Nat) (x2 : Int32) (x3 : Int32) (x4 : Int32) : J (PM D dA false) Y_X1_isWord [(0, .ref x0), (1, .ref x1), (2, .int x2), (3, .int x3), (4, .int x4)] [] 20 (X1_isWord_L20 x0 x1 x2 x3 x4) (FLoop (FRet injI) 20 (fun (t : Int32) => [(0, .ref x0), (1, .ref x1), (2, .int x2), (3, .int x3), (4, .int t)])) := by
  unfold X1_isWord_L20
  refine J_iload dX1_isWord_20 4 rfl ?_
  refine J_iload_n dX1_isWord_22 rfl 3 rfl ?_
  refine J_icmp_ge (tgt := 56) dX1_isWord_23 rfl ?_ ?_
  · refine J_inl ?_
    refine J_iconst (v := 1) dX1_isWord_56 (by decide) ?_
    exact J_zreturn1 dX1_isWord_57 rfl
  refine J_aload_n dX1_isWord_26 rfl 1 rfl ?_
  refine J_iload dX1_isWord_27 4 rfl ?_
  refine J_callTI (as := [.int x4]) dX1_isWord_29 rfl (Nat.le_of_ble_eq_true rfl) (cw_J4_charAt _ (by decide)) q805 q806 q807 q808 np_J4_charAt (i_J4_charAt x1 x4) jad_id rfl (fun v3 => ?_)
  refine J_aload_n dX1_isWord_32 rfl 0 rfl ?_
  refine J_aload_n dX1_isWord_33 rfl 0 rfl ?_
  refine J_getI dX1_isWord_34 fl_X1_50 rfl (fun v4 => ?_)
  refine J_iload dX1_isWord_37 4 rfl ?_
  refine J_iadd dX1_isWord_39 ?_
  refine J_iload_n dX1_isWord_40 rfl 2 rfl ?_
  refine J_isub dX1_isWord_41 ?_
  refine J_callPI (c := 1) (as := [.int ((v4 + x4) - x2)]) dX1_isWord_42 (by decide) rfl (Nat.le_of_ble_eq_true rfl) (cw_X1_at _ (by decide)) q777 q779 q769 rfl q778 q780 np_X1_at (i_X1_at x0 ((v4 + x4) - x2)) jad_id rfl (fun v5 => ?_)
  refine J_icmp_eq (tgt := 50) dX1_isWord_45 rfl ?_ ?_
  · refine J_iinc (v := x4 + 1) (env' := [(4, .int (x4 + 1)), (0, .ref x0), (1, .ref x1), (2, .int x2), (3, .int x3)]) dX1_isWord_50 4 rfl rfl (by decide) rfl ?_
    refine J_goto (tgt := 20) dX1_isWord_53 rfl ?_
    exact J_cont [1, 2, 3, 4, 0] rfl
  refine J_inl ?_
  refine J_iconst (v := 0) dX1_isWord_48 (by decide) ?_
  exact J_zreturn0 dX1_isWord_49 rfl
noncomputable def f_X1_isWord (x0 : Nat) (x1 : Nat) (x2 : Int32) (x3 : Int32) : JM Mem Int32 :=
  jb (jgetI 1 4 x0) fun v1 =>
  jb (jgetI 1 3 x0) fun v2 =>
  if x3 - x2 = v1 - v2 then
    jloop (fun (t : Int32) => X1_isWord_L20 x0 x1 x2 x3 t) x2
  else
    jp 0
theorem j_X1_isWord (D : va_G) (dA : Nat → ClassId) (x0 : Nat) (x1 : Nat) (x2 : Int32) (x3 : Int32) : J (PM D dA false) Y_X1_isWord [(0, .ref x0), (1, .ref x1), (2, .int x2), (3, .int x3)] [] 0 (f_X1_isWord x0 x1 x2 x3) (FRet injI) := by
  unfold f_X1_isWord
  refine J_iload_n dX1_isWord_0 rfl 3 rfl ?_
  refine J_iload_n dX1_isWord_1 rfl 2 rfl ?_
  refine J_isub dX1_isWord_2 ?_
  refine J_aload_n dX1_isWord_3 rfl 0 rfl ?_
  refine J_getI dX1_isWord_4 fl_X1_30 rfl (fun v1 => ?_)
  refine J_aload_n dX1_isWord_7 rfl 0 rfl ?_
  refine J_getI dX1_isWord_8 fl_X1_50 rfl (fun v2 => ?_)
  refine J_isub dX1_isWord_11 ?_
  refine J_icmp_eq (tgt := 17) dX1_isWord_12 rfl ?_ ?_
  · refine J_iload_n dX1_isWord_17 rfl 2 rfl ?_
    refine J_istore (env' := [(4, .int x2), (0, .ref x0), (1, .ref x1), (2, .int x2), (3, .int x3)]) dX1_isWord_18 (by decide) rfl ?_
    refine J_loop (he := fun (t : Int32) => [(0, .ref x0), (1, .ref x1), (2, .int x2), (3, .int x3), (4, .int t)]) [1, 2, 3, 4, 0] rfl (fun t => ?_)
    exact j_X1_isWord_L20 D dA x0 x1 x2 x3 t
  refine J_iconst (v := 0) dX1_isWord_15 (by decide) ?_
  exact J_zreturn0 dX1_isWord_16 rfl
theorem i_X1_isWord (x0 : Nat) (x1 : Nat) (x2 : Int32) (x3 : Int32) : Impl (ws_ yX1_isWord cX1_isWord 5 (some .boolean)) yX1_isWord 5 false 0 0 [.ref x0, .ref x1, .int x2, .int x3] (f_X1_isWord x0 x1 x2 x3) injI := impl_of (plainFor_of_name (by decide)) (Nat.le_of_ble_eq_true rfl) (fun D dA => j_X1_isWord D dA x0 x1 x2 x3)
theorem cw_X1_isWord (Y : JY) (h : 6 ≤ Y.2.2.2.1) : JCw Y (ws_ yX1_isWord cX1_isWord 5 (some .boolean)) yX1_isWord cX1_isWord 5 (some .boolean) 5 := ⟨h, by decide, lw_meth q865, q188, by decide, by decide⟩
theorem np_X1_isWord : JNp yX1_isWord.desc 3 := by decide +kernel
-- BracketRoom$Scan.in(Ljava/lang/String;)I
abbrev Y_X1_in : JY := (cX1_in, yX1_in.cls, 5, 6, yX1_in.name, (some .int), [])
noncomputable def X1_in_b42 (x0 : Nat) (x1 : Nat) (x2 : Int32) (x3 : Int32) (x4 : Int32) : JM Mem (Int32 ⊕ (Int32 × Int32)) :=
  jb (jcall 1 x0 (f_X1_isWord x0 x1 x3 x4)) fun v4 =>
  if v4 = 0 then
    jlet (x4 + 1) fun y5 =>
    jcont (x2 + 1, y5)
  else
    jinl (jp x2)
theorem j_X1_in_b42 (D : va_G) (dA : Nat → ClassId) (x0 : Nat) (x1 : Nat) (x2 : Int32) (x3 : Int32) (x4 : Int32) : J (PM D dA false) Y_X1_in [(0, .ref x0), (1, .ref x1), (2, .int x2), (3, .int x3), (4, .int x4)] [] 42 (X1_in_b42 x0 x1 x2 x3 x4) (FLoop (FRet injI) 14 (fun (t : Int32 × Int32) => [(0, .ref x0), (1, .ref x1), (2, .int t.1), (3, .int t.2)])) := by
  unfold X1_in_b42
  refine J_aload_n dX1_in_42 rfl 0 rfl ?_
  refine J_aload_n dX1_in_43 rfl 1 rfl ?_
  refine J_iload_n dX1_in_44 rfl 3 rfl ?_
  refine J_iload dX1_in_45 4 rfl ?_
  refine J_callPI (c := 1) (as := [.ref x1, .int x3, .int x4]) dX1_in_47 (by decide) rfl (Nat.le_of_ble_eq_true rfl) (cw_X1_isWord _ (by decide)) q862 q864 q769 rfl q863 q865 np_X1_isWord (i_X1_isWord x0 x1 x3 x4) jad_id rfl (fun v4 => ?_)
  refine J_if_eq (tgt := 55) dX1_in_50 rfl ?_ ?_
  · refine J_iinc (v := x2 + 1) (env' := [(2, .int (x2 + 1)), (0, .ref x0), (1, .ref x1), (3, .int x3), (4, .int x4)]) dX1_in_55 2 rfl rfl (by decide) rfl ?_
    refine J_iload dX1_in_58 4 rfl ?_
    refine J_iconst (v := 1) dX1_in_60 (by decide) ?_
    refine J_iadd dX1_in_61 ?_
    refine J_letI (fun y5 => ?_)
    refine J_istore_n (env' := [(3, .int y5), (2, .int (x2 + 1)), (0, .ref x0), (1, .ref x1), (4, .int x4)]) dX1_in_62 rfl (by decide) rfl ?_
    refine J_goto (tgt := 14) dX1_in_63 rfl ?_
    exact J_cont [2, 3, 1, 0] rfl
  refine J_inl ?_
  refine J_iload_n dX1_in_53 rfl 2 rfl ?_
  exact J_ireturn dX1_in_54 rfl
noncomputable def X1_in_L25 (x0 : Nat) (x1 : Nat) (x2 : Int32) (x3 : Int32) (x4 : Int32) : JM Mem ((Int32 ⊕ (Int32 × Int32)) ⊕ (Int32)) :=
  jb (jcallT x1 (f_J4_charAt x1 x4)) fun v3 =>
  if v3 = 32 then
    jinl (X1_in_b42 x0 x1 x2 x3 x4)
  else
    jcont (x4 + 1)
theorem j_X1_in_L25 (D : va_G) (dA : Nat → ClassId) (x0 : Nat) (x1 : Nat) (x2 : Int32) (x3 : Int32) (x4 : Int32) : J (PM D dA false) Y_X1_in [(0, .ref x0), (1, .ref x1), (2, .int x2), (3, .int x3), (4, .int x4)] [] 25 (X1_in_L25 x0 x1 x2 x3 x4) (FLoop (FLoop (FRet injI) 14 (fun (t : Int32 × Int32) => [(0, .ref x0), (1, .ref x1), (2, .int t.1), (3, .int t.2)])) 25 (fun (t : Int32) => [(0, .ref x0), (1, .ref x1), (2, .int x2), (3, .int x3), (4, .int t)])) := by
  unfold X1_in_L25
  refine J_aload_n dX1_in_25 rfl 1 rfl ?_
  refine J_iload dX1_in_26 4 rfl ?_
  refine J_callTI (as := [.int x4]) dX1_in_28 rfl (Nat.le_of_ble_eq_true rfl) (cw_J4_charAt _ (by decide)) q805 q806 q807 q808 np_J4_charAt (i_J4_charAt x1 x4) jad_id rfl (fun v3 => ?_)
  refine J_bipush (v := 32) dX1_in_31 (by decide) ?_
  refine J_icmp_eq (tgt := 42) dX1_in_33 rfl ?_ ?_
  · refine J_inl ?_
    refine J_sub [0, 1, 2, 3, 4] rfl ?_
    exact j_X1_in_b42 D dA x0 x1 x2 x3 x4
  refine J_iinc (v := x4 + 1) (env' := [(4, .int (x4 + 1)), (0, .ref x0), (1, .ref x1), (2, .int x2), (3, .int x3)]) dX1_in_36 4 rfl rfl (by decide) rfl ?_
  refine J_goto (tgt := 25) dX1_in_39 rfl ?_
  exact J_cont [1, 2, 3, 4, 0] rfl
noncomputable def X1_in_L14 (x0 : Nat) (x1 : Nat) (x2 : Int32) (x3 : Int32) : JM Mem (Int32 ⊕ (Int32 × Int32)) :=
  jb (jcallT x1 (f_J4_length x1)) fun v2 =>
  if v2 ≤ x3 then
    jinl (jp (-1))
  else
    jloop (fun (t : Int32) => X1_in_L25 x0 x1 x2 x3 t) x3
theorem j_X1_in_L14 (D : va_G) (dA : Nat → ClassId) (x0 : Nat) (x1 : Nat) (x2 : Int32) (x3 : Int32) : J (PM D dA false) Y_X1_in [(0, .ref x0), (1, .ref x1), (2, .int x2), (3, .int x3)] [] 14 (X1_in_L14 x0 x1 x2 x3) (FLoop (FRet injI) 14 (fun (t : Int32 × Int32) => [(0, .ref x0), (1, .ref x1), (2, .int t.1), (3, .int t.2)])) := by
  unfold X1_in_L14
  refine J_iload_n dX1_in_14 rfl 3 rfl ?_
  refine J_aload_n dX1_in_15 rfl 1 rfl ?_
  refine J_callTI (as := []) dX1_in_16 rfl (Nat.le_of_ble_eq_true rfl) (cw_J4_length _ (by decide)) q795 q796 q797 q798 np_J4_length (i_J4_length x1) jad_id rfl (fun v2 => ?_)
  refine J_icmp_ge (tgt := 66) dX1_in_19 rfl ?_ ?_
  · refine J_inl ?_
    refine J_iconst (v := (-1)) dX1_in_66 (by decide) ?_
    exact J_ireturn dX1_in_67 rfl
  refine J_iload_n dX1_in_22 rfl 3 rfl ?_
  refine J_istore (env' := [(4, .int x3), (0, .ref x0), (1, .ref x1), (2, .int x2), (3, .int x3)]) dX1_in_23 (by decide) rfl ?_
  refine J_loop (he := fun (t : Int32) => [(0, .ref x0), (1, .ref x1), (2, .int x2), (3, .int x3), (4, .int t)]) [1, 2, 3, 4, 0] rfl (fun t => ?_)
  exact j_X1_in_L25 D dA x0 x1 x2 x3 t
noncomputable def f_X1_in (x0 : Nat) (x1 : Nat) : JM Mem Int32 :=
  jb (jgetI 1 2 x0) fun v1 =>
  if v1 = 2 then
    jloop (fun (t : Int32 × Int32) => X1_in_L14 x0 x1 t.1 t.2) (0, 1)
  else
    jp (-1)
theorem j_X1_in (D : va_G) (dA : Nat → ClassId) (x0 : Nat) (x1 : Nat) : J (PM D dA false) Y_X1_in [(0, .ref x0), (1, .ref x1)] [] 0 (f_X1_in x0 x1) (FRet injI) := by
  unfold f_X1_in
  refine J_aload_n dX1_in_0 rfl 0 rfl ?_
  refine J_getI dX1_in_1 fl_X1_56 rfl (fun v1 => ?_)
  refine J_iconst (v := 2) dX1_in_4 (by decide) ?_
  refine J_icmp_eq (tgt := 10) dX1_in_5 rfl ?_ ?_
  · refine J_iconst (v := 0) dX1_in_10 (by decide) ?_
    refine J_istore_n (env' := [(2, .int 0), (0, .ref x0), (1, .ref x1)]) dX1_in_11 rfl (by decide) rfl ?_
    refine J_iconst (v := 1) dX1_in_12 (by decide) ?_
    refine J_istore_n (env' := [(3, .int 1), (2, .int 0), (0, .ref x0), (1, .ref x1)]) dX1_in_13 rfl (by decide) rfl ?_
    refine J_loop (he := fun (t : Int32 × Int32) => [(0, .ref x0), (1, .ref x1), (2, .int t.1), (3, .int t.2)]) [2, 3, 1, 0] rfl (fun t => ?_)
    exact j_X1_in_L14 D dA x0 x1 t.1 t.2
  refine J_iconst (v := (-1)) dX1_in_8 (by decide) ?_
  exact J_ireturn dX1_in_9 rfl
theorem i_X1_in (x0 : Nat) (x1 : Nat) : Impl (ws_ yX1_in cX1_in 5 (some .int)) yX1_in 6 false 0 0 [.ref x0, .ref x1] (f_X1_in x0 x1) injI := impl_of (plainFor_of_name (by decide)) (Nat.le_of_ble_eq_true rfl) (fun D dA => j_X1_in D dA x0 x1)
theorem cw_X1_in (Y : JY) (h : 7 ≤ Y.2.2.2.1) : JCw Y (ws_ yX1_in cX1_in 5 (some .int)) yX1_in cX1_in 5 (some .int) 6 := ⟨h, by decide, lw_meth q861, q188, by decide, by decide⟩
theorem np_X1_in : JNp yX1_in.desc 1 := by decide +kernel
-- BracketRoom$Scan.key()I
abbrev Y_X1_key : JY := (cX1_key, yX1_key.cls, 1, 7, yX1_key.name, (some .int), [])
noncomputable def f_X1_key (x0 : Nat) : JM Mem Int32 :=
  jb (jgetA 1 6 x0) fun v1 =>
  jb (jcall 1 x0 (f_X1_in x0 v1)) fun v2 =>
  jp v2
theorem j_X1_key (D : va_G) (dA : Nat → ClassId) (x0 : Nat) : J (PM D dA false) Y_X1_key [(0, .ref x0)] [] 0 (f_X1_key x0) (FRet injI) := by
  unfold f_X1_key
  refine J_aload_n dX1_key_0 rfl 0 rfl ?_
  refine J_aload_n dX1_key_1 rfl 0 rfl ?_
  refine J_getA dX1_key_2 fl_X1_15 rfl (fun v1 => ?_)
  refine J_callVI (c := 1) (as := [.ref v1]) dX1_key_5 (by decide) rfl (Nat.le_of_ble_eq_true rfl) (cw_X1_in _ (by decide)) q857 q858 q860 q861 np_X1_in (i_X1_in x0 v1) jad_id rfl (fun v2 => ?_)
  exact J_ireturn dX1_key_8 rfl
theorem i_X1_key (x0 : Nat) : Impl (ws_ yX1_key cX1_key 1 (some .int)) yX1_key 7 false 0 0 [.ref x0] (f_X1_key x0) injI := impl_of (plainFor_of_name (by decide)) (Nat.le_of_ble_eq_true rfl) (fun D dA => j_X1_key D dA x0)
theorem cw_X1_key (Y : JY) (h : 8 ≤ Y.2.2.2.1) : JCw Y (ws_ yX1_key cX1_key 1 (some .int)) yX1_key cX1_key 1 (some .int) 7 := ⟨h, by decide, lw_meth q856, q188, by decide, by decide⟩
theorem np_X1_key : JNp yX1_key.desc 0 := by decide +kernel
-- BracketRoom$Wrong.of(II)LBracketRoom$Wrong;
abbrev Y_X3_of : JY := (cX3_of, yX3_of.cls, 3, 1, yX3_of.name, (some (.object "BracketRoom$Wrong")), [])
noncomputable def f_X3_of (x0 : Nat) (x1 : Int32) (x2 : Int32) : JM Mem Nat :=
  jb (jputI 2 6 x0 x1) fun _ =>
  jb (jputI 2 7 x0 x2) fun _ =>
  jp x0
theorem j_X3_of (D : va_G) (dA : Nat → ClassId) (x0 : Nat) (x1 : Int32) (x2 : Int32) : J (PM D dA false) Y_X3_of [(0, .ref x0), (1, .int x1), (2, .int x2)] [] 0 (f_X3_of x0 x1 x2) (FRet injA) := by
  unfold f_X3_of
  refine J_aload_n dX3_of_0 rfl 0 rfl ?_
  refine J_iload_n dX3_of_1 rfl 1 rfl ?_
  refine J_putI dX3_of_2 ⟨fl_X3_7, Or.inl rfl⟩ rfl ?_
  refine J_aload_n dX3_of_5 rfl 0 rfl ?_
  refine J_iload_n dX3_of_6 rfl 2 rfl ?_
  refine J_putI dX3_of_7 ⟨fl_X3_13, Or.inl rfl⟩ rfl ?_
  refine J_aload_n dX3_of_10 rfl 0 rfl ?_
  exact J_areturn dX3_of_11 rfl (Or.inl ⟨_, rfl⟩)
theorem i_X3_of (x0 : Nat) (x1 : Int32) (x2 : Int32) : Impl (ws_ yX3_of cX3_of 3 (some (.object "BracketRoom$Wrong"))) yX3_of 1 false 0 0 [.ref x0, .int x1, .int x2] (f_X3_of x0 x1 x2) injA := impl_of (plainFor_of_name (by decide)) (Nat.le_of_ble_eq_true rfl) (fun D dA => j_X3_of D dA x0 x1 x2)
theorem cw_X3_of (Y : JY) (h : 2 ≤ Y.2.2.2.1) : JCw Y (ws_ yX3_of cX3_of 3 (some (.object "BracketRoom$Wrong"))) yX3_of cX3_of 3 (some (.object "BracketRoom$Wrong")) 1 := ⟨h, by decide, lw_meth q880, q193, by decide, by decide⟩
theorem np_X3_of : JNp yX3_of.desc 2 := by decide +kernel
-- BracketRoom$Scan.fail(I)LBracketRoom$Wrong;
abbrev Y_X1_fail : JY := (cX1_fail, yX1_fail.cls, 2, 2, yX1_fail.name, (some (.object "BracketRoom$Wrong")), [])
noncomputable def X1_fail_b17 (x0 : Nat) (s0 : Nat) (s1 : Int32) : JM Mem Nat :=
  jb (jgetI 1 3 x0) fun v3 =>
  jb (jcall 2 s0 (f_X3_of s0 s1 v3)) fun v4 =>
  jp v4
theorem j_X1_fail_b17 (D : va_G) (dA : Nat → ClassId) (x0 : Nat) (s0 : Nat) (s1 : Int32) : J (PM D dA false) Y_X1_fail [(0, .ref x0)] [.int s1, .ref s0] 17 (X1_fail_b17 x0 s0 s1) (FRet injA) := by
  unfold X1_fail_b17
  refine J_aload_n dX1_fail_17 rfl 0 rfl ?_
  refine J_getI dX1_fail_18 fl_X1_50 rfl (fun v3 => ?_)
  refine J_callVA (c := 2) (as := [.int s1, .int v3]) dX1_fail_21 (by decide) rfl (Nat.le_of_ble_eq_true rfl) (cw_X3_of _ (by decide)) q877 q878 q879 q880 np_X3_of (i_X3_of s0 s1 v3) jad_id rfl (fun v4 => ?_)
  exact J_areturn dX1_fail_24 rfl (Or.inl ⟨_, rfl⟩)
noncomputable def f_X1_fail (x0 : Nat) (x1 : Int32) : JM Mem Nat :=
  jb (jgetA 1 8 x0) fun v1 =>
  jb (jgetI 1 2 x0) fun v2 =>
  if v2 = 1 then
    X1_fail_b17 x0 v1 1
  else
    X1_fail_b17 x0 v1 x1
theorem j_X1_fail (D : va_G) (dA : Nat → ClassId) (x0 : Nat) (x1 : Int32) : J (PM D dA false) Y_X1_fail [(0, .ref x0), (1, .int x1)] [] 0 (f_X1_fail x0 x1) (FRet injA) := by
  unfold f_X1_fail
  refine J_aload_n dX1_fail_0 rfl 0 rfl ?_
  refine J_getA dX1_fail_1 fl_X1_22 rfl (fun v1 => ?_)
  refine J_aload_n dX1_fail_4 rfl 0 rfl ?_
  refine J_getI dX1_fail_5 fl_X1_56 rfl (fun v2 => ?_)
  refine J_iconst (v := 1) dX1_fail_8 (by decide) ?_
  refine J_icmp_ne (tgt := 16) dX1_fail_9 rfl ?_ ?_
  · refine J_iload_n dX1_fail_16 rfl 1 rfl ?_
    refine J_sub [0] rfl ?_
    exact j_X1_fail_b17 D dA x0 v1 x1
  refine J_iconst (v := 1) dX1_fail_12 (by decide) ?_
  refine J_goto (tgt := 17) dX1_fail_13 rfl ?_
  refine J_sub [0] rfl ?_
  exact j_X1_fail_b17 D dA x0 v1 1
theorem i_X1_fail (x0 : Nat) (x1 : Int32) : Impl (ws_ yX1_fail cX1_fail 2 (some (.object "BracketRoom$Wrong"))) yX1_fail 2 false 0 0 [.ref x0, .int x1] (f_X1_fail x0 x1) injA := impl_of (plainFor_of_name (by decide)) (Nat.le_of_ble_eq_true rfl) (fun D dA => j_X1_fail D dA x0 x1)
theorem cw_X1_fail (Y : JY) (h : 3 ≤ Y.2.2.2.1) : JCw Y (ws_ yX1_fail cX1_fail 2 (some (.object "BracketRoom$Wrong"))) yX1_fail cX1_fail 2 (some (.object "BracketRoom$Wrong")) 2 := ⟨h, by decide, lw_meth q876, q188, by decide, by decide⟩
theorem np_X1_fail : JNp yX1_fail.desc 1 := by decide +kernel
-- BracketRoom$Scan.need(Z)V
abbrev Y_X1_need : JY := (cX1_need, yX1_need.cls, 2, 3, yX1_need.name, none, [])
noncomputable def f_X1_need (x0 : Nat) (x1 : Int32) : JM Mem Unit :=
  if x1 = 0 then
    jb (jcall 1 x0 (f_X1_fail x0 2)) fun v1 =>
    jthrow v1
  else
    jp ()
theorem j_X1_need (D : va_G) (dA : Nat → ClassId) (x0 : Nat) (x1 : Int32) : J (PM D dA false) Y_X1_need [(0, .ref x0), (1, .int x1)] [] 0 (f_X1_need x0 x1) (FRet injU) := by
  unfold f_X1_need
  refine J_iload_n dX1_need_0 rfl 1 rfl ?_
  refine J_if_ne (tgt := 10) dX1_need_1 rfl ?_ ?_
  · exact J_return dX1_need_10 rfl
  refine J_aload_n dX1_need_4 rfl 0 rfl ?_
  refine J_iconst (v := 2) dX1_need_5 (by decide) ?_
  refine J_callVA (c := 1) (as := [.int 2]) dX1_need_6 (by decide) rfl (Nat.le_of_ble_eq_true rfl) (cw_X1_fail _ (by decide)) q872 q873 q875 q876 np_X1_fail (i_X1_fail x0 2) jad_id rfl (fun v1 => ?_)
  exact J_athrow dX1_need_9 rfl
theorem i_X1_need (x0 : Nat) (x1 : Int32) : Impl (ws_ yX1_need cX1_need 2 none) yX1_need 3 false 0 0 [.ref x0, .int x1] (f_X1_need x0 x1) injU := impl_of (plainFor_of_name (by decide)) (Nat.le_of_ble_eq_true rfl) (fun D dA => j_X1_need D dA x0 x1)
theorem cw_X1_need (Y : JY) (h : 4 ≤ Y.2.2.2.1) : JCw Y (ws_ yX1_need cX1_need 2 none) yX1_need cX1_need 2 none 3 := ⟨h, by decide, lw_meth q871, q188, by decide, by decide⟩
theorem np_X1_need : JNp yX1_need.desc 1 := by decide +kernel
-- BracketRoom$Reader.word(I)V
abbrev Y_X2_word : JY := (cX2_word, yX2_word.cls, 2, 8, yX2_word.name, none, [])
noncomputable def X2_word_b14 (x0 : Nat) (s0 : Nat) (s1 : Int32) : JM Mem Unit :=
  jb (jcall 1 s0 (f_X1_need s0 s1)) fun _ =>
  jb (jcall 1 x0 (f_X1_next x0)) fun _ =>
  jp ()
theorem j_X2_word_b14 (D : va_G) (dA : Nat → ClassId) (x0 : Nat) (s0 : Nat) (s1 : Int32) : J (PM D dA false) Y_X2_word [(0, .ref x0)] [.int s1, .ref s0] 14 (X2_word_b14 x0 s0 s1) (FRet injU) := by
  unfold X2_word_b14
  refine J_callUV (c := 1) (as := [.int s1]) (x := ⟨"BracketRoom$Reader", "need", "(Z)V"⟩) dX2_word_14 (by decide) rfl (Nat.le_of_ble_eq_true rfl) (cw_X1_need _ (by decide)) q866 q867 ⟨rfl, rfl, rfl⟩ q870 q869 q871 np_X1_need (i_X1_need s0 s1) jad_id rfl ?_
  refine J_aload_n dX2_word_17 rfl 0 rfl ?_
  refine J_callUV (c := 1) (as := []) (x := ⟨"BracketRoom$Reader", "next", "()V"⟩) dX2_word_18 (by decide) rfl (Nat.le_of_ble_eq_true rfl) (cw_X1_next _ (by decide)) q881 q882 ⟨rfl, rfl, rfl⟩ q773 q884 q776 np_X1_next (i_X1_next x0) jad_id rfl ?_
  exact J_return dX2_word_21 rfl
noncomputable def f_X2_word (x0 : Nat) (x1 : Int32) : JM Mem Unit :=
  jb (jcall 1 x0 (f_X1_key x0)) fun v1 =>
  if v1 = x1 then
    X2_word_b14 x0 x0 1
  else
    X2_word_b14 x0 x0 0
theorem j_X2_word (D : va_G) (dA : Nat → ClassId) (x0 : Nat) (x1 : Int32) : J (PM D dA false) Y_X2_word [(0, .ref x0), (1, .int x1)] [] 0 (f_X2_word x0 x1) (FRet injU) := by
  unfold f_X2_word
  refine J_aload_n dX2_word_0 rfl 0 rfl ?_
  refine J_aload_n dX2_word_1 rfl 0 rfl ?_
  refine J_callUI (c := 1) (as := []) (x := ⟨"BracketRoom$Reader", "key", "()I"⟩) dX2_word_2 (by decide) rfl (Nat.le_of_ble_eq_true rfl) (cw_X1_key _ (by decide)) q851 q852 ⟨rfl, rfl, rfl⟩ q855 q854 q856 np_X1_key (i_X1_key x0) jad_id rfl (fun v1 => ?_)
  refine J_iload_n dX2_word_5 rfl 1 rfl ?_
  refine J_icmp_ne (tgt := 13) dX2_word_6 rfl ?_ ?_
  · refine J_iconst (v := 0) dX2_word_13 (by decide) ?_
    refine J_sub [0] rfl ?_
    exact j_X2_word_b14 D dA x0 x0 0
  refine J_iconst (v := 1) dX2_word_9 (by decide) ?_
  refine J_goto (tgt := 14) dX2_word_10 rfl ?_
  refine J_sub [0] rfl ?_
  exact j_X2_word_b14 D dA x0 x0 1
theorem i_X2_word (x0 : Nat) (x1 : Int32) : Impl (ws_ yX2_word cX2_word 2 none) yX2_word 8 false 0 0 [.ref x0, .int x1] (f_X2_word x0 x1) injU := impl_of (plainFor_of_name (by decide)) (Nat.le_of_ble_eq_true rfl) (fun D dA => j_X2_word D dA x0 x1)
theorem cw_X2_word (Y : JY) (h : 9 ≤ Y.2.2.2.1) : JCw Y (ws_ yX2_word cX2_word 2 none) yX2_word cX2_word 2 none 8 := ⟨h, by decide, lw_meth q850, q189, by decide, by decide⟩
theorem np_X2_word : JNp yX2_word.desc 1 := by decide +kernel
-- BracketRoom$Scan.number(II)I
abbrev Y_X1_number : JY := (cX1_number, yX1_number.cls, 3, 4, yX1_number.name, (some .int), [])
noncomputable def X1_number_b33 (x0 : Nat) : JM Mem Int32 :=
  jb (jcall 1 x0 (f_X1_fail x0 4)) fun v3 =>
  jthrow v3
theorem j_X1_number_b33 (D : va_G) (dA : Nat → ClassId) (x0 : Nat) : J (PM D dA false) Y_X1_number [(0, .ref x0)] [] 33 (X1_number_b33 x0) (FRet injI) := by
  unfold X1_number_b33
  refine J_aload_n dX1_number_33 rfl 0 rfl ?_
  refine J_iconst (v := 4) dX1_number_34 (by decide) ?_
  refine J_callVA (c := 1) (as := [.int 4]) dX1_number_35 (by decide) rfl (Nat.le_of_ble_eq_true rfl) (cw_X1_fail _ (by decide)) q872 q873 q875 q876 np_X1_fail (i_X1_fail x0 4) jad_id rfl (fun v3 => ?_)
  exact J_athrow dX1_number_38 rfl
noncomputable def X1_number_b14 (x0 : Nat) (x1 : Int32) (x2 : Int32) (s0 : Nat) (s1 : Int32) : JM Mem Int32 :=
  jb (jcall 1 s0 (f_X1_need s0 s1)) fun _ =>
  jb (jgetI 1 5 x0) fun v2 =>
  if v2 < x1 then
    X1_number_b33 x0
  else
  jb (jgetI 1 5 x0) fun v4 =>
  if v4 ≤ x2 then
    jb (jgetI 1 5 x0) fun v5 =>
    jp v5
  else
    X1_number_b33 x0
theorem j_X1_number_b14 (D : va_G) (dA : Nat → ClassId) (x0 : Nat) (x1 : Int32) (x2 : Int32) (s0 : Nat) (s1 : Int32) : J (PM D dA false) Y_X1_number [(0, .ref x0), (1, .int x1), (2, .int x2)] [.int s1, .ref s0] 14 (X1_number_b14 x0 x1 x2 s0 s1) (FRet injI) := by
  unfold X1_number_b14
  refine J_callVV (c := 1) (as := [.int s1]) dX1_number_14 (by decide) rfl (Nat.le_of_ble_eq_true rfl) (cw_X1_need _ (by decide)) q891 q870 q2436 q871 np_X1_need (i_X1_need s0 s1) jad_id rfl ?_
  refine J_aload_n dX1_number_17 rfl 0 rfl ?_
  refine J_getI dX1_number_18 fl_X1_53 rfl (fun v2 => ?_)
  refine J_iload_n dX1_number_21 rfl 1 rfl ?_
  refine J_icmp_lt (tgt := 33) dX1_number_22 rfl ?_ ?_
  · refine J_sub [0] rfl ?_
    exact j_X1_number_b33 D dA x0
  refine J_aload_n dX1_number_25 rfl 0 rfl ?_
  refine J_getI dX1_number_26 fl_X1_53 rfl (fun v4 => ?_)
  refine J_iload_n dX1_number_29 rfl 2 rfl ?_
  refine J_icmp_le (tgt := 39) dX1_number_30 rfl ?_ ?_
  · refine J_aload_n dX1_number_39 rfl 0 rfl ?_
    refine J_getI dX1_number_40 fl_X1_53 rfl (fun v5 => ?_)
    exact J_ireturn dX1_number_43 rfl
  refine J_sub [0] rfl ?_
  exact j_X1_number_b33 D dA x0
noncomputable def f_X1_number (x0 : Nat) (x1 : Int32) (x2 : Int32) : JM Mem Int32 :=
  jb (jgetI 1 2 x0) fun v1 =>
  if v1 = 3 then
    X1_number_b14 x0 x1 x2 x0 1
  else
    X1_number_b14 x0 x1 x2 x0 0
theorem j_X1_number (D : va_G) (dA : Nat → ClassId) (x0 : Nat) (x1 : Int32) (x2 : Int32) : J (PM D dA false) Y_X1_number [(0, .ref x0), (1, .int x1), (2, .int x2)] [] 0 (f_X1_number x0 x1 x2) (FRet injI) := by
  unfold f_X1_number
  refine J_aload_n dX1_number_0 rfl 0 rfl ?_
  refine J_aload_n dX1_number_1 rfl 0 rfl ?_
  refine J_getI dX1_number_2 fl_X1_56 rfl (fun v1 => ?_)
  refine J_iconst (v := 3) dX1_number_5 (by decide) ?_
  refine J_icmp_ne (tgt := 13) dX1_number_6 rfl ?_ ?_
  · refine J_iconst (v := 0) dX1_number_13 (by decide) ?_
    refine J_sub [0, 1, 2] rfl ?_
    exact j_X1_number_b14 D dA x0 x1 x2 x0 0
  refine J_iconst (v := 1) dX1_number_9 (by decide) ?_
  refine J_goto (tgt := 14) dX1_number_10 rfl ?_
  refine J_sub [0, 1, 2] rfl ?_
  exact j_X1_number_b14 D dA x0 x1 x2 x0 1
theorem i_X1_number (x0 : Nat) (x1 : Int32) (x2 : Int32) : Impl (ws_ yX1_number cX1_number 3 (some .int)) yX1_number 4 false 0 0 [.ref x0, .int x1, .int x2] (f_X1_number x0 x1 x2) injI := impl_of (plainFor_of_name (by decide)) (Nat.le_of_ble_eq_true rfl) (fun D dA => j_X1_number D dA x0 x1 x2)
theorem cw_X1_number (Y : JY) (h : 5 ≤ Y.2.2.2.1) : JCw Y (ws_ yX1_number cX1_number 3 (some .int)) yX1_number cX1_number 3 (some .int) 4 := ⟨h, by decide, lw_meth q890, q188, by decide, by decide⟩
theorem np_X1_number : JNp yX1_number.desc 2 := by decide +kernel
-- BracketRoom.isPrime(I)Z
abbrev Y_X0_isPrime : JY := (cX0_isPrime, yX0_isPrime.cls, 1, 1, yX0_isPrime.name, (some .boolean), [])
noncomputable def X0_isPrime_b21 : JM Mem Int32 :=
  jp 1
theorem j_X0_isPrime_b21 (D : va_G) (dA : Nat → ClassId) : J (PM D dA false) Y_X0_isPrime [] [] 21 (X0_isPrime_b21) (FRet injI) := by
  unfold X0_isPrime_b21
  refine J_iconst (v := 1) dX0_isPrime_21 (by decide) ?_
  refine J_goto (tgt := 26) dX0_isPrime_22 rfl ?_
  exact J_zreturn1 dX0_isPrime_26 rfl
noncomputable def f_X0_isPrime (x0 : Int32) : JM Mem Int32 :=
  if x0 = 2 then
    X0_isPrime_b21
  else
  if x0 = 3 then
    X0_isPrime_b21
  else
  if x0 = 5 then
    X0_isPrime_b21
  else
  if x0 = 7 then
    X0_isPrime_b21
  else
    jp 0
theorem j_X0_isPrime (D : va_G) (dA : Nat → ClassId) (x0 : Int32) : J (PM D dA false) Y_X0_isPrime [(0, .int x0)] [] 0 (f_X0_isPrime x0) (FRet injI) := by
  unfold f_X0_isPrime
  refine J_iload_n dX0_isPrime_0 rfl 0 rfl ?_
  refine J_iconst (v := 2) dX0_isPrime_1 (by decide) ?_
  refine J_icmp_eq (tgt := 21) dX0_isPrime_2 rfl ?_ ?_
  · refine J_sub [] rfl ?_
    exact j_X0_isPrime_b21 D dA
  refine J_iload_n dX0_isPrime_5 rfl 0 rfl ?_
  refine J_iconst (v := 3) dX0_isPrime_6 (by decide) ?_
  refine J_icmp_eq (tgt := 21) dX0_isPrime_7 rfl ?_ ?_
  · refine J_sub [] rfl ?_
    exact j_X0_isPrime_b21 D dA
  refine J_iload_n dX0_isPrime_10 rfl 0 rfl ?_
  refine J_iconst (v := 5) dX0_isPrime_11 (by decide) ?_
  refine J_icmp_eq (tgt := 21) dX0_isPrime_12 rfl ?_ ?_
  · refine J_sub [] rfl ?_
    exact j_X0_isPrime_b21 D dA
  refine J_iload_n dX0_isPrime_15 rfl 0 rfl ?_
  refine J_bipush (v := 7) dX0_isPrime_16 (by decide) ?_
  refine J_icmp_ne (tgt := 25) dX0_isPrime_18 rfl ?_ ?_
  · refine J_iconst (v := 0) dX0_isPrime_25 (by decide) ?_
    exact J_zreturn0 dX0_isPrime_26 rfl
  refine J_sub [] rfl ?_
  exact j_X0_isPrime_b21 D dA
theorem i_X0_isPrime (x0 : Int32) : Impl (ws_ yX0_isPrime cX0_isPrime 1 (some .boolean)) yX0_isPrime 1 false 0 0 [.int x0] (f_X0_isPrime x0) injI := impl_of (plainFor_of_name (by decide)) (Nat.le_of_ble_eq_true rfl) (fun D dA => j_X0_isPrime D dA x0)
theorem cw_X0_isPrime (Y : JY) (h : 2 ≤ Y.2.2.2.1) : JCw Y (ws_ yX0_isPrime cX0_isPrime 1 (some .boolean)) yX0_isPrime cX0_isPrime 1 (some .boolean) 1 := ⟨h, by decide, lw_meth q894, q187, by decide, by decide⟩
theorem np_X0_isPrime : JNp yX0_isPrime.desc 1 := by decide +kernel
-- BracketRoom$Scan.is(I)Z
abbrev Y_X1_is : JY := (cX1_is, yX1_is.cls, 2, 1, yX1_is.name, (some .boolean), [])
noncomputable def f_X1_is (x0 : Nat) (x1 : Int32) : JM Mem Int32 :=
  jb (jgetI 1 2 x0) fun v1 =>
  if v1 = 4 then
    jb (jgetI 1 5 x0) fun v2 =>
    if v2 = x1 then
      jp 1
    else
      jp 0
  else
    jp 0
theorem j_X1_is (D : va_G) (dA : Nat → ClassId) (x0 : Nat) (x1 : Int32) : J (PM D dA false) Y_X1_is [(0, .ref x0), (1, .int x1)] [] 0 (f_X1_is x0 x1) (FRet injI) := by
  unfold f_X1_is
  refine J_aload_n dX1_is_0 rfl 0 rfl ?_
  refine J_getI dX1_is_1 fl_X1_56 rfl (fun v1 => ?_)
  refine J_iconst (v := 4) dX1_is_4 (by decide) ?_
  refine J_icmp_ne (tgt := 20) dX1_is_5 rfl ?_ ?_
  · refine J_iconst (v := 0) dX1_is_20 (by decide) ?_
    exact J_zreturn0 dX1_is_21 rfl
  refine J_aload_n dX1_is_8 rfl 0 rfl ?_
  refine J_getI dX1_is_9 fl_X1_53 rfl (fun v2 => ?_)
  refine J_iload_n dX1_is_12 rfl 1 rfl ?_
  refine J_icmp_ne (tgt := 20) dX1_is_13 rfl ?_ ?_
  · refine J_iconst (v := 0) dX1_is_20 (by decide) ?_
    exact J_zreturn0 dX1_is_21 rfl
  refine J_iconst (v := 1) dX1_is_16 (by decide) ?_
  refine J_goto (tgt := 21) dX1_is_17 rfl ?_
  exact J_zreturn1 dX1_is_21 rfl
theorem i_X1_is (x0 : Nat) (x1 : Int32) : Impl (ws_ yX1_is cX1_is 2 (some .boolean)) yX1_is 1 false 0 0 [.ref x0, .int x1] (f_X1_is x0 x1) injI := impl_of (plainFor_of_name (by decide)) (Nat.le_of_ble_eq_true rfl) (fun D dA => j_X1_is D dA x0 x1)
theorem cw_X1_is (Y : JY) (h : 2 ≤ Y.2.2.2.1) : JCw Y (ws_ yX1_is cX1_is 2 (some .boolean)) yX1_is cX1_is 2 (some .boolean) 1 := ⟨h, by decide, lw_meth q909, q188, by decide, by decide⟩
theorem np_X1_is : JNp yX1_is.desc 1 := by decide +kernel
-- BracketRoom$Scan.closes()V
abbrev Y_X1_closes : JY := (cX1_closes, yX1_closes.cls, 1, 7, yX1_closes.name, none, [])
noncomputable def f_X1_closes (x0 : Nat) : JM Mem Unit :=
  jb (jcall 1 x0 (f_X1_is x0 59)) fun v1 =>
  jb (jcall 1 x0 (f_X1_need x0 v1)) fun _ =>
  jb (jcall 1 x0 (f_X1_next x0)) fun _ =>
  jp ()
theorem j_X1_closes (D : va_G) (dA : Nat → ClassId) (x0 : Nat) : J (PM D dA false) Y_X1_closes [(0, .ref x0)] [] 0 (f_X1_closes x0) (FRet injU) := by
  unfold f_X1_closes
  refine J_aload_n dX1_closes_0 rfl 0 rfl ?_
  refine J_aload_n dX1_closes_1 rfl 0 rfl ?_
  refine J_bipush (v := 59) dX1_closes_2 (by decide) ?_
  refine J_callVI (c := 1) (as := [.int 59]) dX1_closes_4 (by decide) rfl (Nat.le_of_ble_eq_true rfl) (cw_X1_is _ (by decide)) q905 q906 q908 q909 np_X1_is (i_X1_is x0 59) jad_id rfl (fun v1 => ?_)
  refine J_callVV (c := 1) (as := [.int v1]) dX1_closes_7 (by decide) rfl (Nat.le_of_ble_eq_true rfl) (cw_X1_need _ (by decide)) q891 q870 q2436 q871 np_X1_need (i_X1_need x0 v1) jad_id rfl ?_
  refine J_aload_n dX1_closes_10 rfl 0 rfl ?_
  refine J_callVV (c := 1) (as := []) dX1_closes_11 (by decide) rfl (Nat.le_of_ble_eq_true rfl) (cw_X1_next _ (by decide)) q772 q773 q775 q776 np_X1_next (i_X1_next x0) jad_id rfl ?_
  exact J_return dX1_closes_14 rfl
theorem i_X1_closes (x0 : Nat) : Impl (ws_ yX1_closes cX1_closes 1 none) yX1_closes 7 false 0 0 [.ref x0] (f_X1_closes x0) injU := impl_of (plainFor_of_name (by decide)) (Nat.le_of_ble_eq_true rfl) (fun D dA => j_X1_closes D dA x0)
theorem cw_X1_closes (Y : JY) (h : 8 ≤ Y.2.2.2.1) : JCw Y (ws_ yX1_closes cX1_closes 1 none) yX1_closes cX1_closes 1 none 7 := ⟨h, by decide, lw_meth q904, q188, by decide, by decide⟩
theorem np_X1_closes : JNp yX1_closes.desc 0 := by decide +kernel
-- BracketRoom.widest(I)I
abbrev Y_X0_widest : JY := (cX0_widest, yX0_widest.cls, 1, 1, yX0_widest.name, (some .int), [])
noncomputable def f_X0_widest (x0 : Int32) : JM Mem Int32 :=
  if 5 ≤ x0 then
    if x0 = 5 then
      jp 4
    else
      jp 3
  else
    jp 5
theorem j_X0_widest (D : va_G) (dA : Nat → ClassId) (x0 : Int32) : J (PM D dA false) Y_X0_widest [(0, .int x0)] [] 0 (f_X0_widest x0) (FRet injI) := by
  unfold f_X0_widest
  refine J_iload_n dX0_widest_0 rfl 0 rfl ?_
  refine J_iconst (v := 5) dX0_widest_1 (by decide) ?_
  refine J_icmp_ge (tgt := 9) dX0_widest_2 rfl ?_ ?_
  · refine J_iload_n dX0_widest_9 rfl 0 rfl ?_
    refine J_iconst (v := 5) dX0_widest_10 (by decide) ?_
    refine J_icmp_ne (tgt := 18) dX0_widest_11 rfl ?_ ?_
    · refine J_iconst (v := 3) dX0_widest_18 (by decide) ?_
      exact J_ireturn dX0_widest_19 rfl
    refine J_iconst (v := 4) dX0_widest_14 (by decide) ?_
    refine J_goto (tgt := 19) dX0_widest_15 rfl ?_
    exact J_ireturn dX0_widest_19 rfl
  refine J_iconst (v := 5) dX0_widest_5 (by decide) ?_
  refine J_goto (tgt := 19) dX0_widest_6 rfl ?_
  exact J_ireturn dX0_widest_19 rfl
theorem i_X0_widest (x0 : Int32) : Impl (ws_ yX0_widest cX0_widest 1 (some .int)) yX0_widest 1 false 0 0 [.int x0] (f_X0_widest x0) injI := impl_of (plainFor_of_name (by decide)) (Nat.le_of_ble_eq_true rfl) (fun D dA => j_X0_widest D dA x0)
theorem cw_X0_widest (Y : JY) (h : 2 ≤ Y.2.2.2.1) : JCw Y (ws_ yX0_widest cX0_widest 1 (some .int)) yX0_widest cX0_widest 1 (some .int) 1 := ⟨h, by decide, lw_meth q912, q187, by decide, by decide⟩
theorem np_X0_widest : JNp yX0_widest.desc 1 := by decide +kernel
-- BracketRoom$Scan.passed(II)I
abbrev Y_X1_passed : JY := (cX1_passed, yX1_passed.cls, 4, 7, yX1_passed.name, (some .int), [])
noncomputable def f_X1_passed (x0 : Nat) (x1 : Int32) (x2 : Int32) : JM Mem Int32 :=
  jb (jcall 1 x0 (f_X1_number x0 x1 x2)) fun v1 =>
  jb (jcall 1 x0 (f_X1_next x0)) fun _ =>
  jp v1
theorem j_X1_passed (D : va_G) (dA : Nat → ClassId) (x0 : Nat) (x1 : Int32) (x2 : Int32) : J (PM D dA false) Y_X1_passed [(0, .ref x0), (1, .int x1), (2, .int x2)] [] 0 (f_X1_passed x0 x1 x2) (FRet injI) := by
  unfold f_X1_passed
  refine J_aload_n dX1_passed_0 rfl 0 rfl ?_
  refine J_iload_n dX1_passed_1 rfl 1 rfl ?_
  refine J_iload_n dX1_passed_2 rfl 2 rfl ?_
  refine J_callVI (c := 1) (as := [.int x1, .int x2]) dX1_passed_3 (by decide) rfl (Nat.le_of_ble_eq_true rfl) (cw_X1_number _ (by decide)) q919 q889 q2438 q890 np_X1_number (i_X1_number x0 x1 x2) jad_id rfl (fun v1 => ?_)
  refine J_istore_n (env' := [(3, .int v1), (0, .ref x0), (1, .int x1), (2, .int x2)]) dX1_passed_6 rfl (by decide) rfl ?_
  refine J_aload_n dX1_passed_7 rfl 1 rfl ?_
  refine J_callVV (c := 1) (as := []) dX1_passed_8 (by decide) rfl (Nat.le_of_ble_eq_true rfl) (cw_X1_next _ (by decide)) q772 q773 q775 q776 np_X1_next (i_X1_next x0) jad_id rfl ?_
  refine J_iload_n dX1_passed_11 rfl 0 rfl ?_
  exact J_ireturn dX1_passed_12 rfl
theorem i_X1_passed (x0 : Nat) (x1 : Int32) (x2 : Int32) : Impl (ws_ yX1_passed cX1_passed 4 (some .int)) yX1_passed 7 false 0 0 [.ref x0, .int x1, .int x2] (f_X1_passed x0 x1 x2) injI := impl_of (plainFor_of_name (by decide)) (Nat.le_of_ble_eq_true rfl) (fun D dA => j_X1_passed D dA x0 x1 x2)
theorem cw_X1_passed (Y : JY) (h : 8 ≤ Y.2.2.2.1) : JCw Y (ws_ yX1_passed cX1_passed 4 (some .int)) yX1_passed cX1_passed 4 (some .int) 7 := ⟨h, by decide, lw_meth q918, q188, by decide, by decide⟩
theorem np_X1_passed : JNp yX1_passed.desc 2 := by decide +kernel
-- BracketRoom$World.by(I)I
abbrev Y_X4_by : JY := (cX4_by, yX4_by.cls, 2, 2, yX4_by.name, (some .int), [])
noncomputable def f_X4_by (x0 : Nat) (x1 : Int32) : JM Mem Int32 :=
  jb (jgetI 3 1 x0) fun v1 =>
  jb ((f_J8_floorMod x1 v1)) fun v2 =>
  jp v2
theorem j_X4_by (D : va_G) (dA : Nat → ClassId) (x0 : Nat) (x1 : Int32) : J (PM D dA false) Y_X4_by [(0, .ref x0), (1, .int x1)] [] 0 (f_X4_by x0 x1) (FRet injI) := by
  unfold f_X4_by
  refine J_iload_n dX4_by_0 rfl 1 rfl ?_
  refine J_aload_n dX4_by_1 rfl 0 rfl ?_
  refine J_getI dX4_by_2 fl_X4_16 rfl (fun v1 => ?_)
  refine J_callSI (host := "") (as := [.int x1, .int v1]) dX4_by_5 rfl (Nat.le_of_ble_eq_true rfl) (cw_J8_floorMod _ (by decide)) q932 q933 q934 np_J8_floorMod (i_J8_floorMod x1 v1) jad_id rfl (fun v2 => ?_)
  exact J_ireturn dX4_by_8 rfl
theorem i_X4_by (x0 : Nat) (x1 : Int32) : Impl (ws_ yX4_by cX4_by 2 (some .int)) yX4_by 2 false 0 0 [.ref x0, .int x1] (f_X4_by x0 x1) injI := impl_of (plainFor_of_name (by decide)) (Nat.le_of_ble_eq_true rfl) (fun D dA => j_X4_by D dA x0 x1)
theorem cw_X4_by (Y : JY) (h : 3 ≤ Y.2.2.2.1) : JCw Y (ws_ yX4_by cX4_by 2 (some .int)) yX4_by cX4_by 2 (some .int) 2 := ⟨h, by decide, lw_meth q931, q194, by decide, by decide⟩
theorem np_X4_by : JNp yX4_by.desc 1 := by decide +kernel
-- BracketRoom$World.set(IIII)V
abbrev Y_X4_set : JY := (cX4_set, yX4_set.cls, 5, 3, yX4_set.name, none, [])
noncomputable def f_X4_set (x0 : Nat) (x1 : Int32) (x2 : Int32) (x3 : Int32) (x4 : Int32) : JM Mem Unit :=
  jb (jgetA 3 0 x0) fun v1 =>
  jb (jaldA 6 v1 x1) fun v2 =>
  jb (jaldA 5 v2 x2) fun v3 =>
  jb (jcall 3 x0 (f_X4_by x0 x4)) fun v4 =>
  jb (jast_i v3 x3 v4) fun _ =>
  jb (jgetA 3 0 x0) fun v5 =>
  jb (jaldA 6 v5 x2) fun v6 =>
  jb (jaldA 5 v6 x1) fun v7 =>
  jb (jcall 3 x0 (f_X4_by x0 (-x4))) fun v8 =>
  jb (jast_i v7 x3 v8) fun _ =>
  jp ()
theorem j_X4_set (D : va_G) (dA : Nat → ClassId) (x0 : Nat) (x1 : Int32) (x2 : Int32) (x3 : Int32) (x4 : Int32) : J (PM D dA false) Y_X4_set [(0, .ref x0), (1, .int x1), (2, .int x2), (3, .int x3), (4, .int x4)] [] 0 (f_X4_set x0 x1 x2 x3 x4) (FRet injU) := by
  unfold f_X4_set
  refine J_aload_n dX4_set_0 rfl 0 rfl ?_
  refine J_getA dX4_set_1 fl_X4_11 rfl (fun v1 => ?_)
  refine J_iload_n dX4_set_4 rfl 1 rfl ?_
  refine J_aald dX4_set_5 rfl (by decide) (fun v2 => ?_)
  refine J_iload_n dX4_set_6 rfl 2 rfl ?_
  refine J_aald dX4_set_7 rfl (by decide) (fun v3 => ?_)
  refine J_iload_n dX4_set_8 rfl 3 rfl ?_
  refine J_aload_n dX4_set_9 rfl 0 rfl ?_
  refine J_iload dX4_set_10 4 rfl ?_
  refine J_callVI (c := 3) (as := [.int x4]) dX4_set_12 (by decide) rfl (Nat.le_of_ble_eq_true rfl) (cw_X4_by _ (by decide)) q928 q929 q930 q931 np_X4_by (i_X4_by x0 x4) jad_id rfl (fun v4 => ?_)
  refine J_iast dX4_set_15 ?_
  refine J_aload_n dX4_set_16 rfl 0 rfl ?_
  refine J_getA dX4_set_17 fl_X4_11 rfl (fun v5 => ?_)
  refine J_iload_n dX4_set_20 rfl 2 rfl ?_
  refine J_aald dX4_set_21 rfl (by decide) (fun v6 => ?_)
  refine J_iload_n dX4_set_22 rfl 1 rfl ?_
  refine J_aald dX4_set_23 rfl (by decide) (fun v7 => ?_)
  refine J_iload_n dX4_set_24 rfl 3 rfl ?_
  refine J_aload_n dX4_set_25 rfl 0 rfl ?_
  refine J_iload dX4_set_26 4 rfl ?_
  refine J_ineg dX4_set_28 ?_
  refine J_callVI (c := 3) (as := [.int (-x4)]) dX4_set_29 (by decide) rfl (Nat.le_of_ble_eq_true rfl) (cw_X4_by _ (by decide)) q928 q929 q930 q931 np_X4_by (i_X4_by x0 (-x4)) jad_id rfl (fun v8 => ?_)
  refine J_iast dX4_set_32 ?_
  exact J_return dX4_set_33 rfl
theorem i_X4_set (x0 : Nat) (x1 : Int32) (x2 : Int32) (x3 : Int32) (x4 : Int32) : Impl (ws_ yX4_set cX4_set 5 none) yX4_set 3 false 0 0 [.ref x0, .int x1, .int x2, .int x3, .int x4] (f_X4_set x0 x1 x2 x3 x4) injU := impl_of (plainFor_of_name (by decide)) (Nat.le_of_ble_eq_true rfl) (fun D dA => j_X4_set D dA x0 x1 x2 x3 x4)
theorem cw_X4_set (Y : JY) (h : 4 ≤ Y.2.2.2.1) : JCw Y (ws_ yX4_set cX4_set 5 none) yX4_set cX4_set 5 none 3 := ⟨h, by decide, lw_meth q927, q194, by decide, by decide⟩
theorem np_X4_set : JNp yX4_set.desc 4 := by decide +kernel
-- BracketRoom$Reader.terms(LBracketRoom$World;II)V
abbrev Y_X2_terms : JY := (cX2_terms, yX2_terms.cls, 8, 9, yX2_terms.name, none, [])
noncomputable def X2_terms_b102 (x0 : Nat) (x1 : Nat) (x2 : Int32) (x3 : Int32) (x4 : Int32) (s0 : Nat) (s1 : Int32) (s2 : Int32) (s3 : Int32) (s4 : Int32) : JM Mem (Unit ⊕ (Int32)) :=
  jb (jcall 3 s0 (f_X4_set s0 s1 s2 s3 s4)) fun _ =>
  jb (jcall 1 x0 (f_X1_next x0)) fun _ =>
  jb (jgetI 1 2 x0) fun v7 =>
  if v7 = 3 then
    jcont x4
  else
  jb (jcall 1 x0 (f_X1_key x0)) fun v8 =>
  if v8 = 4 then
    jcont x4
  else
    jinl (jp ())
theorem j_X2_terms_b102 (D : va_G) (dA : Nat → ClassId) (x0 : Nat) (x1 : Nat) (x2 : Int32) (x3 : Int32) (x4 : Int32) (s0 : Nat) (s1 : Int32) (s2 : Int32) (s3 : Int32) (s4 : Int32) : J (PM D dA false) Y_X2_terms [(0, .ref x0), (1, .ref x1), (2, .int x2), (3, .int x3), (4, .int x4)] [.int s4, .int s3, .int s2, .int s1, .ref s0] 102 (X2_terms_b102 x0 x1 x2 x3 x4 s0 s1 s2 s3 s4) (FLoop (FRet injU) 3 (fun (t : Int32) => [(0, .ref x0), (1, .ref x1), (2, .int x2), (3, .int x3), (4, .int t)])) := by
  unfold X2_terms_b102
  refine J_callVV (c := 3) (as := [.int s1, .int s2, .int s3, .int s4]) dX2_terms_102 (by decide) rfl (Nat.le_of_ble_eq_true rfl) (cw_X4_set _ (by decide)) q924 q925 q926 q927 np_X4_set (i_X4_set s0 s1 s2 s3 s4) jad_id rfl ?_
  refine J_aload_n dX2_terms_105 rfl 0 rfl ?_
  refine J_callUV (c := 1) (as := []) (x := ⟨"BracketRoom$Reader", "next", "()V"⟩) dX2_terms_106 (by decide) rfl (Nat.le_of_ble_eq_true rfl) (cw_X1_next _ (by decide)) q881 q882 ⟨rfl, rfl, rfl⟩ q773 q884 q776 np_X1_next (i_X1_next x0) jad_id rfl ?_
  refine J_aload_n dX2_terms_109 rfl 0 rfl ?_
  refine J_getI dX2_terms_110 fl_X2_72 rfl (fun v7 => ?_)
  refine J_iconst (v := 3) dX2_terms_113 (by decide) ?_
  refine J_icmp_eq (tgt := 3) dX2_terms_114 rfl ?_ ?_
  · exact J_cont [0, 1, 2, 3, 4] rfl
  refine J_aload_n dX2_terms_117 rfl 0 rfl ?_
  refine J_callUI (c := 1) (as := []) (x := ⟨"BracketRoom$Reader", "key", "()I"⟩) dX2_terms_118 (by decide) rfl (Nat.le_of_ble_eq_true rfl) (cw_X1_key _ (by decide)) q851 q852 ⟨rfl, rfl, rfl⟩ q855 q854 q856 np_X1_key (i_X1_key x0) jad_id rfl (fun v8 => ?_)
  refine J_iconst (v := 4) dX2_terms_121 (by decide) ?_
  refine J_icmp_eq (tgt := 3) dX2_terms_122 rfl ?_ ?_
  · exact J_cont [0, 1, 2, 3, 4] rfl
  refine J_inl ?_
  exact J_return dX2_terms_125 rfl
noncomputable def X2_terms_b69 (x0 : Nat) : JM Mem Unit :=
  jb (jcall 1 x0 (f_X1_fail x0 5)) fun v9 =>
  jthrow v9
theorem j_X2_terms_b69 (D : va_G) (dA : Nat → ClassId) (x0 : Nat) : J (PM D dA false) Y_X2_terms [(0, .ref x0)] [] 69 (X2_terms_b69 x0) (FRet injU) := by
  unfold X2_terms_b69
  refine J_aload_n dX2_terms_69 rfl 0 rfl ?_
  refine J_iconst (v := 5) dX2_terms_70 (by decide) ?_
  refine J_callUA (c := 1) (as := [.int 5]) (x := ⟨"BracketRoom$Reader", "fail", "(I)LBracketRoom$Wrong;"⟩) dX2_terms_71 (by decide) rfl (Nat.le_of_ble_eq_true rfl) (cw_X1_fail _ (by decide)) q895 q896 ⟨rfl, rfl, rfl⟩ q873 q898 q876 np_X1_fail (i_X1_fail x0 5) jad_id rfl (fun v9 => ?_)
  exact J_athrow dX2_terms_74 rfl
noncomputable def X2_terms_b27 (x0 : Nat) (x1 : Nat) (x2 : Int32) (x3 : Int32) (x4 : Int32) (x5 : Int32) : JM Mem (Unit ⊕ (Int32)) :=
  jb (jgetI 3 1 x1) fun v2 =>
  jb (jcall 1 x0 (f_X1_passed x0 1 (v2 - 1))) fun v3 =>
  jb (jcall 1 x0 (f_X2_word x0 5)) fun _ =>
  jb (jgetI 3 2 x1) fun v4 =>
  jb (jcall 1 x0 (f_X1_number x0 0 (v4 - 1))) fun v5 =>
  if (x4 >>> (v5 &&& 31)) &&& 1 = 1 then
    jinl (X2_terms_b69 x0)
  else
  jlet (x4 ||| ((1 : Int32) <<< (v5 &&& 31))) fun y6 =>
  if x5 = 0 then
    X2_terms_b102 x0 x1 x2 x3 y6 x1 x2 x3 v5 v3
  else
    X2_terms_b102 x0 x1 x2 x3 y6 x1 x2 x3 v5 (-v3)
theorem j_X2_terms_b27 (D : va_G) (dA : Nat → ClassId) (x0 : Nat) (x1 : Nat) (x2 : Int32) (x3 : Int32) (x4 : Int32) (x5 : Int32) : J (PM D dA false) Y_X2_terms [(0, .ref x0), (1, .ref x1), (2, .int x2), (3, .int x3), (4, .int x4), (5, .int x5)] [] 27 (X2_terms_b27 x0 x1 x2 x3 x4 x5) (FLoop (FRet injU) 3 (fun (t : Int32) => [(0, .ref x0), (1, .ref x1), (2, .int x2), (3, .int x3), (4, .int t)])) := by
  unfold X2_terms_b27
  refine J_aload_n dX2_terms_27 rfl 0 rfl ?_
  refine J_iconst (v := 1) dX2_terms_28 (by decide) ?_
  refine J_aload_n dX2_terms_29 rfl 1 rfl ?_
  refine J_getI dX2_terms_30 fl_X2_47 rfl (fun v2 => ?_)
  refine J_iconst (v := 1) dX2_terms_33 (by decide) ?_
  refine J_isub dX2_terms_34 ?_
  refine J_callUI (c := 1) (as := [.int 1, .int (v2 - 1)]) (x := ⟨"BracketRoom$Reader", "passed", "(II)I"⟩) dX2_terms_35 (by decide) rfl (Nat.le_of_ble_eq_true rfl) (cw_X1_passed _ (by decide)) q913 q914 ⟨rfl, rfl, rfl⟩ q917 q916 q918 np_X1_passed (i_X1_passed x0 1 (v2 - 1)) jad_id rfl (fun v3 => ?_)
  refine J_istore (env' := [(6, .int v3), (0, .ref x0), (1, .ref x1), (2, .int x2), (3, .int x3), (4, .int x4), (5, .int x5)]) dX2_terms_38 (by decide) rfl ?_
  refine J_aload_n dX2_terms_40 rfl 1 rfl ?_
  refine J_iconst (v := 5) dX2_terms_41 (by decide) ?_
  refine J_callVV (c := 1) (as := [.int 5]) dX2_terms_42 (by decide) rfl (Nat.le_of_ble_eq_true rfl) (cw_X2_word _ (by decide)) q847 q849 qs6 q850 np_X2_word (i_X2_word x0 5) jad_id rfl ?_
  refine J_aload_n dX2_terms_45 rfl 1 rfl ?_
  refine J_iconst (v := 0) dX2_terms_46 (by decide) ?_
  refine J_aload_n dX2_terms_47 rfl 2 rfl ?_
  refine J_getI dX2_terms_48 fl_X2_69 rfl (fun v4 => ?_)
  refine J_iconst (v := 1) dX2_terms_51 (by decide) ?_
  refine J_isub dX2_terms_52 ?_
  refine J_callUI (c := 1) (as := [.int 0, .int (v4 - 1)]) (x := ⟨"BracketRoom$Reader", "number", "(II)I"⟩) dX2_terms_53 (by decide) rfl (Nat.le_of_ble_eq_true rfl) (cw_X1_number _ (by decide)) q885 q886 ⟨rfl, rfl, rfl⟩ q889 q888 q890 np_X1_number (i_X1_number x0 0 (v4 - 1)) jad_id rfl (fun v5 => ?_)
  refine J_istore (env' := [(7, .int v5), (6, .int v3), (0, .ref x0), (1, .ref x1), (2, .int x2), (3, .int x3), (4, .int x4), (5, .int x5)]) dX2_terms_56 (by decide) rfl ?_
  refine J_iload dX2_terms_58 6 rfl ?_
  refine J_iload dX2_terms_60 0 rfl ?_
  refine J_ishr dX2_terms_62 ?_
  refine J_iconst (v := 1) dX2_terms_63 (by decide) ?_
  refine J_iand dX2_terms_64 ?_
  refine J_iconst (v := 1) dX2_terms_65 (by decide) ?_
  refine J_icmp_ne (tgt := 75) dX2_terms_66 rfl ?_ ?_
  · refine J_iload dX2_terms_75 6 rfl ?_
    refine J_iconst (v := 1) dX2_terms_77 (by decide) ?_
    refine J_iload dX2_terms_78 0 rfl ?_
    refine J_ishl dX2_terms_80 ?_
    refine J_ior dX2_terms_81 ?_
    refine J_letI (fun y6 => ?_)
    refine J_istore (env' := [(4, .int y6), (7, .int v5), (6, .int v3), (0, .ref x0), (1, .ref x1), (2, .int x2), (3, .int x3), (5, .int x5)]) dX2_terms_82 (by decide) rfl ?_
    refine J_aload_n dX2_terms_84 rfl 4 rfl ?_
    refine J_iload_n dX2_terms_85 rfl 5 rfl ?_
    refine J_iload_n dX2_terms_86 rfl 6 rfl ?_
    refine J_iload dX2_terms_87 1 rfl ?_
    refine J_iload dX2_terms_89 7 rfl ?_
    refine J_if_eq (tgt := 100) dX2_terms_91 rfl ?_ ?_
    · refine J_iload dX2_terms_100 2 rfl ?_
      refine J_sub [3, 4, 5, 6, 0] rfl ?_
      exact j_X2_terms_b102 D dA x0 x1 x2 x3 y6 x1 x2 x3 v5 v3
    refine J_iload dX2_terms_94 2 rfl ?_
    refine J_ineg dX2_terms_96 ?_
    refine J_goto (tgt := 102) dX2_terms_97 rfl ?_
    refine J_sub [3, 4, 5, 6, 0] rfl ?_
    exact j_X2_terms_b102 D dA x0 x1 x2 x3 y6 x1 x2 x3 v5 (-v3)
  refine J_inl ?_
  refine J_sub [2] rfl ?_
  exact j_X2_terms_b69 D dA x0
noncomputable def X2_terms_b16 (x0 : Nat) (x1 : Nat) (x2 : Int32) (x3 : Int32) (x4 : Int32) (s0 : Int32) : JM Mem (Unit ⊕ (Int32)) :=
  if s0 = 0 then
    X2_terms_b27 x0 x1 x2 x3 x4 s0
  else
  jb (jcall 1 x0 (f_X1_next x0)) fun _ =>
  X2_terms_b27 x0 x1 x2 x3 x4 s0
theorem j_X2_terms_b16 (D : va_G) (dA : Nat → ClassId) (x0 : Nat) (x1 : Nat) (x2 : Int32) (x3 : Int32) (x4 : Int32) (s0 : Int32) : J (PM D dA false) Y_X2_terms [(0, .ref x0), (1, .ref x1), (2, .int x2), (3, .int x3), (4, .int x4)] [.int s0] 16 (X2_terms_b16 x0 x1 x2 x3 x4 s0) (FLoop (FRet injU) 3 (fun (t : Int32) => [(0, .ref x0), (1, .ref x1), (2, .int x2), (3, .int x3), (4, .int t)])) := by
  unfold X2_terms_b16
  refine J_istore (env' := [(5, .int s0), (0, .ref x0), (1, .ref x1), (2, .int x2), (3, .int x3), (4, .int x4)]) dX2_terms_16 (by decide) rfl ?_
  refine J_iload dX2_terms_18 0 rfl ?_
  refine J_if_eq (tgt := 27) dX2_terms_20 rfl ?_ ?_
  · refine J_sub [1, 2, 3, 4, 5, 0] rfl ?_
    exact j_X2_terms_b27 D dA x0 x1 x2 x3 x4 s0
  refine J_aload_n dX2_terms_23 rfl 1 rfl ?_
  refine J_callUV (c := 1) (as := []) (x := ⟨"BracketRoom$Reader", "next", "()V"⟩) dX2_terms_24 (by decide) rfl (Nat.le_of_ble_eq_true rfl) (cw_X1_next _ (by decide)) q881 q882 ⟨rfl, rfl, rfl⟩ q773 q884 q776 np_X1_next (i_X1_next x0) jad_id rfl ?_
  refine J_sub [1, 2, 3, 4, 5, 0] rfl ?_
  exact j_X2_terms_b27 D dA x0 x1 x2 x3 x4 s0
noncomputable def X2_terms_L3 (x0 : Nat) (x1 : Nat) (x2 : Int32) (x3 : Int32) (x4 : Int32) : JM Mem (Unit ⊕ (Int32)) :=
  jb (jcall 1 x0 (f_X1_key x0)) fun v1 =>
  if v1 = 4 then
    X2_terms_b16 x0 x1 x2 x3 x4 1
  else
    X2_terms_b16 x0 x1 x2 x3 x4 0
theorem j_X2_terms_L3 (D : va_G) (dA : Nat → ClassId) (x0 : Nat) (x1 : Nat) (x2 : Int32) (x3 : Int32) (x4 : Int32) : J (PM D dA false) Y_X2_terms [(0, .ref x0), (1, .ref x1), (2, .int x2), (3, .int x3), (4, .int x4)] [] 3 (X2_terms_L3 x0 x1 x2 x3 x4) (FLoop (FRet injU) 3 (fun (t : Int32) => [(0, .ref x0), (1, .ref x1), (2, .int x2), (3, .int x3), (4, .int t)])) := by
  unfold X2_terms_L3
  refine J_aload_n dX2_terms_3 rfl 0 rfl ?_
  refine J_callUI (c := 1) (as := []) (x := ⟨"BracketRoom$Reader", "key", "()I"⟩) dX2_terms_4 (by decide) rfl (Nat.le_of_ble_eq_true rfl) (cw_X1_key _ (by decide)) q851 q852 ⟨rfl, rfl, rfl⟩ q855 q854 q856 np_X1_key (i_X1_key x0) jad_id rfl (fun v1 => ?_)
  refine J_iconst (v := 4) dX2_terms_7 (by decide) ?_
  refine J_icmp_ne (tgt := 15) dX2_terms_8 rfl ?_ ?_
  · refine J_iconst (v := 0) dX2_terms_15 (by decide) ?_
    refine J_sub [0, 1, 2, 3, 4] rfl ?_
    exact j_X2_terms_b16 D dA x0 x1 x2 x3 x4 0
  refine J_iconst (v := 1) dX2_terms_11 (by decide) ?_
  refine J_goto (tgt := 16) dX2_terms_12 rfl ?_
  refine J_sub [0, 1, 2, 3, 4] rfl ?_
  exact j_X2_terms_b16 D dA x0 x1 x2 x3 x4 1
noncomputable def f_X2_terms (x0 : Nat) (x1 : Nat) (x2 : Int32) (x3 : Int32) : JM Mem Unit :=
  jloop (fun (t : Int32) => X2_terms_L3 x0 x1 x2 x3 t) 0
theorem j_X2_terms (D : va_G) (dA : Nat → ClassId) (x0 : Nat) (x1 : Nat) (x2 : Int32) (x3 : Int32) : J (PM D dA false) Y_X2_terms [(0, .ref x0), (1, .ref x1), (2, .int x2), (3, .int x3)] [] 0 (f_X2_terms x0 x1 x2 x3) (FRet injU) := by
  unfold f_X2_terms
  refine J_iconst (v := 0) dX2_terms_0 (by decide) ?_
  refine J_istore (env' := [(4, .int 0), (0, .ref x0), (1, .ref x1), (2, .int x2), (3, .int x3)]) dX2_terms_1 (by decide) rfl ?_
  refine J_loop (he := fun (t : Int32) => [(0, .ref x0), (1, .ref x1), (2, .int x2), (3, .int x3), (4, .int t)]) [1, 2, 3, 4, 0] rfl (fun t => ?_)
  exact j_X2_terms_L3 D dA x0 x1 x2 x3 t
theorem i_X2_terms (x0 : Nat) (x1 : Nat) (x2 : Int32) (x3 : Int32) : Impl (ws_ yX2_terms cX2_terms 8 none) yX2_terms 9 false 0 0 [.ref x0, .ref x1, .int x2, .int x3] (f_X2_terms x0 x1 x2 x3) injU := impl_of (plainFor_of_name (by decide)) (Nat.le_of_ble_eq_true rfl) (fun D dA => j_X2_terms D dA x0 x1 x2 x3)
theorem cw_X2_terms (Y : JY) (h : 10 ≤ Y.2.2.2.1) : JCw Y (ws_ yX2_terms cX2_terms 8 none) yX2_terms cX2_terms 8 none 9 := ⟨h, by decide, lw_meth q923, q189, by decide, by decide⟩
theorem np_X2_terms : JNp yX2_terms.desc 3 := by decide +kernel
-- BracketRoom$Reader.world(ILBracketRoom$World;)V
abbrev Y_X2_world : JY := (cX2_world, yX2_world.cls, 6, 10, yX2_world.name, none, [])
noncomputable def X2_world_b132 (x0 : Nat) : JM Mem Unit :=
  jb (jcall 1 x0 (f_X1_fail x0 5)) fun v13 =>
  jthrow v13
theorem j_X2_world_b132 (D : va_G) (dA : Nat → ClassId) (x0 : Nat) : J (PM D dA false) Y_X2_world [(0, .ref x0)] [] 132 (X2_world_b132 x0) (FRet injU) := by
  unfold X2_world_b132
  refine J_aload_n dX2_world_132 rfl 0 rfl ?_
  refine J_iconst (v := 5) dX2_world_133 (by decide) ?_
  refine J_callUA (c := 1) (as := [.int 5]) (x := ⟨"BracketRoom$Reader", "fail", "(I)LBracketRoom$Wrong;"⟩) dX2_world_134 (by decide) rfl (Nat.le_of_ble_eq_true rfl) (cw_X1_fail _ (by decide)) q895 q896 ⟨rfl, rfl, rfl⟩ q873 q898 q876 np_X1_fail (i_X1_fail x0 5) jad_id rfl (fun v13 => ?_)
  exact J_athrow dX2_world_137 rfl
noncomputable def X2_world_L76 (x0 : Nat) (x2 : Nat) (x3 : Int32) : JM Mem (Unit ⊕ (Int32)) :=
  jb (jgetI 1 2 x0) fun v7 =>
  if v7 = 0 then
    jinl (jp ())
  else
  jb (jcall 1 x0 (f_X2_word x0 2)) fun _ =>
  jb (jgetI 3 2 x2) fun v8 =>
  jb (jcall 1 x0 (f_X1_passed x0 0 (v8 - 1))) fun v9 =>
  jb (jgetI 3 2 x2) fun v10 =>
  jb (jcall 1 x0 (f_X1_number x0 (v9 + 1) (v10 - 1))) fun v11 =>
  if (x3 >>> (((5 * v9) + v11) &&& 31)) &&& 1 = 1 then
    jinl (X2_world_b132 x0)
  else
  jlet (x3 ||| ((1 : Int32) <<< (((5 * v9) + v11) &&& 31))) fun y12 =>
  jb (jcall 1 x0 (f_X1_next x0)) fun _ =>
  jb (jcall 1 x0 (f_X2_word x0 3)) fun _ =>
  jb (jcall 1 x0 (f_X2_terms x0 x2 v9 v11)) fun _ =>
  jb (jcall 1 x0 (f_X1_closes x0)) fun _ =>
  jcont y12
theorem j_X2_world_L76 (D : va_G) (dA : Nat → ClassId) (x0 : Nat) (x2 : Nat) (x3 : Int32) : J (PM D dA false) Y_X2_world [(0, .ref x0), (2, .ref x2), (3, .int x3)] [] 76 (X2_world_L76 x0 x2 x3) (FLoop (FRet injU) 76 (fun (t : Int32) => [(0, .ref x0), (2, .ref x2), (3, .int t)])) := by
  unfold X2_world_L76
  refine J_aload_n dX2_world_76 rfl 0 rfl ?_
  refine J_getI dX2_world_77 fl_X2_72 rfl (fun v7 => ?_)
  refine J_if_eq (tgt := 175) dX2_world_80 rfl ?_ ?_
  · refine J_inl ?_
    exact J_return dX2_world_175 rfl
  refine J_aload_n dX2_world_83 rfl 0 rfl ?_
  refine J_iconst (v := 2) dX2_world_84 (by decide) ?_
  refine J_callVV (c := 1) (as := [.int 2]) dX2_world_85 (by decide) rfl (Nat.le_of_ble_eq_true rfl) (cw_X2_word _ (by decide)) q847 q849 qs6 q850 np_X2_word (i_X2_word x0 2) jad_id rfl ?_
  refine J_aload_n dX2_world_88 rfl 0 rfl ?_
  refine J_iconst (v := 0) dX2_world_89 (by decide) ?_
  refine J_aload_n dX2_world_90 rfl 1 rfl ?_
  refine J_getI dX2_world_91 fl_X2_69 rfl (fun v8 => ?_)
  refine J_iconst (v := 1) dX2_world_94 (by decide) ?_
  refine J_isub dX2_world_95 ?_
  refine J_callUI (c := 1) (as := [.int 0, .int (v8 - 1)]) (x := ⟨"BracketRoom$Reader", "passed", "(II)I"⟩) dX2_world_96 (by decide) rfl (Nat.le_of_ble_eq_true rfl) (cw_X1_passed _ (by decide)) q913 q914 ⟨rfl, rfl, rfl⟩ q917 q916 q918 np_X1_passed (i_X1_passed x0 0 (v8 - 1)) jad_id rfl (fun v9 => ?_)
  refine J_istore (env' := [(4, .int v9), (0, .ref x0), (2, .ref x2), (3, .int x3)]) dX2_world_99 (by decide) rfl ?_
  refine J_aload_n dX2_world_101 rfl 1 rfl ?_
  refine J_iload dX2_world_102 0 rfl ?_
  refine J_iconst (v := 1) dX2_world_104 (by decide) ?_
  refine J_iadd dX2_world_105 ?_
  refine J_aload_n dX2_world_106 rfl 2 rfl ?_
  refine J_getI dX2_world_107 fl_X2_69 rfl (fun v10 => ?_)
  refine J_iconst (v := 1) dX2_world_110 (by decide) ?_
  refine J_isub dX2_world_111 ?_
  refine J_callUI (c := 1) (as := [.int (v9 + 1), .int (v10 - 1)]) (x := ⟨"BracketRoom$Reader", "number", "(II)I"⟩) dX2_world_112 (by decide) rfl (Nat.le_of_ble_eq_true rfl) (cw_X1_number _ (by decide)) q885 q886 ⟨rfl, rfl, rfl⟩ q889 q888 q890 np_X1_number (i_X1_number x0 (v9 + 1) (v10 - 1)) jad_id rfl (fun v11 => ?_)
  refine J_istore (env' := [(5, .int v11), (4, .int v9), (0, .ref x0), (2, .ref x2), (3, .int x3)]) dX2_world_115 (by decide) rfl ?_
  refine J_iload_n dX2_world_117 rfl 4 rfl ?_
  refine J_iconst (v := 5) dX2_world_118 (by decide) ?_
  refine J_iload dX2_world_119 1 rfl ?_
  refine J_imul dX2_world_121 ?_
  refine J_iload dX2_world_122 0 rfl ?_
  refine J_iadd dX2_world_124 ?_
  refine J_ishr dX2_world_125 ?_
  refine J_iconst (v := 1) dX2_world_126 (by decide) ?_
  refine J_iand dX2_world_127 ?_
  refine J_iconst (v := 1) dX2_world_128 (by decide) ?_
  refine J_icmp_ne (tgt := 138) dX2_world_129 rfl ?_ ?_
  · refine J_iload_n dX2_world_138 rfl 4 rfl ?_
    refine J_iconst (v := 1) dX2_world_139 (by decide) ?_
    refine J_iconst (v := 5) dX2_world_140 (by decide) ?_
    refine J_iload dX2_world_141 1 rfl ?_
    refine J_imul dX2_world_143 ?_
    refine J_iload dX2_world_144 0 rfl ?_
    refine J_iadd dX2_world_146 ?_
    refine J_ishl dX2_world_147 ?_
    refine J_ior dX2_world_148 ?_
    refine J_letI (fun y12 => ?_)
    refine J_istore_n (env' := [(3, .int y12), (5, .int v11), (4, .int v9), (0, .ref x0), (2, .ref x2)]) dX2_world_149 rfl (by decide) rfl ?_
    refine J_aload_n dX2_world_150 rfl 3 rfl ?_
    refine J_callUV (c := 1) (as := []) (x := ⟨"BracketRoom$Reader", "next", "()V"⟩) dX2_world_151 (by decide) rfl (Nat.le_of_ble_eq_true rfl) (cw_X1_next _ (by decide)) q881 q882 ⟨rfl, rfl, rfl⟩ q773 q884 q776 np_X1_next (i_X1_next x0) jad_id rfl ?_
    refine J_aload_n dX2_world_154 rfl 3 rfl ?_
    refine J_iconst (v := 3) dX2_world_155 (by decide) ?_
    refine J_callVV (c := 1) (as := [.int 3]) dX2_world_156 (by decide) rfl (Nat.le_of_ble_eq_true rfl) (cw_X2_word _ (by decide)) q847 q849 qs6 q850 np_X2_word (i_X2_word x0 3) jad_id rfl ?_
    refine J_aload_n dX2_world_159 rfl 3 rfl ?_
    refine J_aload_n dX2_world_160 rfl 4 rfl ?_
    refine J_iload dX2_world_161 2 rfl ?_
    refine J_iload dX2_world_163 1 rfl ?_
    refine J_callVV (c := 1) (as := [.ref x2, .int v9, .int v11]) dX2_world_165 (by decide) rfl (Nat.le_of_ble_eq_true rfl) (cw_X2_terms _ (by decide)) q920 q922 qs7 q923 np_X2_terms (i_X2_terms x0 x2 v9 v11) jad_id rfl ?_
    refine J_aload_n dX2_world_168 rfl 3 rfl ?_
    refine J_callUV (c := 1) (as := []) (x := ⟨"BracketRoom$Reader", "closes", "()V"⟩) dX2_world_169 (by decide) rfl (Nat.le_of_ble_eq_true rfl) (cw_X1_closes _ (by decide)) q899 q900 ⟨rfl, rfl, rfl⟩ q903 q902 q904 np_X1_closes (i_X1_closes x0) jad_id rfl ?_
    refine J_goto (tgt := 76) dX2_world_172 rfl ?_
    exact J_cont [3, 4, 0] rfl
  refine J_inl ?_
  refine J_sub [2] rfl ?_
  exact j_X2_world_b132 D dA x0
noncomputable def f_X2_world (x0 : Nat) (x1 : Int32) (x2 : Nat) : JM Mem Unit :=
  jb (jcall 1 x0 (f_X1_begin x0 x1)) fun _ =>
  jb (jcall 3 x2 (f_X4_clear x2)) fun _ =>
  jb (jcall 1 x0 (f_X2_word x0 0)) fun _ =>
  jb (jcall 1 x0 (f_X1_number x0 2 7)) fun v1 =>
  jb (jputI 3 1 x2 v1) fun _ =>
  jb (jgetI 3 1 x2) fun v2 =>
  jb ((f_X0_isPrime v2)) fun v3 =>
  if v3 = 0 then
    jb (jcall 1 x0 (f_X1_fail x0 4)) fun v14 =>
    jthrow v14
  else
  jb (jcall 1 x0 (f_X1_next x0)) fun _ =>
  jb (jcall 1 x0 (f_X1_closes x0)) fun _ =>
  jb (jcall 1 x0 (f_X2_word x0 1)) fun _ =>
  jb (jgetI 3 1 x2) fun v4 =>
  jb ((f_X0_widest v4)) fun v5 =>
  jb (jcall 1 x0 (f_X1_passed x0 1 v5)) fun v6 =>
  jb (jputI 3 2 x2 v6) fun _ =>
  jb (jcall 1 x0 (f_X1_closes x0)) fun _ =>
  jloop (fun (t : Int32) => X2_world_L76 x0 x2 t) 0
theorem j_X2_world (D : va_G) (dA : Nat → ClassId) (x0 : Nat) (x1 : Int32) (x2 : Nat) : J (PM D dA false) Y_X2_world [(0, .ref x0), (1, .int x1), (2, .ref x2)] [] 0 (f_X2_world x0 x1 x2) (FRet injU) := by
  unfold f_X2_world
  refine J_aload_n dX2_world_0 rfl 0 rfl ?_
  refine J_iload_n dX2_world_1 rfl 1 rfl ?_
  refine J_callUV (c := 1) (as := [.int x1]) (x := ⟨"BracketRoom$Reader", "begin", "(I)V"⟩) dX2_world_2 (by decide) rfl (Nat.le_of_ble_eq_true rfl) (cw_X1_begin _ (by decide)) q766 q767 ⟨rfl, rfl, rfl⟩ q770 q769 q771 np_X1_begin (i_X1_begin x0 x1) jad_id rfl ?_
  refine J_aload_n dX2_world_5 rfl 2 rfl ?_
  refine J_callVV (c := 3) (as := []) dX2_world_6 (by decide) rfl (Nat.le_of_ble_eq_true rfl) (cw_X4_clear _ (by decide)) q843 q844 q845 q846 np_X4_clear (i_X4_clear x2) jad_id rfl ?_
  refine J_aload_n dX2_world_9 rfl 0 rfl ?_
  refine J_iconst (v := 0) dX2_world_10 (by decide) ?_
  refine J_callVV (c := 1) (as := [.int 0]) dX2_world_11 (by decide) rfl (Nat.le_of_ble_eq_true rfl) (cw_X2_word _ (by decide)) q847 q849 qs6 q850 np_X2_word (i_X2_word x0 0) jad_id rfl ?_
  refine J_aload_n dX2_world_14 rfl 2 rfl ?_
  refine J_aload_n dX2_world_15 rfl 0 rfl ?_
  refine J_iconst (v := 2) dX2_world_16 (by decide) ?_
  refine J_bipush (v := 7) dX2_world_17 (by decide) ?_
  refine J_callUI (c := 1) (as := [.int 2, .int 7]) (x := ⟨"BracketRoom$Reader", "number", "(II)I"⟩) dX2_world_19 (by decide) rfl (Nat.le_of_ble_eq_true rfl) (cw_X1_number _ (by decide)) q885 q886 ⟨rfl, rfl, rfl⟩ q889 q888 q890 np_X1_number (i_X1_number x0 2 7) jad_id rfl (fun v1 => ?_)
  refine J_putI dX2_world_22 ⟨fl_X2_47, Or.inl rfl⟩ rfl ?_
  refine J_aload_n dX2_world_25 rfl 2 rfl ?_
  refine J_getI dX2_world_26 fl_X2_47 rfl (fun v2 => ?_)
  refine J_callSNI (as := [.int v2]) dX2_world_29 rfl (Nat.le_of_ble_eq_true rfl) (cw_X0_isPrime _ (by decide)) q892 q893 q894 np_X0_isPrime (i_X0_isPrime v2) jad_id rfl (fun v3 => ?_)
  refine J_if_ne (tgt := 41) dX2_world_32 rfl ?_ ?_
  · refine J_aload_n dX2_world_41 rfl 0 rfl ?_
    refine J_callUV (c := 1) (as := []) (x := ⟨"BracketRoom$Reader", "next", "()V"⟩) dX2_world_42 (by decide) rfl (Nat.le_of_ble_eq_true rfl) (cw_X1_next _ (by decide)) q881 q882 ⟨rfl, rfl, rfl⟩ q773 q884 q776 np_X1_next (i_X1_next x0) jad_id rfl ?_
    refine J_aload_n dX2_world_45 rfl 0 rfl ?_
    refine J_callUV (c := 1) (as := []) (x := ⟨"BracketRoom$Reader", "closes", "()V"⟩) dX2_world_46 (by decide) rfl (Nat.le_of_ble_eq_true rfl) (cw_X1_closes _ (by decide)) q899 q900 ⟨rfl, rfl, rfl⟩ q903 q902 q904 np_X1_closes (i_X1_closes x0) jad_id rfl ?_
    refine J_aload_n dX2_world_49 rfl 0 rfl ?_
    refine J_iconst (v := 1) dX2_world_50 (by decide) ?_
    refine J_callVV (c := 1) (as := [.int 1]) dX2_world_51 (by decide) rfl (Nat.le_of_ble_eq_true rfl) (cw_X2_word _ (by decide)) q847 q849 qs6 q850 np_X2_word (i_X2_word x0 1) jad_id rfl ?_
    refine J_aload_n dX2_world_54 rfl 2 rfl ?_
    refine J_aload_n dX2_world_55 rfl 0 rfl ?_
    refine J_iconst (v := 1) dX2_world_56 (by decide) ?_
    refine J_aload_n dX2_world_57 rfl 2 rfl ?_
    refine J_getI dX2_world_58 fl_X2_47 rfl (fun v4 => ?_)
    refine J_callSNI (as := [.int v4]) dX2_world_61 rfl (Nat.le_of_ble_eq_true rfl) (cw_X0_widest _ (by decide)) q910 q911 q912 np_X0_widest (i_X0_widest v4) jad_id rfl (fun v5 => ?_)
    refine J_callUI (c := 1) (as := [.int 1, .int v5]) (x := ⟨"BracketRoom$Reader", "passed", "(II)I"⟩) dX2_world_64 (by decide) rfl (Nat.le_of_ble_eq_true rfl) (cw_X1_passed _ (by decide)) q913 q914 ⟨rfl, rfl, rfl⟩ q917 q916 q918 np_X1_passed (i_X1_passed x0 1 v5) jad_id rfl (fun v6 => ?_)
    refine J_putI dX2_world_67 ⟨fl_X2_69, Or.inl rfl⟩ rfl ?_
    refine J_aload_n dX2_world_70 rfl 0 rfl ?_
    refine J_callUV (c := 1) (as := []) (x := ⟨"BracketRoom$Reader", "closes", "()V"⟩) dX2_world_71 (by decide) rfl (Nat.le_of_ble_eq_true rfl) (cw_X1_closes _ (by decide)) q899 q900 ⟨rfl, rfl, rfl⟩ q903 q902 q904 np_X1_closes (i_X1_closes x0) jad_id rfl ?_
    refine J_iconst (v := 0) dX2_world_74 (by decide) ?_
    refine J_istore_n (env' := [(3, .int 0), (0, .ref x0), (1, .int x1), (2, .ref x2)]) dX2_world_75 rfl (by decide) rfl ?_
    refine J_loop (he := fun (t : Int32) => [(0, .ref x0), (2, .ref x2), (3, .int t)]) [1, 3, 0] rfl (fun t => ?_)
    exact j_X2_world_L76 D dA x0 x2 t
  refine J_aload_n dX2_world_35 rfl 0 rfl ?_
  refine J_iconst (v := 4) dX2_world_36 (by decide) ?_
  refine J_callUA (c := 1) (as := [.int 4]) (x := ⟨"BracketRoom$Reader", "fail", "(I)LBracketRoom$Wrong;"⟩) dX2_world_37 (by decide) rfl (Nat.le_of_ble_eq_true rfl) (cw_X1_fail _ (by decide)) q895 q896 ⟨rfl, rfl, rfl⟩ q873 q898 q876 np_X1_fail (i_X1_fail x0 4) jad_id rfl (fun v14 => ?_)
  exact J_athrow dX2_world_40 rfl
theorem i_X2_world (x0 : Nat) (x1 : Int32) (x2 : Nat) : Impl (ws_ yX2_world cX2_world 6 none) yX2_world 10 false 0 0 [.ref x0, .int x1, .ref x2] (f_X2_world x0 x1 x2) injU := impl_of (plainFor_of_name (by decide)) (Nat.le_of_ble_eq_true rfl) (fun D dA => j_X2_world D dA x0 x1 x2)
theorem cw_X2_world (Y : JY) (h : 11 ≤ Y.2.2.2.1) : JCw Y (ws_ yX2_world cX2_world 6 none) yX2_world cX2_world 6 none 10 := ⟨h, by decide, lw_meth q765, q189, by decide, by decide⟩
theorem np_X2_world : JNp yX2_world.desc 2 := by decide +kernel
-- BracketRoom$World.copy(LBracketRoom$World;)V
abbrev Y_X4_copy : JY := (cX4_copy, yX4_copy.cls, 4, 1, yX4_copy.name, none, [])
noncomputable def X4_copy_b58 (x0 : Nat) (x1 : Nat) (x2 : Int32) : JM Mem (Unit ⊕ (Int32)) :=
  jcont (x2 + 1)
theorem j_X4_copy_b58 (D : va_G) (dA : Nat → ClassId) (x0 : Nat) (x1 : Nat) (x2 : Int32) : J (PM D dA false) Y_X4_copy [(0, .ref x0), (1, .ref x1), (2, .int x2)] [] 58 (X4_copy_b58 x0 x1 x2) (FLoop (FRet injU) 18 (fun (t : Int32) => [(0, .ref x0), (1, .ref x1), (2, .int t)])) := by
  unfold X4_copy_b58
  refine J_iinc (v := x2 + 1) (env' := [(2, .int (x2 + 1)), (0, .ref x0), (1, .ref x1)]) dX4_copy_58 2 rfl rfl (by decide) rfl ?_
  refine J_goto (tgt := 18) dX4_copy_61 rfl ?_
  exact J_cont [1, 2, 0] rfl
noncomputable def X4_copy_L25 (x0 : Nat) (x1 : Nat) (x2 : Int32) (x3 : Int32) : JM Mem ((Unit ⊕ (Int32)) ⊕ (Int32)) :=
  if 5 ≤ x3 then
    jinl (X4_copy_b58 x0 x1 x2)
  else
  jb (jgetA 3 0 x1) fun v3 =>
  jb (jaldA 6 v3 x2) fun v4 =>
  jb (jaldA 5 v4 x3) fun v5 =>
  jb (jgetA 3 0 x0) fun v6 =>
  jb (jaldA 6 v6 x2) fun v7 =>
  jb (jaldA 5 v7 x3) fun v8 =>
  jb (jcopy 0 v5 0 v8 0 5) fun _ =>
  jcont (x3 + 1)
theorem j_X4_copy_L25 (D : va_G) (dA : Nat → ClassId) (x0 : Nat) (x1 : Nat) (x2 : Int32) (x3 : Int32) : J (PM D dA false) Y_X4_copy [(0, .ref x0), (1, .ref x1), (2, .int x2), (3, .int x3)] [] 25 (X4_copy_L25 x0 x1 x2 x3) (FLoop (FLoop (FRet injU) 18 (fun (t : Int32) => [(0, .ref x0), (1, .ref x1), (2, .int t)])) 25 (fun (t : Int32) => [(0, .ref x0), (1, .ref x1), (2, .int x2), (3, .int t)])) := by
  unfold X4_copy_L25
  refine J_iload_n dX4_copy_25 rfl 3 rfl ?_
  refine J_iconst (v := 5) dX4_copy_26 (by decide) ?_
  refine J_icmp_ge (tgt := 58) dX4_copy_27 rfl ?_ ?_
  · refine J_inl ?_
    refine J_sub [0, 1, 2] rfl ?_
    exact j_X4_copy_b58 D dA x0 x1 x2
  refine J_aload_n dX4_copy_30 rfl 1 rfl ?_
  refine J_getA dX4_copy_31 fl_X4_11 rfl (fun v3 => ?_)
  refine J_iload_n dX4_copy_34 rfl 2 rfl ?_
  refine J_aald dX4_copy_35 rfl (by decide) (fun v4 => ?_)
  refine J_iload_n dX4_copy_36 rfl 3 rfl ?_
  refine J_aald dX4_copy_37 rfl (by decide) (fun v5 => ?_)
  refine J_iconst (v := 0) dX4_copy_38 (by decide) ?_
  refine J_aload_n dX4_copy_39 rfl 0 rfl ?_
  refine J_getA dX4_copy_40 fl_X4_11 rfl (fun v6 => ?_)
  refine J_iload_n dX4_copy_43 rfl 2 rfl ?_
  refine J_aald dX4_copy_44 rfl (by decide) (fun v7 => ?_)
  refine J_iload_n dX4_copy_45 rfl 3 rfl ?_
  refine J_aald dX4_copy_46 rfl (by decide) (fun v8 => ?_)
  refine J_iconst (v := 0) dX4_copy_47 (by decide) ?_
  refine J_iconst (v := 5) dX4_copy_48 (by decide) ?_
  refine J_copy (t := 0) dX4_copy_49 (by decide) (Nat.le_of_ble_eq_true rfl) (by decide) q943 q745 q744 q204 ?_
  refine J_iinc (v := x3 + 1) (env' := [(3, .int (x3 + 1)), (0, .ref x0), (1, .ref x1), (2, .int x2)]) dX4_copy_52 3 rfl rfl (by decide) rfl ?_
  refine J_goto (tgt := 25) dX4_copy_55 rfl ?_
  exact J_cont [1, 2, 3, 0] rfl
noncomputable def X4_copy_L18 (x0 : Nat) (x1 : Nat) (x2 : Int32) : JM Mem (Unit ⊕ (Int32)) :=
  if 5 ≤ x2 then
    jinl (jp ())
  else
    jloop (fun (t : Int32) => X4_copy_L25 x0 x1 x2 t) 0
theorem j_X4_copy_L18 (D : va_G) (dA : Nat → ClassId) (x0 : Nat) (x1 : Nat) (x2 : Int32) : J (PM D dA false) Y_X4_copy [(0, .ref x0), (1, .ref x1), (2, .int x2)] [] 18 (X4_copy_L18 x0 x1 x2) (FLoop (FRet injU) 18 (fun (t : Int32) => [(0, .ref x0), (1, .ref x1), (2, .int t)])) := by
  unfold X4_copy_L18
  refine J_iload_n dX4_copy_18 rfl 2 rfl ?_
  refine J_iconst (v := 5) dX4_copy_19 (by decide) ?_
  refine J_icmp_ge (tgt := 64) dX4_copy_20 rfl ?_ ?_
  · refine J_inl ?_
    exact J_return dX4_copy_64 rfl
  refine J_iconst (v := 0) dX4_copy_23 (by decide) ?_
  refine J_istore_n (env' := [(3, .int 0), (0, .ref x0), (1, .ref x1), (2, .int x2)]) dX4_copy_24 rfl (by decide) rfl ?_
  refine J_loop (he := fun (t : Int32) => [(0, .ref x0), (1, .ref x1), (2, .int x2), (3, .int t)]) [1, 2, 3, 0] rfl (fun t => ?_)
  exact j_X4_copy_L25 D dA x0 x1 x2 t
noncomputable def f_X4_copy (x0 : Nat) (x1 : Nat) : JM Mem Unit :=
  jb (jgetI 3 1 x1) fun v1 =>
  jb (jputI 3 1 x0 v1) fun _ =>
  jb (jgetI 3 2 x1) fun v2 =>
  jb (jputI 3 2 x0 v2) fun _ =>
  jloop (fun (t : Int32) => X4_copy_L18 x0 x1 t) 0
theorem j_X4_copy (D : va_G) (dA : Nat → ClassId) (x0 : Nat) (x1 : Nat) : J (PM D dA false) Y_X4_copy [(0, .ref x0), (1, .ref x1)] [] 0 (f_X4_copy x0 x1) (FRet injU) := by
  unfold f_X4_copy
  refine J_aload_n dX4_copy_0 rfl 0 rfl ?_
  refine J_aload_n dX4_copy_1 rfl 1 rfl ?_
  refine J_getI dX4_copy_2 fl_X4_16 rfl (fun v1 => ?_)
  refine J_putI dX4_copy_5 ⟨fl_X4_16, Or.inl rfl⟩ rfl ?_
  refine J_aload_n dX4_copy_8 rfl 0 rfl ?_
  refine J_aload_n dX4_copy_9 rfl 1 rfl ?_
  refine J_getI dX4_copy_10 fl_X4_20 rfl (fun v2 => ?_)
  refine J_putI dX4_copy_13 ⟨fl_X4_20, Or.inl rfl⟩ rfl ?_
  refine J_iconst (v := 0) dX4_copy_16 (by decide) ?_
  refine J_istore_n (env' := [(2, .int 0), (0, .ref x0), (1, .ref x1)]) dX4_copy_17 rfl (by decide) rfl ?_
  refine J_loop (he := fun (t : Int32) => [(0, .ref x0), (1, .ref x1), (2, .int t)]) [1, 2, 0] rfl (fun t => ?_)
  exact j_X4_copy_L18 D dA x0 x1 t
theorem i_X4_copy (x0 : Nat) (x1 : Nat) : Impl (ws_ yX4_copy cX4_copy 4 none) yX4_copy 1 false 0 0 [.ref x0, .ref x1] (f_X4_copy x0 x1) injU := impl_of (plainFor_of_name (by decide)) (Nat.le_of_ble_eq_true rfl) (fun D dA => j_X4_copy D dA x0 x1)
theorem cw_X4_copy (Y : JY) (h : 2 ≤ Y.2.2.2.1) : JCw Y (ws_ yX4_copy cX4_copy 4 none) yX4_copy cX4_copy 4 none 1 := ⟨h, by decide, lw_meth q942, q194, by decide, by decide⟩
theorem np_X4_copy : JNp yX4_copy.desc 1 := by decide +kernel
-- BracketRoom$Step.<init>(I)V
abbrev Y_X9_init : JY := (cX9_init, yX9_init.cls, 2, 1, yX9_init.name, none, [])
noncomputable def f_X9_init (x0 : Nat) (x1 : Int32) : JM Mem Unit :=
  jb (jputI 8 0 x0 x1) fun _ =>
  jp ()
theorem j_X9_init (D : va_G) (dA : Nat → ClassId) (x0 : Nat) (x1 : Int32) : J (PM D dA false) Y_X9_init [(0, .ref x0), (1, .int x1)] [] 0 (f_X9_init x0 x1) (FRet injU) := by
  unfold f_X9_init
  refine J_aload_n dX9_init_0 rfl 0 rfl ?_
  refine J_objInit dX9_init_1 (Nat.le_of_ble_eq_true rfl) (by decide) q966 q217 q218 ?_
  refine J_aload_n dX9_init_4 rfl 0 rfl ?_
  refine J_iload_n dX9_init_5 rfl 1 rfl ?_
  refine J_putI dX9_init_6 ⟨fl_X9_7, Or.inr ⟨rfl, rfl, rfl, q967⟩⟩ rfl ?_
  exact J_return dX9_init_9 rfl
theorem i_X9_init (x0 : Nat) (x1 : Int32) : Impl (ws_ yX9_init cX9_init 2 none) yX9_init 1 false 0 0 [.ref x0, .int x1] (f_X9_init x0 x1) injU := impl_of (plainFor_of_name (by decide)) (Nat.le_of_ble_eq_true rfl) (fun D dA => j_X9_init D dA x0 x1)
theorem cw_X9_init (Y : JY) (h : 2 ≤ Y.2.2.2.1) : JCw Y (ws_ yX9_init cX9_init 2 none) yX9_init cX9_init 2 none 1 := ⟨h, by decide, lw_meth q965, q209, by decide, by decide⟩
theorem np_X9_init : JNp yX9_init.desc 1 := by decide +kernel
-- BracketRoom$Reader.compares(LBracketRoom$Step;)V
abbrev Y_X2_compares : JY := (cX2_compares, yX2_compares.cls, 2, 8, yX2_compares.name, none, [])
noncomputable def X2_compares_b33 (x0 : Nat) (x1 : Nat) (s0 : Nat) (s1 : Int32) : JM Mem Unit :=
  jb (jcall 1 s0 (f_X1_need s0 s1)) fun _ =>
  jb (jgetI 1 5 x0) fun v2 =>
  jb (jputI 8 4 x1 v2) fun _ =>
  jb (jcall 1 x0 (f_X1_next x0)) fun _ =>
  jb (jcall 1 x0 (f_X1_passed x0 0 5)) fun v3 =>
  jb (jputI 8 3 x1 v3) fun _ =>
  jp ()
theorem j_X2_compares_b33 (D : va_G) (dA : Nat → ClassId) (x0 : Nat) (x1 : Nat) (s0 : Nat) (s1 : Int32) : J (PM D dA false) Y_X2_compares [(0, .ref x0), (1, .ref x1)] [.int s1, .ref s0] 33 (X2_compares_b33 x0 x1 s0 s1) (FRet injU) := by
  unfold X2_compares_b33
  refine J_callUV (c := 1) (as := [.int s1]) (x := ⟨"BracketRoom$Reader", "need", "(Z)V"⟩) dX2_compares_33 (by decide) rfl (Nat.le_of_ble_eq_true rfl) (cw_X1_need _ (by decide)) q866 q867 ⟨rfl, rfl, rfl⟩ q870 q869 q871 np_X1_need (i_X1_need s0 s1) jad_id rfl ?_
  refine J_aload_n dX2_compares_36 rfl 1 rfl ?_
  refine J_aload_n dX2_compares_37 rfl 0 rfl ?_
  refine J_getI dX2_compares_38 fl_X2_104 rfl (fun v2 => ?_)
  refine J_putI dX2_compares_41 ⟨fl_X2_107, Or.inl rfl⟩ rfl ?_
  refine J_aload_n dX2_compares_44 rfl 0 rfl ?_
  refine J_callUV (c := 1) (as := []) (x := ⟨"BracketRoom$Reader", "next", "()V"⟩) dX2_compares_45 (by decide) rfl (Nat.le_of_ble_eq_true rfl) (cw_X1_next _ (by decide)) q881 q882 ⟨rfl, rfl, rfl⟩ q773 q884 q776 np_X1_next (i_X1_next x0) jad_id rfl ?_
  refine J_aload_n dX2_compares_48 rfl 1 rfl ?_
  refine J_aload_n dX2_compares_49 rfl 0 rfl ?_
  refine J_iconst (v := 0) dX2_compares_50 (by decide) ?_
  refine J_iconst (v := 5) dX2_compares_51 (by decide) ?_
  refine J_callUI (c := 1) (as := [.int 0, .int 5]) (x := ⟨"BracketRoom$Reader", "passed", "(II)I"⟩) dX2_compares_52 (by decide) rfl (Nat.le_of_ble_eq_true rfl) (cw_X1_passed _ (by decide)) q913 q914 ⟨rfl, rfl, rfl⟩ q917 q916 q918 np_X1_passed (i_X1_passed x0 0 5) jad_id rfl (fun v3 => ?_)
  refine J_putI dX2_compares_55 ⟨fl_X2_110, Or.inl rfl⟩ rfl ?_
  exact J_return dX2_compares_58 rfl
noncomputable def X2_compares_b28 (x0 : Nat) (x1 : Nat) (s0 : Nat) : JM Mem Unit :=
  X2_compares_b33 x0 x1 s0 1
theorem j_X2_compares_b28 (D : va_G) (dA : Nat → ClassId) (x0 : Nat) (x1 : Nat) (s0 : Nat) : J (PM D dA false) Y_X2_compares [(0, .ref x0), (1, .ref x1)] [.ref s0] 28 (X2_compares_b28 x0 x1 s0) (FRet injU) := by
  unfold X2_compares_b28
  refine J_iconst (v := 1) dX2_compares_28 (by decide) ?_
  refine J_goto (tgt := 33) dX2_compares_29 rfl ?_
  refine J_sub [0, 1] rfl ?_
  exact j_X2_compares_b33 D dA x0 x1 s0 1
noncomputable def f_X2_compares (x0 : Nat) (x1 : Nat) : JM Mem Unit :=
  jb (jcall 1 x0 (f_X1_is x0 60)) fun v1 =>
  if v1 = 0 then
    jb (jcall 1 x0 (f_X1_is x0 62)) fun v4 =>
    if v4 = 0 then
      jb (jcall 1 x0 (f_X1_is x0 61)) fun v5 =>
      if v5 = 0 then
        X2_compares_b33 x0 x1 x0 0
      else
        X2_compares_b28 x0 x1 x0
    else
      X2_compares_b28 x0 x1 x0
  else
    X2_compares_b28 x0 x1 x0
theorem j_X2_compares (D : va_G) (dA : Nat → ClassId) (x0 : Nat) (x1 : Nat) : J (PM D dA false) Y_X2_compares [(0, .ref x0), (1, .ref x1)] [] 0 (f_X2_compares x0 x1) (FRet injU) := by
  unfold f_X2_compares
  refine J_aload_n dX2_compares_0 rfl 0 rfl ?_
  refine J_aload_n dX2_compares_1 rfl 0 rfl ?_
  refine J_bipush (v := 60) dX2_compares_2 (by decide) ?_
  refine J_callUI (c := 1) (as := [.int 60]) (x := ⟨"BracketRoom$Reader", "is", "(I)Z"⟩) dX2_compares_4 (by decide) rfl (Nat.le_of_ble_eq_true rfl) (cw_X1_is _ (by decide)) q1007 q1008 ⟨rfl, rfl, rfl⟩ q906 q1010 q909 np_X1_is (i_X1_is x0 60) jad_id rfl (fun v1 => ?_)
  refine J_if_ne (tgt := 28) dX2_compares_7 rfl ?_ ?_
  · refine J_sub [0, 1] rfl ?_
    exact j_X2_compares_b28 D dA x0 x1 x0
  refine J_aload_n dX2_compares_10 rfl 0 rfl ?_
  refine J_bipush (v := 62) dX2_compares_11 (by decide) ?_
  refine J_callUI (c := 1) (as := [.int 62]) (x := ⟨"BracketRoom$Reader", "is", "(I)Z"⟩) dX2_compares_13 (by decide) rfl (Nat.le_of_ble_eq_true rfl) (cw_X1_is _ (by decide)) q1007 q1008 ⟨rfl, rfl, rfl⟩ q906 q1010 q909 np_X1_is (i_X1_is x0 62) jad_id rfl (fun v4 => ?_)
  refine J_if_ne (tgt := 28) dX2_compares_16 rfl ?_ ?_
  · refine J_sub [0, 1] rfl ?_
    exact j_X2_compares_b28 D dA x0 x1 x0
  refine J_aload_n dX2_compares_19 rfl 0 rfl ?_
  refine J_bipush (v := 61) dX2_compares_20 (by decide) ?_
  refine J_callUI (c := 1) (as := [.int 61]) (x := ⟨"BracketRoom$Reader", "is", "(I)Z"⟩) dX2_compares_22 (by decide) rfl (Nat.le_of_ble_eq_true rfl) (cw_X1_is _ (by decide)) q1007 q1008 ⟨rfl, rfl, rfl⟩ q906 q1010 q909 np_X1_is (i_X1_is x0 61) jad_id rfl (fun v5 => ?_)
  refine J_if_eq (tgt := 32) dX2_compares_25 rfl ?_ ?_
  · refine J_iconst (v := 0) dX2_compares_32 (by decide) ?_
    refine J_sub [0, 1] rfl ?_
    exact j_X2_compares_b33 D dA x0 x1 x0 0
  refine J_sub [0, 1] rfl ?_
  exact j_X2_compares_b28 D dA x0 x1 x0
theorem i_X2_compares (x0 : Nat) (x1 : Nat) : Impl (ws_ yX2_compares cX2_compares 2 none) yX2_compares 8 false 0 0 [.ref x0, .ref x1] (f_X2_compares x0 x1) injU := impl_of (plainFor_of_name (by decide)) (Nat.le_of_ble_eq_true rfl) (fun D dA => j_X2_compares D dA x0 x1)
theorem cw_X2_compares (Y : JY) (h : 9 ≤ Y.2.2.2.1) : JCw Y (ws_ yX2_compares cX2_compares 2 none) yX2_compares cX2_compares 2 none 8 := ⟨h, by decide, lw_meth q1006, q189, by decide, by decide⟩
theorem np_X2_compares : JNp yX2_compares.desc 1 := by decide +kernel
-- BracketRoom$Reader.test(LBracketRoom$Step;)V
abbrev Y_X2_test : JY := (cX2_test, yX2_test.cls, 2, 9, yX2_test.name, none, [])
noncomputable def X2_test_b88 (x0 : Nat) (x1 : Nat) : JM Mem Unit :=
  jb (jgetI 8 5 x1) fun v6 =>
  if v6 = 23 then
    jb (jcall 1 x0 (f_X1_passed x0 0 3)) fun v7 =>
    jb (jputI 8 1 x1 v7) fun _ =>
    jp ()
  else
    jp ()
theorem j_X2_test_b88 (D : va_G) (dA : Nat → ClassId) (x0 : Nat) (x1 : Nat) : J (PM D dA false) Y_X2_test [(0, .ref x0), (1, .ref x1)] [] 88 (X2_test_b88 x0 x1) (FRet injU) := by
  unfold X2_test_b88
  refine J_aload_n dX2_test_88 rfl 1 rfl ?_
  refine J_getI dX2_test_89 fl_X2_112 rfl (fun v6 => ?_)
  refine J_bipush (v := 23) dX2_test_92 (by decide) ?_
  refine J_icmp_ne (tgt := 107) dX2_test_94 rfl ?_ ?_
  · exact J_return dX2_test_107 rfl
  refine J_aload_n dX2_test_97 rfl 1 rfl ?_
  refine J_aload_n dX2_test_98 rfl 0 rfl ?_
  refine J_iconst (v := 0) dX2_test_99 (by decide) ?_
  refine J_iconst (v := 3) dX2_test_100 (by decide) ?_
  refine J_callUI (c := 1) (as := [.int 0, .int 3]) (x := ⟨"BracketRoom$Reader", "passed", "(II)I"⟩) dX2_test_101 (by decide) rfl (Nat.le_of_ble_eq_true rfl) (cw_X1_passed _ (by decide)) q913 q914 ⟨rfl, rfl, rfl⟩ q917 q916 q918 np_X1_passed (i_X1_passed x0 0 3) jad_id rfl (fun v7 => ?_)
  refine J_putI dX2_test_104 ⟨fl_X2_115, Or.inl rfl⟩ rfl ?_
  exact J_return dX2_test_107 rfl
noncomputable def X2_test_b83 (x0 : Nat) (x1 : Nat) : JM Mem Unit :=
  jb (jcall 1 x0 (f_X2_compares x0 x1)) fun _ =>
  X2_test_b88 x0 x1
theorem j_X2_test_b83 (D : va_G) (dA : Nat → ClassId) (x0 : Nat) (x1 : Nat) : J (PM D dA false) Y_X2_test [(0, .ref x0), (1, .ref x1)] [] 83 (X2_test_b83 x0 x1) (FRet injU) := by
  unfold X2_test_b83
  refine J_aload_n dX2_test_83 rfl 0 rfl ?_
  refine J_aload_n dX2_test_84 rfl 1 rfl ?_
  refine J_callVV (c := 1) (as := [.ref x1]) dX2_test_85 (by decide) rfl (Nat.le_of_ble_eq_true rfl) (cw_X2_compares _ (by decide)) q1003 q1005 qs12 q1006 np_X2_compares (i_X2_compares x0 x1) jad_id rfl ?_
  refine J_sub [0, 1] rfl ?_
  exact j_X2_test_b88 D dA x0 x1
noncomputable def X2_test_b66 (x0 : Nat) (x1 : Nat) : JM Mem Unit :=
  jb (jgetI 8 5 x1) fun v5 =>
  if v5 = 22 then
    X2_test_b83 x0 x1
  else
  jb (jgetI 8 5 x1) fun v8 =>
  if v8 = 1 then
    X2_test_b83 x0 x1
  else
    X2_test_b88 x0 x1
theorem j_X2_test_b66 (D : va_G) (dA : Nat → ClassId) (x0 : Nat) (x1 : Nat) : J (PM D dA false) Y_X2_test [(0, .ref x0), (1, .ref x1)] [] 66 (X2_test_b66 x0 x1) (FRet injU) := by
  unfold X2_test_b66
  refine J_aload_n dX2_test_66 rfl 1 rfl ?_
  refine J_getI dX2_test_67 fl_X2_112 rfl (fun v5 => ?_)
  refine J_bipush (v := 22) dX2_test_70 (by decide) ?_
  refine J_icmp_eq (tgt := 83) dX2_test_72 rfl ?_ ?_
  · refine J_sub [0, 1] rfl ?_
    exact j_X2_test_b83 D dA x0 x1
  refine J_aload_n dX2_test_75 rfl 1 rfl ?_
  refine J_getI dX2_test_76 fl_X2_112 rfl (fun v8 => ?_)
  refine J_iconst (v := 1) dX2_test_79 (by decide) ?_
  refine J_icmp_ne (tgt := 88) dX2_test_80 rfl ?_ ?_
  · refine J_sub [0, 1] rfl ?_
    exact j_X2_test_b88 D dA x0 x1
  refine J_sub [0, 1] rfl ?_
  exact j_X2_test_b83 D dA x0 x1
noncomputable def X2_test_b40 (x0 : Nat) (x1 : Nat) (s0 : Nat) (s1 : Int32) : JM Mem Unit :=
  jb (jcall 1 s0 (f_X1_need s0 s1)) fun _ =>
  jb (jcall 1 x0 (f_X1_next x0)) fun _ =>
  jb (jgetI 8 5 x1) fun v4 =>
  if v4 = 22 then
    jb (jcall 1 x0 (f_X1_passed x0 0 5)) fun v9 =>
    jb (jputI 8 1 x1 v9) fun _ =>
    X2_test_b66 x0 x1
  else
    X2_test_b66 x0 x1
theorem j_X2_test_b40 (D : va_G) (dA : Nat → ClassId) (x0 : Nat) (x1 : Nat) (s0 : Nat) (s1 : Int32) : J (PM D dA false) Y_X2_test [(0, .ref x0), (1, .ref x1)] [.int s1, .ref s0] 40 (X2_test_b40 x0 x1 s0 s1) (FRet injU) := by
  unfold X2_test_b40
  refine J_callUV (c := 1) (as := [.int s1]) (x := ⟨"BracketRoom$Reader", "need", "(Z)V"⟩) dX2_test_40 (by decide) rfl (Nat.le_of_ble_eq_true rfl) (cw_X1_need _ (by decide)) q866 q867 ⟨rfl, rfl, rfl⟩ q870 q869 q871 np_X1_need (i_X1_need s0 s1) jad_id rfl ?_
  refine J_aload_n dX2_test_43 rfl 0 rfl ?_
  refine J_callUV (c := 1) (as := []) (x := ⟨"BracketRoom$Reader", "next", "()V"⟩) dX2_test_44 (by decide) rfl (Nat.le_of_ble_eq_true rfl) (cw_X1_next _ (by decide)) q881 q882 ⟨rfl, rfl, rfl⟩ q773 q884 q776 np_X1_next (i_X1_next x0) jad_id rfl ?_
  refine J_aload_n dX2_test_47 rfl 1 rfl ?_
  refine J_getI dX2_test_48 fl_X2_112 rfl (fun v4 => ?_)
  refine J_bipush (v := 22) dX2_test_51 (by decide) ?_
  refine J_icmp_ne (tgt := 66) dX2_test_53 rfl ?_ ?_
  · refine J_sub [0, 1] rfl ?_
    exact j_X2_test_b66 D dA x0 x1
  refine J_aload_n dX2_test_56 rfl 1 rfl ?_
  refine J_aload_n dX2_test_57 rfl 0 rfl ?_
  refine J_iconst (v := 0) dX2_test_58 (by decide) ?_
  refine J_iconst (v := 5) dX2_test_59 (by decide) ?_
  refine J_callUI (c := 1) (as := [.int 0, .int 5]) (x := ⟨"BracketRoom$Reader", "passed", "(II)I"⟩) dX2_test_60 (by decide) rfl (Nat.le_of_ble_eq_true rfl) (cw_X1_passed _ (by decide)) q913 q914 ⟨rfl, rfl, rfl⟩ q917 q916 q918 np_X1_passed (i_X1_passed x0 0 5) jad_id rfl (fun v9 => ?_)
  refine J_putI dX2_test_63 ⟨fl_X2_115, Or.inl rfl⟩ rfl ?_
  refine J_sub [0, 1] rfl ?_
  exact j_X2_test_b66 D dA x0 x1
noncomputable def X2_test_b35 (x0 : Nat) (x1 : Nat) (s0 : Nat) : JM Mem Unit :=
  X2_test_b40 x0 x1 s0 1
theorem j_X2_test_b35 (D : va_G) (dA : Nat → ClassId) (x0 : Nat) (x1 : Nat) (s0 : Nat) : J (PM D dA false) Y_X2_test [(0, .ref x0), (1, .ref x1)] [.ref s0] 35 (X2_test_b35 x0 x1 s0) (FRet injU) := by
  unfold X2_test_b35
  refine J_iconst (v := 1) dX2_test_35 (by decide) ?_
  refine J_goto (tgt := 40) dX2_test_36 rfl ?_
  refine J_sub [0, 1] rfl ?_
  exact j_X2_test_b40 D dA x0 x1 s0 1
noncomputable def X2_test_b27 (x0 : Nat) (x1 : Nat) (s0 : Nat) : JM Mem Unit :=
  jb (jgetI 8 5 x1) fun v3 =>
  if v3 = 1 then
    X2_test_b35 x0 x1 s0
  else
    X2_test_b40 x0 x1 s0 0
theorem j_X2_test_b27 (D : va_G) (dA : Nat → ClassId) (x0 : Nat) (x1 : Nat) (s0 : Nat) : J (PM D dA false) Y_X2_test [(0, .ref x0), (1, .ref x1)] [.ref s0] 27 (X2_test_b27 x0 x1 s0) (FRet injU) := by
  unfold X2_test_b27
  refine J_aload_n dX2_test_27 rfl 1 rfl ?_
  refine J_getI dX2_test_28 fl_X2_112 rfl (fun v3 => ?_)
  refine J_iconst (v := 1) dX2_test_31 (by decide) ?_
  refine J_icmp_ne (tgt := 39) dX2_test_32 rfl ?_ ?_
  · refine J_iconst (v := 0) dX2_test_39 (by decide) ?_
    refine J_sub [0, 1] rfl ?_
    exact j_X2_test_b40 D dA x0 x1 s0 0
  refine J_sub [0, 1] rfl ?_
  exact j_X2_test_b35 D dA x0 x1 s0
noncomputable def f_X2_test (x0 : Nat) (x1 : Nat) : JM Mem Unit :=
  jb (jcall 1 x0 (f_X1_key x0)) fun v1 =>
  jb (jputI 8 5 x1 v1) fun _ =>
  jb (jgetI 8 5 x1) fun v2 =>
  if v2 < 18 then
    X2_test_b27 x0 x1 x0
  else
  jb (jgetI 8 5 x1) fun v10 =>
  if v10 ≤ 23 then
    X2_test_b35 x0 x1 x0
  else
    X2_test_b27 x0 x1 x0
theorem j_X2_test (D : va_G) (dA : Nat → ClassId) (x0 : Nat) (x1 : Nat) : J (PM D dA false) Y_X2_test [(0, .ref x0), (1, .ref x1)] [] 0 (f_X2_test x0 x1) (FRet injU) := by
  unfold f_X2_test
  refine J_aload_n dX2_test_0 rfl 1 rfl ?_
  refine J_aload_n dX2_test_1 rfl 0 rfl ?_
  refine J_callUI (c := 1) (as := []) (x := ⟨"BracketRoom$Reader", "key", "()I"⟩) dX2_test_2 (by decide) rfl (Nat.le_of_ble_eq_true rfl) (cw_X1_key _ (by decide)) q851 q852 ⟨rfl, rfl, rfl⟩ q855 q854 q856 np_X1_key (i_X1_key x0) jad_id rfl (fun v1 => ?_)
  refine J_putI dX2_test_5 ⟨fl_X2_112, Or.inl rfl⟩ rfl ?_
  refine J_aload_n dX2_test_8 rfl 0 rfl ?_
  refine J_aload_n dX2_test_9 rfl 1 rfl ?_
  refine J_getI dX2_test_10 fl_X2_112 rfl (fun v2 => ?_)
  refine J_bipush (v := 18) dX2_test_13 (by decide) ?_
  refine J_icmp_lt (tgt := 27) dX2_test_15 rfl ?_ ?_
  · refine J_sub [0, 1] rfl ?_
    exact j_X2_test_b27 D dA x0 x1 x0
  refine J_aload_n dX2_test_18 rfl 1 rfl ?_
  refine J_getI dX2_test_19 fl_X2_112 rfl (fun v10 => ?_)
  refine J_bipush (v := 23) dX2_test_22 (by decide) ?_
  refine J_icmp_le (tgt := 35) dX2_test_24 rfl ?_ ?_
  · refine J_sub [0, 1] rfl ?_
    exact j_X2_test_b35 D dA x0 x1 x0
  refine J_sub [0, 1] rfl ?_
  exact j_X2_test_b27 D dA x0 x1 x0
theorem i_X2_test (x0 : Nat) (x1 : Nat) : Impl (ws_ yX2_test cX2_test 2 none) yX2_test 9 false 0 0 [.ref x0, .ref x1] (f_X2_test x0 x1) injU := impl_of (plainFor_of_name (by decide)) (Nat.le_of_ble_eq_true rfl) (fun D dA => j_X2_test D dA x0 x1)
theorem cw_X2_test (Y : JY) (h : 10 ≤ Y.2.2.2.1) : JCw Y (ws_ yX2_test cX2_test 2 none) yX2_test cX2_test 2 none 9 := ⟨h, by decide, lw_meth q1002, q189, by decide, by decide⟩
theorem np_X2_test : JNp yX2_test.desc 1 := by decide +kernel
-- BracketRoom$Reader.step()V
abbrev Y_X2_step : JY := (cX2_step, yX2_step.cls, 4, 10, yX2_step.name, none, [])
noncomputable def X2_step_b390 (x0 : Nat) (x3 : Nat) (s0 : Nat) (s1 : Int32) (s2 : Int32) : JM Mem Unit :=
  jb (jputI 1 11 s0 (s1 + s2)) fun _ =>
  jb (jgetA 1 13 x0) fun v4 =>
  jb (jgetI 1 10 x0) fun v5 =>
  jb (jast_a 11 8 v4 v5 x3) fun _ =>
  jb (jgetI 1 10 x0) fun v6 =>
  jb (jputI 1 10 x0 (v6 + 1)) fun _ =>
  jp ()
theorem j_X2_step_b390 (D : va_G) (dA : Nat → ClassId) (x0 : Nat) (x3 : Nat) (s0 : Nat) (s1 : Int32) (s2 : Int32) : J (PM D dA true) Y_X2_step [(0, .ref x0), (3, .ref x3)] [.int s2, .int s1, .ref s0] 390 (X2_step_b390 x0 x3 s0 s1 s2) (FRet injU) := by
  unfold X2_step_b390
  refine J_iadd dX2_step_390 ?_
  refine J_putI dX2_step_391 ⟨fl_X2_92, Or.inl rfl⟩ rfl ?_
  refine J_aload_n dX2_step_394 rfl 0 rfl ?_
  refine J_getA dX2_step_395 fl_X2_85 rfl (fun v4 => ?_)
  refine J_aload_n dX2_step_398 rfl 0 rfl ?_
  refine J_getI dX2_step_399 fl_X2_89 rfl (fun v5 => ?_)
  refine J_aload_n dX2_step_402 rfl 1 rfl ?_
  refine J_aasta dX2_step_403 (by decide) (by decide) rfl ?_
  refine J_aload_n dX2_step_404 rfl 0 rfl ?_
  refine J_dup dX2_step_405 rfl ?_
  refine J_getI dX2_step_406 fl_X2_89 rfl (fun v6 => ?_)
  refine J_iconst (v := 1) dX2_step_409 (by decide) ?_
  refine J_iadd dX2_step_410 ?_
  refine J_putI dX2_step_411 ⟨fl_X2_89, Or.inl rfl⟩ rfl ?_
  exact J_return dX2_step_414 rfl
noncomputable def X2_step_b374 (x0 : Nat) (x1 : Int32) (x3 : Nat) : JM Mem Unit :=
  jb (jgetI 1 11 x0) fun v3 =>
  if x1 = 15 then
    X2_step_b390 x0 x3 x0 v3 0
  else
    X2_step_b390 x0 x3 x0 v3 1
theorem j_X2_step_b374 (D : va_G) (dA : Nat → ClassId) (x0 : Nat) (x1 : Int32) (x3 : Nat) : J (PM D dA true) Y_X2_step [(0, .ref x0), (1, .int x1), (3, .ref x3)] [] 374 (X2_step_b374 x0 x1 x3) (FRet injU) := by
  unfold X2_step_b374
  refine J_aload_n dX2_step_374 rfl 0 rfl ?_
  refine J_dup dX2_step_375 rfl ?_
  refine J_getI dX2_step_376 fl_X2_92 rfl (fun v3 => ?_)
  refine J_iload_n dX2_step_379 rfl 1 rfl ?_
  refine J_bipush (v := 15) dX2_step_380 (by decide) ?_
  refine J_icmp_ne (tgt := 389) dX2_step_382 rfl ?_ ?_
  · refine J_iconst (v := 1) dX2_step_389 (by decide) ?_
    refine J_sub [0, 2] rfl ?_
    exact j_X2_step_b390 D dA x0 x3 x0 v3 1
  refine J_iconst (v := 0) dX2_step_385 (by decide) ?_
  refine J_goto (tgt := 390) dX2_step_386 rfl ?_
  refine J_sub [0, 2] rfl ?_
  exact j_X2_step_b390 D dA x0 x3 x0 v3 0
noncomputable def X2_step_b343 (x0 : Nat) (x1 : Int32) (x2 : Int32) (x3 : Nat) : JM Mem Unit :=
  jb (jcall 1 x0 (jkeep (f_X1_closes x0))) fun _ =>
  if x2 = 0 then
    X2_step_b374 x0 x1 x3
  else
  jb (jgetA 1 14 x0) fun v7 =>
  jb (jgetI 1 12 x0) fun v8 =>
  jb (jgetI 1 10 x0) fun v9 =>
  jb (jast_i v7 v8 v9) fun _ =>
  jb (jgetI 1 12 x0) fun v10 =>
  jb (jputI 1 12 x0 (v10 + 1)) fun _ =>
  X2_step_b374 x0 x1 x3
theorem j_X2_step_b343 (D : va_G) (dA : Nat → ClassId) (x0 : Nat) (x1 : Int32) (x2 : Int32) (x3 : Nat) : J (PM D dA true) Y_X2_step [(0, .ref x0), (1, .int x1), (2, .int x2), (3, .ref x3)] [] 343 (X2_step_b343 x0 x1 x2 x3) (FRet injU) := by
  unfold X2_step_b343
  refine J_aload_n dX2_step_343 rfl 0 rfl ?_
  refine J_callUV (c := 1) (as := []) (x := ⟨"BracketRoom$Reader", "closes", "()V"⟩) dX2_step_344 (by decide) rfl (Nat.le_of_ble_eq_true rfl) (cw_X1_closes _ (by decide)) q899 q900 ⟨rfl, rfl, rfl⟩ q903 q902 q904 np_X1_closes (i_X1_closes x0) jad_keep rfl ?_
  refine J_iload_n dX2_step_347 rfl 2 rfl ?_
  refine J_if_eq (tgt := 374) dX2_step_348 rfl ?_ ?_
  · refine J_sub [0, 1, 3] rfl ?_
    exact j_X2_step_b374 D dA x0 x1 x3
  refine J_aload_n dX2_step_351 rfl 0 rfl ?_
  refine J_getA dX2_step_352 fl_X2_13 rfl (fun v7 => ?_)
  refine J_aload_n dX2_step_355 rfl 0 rfl ?_
  refine J_getI dX2_step_356 fl_X2_95 rfl (fun v8 => ?_)
  refine J_aload_n dX2_step_359 rfl 0 rfl ?_
  refine J_getI dX2_step_360 fl_X2_89 rfl (fun v9 => ?_)
  refine J_iast dX2_step_363 ?_
  refine J_aload_n dX2_step_364 rfl 0 rfl ?_
  refine J_dup dX2_step_365 rfl ?_
  refine J_getI dX2_step_366 fl_X2_95 rfl (fun v10 => ?_)
  refine J_iconst (v := 1) dX2_step_369 (by decide) ?_
  refine J_iadd dX2_step_370 ?_
  refine J_putI dX2_step_371 ⟨fl_X2_95, Or.inl rfl⟩ rfl ?_
  refine J_sub [0, 1, 3] rfl ?_
  exact j_X2_step_b374 D dA x0 x1 x3
noncomputable def X2_step_b98 (x0 : Nat) (x1 : Int32) (x2 : Int32) : JM Mem Unit :=
  jb (jnew (.inl 8) 8) fun v2 =>
  jb ((jkeep (f_X9_init v2 x1))) fun _ =>
  jb (jcall 1 x0 (jkeep (f_X1_next x0))) fun _ =>
  jsw x1 6 [
    jb (jcall 1 x0 (jkeep (f_X1_passed x0 0 4))) fun v11 =>
    jb (jputI 8 1 v2 v11) fun _ =>
    jb (jcall 1 x0 (jkeep (f_X1_passed x0 0 4))) fun v12 =>
    jb (jputI 8 2 v2 v12) fun _ =>
    X2_step_b343 x0 x1 x2 v2,
    jb (jcall 1 x0 (jkeep (f_X1_passed x0 0 4))) fun v13 =>
    jb (jputI 8 1 v2 v13) fun _ =>
    jb (jcall 1 x0 (jkeep (f_X2_word x0 16))) fun _ =>
    jb (jcall 1 x0 (jkeep (f_X1_passed x0 1 6))) fun v14 =>
    jb (jputI 8 3 v2 v14) fun _ =>
    X2_step_b343 x0 x1 x2 v2,
    jb (jcall 1 x0 (jkeep (f_X1_passed x0 0 6))) fun v15 =>
    jb (jputI 8 3 v2 v15) fun _ =>
    jb (jcall 1 x0 (jkeep (f_X2_word x0 5))) fun _ =>
    jb (jcall 1 x0 (jkeep (f_X1_passed x0 0 4))) fun v16 =>
    jb (jputI 8 1 v2 v16) fun _ =>
    jb (jcall 1 x0 (jkeep (f_X2_word x0 17))) fun _ =>
    jb (jcall 1 x0 (jkeep (f_X1_passed x0 0 4))) fun v17 =>
    jb (jputI 8 2 v2 v17) fun _ =>
    X2_step_b343 x0 x1 x2 v2,
    jb (jcall 1 x0 (jkeep (f_X1_passed x0 0 3))) fun v18 =>
    jb (jputI 8 1 v2 v18) fun _ =>
    X2_step_b343 x0 x1 x2 v2,
    jb (jcall 1 x0 (jkeep (f_X1_passed x0 0 3))) fun v19 =>
    jb (jputI 8 1 v2 v19) fun _ =>
    X2_step_b343 x0 x1 x2 v2,
    jb (jcall 1 x0 (jkeep (f_X1_passed x0 0 3))) fun v20 =>
    jb (jputI 8 1 v2 v20) fun _ =>
    X2_step_b343 x0 x1 x2 v2,
    jb (jcall 1 x0 (jkeep (f_X2_test x0 v2))) fun _ =>
    X2_step_b343 x0 x1 x2 v2,
    jb (jcall 1 x0 (jkeep (f_X1_passed x0 1 99))) fun v21 =>
    jb (jputI 8 3 v2 v21) fun _ =>
    X2_step_b343 x0 x1 x2 v2,
    X2_step_b343 x0 x1 x2 v2,
    jb (jgetI 1 12 x0) fun v22 =>
    jb (jputI 1 12 x0 (v22 - 1)) fun _ =>
    jb (jgetA 1 14 x0) fun v23 =>
    jb (jgetI 1 12 x0) fun v24 =>
    jb (jald mI 0 v23 v24) fun v25 =>
    jb (jputI 8 6 v2 v25) fun _ =>
    jb (jgetA 1 13 x0) fun v26 =>
    jb (jgetI 8 6 v2) fun v27 =>
    jb (jaldA 11 v26 v27) fun v28 =>
    jb (jgetI 1 10 x0) fun v29 =>
    jb (jputI 8 6 v28 v29) fun _ =>
    X2_step_b343 x0 x1 x2 v2] (
    X2_step_b343 x0 x1 x2 v2)
theorem j_X2_step_b98 (D : va_G) (dA : Nat → ClassId) (x0 : Nat) (x1 : Int32) (x2 : Int32) : J (PM D dA true) Y_X2_step [(0, .ref x0), (1, .int x1), (2, .int x2)] [] 98 (X2_step_b98 x0 x1 x2) (FRet injU) := by
  unfold X2_step_b98
  refine J_new (c := 8) dX2_step_98 (by decide) (by decide) q956 q962 q209 (fun v2 => ?_)
  refine J_dup dX2_step_101 rfl ?_
  refine J_iload_n dX2_step_102 rfl 1 rfl ?_
  refine J_callIV (host := "") (as := [.int x1]) dX2_step_103 rfl (Nat.le_of_ble_eq_true rfl) (cw_X9_init _ (by decide)) rfl q963 q964 q965 np_X9_init (i_X9_init v2 x1) jad_keep rfl ?_
  refine J_astore_n (env' := [(3, .ref v2), (0, .ref x0), (1, .int x1), (2, .int x2)]) dX2_step_106 rfl (by decide) rfl ?_
  refine J_aload_n dX2_step_107 rfl 1 rfl ?_
  refine J_callUV (c := 1) (as := []) (x := ⟨"BracketRoom$Reader", "next", "()V"⟩) dX2_step_108 (by decide) rfl (Nat.le_of_ble_eq_true rfl) (cw_X1_next _ (by decide)) q881 q882 ⟨rfl, rfl, rfl⟩ q773 q884 q776 np_X1_next (i_X1_next x0) jad_keep rfl ?_
  refine J_iload_n dX2_step_111 rfl 2 rfl ?_
  refine J_tswA [168, 191, 221, 266, 266, 266, 293, 279, 343, 301] dX2_step_112 (tgt := 343) rfl rfl rfl rfl ?_ ⟨?_, ?_, ?_, ?_, ?_, ?_, ?_, ?_, ?_, ?_, trivial⟩
  · refine J_sub [1, 2, 3, 0] rfl ?_
    exact j_X2_step_b343 D dA x0 x1 x2 v2
  · refine J_aload_n dX2_step_168 rfl 0 rfl ?_
    refine J_aload_n dX2_step_169 rfl 1 rfl ?_
    refine J_iconst (v := 0) dX2_step_170 (by decide) ?_
    refine J_iconst (v := 4) dX2_step_171 (by decide) ?_
    refine J_callUI (c := 1) (as := [.int 0, .int 4]) (x := ⟨"BracketRoom$Reader", "passed", "(II)I"⟩) dX2_step_172 (by decide) rfl (Nat.le_of_ble_eq_true rfl) (cw_X1_passed _ (by decide)) q913 q914 ⟨rfl, rfl, rfl⟩ q917 q916 q918 np_X1_passed (i_X1_passed x0 0 4) jad_keep rfl (fun v11 => ?_)
    refine J_putI dX2_step_175 ⟨fl_X2_115, Or.inl rfl⟩ rfl ?_
    refine J_aload_n dX2_step_178 rfl 0 rfl ?_
    refine J_aload_n dX2_step_179 rfl 1 rfl ?_
    refine J_iconst (v := 0) dX2_step_180 (by decide) ?_
    refine J_iconst (v := 4) dX2_step_181 (by decide) ?_
    refine J_callUI (c := 1) (as := [.int 0, .int 4]) (x := ⟨"BracketRoom$Reader", "passed", "(II)I"⟩) dX2_step_182 (by decide) rfl (Nat.le_of_ble_eq_true rfl) (cw_X1_passed _ (by decide)) q913 q914 ⟨rfl, rfl, rfl⟩ q917 q916 q918 np_X1_passed (i_X1_passed x0 0 4) jad_keep rfl (fun v12 => ?_)
    refine J_putI dX2_step_185 ⟨fl_X2_123, Or.inl rfl⟩ rfl ?_
    refine J_goto (tgt := 343) dX2_step_188 rfl ?_
    refine J_sub [1, 2, 3, 0] rfl ?_
    exact j_X2_step_b343 D dA x0 x1 x2 v2
  · refine J_aload_n dX2_step_191 rfl 0 rfl ?_
    refine J_aload_n dX2_step_192 rfl 1 rfl ?_
    refine J_iconst (v := 0) dX2_step_193 (by decide) ?_
    refine J_iconst (v := 4) dX2_step_194 (by decide) ?_
    refine J_callUI (c := 1) (as := [.int 0, .int 4]) (x := ⟨"BracketRoom$Reader", "passed", "(II)I"⟩) dX2_step_195 (by decide) rfl (Nat.le_of_ble_eq_true rfl) (cw_X1_passed _ (by decide)) q913 q914 ⟨rfl, rfl, rfl⟩ q917 q916 q918 np_X1_passed (i_X1_passed x0 0 4) jad_keep rfl (fun v13 => ?_)
    refine J_putI dX2_step_198 ⟨fl_X2_115, Or.inl rfl⟩ rfl ?_
    refine J_aload_n dX2_step_201 rfl 1 rfl ?_
    refine J_bipush (v := 16) dX2_step_202 (by decide) ?_
    refine J_callVV (c := 1) (as := [.int 16]) dX2_step_204 (by decide) rfl (Nat.le_of_ble_eq_true rfl) (cw_X2_word _ (by decide)) q847 q849 qs6 q850 np_X2_word (i_X2_word x0 16) jad_keep rfl ?_
    refine J_aload_n dX2_step_207 rfl 0 rfl ?_
    refine J_aload_n dX2_step_208 rfl 1 rfl ?_
    refine J_iconst (v := 1) dX2_step_209 (by decide) ?_
    refine J_bipush (v := 6) dX2_step_210 (by decide) ?_
    refine J_callUI (c := 1) (as := [.int 1, .int 6]) (x := ⟨"BracketRoom$Reader", "passed", "(II)I"⟩) dX2_step_212 (by decide) rfl (Nat.le_of_ble_eq_true rfl) (cw_X1_passed _ (by decide)) q913 q914 ⟨rfl, rfl, rfl⟩ q917 q916 q918 np_X1_passed (i_X1_passed x0 1 6) jad_keep rfl (fun v14 => ?_)
    refine J_putI dX2_step_215 ⟨fl_X2_110, Or.inl rfl⟩ rfl ?_
    refine J_goto (tgt := 343) dX2_step_218 rfl ?_
    refine J_sub [1, 2, 3, 0] rfl ?_
    exact j_X2_step_b343 D dA x0 x1 x2 v2
  · refine J_aload_n dX2_step_221 rfl 0 rfl ?_
    refine J_aload_n dX2_step_222 rfl 1 rfl ?_
    refine J_iconst (v := 0) dX2_step_223 (by decide) ?_
    refine J_bipush (v := 6) dX2_step_224 (by decide) ?_
    refine J_callUI (c := 1) (as := [.int 0, .int 6]) (x := ⟨"BracketRoom$Reader", "passed", "(II)I"⟩) dX2_step_226 (by decide) rfl (Nat.le_of_ble_eq_true rfl) (cw_X1_passed _ (by decide)) q913 q914 ⟨rfl, rfl, rfl⟩ q917 q916 q918 np_X1_passed (i_X1_passed x0 0 6) jad_keep rfl (fun v15 => ?_)
    refine J_putI dX2_step_229 ⟨fl_X2_110, Or.inl rfl⟩ rfl ?_
    refine J_aload_n dX2_step_232 rfl 1 rfl ?_
    refine J_iconst (v := 5) dX2_step_233 (by decide) ?_
    refine J_callVV (c := 1) (as := [.int 5]) dX2_step_234 (by decide) rfl (Nat.le_of_ble_eq_true rfl) (cw_X2_word _ (by decide)) q847 q849 qs6 q850 np_X2_word (i_X2_word x0 5) jad_keep rfl ?_
    refine J_aload_n dX2_step_237 rfl 0 rfl ?_
    refine J_aload_n dX2_step_238 rfl 1 rfl ?_
    refine J_iconst (v := 0) dX2_step_239 (by decide) ?_
    refine J_iconst (v := 4) dX2_step_240 (by decide) ?_
    refine J_callUI (c := 1) (as := [.int 0, .int 4]) (x := ⟨"BracketRoom$Reader", "passed", "(II)I"⟩) dX2_step_241 (by decide) rfl (Nat.le_of_ble_eq_true rfl) (cw_X1_passed _ (by decide)) q913 q914 ⟨rfl, rfl, rfl⟩ q917 q916 q918 np_X1_passed (i_X1_passed x0 0 4) jad_keep rfl (fun v16 => ?_)
    refine J_putI dX2_step_244 ⟨fl_X2_115, Or.inl rfl⟩ rfl ?_
    refine J_aload_n dX2_step_247 rfl 1 rfl ?_
    refine J_bipush (v := 17) dX2_step_248 (by decide) ?_
    refine J_callVV (c := 1) (as := [.int 17]) dX2_step_250 (by decide) rfl (Nat.le_of_ble_eq_true rfl) (cw_X2_word _ (by decide)) q847 q849 qs6 q850 np_X2_word (i_X2_word x0 17) jad_keep rfl ?_
    refine J_aload_n dX2_step_253 rfl 0 rfl ?_
    refine J_aload_n dX2_step_254 rfl 1 rfl ?_
    refine J_iconst (v := 0) dX2_step_255 (by decide) ?_
    refine J_iconst (v := 4) dX2_step_256 (by decide) ?_
    refine J_callUI (c := 1) (as := [.int 0, .int 4]) (x := ⟨"BracketRoom$Reader", "passed", "(II)I"⟩) dX2_step_257 (by decide) rfl (Nat.le_of_ble_eq_true rfl) (cw_X1_passed _ (by decide)) q913 q914 ⟨rfl, rfl, rfl⟩ q917 q916 q918 np_X1_passed (i_X1_passed x0 0 4) jad_keep rfl (fun v17 => ?_)
    refine J_putI dX2_step_260 ⟨fl_X2_123, Or.inl rfl⟩ rfl ?_
    refine J_goto (tgt := 343) dX2_step_263 rfl ?_
    refine J_sub [1, 2, 3, 0] rfl ?_
    exact j_X2_step_b343 D dA x0 x1 x2 v2
  · refine J_aload_n dX2_step_266 rfl 0 rfl ?_
    refine J_aload_n dX2_step_267 rfl 1 rfl ?_
    refine J_iconst (v := 0) dX2_step_268 (by decide) ?_
    refine J_iconst (v := 3) dX2_step_269 (by decide) ?_
    refine J_callUI (c := 1) (as := [.int 0, .int 3]) (x := ⟨"BracketRoom$Reader", "passed", "(II)I"⟩) dX2_step_270 (by decide) rfl (Nat.le_of_ble_eq_true rfl) (cw_X1_passed _ (by decide)) q913 q914 ⟨rfl, rfl, rfl⟩ q917 q916 q918 np_X1_passed (i_X1_passed x0 0 3) jad_keep rfl (fun v18 => ?_)
    refine J_putI dX2_step_273 ⟨fl_X2_115, Or.inl rfl⟩ rfl ?_
    refine J_goto (tgt := 343) dX2_step_276 rfl ?_
    refine J_sub [1, 2, 3, 0] rfl ?_
    exact j_X2_step_b343 D dA x0 x1 x2 v2
  · refine J_aload_n dX2_step_266 rfl 0 rfl ?_
    refine J_aload_n dX2_step_267 rfl 1 rfl ?_
    refine J_iconst (v := 0) dX2_step_268 (by decide) ?_
    refine J_iconst (v := 3) dX2_step_269 (by decide) ?_
    refine J_callUI (c := 1) (as := [.int 0, .int 3]) (x := ⟨"BracketRoom$Reader", "passed", "(II)I"⟩) dX2_step_270 (by decide) rfl (Nat.le_of_ble_eq_true rfl) (cw_X1_passed _ (by decide)) q913 q914 ⟨rfl, rfl, rfl⟩ q917 q916 q918 np_X1_passed (i_X1_passed x0 0 3) jad_keep rfl (fun v19 => ?_)
    refine J_putI dX2_step_273 ⟨fl_X2_115, Or.inl rfl⟩ rfl ?_
    refine J_goto (tgt := 343) dX2_step_276 rfl ?_
    refine J_sub [1, 2, 3, 0] rfl ?_
    exact j_X2_step_b343 D dA x0 x1 x2 v2
  · refine J_aload_n dX2_step_266 rfl 0 rfl ?_
    refine J_aload_n dX2_step_267 rfl 1 rfl ?_
    refine J_iconst (v := 0) dX2_step_268 (by decide) ?_
    refine J_iconst (v := 3) dX2_step_269 (by decide) ?_
    refine J_callUI (c := 1) (as := [.int 0, .int 3]) (x := ⟨"BracketRoom$Reader", "passed", "(II)I"⟩) dX2_step_270 (by decide) rfl (Nat.le_of_ble_eq_true rfl) (cw_X1_passed _ (by decide)) q913 q914 ⟨rfl, rfl, rfl⟩ q917 q916 q918 np_X1_passed (i_X1_passed x0 0 3) jad_keep rfl (fun v20 => ?_)
    refine J_putI dX2_step_273 ⟨fl_X2_115, Or.inl rfl⟩ rfl ?_
    refine J_goto (tgt := 343) dX2_step_276 rfl ?_
    refine J_sub [1, 2, 3, 0] rfl ?_
    exact j_X2_step_b343 D dA x0 x1 x2 v2
  · refine J_aload_n dX2_step_293 rfl 1 rfl ?_
    refine J_aload_n dX2_step_294 rfl 0 rfl ?_
    refine J_callVV (c := 1) (as := [.ref v2]) dX2_step_295 (by decide) rfl (Nat.le_of_ble_eq_true rfl) (cw_X2_test _ (by decide)) q999 q1001 qs11 q1002 np_X2_test (i_X2_test x0 v2) jad_keep rfl ?_
    refine J_goto (tgt := 343) dX2_step_298 rfl ?_
    refine J_sub [1, 2, 3, 0] rfl ?_
    exact j_X2_step_b343 D dA x0 x1 x2 v2
  · refine J_aload_n dX2_step_279 rfl 0 rfl ?_
    refine J_aload_n dX2_step_280 rfl 1 rfl ?_
    refine J_iconst (v := 1) dX2_step_281 (by decide) ?_
    refine J_bipush (v := 99) dX2_step_282 (by decide) ?_
    refine J_callUI (c := 1) (as := [.int 1, .int 99]) (x := ⟨"BracketRoom$Reader", "passed", "(II)I"⟩) dX2_step_284 (by decide) rfl (Nat.le_of_ble_eq_true rfl) (cw_X1_passed _ (by decide)) q913 q914 ⟨rfl, rfl, rfl⟩ q917 q916 q918 np_X1_passed (i_X1_passed x0 1 99) jad_keep rfl (fun v21 => ?_)
    refine J_putI dX2_step_287 ⟨fl_X2_110, Or.inl rfl⟩ rfl ?_
    refine J_goto (tgt := 343) dX2_step_290 rfl ?_
    refine J_sub [1, 2, 3, 0] rfl ?_
    exact j_X2_step_b343 D dA x0 x1 x2 v2
  · refine J_sub [1, 2, 3, 0] rfl ?_
    exact j_X2_step_b343 D dA x0 x1 x2 v2
  · refine J_aload_n dX2_step_301 rfl 1 rfl ?_
    refine J_dup dX2_step_302 rfl ?_
    refine J_getI dX2_step_303 fl_X2_95 rfl (fun v22 => ?_)
    refine J_iconst (v := 1) dX2_step_306 (by decide) ?_
    refine J_isub dX2_step_307 ?_
    refine J_putI dX2_step_308 ⟨fl_X2_95, Or.inl rfl⟩ rfl ?_
    refine J_aload_n dX2_step_311 rfl 0 rfl ?_
    refine J_aload_n dX2_step_312 rfl 1 rfl ?_
    refine J_getA dX2_step_313 fl_X2_13 rfl (fun v23 => ?_)
    refine J_aload_n dX2_step_316 rfl 1 rfl ?_
    refine J_getI dX2_step_317 fl_X2_95 rfl (fun v24 => ?_)
    refine J_iald dX2_step_320 (fun v25 => ?_)
    refine J_putI dX2_step_321 ⟨fl_X2_128, Or.inl rfl⟩ rfl ?_
    refine J_aload_n dX2_step_324 rfl 1 rfl ?_
    refine J_getA dX2_step_325 fl_X2_85 rfl (fun v26 => ?_)
    refine J_aload_n dX2_step_328 rfl 0 rfl ?_
    refine J_getI dX2_step_329 fl_X2_128 rfl (fun v27 => ?_)
    refine J_aald dX2_step_332 rfl (by decide) (fun v28 => ?_)
    refine J_aload_n dX2_step_333 rfl 1 rfl ?_
    refine J_getI dX2_step_334 fl_X2_89 rfl (fun v29 => ?_)
    refine J_putI dX2_step_337 ⟨fl_X2_128, Or.inl rfl⟩ rfl ?_
    refine J_goto (tgt := 343) dX2_step_340 rfl ?_
    refine J_sub [1, 2, 3, 0] rfl ?_
    exact j_X2_step_b343 D dA x0 x1 x2 v2
noncomputable def X2_step_b79 (x0 : Nat) (x1 : Int32) (x2 : Int32) : JM Mem Unit :=
  if x2 = 0 then
    X2_step_b98 x0 x1 x2
  else
  jb (jgetI 1 12 x0) fun v30 =>
  if v30 = 3 then
    jb (jcall 1 x0 (jkeep (f_X1_fail x0 7))) fun v31 =>
    jthrow v31
  else
    X2_step_b98 x0 x1 x2
theorem j_X2_step_b79 (D : va_G) (dA : Nat → ClassId) (x0 : Nat) (x1 : Int32) (x2 : Int32) : J (PM D dA true) Y_X2_step [(0, .ref x0), (1, .int x1), (2, .int x2)] [] 79 (X2_step_b79 x0 x1 x2) (FRet injU) := by
  unfold X2_step_b79
  refine J_iload_n dX2_step_79 rfl 2 rfl ?_
  refine J_if_eq (tgt := 98) dX2_step_80 rfl ?_ ?_
  · refine J_sub [0, 1, 2] rfl ?_
    exact j_X2_step_b98 D dA x0 x1 x2
  refine J_aload_n dX2_step_83 rfl 0 rfl ?_
  refine J_getI dX2_step_84 fl_X2_95 rfl (fun v30 => ?_)
  refine J_iconst (v := 3) dX2_step_87 (by decide) ?_
  refine J_icmp_ne (tgt := 98) dX2_step_88 rfl ?_ ?_
  · refine J_sub [0, 1, 2] rfl ?_
    exact j_X2_step_b98 D dA x0 x1 x2
  refine J_aload_n dX2_step_91 rfl 0 rfl ?_
  refine J_bipush (v := 7) dX2_step_92 (by decide) ?_
  refine J_callUA (c := 1) (as := [.int 7]) (x := ⟨"BracketRoom$Reader", "fail", "(I)LBracketRoom$Wrong;"⟩) dX2_step_94 (by decide) rfl (Nat.le_of_ble_eq_true rfl) (cw_X1_fail _ (by decide)) q895 q896 ⟨rfl, rfl, rfl⟩ q873 q898 q876 np_X1_fail (i_X1_fail x0 7) jad_keep rfl (fun v31 => ?_)
  exact J_athrow dX2_step_97 rfl
noncomputable def X2_step_b54 (x0 : Nat) (x1 : Int32) (x2 : Int32) (s0 : Nat) (s1 : Int32) : JM Mem Unit :=
  jb (jcall 1 s0 (jkeep (f_X1_need s0 s1))) fun _ =>
  if x1 = 15 then
    X2_step_b79 x0 x1 x2
  else
  jb (jgetI 1 11 x0) fun v32 =>
  if v32 = 30 then
    jb (jcall 1 x0 (jkeep (f_X1_fail x0 6))) fun v33 =>
    jthrow v33
  else
    X2_step_b79 x0 x1 x2
theorem j_X2_step_b54 (D : va_G) (dA : Nat → ClassId) (x0 : Nat) (x1 : Int32) (x2 : Int32) (s0 : Nat) (s1 : Int32) : J (PM D dA true) Y_X2_step [(0, .ref x0), (1, .int x1), (2, .int x2)] [.int s1, .ref s0] 54 (X2_step_b54 x0 x1 x2 s0 s1) (FRet injU) := by
  unfold X2_step_b54
  refine J_callUV (c := 1) (as := [.int s1]) (x := ⟨"BracketRoom$Reader", "need", "(Z)V"⟩) dX2_step_54 (by decide) rfl (Nat.le_of_ble_eq_true rfl) (cw_X1_need _ (by decide)) q866 q867 ⟨rfl, rfl, rfl⟩ q870 q869 q871 np_X1_need (i_X1_need s0 s1) jad_keep rfl ?_
  refine J_iload_n dX2_step_57 rfl 1 rfl ?_
  refine J_bipush (v := 15) dX2_step_58 (by decide) ?_
  refine J_icmp_eq (tgt := 79) dX2_step_60 rfl ?_ ?_
  · refine J_sub [0, 1, 2] rfl ?_
    exact j_X2_step_b79 D dA x0 x1 x2
  refine J_aload_n dX2_step_63 rfl 0 rfl ?_
  refine J_getI dX2_step_64 fl_X2_92 rfl (fun v32 => ?_)
  refine J_bipush (v := 30) dX2_step_67 (by decide) ?_
  refine J_icmp_ne (tgt := 79) dX2_step_69 rfl ?_ ?_
  · refine J_sub [0, 1, 2] rfl ?_
    exact j_X2_step_b79 D dA x0 x1 x2
  refine J_aload_n dX2_step_72 rfl 0 rfl ?_
  refine J_bipush (v := 6) dX2_step_73 (by decide) ?_
  refine J_callUA (c := 1) (as := [.int 6]) (x := ⟨"BracketRoom$Reader", "fail", "(I)LBracketRoom$Wrong;"⟩) dX2_step_75 (by decide) rfl (Nat.le_of_ble_eq_true rfl) (cw_X1_fail _ (by decide)) q895 q896 ⟨rfl, rfl, rfl⟩ q873 q898 q876 np_X1_fail (i_X1_fail x0 6) jad_keep rfl (fun v33 => ?_)
  exact J_athrow dX2_step_78 rfl
noncomputable def X2_step_b53 (x0 : Nat) (x1 : Int32) (x2 : Int32) (s0 : Nat) : JM Mem Unit :=
  X2_step_b54 x0 x1 x2 s0 0
theorem j_X2_step_b53 (D : va_G) (dA : Nat → ClassId) (x0 : Nat) (x1 : Int32) (x2 : Int32) (s0 : Nat) : J (PM D dA true) Y_X2_step [(0, .ref x0), (1, .int x1), (2, .int x2)] [.ref s0] 53 (X2_step_b53 x0 x1 x2 s0) (FRet injU) := by
  unfold X2_step_b53
  refine J_iconst (v := 0) dX2_step_53 (by decide) ?_
  refine J_sub [0, 1, 2] rfl ?_
  exact j_X2_step_b54 D dA x0 x1 x2 s0 0
noncomputable def X2_step_b49 (x0 : Nat) (x1 : Int32) (x2 : Int32) (s0 : Nat) : JM Mem Unit :=
  X2_step_b54 x0 x1 x2 s0 1
theorem j_X2_step_b49 (D : va_G) (dA : Nat → ClassId) (x0 : Nat) (x1 : Int32) (x2 : Int32) (s0 : Nat) : J (PM D dA true) Y_X2_step [(0, .ref x0), (1, .int x1), (2, .int x2)] [.ref s0] 49 (X2_step_b49 x0 x1 x2 s0) (FRet injU) := by
  unfold X2_step_b49
  refine J_iconst (v := 1) dX2_step_49 (by decide) ?_
  refine J_goto (tgt := 54) dX2_step_50 rfl ?_
  refine J_sub [0, 1, 2] rfl ?_
  exact j_X2_step_b54 D dA x0 x1 x2 s0 1
noncomputable def X2_step_b36 (x0 : Nat) (x1 : Int32) (x2 : Int32) (s0 : Nat) : JM Mem Unit :=
  if x1 = 15 then
    jb (jgetI 1 12 x0) fun v34 =>
    if v34 ≤ 0 then
      X2_step_b53 x0 x1 x2 s0
    else
      X2_step_b49 x0 x1 x2 s0
  else
    X2_step_b53 x0 x1 x2 s0
theorem j_X2_step_b36 (D : va_G) (dA : Nat → ClassId) (x0 : Nat) (x1 : Int32) (x2 : Int32) (s0 : Nat) : J (PM D dA true) Y_X2_step [(0, .ref x0), (1, .int x1), (2, .int x2)] [.ref s0] 36 (X2_step_b36 x0 x1 x2 s0) (FRet injU) := by
  unfold X2_step_b36
  refine J_iload_n dX2_step_36 rfl 1 rfl ?_
  refine J_bipush (v := 15) dX2_step_37 (by decide) ?_
  refine J_icmp_ne (tgt := 53) dX2_step_39 rfl ?_ ?_
  · refine J_sub [0, 1, 2] rfl ?_
    exact j_X2_step_b53 D dA x0 x1 x2 s0
  refine J_aload_n dX2_step_42 rfl 0 rfl ?_
  refine J_getI dX2_step_43 fl_X2_95 rfl (fun v34 => ?_)
  refine J_if_le (tgt := 53) dX2_step_46 rfl ?_ ?_
  · refine J_sub [0, 1, 2] rfl ?_
    exact j_X2_step_b53 D dA x0 x1 x2 s0
  refine J_sub [0, 1, 2] rfl ?_
  exact j_X2_step_b49 D dA x0 x1 x2 s0
noncomputable def X2_step_b22 (x0 : Nat) (x1 : Int32) (s0 : Int32) : JM Mem Unit :=
  if x1 < 6 then
    X2_step_b36 x0 x1 s0 x0
  else
  if x1 ≤ 14 then
    X2_step_b49 x0 x1 s0 x0
  else
    X2_step_b36 x0 x1 s0 x0
theorem j_X2_step_b22 (D : va_G) (dA : Nat → ClassId) (x0 : Nat) (x1 : Int32) (s0 : Int32) : J (PM D dA true) Y_X2_step [(0, .ref x0), (1, .int x1)] [.int s0] 22 (X2_step_b22 x0 x1 s0) (FRet injU) := by
  unfold X2_step_b22
  refine J_istore_n (env' := [(2, .int s0), (0, .ref x0), (1, .int x1)]) dX2_step_22 rfl (by decide) rfl ?_
  refine J_aload_n dX2_step_23 rfl 1 rfl ?_
  refine J_iload_n dX2_step_24 rfl 2 rfl ?_
  refine J_bipush (v := 6) dX2_step_25 (by decide) ?_
  refine J_icmp_lt (tgt := 36) dX2_step_27 rfl ?_ ?_
  · refine J_sub [1, 2, 0] rfl ?_
    exact j_X2_step_b36 D dA x0 x1 s0 x0
  refine J_iload_n dX2_step_30 rfl 2 rfl ?_
  refine J_bipush (v := 14) dX2_step_31 (by decide) ?_
  refine J_icmp_le (tgt := 49) dX2_step_33 rfl ?_ ?_
  · refine J_sub [1, 2, 0] rfl ?_
    exact j_X2_step_b49 D dA x0 x1 s0 x0
  refine J_sub [1, 2, 0] rfl ?_
  exact j_X2_step_b36 D dA x0 x1 s0 x0
noncomputable def X2_step_b17 (x0 : Nat) (x1 : Int32) : JM Mem Unit :=
  X2_step_b22 x0 x1 1
theorem j_X2_step_b17 (D : va_G) (dA : Nat → ClassId) (x0 : Nat) (x1 : Int32) : J (PM D dA true) Y_X2_step [(0, .ref x0), (1, .int x1)] [] 17 (X2_step_b17 x0 x1) (FRet injU) := by
  unfold X2_step_b17
  refine J_iconst (v := 1) dX2_step_17 (by decide) ?_
  refine J_goto (tgt := 22) dX2_step_18 rfl ?_
  refine J_sub [0, 1] rfl ?_
  exact j_X2_step_b22 D dA x0 x1 1
noncomputable def f_X2_step (x0 : Nat) : JM Mem Unit :=
  jb (jcall 1 x0 (jkeep (f_X1_key x0))) fun v1 =>
  if v1 = 12 then
    X2_step_b17 x0 v1
  else
  if v1 = 13 then
    X2_step_b17 x0 v1
  else
    X2_step_b22 x0 v1 0
set_option maxHeartbeats 8000000 in
theorem j_X2_step (D : va_G) (dA : Nat → ClassId) (x0 : Nat) : J (PM D dA true) Y_X2_step [(0, .ref x0)] [] 0 (f_X2_step x0) (FRet injU) := by
  unfold f_X2_step
  refine J_aload_n dX2_step_0 rfl 0 rfl ?_
  refine J_callUI (c := 1) (as := []) (x := ⟨"BracketRoom$Reader", "key", "()I"⟩) dX2_step_1 (by decide) rfl (Nat.le_of_ble_eq_true rfl) (cw_X1_key _ (by decide)) q851 q852 ⟨rfl, rfl, rfl⟩ q855 q854 q856 np_X1_key (i_X1_key x0) jad_keep rfl (fun v1 => ?_)
  refine J_istore_n (env' := [(1, .int v1), (0, .ref x0)]) dX2_step_4 rfl (by decide) rfl ?_
  refine J_iload_n dX2_step_5 rfl 0 rfl ?_
  refine J_bipush (v := 12) dX2_step_6 (by decide) ?_
  refine J_icmp_eq (tgt := 17) dX2_step_8 rfl ?_ ?_
  · refine J_sub [1, 0] rfl ?_
    exact j_X2_step_b17 D dA x0 v1
  refine J_iload_n dX2_step_11 rfl 0 rfl ?_
  refine J_bipush (v := 13) dX2_step_12 (by decide) ?_
  refine J_icmp_ne (tgt := 21) dX2_step_14 rfl ?_ ?_
  · refine J_iconst (v := 0) dX2_step_21 (by decide) ?_
    refine J_sub [1, 0] rfl ?_
    exact j_X2_step_b22 D dA x0 v1 0
  refine J_sub [1, 0] rfl ?_
  exact j_X2_step_b17 D dA x0 v1
theorem i_X2_step (x0 : Nat) : Impl (ws_ yX2_step cX2_step 4 none) yX2_step 10 true 1 8 [.ref x0] (f_X2_step x0) injU := impl_of (plainFor_of_name (by decide)) (Nat.le_of_ble_eq_true rfl) (fun D dA => j_X2_step D dA x0)
theorem cw_X2_step (Y : JY) (h : 11 ≤ Y.2.2.2.1) : JCw Y (ws_ yX2_step cX2_step 4 none) yX2_step cX2_step 4 none 10 := ⟨h, by decide, lw_meth q961, q189, by decide, by decide⟩
theorem np_X2_step : JNp yX2_step.desc 0 := by decide +kernel
-- BracketRoom$Reader.script(I)[LBracketRoom$Step;
abbrev Y_X2_script : JY := (cX2_script, yX2_script.cls, 2, 11, yX2_script.name, (some (.array (.object "BracketRoom$Step"))), [])
noncomputable def X2_script_b56 (x0 : Nat) (s0 : Nat) (s1 : Int32) : JM Mem Nat :=
  jb (jcall 1 s0 (jkeep (f_X1_need s0 s1))) fun _ =>
  jb (jgetA 1 13 x0) fun v4 =>
  jp v4
theorem j_X2_script_b56 (D : va_G) (dA : Nat → ClassId) (x0 : Nat) (s0 : Nat) (s1 : Int32) : J (PM D dA true) Y_X2_script [(0, .ref x0)] [.int s1, .ref s0] 56 (X2_script_b56 x0 s0 s1) (FRet injA) := by
  unfold X2_script_b56
  refine J_callUV (c := 1) (as := [.int s1]) (x := ⟨"BracketRoom$Reader", "need", "(Z)V"⟩) dX2_script_56 (by decide) rfl (Nat.le_of_ble_eq_true rfl) (cw_X1_need _ (by decide)) q866 q867 ⟨rfl, rfl, rfl⟩ q870 q869 q871 np_X1_need (i_X1_need s0 s1) jad_keep rfl ?_
  refine J_aload_n dX2_script_59 rfl 0 rfl ?_
  refine J_getA dX2_script_60 fl_X2_85 rfl (fun v4 => ?_)
  exact J_areturn dX2_script_63 rfl (Or.inr ⟨_, rfl⟩)
noncomputable def X2_script_b43 (x0 : Nat) : JM Mem Nat :=
  jb (jgetI 1 12 x0) fun v3 =>
  if v3 = 0 then
    X2_script_b56 x0 x0 1
  else
    X2_script_b56 x0 x0 0
theorem j_X2_script_b43 (D : va_G) (dA : Nat → ClassId) (x0 : Nat) : J (PM D dA true) Y_X2_script [(0, .ref x0)] [] 43 (X2_script_b43 x0) (FRet injA) := by
  unfold X2_script_b43
  refine J_aload_n dX2_script_43 rfl 0 rfl ?_
  refine J_aload_n dX2_script_44 rfl 0 rfl ?_
  refine J_getI dX2_script_45 fl_X2_95 rfl (fun v3 => ?_)
  refine J_if_ne (tgt := 55) dX2_script_48 rfl ?_ ?_
  · refine J_iconst (v := 0) dX2_script_55 (by decide) ?_
    refine J_sub [0] rfl ?_
    exact j_X2_script_b56 D dA x0 x0 0
  refine J_iconst (v := 1) dX2_script_51 (by decide) ?_
  refine J_goto (tgt := 56) dX2_script_52 rfl ?_
  refine J_sub [0] rfl ?_
  exact j_X2_script_b56 D dA x0 x0 1
noncomputable def X2_script_L29 (x0 : Nat) : JM Mem (Nat ⊕ (Unit)) :=
  jb (jgetI 1 2 x0) fun v2 =>
  if v2 = 0 then
    jinl (X2_script_b43 x0)
  else
  jb (jcall 1 x0 (jpay 1 8 (f_X2_step x0))) fun _ =>
  jcont ()
theorem j_X2_script_L29 (D : va_G) (dA : Nat → ClassId) (x0 : Nat) : J (PM D dA true) Y_X2_script [(0, .ref x0)] [] 29 (X2_script_L29 x0) (FLoop (FRet injA) 29 (fun (t : Unit) => [(0, .ref x0)])) := by
  unfold X2_script_L29
  refine J_aload_n dX2_script_29 rfl 0 rfl ?_
  refine J_getI dX2_script_30 fl_X2_72 rfl (fun v2 => ?_)
  refine J_if_eq (tgt := 43) dX2_script_33 rfl ?_ ?_
  · refine J_inl ?_
    refine J_sub [0] rfl ?_
    exact j_X2_script_b43 D dA x0
  refine J_aload_n dX2_script_36 rfl 0 rfl ?_
  refine J_callVV (c := 1) (as := []) dX2_script_37 (by decide) rfl (Nat.le_of_ble_eq_true rfl) (cw_X2_step _ (by decide)) q958 q960 qs10 q961 np_X2_step (i_X2_step x0) jad_pay rfl ?_
  refine J_goto (tgt := 29) dX2_script_40 rfl ?_
  exact J_cont [0] rfl
noncomputable def f_X2_script (x0 : Nat) (x1 : Int32) : JM Mem Nat :=
  jb (jnew (.inr (11, 60)) 60) fun v1 =>
  jb (jputO 1 13 x0 (some v1)) fun _ =>
  jb (jputI 1 10 x0 0) fun _ =>
  jb (jputI 1 11 x0 0) fun _ =>
  jb (jputI 1 12 x0 0) fun _ =>
  jb (jcall 1 x0 (jkeep (f_X1_begin x0 x1))) fun _ =>
  jloop (fun (t : Unit) => X2_script_L29 x0) ()
theorem j_X2_script (D : va_G) (dA : Nat → ClassId) (x0 : Nat) (x1 : Int32) : J (PM D dA true) Y_X2_script [(0, .ref x0), (1, .int x1)] [] 0 (f_X2_script x0 x1) (FRet injA) := by
  unfold f_X2_script
  refine J_aload_n dX2_script_0 rfl 0 rfl ?_
  refine J_bipush (v := 60) dX2_script_1 (by decide) ?_
  refine J_anewarray (t := 11) (N := 60) dX2_script_3 (by decide) rfl q956 q957 (by decide) (by decide) (by decide) (fun v1 => ?_)
  refine J_putO (x := (some v1)) dX2_script_6 ⟨fl_X2_85, Or.inl rfl⟩ rfl ?_
  refine J_aload_n dX2_script_9 rfl 0 rfl ?_
  refine J_iconst (v := 0) dX2_script_10 (by decide) ?_
  refine J_putI dX2_script_11 ⟨fl_X2_89, Or.inl rfl⟩ rfl ?_
  refine J_aload_n dX2_script_14 rfl 0 rfl ?_
  refine J_iconst (v := 0) dX2_script_15 (by decide) ?_
  refine J_putI dX2_script_16 ⟨fl_X2_92, Or.inl rfl⟩ rfl ?_
  refine J_aload_n dX2_script_19 rfl 0 rfl ?_
  refine J_iconst (v := 0) dX2_script_20 (by decide) ?_
  refine J_putI dX2_script_21 ⟨fl_X2_95, Or.inl rfl⟩ rfl ?_
  refine J_aload_n dX2_script_24 rfl 0 rfl ?_
  refine J_iload_n dX2_script_25 rfl 1 rfl ?_
  refine J_callUV (c := 1) (as := [.int x1]) (x := ⟨"BracketRoom$Reader", "begin", "(I)V"⟩) dX2_script_26 (by decide) rfl (Nat.le_of_ble_eq_true rfl) (cw_X1_begin _ (by decide)) q766 q767 ⟨rfl, rfl, rfl⟩ q770 q769 q771 np_X1_begin (i_X1_begin x0 x1) jad_keep rfl ?_
  refine J_loop (he := fun (t : Unit) => [(0, .ref x0)]) [0] rfl (fun t => ?_)
  exact j_X2_script_L29 D dA x0
theorem i_X2_script (x0 : Nat) (x1 : Int32) : Impl (ws_ yX2_script cX2_script 2 (some (.array (.object "BracketRoom$Step")))) yX2_script 11 true 62 600 [.ref x0, .int x1] (f_X2_script x0 x1) injA := impl_of (plainFor_of_name (by decide)) (Nat.le_of_ble_eq_true rfl) (fun D dA => j_X2_script D dA x0 x1)
theorem cw_X2_script (Y : JY) (h : 12 ≤ Y.2.2.2.1) : JCw Y (ws_ yX2_script cX2_script 2 (some (.array (.object "BracketRoom$Step")))) yX2_script cX2_script 2 (some (.array (.object "BracketRoom$Step"))) 11 := ⟨h, by decide, lw_meth q955, q189, by decide, by decide⟩
theorem np_X2_script : JNp yX2_script.desc 1 := by decide +kernel
-- BracketRoom$World.vectors()I
abbrev Y_X4_vectors : JY := (cX4_vectors, yX4_vectors.cls, 3, 1, yX4_vectors.name, (some .int), [])
noncomputable def X4_vectors_L4 (x0 : Nat) (x1 : Int32) (x2 : Int32) : JM Mem (Int32 ⊕ (Int32 × Int32)) :=
  jb (jgetI 3 2 x0) fun v1 =>
  if v1 ≤ x2 then
    jinl (jp x1)
  else
  jb (jgetI 3 1 x0) fun v2 =>
  jlet (x1 * v2) fun y3 =>
  jcont (y3, x2 + 1)
theorem j_X4_vectors_L4 (D : va_G) (dA : Nat → ClassId) (x0 : Nat) (x1 : Int32) (x2 : Int32) : J (PM D dA false) Y_X4_vectors [(0, .ref x0), (1, .int x1), (2, .int x2)] [] 4 (X4_vectors_L4 x0 x1 x2) (FLoop (FRet injI) 4 (fun (t : Int32 × Int32) => [(0, .ref x0), (1, .int t.1), (2, .int t.2)])) := by
  unfold X4_vectors_L4
  refine J_iload_n dX4_vectors_4 rfl 2 rfl ?_
  refine J_aload_n dX4_vectors_5 rfl 0 rfl ?_
  refine J_getI dX4_vectors_6 fl_X4_20 rfl (fun v1 => ?_)
  refine J_icmp_ge (tgt := 25) dX4_vectors_9 rfl ?_ ?_
  · refine J_inl ?_
    refine J_iload_n dX4_vectors_25 rfl 1 rfl ?_
    exact J_ireturn dX4_vectors_26 rfl
  refine J_iload_n dX4_vectors_12 rfl 1 rfl ?_
  refine J_aload_n dX4_vectors_13 rfl 0 rfl ?_
  refine J_getI dX4_vectors_14 fl_X4_16 rfl (fun v2 => ?_)
  refine J_imul dX4_vectors_17 ?_
  refine J_letI (fun y3 => ?_)
  refine J_istore_n (env' := [(1, .int y3), (0, .ref x0), (2, .int x2)]) dX4_vectors_18 rfl (by decide) rfl ?_
  refine J_iinc (v := x2 + 1) (env' := [(2, .int (x2 + 1)), (1, .int y3), (0, .ref x0)]) dX4_vectors_19 2 rfl rfl (by decide) rfl ?_
  refine J_goto (tgt := 4) dX4_vectors_22 rfl ?_
  exact J_cont [2, 1, 0] rfl
noncomputable def f_X4_vectors (x0 : Nat) : JM Mem Int32 :=
  jloop (fun (t : Int32 × Int32) => X4_vectors_L4 x0 t.1 t.2) (1, 0)
theorem j_X4_vectors (D : va_G) (dA : Nat → ClassId) (x0 : Nat) : J (PM D dA false) Y_X4_vectors [(0, .ref x0)] [] 0 (f_X4_vectors x0) (FRet injI) := by
  unfold f_X4_vectors
  refine J_iconst (v := 1) dX4_vectors_0 (by decide) ?_
  refine J_istore_n (env' := [(1, .int 1), (0, .ref x0)]) dX4_vectors_1 rfl (by decide) rfl ?_
  refine J_iconst (v := 0) dX4_vectors_2 (by decide) ?_
  refine J_istore_n (env' := [(2, .int 0), (1, .int 1), (0, .ref x0)]) dX4_vectors_3 rfl (by decide) rfl ?_
  refine J_loop (he := fun (t : Int32 × Int32) => [(0, .ref x0), (1, .int t.1), (2, .int t.2)]) [2, 1, 0] rfl (fun t => ?_)
  exact j_X4_vectors_L4 D dA x0 t.1 t.2
theorem i_X4_vectors (x0 : Nat) : Impl (ws_ yX4_vectors cX4_vectors 3 (some .int)) yX4_vectors 1 false 0 0 [.ref x0] (f_X4_vectors x0) injI := impl_of (plainFor_of_name (by decide)) (Nat.le_of_ble_eq_true rfl) (fun D dA => j_X4_vectors D dA x0)
theorem cw_X4_vectors (Y : JY) (h : 2 ≤ Y.2.2.2.1) : JCw Y (ws_ yX4_vectors cX4_vectors 3 (some .int)) yX4_vectors cX4_vectors 3 (some .int) 1 := ⟨h, by decide, lw_meth q1043, q194, by decide, by decide⟩
theorem np_X4_vectors : JNp yX4_vectors.desc 0 := by decide +kernel
-- BracketRoom$World.parts(I[I)V
abbrev Y_X4_parts : JY := (cX4_parts, yX4_parts.cls, 5, 1, yX4_parts.name, none, [])
noncomputable def X4_parts_b33 (x0 : Nat) (x2 : Nat) (x3 : Int32) (x4 : Int32) (s0 : Nat) (s1 : Int32) (s2 : Int32) : JM Mem (Unit ⊕ (Int32 × Int32)) :=
  jb (jast_i s0 s1 s2) fun _ =>
  jb (jgetI 3 1 x0) fun v2 =>
  jb (jdiv x3 v2) fun v3 =>
  jcont (v3, x4 + 1)
theorem j_X4_parts_b33 (D : va_G) (dA : Nat → ClassId) (x0 : Nat) (x2 : Nat) (x3 : Int32) (x4 : Int32) (s0 : Nat) (s1 : Int32) (s2 : Int32) : J (PM D dA false) Y_X4_parts [(0, .ref x0), (2, .ref x2), (3, .int x3), (4, .int x4)] [.int s2, .int s1, .ref s0] 33 (X4_parts_b33 x0 x2 x3 x4 s0 s1 s2) (FLoop (FRet injU) 5 (fun (t : Int32 × Int32) => [(0, .ref x0), (2, .ref x2), (3, .int t.1), (4, .int t.2)])) := by
  unfold X4_parts_b33
  refine J_iast dX4_parts_33 ?_
  refine J_iload_n dX4_parts_34 rfl 2 rfl ?_
  refine J_aload_n dX4_parts_35 rfl 0 rfl ?_
  refine J_getI dX4_parts_36 fl_X4_16 rfl (fun v2 => ?_)
  refine J_idiv dX4_parts_39 (fun v3 => ?_)
  refine J_istore_n (env' := [(3, .int v3), (0, .ref x0), (2, .ref x2), (4, .int x4)]) dX4_parts_40 rfl (by decide) rfl ?_
  refine J_iinc (v := x4 + 1) (env' := [(4, .int (x4 + 1)), (3, .int v3), (0, .ref x0), (2, .ref x2)]) dX4_parts_41 3 rfl rfl (by decide) rfl ?_
  refine J_goto (tgt := 5) dX4_parts_44 rfl ?_
  exact J_cont [2, 3, 1, 0] rfl
noncomputable def X4_parts_L5 (x0 : Nat) (x2 : Nat) (x3 : Int32) (x4 : Int32) : JM Mem (Unit ⊕ (Int32 × Int32)) :=
  if 5 ≤ x4 then
    jinl (jp ())
  else
  jb (jgetI 3 2 x0) fun v1 =>
  if v1 ≤ x4 then
    X4_parts_b33 x0 x2 x3 x4 x2 x4 0
  else
  jb (jgetI 3 1 x0) fun v4 =>
  jb (jrem x3 v4) fun v5 =>
  X4_parts_b33 x0 x2 x3 x4 x2 x4 v5
theorem j_X4_parts_L5 (D : va_G) (dA : Nat → ClassId) (x0 : Nat) (x2 : Nat) (x3 : Int32) (x4 : Int32) : J (PM D dA false) Y_X4_parts [(0, .ref x0), (2, .ref x2), (3, .int x3), (4, .int x4)] [] 5 (X4_parts_L5 x0 x2 x3 x4) (FLoop (FRet injU) 5 (fun (t : Int32 × Int32) => [(0, .ref x0), (2, .ref x2), (3, .int t.1), (4, .int t.2)])) := by
  unfold X4_parts_L5
  refine J_iload dX4_parts_5 3 rfl ?_
  refine J_iconst (v := 5) dX4_parts_7 (by decide) ?_
  refine J_icmp_ge (tgt := 47) dX4_parts_8 rfl ?_ ?_
  · refine J_inl ?_
    exact J_return dX4_parts_47 rfl
  refine J_aload_n dX4_parts_11 rfl 1 rfl ?_
  refine J_iload dX4_parts_12 3 rfl ?_
  refine J_iload dX4_parts_14 3 rfl ?_
  refine J_aload_n dX4_parts_16 rfl 0 rfl ?_
  refine J_getI dX4_parts_17 fl_X4_20 rfl (fun v1 => ?_)
  refine J_icmp_ge (tgt := 32) dX4_parts_20 rfl ?_ ?_
  · refine J_iconst (v := 0) dX4_parts_32 (by decide) ?_
    refine J_sub [0, 1, 2, 3] rfl ?_
    exact j_X4_parts_b33 D dA x0 x2 x3 x4 x2 x4 0
  refine J_iload_n dX4_parts_23 rfl 2 rfl ?_
  refine J_aload_n dX4_parts_24 rfl 0 rfl ?_
  refine J_getI dX4_parts_25 fl_X4_16 rfl (fun v4 => ?_)
  refine J_irem dX4_parts_28 (fun v5 => ?_)
  refine J_goto (tgt := 33) dX4_parts_29 rfl ?_
  refine J_sub [0, 1, 2, 3] rfl ?_
  exact j_X4_parts_b33 D dA x0 x2 x3 x4 x2 x4 v5
noncomputable def f_X4_parts (x0 : Nat) (x1 : Int32) (x2 : Nat) : JM Mem Unit :=
  jloop (fun (t : Int32 × Int32) => X4_parts_L5 x0 x2 t.1 t.2) (x1, 0)
theorem j_X4_parts (D : va_G) (dA : Nat → ClassId) (x0 : Nat) (x1 : Int32) (x2 : Nat) : J (PM D dA false) Y_X4_parts [(0, .ref x0), (1, .int x1), (2, .ref x2)] [] 0 (f_X4_parts x0 x1 x2) (FRet injU) := by
  unfold f_X4_parts
  refine J_iload_n dX4_parts_0 rfl 1 rfl ?_
  refine J_istore_n (env' := [(3, .int x1), (0, .ref x0), (1, .int x1), (2, .ref x2)]) dX4_parts_1 rfl (by decide) rfl ?_
  refine J_iconst (v := 0) dX4_parts_2 (by decide) ?_
  refine J_istore (env' := [(4, .int 0), (3, .int x1), (0, .ref x0), (1, .int x1), (2, .ref x2)]) dX4_parts_3 (by decide) rfl ?_
  refine J_loop (he := fun (t : Int32 × Int32) => [(0, .ref x0), (2, .ref x2), (3, .int t.1), (4, .int t.2)]) [2, 4, 1, 0] rfl (fun t => ?_)
  exact j_X4_parts_L5 D dA x0 x2 t.1 t.2
theorem i_X4_parts (x0 : Nat) (x1 : Int32) (x2 : Nat) : Impl (ws_ yX4_parts cX4_parts 5 none) yX4_parts 1 false 0 0 [.ref x0, .int x1, .ref x2] (f_X4_parts x0 x1 x2) injU := impl_of (plainFor_of_name (by decide)) (Nat.le_of_ble_eq_true rfl) (fun D dA => j_X4_parts D dA x0 x1 x2)
theorem cw_X4_parts (Y : JY) (h : 2 ≤ Y.2.2.2.1) : JCw Y (ws_ yX4_parts cX4_parts 5 none) yX4_parts cX4_parts 5 none 1 := ⟨h, by decide, lw_meth q1047, q194, by decide, by decide⟩
theorem np_X4_parts : JNp yX4_parts.desc 2 := by decide +kernel
-- BracketRoom$World.bracket([I[I[I)V
abbrev Y_X4_bracket : JY := (cX4_bracket, yX4_bracket.cls, 8, 3, yX4_bracket.name, none, [])
noncomputable def X4_bracket_b83 (x0 : Nat) (x1 : Nat) (x2 : Nat) (x3 : Nat) (x4 : Int32) (x5 : Int32) : JM Mem (Unit ⊕ (Int32)) :=
  jb (jcall 3 x0 (f_X4_by x0 x5)) fun v2 =>
  jb (jast_i x3 x4 v2) fun _ =>
  jcont (x4 + 1)
theorem j_X4_bracket_b83 (D : va_G) (dA : Nat → ClassId) (x0 : Nat) (x1 : Nat) (x2 : Nat) (x3 : Nat) (x4 : Int32) (x5 : Int32) : J (PM D dA false) Y_X4_bracket [(0, .ref x0), (1, .ref x1), (2, .ref x2), (3, .ref x3), (4, .int x4), (5, .int x5)] [] 83 (X4_bracket_b83 x0 x1 x2 x3 x4 x5) (FLoop (FRet injU) 3 (fun (t : Int32) => [(0, .ref x0), (1, .ref x1), (2, .ref x2), (3, .ref x3), (4, .int t)])) := by
  unfold X4_bracket_b83
  refine J_aload_n dX4_bracket_83 rfl 3 rfl ?_
  refine J_iload dX4_bracket_84 4 rfl ?_
  refine J_aload_n dX4_bracket_86 rfl 0 rfl ?_
  refine J_iload dX4_bracket_87 5 rfl ?_
  refine J_callVI (c := 3) (as := [.int x5]) dX4_bracket_89 (by decide) rfl (Nat.le_of_ble_eq_true rfl) (cw_X4_by _ (by decide)) q928 q929 q930 q931 np_X4_by (i_X4_by x0 x5) jad_id rfl (fun v2 => ?_)
  refine J_iast dX4_bracket_92 ?_
  refine J_iinc (v := x4 + 1) (env' := [(4, .int (x4 + 1)), (0, .ref x0), (1, .ref x1), (2, .ref x2), (3, .ref x3), (5, .int x5)]) dX4_bracket_93 4 rfl rfl (by decide) rfl ?_
  refine J_goto (tgt := 3) dX4_bracket_96 rfl ?_
  exact J_cont [1, 2, 3, 4, 0] rfl
noncomputable def X4_bracket_b77 (x0 : Nat) (x1 : Nat) (x2 : Nat) (x3 : Nat) (x4 : Int32) (x5 : Int32) (x6 : Int32) : JM Mem ((Unit ⊕ (Int32)) ⊕ (Int32 × Int32)) :=
  jcont (x5, x6 + 1)
theorem j_X4_bracket_b77 (D : va_G) (dA : Nat → ClassId) (x0 : Nat) (x1 : Nat) (x2 : Nat) (x3 : Nat) (x4 : Int32) (x5 : Int32) (x6 : Int32) : J (PM D dA false) Y_X4_bracket [(0, .ref x0), (1, .ref x1), (2, .ref x2), (3, .ref x3), (4, .int x4), (5, .int x5), (6, .int x6)] [] 77 (X4_bracket_b77 x0 x1 x2 x3 x4 x5 x6) (FLoop (FLoop (FRet injU) 3 (fun (t : Int32) => [(0, .ref x0), (1, .ref x1), (2, .ref x2), (3, .ref x3), (4, .int t)])) 15 (fun (t : Int32 × Int32) => [(0, .ref x0), (1, .ref x1), (2, .ref x2), (3, .ref x3), (4, .int x4), (5, .int t.1), (6, .int t.2)])) := by
  unfold X4_bracket_b77
  refine J_iinc (v := x6 + 1) (env' := [(6, .int (x6 + 1)), (0, .ref x0), (1, .ref x1), (2, .ref x2), (3, .ref x3), (4, .int x4), (5, .int x5)]) dX4_bracket_77 6 rfl rfl (by decide) rfl ?_
  refine J_goto (tgt := 15) dX4_bracket_80 rfl ?_
  exact J_cont [1, 2, 3, 4, 5, 6, 0] rfl
noncomputable def X4_bracket_L27 (x0 : Nat) (x1 : Nat) (x2 : Nat) (x3 : Nat) (x4 : Int32) (x6 : Int32) (x5 : Int32) (x7 : Int32) : JM Mem (((Unit ⊕ (Int32)) ⊕ (Int32 × Int32)) ⊕ (Int32 × Int32)) :=
  jb (jgetI 3 2 x0) fun v3 =>
  if v3 ≤ x7 then
    jinl (X4_bracket_b77 x0 x1 x2 x3 x4 x5 x6)
  else
  jb (jald mI 0 x1 x6) fun v4 =>
  if v4 = 0 then
    jinl (X4_bracket_b77 x0 x1 x2 x3 x4 x5 x6)
  else
  jb (jald mI 0 x1 x6) fun v5 =>
  jb (jald mI 0 x2 x7) fun v6 =>
  jb (jgetA 3 0 x0) fun v7 =>
  jb (jaldA 6 v7 x6) fun v8 =>
  jb (jaldA 5 v8 x7) fun v9 =>
  jb (jald mI 0 v9 x4) fun v10 =>
  jlet (x5 + ((v5 * v6) * v10)) fun y11 =>
  jcont (y11, x7 + 1)
theorem j_X4_bracket_L27 (D : va_G) (dA : Nat → ClassId) (x0 : Nat) (x1 : Nat) (x2 : Nat) (x3 : Nat) (x4 : Int32) (x6 : Int32) (x5 : Int32) (x7 : Int32) : J (PM D dA false) Y_X4_bracket [(0, .ref x0), (1, .ref x1), (2, .ref x2), (3, .ref x3), (4, .int x4), (5, .int x5), (6, .int x6), (7, .int x7)] [] 27 (X4_bracket_L27 x0 x1 x2 x3 x4 x6 x5 x7) (FLoop (FLoop (FLoop (FRet injU) 3 (fun (t : Int32) => [(0, .ref x0), (1, .ref x1), (2, .ref x2), (3, .ref x3), (4, .int t)])) 15 (fun (t : Int32 × Int32) => [(0, .ref x0), (1, .ref x1), (2, .ref x2), (3, .ref x3), (4, .int x4), (5, .int t.1), (6, .int t.2)])) 27 (fun (t : Int32 × Int32) => [(0, .ref x0), (1, .ref x1), (2, .ref x2), (3, .ref x3), (4, .int x4), (5, .int t.1), (6, .int x6), (7, .int t.2)])) := by
  unfold X4_bracket_L27
  refine J_iload dX4_bracket_27 7 rfl ?_
  refine J_aload_n dX4_bracket_29 rfl 0 rfl ?_
  refine J_getI dX4_bracket_30 fl_X4_20 rfl (fun v3 => ?_)
  refine J_icmp_ge (tgt := 77) dX4_bracket_33 rfl ?_ ?_
  · refine J_inl ?_
    refine J_sub [0, 1, 2, 3, 4, 5, 6] rfl ?_
    exact j_X4_bracket_b77 D dA x0 x1 x2 x3 x4 x5 x6
  refine J_aload_n dX4_bracket_36 rfl 1 rfl ?_
  refine J_iload dX4_bracket_37 6 rfl ?_
  refine J_iald dX4_bracket_39 (fun v4 => ?_)
  refine J_if_eq (tgt := 77) dX4_bracket_40 rfl ?_ ?_
  · refine J_inl ?_
    refine J_sub [0, 1, 2, 3, 4, 5, 6] rfl ?_
    exact j_X4_bracket_b77 D dA x0 x1 x2 x3 x4 x5 x6
  refine J_iload dX4_bracket_43 5 rfl ?_
  refine J_aload_n dX4_bracket_45 rfl 1 rfl ?_
  refine J_iload dX4_bracket_46 6 rfl ?_
  refine J_iald dX4_bracket_48 (fun v5 => ?_)
  refine J_aload_n dX4_bracket_49 rfl 2 rfl ?_
  refine J_iload dX4_bracket_50 7 rfl ?_
  refine J_iald dX4_bracket_52 (fun v6 => ?_)
  refine J_imul dX4_bracket_53 ?_
  refine J_aload_n dX4_bracket_54 rfl 0 rfl ?_
  refine J_getA dX4_bracket_55 fl_X4_11 rfl (fun v7 => ?_)
  refine J_iload dX4_bracket_58 6 rfl ?_
  refine J_aald dX4_bracket_60 rfl (by decide) (fun v8 => ?_)
  refine J_iload dX4_bracket_61 7 rfl ?_
  refine J_aald dX4_bracket_63 rfl (by decide) (fun v9 => ?_)
  refine J_iload dX4_bracket_64 4 rfl ?_
  refine J_iald dX4_bracket_66 (fun v10 => ?_)
  refine J_imul dX4_bracket_67 ?_
  refine J_iadd dX4_bracket_68 ?_
  refine J_letI (fun y11 => ?_)
  refine J_istore (env' := [(5, .int y11), (0, .ref x0), (1, .ref x1), (2, .ref x2), (3, .ref x3), (4, .int x4), (6, .int x6), (7, .int x7)]) dX4_bracket_69 (by decide) rfl ?_
  refine J_iinc (v := x7 + 1) (env' := [(7, .int (x7 + 1)), (5, .int y11), (0, .ref x0), (1, .ref x1), (2, .ref x2), (3, .ref x3), (4, .int x4), (6, .int x6)]) dX4_bracket_71 7 rfl rfl (by decide) rfl ?_
  refine J_goto (tgt := 27) dX4_bracket_74 rfl ?_
  exact J_cont [2, 3, 4, 5, 6, 1, 7, 0] rfl
noncomputable def X4_bracket_L15 (x0 : Nat) (x1 : Nat) (x2 : Nat) (x3 : Nat) (x4 : Int32) (x5 : Int32) (x6 : Int32) : JM Mem ((Unit ⊕ (Int32)) ⊕ (Int32 × Int32)) :=
  jb (jgetI 3 2 x0) fun v1 =>
  if v1 ≤ x6 then
    jinl (X4_bracket_b83 x0 x1 x2 x3 x4 x5)
  else
    jloop (fun (t : Int32 × Int32) => X4_bracket_L27 x0 x1 x2 x3 x4 x6 t.1 t.2) (x5, 0)
theorem j_X4_bracket_L15 (D : va_G) (dA : Nat → ClassId) (x0 : Nat) (x1 : Nat) (x2 : Nat) (x3 : Nat) (x4 : Int32) (x5 : Int32) (x6 : Int32) : J (PM D dA false) Y_X4_bracket [(0, .ref x0), (1, .ref x1), (2, .ref x2), (3, .ref x3), (4, .int x4), (5, .int x5), (6, .int x6)] [] 15 (X4_bracket_L15 x0 x1 x2 x3 x4 x5 x6) (FLoop (FLoop (FRet injU) 3 (fun (t : Int32) => [(0, .ref x0), (1, .ref x1), (2, .ref x2), (3, .ref x3), (4, .int t)])) 15 (fun (t : Int32 × Int32) => [(0, .ref x0), (1, .ref x1), (2, .ref x2), (3, .ref x3), (4, .int x4), (5, .int t.1), (6, .int t.2)])) := by
  unfold X4_bracket_L15
  refine J_iload dX4_bracket_15 6 rfl ?_
  refine J_aload_n dX4_bracket_17 rfl 0 rfl ?_
  refine J_getI dX4_bracket_18 fl_X4_20 rfl (fun v1 => ?_)
  refine J_icmp_ge (tgt := 83) dX4_bracket_21 rfl ?_ ?_
  · refine J_inl ?_
    refine J_sub [0, 1, 2, 3, 4, 5] rfl ?_
    exact j_X4_bracket_b83 D dA x0 x1 x2 x3 x4 x5
  refine J_iconst (v := 0) dX4_bracket_24 (by decide) ?_
  refine J_istore (env' := [(7, .int 0), (0, .ref x0), (1, .ref x1), (2, .ref x2), (3, .ref x3), (4, .int x4), (5, .int x5), (6, .int x6)]) dX4_bracket_25 (by decide) rfl ?_
  refine J_loop (he := fun (t : Int32 × Int32) => [(0, .ref x0), (1, .ref x1), (2, .ref x2), (3, .ref x3), (4, .int x4), (5, .int t.1), (6, .int x6), (7, .int t.2)]) [1, 2, 3, 4, 5, 6, 7, 0] rfl (fun t => ?_)
  exact j_X4_bracket_L27 D dA x0 x1 x2 x3 x4 x6 t.1 t.2
noncomputable def X4_bracket_L3 (x0 : Nat) (x1 : Nat) (x2 : Nat) (x3 : Nat) (x4 : Int32) : JM Mem (Unit ⊕ (Int32)) :=
  if 5 ≤ x4 then
    jinl (jp ())
  else
    jloop (fun (t : Int32 × Int32) => X4_bracket_L15 x0 x1 x2 x3 x4 t.1 t.2) (0, 0)
theorem j_X4_bracket_L3 (D : va_G) (dA : Nat → ClassId) (x0 : Nat) (x1 : Nat) (x2 : Nat) (x3 : Nat) (x4 : Int32) : J (PM D dA false) Y_X4_bracket [(0, .ref x0), (1, .ref x1), (2, .ref x2), (3, .ref x3), (4, .int x4)] [] 3 (X4_bracket_L3 x0 x1 x2 x3 x4) (FLoop (FRet injU) 3 (fun (t : Int32) => [(0, .ref x0), (1, .ref x1), (2, .ref x2), (3, .ref x3), (4, .int t)])) := by
  unfold X4_bracket_L3
  refine J_iload dX4_bracket_3 4 rfl ?_
  refine J_iconst (v := 5) dX4_bracket_5 (by decide) ?_
  refine J_icmp_ge (tgt := 99) dX4_bracket_6 rfl ?_ ?_
  · refine J_inl ?_
    exact J_return dX4_bracket_99 rfl
  refine J_iconst (v := 0) dX4_bracket_9 (by decide) ?_
  refine J_istore (env' := [(5, .int 0), (0, .ref x0), (1, .ref x1), (2, .ref x2), (3, .ref x3), (4, .int x4)]) dX4_bracket_10 (by decide) rfl ?_
  refine J_iconst (v := 0) dX4_bracket_12 (by decide) ?_
  refine J_istore (env' := [(6, .int 0), (5, .int 0), (0, .ref x0), (1, .ref x1), (2, .ref x2), (3, .ref x3), (4, .int x4)]) dX4_bracket_13 (by decide) rfl ?_
  refine J_loop (he := fun (t : Int32 × Int32) => [(0, .ref x0), (1, .ref x1), (2, .ref x2), (3, .ref x3), (4, .int x4), (5, .int t.1), (6, .int t.2)]) [2, 3, 4, 5, 6, 1, 0] rfl (fun t => ?_)
  exact j_X4_bracket_L15 D dA x0 x1 x2 x3 x4 t.1 t.2
noncomputable def f_X4_bracket (x0 : Nat) (x1 : Nat) (x2 : Nat) (x3 : Nat) : JM Mem Unit :=
  jloop (fun (t : Int32) => X4_bracket_L3 x0 x1 x2 x3 t) 0
theorem j_X4_bracket (D : va_G) (dA : Nat → ClassId) (x0 : Nat) (x1 : Nat) (x2 : Nat) (x3 : Nat) : J (PM D dA false) Y_X4_bracket [(0, .ref x0), (1, .ref x1), (2, .ref x2), (3, .ref x3)] [] 0 (f_X4_bracket x0 x1 x2 x3) (FRet injU) := by
  unfold f_X4_bracket
  refine J_iconst (v := 0) dX4_bracket_0 (by decide) ?_
  refine J_istore (env' := [(4, .int 0), (0, .ref x0), (1, .ref x1), (2, .ref x2), (3, .ref x3)]) dX4_bracket_1 (by decide) rfl ?_
  refine J_loop (he := fun (t : Int32) => [(0, .ref x0), (1, .ref x1), (2, .ref x2), (3, .ref x3), (4, .int t)]) [1, 2, 3, 4, 0] rfl (fun t => ?_)
  exact j_X4_bracket_L3 D dA x0 x1 x2 x3 t
theorem i_X4_bracket (x0 : Nat) (x1 : Nat) (x2 : Nat) (x3 : Nat) : Impl (ws_ yX4_bracket cX4_bracket 8 none) yX4_bracket 3 false 0 0 [.ref x0, .ref x1, .ref x2, .ref x3] (f_X4_bracket x0 x1 x2 x3) injU := impl_of (plainFor_of_name (by decide)) (Nat.le_of_ble_eq_true rfl) (fun D dA => j_X4_bracket D dA x0 x1 x2 x3)
theorem cw_X4_bracket (Y : JY) (h : 4 ≤ Y.2.2.2.1) : JCw Y (ws_ yX4_bracket cX4_bracket 8 none) yX4_bracket cX4_bracket 8 none 3 := ⟨h, by decide, lw_meth q1051, q194, by decide, by decide⟩
theorem np_X4_bracket : JNp yX4_bracket.desc 3 := by decide +kernel
-- BracketRoom$World.vector([I)I
abbrev Y_X4_vector : JY := (cX4_vector, yX4_vector.cls, 4, 1, yX4_vector.name, (some .int), [])
noncomputable def X4_vector_L9 (x0 : Nat) (x1 : Nat) (x2 : Int32) (x3 : Int32) : JM Mem (Int32 ⊕ (Int32 × Int32)) :=
  if x3 < 0 then
    jinl (jp x2)
  else
  jb (jgetI 3 1 x0) fun v3 =>
  jb (jald mI 0 x1 x3) fun v4 =>
  jlet ((x2 * v3) + v4) fun y5 =>
  jcont (y5, x3 + (-1))
theorem j_X4_vector_L9 (D : va_G) (dA : Nat → ClassId) (x0 : Nat) (x1 : Nat) (x2 : Int32) (x3 : Int32) : J (PM D dA false) Y_X4_vector [(0, .ref x0), (1, .ref x1), (2, .int x2), (3, .int x3)] [] 9 (X4_vector_L9 x0 x1 x2 x3) (FLoop (FRet injI) 9 (fun (t : Int32 × Int32) => [(0, .ref x0), (1, .ref x1), (2, .int t.1), (3, .int t.2)])) := by
  unfold X4_vector_L9
  refine J_iload_n dX4_vector_9 rfl 3 rfl ?_
  refine J_if_lt (tgt := 30) dX4_vector_10 rfl ?_ ?_
  · refine J_inl ?_
    refine J_iload_n dX4_vector_30 rfl 2 rfl ?_
    exact J_ireturn dX4_vector_31 rfl
  refine J_iload_n dX4_vector_13 rfl 2 rfl ?_
  refine J_aload_n dX4_vector_14 rfl 0 rfl ?_
  refine J_getI dX4_vector_15 fl_X4_16 rfl (fun v3 => ?_)
  refine J_imul dX4_vector_18 ?_
  refine J_aload_n dX4_vector_19 rfl 1 rfl ?_
  refine J_iload_n dX4_vector_20 rfl 3 rfl ?_
  refine J_iald dX4_vector_21 (fun v4 => ?_)
  refine J_iadd dX4_vector_22 ?_
  refine J_letI (fun y5 => ?_)
  refine J_istore_n (env' := [(2, .int y5), (0, .ref x0), (1, .ref x1), (3, .int x3)]) dX4_vector_23 rfl (by decide) rfl ?_
  refine J_iinc (v := x3 + (-1)) (env' := [(3, .int (x3 + (-1))), (2, .int y5), (0, .ref x0), (1, .ref x1)]) dX4_vector_24 3 rfl rfl (by decide) rfl ?_
  refine J_goto (tgt := 9) dX4_vector_27 rfl ?_
  exact J_cont [2, 3, 1, 0] rfl
noncomputable def f_X4_vector (x0 : Nat) (x1 : Nat) : JM Mem Int32 :=
  jb (jgetI 3 2 x0) fun v1 =>
  jlet (v1 - 1) fun y2 =>
  jloop (fun (t : Int32 × Int32) => X4_vector_L9 x0 x1 t.1 t.2) (0, y2)
theorem j_X4_vector (D : va_G) (dA : Nat → ClassId) (x0 : Nat) (x1 : Nat) : J (PM D dA false) Y_X4_vector [(0, .ref x0), (1, .ref x1)] [] 0 (f_X4_vector x0 x1) (FRet injI) := by
  unfold f_X4_vector
  refine J_iconst (v := 0) dX4_vector_0 (by decide) ?_
  refine J_istore_n (env' := [(2, .int 0), (0, .ref x0), (1, .ref x1)]) dX4_vector_1 rfl (by decide) rfl ?_
  refine J_aload_n dX4_vector_2 rfl 1 rfl ?_
  refine J_getI dX4_vector_3 fl_X4_20 rfl (fun v1 => ?_)
  refine J_iconst (v := 1) dX4_vector_6 (by decide) ?_
  refine J_isub dX4_vector_7 ?_
  refine J_letI (fun y2 => ?_)
  refine J_istore_n (env' := [(3, .int y2), (2, .int 0), (0, .ref x0), (1, .ref x1)]) dX4_vector_8 rfl (by decide) rfl ?_
  refine J_loop (he := fun (t : Int32 × Int32) => [(0, .ref x0), (1, .ref x1), (2, .int t.1), (3, .int t.2)]) [2, 3, 1, 0] rfl (fun t => ?_)
  exact j_X4_vector_L9 D dA x0 x1 t.1 t.2
theorem i_X4_vector (x0 : Nat) (x1 : Nat) : Impl (ws_ yX4_vector cX4_vector 4 (some .int)) yX4_vector 1 false 0 0 [.ref x0, .ref x1] (f_X4_vector x0 x1) injI := impl_of (plainFor_of_name (by decide)) (Nat.le_of_ble_eq_true rfl) (fun D dA => j_X4_vector D dA x0 x1)
theorem cw_X4_vector (Y : JY) (h : 2 ≤ Y.2.2.2.1) : JCw Y (ws_ yX4_vector cX4_vector 4 (some .int)) yX4_vector cX4_vector 4 (some .int) 1 := ⟨h, by decide, lw_meth q1055, q194, by decide, by decide⟩
theorem np_X4_vector : JNp yX4_vector.desc 1 := by decide +kernel
-- BracketRoom$Tray.many()I
abbrev Y_X6_many : JY := (cX6_many, yX6_many.cls, 1, 1, yX6_many.name, (some .int), [])
noncomputable def f_X6_many (x0 : Nat) : JM Mem Int32 :=
  jb (jgetI 5 1 x0) fun v1 =>
  if v1 = 0 then
    jb (jgetA 5 0 x0) fun v10 =>
    jb (jcast 1 v10) fun _ =>
    jb (jalen v10) fun v11 =>
    jp v11
  else
  jb (jgetI 5 1 x0) fun v2 =>
  if v2 = 1 then
    jb (jgetA 5 0 x0) fun v8 =>
    jb (jcast 2 v8) fun _ =>
    jb (jalen v8) fun v9 =>
    jp v9
  else
  jb (jgetI 5 1 x0) fun v3 =>
  if v3 = 2 then
    jb (jgetA 5 0 x0) fun v6 =>
    jb (jcast 0 v6) fun _ =>
    jb (jalen v6) fun v7 =>
    jp v7
  else
  jb (jgetA 5 0 x0) fun v4 =>
  jb (jcast 3 v4) fun _ =>
  jb (jalen v4) fun v5 =>
  jp v5
theorem j_X6_many (D : va_G) (dA : Nat → ClassId) (x0 : Nat) : J (PM D dA false) Y_X6_many [(0, .ref x0)] [] 0 (f_X6_many x0) (FRet injI) := by
  unfold f_X6_many
  refine J_aload_n dX6_many_0 rfl 0 rfl ?_
  refine J_getI dX6_many_1 fl_X6_13 rfl (fun v1 => ?_)
  refine J_if_ne (tgt := 18) dX6_many_4 rfl ?_ ?_
  · refine J_aload_n dX6_many_18 rfl 0 rfl ?_
    refine J_getI dX6_many_19 fl_X6_13 rfl (fun v2 => ?_)
    refine J_iconst (v := 1) dX6_many_22 (by decide) ?_
    refine J_icmp_ne (tgt := 37) dX6_many_23 rfl ?_ ?_
    · refine J_aload_n dX6_many_37 rfl 0 rfl ?_
      refine J_getI dX6_many_38 fl_X6_13 rfl (fun v3 => ?_)
      refine J_iconst (v := 2) dX6_many_41 (by decide) ?_
      refine J_icmp_ne (tgt := 56) dX6_many_42 rfl ?_ ?_
      · refine J_aload_n dX6_many_56 rfl 0 rfl ?_
        refine J_getA dX6_many_57 fl_X6_7 rfl (fun v4 => ?_)
        refine J_castA (t := 3) dX6_many_60 q724 (by decide +kernel) ?_
        refine J_alen dX6_many_63 (fun v5 => ?_)
        exact J_ireturn dX6_many_64 rfl
      refine J_aload_n dX6_many_45 rfl 0 rfl ?_
      refine J_getA dX6_many_46 fl_X6_7 rfl (fun v6 => ?_)
      refine J_castA (t := 0) dX6_many_49 q723 (by decide +kernel) ?_
      refine J_alen dX6_many_52 (fun v7 => ?_)
      refine J_goto (tgt := 64) dX6_many_53 rfl ?_
      exact J_ireturn dX6_many_64 rfl
    refine J_aload_n dX6_many_26 rfl 0 rfl ?_
    refine J_getA dX6_many_27 fl_X6_7 rfl (fun v8 => ?_)
    refine J_castA (t := 2) dX6_many_30 q722 (by decide +kernel) ?_
    refine J_alen dX6_many_33 (fun v9 => ?_)
    refine J_goto (tgt := 64) dX6_many_34 rfl ?_
    exact J_ireturn dX6_many_64 rfl
  refine J_aload_n dX6_many_7 rfl 0 rfl ?_
  refine J_getA dX6_many_8 fl_X6_7 rfl (fun v10 => ?_)
  refine J_castA (t := 1) dX6_many_11 q721 (by decide +kernel) ?_
  refine J_alen dX6_many_14 (fun v11 => ?_)
  refine J_goto (tgt := 64) dX6_many_15 rfl ?_
  exact J_ireturn dX6_many_64 rfl
theorem i_X6_many (x0 : Nat) : Impl (ws_ yX6_many cX6_many 1 (some .int)) yX6_many 1 false 0 0 [.ref x0] (f_X6_many x0) injI := impl_of (plainFor_of_name (by decide)) (Nat.le_of_ble_eq_true rfl) (fun D dA => j_X6_many D dA x0)
theorem cw_X6_many (Y : JY) (h : 2 ≤ Y.2.2.2.1) : JCw Y (ws_ yX6_many cX6_many 1 (some .int)) yX6_many cX6_many 1 (some .int) 1 := ⟨h, by decide, lw_meth q1106, q196, by decide, by decide⟩
theorem np_X6_many : JNp yX6_many.desc 0 := by decide +kernel
-- BracketRoom$Span.reduce(LBracketRoom$World;[I)V
abbrev Y_X5_reduce : JY := (cX5_reduce, yX5_reduce.cls, 6, 3, yX5_reduce.name, none, [])
noncomputable def X5_reduce_b68 (x0 : Nat) (x1 : Nat) (x2 : Nat) (x3 : Int32) : JM Mem (Unit ⊕ (Int32)) :=
  jcont (x3 + 1)
theorem j_X5_reduce_b68 (D : va_G) (dA : Nat → ClassId) (x0 : Nat) (x1 : Nat) (x2 : Nat) (x3 : Int32) : J (PM D dA false) Y_X5_reduce [(0, .ref x0), (1, .ref x1), (2, .ref x2), (3, .int x3)] [] 68 (X5_reduce_b68 x0 x1 x2 x3) (FLoop (FRet injU) 2 (fun (t : Int32) => [(0, .ref x0), (1, .ref x1), (2, .ref x2), (3, .int t)])) := by
  unfold X5_reduce_b68
  refine J_iinc (v := x3 + 1) (env' := [(3, .int (x3 + 1)), (0, .ref x0), (1, .ref x1), (2, .ref x2)]) dX5_reduce_68 3 rfl rfl (by decide) rfl ?_
  refine J_goto (tgt := 2) dX5_reduce_71 rfl ?_
  exact J_cont [1, 2, 3, 0] rfl
noncomputable def X5_reduce_L23 (x0 : Nat) (x1 : Nat) (x2 : Nat) (x3 : Int32) (x4 : Int32) (x5 : Int32) : JM Mem ((Unit ⊕ (Int32)) ⊕ (Int32)) :=
  jb (jgetI 3 2 x1) fun v5 =>
  if v5 ≤ x5 then
    jinl (X5_reduce_b68 x0 x1 x2 x3)
  else
  if x4 = 0 then
    jinl (X5_reduce_b68 x0 x1 x2 x3)
  else
  jb (jald mI 0 x2 x5) fun v6 =>
  jb (jgetA 4 0 x0) fun v7 =>
  jb (jaldA 5 v7 x3) fun v8 =>
  jb (jald mI 0 v8 x5) fun v9 =>
  jb (jcall 3 x1 (f_X4_by x1 (v6 - (x4 * v9)))) fun v10 =>
  jb (jast_i x2 x5 v10) fun _ =>
  jcont (x5 + 1)
theorem j_X5_reduce_L23 (D : va_G) (dA : Nat → ClassId) (x0 : Nat) (x1 : Nat) (x2 : Nat) (x3 : Int32) (x4 : Int32) (x5 : Int32) : J (PM D dA false) Y_X5_reduce [(0, .ref x0), (1, .ref x1), (2, .ref x2), (3, .int x3), (4, .int x4), (5, .int x5)] [] 23 (X5_reduce_L23 x0 x1 x2 x3 x4 x5) (FLoop (FLoop (FRet injU) 2 (fun (t : Int32) => [(0, .ref x0), (1, .ref x1), (2, .ref x2), (3, .int t)])) 23 (fun (t : Int32) => [(0, .ref x0), (1, .ref x1), (2, .ref x2), (3, .int x3), (4, .int x4), (5, .int t)])) := by
  unfold X5_reduce_L23
  refine J_iload dX5_reduce_23 5 rfl ?_
  refine J_aload_n dX5_reduce_25 rfl 1 rfl ?_
  refine J_getI dX5_reduce_26 fl_X5_24 rfl (fun v5 => ?_)
  refine J_icmp_ge (tgt := 68) dX5_reduce_29 rfl ?_ ?_
  · refine J_inl ?_
    refine J_sub [0, 1, 2, 3] rfl ?_
    exact j_X5_reduce_b68 D dA x0 x1 x2 x3
  refine J_iload dX5_reduce_32 4 rfl ?_
  refine J_if_eq (tgt := 68) dX5_reduce_34 rfl ?_ ?_
  · refine J_inl ?_
    refine J_sub [0, 1, 2, 3] rfl ?_
    exact j_X5_reduce_b68 D dA x0 x1 x2 x3
  refine J_aload_n dX5_reduce_37 rfl 2 rfl ?_
  refine J_iload dX5_reduce_38 5 rfl ?_
  refine J_aload_n dX5_reduce_40 rfl 1 rfl ?_
  refine J_aload_n dX5_reduce_41 rfl 2 rfl ?_
  refine J_iload dX5_reduce_42 5 rfl ?_
  refine J_iald dX5_reduce_44 (fun v6 => ?_)
  refine J_iload dX5_reduce_45 4 rfl ?_
  refine J_aload_n dX5_reduce_47 rfl 0 rfl ?_
  refine J_getA dX5_reduce_48 fl_X5_11 rfl (fun v7 => ?_)
  refine J_iload_n dX5_reduce_51 rfl 3 rfl ?_
  refine J_aald dX5_reduce_52 rfl (by decide) (fun v8 => ?_)
  refine J_iload dX5_reduce_53 5 rfl ?_
  refine J_iald dX5_reduce_55 (fun v9 => ?_)
  refine J_imul dX5_reduce_56 ?_
  refine J_isub dX5_reduce_57 ?_
  refine J_callVI (c := 3) (as := [.int (v6 - (x4 * v9))]) dX5_reduce_58 (by decide) rfl (Nat.le_of_ble_eq_true rfl) (cw_X4_by _ (by decide)) q1119 q929 q930 q931 np_X4_by (i_X4_by x1 (v6 - (x4 * v9))) jad_id rfl (fun v10 => ?_)
  refine J_iast dX5_reduce_61 ?_
  refine J_iinc (v := x5 + 1) (env' := [(5, .int (x5 + 1)), (0, .ref x0), (1, .ref x1), (2, .ref x2), (3, .int x3), (4, .int x4)]) dX5_reduce_62 5 rfl rfl (by decide) rfl ?_
  refine J_goto (tgt := 23) dX5_reduce_65 rfl ?_
  exact J_cont [1, 2, 3, 4, 5, 0] rfl
noncomputable def X5_reduce_L2 (x0 : Nat) (x1 : Nat) (x2 : Nat) (x3 : Int32) : JM Mem (Unit ⊕ (Int32)) :=
  jb (jgetI 4 2 x0) fun v1 =>
  if v1 ≤ x3 then
    jinl (jp ())
  else
  jb (jgetA 4 1 x0) fun v2 =>
  jb (jald mI 0 v2 x3) fun v3 =>
  jb (jald mI 0 x2 v3) fun v4 =>
  jloop (fun (t : Int32) => X5_reduce_L23 x0 x1 x2 x3 v4 t) 0
theorem j_X5_reduce_L2 (D : va_G) (dA : Nat → ClassId) (x0 : Nat) (x1 : Nat) (x2 : Nat) (x3 : Int32) : J (PM D dA false) Y_X5_reduce [(0, .ref x0), (1, .ref x1), (2, .ref x2), (3, .int x3)] [] 2 (X5_reduce_L2 x0 x1 x2 x3) (FLoop (FRet injU) 2 (fun (t : Int32) => [(0, .ref x0), (1, .ref x1), (2, .ref x2), (3, .int t)])) := by
  unfold X5_reduce_L2
  refine J_iload_n dX5_reduce_2 rfl 3 rfl ?_
  refine J_aload_n dX5_reduce_3 rfl 0 rfl ?_
  refine J_getI dX5_reduce_4 fl_X5_20 rfl (fun v1 => ?_)
  refine J_icmp_ge (tgt := 74) dX5_reduce_7 rfl ?_ ?_
  · refine J_inl ?_
    exact J_return dX5_reduce_74 rfl
  refine J_aload_n dX5_reduce_10 rfl 2 rfl ?_
  refine J_aload_n dX5_reduce_11 rfl 0 rfl ?_
  refine J_getA dX5_reduce_12 fl_X5_16 rfl (fun v2 => ?_)
  refine J_iload_n dX5_reduce_15 rfl 3 rfl ?_
  refine J_iald dX5_reduce_16 (fun v3 => ?_)
  refine J_iald dX5_reduce_17 (fun v4 => ?_)
  refine J_istore (env' := [(4, .int v4), (0, .ref x0), (1, .ref x1), (2, .ref x2), (3, .int x3)]) dX5_reduce_18 (by decide) rfl ?_
  refine J_iconst (v := 0) dX5_reduce_20 (by decide) ?_
  refine J_istore (env' := [(5, .int 0), (4, .int v4), (0, .ref x0), (1, .ref x1), (2, .ref x2), (3, .int x3)]) dX5_reduce_21 (by decide) rfl ?_
  refine J_loop (he := fun (t : Int32) => [(0, .ref x0), (1, .ref x1), (2, .ref x2), (3, .int x3), (4, .int v4), (5, .int t)]) [2, 3, 4, 5, 1, 0] rfl (fun t => ?_)
  exact j_X5_reduce_L23 D dA x0 x1 x2 x3 v4 t
noncomputable def f_X5_reduce (x0 : Nat) (x1 : Nat) (x2 : Nat) : JM Mem Unit :=
  jloop (fun (t : Int32) => X5_reduce_L2 x0 x1 x2 t) 0
theorem j_X5_reduce (D : va_G) (dA : Nat → ClassId) (x0 : Nat) (x1 : Nat) (x2 : Nat) : J (PM D dA false) Y_X5_reduce [(0, .ref x0), (1, .ref x1), (2, .ref x2)] [] 0 (f_X5_reduce x0 x1 x2) (FRet injU) := by
  unfold f_X5_reduce
  refine J_iconst (v := 0) dX5_reduce_0 (by decide) ?_
  refine J_istore_n (env' := [(3, .int 0), (0, .ref x0), (1, .ref x1), (2, .ref x2)]) dX5_reduce_1 rfl (by decide) rfl ?_
  refine J_loop (he := fun (t : Int32) => [(0, .ref x0), (1, .ref x1), (2, .ref x2), (3, .int t)]) [1, 2, 3, 0] rfl (fun t => ?_)
  exact j_X5_reduce_L2 D dA x0 x1 x2 t
theorem i_X5_reduce (x0 : Nat) (x1 : Nat) (x2 : Nat) : Impl (ws_ yX5_reduce cX5_reduce 6 none) yX5_reduce 3 false 0 0 [.ref x0, .ref x1, .ref x2] (f_X5_reduce x0 x1 x2) injU := impl_of (plainFor_of_name (by decide)) (Nat.le_of_ble_eq_true rfl) (fun D dA => j_X5_reduce D dA x0 x1 x2)
theorem cw_X5_reduce (Y : JY) (h : 4 ≤ Y.2.2.2.1) : JCw Y (ws_ yX5_reduce cX5_reduce 6 none) yX5_reduce cX5_reduce 6 none 3 := ⟨h, by decide, lw_meth q1118, q195, by decide, by decide⟩
theorem np_X5_reduce : JNp yX5_reduce.desc 2 := by decide +kernel
-- BracketRoom$World.inverse(I)I
abbrev Y_X4_inverse : JY := (cX4_inverse, yX4_inverse.cls, 3, 1, yX4_inverse.name, (some .int), [])
noncomputable def X4_inverse_L2 (x0 : Nat) (x1 : Int32) (x2 : Int32) : JM Mem (Int32 ⊕ (Int32)) :=
  jb (jgetI 3 1 x0) fun v1 =>
  jb (jrem (x2 * x1) v1) fun v2 =>
  if v2 = 1 then
    jinl (jp x2)
  else
    jcont (x2 + 1)
theorem j_X4_inverse_L2 (D : va_G) (dA : Nat → ClassId) (x0 : Nat) (x1 : Int32) (x2 : Int32) : J (PM D dA false) Y_X4_inverse [(0, .ref x0), (1, .int x1), (2, .int x2)] [] 2 (X4_inverse_L2 x0 x1 x2) (FLoop (FRet injI) 2 (fun (t : Int32) => [(0, .ref x0), (1, .int x1), (2, .int t)])) := by
  unfold X4_inverse_L2
  refine J_iload_n dX4_inverse_2 rfl 2 rfl ?_
  refine J_iload_n dX4_inverse_3 rfl 1 rfl ?_
  refine J_imul dX4_inverse_4 ?_
  refine J_aload_n dX4_inverse_5 rfl 0 rfl ?_
  refine J_getI dX4_inverse_6 fl_X4_16 rfl (fun v1 => ?_)
  refine J_irem dX4_inverse_9 (fun v2 => ?_)
  refine J_iconst (v := 1) dX4_inverse_10 (by decide) ?_
  refine J_icmp_eq (tgt := 20) dX4_inverse_11 rfl ?_ ?_
  · refine J_inl ?_
    refine J_iload_n dX4_inverse_20 rfl 2 rfl ?_
    exact J_ireturn dX4_inverse_21 rfl
  refine J_iinc (v := x2 + 1) (env' := [(2, .int (x2 + 1)), (0, .ref x0), (1, .int x1)]) dX4_inverse_14 2 rfl rfl (by decide) rfl ?_
  refine J_goto (tgt := 2) dX4_inverse_17 rfl ?_
  exact J_cont [1, 2, 0] rfl
noncomputable def f_X4_inverse (x0 : Nat) (x1 : Int32) : JM Mem Int32 :=
  jloop (fun (t : Int32) => X4_inverse_L2 x0 x1 t) 1
theorem j_X4_inverse (D : va_G) (dA : Nat → ClassId) (x0 : Nat) (x1 : Int32) : J (PM D dA false) Y_X4_inverse [(0, .ref x0), (1, .int x1)] [] 0 (f_X4_inverse x0 x1) (FRet injI) := by
  unfold f_X4_inverse
  refine J_iconst (v := 1) dX4_inverse_0 (by decide) ?_
  refine J_istore_n (env' := [(2, .int 1), (0, .ref x0), (1, .int x1)]) dX4_inverse_1 rfl (by decide) rfl ?_
  refine J_loop (he := fun (t : Int32) => [(0, .ref x0), (1, .int x1), (2, .int t)]) [1, 2, 0] rfl (fun t => ?_)
  exact j_X4_inverse_L2 D dA x0 x1 t
theorem i_X4_inverse (x0 : Nat) (x1 : Int32) : Impl (ws_ yX4_inverse cX4_inverse 3 (some .int)) yX4_inverse 1 false 0 0 [.ref x0, .int x1] (f_X4_inverse x0 x1) injI := impl_of (plainFor_of_name (by decide)) (Nat.le_of_ble_eq_true rfl) (fun D dA => j_X4_inverse D dA x0 x1)
theorem cw_X4_inverse (Y : JY) (h : 2 ≤ Y.2.2.2.1) : JCw Y (ws_ yX4_inverse cX4_inverse 3 (some .int)) yX4_inverse cX4_inverse 3 (some .int) 1 := ⟨h, by decide, lw_meth q1123, q194, by decide, by decide⟩
theorem np_X4_inverse : JNp yX4_inverse.desc 1 := by decide +kernel
-- BracketRoom$Span.add(LBracketRoom$World;[I)Z
abbrev Y_X5_add : JY := (cX5_add, yX5_add.cls, 8, 4, yX5_add.name, (some .boolean), [])
noncomputable def X5_add_b233 (x0 : Nat) (x2 : Nat) (x3 : Int32) (x5 : Int32) : JM Mem Int32 :=
  jb (jgetA 4 0 x0) fun v8 =>
  jb (jaldA 5 v8 x5) fun v9 =>
  jb (jcopy 0 x2 0 v9 0 5) fun _ =>
  jb (jgetA 4 1 x0) fun v10 =>
  jb (jast_i v10 x5 x3) fun _ =>
  jb (jgetI 4 2 x0) fun v11 =>
  jb (jputI 4 2 x0 (v11 + 1)) fun _ =>
  jp 1
theorem j_X5_add_b233 (D : va_G) (dA : Nat → ClassId) (x0 : Nat) (x2 : Nat) (x3 : Int32) (x5 : Int32) : J (PM D dA false) Y_X5_add [(0, .ref x0), (2, .ref x2), (3, .int x3), (5, .int x5)] [] 233 (X5_add_b233 x0 x2 x3 x5) (FRet injI) := by
  unfold X5_add_b233
  refine J_aload_n dX5_add_233 rfl 1 rfl ?_
  refine J_iconst (v := 0) dX5_add_234 (by decide) ?_
  refine J_aload_n dX5_add_235 rfl 0 rfl ?_
  refine J_getA dX5_add_236 fl_X5_11 rfl (fun v8 => ?_)
  refine J_iload dX5_add_239 3 rfl ?_
  refine J_aald dX5_add_241 rfl (by decide) (fun v9 => ?_)
  refine J_iconst (v := 0) dX5_add_242 (by decide) ?_
  refine J_iconst (v := 5) dX5_add_243 (by decide) ?_
  refine J_copy (t := 0) dX5_add_244 (by decide) (Nat.le_of_ble_eq_true rfl) (by decide) q1124 q745 q744 q204 ?_
  refine J_aload_n dX5_add_247 rfl 0 rfl ?_
  refine J_getA dX5_add_248 fl_X5_16 rfl (fun v10 => ?_)
  refine J_iload dX5_add_251 3 rfl ?_
  refine J_iload_n dX5_add_253 rfl 2 rfl ?_
  refine J_iast dX5_add_254 ?_
  refine J_aload_n dX5_add_255 rfl 0 rfl ?_
  refine J_dup dX5_add_256 rfl ?_
  refine J_getI dX5_add_257 fl_X5_20 rfl (fun v11 => ?_)
  refine J_iconst (v := 1) dX5_add_260 (by decide) ?_
  refine J_iadd dX5_add_261 ?_
  refine J_putI dX5_add_262 ⟨fl_X5_20, Or.inl rfl⟩ rfl ?_
  refine J_iconst (v := 1) dX5_add_265 (by decide) ?_
  exact J_zreturn1 dX5_add_266 rfl
noncomputable def X5_add_L171 (x0 : Nat) (x2 : Nat) (x3 : Int32) (x5 : Int32) : JM Mem (Int32 ⊕ (Int32)) :=
  if x5 ≤ 0 then
    jinl (X5_add_b233 x0 x2 x3 x5)
  else
  jb (jgetA 4 1 x0) fun v12 =>
  jb (jald mI 0 v12 (x5 - 1)) fun v13 =>
  if v13 ≤ x3 then
    jinl (X5_add_b233 x0 x2 x3 x5)
  else
  jb (jgetA 4 0 x0) fun v14 =>
  jb (jaldA 5 v14 (x5 - 1)) fun v15 =>
  jb (jgetA 4 0 x0) fun v16 =>
  jb (jaldA 5 v16 x5) fun v17 =>
  jb (jcopy 0 v15 0 v17 0 5) fun _ =>
  jb (jgetA 4 1 x0) fun v18 =>
  jb (jgetA 4 1 x0) fun v19 =>
  jb (jald mI 0 v19 (x5 - 1)) fun v20 =>
  jb (jast_i v18 x5 v20) fun _ =>
  jcont (x5 + (-1))
theorem j_X5_add_L171 (D : va_G) (dA : Nat → ClassId) (x0 : Nat) (x2 : Nat) (x3 : Int32) (x5 : Int32) : J (PM D dA false) Y_X5_add [(0, .ref x0), (2, .ref x2), (3, .int x3), (5, .int x5)] [] 171 (X5_add_L171 x0 x2 x3 x5) (FLoop (FRet injI) 171 (fun (t : Int32) => [(0, .ref x0), (2, .ref x2), (3, .int x3), (5, .int t)])) := by
  unfold X5_add_L171
  refine J_iload dX5_add_171 3 rfl ?_
  refine J_if_le (tgt := 233) dX5_add_173 rfl ?_ ?_
  · refine J_inl ?_
    refine J_sub [0, 1, 2, 3] rfl ?_
    exact j_X5_add_b233 D dA x0 x2 x3 x5
  refine J_aload_n dX5_add_176 rfl 0 rfl ?_
  refine J_getA dX5_add_177 fl_X5_16 rfl (fun v12 => ?_)
  refine J_iload dX5_add_180 3 rfl ?_
  refine J_iconst (v := 1) dX5_add_182 (by decide) ?_
  refine J_isub dX5_add_183 ?_
  refine J_iald dX5_add_184 (fun v13 => ?_)
  refine J_iload_n dX5_add_185 rfl 2 rfl ?_
  refine J_icmp_le (tgt := 233) dX5_add_186 rfl ?_ ?_
  · refine J_inl ?_
    refine J_sub [0, 1, 2, 3] rfl ?_
    exact j_X5_add_b233 D dA x0 x2 x3 x5
  refine J_aload_n dX5_add_189 rfl 0 rfl ?_
  refine J_getA dX5_add_190 fl_X5_11 rfl (fun v14 => ?_)
  refine J_iload dX5_add_193 3 rfl ?_
  refine J_iconst (v := 1) dX5_add_195 (by decide) ?_
  refine J_isub dX5_add_196 ?_
  refine J_aald dX5_add_197 rfl (by decide) (fun v15 => ?_)
  refine J_iconst (v := 0) dX5_add_198 (by decide) ?_
  refine J_aload_n dX5_add_199 rfl 0 rfl ?_
  refine J_getA dX5_add_200 fl_X5_11 rfl (fun v16 => ?_)
  refine J_iload dX5_add_203 3 rfl ?_
  refine J_aald dX5_add_205 rfl (by decide) (fun v17 => ?_)
  refine J_iconst (v := 0) dX5_add_206 (by decide) ?_
  refine J_iconst (v := 5) dX5_add_207 (by decide) ?_
  refine J_copy (t := 0) dX5_add_208 (by decide) (Nat.le_of_ble_eq_true rfl) (by decide) q1124 q745 q744 q204 ?_
  refine J_aload_n dX5_add_211 rfl 0 rfl ?_
  refine J_getA dX5_add_212 fl_X5_16 rfl (fun v18 => ?_)
  refine J_iload dX5_add_215 3 rfl ?_
  refine J_aload_n dX5_add_217 rfl 0 rfl ?_
  refine J_getA dX5_add_218 fl_X5_16 rfl (fun v19 => ?_)
  refine J_iload dX5_add_221 3 rfl ?_
  refine J_iconst (v := 1) dX5_add_223 (by decide) ?_
  refine J_isub dX5_add_224 ?_
  refine J_iald dX5_add_225 (fun v20 => ?_)
  refine J_iast dX5_add_226 ?_
  refine J_iinc (v := x5 + (-1)) (env' := [(5, .int (x5 + (-1))), (0, .ref x0), (2, .ref x2), (3, .int x3)]) dX5_add_227 3 rfl rfl (by decide) rfl ?_
  refine J_goto (tgt := 171) dX5_add_230 rfl ?_
  exact J_cont [1, 2, 3, 0] rfl
noncomputable def X5_add_b165 (x0 : Nat) (x2 : Nat) (x3 : Int32) : JM Mem Int32 :=
  jb (jgetI 4 2 x0) fun v7 =>
  jloop (fun (t : Int32) => X5_add_L171 x0 x2 x3 t) v7
theorem j_X5_add_b165 (D : va_G) (dA : Nat → ClassId) (x0 : Nat) (x2 : Nat) (x3 : Int32) : J (PM D dA false) Y_X5_add [(0, .ref x0), (2, .ref x2), (3, .int x3)] [] 165 (X5_add_b165 x0 x2 x3) (FRet injI) := by
  unfold X5_add_b165
  refine J_aload_n dX5_add_165 rfl 0 rfl ?_
  refine J_getI dX5_add_166 fl_X5_20 rfl (fun v7 => ?_)
  refine J_istore (env' := [(5, .int v7), (0, .ref x0), (2, .ref x2), (3, .int x3)]) dX5_add_169 (by decide) rfl ?_
  refine J_loop (he := fun (t : Int32) => [(0, .ref x0), (2, .ref x2), (3, .int x3), (5, .int t)]) [1, 2, 3, 0] rfl (fun t => ?_)
  exact j_X5_add_L171 D dA x0 x2 x3 t
noncomputable def X5_add_b159 (x0 : Nat) (x1 : Nat) (x2 : Nat) (x3 : Int32) (x5 : Int32) : JM Mem (Int32 ⊕ (Int32)) :=
  jcont (x5 + 1)
theorem j_X5_add_b159 (D : va_G) (dA : Nat → ClassId) (x0 : Nat) (x1 : Nat) (x2 : Nat) (x3 : Int32) (x5 : Int32) : J (PM D dA false) Y_X5_add [(0, .ref x0), (1, .ref x1), (2, .ref x2), (3, .int x3), (5, .int x5)] [] 159 (X5_add_b159 x0 x1 x2 x3 x5) (FLoop (FRet injI) 84 (fun (t : Int32) => [(0, .ref x0), (1, .ref x1), (2, .ref x2), (3, .int x3), (5, .int t)])) := by
  unfold X5_add_b159
  refine J_iinc (v := x5 + 1) (env' := [(5, .int (x5 + 1)), (0, .ref x0), (1, .ref x1), (2, .ref x2), (3, .int x3)]) dX5_add_159 4 rfl rfl (by decide) rfl ?_
  refine J_goto (tgt := 84) dX5_add_162 rfl ?_
  exact J_cont [1, 2, 3, 4, 0] rfl
noncomputable def X5_add_L107 (x0 : Nat) (x1 : Nat) (x2 : Nat) (x3 : Int32) (x5 : Int32) (x6 : Int32) (x7 : Int32) : JM Mem ((Int32 ⊕ (Int32)) ⊕ (Int32)) :=
  jb (jgetI 3 2 x1) fun v24 =>
  if v24 ≤ x7 then
    jinl (X5_add_b159 x0 x1 x2 x3 x5)
  else
  if x6 = 0 then
    jinl (X5_add_b159 x0 x1 x2 x3 x5)
  else
  jb (jgetA 4 0 x0) fun v25 =>
  jb (jaldA 5 v25 x5) fun v26 =>
  jb (jgetA 4 0 x0) fun v27 =>
  jb (jaldA 5 v27 x5) fun v28 =>
  jb (jald mI 0 v28 x7) fun v29 =>
  jb (jald mI 0 x2 x7) fun v30 =>
  jb (jcall 3 x1 (f_X4_by x1 (v29 - (x6 * v30)))) fun v31 =>
  jb (jast_i v26 x7 v31) fun _ =>
  jcont (x7 + 1)
theorem j_X5_add_L107 (D : va_G) (dA : Nat → ClassId) (x0 : Nat) (x1 : Nat) (x2 : Nat) (x3 : Int32) (x5 : Int32) (x6 : Int32) (x7 : Int32) : J (PM D dA false) Y_X5_add [(0, .ref x0), (1, .ref x1), (2, .ref x2), (3, .int x3), (5, .int x5), (6, .int x6), (7, .int x7)] [] 107 (X5_add_L107 x0 x1 x2 x3 x5 x6 x7) (FLoop (FLoop (FRet injI) 84 (fun (t : Int32) => [(0, .ref x0), (1, .ref x1), (2, .ref x2), (3, .int x3), (5, .int t)])) 107 (fun (t : Int32) => [(0, .ref x0), (1, .ref x1), (2, .ref x2), (3, .int x3), (5, .int x5), (6, .int x6), (7, .int t)])) := by
  unfold X5_add_L107
  refine J_iload dX5_add_107 6 rfl ?_
  refine J_aload_n dX5_add_109 rfl 1 rfl ?_
  refine J_getI dX5_add_110 fl_X5_24 rfl (fun v24 => ?_)
  refine J_icmp_ge (tgt := 159) dX5_add_113 rfl ?_ ?_
  · refine J_inl ?_
    refine J_sub [0, 1, 2, 3, 4] rfl ?_
    exact j_X5_add_b159 D dA x0 x1 x2 x3 x5
  refine J_iload dX5_add_116 5 rfl ?_
  refine J_if_eq (tgt := 159) dX5_add_118 rfl ?_ ?_
  · refine J_inl ?_
    refine J_sub [0, 1, 2, 3, 4] rfl ?_
    exact j_X5_add_b159 D dA x0 x1 x2 x3 x5
  refine J_aload_n dX5_add_121 rfl 0 rfl ?_
  refine J_getA dX5_add_122 fl_X5_11 rfl (fun v25 => ?_)
  refine J_iload dX5_add_125 4 rfl ?_
  refine J_aald dX5_add_127 rfl (by decide) (fun v26 => ?_)
  refine J_iload dX5_add_128 6 rfl ?_
  refine J_aload_n dX5_add_130 rfl 1 rfl ?_
  refine J_aload_n dX5_add_131 rfl 0 rfl ?_
  refine J_getA dX5_add_132 fl_X5_11 rfl (fun v27 => ?_)
  refine J_iload dX5_add_135 4 rfl ?_
  refine J_aald dX5_add_137 rfl (by decide) (fun v28 => ?_)
  refine J_iload dX5_add_138 6 rfl ?_
  refine J_iald dX5_add_140 (fun v29 => ?_)
  refine J_iload dX5_add_141 5 rfl ?_
  refine J_aload_n dX5_add_143 rfl 2 rfl ?_
  refine J_iload dX5_add_144 6 rfl ?_
  refine J_iald dX5_add_146 (fun v30 => ?_)
  refine J_imul dX5_add_147 ?_
  refine J_isub dX5_add_148 ?_
  refine J_callVI (c := 3) (as := [.int (v29 - (x6 * v30))]) dX5_add_149 (by decide) rfl (Nat.le_of_ble_eq_true rfl) (cw_X4_by _ (by decide)) q1119 q929 q930 q931 np_X4_by (i_X4_by x1 (v29 - (x6 * v30))) jad_id rfl (fun v31 => ?_)
  refine J_iast dX5_add_152 ?_
  refine J_iinc (v := x7 + 1) (env' := [(7, .int (x7 + 1)), (0, .ref x0), (1, .ref x1), (2, .ref x2), (3, .int x3), (5, .int x5), (6, .int x6)]) dX5_add_153 6 rfl rfl (by decide) rfl ?_
  refine J_goto (tgt := 107) dX5_add_156 rfl ?_
  exact J_cont [1, 2, 3, 4, 5, 6, 0] rfl
noncomputable def X5_add_L84 (x0 : Nat) (x1 : Nat) (x2 : Nat) (x3 : Int32) (x5 : Int32) : JM Mem (Int32 ⊕ (Int32)) :=
  jb (jgetI 4 2 x0) fun v6 =>
  if v6 ≤ x5 then
    jinl (X5_add_b165 x0 x2 x3)
  else
  jb (jgetA 4 0 x0) fun v21 =>
  jb (jaldA 5 v21 x5) fun v22 =>
  jb (jald mI 0 v22 x3) fun v23 =>
  jloop (fun (t : Int32) => X5_add_L107 x0 x1 x2 x3 x5 v23 t) 0
theorem j_X5_add_L84 (D : va_G) (dA : Nat → ClassId) (x0 : Nat) (x1 : Nat) (x2 : Nat) (x3 : Int32) (x5 : Int32) : J (PM D dA false) Y_X5_add [(0, .ref x0), (1, .ref x1), (2, .ref x2), (3, .int x3), (5, .int x5)] [] 84 (X5_add_L84 x0 x1 x2 x3 x5) (FLoop (FRet injI) 84 (fun (t : Int32) => [(0, .ref x0), (1, .ref x1), (2, .ref x2), (3, .int x3), (5, .int t)])) := by
  unfold X5_add_L84
  refine J_iload dX5_add_84 4 rfl ?_
  refine J_aload_n dX5_add_86 rfl 0 rfl ?_
  refine J_getI dX5_add_87 fl_X5_20 rfl (fun v6 => ?_)
  refine J_icmp_ge (tgt := 165) dX5_add_90 rfl ?_ ?_
  · refine J_inl ?_
    refine J_sub [0, 2, 3] rfl ?_
    exact j_X5_add_b165 D dA x0 x2 x3
  refine J_aload_n dX5_add_93 rfl 0 rfl ?_
  refine J_getA dX5_add_94 fl_X5_11 rfl (fun v21 => ?_)
  refine J_iload dX5_add_97 4 rfl ?_
  refine J_aald dX5_add_99 rfl (by decide) (fun v22 => ?_)
  refine J_iload_n dX5_add_100 rfl 3 rfl ?_
  refine J_iald dX5_add_101 (fun v23 => ?_)
  refine J_istore (env' := [(6, .int v23), (0, .ref x0), (1, .ref x1), (2, .ref x2), (3, .int x3), (5, .int x5)]) dX5_add_102 (by decide) rfl ?_
  refine J_iconst (v := 0) dX5_add_104 (by decide) ?_
  refine J_istore (env' := [(7, .int 0), (6, .int v23), (0, .ref x0), (1, .ref x1), (2, .ref x2), (3, .int x3), (5, .int x5)]) dX5_add_105 (by decide) rfl ?_
  refine J_loop (he := fun (t : Int32) => [(0, .ref x0), (1, .ref x1), (2, .ref x2), (3, .int x3), (5, .int x5), (6, .int v23), (7, .int t)]) [2, 3, 4, 5, 6, 1, 0] rfl (fun t => ?_)
  exact j_X5_add_L107 D dA x0 x1 x2 x3 x5 v23 t
noncomputable def X5_add_b81 (x0 : Nat) (x1 : Nat) (x2 : Nat) (x3 : Int32) : JM Mem Int32 :=
  jloop (fun (t : Int32) => X5_add_L84 x0 x1 x2 x3 t) 0
theorem j_X5_add_b81 (D : va_G) (dA : Nat → ClassId) (x0 : Nat) (x1 : Nat) (x2 : Nat) (x3 : Int32) : J (PM D dA false) Y_X5_add [(0, .ref x0), (1, .ref x1), (2, .ref x2), (3, .int x3)] [] 81 (X5_add_b81 x0 x1 x2 x3) (FRet injI) := by
  unfold X5_add_b81
  refine J_iconst (v := 0) dX5_add_81 (by decide) ?_
  refine J_istore (env' := [(5, .int 0), (0, .ref x0), (1, .ref x1), (2, .ref x2), (3, .int x3)]) dX5_add_82 (by decide) rfl ?_
  refine J_loop (he := fun (t : Int32) => [(0, .ref x0), (1, .ref x1), (2, .ref x2), (3, .int x3), (5, .int t)]) [1, 2, 3, 4, 0] rfl (fun t => ?_)
  exact j_X5_add_L84 D dA x0 x1 x2 x3 t
noncomputable def X5_add_L50 (x0 : Nat) (x1 : Nat) (x2 : Nat) (x3 : Int32) (x4 : Int32) (x5 : Int32) : JM Mem (Int32 ⊕ (Int32)) :=
  jb (jgetI 3 2 x1) fun v5 =>
  if v5 ≤ x5 then
    jinl (X5_add_b81 x0 x1 x2 x3)
  else
  jb (jald mI 0 x2 x5) fun v32 =>
  jb (jgetI 3 1 x1) fun v33 =>
  jb (jrem (v32 * x4) v33) fun v34 =>
  jb (jast_i x2 x5 v34) fun _ =>
  jcont (x5 + 1)
theorem j_X5_add_L50 (D : va_G) (dA : Nat → ClassId) (x0 : Nat) (x1 : Nat) (x2 : Nat) (x3 : Int32) (x4 : Int32) (x5 : Int32) : J (PM D dA false) Y_X5_add [(0, .ref x0), (1, .ref x1), (2, .ref x2), (3, .int x3), (4, .int x4), (5, .int x5)] [] 50 (X5_add_L50 x0 x1 x2 x3 x4 x5) (FLoop (FRet injI) 50 (fun (t : Int32) => [(0, .ref x0), (1, .ref x1), (2, .ref x2), (3, .int x3), (4, .int x4), (5, .int t)])) := by
  unfold X5_add_L50
  refine J_iload dX5_add_50 5 rfl ?_
  refine J_aload_n dX5_add_52 rfl 1 rfl ?_
  refine J_getI dX5_add_53 fl_X5_24 rfl (fun v5 => ?_)
  refine J_icmp_ge (tgt := 81) dX5_add_56 rfl ?_ ?_
  · refine J_inl ?_
    refine J_sub [0, 1, 2, 3] rfl ?_
    exact j_X5_add_b81 D dA x0 x1 x2 x3
  refine J_aload_n dX5_add_59 rfl 2 rfl ?_
  refine J_iload dX5_add_60 5 rfl ?_
  refine J_aload_n dX5_add_62 rfl 2 rfl ?_
  refine J_iload dX5_add_63 5 rfl ?_
  refine J_iald dX5_add_65 (fun v32 => ?_)
  refine J_iload dX5_add_66 4 rfl ?_
  refine J_imul dX5_add_68 ?_
  refine J_aload_n dX5_add_69 rfl 1 rfl ?_
  refine J_getI dX5_add_70 fl_X5_46 rfl (fun v33 => ?_)
  refine J_irem dX5_add_73 (fun v34 => ?_)
  refine J_iast dX5_add_74 ?_
  refine J_iinc (v := x5 + 1) (env' := [(5, .int (x5 + 1)), (0, .ref x0), (1, .ref x1), (2, .ref x2), (3, .int x3), (4, .int x4)]) dX5_add_75 5 rfl rfl (by decide) rfl ?_
  refine J_goto (tgt := 50) dX5_add_78 rfl ?_
  exact J_cont [1, 2, 3, 4, 5, 0] rfl
noncomputable def X5_add_b28 (x0 : Nat) (x1 : Nat) (x2 : Nat) (x3 : Int32) : JM Mem Int32 :=
  jb (jgetI 3 2 x1) fun v2 =>
  if x3 = v2 then
    jp 0
  else
  jb (jald mI 0 x2 x3) fun v3 =>
  jb (jcall 3 x1 (f_X4_inverse x1 v3)) fun v4 =>
  jloop (fun (t : Int32) => X5_add_L50 x0 x1 x2 x3 v4 t) 0
theorem j_X5_add_b28 (D : va_G) (dA : Nat → ClassId) (x0 : Nat) (x1 : Nat) (x2 : Nat) (x3 : Int32) : J (PM D dA false) Y_X5_add [(0, .ref x0), (1, .ref x1), (2, .ref x2), (3, .int x3)] [] 28 (X5_add_b28 x0 x1 x2 x3) (FRet injI) := by
  unfold X5_add_b28
  refine J_iload_n dX5_add_28 rfl 3 rfl ?_
  refine J_aload_n dX5_add_29 rfl 1 rfl ?_
  refine J_getI dX5_add_30 fl_X5_24 rfl (fun v2 => ?_)
  refine J_icmp_ne (tgt := 38) dX5_add_33 rfl ?_ ?_
  · refine J_aload_n dX5_add_38 rfl 1 rfl ?_
    refine J_aload_n dX5_add_39 rfl 2 rfl ?_
    refine J_iload_n dX5_add_40 rfl 3 rfl ?_
    refine J_iald dX5_add_41 (fun v3 => ?_)
    refine J_callVI (c := 3) (as := [.int v3]) dX5_add_42 (by decide) rfl (Nat.le_of_ble_eq_true rfl) (cw_X4_inverse _ (by decide)) q1120 q1121 q1122 q1123 np_X4_inverse (i_X4_inverse x1 v3) jad_id rfl (fun v4 => ?_)
    refine J_istore (env' := [(4, .int v4), (0, .ref x0), (1, .ref x1), (2, .ref x2), (3, .int x3)]) dX5_add_45 (by decide) rfl ?_
    refine J_iconst (v := 0) dX5_add_47 (by decide) ?_
    refine J_istore (env' := [(5, .int 0), (4, .int v4), (0, .ref x0), (1, .ref x1), (2, .ref x2), (3, .int x3)]) dX5_add_48 (by decide) rfl ?_
    refine J_loop (he := fun (t : Int32) => [(0, .ref x0), (1, .ref x1), (2, .ref x2), (3, .int x3), (4, .int v4), (5, .int t)]) [2, 3, 4, 5, 1, 0] rfl (fun t => ?_)
    exact j_X5_add_L50 D dA x0 x1 x2 x3 v4 t
  refine J_iconst (v := 0) dX5_add_36 (by decide) ?_
  exact J_zreturn0 dX5_add_37 rfl
noncomputable def X5_add_L8 (x0 : Nat) (x1 : Nat) (x2 : Nat) (x3 : Int32) : JM Mem (Int32 ⊕ (Int32)) :=
  jb (jgetI 3 2 x1) fun v1 =>
  if v1 ≤ x3 then
    jinl (X5_add_b28 x0 x1 x2 x3)
  else
  jb (jald mI 0 x2 x3) fun v35 =>
  if v35 = 0 then
    jcont (x3 + 1)
  else
    jinl (X5_add_b28 x0 x1 x2 x3)
theorem j_X5_add_L8 (D : va_G) (dA : Nat → ClassId) (x0 : Nat) (x1 : Nat) (x2 : Nat) (x3 : Int32) : J (PM D dA false) Y_X5_add [(0, .ref x0), (1, .ref x1), (2, .ref x2), (3, .int x3)] [] 8 (X5_add_L8 x0 x1 x2 x3) (FLoop (FRet injI) 8 (fun (t : Int32) => [(0, .ref x0), (1, .ref x1), (2, .ref x2), (3, .int t)])) := by
  unfold X5_add_L8
  refine J_iload_n dX5_add_8 rfl 3 rfl ?_
  refine J_aload_n dX5_add_9 rfl 1 rfl ?_
  refine J_getI dX5_add_10 fl_X5_24 rfl (fun v1 => ?_)
  refine J_icmp_ge (tgt := 28) dX5_add_13 rfl ?_ ?_
  · refine J_inl ?_
    refine J_sub [0, 1, 2, 3] rfl ?_
    exact j_X5_add_b28 D dA x0 x1 x2 x3
  refine J_aload_n dX5_add_16 rfl 2 rfl ?_
  refine J_iload_n dX5_add_17 rfl 3 rfl ?_
  refine J_iald dX5_add_18 (fun v35 => ?_)
  refine J_if_ne (tgt := 28) dX5_add_19 rfl ?_ ?_
  · refine J_inl ?_
    refine J_sub [0, 1, 2, 3] rfl ?_
    exact j_X5_add_b28 D dA x0 x1 x2 x3
  refine J_iinc (v := x3 + 1) (env' := [(3, .int (x3 + 1)), (0, .ref x0), (1, .ref x1), (2, .ref x2)]) dX5_add_22 3 rfl rfl (by decide) rfl ?_
  refine J_goto (tgt := 8) dX5_add_25 rfl ?_
  exact J_cont [1, 2, 3, 0] rfl
noncomputable def f_X5_add (x0 : Nat) (x1 : Nat) (x2 : Nat) : JM Mem Int32 :=
  jb (jcall 4 x0 (f_X5_reduce x0 x1 x2)) fun _ =>
  jloop (fun (t : Int32) => X5_add_L8 x0 x1 x2 t) 0
theorem j_X5_add (D : va_G) (dA : Nat → ClassId) (x0 : Nat) (x1 : Nat) (x2 : Nat) : J (PM D dA false) Y_X5_add [(0, .ref x0), (1, .ref x1), (2, .ref x2)] [] 0 (f_X5_add x0 x1 x2) (FRet injI) := by
  unfold f_X5_add
  refine J_aload_n dX5_add_0 rfl 0 rfl ?_
  refine J_aload_n dX5_add_1 rfl 1 rfl ?_
  refine J_aload_n dX5_add_2 rfl 2 rfl ?_
  refine J_callVV (c := 4) (as := [.ref x1, .ref x2]) dX5_add_3 (by decide) rfl (Nat.le_of_ble_eq_true rfl) (cw_X5_reduce _ (by decide)) q1115 q1116 q1117 q1118 np_X5_reduce (i_X5_reduce x0 x1 x2) jad_id rfl ?_
  refine J_iconst (v := 0) dX5_add_6 (by decide) ?_
  refine J_istore_n (env' := [(3, .int 0), (0, .ref x0), (1, .ref x1), (2, .ref x2)]) dX5_add_7 rfl (by decide) rfl ?_
  refine J_loop (he := fun (t : Int32) => [(0, .ref x0), (1, .ref x1), (2, .ref x2), (3, .int t)]) [1, 2, 3, 0] rfl (fun t => ?_)
  exact j_X5_add_L8 D dA x0 x1 x2 t
theorem i_X5_add (x0 : Nat) (x1 : Nat) (x2 : Nat) : Impl (ws_ yX5_add cX5_add 8 (some .boolean)) yX5_add 4 false 0 0 [.ref x0, .ref x1, .ref x2] (f_X5_add x0 x1 x2) injI := impl_of (plainFor_of_name (by decide)) (Nat.le_of_ble_eq_true rfl) (fun D dA => j_X5_add D dA x0 x1 x2)
theorem cw_X5_add (Y : JY) (h : 5 ≤ Y.2.2.2.1) : JCw Y (ws_ yX5_add cX5_add 8 (some .boolean)) yX5_add cX5_add 8 (some .boolean) 4 := ⟨h, by decide, lw_meth q1114, q195, by decide, by decide⟩
theorem np_X5_add : JNp yX5_add.desc 2 := by decide +kernel
-- BracketRoom$Span.all(LBracketRoom$World;)V
abbrev Y_X5_all : JY := (cX5_all, yX5_all.cls, 4, 1, yX5_all.name, none, [])
noncomputable def X5_all_b49 (x0 : Nat) (x2 : Int32) : JM Mem (Unit ⊕ (Int32)) :=
  jb (jgetA 4 1 x0) fun v3 =>
  jb (jast_i v3 x2 x2) fun _ =>
  jcont (x2 + 1)
theorem j_X5_all_b49 (D : va_G) (dA : Nat → ClassId) (x0 : Nat) (x2 : Int32) : J (PM D dA false) Y_X5_all [(0, .ref x0), (2, .int x2)] [] 49 (X5_all_b49 x0 x2) (FLoop (FRet injU) 10 (fun (t : Int32) => [(0, .ref x0), (2, .int t)])) := by
  unfold X5_all_b49
  refine J_aload_n dX5_all_49 rfl 0 rfl ?_
  refine J_getA dX5_all_50 fl_X5_16 rfl (fun v3 => ?_)
  refine J_iload_n dX5_all_53 rfl 1 rfl ?_
  refine J_iload_n dX5_all_54 rfl 1 rfl ?_
  refine J_iast dX5_all_55 ?_
  refine J_iinc (v := x2 + 1) (env' := [(2, .int (x2 + 1)), (0, .ref x0)]) dX5_all_56 1 rfl rfl (by decide) rfl ?_
  refine J_goto (tgt := 10) dX5_all_59 rfl ?_
  exact J_cont [1, 0] rfl
noncomputable def X5_all_b42 (x0 : Nat) (x2 : Int32) (x3 : Int32) (s0 : Nat) (s1 : Int32) (s2 : Int32) : JM Mem ((Unit ⊕ (Int32)) ⊕ (Int32)) :=
  jb (jast_i s0 s1 s2) fun _ =>
  jcont (x3 + 1)
theorem j_X5_all_b42 (D : va_G) (dA : Nat → ClassId) (x0 : Nat) (x2 : Int32) (x3 : Int32) (s0 : Nat) (s1 : Int32) (s2 : Int32) : J (PM D dA false) Y_X5_all [(0, .ref x0), (2, .int x2), (3, .int x3)] [.int s2, .int s1, .ref s0] 42 (X5_all_b42 x0 x2 x3 s0 s1 s2) (FLoop (FLoop (FRet injU) 10 (fun (t : Int32) => [(0, .ref x0), (2, .int t)])) 20 (fun (t : Int32) => [(0, .ref x0), (2, .int x2), (3, .int t)])) := by
  unfold X5_all_b42
  refine J_iast dX5_all_42 ?_
  refine J_iinc (v := x3 + 1) (env' := [(3, .int (x3 + 1)), (0, .ref x0), (2, .int x2)]) dX5_all_43 2 rfl rfl (by decide) rfl ?_
  refine J_goto (tgt := 20) dX5_all_46 rfl ?_
  exact J_cont [1, 2, 0] rfl
noncomputable def X5_all_L20 (x0 : Nat) (x2 : Int32) (x3 : Int32) : JM Mem ((Unit ⊕ (Int32)) ⊕ (Int32)) :=
  if 5 ≤ x3 then
    jinl (X5_all_b49 x0 x2)
  else
  jb (jgetA 4 0 x0) fun v4 =>
  jb (jaldA 5 v4 x2) fun v5 =>
  if x3 = x2 then
    X5_all_b42 x0 x2 x3 v5 x3 1
  else
    X5_all_b42 x0 x2 x3 v5 x3 0
theorem j_X5_all_L20 (D : va_G) (dA : Nat → ClassId) (x0 : Nat) (x2 : Int32) (x3 : Int32) : J (PM D dA false) Y_X5_all [(0, .ref x0), (2, .int x2), (3, .int x3)] [] 20 (X5_all_L20 x0 x2 x3) (FLoop (FLoop (FRet injU) 10 (fun (t : Int32) => [(0, .ref x0), (2, .int t)])) 20 (fun (t : Int32) => [(0, .ref x0), (2, .int x2), (3, .int t)])) := by
  unfold X5_all_L20
  refine J_iload_n dX5_all_20 rfl 2 rfl ?_
  refine J_iconst (v := 5) dX5_all_21 (by decide) ?_
  refine J_icmp_ge (tgt := 49) dX5_all_22 rfl ?_ ?_
  · refine J_inl ?_
    refine J_sub [0, 1] rfl ?_
    exact j_X5_all_b49 D dA x0 x2
  refine J_aload_n dX5_all_25 rfl 0 rfl ?_
  refine J_getA dX5_all_26 fl_X5_11 rfl (fun v4 => ?_)
  refine J_iload_n dX5_all_29 rfl 1 rfl ?_
  refine J_aald dX5_all_30 rfl (by decide) (fun v5 => ?_)
  refine J_iload_n dX5_all_31 rfl 2 rfl ?_
  refine J_iload_n dX5_all_32 rfl 2 rfl ?_
  refine J_iload_n dX5_all_33 rfl 1 rfl ?_
  refine J_icmp_ne (tgt := 41) dX5_all_34 rfl ?_ ?_
  · refine J_iconst (v := 0) dX5_all_41 (by decide) ?_
    refine J_sub [0, 1, 2] rfl ?_
    exact j_X5_all_b42 D dA x0 x2 x3 v5 x3 0
  refine J_iconst (v := 1) dX5_all_37 (by decide) ?_
  refine J_goto (tgt := 42) dX5_all_38 rfl ?_
  refine J_sub [0, 1, 2] rfl ?_
  exact j_X5_all_b42 D dA x0 x2 x3 v5 x3 1
noncomputable def X5_all_L10 (x0 : Nat) (x2 : Int32) : JM Mem (Unit ⊕ (Int32)) :=
  jb (jgetI 4 2 x0) fun v2 =>
  if v2 ≤ x2 then
    jinl (jp ())
  else
    jloop (fun (t : Int32) => X5_all_L20 x0 x2 t) 0
theorem j_X5_all_L10 (D : va_G) (dA : Nat → ClassId) (x0 : Nat) (x2 : Int32) : J (PM D dA false) Y_X5_all [(0, .ref x0), (2, .int x2)] [] 10 (X5_all_L10 x0 x2) (FLoop (FRet injU) 10 (fun (t : Int32) => [(0, .ref x0), (2, .int t)])) := by
  unfold X5_all_L10
  refine J_iload_n dX5_all_10 rfl 1 rfl ?_
  refine J_aload_n dX5_all_11 rfl 0 rfl ?_
  refine J_getI dX5_all_12 fl_X5_20 rfl (fun v2 => ?_)
  refine J_icmp_ge (tgt := 62) dX5_all_15 rfl ?_ ?_
  · refine J_inl ?_
    exact J_return dX5_all_62 rfl
  refine J_iconst (v := 0) dX5_all_18 (by decide) ?_
  refine J_istore_n (env' := [(3, .int 0), (0, .ref x0), (2, .int x2)]) dX5_all_19 rfl (by decide) rfl ?_
  refine J_loop (he := fun (t : Int32) => [(0, .ref x0), (2, .int x2), (3, .int t)]) [1, 2, 0] rfl (fun t => ?_)
  exact j_X5_all_L20 D dA x0 x2 t
noncomputable def f_X5_all (x0 : Nat) (x1 : Nat) : JM Mem Unit :=
  jb (jgetI 3 2 x1) fun v1 =>
  jb (jputI 4 2 x0 v1) fun _ =>
  jloop (fun (t : Int32) => X5_all_L10 x0 t) 0
theorem j_X5_all (D : va_G) (dA : Nat → ClassId) (x0 : Nat) (x1 : Nat) : J (PM D dA false) Y_X5_all [(0, .ref x0), (1, .ref x1)] [] 0 (f_X5_all x0 x1) (FRet injU) := by
  unfold f_X5_all
  refine J_aload_n dX5_all_0 rfl 0 rfl ?_
  refine J_aload_n dX5_all_1 rfl 1 rfl ?_
  refine J_getI dX5_all_2 fl_X5_24 rfl (fun v1 => ?_)
  refine J_putI dX5_all_5 ⟨fl_X5_20, Or.inl rfl⟩ rfl ?_
  refine J_iconst (v := 0) dX5_all_8 (by decide) ?_
  refine J_istore_n (env' := [(2, .int 0), (0, .ref x0), (1, .ref x1)]) dX5_all_9 rfl (by decide) rfl ?_
  refine J_loop (he := fun (t : Int32) => [(0, .ref x0), (2, .int t)]) [1, 0] rfl (fun t => ?_)
  exact j_X5_all_L10 D dA x0 t
theorem i_X5_all (x0 : Nat) (x1 : Nat) : Impl (ws_ yX5_all cX5_all 4 none) yX5_all 1 false 0 0 [.ref x0, .ref x1] (f_X5_all x0 x1) injU := impl_of (plainFor_of_name (by decide)) (Nat.le_of_ble_eq_true rfl) (fun D dA => j_X5_all D dA x0 x1)
theorem cw_X5_all (Y : JY) (h : 2 ≤ Y.2.2.2.1) : JCw Y (ws_ yX5_all cX5_all 4 none) yX5_all cX5_all 4 none 1 := ⟨h, by decide, lw_meth q1132, q195, by decide, by decide⟩
theorem np_X5_all : JNp yX5_all.desc 1 := by decide +kernel
-- BracketRoom$Span.copy(LBracketRoom$Span;)V
abbrev Y_X5_copy : JY := (cX5_copy, yX5_copy.cls, 3, 1, yX5_copy.name, none, [])
noncomputable def X5_copy_L10 (x0 : Nat) (x1 : Nat) (x2 : Int32) : JM Mem (Unit ⊕ (Int32)) :=
  jb (jgetI 4 2 x0) fun v2 =>
  if v2 ≤ x2 then
    jinl (jp ())
  else
  jb (jgetA 4 0 x1) fun v3 =>
  jb (jaldA 5 v3 x2) fun v4 =>
  jb (jgetA 4 0 x0) fun v5 =>
  jb (jaldA 5 v5 x2) fun v6 =>
  jb (jcopy 0 v4 0 v6 0 5) fun _ =>
  jb (jgetA 4 1 x0) fun v7 =>
  jb (jgetA 4 1 x1) fun v8 =>
  jb (jald mI 0 v8 x2) fun v9 =>
  jb (jast_i v7 x2 v9) fun _ =>
  jcont (x2 + 1)
theorem j_X5_copy_L10 (D : va_G) (dA : Nat → ClassId) (x0 : Nat) (x1 : Nat) (x2 : Int32) : J (PM D dA false) Y_X5_copy [(0, .ref x0), (1, .ref x1), (2, .int x2)] [] 10 (X5_copy_L10 x0 x1 x2) (FLoop (FRet injU) 10 (fun (t : Int32) => [(0, .ref x0), (1, .ref x1), (2, .int t)])) := by
  unfold X5_copy_L10
  refine J_iload_n dX5_copy_10 rfl 2 rfl ?_
  refine J_aload_n dX5_copy_11 rfl 0 rfl ?_
  refine J_getI dX5_copy_12 fl_X5_20 rfl (fun v2 => ?_)
  refine J_icmp_ge (tgt := 54) dX5_copy_15 rfl ?_ ?_
  · refine J_inl ?_
    exact J_return dX5_copy_54 rfl
  refine J_aload_n dX5_copy_18 rfl 1 rfl ?_
  refine J_getA dX5_copy_19 fl_X5_11 rfl (fun v3 => ?_)
  refine J_iload_n dX5_copy_22 rfl 2 rfl ?_
  refine J_aald dX5_copy_23 rfl (by decide) (fun v4 => ?_)
  refine J_iconst (v := 0) dX5_copy_24 (by decide) ?_
  refine J_aload_n dX5_copy_25 rfl 0 rfl ?_
  refine J_getA dX5_copy_26 fl_X5_11 rfl (fun v5 => ?_)
  refine J_iload_n dX5_copy_29 rfl 2 rfl ?_
  refine J_aald dX5_copy_30 rfl (by decide) (fun v6 => ?_)
  refine J_iconst (v := 0) dX5_copy_31 (by decide) ?_
  refine J_iconst (v := 5) dX5_copy_32 (by decide) ?_
  refine J_copy (t := 0) dX5_copy_33 (by decide) (Nat.le_of_ble_eq_true rfl) (by decide) q1124 q745 q744 q204 ?_
  refine J_aload_n dX5_copy_36 rfl 0 rfl ?_
  refine J_getA dX5_copy_37 fl_X5_16 rfl (fun v7 => ?_)
  refine J_iload_n dX5_copy_40 rfl 2 rfl ?_
  refine J_aload_n dX5_copy_41 rfl 1 rfl ?_
  refine J_getA dX5_copy_42 fl_X5_16 rfl (fun v8 => ?_)
  refine J_iload_n dX5_copy_45 rfl 2 rfl ?_
  refine J_iald dX5_copy_46 (fun v9 => ?_)
  refine J_iast dX5_copy_47 ?_
  refine J_iinc (v := x2 + 1) (env' := [(2, .int (x2 + 1)), (0, .ref x0), (1, .ref x1)]) dX5_copy_48 2 rfl rfl (by decide) rfl ?_
  refine J_goto (tgt := 10) dX5_copy_51 rfl ?_
  exact J_cont [1, 2, 0] rfl
noncomputable def f_X5_copy (x0 : Nat) (x1 : Nat) : JM Mem Unit :=
  jb (jgetI 4 2 x1) fun v1 =>
  jb (jputI 4 2 x0 v1) fun _ =>
  jloop (fun (t : Int32) => X5_copy_L10 x0 x1 t) 0
theorem j_X5_copy (D : va_G) (dA : Nat → ClassId) (x0 : Nat) (x1 : Nat) : J (PM D dA false) Y_X5_copy [(0, .ref x0), (1, .ref x1)] [] 0 (f_X5_copy x0 x1) (FRet injU) := by
  unfold f_X5_copy
  refine J_aload_n dX5_copy_0 rfl 0 rfl ?_
  refine J_aload_n dX5_copy_1 rfl 1 rfl ?_
  refine J_getI dX5_copy_2 fl_X5_20 rfl (fun v1 => ?_)
  refine J_putI dX5_copy_5 ⟨fl_X5_20, Or.inl rfl⟩ rfl ?_
  refine J_iconst (v := 0) dX5_copy_8 (by decide) ?_
  refine J_istore_n (env' := [(2, .int 0), (0, .ref x0), (1, .ref x1)]) dX5_copy_9 rfl (by decide) rfl ?_
  refine J_loop (he := fun (t : Int32) => [(0, .ref x0), (1, .ref x1), (2, .int t)]) [1, 2, 0] rfl (fun t => ?_)
  exact j_X5_copy_L10 D dA x0 x1 t
theorem i_X5_copy (x0 : Nat) (x1 : Nat) : Impl (ws_ yX5_copy cX5_copy 3 none) yX5_copy 1 false 0 0 [.ref x0, .ref x1] (f_X5_copy x0 x1) injU := impl_of (plainFor_of_name (by decide)) (Nat.le_of_ble_eq_true rfl) (fun D dA => j_X5_copy D dA x0 x1)
theorem cw_X5_copy (Y : JY) (h : 2 ≤ Y.2.2.2.1) : JCw Y (ws_ yX5_copy cX5_copy 3 none) yX5_copy cX5_copy 3 none 1 := ⟨h, by decide, lw_meth q1153, q195, by decide, by decide⟩
theorem np_X5_copy : JNp yX5_copy.desc 1 := by decide +kernel
-- BracketRoom$World.rank([[III)I
abbrev Y_X4_rank : JY := (cX4_rank, yX4_rank.cls, 12, 3, yX4_rank.name, (some .int), [])
noncomputable def X4_rank_b196 (x0 : Nat) (x1 : Nat) (x2 : Int32) (x3 : Int32) (x4 : Int32) (x5 : Int32) : JM Mem (Int32 ⊕ (Int32 × Int32)) :=
  jcont (x4, x5 + 1)
theorem j_X4_rank_b196 (D : va_G) (dA : Nat → ClassId) (x0 : Nat) (x1 : Nat) (x2 : Int32) (x3 : Int32) (x4 : Int32) (x5 : Int32) : J (PM D dA false) Y_X4_rank [(0, .ref x0), (1, .ref x1), (2, .int x2), (3, .int x3), (4, .int x4), (5, .int x5)] [] 196 (X4_rank_b196 x0 x1 x2 x3 x4 x5) (FLoop (FRet injI) 6 (fun (t : Int32 × Int32) => [(0, .ref x0), (1, .ref x1), (2, .int x2), (3, .int x3), (4, .int t.1), (5, .int t.2)])) := by
  unfold X4_rank_b196
  refine J_iinc (v := x5 + 1) (env' := [(5, .int (x5 + 1)), (0, .ref x0), (1, .ref x1), (2, .int x2), (3, .int x3), (4, .int x4)]) dX4_rank_196 5 rfl rfl (by decide) rfl ?_
  refine J_goto (tgt := 6) dX4_rank_199 rfl ?_
  exact J_cont [1, 2, 3, 4, 5, 0] rfl
noncomputable def X4_rank_b193 (x0 : Nat) (x1 : Nat) (x2 : Int32) (x3 : Int32) (x4 : Int32) (x5 : Int32) : JM Mem (Int32 ⊕ (Int32 × Int32)) :=
  X4_rank_b196 x0 x1 x2 x3 (x4 + 1) x5
theorem j_X4_rank_b193 (D : va_G) (dA : Nat → ClassId) (x0 : Nat) (x1 : Nat) (x2 : Int32) (x3 : Int32) (x4 : Int32) (x5 : Int32) : J (PM D dA false) Y_X4_rank [(0, .ref x0), (1, .ref x1), (2, .int x2), (3, .int x3), (4, .int x4), (5, .int x5)] [] 193 (X4_rank_b193 x0 x1 x2 x3 x4 x5) (FLoop (FRet injI) 6 (fun (t : Int32 × Int32) => [(0, .ref x0), (1, .ref x1), (2, .int x2), (3, .int x3), (4, .int t.1), (5, .int t.2)])) := by
  unfold X4_rank_b193
  refine J_iinc (v := x4 + 1) (env' := [(4, .int (x4 + 1)), (0, .ref x0), (1, .ref x1), (2, .int x2), (3, .int x3), (5, .int x5)]) dX4_rank_193 4 rfl rfl (by decide) rfl ?_
  refine J_sub [1, 2, 3, 4, 0, 5] rfl ?_
  exact j_X4_rank_b196 D dA x0 x1 x2 x3 (x4 + 1) x5
noncomputable def X4_rank_b187 (x0 : Nat) (x1 : Nat) (x2 : Int32) (x3 : Int32) (x4 : Int32) (x5 : Int32) (x7 : Nat) (x9 : Int32) : JM Mem ((Int32 ⊕ (Int32 × Int32)) ⊕ (Int32)) :=
  jcont (x9 + 1)
theorem j_X4_rank_b187 (D : va_G) (dA : Nat → ClassId) (x0 : Nat) (x1 : Nat) (x2 : Int32) (x3 : Int32) (x4 : Int32) (x5 : Int32) (x7 : Nat) (x9 : Int32) : J (PM D dA false) Y_X4_rank [(0, .ref x0), (1, .ref x1), (2, .int x2), (3, .int x3), (4, .int x4), (5, .int x5), (7, .ref x7), (9, .int x9)] [] 187 (X4_rank_b187 x0 x1 x2 x3 x4 x5 x7 x9) (FLoop (FLoop (FRet injI) 6 (fun (t : Int32 × Int32) => [(0, .ref x0), (1, .ref x1), (2, .int x2), (3, .int x3), (4, .int t.1), (5, .int t.2)])) 124 (fun (t : Int32) => [(0, .ref x0), (1, .ref x1), (2, .int x2), (3, .int x3), (4, .int x4), (5, .int x5), (7, .ref x7), (9, .int t)])) := by
  unfold X4_rank_b187
  refine J_iinc (v := x9 + 1) (env' := [(9, .int (x9 + 1)), (0, .ref x0), (1, .ref x1), (2, .int x2), (3, .int x3), (4, .int x4), (5, .int x5), (7, .ref x7)]) dX4_rank_187 7 rfl rfl (by decide) rfl ?_
  refine J_goto (tgt := 124) dX4_rank_190 rfl ?_
  exact J_cont [1, 2, 3, 4, 5, 6, 7, 0] rfl
noncomputable def X4_rank_L143 (x0 : Nat) (x1 : Nat) (x2 : Int32) (x3 : Int32) (x4 : Int32) (x5 : Int32) (x7 : Nat) (x9 : Int32) (x10 : Int32) (x11 : Int32) : JM Mem (((Int32 ⊕ (Int32 × Int32)) ⊕ (Int32)) ⊕ (Int32)) :=
  if x3 ≤ x11 then
    jinl (X4_rank_b187 x0 x1 x2 x3 x4 x5 x7 x9)
  else
  if x10 = 0 then
    jinl (X4_rank_b187 x0 x1 x2 x3 x4 x5 x7 x9)
  else
  jb (jaldA 5 x1 x9) fun v8 =>
  jb (jaldA 5 x1 x9) fun v9 =>
  jb (jald mI 0 v9 x11) fun v10 =>
  jb (jald mI 0 x7 x11) fun v11 =>
  jb (jcall 3 x0 (f_X4_by x0 (v10 - (x10 * v11)))) fun v12 =>
  jb (jast_i v8 x11 v12) fun _ =>
  jcont (x11 + 1)
theorem j_X4_rank_L143 (D : va_G) (dA : Nat → ClassId) (x0 : Nat) (x1 : Nat) (x2 : Int32) (x3 : Int32) (x4 : Int32) (x5 : Int32) (x7 : Nat) (x9 : Int32) (x10 : Int32) (x11 : Int32) : J (PM D dA false) Y_X4_rank [(0, .ref x0), (1, .ref x1), (2, .int x2), (3, .int x3), (4, .int x4), (5, .int x5), (7, .ref x7), (9, .int x9), (10, .int x10), (11, .int x11)] [] 143 (X4_rank_L143 x0 x1 x2 x3 x4 x5 x7 x9 x10 x11) (FLoop (FLoop (FLoop (FRet injI) 6 (fun (t : Int32 × Int32) => [(0, .ref x0), (1, .ref x1), (2, .int x2), (3, .int x3), (4, .int t.1), (5, .int t.2)])) 124 (fun (t : Int32) => [(0, .ref x0), (1, .ref x1), (2, .int x2), (3, .int x3), (4, .int x4), (5, .int x5), (7, .ref x7), (9, .int t)])) 143 (fun (t : Int32) => [(0, .ref x0), (1, .ref x1), (2, .int x2), (3, .int x3), (4, .int x4), (5, .int x5), (7, .ref x7), (9, .int x9), (10, .int x10), (11, .int t)])) := by
  unfold X4_rank_L143
  refine J_iload dX4_rank_143 9 rfl ?_
  refine J_iload_n dX4_rank_145 rfl 3 rfl ?_
  refine J_icmp_ge (tgt := 187) dX4_rank_146 rfl ?_ ?_
  · refine J_inl ?_
    refine J_sub [0, 1, 2, 3, 4, 5, 6, 7] rfl ?_
    exact j_X4_rank_b187 D dA x0 x1 x2 x3 x4 x5 x7 x9
  refine J_iload dX4_rank_149 8 rfl ?_
  refine J_if_eq (tgt := 187) dX4_rank_151 rfl ?_ ?_
  · refine J_inl ?_
    refine J_sub [0, 1, 2, 3, 4, 5, 6, 7] rfl ?_
    exact j_X4_rank_b187 D dA x0 x1 x2 x3 x4 x5 x7 x9
  refine J_aload_n dX4_rank_154 rfl 1 rfl ?_
  refine J_iload dX4_rank_155 7 rfl ?_
  refine J_aald dX4_rank_157 rfl (by decide) (fun v8 => ?_)
  refine J_iload dX4_rank_158 9 rfl ?_
  refine J_aload_n dX4_rank_160 rfl 0 rfl ?_
  refine J_aload_n dX4_rank_161 rfl 1 rfl ?_
  refine J_iload dX4_rank_162 7 rfl ?_
  refine J_aald dX4_rank_164 rfl (by decide) (fun v9 => ?_)
  refine J_iload dX4_rank_165 9 rfl ?_
  refine J_iald dX4_rank_167 (fun v10 => ?_)
  refine J_iload dX4_rank_168 8 rfl ?_
  refine J_aload dX4_rank_170 6 rfl ?_
  refine J_iload dX4_rank_172 9 rfl ?_
  refine J_iald dX4_rank_174 (fun v11 => ?_)
  refine J_imul dX4_rank_175 ?_
  refine J_isub dX4_rank_176 ?_
  refine J_callVI (c := 3) (as := [.int (v10 - (x10 * v11))]) dX4_rank_177 (by decide) rfl (Nat.le_of_ble_eq_true rfl) (cw_X4_by _ (by decide)) q928 q929 q930 q931 np_X4_by (i_X4_by x0 (v10 - (x10 * v11))) jad_id rfl (fun v12 => ?_)
  refine J_iast dX4_rank_180 ?_
  refine J_iinc (v := x11 + 1) (env' := [(11, .int (x11 + 1)), (0, .ref x0), (1, .ref x1), (2, .int x2), (3, .int x3), (4, .int x4), (5, .int x5), (7, .ref x7), (9, .int x9), (10, .int x10)]) dX4_rank_181 9 rfl rfl (by decide) rfl ?_
  refine J_goto (tgt := 143) dX4_rank_184 rfl ?_
  exact J_cont [1, 2, 3, 4, 5, 6, 7, 8, 9, 0] rfl
noncomputable def X4_rank_L124 (x0 : Nat) (x1 : Nat) (x2 : Int32) (x3 : Int32) (x4 : Int32) (x5 : Int32) (x7 : Nat) (x9 : Int32) : JM Mem ((Int32 ⊕ (Int32 × Int32)) ⊕ (Int32)) :=
  if x2 ≤ x9 then
    jinl (X4_rank_b193 x0 x1 x2 x3 x4 x5)
  else
  jb (jaldA 5 x1 x9) fun v6 =>
  jb (jald mI 0 v6 x5) fun v7 =>
  jloop (fun (t : Int32) => X4_rank_L143 x0 x1 x2 x3 x4 x5 x7 x9 v7 t) x5
theorem j_X4_rank_L124 (D : va_G) (dA : Nat → ClassId) (x0 : Nat) (x1 : Nat) (x2 : Int32) (x3 : Int32) (x4 : Int32) (x5 : Int32) (x7 : Nat) (x9 : Int32) : J (PM D dA false) Y_X4_rank [(0, .ref x0), (1, .ref x1), (2, .int x2), (3, .int x3), (4, .int x4), (5, .int x5), (7, .ref x7), (9, .int x9)] [] 124 (X4_rank_L124 x0 x1 x2 x3 x4 x5 x7 x9) (FLoop (FLoop (FRet injI) 6 (fun (t : Int32 × Int32) => [(0, .ref x0), (1, .ref x1), (2, .int x2), (3, .int x3), (4, .int t.1), (5, .int t.2)])) 124 (fun (t : Int32) => [(0, .ref x0), (1, .ref x1), (2, .int x2), (3, .int x3), (4, .int x4), (5, .int x5), (7, .ref x7), (9, .int t)])) := by
  unfold X4_rank_L124
  refine J_iload dX4_rank_124 7 rfl ?_
  refine J_iload_n dX4_rank_126 rfl 2 rfl ?_
  refine J_icmp_ge (tgt := 193) dX4_rank_127 rfl ?_ ?_
  · refine J_inl ?_
    refine J_sub [0, 1, 2, 3, 4, 5] rfl ?_
    exact j_X4_rank_b193 D dA x0 x1 x2 x3 x4 x5
  refine J_aload_n dX4_rank_130 rfl 1 rfl ?_
  refine J_iload dX4_rank_131 7 rfl ?_
  refine J_aald dX4_rank_133 rfl (by decide) (fun v6 => ?_)
  refine J_iload dX4_rank_134 5 rfl ?_
  refine J_iald dX4_rank_136 (fun v7 => ?_)
  refine J_istore (env' := [(10, .int v7), (0, .ref x0), (1, .ref x1), (2, .int x2), (3, .int x3), (4, .int x4), (5, .int x5), (7, .ref x7), (9, .int x9)]) dX4_rank_137 (by decide) rfl ?_
  refine J_iload dX4_rank_139 6 rfl ?_
  refine J_istore (env' := [(11, .int x5), (10, .int v7), (0, .ref x0), (1, .ref x1), (2, .int x2), (3, .int x3), (4, .int x4), (5, .int x5), (7, .ref x7), (9, .int x9)]) dX4_rank_141 (by decide) rfl ?_
  refine J_loop (he := fun (t : Int32) => [(0, .ref x0), (1, .ref x1), (2, .int x2), (3, .int x3), (4, .int x4), (5, .int x5), (7, .ref x7), (9, .int x9), (10, .int v7), (11, .int t)]) [2, 3, 4, 5, 6, 7, 8, 9, 1, 0] rfl (fun t => ?_)
  exact j_X4_rank_L143 D dA x0 x1 x2 x3 x4 x5 x7 x9 v7 t
noncomputable def X4_rank_b118 (x0 : Nat) (x1 : Nat) (x2 : Int32) (x3 : Int32) (x4 : Int32) (x5 : Int32) (x7 : Nat) : JM Mem (Int32 ⊕ (Int32 × Int32)) :=
  jlet (x4 + 1) fun y5 =>
  jloop (fun (t : Int32) => X4_rank_L124 x0 x1 x2 x3 x4 x5 x7 t) y5
theorem j_X4_rank_b118 (D : va_G) (dA : Nat → ClassId) (x0 : Nat) (x1 : Nat) (x2 : Int32) (x3 : Int32) (x4 : Int32) (x5 : Int32) (x7 : Nat) : J (PM D dA false) Y_X4_rank [(0, .ref x0), (1, .ref x1), (2, .int x2), (3, .int x3), (4, .int x4), (5, .int x5), (7, .ref x7)] [] 118 (X4_rank_b118 x0 x1 x2 x3 x4 x5 x7) (FLoop (FRet injI) 6 (fun (t : Int32 × Int32) => [(0, .ref x0), (1, .ref x1), (2, .int x2), (3, .int x3), (4, .int t.1), (5, .int t.2)])) := by
  unfold X4_rank_b118
  refine J_iload dX4_rank_118 4 rfl ?_
  refine J_iconst (v := 1) dX4_rank_120 (by decide) ?_
  refine J_iadd dX4_rank_121 ?_
  refine J_letI (fun y5 => ?_)
  refine J_istore (env' := [(9, .int y5), (0, .ref x0), (1, .ref x1), (2, .int x2), (3, .int x3), (4, .int x4), (5, .int x5), (7, .ref x7)]) dX4_rank_122 (by decide) rfl ?_
  refine J_loop (he := fun (t : Int32) => [(0, .ref x0), (1, .ref x1), (2, .int x2), (3, .int x3), (4, .int x4), (5, .int x5), (7, .ref x7), (9, .int t)]) [1, 2, 3, 4, 5, 6, 7, 0] rfl (fun t => ?_)
  exact j_X4_rank_L124 D dA x0 x1 x2 x3 x4 x5 x7 t
noncomputable def X4_rank_L88 (x0 : Nat) (x1 : Nat) (x2 : Int32) (x3 : Int32) (x4 : Int32) (x5 : Int32) (x7 : Nat) (x8 : Int32) (x9 : Int32) : JM Mem ((Int32 ⊕ (Int32 × Int32)) ⊕ (Int32)) :=
  if x3 ≤ x9 then
    jinl (X4_rank_b118 x0 x1 x2 x3 x4 x5 x7)
  else
  jb (jald mI 0 x7 x9) fun v13 =>
  jb (jgetI 3 1 x0) fun v14 =>
  jb (jrem (v13 * x8) v14) fun v15 =>
  jb (jast_i x7 x9 v15) fun _ =>
  jcont (x9 + 1)
theorem j_X4_rank_L88 (D : va_G) (dA : Nat → ClassId) (x0 : Nat) (x1 : Nat) (x2 : Int32) (x3 : Int32) (x4 : Int32) (x5 : Int32) (x7 : Nat) (x8 : Int32) (x9 : Int32) : J (PM D dA false) Y_X4_rank [(0, .ref x0), (1, .ref x1), (2, .int x2), (3, .int x3), (4, .int x4), (5, .int x5), (7, .ref x7), (8, .int x8), (9, .int x9)] [] 88 (X4_rank_L88 x0 x1 x2 x3 x4 x5 x7 x8 x9) (FLoop (FLoop (FRet injI) 6 (fun (t : Int32 × Int32) => [(0, .ref x0), (1, .ref x1), (2, .int x2), (3, .int x3), (4, .int t.1), (5, .int t.2)])) 88 (fun (t : Int32) => [(0, .ref x0), (1, .ref x1), (2, .int x2), (3, .int x3), (4, .int x4), (5, .int x5), (7, .ref x7), (8, .int x8), (9, .int t)])) := by
  unfold X4_rank_L88
  refine J_iload dX4_rank_88 8 rfl ?_
  refine J_iload_n dX4_rank_90 rfl 3 rfl ?_
  refine J_icmp_ge (tgt := 118) dX4_rank_91 rfl ?_ ?_
  · refine J_inl ?_
    refine J_sub [0, 1, 2, 3, 4, 5, 6] rfl ?_
    exact j_X4_rank_b118 D dA x0 x1 x2 x3 x4 x5 x7
  refine J_aload dX4_rank_94 6 rfl ?_
  refine J_iload dX4_rank_96 8 rfl ?_
  refine J_aload dX4_rank_98 6 rfl ?_
  refine J_iload dX4_rank_100 8 rfl ?_
  refine J_iald dX4_rank_102 (fun v13 => ?_)
  refine J_iload dX4_rank_103 7 rfl ?_
  refine J_imul dX4_rank_105 ?_
  refine J_aload_n dX4_rank_106 rfl 0 rfl ?_
  refine J_getI dX4_rank_107 fl_X4_16 rfl (fun v14 => ?_)
  refine J_irem dX4_rank_110 (fun v15 => ?_)
  refine J_iast dX4_rank_111 ?_
  refine J_iinc (v := x9 + 1) (env' := [(9, .int (x9 + 1)), (0, .ref x0), (1, .ref x1), (2, .int x2), (3, .int x3), (4, .int x4), (5, .int x5), (7, .ref x7), (8, .int x8)]) dX4_rank_112 8 rfl rfl (by decide) rfl ?_
  refine J_goto (tgt := 88) dX4_rank_115 rfl ?_
  exact J_cont [1, 2, 3, 4, 5, 6, 7, 8, 0] rfl
noncomputable def X4_rank_b44 (x0 : Nat) (x1 : Nat) (x2 : Int32) (x3 : Int32) (x4 : Int32) (x5 : Int32) (x6 : Int32) : JM Mem (Int32 ⊕ (Int32 × Int32)) :=
  if x6 = x2 then
    X4_rank_b196 x0 x1 x2 x3 x4 x5
  else
  jb (jaldA 5 x1 x6) fun v1 =>
  jb (jaldA 5 x1 x4) fun v2 =>
  jb (jast_r x1 x6 v2) fun _ =>
  jb (jast_r x1 x4 v1) fun _ =>
  jb (jald mI 0 v1 x5) fun v3 =>
  jb (jcall 3 x0 (f_X4_inverse x0 v3)) fun v4 =>
  jloop (fun (t : Int32) => X4_rank_L88 x0 x1 x2 x3 x4 x5 v1 v4 t) x5
theorem j_X4_rank_b44 (D : va_G) (dA : Nat → ClassId) (x0 : Nat) (x1 : Nat) (x2 : Int32) (x3 : Int32) (x4 : Int32) (x5 : Int32) (x6 : Int32) : J (PM D dA false) Y_X4_rank [(0, .ref x0), (1, .ref x1), (2, .int x2), (3, .int x3), (4, .int x4), (5, .int x5), (6, .int x6)] [] 44 (X4_rank_b44 x0 x1 x2 x3 x4 x5 x6) (FLoop (FRet injI) 6 (fun (t : Int32 × Int32) => [(0, .ref x0), (1, .ref x1), (2, .int x2), (3, .int x3), (4, .int t.1), (5, .int t.2)])) := by
  unfold X4_rank_b44
  refine J_iload dX4_rank_44 6 rfl ?_
  refine J_iload_n dX4_rank_46 rfl 2 rfl ?_
  refine J_icmp_ne (tgt := 53) dX4_rank_47 rfl ?_ ?_
  · refine J_aload_n dX4_rank_53 rfl 1 rfl ?_
    refine J_iload dX4_rank_54 6 rfl ?_
    refine J_aald dX4_rank_56 rfl (by decide) (fun v1 => ?_)
    refine J_astore (env' := [(7, .ref v1), (0, .ref x0), (1, .ref x1), (2, .int x2), (3, .int x3), (4, .int x4), (5, .int x5), (6, .int x6)]) dX4_rank_57 (by decide) rfl ?_
    refine J_aload_n dX4_rank_59 rfl 2 rfl ?_
    refine J_iload dX4_rank_60 7 rfl ?_
    refine J_aload_n dX4_rank_62 rfl 2 rfl ?_
    refine J_iload dX4_rank_63 5 rfl ?_
    refine J_aald dX4_rank_65 rfl (by decide) (fun v2 => ?_)
    refine J_aastr dX4_rank_66 ?_
    refine J_aload_n dX4_rank_67 rfl 2 rfl ?_
    refine J_iload dX4_rank_68 5 rfl ?_
    refine J_aload dX4_rank_70 0 rfl ?_
    refine J_aastr dX4_rank_72 ?_
    refine J_aload_n dX4_rank_73 rfl 1 rfl ?_
    refine J_aload dX4_rank_74 0 rfl ?_
    refine J_iload dX4_rank_76 6 rfl ?_
    refine J_iald dX4_rank_78 (fun v3 => ?_)
    refine J_callVI (c := 3) (as := [.int v3]) dX4_rank_79 (by decide) rfl (Nat.le_of_ble_eq_true rfl) (cw_X4_inverse _ (by decide)) q1178 q1121 q1122 q1123 np_X4_inverse (i_X4_inverse x0 v3) jad_id rfl (fun v4 => ?_)
    refine J_istore (env' := [(8, .int v4), (7, .ref v1), (0, .ref x0), (1, .ref x1), (2, .int x2), (3, .int x3), (4, .int x4), (5, .int x5), (6, .int x6)]) dX4_rank_82 (by decide) rfl ?_
    refine J_iload dX4_rank_84 7 rfl ?_
    refine J_istore (env' := [(9, .int x5), (8, .int v4), (7, .ref v1), (0, .ref x0), (1, .ref x1), (2, .int x2), (3, .int x3), (4, .int x4), (5, .int x5), (6, .int x6)]) dX4_rank_86 (by decide) rfl ?_
    refine J_loop (he := fun (t : Int32) => [(0, .ref x0), (1, .ref x1), (2, .int x2), (3, .int x3), (4, .int x4), (5, .int x5), (7, .ref v1), (8, .int v4), (9, .int t)]) [3, 4, 5, 6, 7, 8, 2, 1, 0] rfl (fun t => ?_)
    exact j_X4_rank_L88 D dA x0 x1 x2 x3 x4 x5 v1 v4 t
  refine J_goto (tgt := 196) dX4_rank_50 rfl ?_
  refine J_sub [0, 1, 2, 3, 4, 5] rfl ?_
  exact j_X4_rank_b196 D dA x0 x1 x2 x3 x4 x5
noncomputable def X4_rank_L22 (x0 : Nat) (x1 : Nat) (x2 : Int32) (x3 : Int32) (x4 : Int32) (x5 : Int32) (x6 : Int32) : JM Mem ((Int32 ⊕ (Int32 × Int32)) ⊕ (Int32)) :=
  if x2 ≤ x6 then
    jinl (X4_rank_b44 x0 x1 x2 x3 x4 x5 x6)
  else
  jb (jaldA 5 x1 x6) fun v16 =>
  jb (jald mI 0 v16 x5) fun v17 =>
  if v17 = 0 then
    jcont (x6 + 1)
  else
    jinl (X4_rank_b44 x0 x1 x2 x3 x4 x5 x6)
theorem j_X4_rank_L22 (D : va_G) (dA : Nat → ClassId) (x0 : Nat) (x1 : Nat) (x2 : Int32) (x3 : Int32) (x4 : Int32) (x5 : Int32) (x6 : Int32) : J (PM D dA false) Y_X4_rank [(0, .ref x0), (1, .ref x1), (2, .int x2), (3, .int x3), (4, .int x4), (5, .int x5), (6, .int x6)] [] 22 (X4_rank_L22 x0 x1 x2 x3 x4 x5 x6) (FLoop (FLoop (FRet injI) 6 (fun (t : Int32 × Int32) => [(0, .ref x0), (1, .ref x1), (2, .int x2), (3, .int x3), (4, .int t.1), (5, .int t.2)])) 22 (fun (t : Int32) => [(0, .ref x0), (1, .ref x1), (2, .int x2), (3, .int x3), (4, .int x4), (5, .int x5), (6, .int t)])) := by
  unfold X4_rank_L22
  refine J_iload dX4_rank_22 6 rfl ?_
  refine J_iload_n dX4_rank_24 rfl 2 rfl ?_
  refine J_icmp_ge (tgt := 44) dX4_rank_25 rfl ?_ ?_
  · refine J_inl ?_
    refine J_sub [0, 1, 2, 3, 4, 5, 6] rfl ?_
    exact j_X4_rank_b44 D dA x0 x1 x2 x3 x4 x5 x6
  refine J_aload_n dX4_rank_28 rfl 1 rfl ?_
  refine J_iload dX4_rank_29 6 rfl ?_
  refine J_aald dX4_rank_31 rfl (by decide) (fun v16 => ?_)
  refine J_iload dX4_rank_32 5 rfl ?_
  refine J_iald dX4_rank_34 (fun v17 => ?_)
  refine J_if_ne (tgt := 44) dX4_rank_35 rfl ?_ ?_
  · refine J_inl ?_
    refine J_sub [0, 1, 2, 3, 4, 5, 6] rfl ?_
    exact j_X4_rank_b44 D dA x0 x1 x2 x3 x4 x5 x6
  refine J_iinc (v := x6 + 1) (env' := [(6, .int (x6 + 1)), (0, .ref x0), (1, .ref x1), (2, .int x2), (3, .int x3), (4, .int x4), (5, .int x5)]) dX4_rank_38 6 rfl rfl (by decide) rfl ?_
  refine J_goto (tgt := 22) dX4_rank_41 rfl ?_
  exact J_cont [1, 2, 3, 4, 5, 6, 0] rfl
noncomputable def X4_rank_L6 (x0 : Nat) (x1 : Nat) (x2 : Int32) (x3 : Int32) (x4 : Int32) (x5 : Int32) : JM Mem (Int32 ⊕ (Int32 × Int32)) :=
  if x3 ≤ x5 then
    jinl (jp x4)
  else
  if x2 ≤ x4 then
    jinl (jp x4)
  else
    jloop (fun (t : Int32) => X4_rank_L22 x0 x1 x2 x3 x4 x5 t) x4
theorem j_X4_rank_L6 (D : va_G) (dA : Nat → ClassId) (x0 : Nat) (x1 : Nat) (x2 : Int32) (x3 : Int32) (x4 : Int32) (x5 : Int32) : J (PM D dA false) Y_X4_rank [(0, .ref x0), (1, .ref x1), (2, .int x2), (3, .int x3), (4, .int x4), (5, .int x5)] [] 6 (X4_rank_L6 x0 x1 x2 x3 x4 x5) (FLoop (FRet injI) 6 (fun (t : Int32 × Int32) => [(0, .ref x0), (1, .ref x1), (2, .int x2), (3, .int x3), (4, .int t.1), (5, .int t.2)])) := by
  unfold X4_rank_L6
  refine J_iload dX4_rank_6 5 rfl ?_
  refine J_iload_n dX4_rank_8 rfl 3 rfl ?_
  refine J_icmp_ge (tgt := 202) dX4_rank_9 rfl ?_ ?_
  · refine J_inl ?_
    refine J_iload dX4_rank_202 4 rfl ?_
    exact J_ireturn dX4_rank_204 rfl
  refine J_iload dX4_rank_12 4 rfl ?_
  refine J_iload_n dX4_rank_14 rfl 2 rfl ?_
  refine J_icmp_ge (tgt := 202) dX4_rank_15 rfl ?_ ?_
  · refine J_inl ?_
    refine J_iload dX4_rank_202 4 rfl ?_
    exact J_ireturn dX4_rank_204 rfl
  refine J_iload dX4_rank_18 4 rfl ?_
  refine J_istore (env' := [(6, .int x4), (0, .ref x0), (1, .ref x1), (2, .int x2), (3, .int x3), (4, .int x4), (5, .int x5)]) dX4_rank_20 (by decide) rfl ?_
  refine J_loop (he := fun (t : Int32) => [(0, .ref x0), (1, .ref x1), (2, .int x2), (3, .int x3), (4, .int x4), (5, .int x5), (6, .int t)]) [1, 2, 3, 4, 5, 6, 0] rfl (fun t => ?_)
  exact j_X4_rank_L22 D dA x0 x1 x2 x3 x4 x5 t
noncomputable def f_X4_rank (x0 : Nat) (x1 : Nat) (x2 : Int32) (x3 : Int32) : JM Mem Int32 :=
  jloop (fun (t : Int32 × Int32) => X4_rank_L6 x0 x1 x2 x3 t.1 t.2) (0, 0)
theorem j_X4_rank (D : va_G) (dA : Nat → ClassId) (x0 : Nat) (x1 : Nat) (x2 : Int32) (x3 : Int32) : J (PM D dA false) Y_X4_rank [(0, .ref x0), (1, .ref x1), (2, .int x2), (3, .int x3)] [] 0 (f_X4_rank x0 x1 x2 x3) (FRet injI) := by
  unfold f_X4_rank
  refine J_iconst (v := 0) dX4_rank_0 (by decide) ?_
  refine J_istore (env' := [(4, .int 0), (0, .ref x0), (1, .ref x1), (2, .int x2), (3, .int x3)]) dX4_rank_1 (by decide) rfl ?_
  refine J_iconst (v := 0) dX4_rank_3 (by decide) ?_
  refine J_istore (env' := [(5, .int 0), (4, .int 0), (0, .ref x0), (1, .ref x1), (2, .int x2), (3, .int x3)]) dX4_rank_4 (by decide) rfl ?_
  refine J_loop (he := fun (t : Int32 × Int32) => [(0, .ref x0), (1, .ref x1), (2, .int x2), (3, .int x3), (4, .int t.1), (5, .int t.2)]) [2, 3, 4, 5, 1, 0] rfl (fun t => ?_)
  exact j_X4_rank_L6 D dA x0 x1 x2 x3 t.1 t.2
theorem i_X4_rank (x0 : Nat) (x1 : Nat) (x2 : Int32) (x3 : Int32) : Impl (ws_ yX4_rank cX4_rank 12 (some .int)) yX4_rank 3 false 0 0 [.ref x0, .ref x1, .int x2, .int x3] (f_X4_rank x0 x1 x2 x3) injI := impl_of (plainFor_of_name (by decide)) (Nat.le_of_ble_eq_true rfl) (fun D dA => j_X4_rank D dA x0 x1 x2 x3)
theorem cw_X4_rank (Y : JY) (h : 4 ≤ Y.2.2.2.1) : JCw Y (ws_ yX4_rank cX4_rank 12 (some .int)) yX4_rank cX4_rank 12 (some .int) 3 := ⟨h, by decide, lw_meth q1177, q194, by decide, by decide⟩
theorem np_X4_rank : JNp yX4_rank.desc 3 := by decide +kernel
-- BracketRoom$Span.holds(LBracketRoom$World;[I[I)Z
abbrev Y_X5_holds : JY := (cX5_holds, yX5_holds.cls, 5, 4, yX5_holds.name, (some .boolean), [])
noncomputable def X5_holds_L17 (x1 : Nat) (x3 : Nat) (x4 : Int32) : JM Mem (Int32 ⊕ (Int32)) :=
  jb (jgetI 3 2 x1) fun v1 =>
  if v1 ≤ x4 then
    jinl (jp 1)
  else
  jb (jald mI 0 x3 x4) fun v2 =>
  if v2 = 0 then
    jcont (x4 + 1)
  else
    jinl (jp 0)
theorem j_X5_holds_L17 (D : va_G) (dA : Nat → ClassId) (x1 : Nat) (x3 : Nat) (x4 : Int32) : J (PM D dA false) Y_X5_holds [(1, .ref x1), (3, .ref x3), (4, .int x4)] [] 17 (X5_holds_L17 x1 x3 x4) (FLoop (FRet injI) 17 (fun (t : Int32) => [(1, .ref x1), (3, .ref x3), (4, .int t)])) := by
  unfold X5_holds_L17
  refine J_iload dX5_holds_17 2 rfl ?_
  refine J_aload_n dX5_holds_19 rfl 0 rfl ?_
  refine J_getI dX5_holds_20 fl_X5_24 rfl (fun v1 => ?_)
  refine J_icmp_ge (tgt := 41) dX5_holds_23 rfl ?_ ?_
  · refine J_inl ?_
    refine J_iconst (v := 1) dX5_holds_41 (by decide) ?_
    exact J_zreturn1 dX5_holds_42 rfl
  refine J_aload_n dX5_holds_26 rfl 1 rfl ?_
  refine J_iload dX5_holds_27 2 rfl ?_
  refine J_iald dX5_holds_29 (fun v2 => ?_)
  refine J_if_eq (tgt := 35) dX5_holds_30 rfl ?_ ?_
  · refine J_iinc (v := x4 + 1) (env' := [(4, .int (x4 + 1)), (1, .ref x1), (3, .ref x3)]) dX5_holds_35 2 rfl rfl (by decide) rfl ?_
    refine J_goto (tgt := 17) dX5_holds_38 rfl ?_
    exact J_cont [1, 2, 0] rfl
  refine J_inl ?_
  refine J_iconst (v := 0) dX5_holds_33 (by decide) ?_
  exact J_zreturn0 dX5_holds_34 rfl
noncomputable def f_X5_holds (x0 : Nat) (x1 : Nat) (x2 : Nat) (x3 : Nat) : JM Mem Int32 :=
  jb (jcopy 0 x2 0 x3 0 5) fun _ =>
  jb (jcall 4 x0 (f_X5_reduce x0 x1 x3)) fun _ =>
  jloop (fun (t : Int32) => X5_holds_L17 x1 x3 t) 0
theorem j_X5_holds (D : va_G) (dA : Nat → ClassId) (x0 : Nat) (x1 : Nat) (x2 : Nat) (x3 : Nat) : J (PM D dA false) Y_X5_holds [(0, .ref x0), (1, .ref x1), (2, .ref x2), (3, .ref x3)] [] 0 (f_X5_holds x0 x1 x2 x3) (FRet injI) := by
  unfold f_X5_holds
  refine J_aload_n dX5_holds_0 rfl 2 rfl ?_
  refine J_iconst (v := 0) dX5_holds_1 (by decide) ?_
  refine J_aload_n dX5_holds_2 rfl 3 rfl ?_
  refine J_iconst (v := 0) dX5_holds_3 (by decide) ?_
  refine J_iconst (v := 5) dX5_holds_4 (by decide) ?_
  refine J_copy (t := 0) dX5_holds_5 (by decide) (Nat.le_of_ble_eq_true rfl) (by decide) q1124 q745 q744 q204 ?_
  refine J_aload_n dX5_holds_8 rfl 0 rfl ?_
  refine J_aload_n dX5_holds_9 rfl 1 rfl ?_
  refine J_aload_n dX5_holds_10 rfl 3 rfl ?_
  refine J_callVV (c := 4) (as := [.ref x1, .ref x3]) dX5_holds_11 (by decide) rfl (Nat.le_of_ble_eq_true rfl) (cw_X5_reduce _ (by decide)) q1115 q1116 q1117 q1118 np_X5_reduce (i_X5_reduce x0 x1 x3) jad_id rfl ?_
  refine J_iconst (v := 0) dX5_holds_14 (by decide) ?_
  refine J_istore (env' := [(4, .int 0), (0, .ref x0), (1, .ref x1), (2, .ref x2), (3, .ref x3)]) dX5_holds_15 (by decide) rfl ?_
  refine J_loop (he := fun (t : Int32) => [(1, .ref x1), (3, .ref x3), (4, .int t)]) [2, 4, 0] rfl (fun t => ?_)
  exact j_X5_holds_L17 D dA x1 x3 t
theorem i_X5_holds (x0 : Nat) (x1 : Nat) (x2 : Nat) (x3 : Nat) : Impl (ws_ yX5_holds cX5_holds 5 (some .boolean)) yX5_holds 4 false 0 0 [.ref x0, .ref x1, .ref x2, .ref x3] (f_X5_holds x0 x1 x2 x3) injI := impl_of (plainFor_of_name (by decide)) (Nat.le_of_ble_eq_true rfl) (fun D dA => j_X5_holds D dA x0 x1 x2 x3)
theorem cw_X5_holds (Y : JY) (h : 5 ≤ Y.2.2.2.1) : JCw Y (ws_ yX5_holds cX5_holds 5 (some .boolean)) yX5_holds cX5_holds 5 (some .boolean) 4 := ⟨h, by decide, lw_meth q1228, q195, by decide, by decide⟩
theorem np_X5_holds : JNp yX5_holds.desc 3 := by decide +kernel
-- BracketRoom$World.isLike(LBracketRoom$World;)Z
abbrev Y_X4_isLike : JY := (cX4_isLike, yX4_isLike.cls, 2, 1, yX4_isLike.name, (some .boolean), [])
noncomputable def f_X4_isLike (x0 : Nat) (x1 : Nat) : JM Mem Int32 :=
  jb (jgetI 3 1 x0) fun v1 =>
  jb (jgetI 3 1 x1) fun v2 =>
  if v1 = v2 then
    jb (jgetI 3 2 x0) fun v3 =>
    jb (jgetI 3 2 x1) fun v4 =>
    if v3 = v4 then
      jp 1
    else
      jp 0
  else
    jp 0
theorem j_X4_isLike (D : va_G) (dA : Nat → ClassId) (x0 : Nat) (x1 : Nat) : J (PM D dA false) Y_X4_isLike [(0, .ref x0), (1, .ref x1)] [] 0 (f_X4_isLike x0 x1) (FRet injI) := by
  unfold f_X4_isLike
  refine J_aload_n dX4_isLike_0 rfl 0 rfl ?_
  refine J_getI dX4_isLike_1 fl_X4_16 rfl (fun v1 => ?_)
  refine J_aload_n dX4_isLike_4 rfl 1 rfl ?_
  refine J_getI dX4_isLike_5 fl_X4_16 rfl (fun v2 => ?_)
  refine J_icmp_ne (tgt := 26) dX4_isLike_8 rfl ?_ ?_
  · refine J_iconst (v := 0) dX4_isLike_26 (by decide) ?_
    exact J_zreturn0 dX4_isLike_27 rfl
  refine J_aload_n dX4_isLike_11 rfl 0 rfl ?_
  refine J_getI dX4_isLike_12 fl_X4_20 rfl (fun v3 => ?_)
  refine J_aload_n dX4_isLike_15 rfl 1 rfl ?_
  refine J_getI dX4_isLike_16 fl_X4_20 rfl (fun v4 => ?_)
  refine J_icmp_ne (tgt := 26) dX4_isLike_19 rfl ?_ ?_
  · refine J_iconst (v := 0) dX4_isLike_26 (by decide) ?_
    exact J_zreturn0 dX4_isLike_27 rfl
  refine J_iconst (v := 1) dX4_isLike_22 (by decide) ?_
  refine J_goto (tgt := 27) dX4_isLike_23 rfl ?_
  exact J_zreturn1 dX4_isLike_27 rfl
theorem i_X4_isLike (x0 : Nat) (x1 : Nat) : Impl (ws_ yX4_isLike cX4_isLike 2 (some .boolean)) yX4_isLike 1 false 0 0 [.ref x0, .ref x1] (f_X4_isLike x0 x1) injI := impl_of (plainFor_of_name (by decide)) (Nat.le_of_ble_eq_true rfl) (fun D dA => j_X4_isLike D dA x0 x1)
theorem cw_X4_isLike (Y : JY) (h : 2 ≤ Y.2.2.2.1) : JCw Y (ws_ yX4_isLike cX4_isLike 2 (some .boolean)) yX4_isLike cX4_isLike 2 (some .boolean) 1 := ⟨h, by decide, lw_meth q1323, q194, by decide, by decide⟩
theorem np_X4_isLike : JNp yX4_isLike.desc 1 := by decide +kernel
