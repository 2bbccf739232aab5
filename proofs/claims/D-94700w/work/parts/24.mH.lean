/-! printed by gen.py: methods with handlers -/
set_option maxRecDepth 100000
theorem fl_X0_246 : JFL "BracketRoom" 246 1 10 := jflN (host := "BracketRoom") (by decide) (by decide) q322
theorem fl_X0_250 : JFL "BracketRoom" 250 1 11 := jflN (host := "BracketRoom") (by decide) (by decide) q324
-- BracketRoom.tray(III)Z
abbrev Y_X0_tray : JY := (cX0_tray, yX0_tray.cls, 5, 120, yX0_tray.name, (some .boolean), [(34, 45, 48, 161)])
noncomputable def X0_tray_b16 (x0 : Nat) : JM Mem Int32 :=
  jb (jcall 0 x0 (jkeep (f_X0_is0 x0 1))) fun v2 =>
  jrz v2
theorem j_X0_tray_b16 (D : va_G) (dA : Nat → ClassId) (x0 : Nat) : J (PM D dA true) Y_X0_tray [(0, .ref x0)] [] 16 (X0_tray_b16 x0) (FRet injI) := by
  unfold X0_tray_b16
  refine J_aload_n dX0_tray_16 rfl 0 rfl ?_
  refine J_iconst (v := 1) dX0_tray_17 (by decide) ?_
  refine J_callVI (c := 0) (as := [.int 1]) dX0_tray_18 (by decide) rfl (Nat.le_of_ble_eq_true rfl) (cw_X0_is0 _ (by decide)) q659 q661 qs2 q662 np_X0_is0 (i_X0_is0 x0 1) jad_keep rfl (fun v2 => ?_)
  exact J_zreturn dX0_tray_21 rfl
noncomputable def f_X0_tray (x0 : Nat) (x1 : Int32) (x2 : Int32) (x3 : Int32) : JM Mem Int32 :=
  jb ((jkeep (f_X0_isTray x1))) fun v1 =>
  if v1 = 0 then
    X0_tray_b16 x0
  else
  if x2 < 0 then
    X0_tray_b16 x0
  else
  if x2 ≤ 3 then
    if x3 ≤ 60 then
      jb (jgetA 0 0 x0) fun v3 =>
      jb (jaldA 9 v3 x1) fun v4 =>
      if x3 < 0 then
        jb (jguard (fun _ => True)) fun _ => jb (jcall 5 v4 (jpure fun M => mZ M + 2)) fun q6 => jb (jbump 3 3 60) fun _ =>
          jb (jcall 0 x0 (jkeep (f_X0_is0 x0 6))) fun v7 =>
          jrz v7
      else
        jtry (jcall 5 v4 (jpay 1 1000 (f_X6_make v4 x2 x3))) (fun _ =>
          jb (jcall 0 x0 (jkeep (f_X0_is0 x0 0))) fun v5 =>
          jrz v5) (fun _ => jfail)
    else
    jb (jcall 0 x0 (jkeep (f_X0_is0 x0 5))) fun v8 =>
    jrz v8
  else
    X0_tray_b16 x0
theorem j_X0_tray (D : va_G) (dA : Nat → ClassId) (x0 : Nat) (x1 : Int32) (x2 : Int32) (x3 : Int32) : J (PM D dA true) Y_X0_tray [(0, .ref x0), (1, .int x1), (2, .int x2), (3, .int x3)] [] 0 (f_X0_tray x0 x1 x2 x3) (FRet injI) := by
  unfold f_X0_tray
  refine J_iload_n dX0_tray_0 rfl 1 rfl ?_
  refine J_callSI (host := "") (as := [.int x1]) dX0_tray_1 rfl (Nat.le_of_ble_eq_true rfl) (cw_X0_isTray _ (by decide)) q656 q657 q658 np_X0_isTray (i_X0_isTray x1) jad_keep rfl (fun v1 => ?_)
  refine J_if_eq (tgt := 16) dX0_tray_4 rfl ?_ ?_
  · refine J_sub [0] rfl ?_
    exact j_X0_tray_b16 D dA x0
  refine J_iload_n dX0_tray_7 rfl 2 rfl ?_
  refine J_if_lt (tgt := 16) dX0_tray_8 rfl ?_ ?_
  · refine J_sub [0] rfl ?_
    exact j_X0_tray_b16 D dA x0
  refine J_iload_n dX0_tray_11 rfl 2 rfl ?_
  refine J_iconst (v := 3) dX0_tray_12 (by decide) ?_
  refine J_icmp_le (tgt := 22) dX0_tray_13 rfl ?_ ?_
  · refine J_iload_n dX0_tray_22 rfl 3 rfl ?_
    refine J_bipush (v := 60) dX0_tray_23 (by decide) ?_
    refine J_icmp_le (tgt := 34) dX0_tray_25 rfl ?_ ?_
    · refine J_aload_n dX0_tray_34 rfl 0 rfl ?_
      refine J_getA dX0_tray_35 fl_X0_11 rfl (fun v3 => ?_)
      refine J_iload_n dX0_tray_38 rfl 1 rfl ?_
      refine J_aald dX0_tray_39 rfl (by decide) (fun v4 => ?_)
      refine J_iload_n dX0_tray_40 rfl 2 rfl ?_
      refine J_iload_n dX0_tray_41 rfl 3 rfl ?_
      refine J_ite (fun hx => ?_) (fun _ => ?_)
      · refine J_tryT [] [] (c := 5) (as := [.int x2, .int x3]) dX0_tray_42 (by decide) (Nat.le_of_ble_eq_true rfl) ⟨by decide, by decide, lw_meth q666, q196, by decide, by decide⟩ q663 q664 q665 q666 np_X6_make (t_X6_make v4 x2 x3 hx) (fun _ _ _ h => h) rfl rfl (by decide) (by decide) (fun w hw => nomatch hw) q629 q649 (fun q6 => ?_)
        refine J_astore (env' := [(4, .ref q6), (0, .ref x0), (1, .int x1), (2, .int x2), (3, .int x3)]) dX0_tray_48 (by decide) rfl ?_
        refine J_aload_n dX0_tray_50 rfl 1 rfl ?_
        refine J_bipush (v := 6) dX0_tray_51 (by decide) ?_
        refine J_callVI (c := 0) (as := [.int 6]) dX0_tray_53 (by decide) rfl (Nat.le_of_ble_eq_true rfl) (cw_X0_is0 _ (by decide)) q659 q661 qs2 q662 np_X0_is0 (i_X0_is0 x0 6) jad_keep rfl (fun v7 => ?_)
        exact J_zreturn dX0_tray_56 rfl
      refine J_tryF (c := 5) (as := [.int x2, .int x3]) dX0_tray_42 (by decide) (Nat.le_of_ble_eq_true rfl) (cw_X6_make _ (by decide)) q663 q664 q665 q666 np_X6_make (i_X6_make v4 x2 x3) jad_pay rfl (fun u9 => ?_)
      refine J_goto (tgt := 57) dX0_tray_45 rfl ?_
      refine J_aload_n dX0_tray_57 rfl 0 rfl ?_
      refine J_iconst (v := 0) dX0_tray_58 (by decide) ?_
      refine J_callVI (c := 0) (as := [.int 0]) dX0_tray_59 (by decide) rfl (Nat.le_of_ble_eq_true rfl) (cw_X0_is0 _ (by decide)) q659 q661 qs2 q662 np_X0_is0 (i_X0_is0 x0 0) jad_keep rfl (fun v5 => ?_)
      exact J_zreturn dX0_tray_62 rfl
    refine J_aload_n dX0_tray_28 rfl 0 rfl ?_
    refine J_iconst (v := 5) dX0_tray_29 (by decide) ?_
    refine J_callVI (c := 0) (as := [.int 5]) dX0_tray_30 (by decide) rfl (Nat.le_of_ble_eq_true rfl) (cw_X0_is0 _ (by decide)) q659 q661 qs2 q662 np_X0_is0 (i_X0_is0 x0 5) jad_keep rfl (fun v8 => ?_)
    exact J_zreturn dX0_tray_33 rfl
  refine J_sub [0] rfl ?_
  exact j_X0_tray_b16 D dA x0
theorem i_X0_tray (x0 : Nat) (x1 : Int32) (x2 : Int32) (x3 : Int32) : Impl (wsW_ yX0_tray cX0_tray 5 (some .boolean) [(34, 45, 48, 161)]) yX0_tray 120 true 10 1200 [.ref x0, .int x1, .int x2, .int x3] (f_X0_tray x0 x1 x2 x3) injI := impl_ofH (plainFor_of_name (by decide)) (Nat.le_of_ble_eq_true rfl) (fun D dA => j_X0_tray D dA x0 x1 x2 x3)
theorem cw_X0_tray (Y : JY) (h : 121 ≤ Y.2.2.2.1) : JCw Y (wsW_ yX0_tray cX0_tray 5 (some .boolean) [(34, 45, 48, 161)]) yX0_tray cX0_tray 5 (some .boolean) 120 := ⟨h, by decide, lw_methW q628, q187, by decide, by decide⟩
theorem np_X0_tray : JNp yX0_tray.desc 3 := by decide +kernel
-- BracketRoom.write(IIJ)Z
abbrev Y_X0_write : JY := (cX0_write, yX0_write.cls, 6, 120, yX0_write.name, (some .boolean), [(13, 24, 27, 167), (13, 24, 35, 169)])
noncomputable def f_X0_write (x0 : Nat) (x1 : Int32) (x2 : Int32) (x3 : Int64) : JM Mem Int32 :=
  jb ((jkeep (f_X0_isTray x1))) fun v1 =>
  if v1 = 0 then
    jb (jcall 0 x0 (jkeep (f_X0_is0 x0 1))) fun v10 =>
    jrz v10
  else
  jb (jgetA 0 0 x0) fun v2 =>
  jb (jaldA 9 v2 x1) fun v3 =>
  jb (jpure (jrowk v3 x2)) fun k9 =>
  if k9 = 1 then
    jb (jguard (CN v3)) fun _ => jb (jcall 5 v3 (jpure fun M => mZ M + 0)) fun q5 => jb (jbump 1 1 8) fun _ =>
      jb (jcall 0 x0 (jkeep (f_X0_is0 x0 3))) fun v6 =>
      jrz v6
  else if k9 = 2 then
    jb (jguard (CX v3 x2)) fun _ => jb (jcall 5 v3 (jpure fun M => mZ M + 2)) fun q7 => jb (jbump 3 3 230) fun _ =>
      jb (jcall 0 x0 (jkeep (f_X0_is0 x0 4))) fun v8 =>
      jrz v8
  else
    jtry (jcall 5 v3 (jkeep (f_X6_set v3 x2 x3))) (fun _ =>
      jb (jcall 0 x0 (jkeep (f_X0_is0 x0 0))) fun v4 =>
      jrz v4) (fun _ => jfail)
theorem j_X0_write (D : va_G) (dA : Nat → ClassId) (x0 : Nat) (x1 : Int32) (x2 : Int32) (x3 : Int64) : J (PM D dA true) Y_X0_write [(0, .ref x0), (1, .int x1), (2, .int x2), (3, .long x3)] [] 0 (f_X0_write x0 x1 x2 x3) (FRet injI) := by
  unfold f_X0_write
  refine J_iload_n dX0_write_0 rfl 1 rfl ?_
  refine J_callSI (host := "") (as := [.int x1]) dX0_write_1 rfl (Nat.le_of_ble_eq_true rfl) (cw_X0_isTray _ (by decide)) q656 q657 q658 np_X0_isTray (i_X0_isTray x1) jad_keep rfl (fun v1 => ?_)
  refine J_if_ne (tgt := 13) dX0_write_4 rfl ?_ ?_
  · refine J_aload_n dX0_write_13 rfl 0 rfl ?_
    refine J_getA dX0_write_14 fl_X0_11 rfl (fun v2 => ?_)
    refine J_iload_n dX0_write_17 rfl 1 rfl ?_
    refine J_aald dX0_write_18 rfl (by decide) (fun v3 => ?_)
    refine J_iload_n dX0_write_19 rfl 2 rfl ?_
    refine J_lload_n dX0_write_20 rfl 3 rfl ?_
    refine J_pure (fun k9 => ?_)
    refine J_ite (fun _ => ?_) (fun _ => ?_)
    · refine J_tryT [] [(13, 24, 35, 169)] (c := 5) (as := [.int x2, .long x3]) dX0_write_21 (by decide) (Nat.le_of_ble_eq_true rfl) ⟨by decide, by decide, lw_meth q720, q196, by decide, by decide⟩ q717 q718 q719 q720 np_X6_set (t_X6_setN v3 x2 x3) (fun _ _ _ h => h) rfl rfl (by decide) (by decide) (fun w hw => nomatch hw) q673 q695 (fun q5 => ?_)
      refine J_astore (env' := [(5, .ref q5), (0, .ref x0), (1, .int x1), (2, .int x2), (3, .long x3)]) dX0_write_27 (by decide) rfl ?_
      refine J_aload_n dX0_write_29 rfl 1 rfl ?_
      refine J_iconst (v := 3) dX0_write_30 (by decide) ?_
      refine J_callVI (c := 0) (as := [.int 3]) dX0_write_31 (by decide) rfl (Nat.le_of_ble_eq_true rfl) (cw_X0_is0 _ (by decide)) q659 q661 qs2 q662 np_X0_is0 (i_X0_is0 x0 3) jad_keep rfl (fun v6 => ?_)
      exact J_zreturn dX0_write_34 rfl
    refine J_ite (fun _ => ?_) (fun _ => ?_)
    · refine J_tryT [(13, 24, 27, 167)] [] (c := 5) (as := [.int x2, .long x3]) dX0_write_21 (by decide) (Nat.le_of_ble_eq_true rfl) ⟨by decide, by decide, lw_meth q720, q196, by decide, by decide⟩ q717 q718 q719 q720 np_X6_set (t_X6_setB v3 x2 x3) (fun _ _ _ h => h) rfl rfl (by decide) (by decide) (fun w hw => by simp only [List.mem_singleton] at hw; subst hw; exact ⟨by decide, rfl, q673⟩) q698 q713 (fun q7 => ?_)
      refine J_astore (env' := [(5, .ref q7), (0, .ref x0), (1, .int x1), (2, .int x2), (3, .long x3)]) dX0_write_35 (by decide) rfl ?_
      refine J_aload_n dX0_write_37 rfl 1 rfl ?_
      refine J_iconst (v := 4) dX0_write_38 (by decide) ?_
      refine J_callVI (c := 0) (as := [.int 4]) dX0_write_39 (by decide) rfl (Nat.le_of_ble_eq_true rfl) (cw_X0_is0 _ (by decide)) q659 q661 qs2 q662 np_X0_is0 (i_X0_is0 x0 4) jad_keep rfl (fun v8 => ?_)
      exact J_zreturn dX0_write_42 rfl
    refine J_tryF (c := 5) (as := [.int x2, .long x3]) dX0_write_21 (by decide) (Nat.le_of_ble_eq_true rfl) (cw_X6_set _ (by decide)) q717 q718 q719 q720 np_X6_set (i_X6_set v3 x2 x3) jad_keep rfl (fun u9 => ?_)
    refine J_goto (tgt := 43) dX0_write_24 rfl ?_
    refine J_aload_n dX0_write_43 rfl 0 rfl ?_
    refine J_iconst (v := 0) dX0_write_44 (by decide) ?_
    refine J_callVI (c := 0) (as := [.int 0]) dX0_write_45 (by decide) rfl (Nat.le_of_ble_eq_true rfl) (cw_X0_is0 _ (by decide)) q659 q661 qs2 q662 np_X0_is0 (i_X0_is0 x0 0) jad_keep rfl (fun v4 => ?_)
    exact J_zreturn dX0_write_48 rfl
  refine J_aload_n dX0_write_7 rfl 0 rfl ?_
  refine J_iconst (v := 1) dX0_write_8 (by decide) ?_
  refine J_callVI (c := 0) (as := [.int 1]) dX0_write_9 (by decide) rfl (Nat.le_of_ble_eq_true rfl) (cw_X0_is0 _ (by decide)) q659 q661 qs2 q662 np_X0_is0 (i_X0_is0 x0 1) jad_keep rfl (fun v10 => ?_)
  exact J_zreturn dX0_write_12 rfl
theorem i_X0_write (x0 : Nat) (x1 : Int32) (x2 : Int32) (x3 : Int64) : Impl (wsW_ yX0_write cX0_write 6 (some .boolean) [(13, 24, 27, 167), (13, 24, 35, 169)]) yX0_write 120 true 3 230 [.ref x0, .int x1, .int x2, .long x3] (f_X0_write x0 x1 x2 x3) injI := impl_ofH (plainFor_of_name (by decide)) (Nat.le_of_ble_eq_true rfl) (fun D dA => j_X0_write D dA x0 x1 x2 x3)
theorem cw_X0_write (Y : JY) (h : 121 ≤ Y.2.2.2.1) : JCw Y (wsW_ yX0_write cX0_write 6 (some .boolean) [(13, 24, 27, 167), (13, 24, 35, 169)]) yX0_write cX0_write 6 (some .boolean) 120 := ⟨h, by decide, lw_methW q672, q187, by decide, by decide⟩
theorem np_X0_write : JNp yX0_write.desc 3 := by decide +kernel
-- BracketRoom.read(II)J
abbrev Y_X0_read : JY := (cX0_read, yX0_read.cls, 4, 120, yX0_read.name, (some .long), [(19, 29, 30, 167), (19, 29, 39, 169)])
noncomputable def X0_read_b45 : JM Mem Int64 :=
  jp (-1)
theorem j_X0_read_b45 (D : va_G) (dA : Nat → ClassId) : J (PM D dA true) Y_X0_read [] [] 45 (X0_read_b45) (FRet injL) := by
  unfold X0_read_b45
  refine J_ldc2 dX0_read_45 q737 ?_
  exact J_lreturn dX0_read_48 rfl
noncomputable def f_X0_read (x0 : Nat) (x1 : Int32) (x2 : Int32) : JM Mem Int64 :=
  jb ((jkeep (f_X0_isTray x1))) fun v1 =>
  if v1 = 0 then
    jb (jcall 0 x0 (jkeep (f_X0_none x0 1))) fun v8 =>
    jp ((v8 : Int32).toInt64)
  else
  jb (jputI 0 8 x0 0) fun _ =>
  jb (jgetA 0 0 x0) fun v2 =>
  jb (jaldA 9 v2 x1) fun v3 =>
  jb (jpure (jrowk v3 x2)) fun k7 =>
  if k7 = 1 then
    jb (jguard (CN v3)) fun _ => jb (jcall 5 v3 (jpure fun M => mZ M + 0)) fun q5 => jb (jbump 1 1 8) fun _ =>
      jb (jputI 0 8 x0 3) fun _ =>
      X0_read_b45
  else if k7 = 2 then
    jb (jguard (CX v3 x2)) fun _ => jb (jcall 5 v3 (jpure fun M => mZ M + 2)) fun q6 => jb (jbump 3 3 230) fun _ =>
      jb (jputI 0 8 x0 4) fun _ =>
      X0_read_b45
  else
    jtry (jcall 5 v3 (jkeep (f_X6_get v3 x2))) (fun v4 =>
      jp v4) (fun _ => jfail)
theorem j_X0_read (D : va_G) (dA : Nat → ClassId) (x0 : Nat) (x1 : Int32) (x2 : Int32) : J (PM D dA true) Y_X0_read [(0, .ref x0), (1, .int x1), (2, .int x2)] [] 0 (f_X0_read x0 x1 x2) (FRet injL) := by
  unfold f_X0_read
  refine J_iload_n dX0_read_0 rfl 1 rfl ?_
  refine J_callSI (host := "") (as := [.int x1]) dX0_read_1 rfl (Nat.le_of_ble_eq_true rfl) (cw_X0_isTray _ (by decide)) q656 q657 q658 np_X0_isTray (i_X0_isTray x1) jad_keep rfl (fun v1 => ?_)
  refine J_if_ne (tgt := 14) dX0_read_4 rfl ?_ ?_
  · refine J_aload_n dX0_read_14 rfl 0 rfl ?_
    refine J_iconst (v := 0) dX0_read_15 (by decide) ?_
    refine J_putI dX0_read_16 ⟨fl_X0_144, Or.inl rfl⟩ rfl ?_
    refine J_aload_n dX0_read_19 rfl 0 rfl ?_
    refine J_getA dX0_read_20 fl_X0_11 rfl (fun v2 => ?_)
    refine J_iload_n dX0_read_23 rfl 1 rfl ?_
    refine J_aald dX0_read_24 rfl (by decide) (fun v3 => ?_)
    refine J_iload_n dX0_read_25 rfl 2 rfl ?_
    refine J_pure (fun k7 => ?_)
    refine J_ite (fun _ => ?_) (fun _ => ?_)
    · refine J_tryT [] [(19, 29, 39, 169)] (c := 5) (as := [.int x2]) dX0_read_26 (by decide) (Nat.le_of_ble_eq_true rfl) ⟨by decide, by decide, lw_meth q736, q196, by decide, by decide⟩ q733 q734 q735 q736 np_X6_get (t_X6_getN v3 x2) (fun _ _ _ h => h) rfl rfl (by decide) (by decide) (fun w hw => nomatch hw) q673 q695 (fun q5 => ?_)
      refine J_astore_n (env' := [(3, .ref q5), (0, .ref x0), (1, .int x1), (2, .int x2)]) dX0_read_30 rfl (by decide) rfl ?_
      refine J_aload_n dX0_read_31 rfl 1 rfl ?_
      refine J_iconst (v := 3) dX0_read_32 (by decide) ?_
      refine J_putI dX0_read_33 ⟨fl_X0_144, Or.inl rfl⟩ rfl ?_
      refine J_goto (tgt := 45) dX0_read_36 rfl ?_
      refine J_sub [] rfl ?_
      exact j_X0_read_b45 D dA
    refine J_ite (fun _ => ?_) (fun _ => ?_)
    · refine J_tryT [(19, 29, 30, 167)] [] (c := 5) (as := [.int x2]) dX0_read_26 (by decide) (Nat.le_of_ble_eq_true rfl) ⟨by decide, by decide, lw_meth q736, q196, by decide, by decide⟩ q733 q734 q735 q736 np_X6_get (t_X6_getB v3 x2) (fun _ _ _ h => h) rfl rfl (by decide) (by decide) (fun w hw => by simp only [List.mem_singleton] at hw; subst hw; exact ⟨by decide, rfl, q673⟩) q698 q713 (fun q6 => ?_)
      refine J_astore_n (env' := [(3, .ref q6), (0, .ref x0), (1, .int x1), (2, .int x2)]) dX0_read_39 rfl (by decide) rfl ?_
      refine J_aload_n dX0_read_40 rfl 1 rfl ?_
      refine J_iconst (v := 4) dX0_read_41 (by decide) ?_
      refine J_putI dX0_read_42 ⟨fl_X0_144, Or.inl rfl⟩ rfl ?_
      refine J_sub [] rfl ?_
      exact j_X0_read_b45 D dA
    refine J_tryF (c := 5) (as := [.int x2]) dX0_read_26 (by decide) (Nat.le_of_ble_eq_true rfl) (cw_X6_get _ (by decide)) q733 q734 q735 q736 np_X6_get (i_X6_get v3 x2) jad_keep rfl (fun v4 => ?_)
    exact J_lreturn dX0_read_29 rfl
  refine J_aload_n dX0_read_7 rfl 0 rfl ?_
  refine J_iconst (v := 1) dX0_read_8 (by decide) ?_
  refine J_callVI (c := 0) (as := [.int 1]) dX0_read_9 (by decide) rfl (Nat.le_of_ble_eq_true rfl) (cw_X0_none _ (by decide)) q729 q731 qs3 q732 np_X0_none (i_X0_none x0 1) jad_keep rfl (fun v8 => ?_)
  refine J_i2l dX0_read_12 ?_
  exact J_lreturn dX0_read_13 rfl
theorem i_X0_read (x0 : Nat) (x1 : Int32) (x2 : Int32) : Impl (wsW_ yX0_read cX0_read 4 (some .long) [(19, 29, 30, 167), (19, 29, 39, 169)]) yX0_read 120 true 3 230 [.ref x0, .int x1, .int x2] (f_X0_read x0 x1 x2) injL := impl_ofH (plainFor_of_name (by decide)) (Nat.le_of_ble_eq_true rfl) (fun D dA => j_X0_read D dA x0 x1 x2)
theorem cw_X0_read (Y : JY) (h : 121 ≤ Y.2.2.2.1) : JCw Y (wsW_ yX0_read cX0_read 4 (some .long) [(19, 29, 30, 167), (19, 29, 39, 169)]) yX0_read cX0_read 4 (some .long) 120 := ⟨h, by decide, lw_methW q728, q187, by decide, by decide⟩
theorem np_X0_read : JNp yX0_read.desc 2 := by decide +kernel
-- BracketRoom.world(I)I
abbrev Y_X0_world : JY := (cX0_world, yX0_world.cls, 3, 11, yX0_world.name, (some .int), [(17, 29, 32, 17)])
noncomputable def f_X0_world (x0 : Nat) (x1 : Int32) : JM Mem Int32 :=
  jb (jcall 0 x0 (f_X0_takes x0 x1 600)) fun v1 =>
  if v1 = 0 then
    jb (jcall 0 x0 (f_X0_none x0 5)) fun v11 =>
    jp v11
  else
  jb (jgetA 0 1 x0) fun v2 =>
  jb (jgetA 0 3 x0) fun v3 =>
  jtry (jcall 1 v2 (f_X2_world v2 x1 v3)) (fun _ =>
    jb (jgetA 0 2 x0) fun v4 =>
    jb (jgetA 0 3 x0) fun v5 =>
    jb (jcall 3 v4 (f_X4_copy v4 v5)) fun _ =>
    jb (jgetA 0 2 x0) fun v6 =>
    jb (jgetI 3 2 v6) fun v7 =>
    jb (jcall 0 x0 (f_X0_gives x0 v7)) fun v8 =>
    jp v8) (fun q9 => jb (jis 2 q9) fun _ =>
    jb (jcall 0 x0 (f_X0_refused x0 q9)) fun v10 =>
    jp v10)
theorem j_X0_world (D : va_G) (dA : Nat → ClassId) (x0 : Nat) (x1 : Int32) : J (PM D dA false) Y_X0_world [(0, .ref x0), (1, .int x1)] [] 0 (f_X0_world x0 x1) (FRet injI) := by
  unfold f_X0_world
  refine J_aload_n dX0_world_0 rfl 0 rfl ?_
  refine J_iload_n dX0_world_1 rfl 1 rfl ?_
  refine J_sipush (v := 600) dX0_world_2 (by decide) ?_
  refine J_callVI (c := 0) (as := [.int x1, .int 600]) dX0_world_5 (by decide) rfl (Nat.le_of_ble_eq_true rfl) (cw_X0_takes _ (by decide)) q758 q760 qs5 q761 np_X0_takes (i_X0_takes x0 x1 600) jad_id rfl (fun v1 => ?_)
  refine J_if_ne (tgt := 17) dX0_world_8 rfl ?_ ?_
  · refine J_aload_n dX0_world_17 rfl 0 rfl ?_
    refine J_getA dX0_world_18 fl_X0_23 rfl (fun v2 => ?_)
    refine J_iload_n dX0_world_21 rfl 1 rfl ?_
    refine J_aload_n dX0_world_22 rfl 0 rfl ?_
    refine J_getA dX0_world_23 fl_X0_34 rfl (fun v3 => ?_)
    refine J_tryV (cw := 2) (name := "BracketRoom$Wrong") [] [] (c := 1) (as := [.int x1, .ref v3]) dX0_world_26 (by decide) (Nat.le_of_ble_eq_true rfl) (cw_X2_world _ (by decide)) q762 q763 q764 q765 np_X2_world (i_X2_world v2 x1 v3) jad_id rfl (by decide) rfl (by decide) (by decide) rfl q223 q225 (fun u9 => ?_) (fun q9 => ?_)
    · refine J_goto (tgt := 39) dX0_world_29 rfl ?_
      refine J_aload_n dX0_world_39 rfl 0 rfl ?_
      refine J_getA dX0_world_40 fl_X0_30 rfl (fun v4 => ?_)
      refine J_aload_n dX0_world_43 rfl 0 rfl ?_
      refine J_getA dX0_world_44 fl_X0_34 rfl (fun v5 => ?_)
      refine J_callVV (c := 3) (as := [.ref v5]) dX0_world_47 (by decide) rfl (Nat.le_of_ble_eq_true rfl) (cw_X4_copy _ (by decide)) q939 q940 q941 q942 np_X4_copy (i_X4_copy v4 v5) jad_id rfl ?_
      refine J_aload_n dX0_world_50 rfl 0 rfl ?_
      refine J_aload_n dX0_world_51 rfl 0 rfl ?_
      refine J_getA dX0_world_52 fl_X0_30 rfl (fun v6 => ?_)
      refine J_getI dX0_world_55 fl_X0_196 rfl (fun v7 => ?_)
      refine J_callVI (c := 0) (as := [.int v7]) dX0_world_58 (by decide) rfl (Nat.le_of_ble_eq_true rfl) (cw_X0_gives _ (by decide)) q944 q946 qs9 q947 np_X0_gives (i_X0_gives x0 v7) jad_id rfl (fun v8 => ?_)
      exact J_ireturn dX0_world_61 rfl
    · refine J_astore_n (env' := [(2, .ref q9), (0, .ref x0), (1, .int x1)]) dX0_world_32 rfl (by decide) rfl ?_
      refine J_aload_n dX0_world_33 rfl 1 rfl ?_
      refine J_aload_n dX0_world_34 rfl 0 rfl ?_
      refine J_callVI (c := 0) (as := [.ref q9]) dX0_world_35 (by decide) rfl (Nat.le_of_ble_eq_true rfl) (cw_X0_refused _ (by decide)) q935 q937 qs8 q938 np_X0_refused (i_X0_refused x0 q9) jad_id rfl (fun v10 => ?_)
      exact J_ireturn dX0_world_38 rfl
  refine J_aload_n dX0_world_11 rfl 0 rfl ?_
  refine J_iconst (v := 5) dX0_world_12 (by decide) ?_
  refine J_callVI (c := 0) (as := [.int 5]) dX0_world_13 (by decide) rfl (Nat.le_of_ble_eq_true rfl) (cw_X0_none _ (by decide)) q729 q731 qs3 q732 np_X0_none (i_X0_none x0 5) jad_id rfl (fun v11 => ?_)
  exact J_ireturn dX0_world_16 rfl
theorem i_X0_world (x0 : Nat) (x1 : Int32) : Impl (wsW_ yX0_world cX0_world 3 (some .int) [(17, 29, 32, 17)]) yX0_world 11 false 0 0 [.ref x0, .int x1] (f_X0_world x0 x1) injI := impl_ofH (plainFor_of_name (by decide)) (Nat.le_of_ble_eq_true rfl) (fun D dA => j_X0_world D dA x0 x1)
theorem cw_X0_world (Y : JY) (h : 12 ≤ Y.2.2.2.1) : JCw Y (wsW_ yX0_world cX0_world 3 (some .int) [(17, 29, 32, 17)]) yX0_world cX0_world 3 (some .int) 11 := ⟨h, by decide, lw_methW q757, q187, by decide, by decide⟩
theorem np_X0_world : JNp yX0_world.desc 1 := by decide +kernel
-- BracketRoom.script(I)I
abbrev Y_X0_script : JY := (cX0_script, yX0_script.cls, 3, 12, yX0_script.name, (some .int), [(17, 29, 32, 17)])
noncomputable def f_X0_script (x0 : Nat) (x1 : Int32) : JM Mem Int32 :=
  jb (jcall 0 x0 (jkeep (f_X0_takes x0 x1 300))) fun v1 =>
  if v1 = 0 then
    jb (jcall 0 x0 (jkeep (f_X0_none x0 5))) fun v11 =>
    jp v11
  else
  jb (jgetA 0 1 x0) fun v2 =>
  jtry (jcall 1 v2 (jpay 62 600 (f_X2_script v2 x1))) (fun v3 =>
    jb (jputO 0 6 x0 (some v3)) fun _ =>
    jb (jgetA 0 1 x0) fun v4 =>
    jb (jgetI 1 10 v4) fun v5 =>
    jb (jputI 0 7 x0 v5) fun _ =>
    jb (jgetA 0 1 x0) fun v6 =>
    jb (jgetI 1 11 v6) fun v7 =>
    jb (jcall 0 x0 (jkeep (f_X0_gives x0 v7))) fun v8 =>
    jp v8) (fun q9 => jb (jis 2 q9) fun _ =>
    jb (jcall 0 x0 (jkeep (f_X0_refused x0 q9))) fun v10 =>
    jp v10)
theorem j_X0_script (D : va_G) (dA : Nat → ClassId) (x0 : Nat) (x1 : Int32) : J (PM D dA true) Y_X0_script [(0, .ref x0), (1, .int x1)] [] 0 (f_X0_script x0 x1) (FRet injI) := by
  unfold f_X0_script
  refine J_aload_n dX0_script_0 rfl 0 rfl ?_
  refine J_iload_n dX0_script_1 rfl 1 rfl ?_
  refine J_sipush (v := 300) dX0_script_2 (by decide) ?_
  refine J_callVI (c := 0) (as := [.int x1, .int 300]) dX0_script_5 (by decide) rfl (Nat.le_of_ble_eq_true rfl) (cw_X0_takes _ (by decide)) q758 q760 qs5 q761 np_X0_takes (i_X0_takes x0 x1 300) jad_keep rfl (fun v1 => ?_)
  refine J_if_ne (tgt := 17) dX0_script_8 rfl ?_ ?_
  · refine J_aload_n dX0_script_17 rfl 0 rfl ?_
    refine J_aload_n dX0_script_18 rfl 0 rfl ?_
    refine J_getA dX0_script_19 fl_X0_23 rfl (fun v2 => ?_)
    refine J_iload_n dX0_script_22 rfl 1 rfl ?_
    refine J_tryV (cw := 2) (name := "BracketRoom$Wrong") [] [] (c := 1) (as := [.int x1]) dX0_script_23 (by decide) (Nat.le_of_ble_eq_true rfl) (cw_X2_script _ (by decide)) q952 q953 q954 q955 np_X2_script (i_X2_script v2 x1) jad_pay rfl (by decide) rfl (by decide) (by decide) rfl q223 q225 (fun v3 => ?_) (fun q9 => ?_)
    · refine J_putO (x := (some v3)) dX0_script_26 ⟨fl_X0_242, Or.inl rfl⟩ rfl ?_
      refine J_goto (tgt := 39) dX0_script_29 rfl ?_
      refine J_aload_n dX0_script_39 rfl 0 rfl ?_
      refine J_aload_n dX0_script_40 rfl 0 rfl ?_
      refine J_getA dX0_script_41 fl_X0_23 rfl (fun v4 => ?_)
      refine J_getI dX0_script_44 fl_X0_246 rfl (fun v5 => ?_)
      refine J_putI dX0_script_47 ⟨fl_X0_249, Or.inl rfl⟩ rfl ?_
      refine J_aload_n dX0_script_50 rfl 0 rfl ?_
      refine J_aload_n dX0_script_51 rfl 0 rfl ?_
      refine J_getA dX0_script_52 fl_X0_23 rfl (fun v6 => ?_)
      refine J_getI dX0_script_55 fl_X0_250 rfl (fun v7 => ?_)
      refine J_callVI (c := 0) (as := [.int v7]) dX0_script_58 (by decide) rfl (Nat.le_of_ble_eq_true rfl) (cw_X0_gives _ (by decide)) q944 q946 qs9 q947 np_X0_gives (i_X0_gives x0 v7) jad_keep rfl (fun v8 => ?_)
      exact J_ireturn dX0_script_61 rfl
    · refine J_astore_n (env' := [(2, .ref q9), (0, .ref x0), (1, .int x1)]) dX0_script_32 rfl (by decide) rfl ?_
      refine J_aload_n dX0_script_33 rfl 1 rfl ?_
      refine J_aload_n dX0_script_34 rfl 0 rfl ?_
      refine J_callVI (c := 0) (as := [.ref q9]) dX0_script_35 (by decide) rfl (Nat.le_of_ble_eq_true rfl) (cw_X0_refused _ (by decide)) q935 q937 qs8 q938 np_X0_refused (i_X0_refused x0 q9) jad_keep rfl (fun v10 => ?_)
      exact J_ireturn dX0_script_38 rfl
  refine J_aload_n dX0_script_11 rfl 0 rfl ?_
  refine J_iconst (v := 5) dX0_script_12 (by decide) ?_
  refine J_callVI (c := 0) (as := [.int 5]) dX0_script_13 (by decide) rfl (Nat.le_of_ble_eq_true rfl) (cw_X0_none _ (by decide)) q729 q731 qs3 q732 np_X0_none (i_X0_none x0 5) jad_keep rfl (fun v11 => ?_)
  exact J_ireturn dX0_script_16 rfl
theorem i_X0_script (x0 : Nat) (x1 : Int32) : Impl (wsW_ yX0_script cX0_script 3 (some .int) [(17, 29, 32, 17)]) yX0_script 12 true 62 600 [.ref x0, .int x1] (f_X0_script x0 x1) injI := impl_ofH (plainFor_of_name (by decide)) (Nat.le_of_ble_eq_true rfl) (fun D dA => j_X0_script D dA x0 x1)
theorem cw_X0_script (Y : JY) (h : 13 ≤ Y.2.2.2.1) : JCw Y (wsW_ yX0_script cX0_script 3 (some .int) [(17, 29, 32, 17)]) yX0_script cX0_script 3 (some .int) 12 := ⟨h, by decide, lw_methW q951, q187, by decide, by decide⟩
theorem np_X0_script : JNp yX0_script.desc 1 := by decide +kernel
