/-! THE COMPONENT'S pour. -/
set_option maxRecDepth 100000
section JPOURH
theorem fl_X0_185 : JFL "BracketRoom" 185 5 1 := jflN (host := "BracketRoom") (by decide) (by decide) q436
abbrev Y_X0_pour : JY := (cX0_pour, yX0_pour.cls, 9, 120, yX0_pour.name, (some .boolean), [(80, 92, 95, 167), (80, 92, 103, 194)])
noncomputable def X0_pour_is (x0 : Nat) (v : Int32) : JM Mem Int32 := jb (jcall 0 x0 (jkeep (f_X0_is0 x0 v))) fun y => jrz y
def jkd (a0 : Nat) : Mem → Nat := fun M => match mK M a0 with
  | some (.inr (t, _)) => t
  | _ => 99
noncomputable def jcpk (a0 : Nat) (sp : Int32) (a : Nat) (dp n : Int32) : Mem → Nat := fun M => @ite _ (cpBad a0 sp a dp n M) (Classical.propDecidable _) 4 (jkd a0 M)
noncomputable def X0_pour_cp (x0 : Nat) (x2 x4 x5 : Int32) (a0 a : Nat) : JM Mem Int32 :=
  jb (jpure (jcpk a0 x2 a x4 x5)) fun k =>
  if k = 4 then
    jb (jguard (cpBad a0 x2 a x4 x5)) fun _ => jb (jpure fun M => mZ M + 2) fun _ => jb (jbump 3 3 610) fun _ =>
      if 0 ≤ x5 then X0_pour_is x0 4 else X0_pour_is x0 6
  else if k = 3 then
    jb (jcpL 3 a0 x2 a x4 x5) fun _ => X0_pour_is x0 0
  else if k = 0 ∨ k = 1 ∨ k = 2 then
    jb (jcpI k a0 x2 a x4 x5) fun _ => X0_pour_is x0 0
  else jfail
noncomputable def X0_pour_b80 (x0 : Nat) (x2 x4 x5 : Int32) (o1 o2 : Option Nat) : JM Mem Int32 :=
  if o1 = none ∨ o2 = none then
    jb (jpure fun M => mZ M) fun _ => jb (jbump 1 1 8) fun _ => X0_pour_is x0 3
  else jnn o1 fun a0 => jnn o2 fun a => X0_pour_cp x0 x2 x4 x5 a0 a
theorem j_X0_pour_b80 (D : va_G) (dA : Nat → ClassId) (x0 : Nat) (x2 x4 x5 : Int32) (o1 o2 : Option Nat) : J (PM D dA true) Y_X0_pour [(6, va_rf o1), (7, va_rf o2), (0, .ref x0), (2, .int x2), (4, .int x4), (5, .int x5)] [] 80 (X0_pour_b80 x0 x2 x4 x5 o1 o2) (FRet injI) := by
  unfold X0_pour_b80
  refine J_aloadO dX0_pour_80 0 rfl ?_
  refine J_iload_n dX0_pour_82 rfl 3 rfl ?_
  refine J_aloadO dX0_pour_83 1 rfl ?_
  refine J_iload dX0_pour_85 4 rfl ?_
  refine J_iload dX0_pour_87 5 rfl ?_
  refine J_ite (fun hx => ?_) (fun hx => ?_)
  · refine J_copyN (name := "java/lang/NullPointerException") [] [(80, 92, 103, 194)] (a := 80) (z := 92) (hpc := 95) (ct := 167) dX0_pour_89 q743 q745 q744 q204 hx (by decide) (by decide) rfl rfl (by decide) (fun w hw => nomatch hw) q673 q695 (fun q => ?_)
    refine J_sub [2, 5] rfl ?_
    refine J_astore (env' := [(8, .ref q), (0, .ref x0), (5, .int x5)]) dX0_pour_95 (by decide) rfl ?_
    refine J_aload_n dX0_pour_97 rfl 1 rfl ?_
    refine J_iconst (v := 3) dX0_pour_98 (by decide) ?_
    refine J_callVI (c := 0) (as := [.int 3]) dX0_pour_99 (by decide) rfl (Nat.le_of_ble_eq_true rfl) (cw_X0_is0 _ (by decide)) q659 q661 qs2 q662 np_X0_is0 (i_X0_is0 x0 3) jad_keep rfl (fun v => ?_)
    exact J_zreturn dX0_pour_102 rfl
  cases o1 with
  | none => exact absurd (Or.inl rfl) hx
  | some a0 =>
    cases o2 with
    | none => exact absurd (Or.inr rfl) hx
    | some a =>
      show J (PM D dA true) Y_X0_pour [(6, .ref a0), (7, .ref a), (0, .ref x0), (2, .int x2), (4, .int x4), (5, .int x5)] [.int x5, .int x4, .ref a, .int x2, .ref a0] 89 (X0_pour_cp x0 x2 x4 x5 a0 a) (FRet injI)
      unfold X0_pour_cp
      refine J_pure (fun k => ?_)
      have ok : ∀ k2 : JM Mem Int32, k2 = X0_pour_is x0 0 → J (PM D dA true) Y_X0_pour [(6, .ref a0), (7, .ref a), (0, .ref x0), (2, .int x2), (4, .int x4), (5, .int x5)] [] (89 + 3) k2 (FRet injI) := fun k2 e => by
        subst e
        refine J_goto (tgt := 121) dX0_pour_92 rfl ?_
        refine J_aload_n dX0_pour_121 rfl 2 rfl ?_
        refine J_iconst (v := 0) dX0_pour_122 (by decide) ?_
        refine J_callVI (c := 0) (as := [.int 0]) dX0_pour_123 (by decide) rfl (Nat.le_of_ble_eq_true rfl) (cw_X0_is0 _ (by decide)) q659 q661 qs2 q662 np_X0_is0 (i_X0_is0 x0 0) jad_keep rfl (fun v => ?_)
        exact J_zreturn dX0_pour_126 rfl
      refine J_ite (fun hk => ?_) (fun hk => ?_)
      · refine J_copyB (name := "java/lang/IndexOutOfBoundsException") [(80, 92, 95, 167)] [] (a := 80) (z := 92) (hpc := 103) (ct := 194) dX0_pour_89 q743 q745 q744 q204 (by decide) (by decide) rfl rfl (by decide) (fun w hw => by simp only [List.mem_singleton] at hw; subst hw; exact ⟨by decide, rfl, q673⟩) q742 q2439 (fun q => ?_)
        refine J_sub [2, 5] rfl ?_
        refine J_astore (env' := [(8, .ref q), (0, .ref x0), (5, .int x5)]) dX0_pour_103 (by decide) rfl ?_
        refine J_aload_n dX0_pour_105 rfl 1 rfl ?_
        refine J_iload dX0_pour_106 2 rfl ?_
        refine J_if_ge (tgt := 116) dX0_pour_108 rfl ?_ ?_
        · refine J_iconst (v := 4) dX0_pour_116 (by decide) ?_
          refine J_callVI (c := 0) (as := [.int 4]) dX0_pour_117 (by decide) rfl (Nat.le_of_ble_eq_true rfl) (cw_X0_is0 _ (by decide)) q659 q661 qs2 q662 np_X0_is0 (i_X0_is0 x0 4) jad_keep rfl (fun v => ?_)
          exact J_zreturn dX0_pour_120 rfl
        · refine J_bipush (v := 6) dX0_pour_111 (by decide) ?_
          refine J_goto (tgt := 117) dX0_pour_113 rfl ?_
          refine J_callVI (c := 0) (as := [.int 6]) dX0_pour_117 (by decide) rfl (Nat.le_of_ble_eq_true rfl) (cw_X0_is0 _ (by decide)) q659 q661 qs2 q662 np_X0_is0 (i_X0_is0 x0 6) jad_keep rfl (fun v => ?_)
          exact J_zreturn dX0_pour_120 rfl
      refine J_ite (fun hk3 => ?_) (fun hk3 => ?_)
      · exact J_cpL (t := 3) dX0_pour_89 rfl (by decide) (by decide) q743 q745 q744 q204 (ok _ rfl)
      refine J_ite (fun hk2 => ?_) (fun hk2 => ?_)
      · exact J_cpI (t := k) dX0_pour_89 hk2 (by decide) (by decide) q743 q745 q744 q204 (ok _ rfl)
      · exact J_fail
noncomputable def f_X0_pour (x0 : Nat) (x1 x2 x3 x4 x5 : Int32) : JM Mem Int32 :=
  jb ((jkeep (f_X0_isTray x1))) fun v1 =>
  if v1 = 0 then
    X0_pour_is x0 1
  else
  jb ((jkeep (f_X0_isTray x3))) fun v2 =>
  if v2 = 0 then
    X0_pour_is x0 1
  else
  jb (jgetA 0 0 x0) fun v3 =>
  jb (jaldA 9 v3 x1) fun v4 =>
  jb (jgetO 5 0 v4) fun o1 =>
  jb (jgetA 0 0 x0) fun v6 =>
  jb (jaldA 9 v6 x3) fun v7 =>
  jb (jgetO 5 0 v7) fun o2 =>
  if o1 = none then
    X0_pour_b80 x0 x2 x4 x5 o1 o2
  else if o2 = none then
    X0_pour_b80 x0 x2 x4 x5 o1 o2
  else
  jb (jgetA 0 0 x0) fun v8 =>
  jb (jaldA 9 v8 x1) fun v9 =>
  jb (jgetI 5 1 v9) fun s1 =>
  jb (jgetA 0 0 x0) fun v10 =>
  jb (jaldA 9 v10 x3) fun v11 =>
  jb (jgetI 5 1 v11) fun s2 =>
  if s1 = s2 then
    X0_pour_b80 x0 x2 x4 x5 o1 o2
  else
    X0_pour_is x0 11
theorem j_X0_pour_14 (D : va_G) (dA : Nat → ClassId) (x0 : Nat) : J (PM D dA true) Y_X0_pour [(0, .ref x0)] [] 14 (X0_pour_is x0 1) (FRet injI) := by
  unfold X0_pour_is
  refine J_aload_n dX0_pour_14 rfl 0 rfl ?_
  refine J_iconst (v := 1) dX0_pour_15 (by decide) ?_
  refine J_callVI (c := 0) (as := [.int 1]) dX0_pour_16 (by decide) rfl (Nat.le_of_ble_eq_true rfl) (cw_X0_is0 _ (by decide)) q659 q661 qs2 q662 np_X0_is0 (i_X0_is0 x0 1) jad_keep rfl (fun v2 => ?_)
  exact J_zreturn dX0_pour_19 rfl
theorem j_X0_pour (D : va_G) (dA : Nat → ClassId) (x0 : Nat) (x1 x2 x3 x4 x5 : Int32) : J (PM D dA true) Y_X0_pour [(0, .ref x0), (1, .int x1), (2, .int x2), (3, .int x3), (4, .int x4), (5, .int x5)] [] 0 (f_X0_pour x0 x1 x2 x3 x4 x5) (FRet injI) := by
  unfold f_X0_pour
  refine J_iload_n dX0_pour_0 rfl 1 rfl ?_
  refine J_callSI (host := "") (as := [.int x1]) dX0_pour_1 rfl (Nat.le_of_ble_eq_true rfl) (cw_X0_isTray _ (by decide)) q656 q657 q658 np_X0_isTray (i_X0_isTray x1) jad_keep rfl (fun v1 => ?_)
  refine J_if_eq (tgt := 14) dX0_pour_4 rfl ?_ ?_
  · refine J_sub [0] rfl ?_
    exact j_X0_pour_14 D dA x0
  refine J_iload_n dX0_pour_7 rfl 3 rfl ?_
  refine J_callSI (host := "") (as := [.int x3]) dX0_pour_8 rfl (Nat.le_of_ble_eq_true rfl) (cw_X0_isTray _ (by decide)) q656 q657 q658 np_X0_isTray (i_X0_isTray x3) jad_keep rfl (fun v2 => ?_)
  refine J_if_ne (tgt := 20) dX0_pour_11 rfl ?_ ?_
  rotate_left
  · refine J_sub [0] rfl ?_
    exact j_X0_pour_14 D dA x0
  refine J_aload_n dX0_pour_20 rfl 0 rfl ?_
  refine J_getA dX0_pour_21 fl_X0_11 rfl (fun v3 => ?_)
  refine J_iload_n dX0_pour_24 rfl 1 rfl ?_
  refine J_aald dX0_pour_25 rfl (by decide) (fun v4 => ?_)
  refine J_getO dX0_pour_26 fl_X0_181 rfl (fun o1 => ?_)
  refine J_astoreO (env' := [(6, va_rf o1), (0, .ref x0), (1, .int x1), (2, .int x2), (3, .int x3), (4, .int x4), (5, .int x5)]) dX0_pour_29 (by decide) rfl ?_
  refine J_aload_n dX0_pour_31 rfl 1 rfl ?_
  refine J_getA dX0_pour_32 fl_X0_11 rfl (fun v6 => ?_)
  refine J_iload_n dX0_pour_35 rfl 4 rfl ?_
  refine J_aald dX0_pour_36 rfl (by decide) (fun v7 => ?_)
  refine J_getO dX0_pour_37 fl_X0_181 rfl (fun o2 => ?_)
  refine J_astoreO (env' := [(7, va_rf o2), (6, va_rf o1), (0, .ref x0), (1, .int x1), (2, .int x2), (3, .int x3), (4, .int x4), (5, .int x5)]) dX0_pour_40 (by decide) (by cases o1 <;> rfl) ?_
  have h80 : J (PM D dA true) Y_X0_pour [(7, va_rf o2), (6, va_rf o1), (0, .ref x0), (1, .int x1), (2, .int x2), (3, .int x3), (4, .int x4), (5, .int x5)] [] 80 (X0_pour_b80 x0 x2 x4 x5 o1 o2) (FRet injI) := by
    refine J_sub [1, 0, 2, 4, 6, 7] rfl ?_
    exact j_X0_pour_b80 D dA x0 x2 x4 x5 o1 o2
  refine J_aloadO dX0_pour_42 1 rfl ?_
  refine J_ifnull (tgt := 80) dX0_pour_44 rfl h80 ?_
  refine J_aloadO dX0_pour_47 0 rfl ?_
  refine J_ifnull (tgt := 80) dX0_pour_49 rfl h80 ?_
  refine J_aload_n dX0_pour_52 rfl 2 rfl ?_
  refine J_getA dX0_pour_53 fl_X0_11 rfl (fun v8 => ?_)
  refine J_iload_n dX0_pour_56 rfl 3 rfl ?_
  refine J_aald dX0_pour_57 rfl (by decide) (fun v9 => ?_)
  refine J_getI dX0_pour_58 fl_X0_185 rfl (fun s1 => ?_)
  refine J_aload_n dX0_pour_61 rfl 2 rfl ?_
  refine J_getA dX0_pour_62 fl_X0_11 rfl (fun v10 => ?_)
  refine J_iload_n dX0_pour_65 rfl 5 rfl ?_
  refine J_aald dX0_pour_66 rfl (by decide) (fun v11 => ?_)
  refine J_getI dX0_pour_67 fl_X0_185 rfl (fun s2 => ?_)
  refine J_icmp_eq (tgt := 80) dX0_pour_70 rfl h80 ?_
  refine J_aload_n dX0_pour_73 rfl 2 rfl ?_
  refine J_bipush (v := 11) dX0_pour_74 (by decide) ?_
  refine J_callVI (c := 0) (as := [.int 11]) dX0_pour_76 (by decide) rfl (Nat.le_of_ble_eq_true rfl) (cw_X0_is0 _ (by decide)) q659 q661 qs2 q662 np_X0_is0 (i_X0_is0 x0 11) jad_keep rfl (fun v2 => ?_)
  exact J_zreturn dX0_pour_79 rfl
theorem i_X0_pour (x0 : Nat) (x1 x2 x3 x4 x5 : Int32) : Impl (wsW_ yX0_pour cX0_pour 9 (some .boolean) [(80, 92, 95, 167), (80, 92, 103, 194)]) yX0_pour 120 true 3 610 [.ref x0, .int x1, .int x2, .int x3, .int x4, .int x5] (f_X0_pour x0 x1 x2 x3 x4 x5) injI := impl_ofH (plainFor_of_name (by decide)) (Nat.le_of_ble_eq_true rfl) (fun D dA => j_X0_pour D dA x0 x1 x2 x3 x4 x5)
theorem cw_X0_pour (Y : JY) (h : 121 ≤ Y.2.2.2.1) : JCw Y (wsW_ yX0_pour cX0_pour 9 (some .boolean) [(80, 92, 95, 167), (80, 92, 103, 194)]) yX0_pour cX0_pour 9 (some .boolean) 120 := ⟨h, by decide, lw_methW q741, q187, by decide, by decide⟩
theorem np_X0_pour : JNp yX0_pour.desc 5 := by decide +kernel
end JPOURH
