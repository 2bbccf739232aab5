/-! THE LAW, printed by gen.py: what its bytecode does -/
set_option maxRecDepth 100000
abbrev yL_law : MethodName := ⟨"BracketRoomLaw", "law", "([I)Z"⟩
theorem il_X0_tray (x0 : Nat) (x1 : Int32) (x2 : Int32) (x3 : Int32) : Impl (wsW_ yX0_tray cX0_tray 5 (some .boolean) [(34, 45, 48, 161)]) yX0_tray 120 true 10 1300 [.ref x0, .int x1, .int x2, .int x3] (f_X0_tray x0 x1 x2 x3) injI := impl_ofH (plainFor_of_name (by decide)) (Nat.le_of_ble_eq_true rfl) (fun D dA => j_X0_tray D dA x0 x1 x2 x3)
theorem il_X0_write (x0 : Nat) (x1 : Int32) (x2 : Int32) (x3 : Int64) : Impl (wsW_ yX0_write cX0_write 6 (some .boolean) [(13, 24, 27, 167), (13, 24, 35, 169)]) yX0_write 120 true 10 1300 [.ref x0, .int x1, .int x2, .long x3] (f_X0_write x0 x1 x2 x3) injI := impl_ofH (plainFor_of_name (by decide)) (Nat.le_of_ble_eq_true rfl) (fun D dA => j_X0_write D dA x0 x1 x2 x3)
theorem il_X0_read (x0 : Nat) (x1 : Int32) (x2 : Int32) : Impl (wsW_ yX0_read cX0_read 4 (some .long) [(19, 29, 30, 167), (19, 29, 39, 169)]) yX0_read 120 true 10 1300 [.ref x0, .int x1, .int x2] (f_X0_read x0 x1 x2) injL := impl_ofH (plainFor_of_name (by decide)) (Nat.le_of_ble_eq_true rfl) (fun D dA => j_X0_read D dA x0 x1 x2)
theorem il_X0_pour (x0 : Nat) (x1 x2 x3 x4 x5 : Int32) : Impl (wsW_ yX0_pour cX0_pour 9 (some .boolean) [(80, 92, 95, 167), (80, 92, 103, 194)]) yX0_pour 120 true 10 1300 [.ref x0, .int x1, .int x2, .int x3, .int x4, .int x5] (f_X0_pour x0 x1 x2 x3 x4 x5) injI := impl_ofH (plainFor_of_name (by decide)) (Nat.le_of_ble_eq_true rfl) (fun D dA => j_X0_pour D dA x0 x1 x2 x3 x4 x5)
abbrev Y_L_law : JY := (cL_law, yL_law.cls, 4, 121, yL_law.name, (some .boolean), [])
noncomputable def L_law_b1588 (x0 : Nat) (x1 : Nat) (x2 : Nat) (x3 : Int32) : JM Mem (Int32 ⊕ (Int32)) :=
  jcont (x3 + 6)
theorem j_L_law_b1588 (D : va_G) (dA : Nat → ClassId) (x0 : Nat) (x1 : Nat) (x2 : Nat) (x3 : Int32) : J (PM D dA true) Y_L_law [(0, .ref x0), (1, .ref x1), (2, .ref x2), (3, .int x3)] [] 1588 (L_law_b1588 x0 x1 x2 x3) (FLoop (FRet injI) 18 (fun (t : Int32) => [(0, .ref x0), (1, .ref x1), (2, .ref x2), (3, .int t)])) := by
  unfold L_law_b1588
  refine J_iinc (v := x3 + 6) (env' := [(3, .int (x3 + 6)), (0, .ref x0), (1, .ref x1), (2, .ref x2)]) dL_law_1588 3 rfl rfl (by decide) rfl ?_
  refine J_goto (tgt := 18) dL_law_1591 rfl ?_
  exact J_cont [1, 2, 3, 0] rfl
noncomputable def L_law_L18 (x0 : Nat) (x1 : Nat) (x2 : Nat) (x3 : Int32) : JM Mem (Int32 ⊕ (Int32)) :=
  jb (jalen x0) fun v3 =>
  if v3 - 6 < x3 then
    jinl (jp 1)
  else
  jb (jald mI 0 x0 x3) fun v4 =>
  jsw (v4 &&& 63) 0 [
    jb (jcall 0 x1 (jkeep (f_X0_status x1))) fun v5 =>
    jb (jcall 7 x2 (jkeep (f_X8_status x2))) fun v6 =>
    if v5 = v6 then
      L_law_b1588 x0 x1 x2 x3
    else
      jinl (jp 0),
    jb (jcall 0 x1 (jkeep (f_X0_top x1))) fun v7 =>
    jb (jcall 7 x2 (jkeep (f_X8_top x2))) fun v8 =>
    if v7 = v8 then
      L_law_b1588 x0 x1 x2 x3
    else
      jinl (jp 0),
    jb (jcall 0 x1 (jkeep (f_X0_bottom x1))) fun v9 =>
    jb (jcall 7 x2 (jkeep (f_X8_bottom x2))) fun v10 =>
    if v9 = v10 then
      L_law_b1588 x0 x1 x2 x3
    else
      jinl (jp 0),
    jb (jald mI 0 x0 (x3 + 1)) fun v11 =>
    jb (jald mI 0 x0 (x3 + 2)) fun v12 =>
    jb (jald mI 0 x0 (x3 + 3)) fun v13 =>
    jb (jcall 0 x1 (jpay 10 1300 (f_X0_tray x1 v11 v12 v13))) fun v14 =>
    jb (jald mI 0 x0 (x3 + 1)) fun v15 =>
    jb (jald mI 0 x0 (x3 + 2)) fun v16 =>
    jb (jald mI 0 x0 (x3 + 3)) fun v17 =>
    jb (jcall 7 x2 (jkeep (f_X8_tray x2 v15 v16 v17))) fun v18 =>
    if v14 = v18 then
      L_law_b1588 x0 x1 x2 x3
    else
      jinl (jp 0),
    jb (jald mI 0 x0 (x3 + 1)) fun v19 =>
    jb (jald mI 0 x0 (x3 + 2)) fun v20 =>
    jb (jald mI 0 x0 (x3 + 3)) fun v21 =>
    jb (jald mI 0 x0 (x3 + 4)) fun v22 =>
    jb (jcall 0 x1 (jpay 10 1300 (f_X0_write x1 v19 v20 ((((v21 : Int32).toInt64) <<< (((32 : Int32)).toInt64 &&& 63)) ||| (((v22 : Int32).toInt64) &&& 4294967295))))) fun v23 =>
    jb (jald mI 0 x0 (x3 + 1)) fun v24 =>
    jb (jald mI 0 x0 (x3 + 2)) fun v25 =>
    jb (jald mI 0 x0 (x3 + 3)) fun v26 =>
    jb (jald mI 0 x0 (x3 + 4)) fun v27 =>
    jb (jcall 7 x2 (jkeep (f_X8_write x2 v24 v25 ((((v26 : Int32).toInt64) <<< (((32 : Int32)).toInt64 &&& 63)) ||| (((v27 : Int32).toInt64) &&& 4294967295))))) fun v28 =>
    if v23 = v28 then
      L_law_b1588 x0 x1 x2 x3
    else
      jinl (jp 0),
    jb (jald mI 0 x0 (x3 + 1)) fun v29 =>
    jb (jald mI 0 x0 (x3 + 2)) fun v30 =>
    jb (jcall 0 x1 (jpay 10 1300 (f_X0_read x1 v29 v30))) fun v31 =>
    jb (jald mI 0 x0 (x3 + 1)) fun v32 =>
    jb (jald mI 0 x0 (x3 + 2)) fun v33 =>
    jb (jcall 7 x2 (jkeep (f_X8_read x2 v32 v33))) fun v34 =>
    if v31 = v34 then
      L_law_b1588 x0 x1 x2 x3
    else
      jinl (jp 0),
    jb (jald mI 0 x0 (x3 + 1)) fun v35 =>
    jb (jald mI 0 x0 (x3 + 2)) fun v36 =>
    jb (jald mI 0 x0 (x3 + 3)) fun v37 =>
    jb (jald mI 0 x0 (x3 + 4)) fun v38 =>
    jb (jald mI 0 x0 (x3 + 5)) fun v39 =>
    jb (jcall 0 x1 (jpay 10 1300 (f_X0_pour x1 v35 v36 v37 v38 v39))) fun v40 =>
    jb (jald mI 0 x0 (x3 + 1)) fun v41 =>
    jb (jald mI 0 x0 (x3 + 2)) fun v42 =>
    jb (jald mI 0 x0 (x3 + 3)) fun v43 =>
    jb (jald mI 0 x0 (x3 + 4)) fun v44 =>
    jb (jald mI 0 x0 (x3 + 5)) fun v45 =>
    jb (jcall 7 x2 (jkeep (f_X8_pour x2 v41 v42 v43 v44 v45))) fun v46 =>
    if v40 = v46 then
      L_law_b1588 x0 x1 x2 x3
    else
      jinl (jp 0),
    jb (jald mI 0 x0 (x3 + 1)) fun v47 =>
    jb (jald mI 0 x0 (x3 + 2)) fun v48 =>
    jb (jald mI 0 x0 (x3 + 3)) fun v49 =>
    jb (jald mI 0 x0 (x3 + 4)) fun v50 =>
    jb (jald mI 0 x0 (x3 + 5)) fun v51 =>
    jb (jcall 0 x1 (jkeep (f_X0_feed x1 v47 v48 v49 v50 v51))) fun v52 =>
    jb (jald mI 0 x0 (x3 + 1)) fun v53 =>
    jb (jald mI 0 x0 (x3 + 2)) fun v54 =>
    jb (jald mI 0 x0 (x3 + 3)) fun v55 =>
    jb (jald mI 0 x0 (x3 + 4)) fun v56 =>
    jb (jald mI 0 x0 (x3 + 5)) fun v57 =>
    jb (jcall 7 x2 (jkeep (f_X8_feed x2 v53 v54 v55 v56 v57))) fun v58 =>
    if v52 = v58 then
      L_law_b1588 x0 x1 x2 x3
    else
      jinl (jp 0),
    jb (jald mI 0 x0 (x3 + 1)) fun v59 =>
    jb (jcall 0 x1 (jkeep (f_X0_world x1 v59))) fun v60 =>
    jb (jald mI 0 x0 (x3 + 1)) fun v61 =>
    jb (jcall 7 x2 (jkeep (f_X8_world x2 v61))) fun v62 =>
    if v60 = v62 then
      L_law_b1588 x0 x1 x2 x3
    else
      jinl (jp 0),
    jb (jald mI 0 x0 (x3 + 1)) fun v63 =>
    jb (jcall 0 x1 (jpay 62 600 (f_X0_script x1 v63))) fun v64 =>
    jb (jald mI 0 x0 (x3 + 1)) fun v65 =>
    jb (jcall 7 x2 (jkeep (f_X8_script x2 v65))) fun v66 =>
    if v64 = v66 then
      L_law_b1588 x0 x1 x2 x3
    else
      jinl (jp 0),
    jb (jald mI 0 x0 (x3 + 1)) fun v67 =>
    jb (jcall 0 x1 (jkeep (f_X0_fault x1 v67))) fun v68 =>
    jb (jald mI 0 x0 (x3 + 1)) fun v69 =>
    jb (jcall 7 x2 (jkeep (f_X8_fault x2 v69))) fun v70 =>
    if v68 = v70 then
      L_law_b1588 x0 x1 x2 x3
    else
      jinl (jp 0),
    jb (jald mI 0 x0 (x3 + 1)) fun v71 =>
    jb (jcall 0 x1 (jkeep (f_X0_many x1 v71))) fun v72 =>
    jb (jald mI 0 x0 (x3 + 1)) fun v73 =>
    jb (jcall 7 x2 (jkeep (f_X8_many x2 v73))) fun v74 =>
    if v72 = v74 then
      L_law_b1588 x0 x1 x2 x3
    else
      jinl (jp 0),
    jb (jald mI 0 x0 (x3 + 1)) fun v75 =>
    jb (jald mI 0 x0 (x3 + 2)) fun v76 =>
    jb (jald mI 0 x0 (x3 + 3)) fun v77 =>
    jb (jcall 0 x1 (jkeep (f_X0_constant x1 v75 v76 v77))) fun v78 =>
    jb (jald mI 0 x0 (x3 + 1)) fun v79 =>
    jb (jald mI 0 x0 (x3 + 2)) fun v80 =>
    jb (jald mI 0 x0 (x3 + 3)) fun v81 =>
    jb (jcall 7 x2 (jkeep (f_X8_constant x2 v79 v80 v81))) fun v82 =>
    if v78 = v82 then
      L_law_b1588 x0 x1 x2 x3
    else
      jinl (jp 0),
    jb (jald mI 0 x0 (x3 + 1)) fun v83 =>
    jb (jald mI 0 x0 (x3 + 2)) fun v84 =>
    jb (jald mI 0 x0 (x3 + 3)) fun v85 =>
    jb (jald mI 0 x0 (x3 + 4)) fun v86 =>
    jb (jcall 0 x1 (jkeep (f_X0_put x1 v83 v84 v85 v86))) fun v87 =>
    jb (jald mI 0 x0 (x3 + 1)) fun v88 =>
    jb (jald mI 0 x0 (x3 + 2)) fun v89 =>
    jb (jald mI 0 x0 (x3 + 3)) fun v90 =>
    jb (jald mI 0 x0 (x3 + 4)) fun v91 =>
    jb (jcall 7 x2 (jkeep (f_X8_put x2 v88 v89 v90 v91))) fun v92 =>
    if v87 = v92 then
      L_law_b1588 x0 x1 x2 x3
    else
      jinl (jp 0),
    jb (jald mI 0 x0 (x3 + 1)) fun v93 =>
    jb (jald mI 0 x0 (x3 + 2)) fun v94 =>
    jb (jcall 0 x1 (jkeep (f_X0_bracket x1 v93 v94))) fun v95 =>
    jb (jald mI 0 x0 (x3 + 1)) fun v96 =>
    jb (jald mI 0 x0 (x3 + 2)) fun v97 =>
    jb (jcall 7 x2 (jkeep (f_X8_bracket x2 v96 v97))) fun v98 =>
    if v95 = v98 then
      L_law_b1588 x0 x1 x2 x3
    else
      jinl (jp 0),
    jb (jcall 0 x1 (jkeep (f_X0_lawful x1))) fun v99 =>
    jb (jcall 7 x2 (jkeep (f_X8_lawful x2))) fun v100 =>
    if v99 = v100 then
      L_law_b1588 x0 x1 x2 x3
    else
      jinl (jp 0),
    jb (jald mI 0 x0 (x3 + 1)) fun v101 =>
    jb (jcall 0 x1 (jkeep (f_X0_failing x1 v101))) fun v102 =>
    jb (jald mI 0 x0 (x3 + 1)) fun v103 =>
    jb (jcall 7 x2 (jkeep (f_X8_failing x2 v103))) fun v104 =>
    if v102 = v104 then
      L_law_b1588 x0 x1 x2 x3
    else
      jinl (jp 0),
    jb (jald mI 0 x0 (x3 + 1)) fun v105 =>
    jb (jcall 0 x1 (jkeep (f_X0_keep x1 v105))) fun v106 =>
    jb (jald mI 0 x0 (x3 + 1)) fun v107 =>
    jb (jcall 7 x2 (jkeep (f_X8_keep x2 v107))) fun v108 =>
    if v106 = v108 then
      L_law_b1588 x0 x1 x2 x3
    else
      jinl (jp 0),
    jb (jald mI 0 x0 (x3 + 1)) fun v109 =>
    jb (jcall 0 x1 (jkeep (f_X0_take x1 v109))) fun v110 =>
    jb (jald mI 0 x0 (x3 + 1)) fun v111 =>
    jb (jcall 7 x2 (jkeep (f_X8_take x2 v111))) fun v112 =>
    if v110 = v112 then
      L_law_b1588 x0 x1 x2 x3
    else
      jinl (jp 0),
    jb (jald mI 0 x0 (x3 + 1)) fun v113 =>
    jb (jald mI 0 x0 (x3 + 2)) fun v114 =>
    jb (jald mI 0 x0 (x3 + 3)) fun v115 =>
    jb (jcall 0 x1 (jkeep (f_X0_span x1 v113 v114 v115))) fun v116 =>
    jb (jald mI 0 x0 (x3 + 1)) fun v117 =>
    jb (jald mI 0 x0 (x3 + 2)) fun v118 =>
    jb (jald mI 0 x0 (x3 + 3)) fun v119 =>
    jb (jcall 7 x2 (jkeep (f_X8_span x2 v117 v118 v119))) fun v120 =>
    if v116 = v120 then
      L_law_b1588 x0 x1 x2 x3
    else
      jinl (jp 0),
    jb (jald mI 0 x0 (x3 + 1)) fun v121 =>
    jb (jcall 0 x1 (jkeep (f_X0_derived x1 v121))) fun v122 =>
    jb (jald mI 0 x0 (x3 + 1)) fun v123 =>
    jb (jcall 7 x2 (jkeep (f_X8_derived x2 v123))) fun v124 =>
    if v122 = v124 then
      L_law_b1588 x0 x1 x2 x3
    else
      jinl (jp 0),
    jb (jald mI 0 x0 (x3 + 1)) fun v125 =>
    jb (jcall 0 x1 (jkeep (f_X0_lower x1 v125))) fun v126 =>
    jb (jald mI 0 x0 (x3 + 1)) fun v127 =>
    jb (jcall 7 x2 (jkeep (f_X8_lower x2 v127))) fun v128 =>
    if v126 = v128 then
      L_law_b1588 x0 x1 x2 x3
    else
      jinl (jp 0),
    jb (jcall 0 x1 (jkeep (f_X0_centre x1))) fun v129 =>
    jb (jcall 7 x2 (jkeep (f_X8_centre x2))) fun v130 =>
    if v129 = v130 then
      L_law_b1588 x0 x1 x2 x3
    else
      jinl (jp 0),
    jb (jald mI 0 x0 (x3 + 1)) fun v131 =>
    jb (jcall 0 x1 (jkeep (f_X0_centralizer x1 v131))) fun v132 =>
    jb (jald mI 0 x0 (x3 + 1)) fun v133 =>
    jb (jcall 7 x2 (jkeep (f_X8_centralizer x2 v133))) fun v134 =>
    if v132 = v134 then
      L_law_b1588 x0 x1 x2 x3
    else
      jinl (jp 0),
    jb (jald mI 0 x0 (x3 + 1)) fun v135 =>
    jb (jcall 0 x1 (jkeep (f_X0_is x1 v135))) fun v136 =>
    jb (jald mI 0 x0 (x3 + 1)) fun v137 =>
    jb (jcall 7 x2 (jkeep (f_X8_is x2 v137))) fun v138 =>
    if v136 = v138 then
      L_law_b1588 x0 x1 x2 x3
    else
      jinl (jp 0),
    jb (jald mI 0 x0 (x3 + 1)) fun v139 =>
    jb (jcall 0 x1 (jkeep (f_X0_radical x1 v139))) fun v140 =>
    jb (jald mI 0 x0 (x3 + 1)) fun v141 =>
    jb (jcall 7 x2 (jkeep (f_X8_radical x2 v141))) fun v142 =>
    if v140 = v142 then
      L_law_b1588 x0 x1 x2 x3
    else
      jinl (jp 0),
    jb (jald mI 0 x0 (x3 + 1)) fun v143 =>
    jb (jald mI 0 x0 (x3 + 2)) fun v144 =>
    jb (jcall 0 x1 (jkeep (f_X0_parts x1 v143 v144))) fun v145 =>
    jb (jald mI 0 x0 (x3 + 1)) fun v146 =>
    jb (jald mI 0 x0 (x3 + 2)) fun v147 =>
    jb (jcall 7 x2 (jkeep (f_X8_parts x2 v146 v147))) fun v148 =>
    if v145 = v148 then
      L_law_b1588 x0 x1 x2 x3
    else
      jinl (jp 0),
    jb (jcall 0 x1 (jkeep (f_X0_share x1))) fun v149 =>
    jb (jcall 7 x2 (jkeep (f_X8_share x2))) fun v150 =>
    if v149 = v150 then
      L_law_b1588 x0 x1 x2 x3
    else
      jinl (jp 0),
    jb (jald mI 0 x0 (x3 + 1)) fun v151 =>
    jb (jcall 0 x1 (jkeep (f_X0_rank x1 v151))) fun v152 =>
    jb (jald mI 0 x0 (x3 + 1)) fun v153 =>
    jb (jcall 7 x2 (jkeep (f_X8_rank x2 v153))) fun v154 =>
    if v152 = v154 then
      L_law_b1588 x0 x1 x2 x3
    else
      jinl (jp 0),
    jb (jald mI 0 x0 (x3 + 1)) fun v155 =>
    jb (jcall 0 x1 (jkeep (f_X0_power x1 v155))) fun v156 =>
    jb (jald mI 0 x0 (x3 + 1)) fun v157 =>
    jb (jcall 7 x2 (jkeep (f_X8_power x2 v157))) fun v158 =>
    if v156 = v158 then
      L_law_b1588 x0 x1 x2 x3
    else
      jinl (jp 0),
    jb (jald mI 0 x0 (x3 + 1)) fun v159 =>
    jb (jcall 0 x1 (jkeep (f_X0_derivations x1 v159))) fun v160 =>
    jb (jald mI 0 x0 (x3 + 1)) fun v161 =>
    jb (jcall 7 x2 (jkeep (f_X8_derivations x2 v161))) fun v162 =>
    if v160 = v162 then
      L_law_b1588 x0 x1 x2 x3
    else
      jinl (jp 0),
    jb (jcall 0 x1 (jkeep (f_X0_form x1))) fun v163 =>
    jb (jcall 7 x2 (jkeep (f_X8_form x2))) fun v164 =>
    if v163 = v164 then
      L_law_b1588 x0 x1 x2 x3
    else
      jinl (jp 0),
    jb (jald mI 0 x0 (x3 + 1)) fun v165 =>
    jb (jcall 0 x1 (jkeep (f_X0_classes x1 v165))) fun v166 =>
    jb (jald mI 0 x0 (x3 + 1)) fun v167 =>
    jb (jcall 7 x2 (jkeep (f_X8_classes x2 v167))) fun v168 =>
    if v166 = v168 then
      L_law_b1588 x0 x1 x2 x3
    else
      jinl (jp 0),
    jb (jcall 0 x1 (jkeep (f_X0_commuting x1))) fun v169 =>
    jb (jcall 7 x2 (jkeep (f_X8_commuting x2))) fun v170 =>
    if v169 = v170 then
      L_law_b1588 x0 x1 x2 x3
    else
      jinl (jp 0),
    jb (jcall 0 x1 (jkeep (f_X0_maps x1))) fun v171 =>
    jb (jcall 7 x2 (jkeep (f_X8_maps x2))) fun v172 =>
    if v171 = v172 then
      L_law_b1588 x0 x1 x2 x3
    else
      jinl (jp 0),
    jb (jald mI 0 x0 (x3 + 1)) fun v173 =>
    jb (jcall 0 x1 (jkeep (f_X0_sameAs x1 v173))) fun v174 =>
    jb (jald mI 0 x0 (x3 + 1)) fun v175 =>
    jb (jcall 7 x2 (jkeep (f_X8_sameAs x2 v175))) fun v176 =>
    if v174 = v176 then
      L_law_b1588 x0 x1 x2 x3
    else
      jinl (jp 0),
    jb (jcall 0 x1 (jkeep (f_X0_tries x1))) fun v177 =>
    jb (jcall 7 x2 (jkeep (f_X8_tries x2))) fun v178 =>
    if v177 = v178 then
      L_law_b1588 x0 x1 x2 x3
    else
      jinl (jp 0),
    jb (jald mI 0 x0 (x3 + 1)) fun v179 =>
    jb (jcall 0 x1 (jkeep (f_X0_parted x1 v179))) fun v180 =>
    jb (jald mI 0 x0 (x3 + 1)) fun v181 =>
    jb (jcall 7 x2 (jkeep (f_X8_parted x2 v181))) fun v182 =>
    if v180 = v182 then
      L_law_b1588 x0 x1 x2 x3
    else
      jinl (jp 0),
    jb (jald mI 0 x0 (x3 + 1)) fun v183 =>
    jb (jcall 0 x1 (jkeep (f_X0_change x1 v183))) fun v184 =>
    jb (jald mI 0 x0 (x3 + 1)) fun v185 =>
    jb (jcall 7 x2 (jkeep (f_X8_change x2 v185))) fun v186 =>
    if v184 = v186 then
      L_law_b1588 x0 x1 x2 x3
    else
      jinl (jp 0),
    jb (jald mI 0 x0 (x3 + 1)) fun v187 =>
    jb (jcall 0 x1 (jkeep (f_X0_squeeze x1 v187))) fun v188 =>
    jb (jald mI 0 x0 (x3 + 1)) fun v189 =>
    jb (jcall 7 x2 (jkeep (f_X8_squeeze x2 v189))) fun v190 =>
    if v188 = v190 then
      L_law_b1588 x0 x1 x2 x3
    else
      jinl (jp 0),
    jb (jald mI 0 x0 (x3 + 1)) fun v191 =>
    jb (jcall 0 x1 (jkeep (f_X0_barred x1 v191))) fun v192 =>
    jb (jald mI 0 x0 (x3 + 1)) fun v193 =>
    jb (jcall 7 x2 (jkeep (f_X8_barred x2 v193))) fun v194 =>
    if v192 = v194 then
      L_law_b1588 x0 x1 x2 x3
    else
      jinl (jp 0),
    jb (jald mI 0 x0 (x3 + 1)) fun v195 =>
    jb (jcall 0 x1 (jkeep (f_X0_cocycle x1 v195))) fun v196 =>
    jb (jald mI 0 x0 (x3 + 1)) fun v197 =>
    jb (jcall 7 x2 (jkeep (f_X8_cocycle x2 v197))) fun v198 =>
    if v196 = v198 then
      L_law_b1588 x0 x1 x2 x3
    else
      jinl (jp 0),
    jb (jald mI 0 x0 (x3 + 1)) fun v199 =>
    jb (jcall 0 x1 (jkeep (f_X0_grow x1 v199))) fun v200 =>
    jb (jald mI 0 x0 (x3 + 1)) fun v201 =>
    jb (jcall 7 x2 (jkeep (f_X8_grow x2 v201))) fun v202 =>
    if v200 = v202 then
      L_law_b1588 x0 x1 x2 x3
    else
      jinl (jp 0),
    jb (jald mI 0 x0 (x3 + 1)) fun v203 =>
    jb (jcall 0 x1 (jkeep (f_X0_sum x1 v203))) fun v204 =>
    jb (jald mI 0 x0 (x3 + 1)) fun v205 =>
    jb (jcall 7 x2 (jkeep (f_X8_sum x2 v205))) fun v206 =>
    if v204 = v206 then
      L_law_b1588 x0 x1 x2 x3
    else
      jinl (jp 0),
    jb (jald mI 0 x0 (x3 + 1)) fun v207 =>
    jb (jald mI 0 x0 (x3 + 2)) fun v208 =>
    jb (jcall 0 x1 (jkeep (f_X0_rest x1 v207 v208))) fun v209 =>
    jb (jald mI 0 x0 (x3 + 1)) fun v210 =>
    jb (jald mI 0 x0 (x3 + 2)) fun v211 =>
    jb (jcall 7 x2 (jkeep (f_X8_rest x2 v210 v211))) fun v212 =>
    if v209 = v212 then
      L_law_b1588 x0 x1 x2 x3
    else
      jinl (jp 0),
    jb (jald mI 0 x0 (x3 + 1)) fun v213 =>
    jb (jald mI 0 x0 (x3 + 2)) fun v214 =>
    jb (jcall 0 x1 (jkeep (f_X0_takeOut x1 v213 v214))) fun v215 =>
    jb (jald mI 0 x0 (x3 + 1)) fun v216 =>
    jb (jald mI 0 x0 (x3 + 2)) fun v217 =>
    jb (jcall 7 x2 (jkeep (f_X8_takeOut x2 v216 v217))) fun v218 =>
    if v215 = v218 then
      L_law_b1588 x0 x1 x2 x3
    else
      jinl (jp 0),
    jb (jald mI 0 x0 (x3 + 1)) fun v219 =>
    jb (jald mI 0 x0 (x3 + 2)) fun v220 =>
    jb (jald mI 0 x0 (x3 + 3)) fun v221 =>
    jb (jcall 0 x1 (jkeep (f_X0_tables x1 v219 v220 v221))) fun v222 =>
    jb (jald mI 0 x0 (x3 + 1)) fun v223 =>
    jb (jald mI 0 x0 (x3 + 2)) fun v224 =>
    jb (jald mI 0 x0 (x3 + 3)) fun v225 =>
    jb (jcall 7 x2 (jkeep (f_X8_tables x2 v223 v224 v225))) fun v226 =>
    if v222 = v226 then
      L_law_b1588 x0 x1 x2 x3
    else
      jinl (jp 0),
    jb (jcall 0 x1 (jkeep (f_X0_run x1))) fun v227 =>
    jb (jcall 7 x2 (jkeep (f_X8_run x2))) fun v228 =>
    if v227 = v228 then
      L_law_b1588 x0 x1 x2 x3
    else
      jinl (jp 0),
    jb (jald mI 0 x0 (x3 + 1)) fun v229 =>
    jb (jcall 0 x1 (jkeep (f_X0_ran x1 v229))) fun v230 =>
    jb (jald mI 0 x0 (x3 + 1)) fun v231 =>
    jb (jcall 7 x2 (jkeep (f_X8_ran x2 v231))) fun v232 =>
    if v230 = v232 then
      L_law_b1588 x0 x1 x2 x3
    else
      jinl (jp 0),
    jb (jcall 0 x1 (jkeep (f_X0_mark x1))) fun v233 =>
    jb (jcall 7 x2 (jkeep (f_X8_mark x2))) fun v234 =>
    if v233 = v234 then
      L_law_b1588 x0 x1 x2 x3
    else
      jinl (jp 0),
    jb (jcall 0 x1 (jkeep (f_X0_back x1))) fun v235 =>
    jb (jcall 7 x2 (jkeep (f_X8_back x2))) fun v236 =>
    if v235 = v236 then
      L_law_b1588 x0 x1 x2 x3
    else
      jinl (jp 0)] (
    L_law_b1588 x0 x1 x2 x3)
theorem j_L_law_L18 (D : va_G) (dA : Nat → ClassId) (x0 : Nat) (x1 : Nat) (x2 : Nat) (x3 : Int32) : J (PM D dA true) Y_L_law [(0, .ref x0), (1, .ref x1), (2, .ref x2), (3, .int x3)] [] 18 (L_law_L18 x0 x1 x2 x3) (FLoop (FRet injI) 18 (fun (t : Int32) => [(0, .ref x0), (1, .ref x1), (2, .ref x2), (3, .int t)])) := by
  unfold L_law_L18
  refine J_iload_n dL_law_18 rfl 3 rfl ?_
  refine J_aload_n dL_law_19 rfl 0 rfl ?_
  refine J_alen dL_law_20 (fun v3 => ?_)
  refine J_bipush (v := 6) dL_law_21 (by decide) ?_
  refine J_isub dL_law_23 ?_
  refine J_icmp_gt (tgt := 1594) dL_law_24 rfl ?_ ?_
  · refine J_inl ?_
    refine J_iconst (v := 1) dL_law_1594 (by decide) ?_
    exact J_zreturn1 dL_law_1595 rfl
  refine J_aload_n dL_law_27 rfl 0 rfl ?_
  refine J_iload_n dL_law_28 rfl 3 rfl ?_
  refine J_iald dL_law_29 (fun v4 => ?_)
  refine J_bipush (v := 63) dL_law_30 (by decide) ?_
  refine J_iand dL_law_32 ?_
  refine J_tswA [252, 265, 279, 293, 336, 409, 443, 506, 569, 592, 615, 638, 661, 704, 757, 790, 803, 826, 849, 872, 915, 938, 961, 974, 997, 1020, 1043, 1076, 1089, 1112, 1135, 1158, 1171, 1194, 1207, 1220, 1243, 1256, 1279, 1302, 1325, 1348, 1371, 1394, 1417, 1450, 1483, 1526, 1539, 1562, 1575] dL_law_33 (tgt := 1588) rfl rfl rfl rfl ?_ ⟨?_, ?_, ?_, ?_, ?_, ?_, ?_, ?_, ?_, ?_, ?_, ?_, ?_, ?_, ?_, ?_, ?_, ?_, ?_, ?_, ?_, ?_, ?_, ?_, ?_, ?_, ?_, ?_, ?_, ?_, ?_, ?_, ?_, ?_, ?_, ?_, ?_, ?_, ?_, ?_, ?_, ?_, ?_, ?_, ?_, ?_, ?_, ?_, ?_, ?_, ?_, trivial⟩
  · refine J_sub [0, 1, 2, 3] rfl ?_
    exact j_L_law_b1588 D dA x0 x1 x2 x3
  · refine J_aload_n dL_law_252 rfl 1 rfl ?_
    refine J_callVI (c := 0) (as := []) dL_law_253 (by decide) rfl (Nat.le_of_ble_eq_true rfl) (cw_X0_status _ (by decide)) q613 q614 q615 q616 np_X0_status (i_X0_status x1) jad_keep rfl (fun v5 => ?_)
    refine J_aload_n dL_law_256 rfl 2 rfl ?_
    refine J_callVI (c := 7) (as := []) dL_law_257 (by decide) rfl (Nat.le_of_ble_eq_true rfl) (cw_X8_status _ (by decide)) q1686 q1687 q1688 q1689 np_X8_status (i_X8_status x2) jad_keep rfl (fun v6 => ?_)
    refine J_icmp_eq (tgt := 1588) dL_law_260 rfl ?_ ?_
    · refine J_sub [0, 1, 2, 3] rfl ?_
      exact j_L_law_b1588 D dA x0 x1 x2 x3
    refine J_inl ?_
    refine J_iconst (v := 0) dL_law_263 (by decide) ?_
    exact J_zreturn0 dL_law_264 rfl
  · refine J_aload_n dL_law_265 rfl 1 rfl ?_
    refine J_callVL (c := 0) (as := []) dL_law_266 (by decide) rfl (Nat.le_of_ble_eq_true rfl) (cw_X0_top _ (by decide)) q617 q618 q619 q620 np_X0_top (i_X0_top x1) jad_keep rfl (fun v7 => ?_)
    refine J_aload_n dL_law_269 rfl 2 rfl ?_
    refine J_callVL (c := 7) (as := []) dL_law_270 (by decide) rfl (Nat.le_of_ble_eq_true rfl) (cw_X8_top _ (by decide)) q1690 q1691 q1692 q1693 np_X8_top (i_X8_top x2) jad_keep rfl (fun v8 => ?_)
    refine J_lcmp_eq (tgt := 1588) dL_law_273 dL_law_274 rfl ?_ ?_
    · refine J_sub [0, 1, 2, 3] rfl ?_
      exact j_L_law_b1588 D dA x0 x1 x2 x3
    refine J_inl ?_
    refine J_iconst (v := 0) dL_law_277 (by decide) ?_
    exact J_zreturn0 dL_law_278 rfl
  · refine J_aload_n dL_law_279 rfl 1 rfl ?_
    refine J_callVL (c := 0) (as := []) dL_law_280 (by decide) rfl (Nat.le_of_ble_eq_true rfl) (cw_X0_bottom _ (by decide)) q621 q622 q623 q624 np_X0_bottom (i_X0_bottom x1) jad_keep rfl (fun v9 => ?_)
    refine J_aload_n dL_law_283 rfl 2 rfl ?_
    refine J_callVL (c := 7) (as := []) dL_law_284 (by decide) rfl (Nat.le_of_ble_eq_true rfl) (cw_X8_bottom _ (by decide)) q1694 q1695 q1696 q1697 np_X8_bottom (i_X8_bottom x2) jad_keep rfl (fun v10 => ?_)
    refine J_lcmp_eq (tgt := 1588) dL_law_287 dL_law_288 rfl ?_ ?_
    · refine J_sub [0, 1, 2, 3] rfl ?_
      exact j_L_law_b1588 D dA x0 x1 x2 x3
    refine J_inl ?_
    refine J_iconst (v := 0) dL_law_291 (by decide) ?_
    exact J_zreturn0 dL_law_292 rfl
  · refine J_aload_n dL_law_293 rfl 1 rfl ?_
    refine J_aload_n dL_law_294 rfl 0 rfl ?_
    refine J_iload_n dL_law_295 rfl 3 rfl ?_
    refine J_iconst (v := 1) dL_law_296 (by decide) ?_
    refine J_iadd dL_law_297 ?_
    refine J_iald dL_law_298 (fun v11 => ?_)
    refine J_aload_n dL_law_299 rfl 0 rfl ?_
    refine J_iload_n dL_law_300 rfl 3 rfl ?_
    refine J_iconst (v := 2) dL_law_301 (by decide) ?_
    refine J_iadd dL_law_302 ?_
    refine J_iald dL_law_303 (fun v12 => ?_)
    refine J_aload_n dL_law_304 rfl 0 rfl ?_
    refine J_iload_n dL_law_305 rfl 3 rfl ?_
    refine J_iconst (v := 3) dL_law_306 (by decide) ?_
    refine J_iadd dL_law_307 ?_
    refine J_iald dL_law_308 (fun v13 => ?_)
    refine J_callVHI (c := 0) (as := [.int v11, .int v12, .int v13]) dL_law_309 (by decide) rfl (Nat.le_of_ble_eq_true rfl) (cw_X0_tray _ (by decide)) q625 q626 q627 q628 np_X0_tray (il_X0_tray x1 v11 v12 v13) jad_pay rfl (fun v14 => ?_)
    refine J_aload_n dL_law_312 rfl 2 rfl ?_
    refine J_aload_n dL_law_313 rfl 0 rfl ?_
    refine J_iload_n dL_law_314 rfl 3 rfl ?_
    refine J_iconst (v := 1) dL_law_315 (by decide) ?_
    refine J_iadd dL_law_316 ?_
    refine J_iald dL_law_317 (fun v15 => ?_)
    refine J_aload_n dL_law_318 rfl 0 rfl ?_
    refine J_iload_n dL_law_319 rfl 3 rfl ?_
    refine J_iconst (v := 2) dL_law_320 (by decide) ?_
    refine J_iadd dL_law_321 ?_
    refine J_iald dL_law_322 (fun v16 => ?_)
    refine J_aload_n dL_law_323 rfl 0 rfl ?_
    refine J_iload_n dL_law_324 rfl 3 rfl ?_
    refine J_iconst (v := 3) dL_law_325 (by decide) ?_
    refine J_iadd dL_law_326 ?_
    refine J_iald dL_law_327 (fun v17 => ?_)
    refine J_callVI (c := 7) (as := [.int v15, .int v16, .int v17]) dL_law_328 (by decide) rfl (Nat.le_of_ble_eq_true rfl) (cw_X8_tray _ (by decide)) q1698 q1699 q1700 q1701 np_X8_tray (i_X8_tray x2 v15 v16 v17) jad_keep rfl (fun v18 => ?_)
    refine J_icmp_eq (tgt := 1588) dL_law_331 rfl ?_ ?_
    · refine J_sub [0, 1, 2, 3] rfl ?_
      exact j_L_law_b1588 D dA x0 x1 x2 x3
    refine J_inl ?_
    refine J_iconst (v := 0) dL_law_334 (by decide) ?_
    exact J_zreturn0 dL_law_335 rfl
  · refine J_aload_n dL_law_336 rfl 1 rfl ?_
    refine J_aload_n dL_law_337 rfl 0 rfl ?_
    refine J_iload_n dL_law_338 rfl 3 rfl ?_
    refine J_iconst (v := 1) dL_law_339 (by decide) ?_
    refine J_iadd dL_law_340 ?_
    refine J_iald dL_law_341 (fun v19 => ?_)
    refine J_aload_n dL_law_342 rfl 0 rfl ?_
    refine J_iload_n dL_law_343 rfl 3 rfl ?_
    refine J_iconst (v := 2) dL_law_344 (by decide) ?_
    refine J_iadd dL_law_345 ?_
    refine J_iald dL_law_346 (fun v20 => ?_)
    refine J_aload_n dL_law_347 rfl 0 rfl ?_
    refine J_iload_n dL_law_348 rfl 3 rfl ?_
    refine J_iconst (v := 3) dL_law_349 (by decide) ?_
    refine J_iadd dL_law_350 ?_
    refine J_iald dL_law_351 (fun v21 => ?_)
    refine J_i2l dL_law_352 ?_
    refine J_bipush (v := 32) dL_law_353 (by decide) ?_
    refine J_lshl dL_law_355 ?_
    refine J_aload_n dL_law_356 rfl 0 rfl ?_
    refine J_iload_n dL_law_357 rfl 3 rfl ?_
    refine J_iconst (v := 4) dL_law_358 (by decide) ?_
    refine J_iadd dL_law_359 ?_
    refine J_iald dL_law_360 (fun v22 => ?_)
    refine J_i2l dL_law_361 ?_
    refine J_ldc2 dL_law_362 q2430 ?_
    refine J_land dL_law_365 ?_
    refine J_lor dL_law_366 ?_
    refine J_callVHI (c := 0) (as := [.int v19, .int v20, .long ((((v21 : Int32).toInt64) <<< (((32 : Int32)).toInt64 &&& 63)) ||| (((v22 : Int32).toInt64) &&& 4294967295))]) dL_law_367 (by decide) rfl (Nat.le_of_ble_eq_true rfl) (cw_X0_write _ (by decide)) q669 q670 q671 q672 np_X0_write (il_X0_write x1 v19 v20 ((((v21 : Int32).toInt64) <<< (((32 : Int32)).toInt64 &&& 63)) ||| (((v22 : Int32).toInt64) &&& 4294967295))) jad_pay rfl (fun v23 => ?_)
    refine J_aload_n dL_law_370 rfl 2 rfl ?_
    refine J_aload_n dL_law_371 rfl 0 rfl ?_
    refine J_iload_n dL_law_372 rfl 3 rfl ?_
    refine J_iconst (v := 1) dL_law_373 (by decide) ?_
    refine J_iadd dL_law_374 ?_
    refine J_iald dL_law_375 (fun v24 => ?_)
    refine J_aload_n dL_law_376 rfl 0 rfl ?_
    refine J_iload_n dL_law_377 rfl 3 rfl ?_
    refine J_iconst (v := 2) dL_law_378 (by decide) ?_
    refine J_iadd dL_law_379 ?_
    refine J_iald dL_law_380 (fun v25 => ?_)
    refine J_aload_n dL_law_381 rfl 0 rfl ?_
    refine J_iload_n dL_law_382 rfl 3 rfl ?_
    refine J_iconst (v := 3) dL_law_383 (by decide) ?_
    refine J_iadd dL_law_384 ?_
    refine J_iald dL_law_385 (fun v26 => ?_)
    refine J_i2l dL_law_386 ?_
    refine J_bipush (v := 32) dL_law_387 (by decide) ?_
    refine J_lshl dL_law_389 ?_
    refine J_aload_n dL_law_390 rfl 0 rfl ?_
    refine J_iload_n dL_law_391 rfl 3 rfl ?_
    refine J_iconst (v := 4) dL_law_392 (by decide) ?_
    refine J_iadd dL_law_393 ?_
    refine J_iald dL_law_394 (fun v27 => ?_)
    refine J_i2l dL_law_395 ?_
    refine J_ldc2 dL_law_396 q2430 ?_
    refine J_land dL_law_399 ?_
    refine J_lor dL_law_400 ?_
    refine J_callVI (c := 7) (as := [.int v24, .int v25, .long ((((v26 : Int32).toInt64) <<< (((32 : Int32)).toInt64 &&& 63)) ||| (((v27 : Int32).toInt64) &&& 4294967295))]) dL_law_401 (by decide) rfl (Nat.le_of_ble_eq_true rfl) (cw_X8_write _ (by decide)) q1706 q1707 q1708 q1709 np_X8_write (i_X8_write x2 v24 v25 ((((v26 : Int32).toInt64) <<< (((32 : Int32)).toInt64 &&& 63)) ||| (((v27 : Int32).toInt64) &&& 4294967295))) jad_keep rfl (fun v28 => ?_)
    refine J_icmp_eq (tgt := 1588) dL_law_404 rfl ?_ ?_
    · refine J_sub [0, 1, 2, 3] rfl ?_
      exact j_L_law_b1588 D dA x0 x1 x2 x3
    refine J_inl ?_
    refine J_iconst (v := 0) dL_law_407 (by decide) ?_
    exact J_zreturn0 dL_law_408 rfl
  · refine J_aload_n dL_law_409 rfl 1 rfl ?_
    refine J_aload_n dL_law_410 rfl 0 rfl ?_
    refine J_iload_n dL_law_411 rfl 3 rfl ?_
    refine J_iconst (v := 1) dL_law_412 (by decide) ?_
    refine J_iadd dL_law_413 ?_
    refine J_iald dL_law_414 (fun v29 => ?_)
    refine J_aload_n dL_law_415 rfl 0 rfl ?_
    refine J_iload_n dL_law_416 rfl 3 rfl ?_
    refine J_iconst (v := 2) dL_law_417 (by decide) ?_
    refine J_iadd dL_law_418 ?_
    refine J_iald dL_law_419 (fun v30 => ?_)
    refine J_callVHL (c := 0) (as := [.int v29, .int v30]) dL_law_420 (by decide) rfl (Nat.le_of_ble_eq_true rfl) (cw_X0_read _ (by decide)) q725 q726 q727 q728 np_X0_read (il_X0_read x1 v29 v30) jad_pay rfl (fun v31 => ?_)
    refine J_aload_n dL_law_423 rfl 2 rfl ?_
    refine J_aload_n dL_law_424 rfl 0 rfl ?_
    refine J_iload_n dL_law_425 rfl 3 rfl ?_
    refine J_iconst (v := 1) dL_law_426 (by decide) ?_
    refine J_iadd dL_law_427 ?_
    refine J_iald dL_law_428 (fun v32 => ?_)
    refine J_aload_n dL_law_429 rfl 0 rfl ?_
    refine J_iload_n dL_law_430 rfl 3 rfl ?_
    refine J_iconst (v := 2) dL_law_431 (by decide) ?_
    refine J_iadd dL_law_432 ?_
    refine J_iald dL_law_433 (fun v33 => ?_)
    refine J_callVL (c := 7) (as := [.int v32, .int v33]) dL_law_434 (by decide) rfl (Nat.le_of_ble_eq_true rfl) (cw_X8_read _ (by decide)) q1721 q1722 q1723 q1724 np_X8_read (i_X8_read x2 v32 v33) jad_keep rfl (fun v34 => ?_)
    refine J_lcmp_eq (tgt := 1588) dL_law_437 dL_law_438 rfl ?_ ?_
    · refine J_sub [0, 1, 2, 3] rfl ?_
      exact j_L_law_b1588 D dA x0 x1 x2 x3
    refine J_inl ?_
    refine J_iconst (v := 0) dL_law_441 (by decide) ?_
    exact J_zreturn0 dL_law_442 rfl
  · refine J_aload_n dL_law_443 rfl 1 rfl ?_
    refine J_aload_n dL_law_444 rfl 0 rfl ?_
    refine J_iload_n dL_law_445 rfl 3 rfl ?_
    refine J_iconst (v := 1) dL_law_446 (by decide) ?_
    refine J_iadd dL_law_447 ?_
    refine J_iald dL_law_448 (fun v35 => ?_)
    refine J_aload_n dL_law_449 rfl 0 rfl ?_
    refine J_iload_n dL_law_450 rfl 3 rfl ?_
    refine J_iconst (v := 2) dL_law_451 (by decide) ?_
    refine J_iadd dL_law_452 ?_
    refine J_iald dL_law_453 (fun v36 => ?_)
    refine J_aload_n dL_law_454 rfl 0 rfl ?_
    refine J_iload_n dL_law_455 rfl 3 rfl ?_
    refine J_iconst (v := 3) dL_law_456 (by decide) ?_
    refine J_iadd dL_law_457 ?_
    refine J_iald dL_law_458 (fun v37 => ?_)
    refine J_aload_n dL_law_459 rfl 0 rfl ?_
    refine J_iload_n dL_law_460 rfl 3 rfl ?_
    refine J_iconst (v := 4) dL_law_461 (by decide) ?_
    refine J_iadd dL_law_462 ?_
    refine J_iald dL_law_463 (fun v38 => ?_)
    refine J_aload_n dL_law_464 rfl 0 rfl ?_
    refine J_iload_n dL_law_465 rfl 3 rfl ?_
    refine J_iconst (v := 5) dL_law_466 (by decide) ?_
    refine J_iadd dL_law_467 ?_
    refine J_iald dL_law_468 (fun v39 => ?_)
    refine J_callVHI (c := 0) (as := [.int v35, .int v36, .int v37, .int v38, .int v39]) dL_law_469 (by decide) rfl (Nat.le_of_ble_eq_true rfl) (cw_X0_pour _ (by decide)) q738 q739 q740 q741 np_X0_pour (il_X0_pour x1 v35 v36 v37 v38 v39) jad_pay rfl (fun v40 => ?_)
    refine J_aload_n dL_law_472 rfl 2 rfl ?_
    refine J_aload_n dL_law_473 rfl 0 rfl ?_
    refine J_iload_n dL_law_474 rfl 3 rfl ?_
    refine J_iconst (v := 1) dL_law_475 (by decide) ?_
    refine J_iadd dL_law_476 ?_
    refine J_iald dL_law_477 (fun v41 => ?_)
    refine J_aload_n dL_law_478 rfl 0 rfl ?_
    refine J_iload_n dL_law_479 rfl 3 rfl ?_
    refine J_iconst (v := 2) dL_law_480 (by decide) ?_
    refine J_iadd dL_law_481 ?_
    refine J_iald dL_law_482 (fun v42 => ?_)
    refine J_aload_n dL_law_483 rfl 0 rfl ?_
    refine J_iload_n dL_law_484 rfl 3 rfl ?_
    refine J_iconst (v := 3) dL_law_485 (by decide) ?_
    refine J_iadd dL_law_486 ?_
    refine J_iald dL_law_487 (fun v43 => ?_)
    refine J_aload_n dL_law_488 rfl 0 rfl ?_
    refine J_iload_n dL_law_489 rfl 3 rfl ?_
    refine J_iconst (v := 4) dL_law_490 (by decide) ?_
    refine J_iadd dL_law_491 ?_
    refine J_iald dL_law_492 (fun v44 => ?_)
    refine J_aload_n dL_law_493 rfl 0 rfl ?_
    refine J_iload_n dL_law_494 rfl 3 rfl ?_
    refine J_iconst (v := 5) dL_law_495 (by decide) ?_
    refine J_iadd dL_law_496 ?_
    refine J_iald dL_law_497 (fun v45 => ?_)
    refine J_callVI (c := 7) (as := [.int v41, .int v42, .int v43, .int v44, .int v45]) dL_law_498 (by decide) rfl (Nat.le_of_ble_eq_true rfl) (cw_X8_pour _ (by decide)) q1726 q1727 q1728 q1729 np_X8_pour (i_X8_pour x2 v41 v42 v43 v44 v45) jad_keep rfl (fun v46 => ?_)
    refine J_icmp_eq (tgt := 1588) dL_law_501 rfl ?_ ?_
    · refine J_sub [0, 1, 2, 3] rfl ?_
      exact j_L_law_b1588 D dA x0 x1 x2 x3
    refine J_inl ?_
    refine J_iconst (v := 0) dL_law_504 (by decide) ?_
    exact J_zreturn0 dL_law_505 rfl
  · refine J_aload_n dL_law_506 rfl 1 rfl ?_
    refine J_aload_n dL_law_507 rfl 0 rfl ?_
    refine J_iload_n dL_law_508 rfl 3 rfl ?_
    refine J_iconst (v := 1) dL_law_509 (by decide) ?_
    refine J_iadd dL_law_510 ?_
    refine J_iald dL_law_511 (fun v47 => ?_)
    refine J_aload_n dL_law_512 rfl 0 rfl ?_
    refine J_iload_n dL_law_513 rfl 3 rfl ?_
    refine J_iconst (v := 2) dL_law_514 (by decide) ?_
    refine J_iadd dL_law_515 ?_
    refine J_iald dL_law_516 (fun v48 => ?_)
    refine J_aload_n dL_law_517 rfl 0 rfl ?_
    refine J_iload_n dL_law_518 rfl 3 rfl ?_
    refine J_iconst (v := 3) dL_law_519 (by decide) ?_
    refine J_iadd dL_law_520 ?_
    refine J_iald dL_law_521 (fun v49 => ?_)
    refine J_aload_n dL_law_522 rfl 0 rfl ?_
    refine J_iload_n dL_law_523 rfl 3 rfl ?_
    refine J_iconst (v := 4) dL_law_524 (by decide) ?_
    refine J_iadd dL_law_525 ?_
    refine J_iald dL_law_526 (fun v50 => ?_)
    refine J_aload_n dL_law_527 rfl 0 rfl ?_
    refine J_iload_n dL_law_528 rfl 3 rfl ?_
    refine J_iconst (v := 5) dL_law_529 (by decide) ?_
    refine J_iadd dL_law_530 ?_
    refine J_iald dL_law_531 (fun v51 => ?_)
    refine J_callVI (c := 0) (as := [.int v47, .int v48, .int v49, .int v50, .int v51]) dL_law_532 (by decide) rfl (Nat.le_of_ble_eq_true rfl) (cw_X0_feed _ (by decide)) q746 q747 q748 q749 np_X0_feed (i_X0_feed x1 v47 v48 v49 v50 v51) jad_keep rfl (fun v52 => ?_)
    refine J_aload_n dL_law_535 rfl 2 rfl ?_
    refine J_aload_n dL_law_536 rfl 0 rfl ?_
    refine J_iload_n dL_law_537 rfl 3 rfl ?_
    refine J_iconst (v := 1) dL_law_538 (by decide) ?_
    refine J_iadd dL_law_539 ?_
    refine J_iald dL_law_540 (fun v53 => ?_)
    refine J_aload_n dL_law_541 rfl 0 rfl ?_
    refine J_iload_n dL_law_542 rfl 3 rfl ?_
    refine J_iconst (v := 2) dL_law_543 (by decide) ?_
    refine J_iadd dL_law_544 ?_
    refine J_iald dL_law_545 (fun v54 => ?_)
    refine J_aload_n dL_law_546 rfl 0 rfl ?_
    refine J_iload_n dL_law_547 rfl 3 rfl ?_
    refine J_iconst (v := 3) dL_law_548 (by decide) ?_
    refine J_iadd dL_law_549 ?_
    refine J_iald dL_law_550 (fun v55 => ?_)
    refine J_aload_n dL_law_551 rfl 0 rfl ?_
    refine J_iload_n dL_law_552 rfl 3 rfl ?_
    refine J_iconst (v := 4) dL_law_553 (by decide) ?_
    refine J_iadd dL_law_554 ?_
    refine J_iald dL_law_555 (fun v56 => ?_)
    refine J_aload_n dL_law_556 rfl 0 rfl ?_
    refine J_iload_n dL_law_557 rfl 3 rfl ?_
    refine J_iconst (v := 5) dL_law_558 (by decide) ?_
    refine J_iadd dL_law_559 ?_
    refine J_iald dL_law_560 (fun v57 => ?_)
    refine J_callVI (c := 7) (as := [.int v53, .int v54, .int v55, .int v56, .int v57]) dL_law_561 (by decide) rfl (Nat.le_of_ble_eq_true rfl) (cw_X8_feed _ (by decide)) q1730 q1731 q1732 q1733 np_X8_feed (i_X8_feed x2 v53 v54 v55 v56 v57) jad_keep rfl (fun v58 => ?_)
    refine J_icmp_eq (tgt := 1588) dL_law_564 rfl ?_ ?_
    · refine J_sub [0, 1, 2, 3] rfl ?_
      exact j_L_law_b1588 D dA x0 x1 x2 x3
    refine J_inl ?_
    refine J_iconst (v := 0) dL_law_567 (by decide) ?_
    exact J_zreturn0 dL_law_568 rfl
  · refine J_aload_n dL_law_569 rfl 1 rfl ?_
    refine J_aload_n dL_law_570 rfl 0 rfl ?_
    refine J_iload_n dL_law_571 rfl 3 rfl ?_
    refine J_iconst (v := 1) dL_law_572 (by decide) ?_
    refine J_iadd dL_law_573 ?_
    refine J_iald dL_law_574 (fun v59 => ?_)
    refine J_callVHI (c := 0) (as := [.int v59]) dL_law_575 (by decide) rfl (Nat.le_of_ble_eq_true rfl) (cw_X0_world _ (by decide)) q754 q755 q756 q757 np_X0_world (i_X0_world x1 v59) jad_keep rfl (fun v60 => ?_)
    refine J_aload_n dL_law_578 rfl 2 rfl ?_
    refine J_aload_n dL_law_579 rfl 0 rfl ?_
    refine J_iload_n dL_law_580 rfl 3 rfl ?_
    refine J_iconst (v := 1) dL_law_581 (by decide) ?_
    refine J_iadd dL_law_582 ?_
    refine J_iald dL_law_583 (fun v61 => ?_)
    refine J_callVI (c := 7) (as := [.int v61]) dL_law_584 (by decide) rfl (Nat.le_of_ble_eq_true rfl) (cw_X8_world _ (by decide)) q1742 q1743 q1744 q1745 np_X8_world (i_X8_world x2 v61) jad_keep rfl (fun v62 => ?_)
    refine J_icmp_eq (tgt := 1588) dL_law_587 rfl ?_ ?_
    · refine J_sub [0, 1, 2, 3] rfl ?_
      exact j_L_law_b1588 D dA x0 x1 x2 x3
    refine J_inl ?_
    refine J_iconst (v := 0) dL_law_590 (by decide) ?_
    exact J_zreturn0 dL_law_591 rfl
  · refine J_aload_n dL_law_592 rfl 1 rfl ?_
    refine J_aload_n dL_law_593 rfl 0 rfl ?_
    refine J_iload_n dL_law_594 rfl 3 rfl ?_
    refine J_iconst (v := 1) dL_law_595 (by decide) ?_
    refine J_iadd dL_law_596 ?_
    refine J_iald dL_law_597 (fun v63 => ?_)
    refine J_callVHI (c := 0) (as := [.int v63]) dL_law_598 (by decide) rfl (Nat.le_of_ble_eq_true rfl) (cw_X0_script _ (by decide)) q948 q949 q950 q951 np_X0_script (i_X0_script x1 v63) jad_pay rfl (fun v64 => ?_)
    refine J_aload_n dL_law_601 rfl 2 rfl ?_
    refine J_aload_n dL_law_602 rfl 0 rfl ?_
    refine J_iload_n dL_law_603 rfl 3 rfl ?_
    refine J_iconst (v := 1) dL_law_604 (by decide) ?_
    refine J_iadd dL_law_605 ?_
    refine J_iald dL_law_606 (fun v65 => ?_)
    refine J_callVI (c := 7) (as := [.int v65]) dL_law_607 (by decide) rfl (Nat.le_of_ble_eq_true rfl) (cw_X8_script _ (by decide)) q2346 q2347 q2348 q2349 np_X8_script (i_X8_script x2 v65) jad_keep rfl (fun v66 => ?_)
    refine J_icmp_eq (tgt := 1588) dL_law_610 rfl ?_ ?_
    · refine J_sub [0, 1, 2, 3] rfl ?_
      exact j_L_law_b1588 D dA x0 x1 x2 x3
    refine J_inl ?_
    refine J_iconst (v := 0) dL_law_613 (by decide) ?_
    exact J_zreturn0 dL_law_614 rfl
  · refine J_aload_n dL_law_615 rfl 1 rfl ?_
    refine J_aload_n dL_law_616 rfl 0 rfl ?_
    refine J_iload_n dL_law_617 rfl 3 rfl ?_
    refine J_iconst (v := 1) dL_law_618 (by decide) ?_
    refine J_iadd dL_law_619 ?_
    refine J_iald dL_law_620 (fun v67 => ?_)
    refine J_callVI (c := 0) (as := [.int v67]) dL_law_621 (by decide) rfl (Nat.le_of_ble_eq_true rfl) (cw_X0_fault _ (by decide)) q1011 q1012 q1013 q1014 np_X0_fault (i_X0_fault x1 v67) jad_keep rfl (fun v68 => ?_)
    refine J_aload_n dL_law_624 rfl 2 rfl ?_
    refine J_aload_n dL_law_625 rfl 0 rfl ?_
    refine J_iload_n dL_law_626 rfl 3 rfl ?_
    refine J_iconst (v := 1) dL_law_627 (by decide) ?_
    refine J_iadd dL_law_628 ?_
    refine J_iald dL_law_629 (fun v69 => ?_)
    refine J_callVI (c := 7) (as := [.int v69]) dL_law_630 (by decide) rfl (Nat.le_of_ble_eq_true rfl) (cw_X8_fault _ (by decide)) q1738 q1739 q1740 q1741 np_X8_fault (i_X8_fault x2 v69) jad_keep rfl (fun v70 => ?_)
    refine J_icmp_eq (tgt := 1588) dL_law_633 rfl ?_ ?_
    · refine J_sub [0, 1, 2, 3] rfl ?_
      exact j_L_law_b1588 D dA x0 x1 x2 x3
    refine J_inl ?_
    refine J_iconst (v := 0) dL_law_636 (by decide) ?_
    exact J_zreturn0 dL_law_637 rfl
  · refine J_aload_n dL_law_638 rfl 1 rfl ?_
    refine J_aload_n dL_law_639 rfl 0 rfl ?_
    refine J_iload_n dL_law_640 rfl 3 rfl ?_
    refine J_iconst (v := 1) dL_law_641 (by decide) ?_
    refine J_iadd dL_law_642 ?_
    refine J_iald dL_law_643 (fun v71 => ?_)
    refine J_callVI (c := 0) (as := [.int v71]) dL_law_644 (by decide) rfl (Nat.le_of_ble_eq_true rfl) (cw_X0_many _ (by decide)) q1015 q1016 q1017 q1018 np_X0_many (i_X0_many x1 v71) jad_keep rfl (fun v72 => ?_)
    refine J_aload_n dL_law_647 rfl 2 rfl ?_
    refine J_aload_n dL_law_648 rfl 0 rfl ?_
    refine J_iload_n dL_law_649 rfl 3 rfl ?_
    refine J_iconst (v := 1) dL_law_650 (by decide) ?_
    refine J_iadd dL_law_651 ?_
    refine J_iald dL_law_652 (fun v73 => ?_)
    refine J_callVI (c := 7) (as := [.int v73]) dL_law_653 (by decide) rfl (Nat.le_of_ble_eq_true rfl) (cw_X8_many _ (by decide)) q1858 q1859 q1860 q1861 np_X8_many (i_X8_many x2 v73) jad_keep rfl (fun v74 => ?_)
    refine J_icmp_eq (tgt := 1588) dL_law_656 rfl ?_ ?_
    · refine J_sub [0, 1, 2, 3] rfl ?_
      exact j_L_law_b1588 D dA x0 x1 x2 x3
    refine J_inl ?_
    refine J_iconst (v := 0) dL_law_659 (by decide) ?_
    exact J_zreturn0 dL_law_660 rfl
  · refine J_aload_n dL_law_661 rfl 1 rfl ?_
    refine J_aload_n dL_law_662 rfl 0 rfl ?_
    refine J_iload_n dL_law_663 rfl 3 rfl ?_
    refine J_iconst (v := 1) dL_law_664 (by decide) ?_
    refine J_iadd dL_law_665 ?_
    refine J_iald dL_law_666 (fun v75 => ?_)
    refine J_aload_n dL_law_667 rfl 0 rfl ?_
    refine J_iload_n dL_law_668 rfl 3 rfl ?_
    refine J_iconst (v := 2) dL_law_669 (by decide) ?_
    refine J_iadd dL_law_670 ?_
    refine J_iald dL_law_671 (fun v76 => ?_)
    refine J_aload_n dL_law_672 rfl 0 rfl ?_
    refine J_iload_n dL_law_673 rfl 3 rfl ?_
    refine J_iconst (v := 3) dL_law_674 (by decide) ?_
    refine J_iadd dL_law_675 ?_
    refine J_iald dL_law_676 (fun v77 => ?_)
    refine J_callVI (c := 0) (as := [.int v75, .int v76, .int v77]) dL_law_677 (by decide) rfl (Nat.le_of_ble_eq_true rfl) (cw_X0_constant _ (by decide)) q1019 q1020 q1021 q1022 np_X0_constant (i_X0_constant x1 v75 v76 v77) jad_keep rfl (fun v78 => ?_)
    refine J_aload_n dL_law_680 rfl 2 rfl ?_
    refine J_aload_n dL_law_681 rfl 0 rfl ?_
    refine J_iload_n dL_law_682 rfl 3 rfl ?_
    refine J_iconst (v := 1) dL_law_683 (by decide) ?_
    refine J_iadd dL_law_684 ?_
    refine J_iald dL_law_685 (fun v79 => ?_)
    refine J_aload_n dL_law_686 rfl 0 rfl ?_
    refine J_iload_n dL_law_687 rfl 3 rfl ?_
    refine J_iconst (v := 2) dL_law_688 (by decide) ?_
    refine J_iadd dL_law_689 ?_
    refine J_iald dL_law_690 (fun v80 => ?_)
    refine J_aload_n dL_law_691 rfl 0 rfl ?_
    refine J_iload_n dL_law_692 rfl 3 rfl ?_
    refine J_iconst (v := 3) dL_law_693 (by decide) ?_
    refine J_iadd dL_law_694 ?_
    refine J_iald dL_law_695 (fun v81 => ?_)
    refine J_callVI (c := 7) (as := [.int v79, .int v80, .int v81]) dL_law_696 (by decide) rfl (Nat.le_of_ble_eq_true rfl) (cw_X8_constant _ (by decide)) q1879 q1880 q1881 q1882 np_X8_constant (i_X8_constant x2 v79 v80 v81) jad_keep rfl (fun v82 => ?_)
    refine J_icmp_eq (tgt := 1588) dL_law_699 rfl ?_ ?_
    · refine J_sub [0, 1, 2, 3] rfl ?_
      exact j_L_law_b1588 D dA x0 x1 x2 x3
    refine J_inl ?_
    refine J_iconst (v := 0) dL_law_702 (by decide) ?_
    exact J_zreturn0 dL_law_703 rfl
  · refine J_aload_n dL_law_704 rfl 1 rfl ?_
    refine J_aload_n dL_law_705 rfl 0 rfl ?_
    refine J_iload_n dL_law_706 rfl 3 rfl ?_
    refine J_iconst (v := 1) dL_law_707 (by decide) ?_
    refine J_iadd dL_law_708 ?_
    refine J_iald dL_law_709 (fun v83 => ?_)
    refine J_aload_n dL_law_710 rfl 0 rfl ?_
    refine J_iload_n dL_law_711 rfl 3 rfl ?_
    refine J_iconst (v := 2) dL_law_712 (by decide) ?_
    refine J_iadd dL_law_713 ?_
    refine J_iald dL_law_714 (fun v84 => ?_)
    refine J_aload_n dL_law_715 rfl 0 rfl ?_
    refine J_iload_n dL_law_716 rfl 3 rfl ?_
    refine J_iconst (v := 3) dL_law_717 (by decide) ?_
    refine J_iadd dL_law_718 ?_
    refine J_iald dL_law_719 (fun v85 => ?_)
    refine J_aload_n dL_law_720 rfl 0 rfl ?_
    refine J_iload_n dL_law_721 rfl 3 rfl ?_
    refine J_iconst (v := 4) dL_law_722 (by decide) ?_
    refine J_iadd dL_law_723 ?_
    refine J_iald dL_law_724 (fun v86 => ?_)
    refine J_callVI (c := 0) (as := [.int v83, .int v84, .int v85, .int v86]) dL_law_725 (by decide) rfl (Nat.le_of_ble_eq_true rfl) (cw_X0_put _ (by decide)) q1027 q1028 q1029 q1030 np_X0_put (i_X0_put x1 v83 v84 v85 v86) jad_keep rfl (fun v87 => ?_)
    refine J_aload_n dL_law_728 rfl 2 rfl ?_
    refine J_aload_n dL_law_729 rfl 0 rfl ?_
    refine J_iload_n dL_law_730 rfl 3 rfl ?_
    refine J_iconst (v := 1) dL_law_731 (by decide) ?_
    refine J_iadd dL_law_732 ?_
    refine J_iald dL_law_733 (fun v88 => ?_)
    refine J_aload_n dL_law_734 rfl 0 rfl ?_
    refine J_iload_n dL_law_735 rfl 3 rfl ?_
    refine J_iconst (v := 2) dL_law_736 (by decide) ?_
    refine J_iadd dL_law_737 ?_
    refine J_iald dL_law_738 (fun v89 => ?_)
    refine J_aload_n dL_law_739 rfl 0 rfl ?_
    refine J_iload_n dL_law_740 rfl 3 rfl ?_
    refine J_iconst (v := 3) dL_law_741 (by decide) ?_
    refine J_iadd dL_law_742 ?_
    refine J_iald dL_law_743 (fun v90 => ?_)
    refine J_aload_n dL_law_744 rfl 0 rfl ?_
    refine J_iload_n dL_law_745 rfl 3 rfl ?_
    refine J_iconst (v := 4) dL_law_746 (by decide) ?_
    refine J_iadd dL_law_747 ?_
    refine J_iald dL_law_748 (fun v91 => ?_)
    refine J_callVI (c := 7) (as := [.int v88, .int v89, .int v90, .int v91]) dL_law_749 (by decide) rfl (Nat.le_of_ble_eq_true rfl) (cw_X8_put _ (by decide)) q1887 q1888 q1889 q1890 np_X8_put (i_X8_put x2 v88 v89 v90 v91) jad_keep rfl (fun v92 => ?_)
    refine J_icmp_eq (tgt := 1588) dL_law_752 rfl ?_ ?_
    · refine J_sub [0, 1, 2, 3] rfl ?_
      exact j_L_law_b1588 D dA x0 x1 x2 x3
    refine J_inl ?_
    refine J_iconst (v := 0) dL_law_755 (by decide) ?_
    exact J_zreturn0 dL_law_756 rfl
  · refine J_aload_n dL_law_757 rfl 1 rfl ?_
    refine J_aload_n dL_law_758 rfl 0 rfl ?_
    refine J_iload_n dL_law_759 rfl 3 rfl ?_
    refine J_iconst (v := 1) dL_law_760 (by decide) ?_
    refine J_iadd dL_law_761 ?_
    refine J_iald dL_law_762 (fun v93 => ?_)
    refine J_aload_n dL_law_763 rfl 0 rfl ?_
    refine J_iload_n dL_law_764 rfl 3 rfl ?_
    refine J_iconst (v := 2) dL_law_765 (by decide) ?_
    refine J_iadd dL_law_766 ?_
    refine J_iald dL_law_767 (fun v94 => ?_)
    refine J_callVI (c := 0) (as := [.int v93, .int v94]) dL_law_768 (by decide) rfl (Nat.le_of_ble_eq_true rfl) (cw_X0_bracket _ (by decide)) q1032 q1033 q1034 q1035 np_X0_bracket (i_X0_bracket x1 v93 v94) jad_keep rfl (fun v95 => ?_)
    refine J_aload_n dL_law_771 rfl 2 rfl ?_
    refine J_aload_n dL_law_772 rfl 0 rfl ?_
    refine J_iload_n dL_law_773 rfl 3 rfl ?_
    refine J_iconst (v := 1) dL_law_774 (by decide) ?_
    refine J_iadd dL_law_775 ?_
    refine J_iald dL_law_776 (fun v96 => ?_)
    refine J_aload_n dL_law_777 rfl 0 rfl ?_
    refine J_iload_n dL_law_778 rfl 3 rfl ?_
    refine J_iconst (v := 2) dL_law_779 (by decide) ?_
    refine J_iadd dL_law_780 ?_
    refine J_iald dL_law_781 (fun v97 => ?_)
    refine J_callVI (c := 7) (as := [.int v96, .int v97]) dL_law_782 (by decide) rfl (Nat.le_of_ble_eq_true rfl) (cw_X8_bracket _ (by decide)) q1891 q1892 q1893 q1894 np_X8_bracket (i_X8_bracket x2 v96 v97) jad_keep rfl (fun v98 => ?_)
    refine J_icmp_eq (tgt := 1588) dL_law_785 rfl ?_ ?_
    · refine J_sub [0, 1, 2, 3] rfl ?_
      exact j_L_law_b1588 D dA x0 x1 x2 x3
    refine J_inl ?_
    refine J_iconst (v := 0) dL_law_788 (by decide) ?_
    exact J_zreturn0 dL_law_789 rfl
  · refine J_aload_n dL_law_790 rfl 1 rfl ?_
    refine J_callVI (c := 0) (as := []) dL_law_791 (by decide) rfl (Nat.le_of_ble_eq_true rfl) (cw_X0_lawful _ (by decide)) q1056 q1057 q1058 q1059 np_X0_lawful (i_X0_lawful x1) jad_keep rfl (fun v99 => ?_)
    refine J_aload_n dL_law_794 rfl 2 rfl ?_
    refine J_callVI (c := 7) (as := []) dL_law_795 (by decide) rfl (Nat.le_of_ble_eq_true rfl) (cw_X8_lawful _ (by decide)) q1919 q1920 q1921 q1922 np_X8_lawful (i_X8_lawful x2) jad_keep rfl (fun v100 => ?_)
    refine J_icmp_eq (tgt := 1588) dL_law_798 rfl ?_ ?_
    · refine J_sub [0, 1, 2, 3] rfl ?_
      exact j_L_law_b1588 D dA x0 x1 x2 x3
    refine J_inl ?_
    refine J_iconst (v := 0) dL_law_801 (by decide) ?_
    exact J_zreturn0 dL_law_802 rfl
  · refine J_aload_n dL_law_803 rfl 1 rfl ?_
    refine J_aload_n dL_law_804 rfl 0 rfl ?_
    refine J_iload_n dL_law_805 rfl 3 rfl ?_
    refine J_iconst (v := 1) dL_law_806 (by decide) ?_
    refine J_iadd dL_law_807 ?_
    refine J_iald dL_law_808 (fun v101 => ?_)
    refine J_callVI (c := 0) (as := [.int v101]) dL_law_809 (by decide) rfl (Nat.le_of_ble_eq_true rfl) (cw_X0_failing _ (by decide)) q1068 q1069 q1070 q1071 np_X0_failing (i_X0_failing x1 v101) jad_keep rfl (fun v102 => ?_)
    refine J_aload_n dL_law_812 rfl 2 rfl ?_
    refine J_aload_n dL_law_813 rfl 0 rfl ?_
    refine J_iload_n dL_law_814 rfl 3 rfl ?_
    refine J_iconst (v := 1) dL_law_815 (by decide) ?_
    refine J_iadd dL_law_816 ?_
    refine J_iald dL_law_817 (fun v103 => ?_)
    refine J_callVI (c := 7) (as := [.int v103]) dL_law_818 (by decide) rfl (Nat.le_of_ble_eq_true rfl) (cw_X8_failing _ (by decide)) q1943 q1944 q1945 q1946 np_X8_failing (i_X8_failing x2 v103) jad_keep rfl (fun v104 => ?_)
    refine J_icmp_eq (tgt := 1588) dL_law_821 rfl ?_ ?_
    · refine J_sub [0, 1, 2, 3] rfl ?_
      exact j_L_law_b1588 D dA x0 x1 x2 x3
    refine J_inl ?_
    refine J_iconst (v := 0) dL_law_824 (by decide) ?_
    exact J_zreturn0 dL_law_825 rfl
  · refine J_aload_n dL_law_826 rfl 1 rfl ?_
    refine J_aload_n dL_law_827 rfl 0 rfl ?_
    refine J_iload_n dL_law_828 rfl 3 rfl ?_
    refine J_iconst (v := 1) dL_law_829 (by decide) ?_
    refine J_iadd dL_law_830 ?_
    refine J_iald dL_law_831 (fun v105 => ?_)
    refine J_callVI (c := 0) (as := [.int v105]) dL_law_832 (by decide) rfl (Nat.le_of_ble_eq_true rfl) (cw_X0_keep _ (by decide)) q1072 q1073 q1074 q1075 np_X0_keep (i_X0_keep x1 v105) jad_keep rfl (fun v106 => ?_)
    refine J_aload_n dL_law_835 rfl 2 rfl ?_
    refine J_aload_n dL_law_836 rfl 0 rfl ?_
    refine J_iload_n dL_law_837 rfl 3 rfl ?_
    refine J_iconst (v := 1) dL_law_838 (by decide) ?_
    refine J_iadd dL_law_839 ?_
    refine J_iald dL_law_840 (fun v107 => ?_)
    refine J_callVI (c := 7) (as := [.int v107]) dL_law_841 (by decide) rfl (Nat.le_of_ble_eq_true rfl) (cw_X8_keep _ (by decide)) q1948 q1949 q1950 q1951 np_X8_keep (i_X8_keep x2 v107) jad_keep rfl (fun v108 => ?_)
    refine J_icmp_eq (tgt := 1588) dL_law_844 rfl ?_ ?_
    · refine J_sub [0, 1, 2, 3] rfl ?_
      exact j_L_law_b1588 D dA x0 x1 x2 x3
    refine J_inl ?_
    refine J_iconst (v := 0) dL_law_847 (by decide) ?_
    exact J_zreturn0 dL_law_848 rfl
  · refine J_aload_n dL_law_849 rfl 1 rfl ?_
    refine J_aload_n dL_law_850 rfl 0 rfl ?_
    refine J_iload_n dL_law_851 rfl 3 rfl ?_
    refine J_iconst (v := 1) dL_law_852 (by decide) ?_
    refine J_iadd dL_law_853 ?_
    refine J_iald dL_law_854 (fun v109 => ?_)
    refine J_callVI (c := 0) (as := [.int v109]) dL_law_855 (by decide) rfl (Nat.le_of_ble_eq_true rfl) (cw_X0_take _ (by decide)) q1083 q1084 q1085 q1086 np_X0_take (i_X0_take x1 v109) jad_keep rfl (fun v110 => ?_)
    refine J_aload_n dL_law_858 rfl 2 rfl ?_
    refine J_aload_n dL_law_859 rfl 0 rfl ?_
    refine J_iload_n dL_law_860 rfl 3 rfl ?_
    refine J_iconst (v := 1) dL_law_861 (by decide) ?_
    refine J_iadd dL_law_862 ?_
    refine J_iald dL_law_863 (fun v111 => ?_)
    refine J_callVI (c := 7) (as := [.int v111]) dL_law_864 (by decide) rfl (Nat.le_of_ble_eq_true rfl) (cw_X8_take _ (by decide)) q1955 q1956 q1957 q1958 np_X8_take (i_X8_take x2 v111) jad_keep rfl (fun v112 => ?_)
    refine J_icmp_eq (tgt := 1588) dL_law_867 rfl ?_ ?_
    · refine J_sub [0, 1, 2, 3] rfl ?_
      exact j_L_law_b1588 D dA x0 x1 x2 x3
    refine J_inl ?_
    refine J_iconst (v := 0) dL_law_870 (by decide) ?_
    exact J_zreturn0 dL_law_871 rfl
  · refine J_aload_n dL_law_872 rfl 1 rfl ?_
    refine J_aload_n dL_law_873 rfl 0 rfl ?_
    refine J_iload_n dL_law_874 rfl 3 rfl ?_
    refine J_iconst (v := 1) dL_law_875 (by decide) ?_
    refine J_iadd dL_law_876 ?_
    refine J_iald dL_law_877 (fun v113 => ?_)
    refine J_aload_n dL_law_878 rfl 0 rfl ?_
    refine J_iload_n dL_law_879 rfl 3 rfl ?_
    refine J_iconst (v := 2) dL_law_880 (by decide) ?_
    refine J_iadd dL_law_881 ?_
    refine J_iald dL_law_882 (fun v114 => ?_)
    refine J_aload_n dL_law_883 rfl 0 rfl ?_
    refine J_iload_n dL_law_884 rfl 3 rfl ?_
    refine J_iconst (v := 3) dL_law_885 (by decide) ?_
    refine J_iadd dL_law_886 ?_
    refine J_iald dL_law_887 (fun v115 => ?_)
    refine J_callVI (c := 0) (as := [.int v113, .int v114, .int v115]) dL_law_888 (by decide) rfl (Nat.le_of_ble_eq_true rfl) (cw_X0_span _ (by decide)) q1091 q1092 q1093 q1094 np_X0_span (i_X0_span x1 v113 v114 v115) jad_keep rfl (fun v116 => ?_)
    refine J_aload_n dL_law_891 rfl 2 rfl ?_
    refine J_aload_n dL_law_892 rfl 0 rfl ?_
    refine J_iload_n dL_law_893 rfl 3 rfl ?_
    refine J_iconst (v := 1) dL_law_894 (by decide) ?_
    refine J_iadd dL_law_895 ?_
    refine J_iald dL_law_896 (fun v117 => ?_)
    refine J_aload_n dL_law_897 rfl 0 rfl ?_
    refine J_iload_n dL_law_898 rfl 3 rfl ?_
    refine J_iconst (v := 2) dL_law_899 (by decide) ?_
    refine J_iadd dL_law_900 ?_
    refine J_iald dL_law_901 (fun v118 => ?_)
    refine J_aload_n dL_law_902 rfl 0 rfl ?_
    refine J_iload_n dL_law_903 rfl 3 rfl ?_
    refine J_iconst (v := 3) dL_law_904 (by decide) ?_
    refine J_iadd dL_law_905 ?_
    refine J_iald dL_law_906 (fun v119 => ?_)
    refine J_callVI (c := 7) (as := [.int v117, .int v118, .int v119]) dL_law_907 (by decide) rfl (Nat.le_of_ble_eq_true rfl) (cw_X8_span _ (by decide)) q1963 q1964 q1965 q1966 np_X8_span (i_X8_span x2 v117 v118 v119) jad_keep rfl (fun v120 => ?_)
    refine J_icmp_eq (tgt := 1588) dL_law_910 rfl ?_ ?_
    · refine J_sub [0, 1, 2, 3] rfl ?_
      exact j_L_law_b1588 D dA x0 x1 x2 x3
    refine J_inl ?_
    refine J_iconst (v := 0) dL_law_913 (by decide) ?_
    exact J_zreturn0 dL_law_914 rfl
  · refine J_aload_n dL_law_915 rfl 1 rfl ?_
    refine J_aload_n dL_law_916 rfl 0 rfl ?_
    refine J_iload_n dL_law_917 rfl 3 rfl ?_
    refine J_iconst (v := 1) dL_law_918 (by decide) ?_
    refine J_iadd dL_law_919 ?_
    refine J_iald dL_law_920 (fun v121 => ?_)
    refine J_callVI (c := 0) (as := [.int v121]) dL_law_921 (by decide) rfl (Nat.le_of_ble_eq_true rfl) (cw_X0_derived _ (by decide)) q1137 q1138 q1139 q1140 np_X0_derived (i_X0_derived x1 v121) jad_keep rfl (fun v122 => ?_)
    refine J_aload_n dL_law_924 rfl 2 rfl ?_
    refine J_aload_n dL_law_925 rfl 0 rfl ?_
    refine J_iload_n dL_law_926 rfl 3 rfl ?_
    refine J_iconst (v := 1) dL_law_927 (by decide) ?_
    refine J_iadd dL_law_928 ?_
    refine J_iald dL_law_929 (fun v123 => ?_)
    refine J_callVI (c := 7) (as := [.int v123]) dL_law_930 (by decide) rfl (Nat.le_of_ble_eq_true rfl) (cw_X8_derived _ (by decide)) q2004 q2005 q2006 q2007 np_X8_derived (i_X8_derived x2 v123) jad_keep rfl (fun v124 => ?_)
    refine J_icmp_eq (tgt := 1588) dL_law_933 rfl ?_ ?_
    · refine J_sub [0, 1, 2, 3] rfl ?_
      exact j_L_law_b1588 D dA x0 x1 x2 x3
    refine J_inl ?_
    refine J_iconst (v := 0) dL_law_936 (by decide) ?_
    exact J_zreturn0 dL_law_937 rfl
  · refine J_aload_n dL_law_938 rfl 1 rfl ?_
    refine J_aload_n dL_law_939 rfl 0 rfl ?_
    refine J_iload_n dL_law_940 rfl 3 rfl ?_
    refine J_iconst (v := 1) dL_law_941 (by decide) ?_
    refine J_iadd dL_law_942 ?_
    refine J_iald dL_law_943 (fun v125 => ?_)
    refine J_callVI (c := 0) (as := [.int v125]) dL_law_944 (by decide) rfl (Nat.le_of_ble_eq_true rfl) (cw_X0_lower _ (by decide)) q1154 q1155 q1156 q1157 np_X0_lower (i_X0_lower x1 v125) jad_keep rfl (fun v126 => ?_)
    refine J_aload_n dL_law_947 rfl 2 rfl ?_
    refine J_aload_n dL_law_948 rfl 0 rfl ?_
    refine J_iload_n dL_law_949 rfl 3 rfl ?_
    refine J_iconst (v := 1) dL_law_950 (by decide) ?_
    refine J_iadd dL_law_951 ?_
    refine J_iald dL_law_952 (fun v127 => ?_)
    refine J_callVI (c := 7) (as := [.int v127]) dL_law_953 (by decide) rfl (Nat.le_of_ble_eq_true rfl) (cw_X8_lower _ (by decide)) q2017 q2018 q2019 q2020 np_X8_lower (i_X8_lower x2 v127) jad_keep rfl (fun v128 => ?_)
    refine J_icmp_eq (tgt := 1588) dL_law_956 rfl ?_ ?_
    · refine J_sub [0, 1, 2, 3] rfl ?_
      exact j_L_law_b1588 D dA x0 x1 x2 x3
    refine J_inl ?_
    refine J_iconst (v := 0) dL_law_959 (by decide) ?_
    exact J_zreturn0 dL_law_960 rfl
  · refine J_aload_n dL_law_961 rfl 1 rfl ?_
    refine J_callVI (c := 0) (as := []) dL_law_962 (by decide) rfl (Nat.le_of_ble_eq_true rfl) (cw_X0_centre _ (by decide)) q1162 q1163 q1164 q1165 np_X0_centre (i_X0_centre x1) jad_keep rfl (fun v129 => ?_)
    refine J_aload_n dL_law_965 rfl 2 rfl ?_
    refine J_callVI (c := 7) (as := []) dL_law_966 (by decide) rfl (Nat.le_of_ble_eq_true rfl) (cw_X8_centre _ (by decide)) q2021 q2022 q2023 q2024 np_X8_centre (i_X8_centre x2) jad_keep rfl (fun v130 => ?_)
    refine J_icmp_eq (tgt := 1588) dL_law_969 rfl ?_ ?_
    · refine J_sub [0, 1, 2, 3] rfl ?_
      exact j_L_law_b1588 D dA x0 x1 x2 x3
    refine J_inl ?_
    refine J_iconst (v := 0) dL_law_972 (by decide) ?_
    exact J_zreturn0 dL_law_973 rfl
  · refine J_aload_n dL_law_974 rfl 1 rfl ?_
    refine J_aload_n dL_law_975 rfl 0 rfl ?_
    refine J_iload_n dL_law_976 rfl 3 rfl ?_
    refine J_iconst (v := 1) dL_law_977 (by decide) ?_
    refine J_iadd dL_law_978 ?_
    refine J_iald dL_law_979 (fun v131 => ?_)
    refine J_callVI (c := 0) (as := [.int v131]) dL_law_980 (by decide) rfl (Nat.le_of_ble_eq_true rfl) (cw_X0_centralizer _ (by decide)) q1179 q1180 q1181 q1182 np_X0_centralizer (i_X0_centralizer x1 v131) jad_keep rfl (fun v132 => ?_)
    refine J_aload_n dL_law_983 rfl 2 rfl ?_
    refine J_aload_n dL_law_984 rfl 0 rfl ?_
    refine J_iload_n dL_law_985 rfl 3 rfl ?_
    refine J_iconst (v := 1) dL_law_986 (by decide) ?_
    refine J_iadd dL_law_987 ?_
    refine J_iald dL_law_988 (fun v133 => ?_)
    refine J_callVI (c := 7) (as := [.int v133]) dL_law_989 (by decide) rfl (Nat.le_of_ble_eq_true rfl) (cw_X8_centralizer _ (by decide)) q2041 q2042 q2043 q2044 np_X8_centralizer (i_X8_centralizer x2 v133) jad_keep rfl (fun v134 => ?_)
    refine J_icmp_eq (tgt := 1588) dL_law_992 rfl ?_ ?_
    · refine J_sub [0, 1, 2, 3] rfl ?_
      exact j_L_law_b1588 D dA x0 x1 x2 x3
    refine J_inl ?_
    refine J_iconst (v := 0) dL_law_995 (by decide) ?_
    exact J_zreturn0 dL_law_996 rfl
  · refine J_aload_n dL_law_997 rfl 1 rfl ?_
    refine J_aload_n dL_law_998 rfl 0 rfl ?_
    refine J_iload_n dL_law_999 rfl 3 rfl ?_
    refine J_iconst (v := 1) dL_law_1000 (by decide) ?_
    refine J_iadd dL_law_1001 ?_
    refine J_iald dL_law_1002 (fun v135 => ?_)
    refine J_callVI (c := 0) (as := [.int v135]) dL_law_1003 (by decide) rfl (Nat.le_of_ble_eq_true rfl) (cw_X0_is _ (by decide)) q1195 q1196 q1197 q1198 np_X0_is (i_X0_is x1 v135) jad_keep rfl (fun v136 => ?_)
    refine J_aload_n dL_law_1006 rfl 2 rfl ?_
    refine J_aload_n dL_law_1007 rfl 0 rfl ?_
    refine J_iload_n dL_law_1008 rfl 3 rfl ?_
    refine J_iconst (v := 1) dL_law_1009 (by decide) ?_
    refine J_iadd dL_law_1010 ?_
    refine J_iald dL_law_1011 (fun v137 => ?_)
    refine J_callVI (c := 7) (as := [.int v137]) dL_law_1012 (by decide) rfl (Nat.le_of_ble_eq_true rfl) (cw_X8_is _ (by decide)) q2108 q2109 q2110 q2111 np_X8_is (i_X8_is x2 v137) jad_keep rfl (fun v138 => ?_)
    refine J_icmp_eq (tgt := 1588) dL_law_1015 rfl ?_ ?_
    · refine J_sub [0, 1, 2, 3] rfl ?_
      exact j_L_law_b1588 D dA x0 x1 x2 x3
    refine J_inl ?_
    refine J_iconst (v := 0) dL_law_1018 (by decide) ?_
    exact J_zreturn0 dL_law_1019 rfl
  · refine J_aload_n dL_law_1020 rfl 1 rfl ?_
    refine J_aload_n dL_law_1021 rfl 0 rfl ?_
    refine J_iload_n dL_law_1022 rfl 3 rfl ?_
    refine J_iconst (v := 1) dL_law_1023 (by decide) ?_
    refine J_iadd dL_law_1024 ?_
    refine J_iald dL_law_1025 (fun v139 => ?_)
    refine J_callVI (c := 0) (as := [.int v139]) dL_law_1026 (by decide) rfl (Nat.le_of_ble_eq_true rfl) (cw_X0_radical _ (by decide)) q1254 q1255 q1256 q1257 np_X0_radical (i_X0_radical x1 v139) jad_keep rfl (fun v140 => ?_)
    refine J_aload_n dL_law_1029 rfl 2 rfl ?_
    refine J_aload_n dL_law_1030 rfl 0 rfl ?_
    refine J_iload_n dL_law_1031 rfl 3 rfl ?_
    refine J_iconst (v := 1) dL_law_1032 (by decide) ?_
    refine J_iadd dL_law_1033 ?_
    refine J_iald dL_law_1034 (fun v141 => ?_)
    refine J_callVI (c := 7) (as := [.int v141]) dL_law_1035 (by decide) rfl (Nat.le_of_ble_eq_true rfl) (cw_X8_radical _ (by decide)) q2129 q2130 q2131 q2132 np_X8_radical (i_X8_radical x2 v141) jad_keep rfl (fun v142 => ?_)
    refine J_icmp_eq (tgt := 1588) dL_law_1038 rfl ?_ ?_
    · refine J_sub [0, 1, 2, 3] rfl ?_
      exact j_L_law_b1588 D dA x0 x1 x2 x3
    refine J_inl ?_
    refine J_iconst (v := 0) dL_law_1041 (by decide) ?_
    exact J_zreturn0 dL_law_1042 rfl
  · refine J_aload_n dL_law_1043 rfl 1 rfl ?_
    refine J_aload_n dL_law_1044 rfl 0 rfl ?_
    refine J_iload_n dL_law_1045 rfl 3 rfl ?_
    refine J_iconst (v := 1) dL_law_1046 (by decide) ?_
    refine J_iadd dL_law_1047 ?_
    refine J_iald dL_law_1048 (fun v143 => ?_)
    refine J_aload_n dL_law_1049 rfl 0 rfl ?_
    refine J_iload_n dL_law_1050 rfl 3 rfl ?_
    refine J_iconst (v := 2) dL_law_1051 (by decide) ?_
    refine J_iadd dL_law_1052 ?_
    refine J_iald dL_law_1053 (fun v144 => ?_)
    refine J_callVI (c := 0) (as := [.int v143, .int v144]) dL_law_1054 (by decide) rfl (Nat.le_of_ble_eq_true rfl) (cw_X0_parts _ (by decide)) q1258 q1259 q1260 q1261 np_X0_parts (i_X0_parts x1 v143 v144) jad_keep rfl (fun v145 => ?_)
    refine J_aload_n dL_law_1057 rfl 2 rfl ?_
    refine J_aload_n dL_law_1058 rfl 0 rfl ?_
    refine J_iload_n dL_law_1059 rfl 3 rfl ?_
    refine J_iconst (v := 1) dL_law_1060 (by decide) ?_
    refine J_iadd dL_law_1061 ?_
    refine J_iald dL_law_1062 (fun v146 => ?_)
    refine J_aload_n dL_law_1063 rfl 0 rfl ?_
    refine J_iload_n dL_law_1064 rfl 3 rfl ?_
    refine J_iconst (v := 2) dL_law_1065 (by decide) ?_
    refine J_iadd dL_law_1066 ?_
    refine J_iald dL_law_1067 (fun v147 => ?_)
    refine J_callVI (c := 7) (as := [.int v146, .int v147]) dL_law_1068 (by decide) rfl (Nat.le_of_ble_eq_true rfl) (cw_X8_parts _ (by decide)) q2053 q2054 q2055 q2056 np_X8_parts (i_X8_parts x2 v146 v147) jad_keep rfl (fun v148 => ?_)
    refine J_icmp_eq (tgt := 1588) dL_law_1071 rfl ?_ ?_
    · refine J_sub [0, 1, 2, 3] rfl ?_
      exact j_L_law_b1588 D dA x0 x1 x2 x3
    refine J_inl ?_
    refine J_iconst (v := 0) dL_law_1074 (by decide) ?_
    exact J_zreturn0 dL_law_1075 rfl
  · refine J_aload_n dL_law_1076 rfl 1 rfl ?_
    refine J_callVI (c := 0) (as := []) dL_law_1077 (by decide) rfl (Nat.le_of_ble_eq_true rfl) (cw_X0_share _ (by decide)) q1262 q1263 q1264 q1265 np_X0_share (i_X0_share x1) jad_keep rfl (fun v149 => ?_)
    refine J_aload_n dL_law_1080 rfl 2 rfl ?_
    refine J_callVI (c := 7) (as := []) dL_law_1081 (by decide) rfl (Nat.le_of_ble_eq_true rfl) (cw_X8_share _ (by decide)) q2097 q2098 q2099 q2100 np_X8_share (i_X8_share x2) jad_keep rfl (fun v150 => ?_)
    refine J_icmp_eq (tgt := 1588) dL_law_1084 rfl ?_ ?_
    · refine J_sub [0, 1, 2, 3] rfl ?_
      exact j_L_law_b1588 D dA x0 x1 x2 x3
    refine J_inl ?_
    refine J_iconst (v := 0) dL_law_1087 (by decide) ?_
    exact J_zreturn0 dL_law_1088 rfl
  · refine J_aload_n dL_law_1089 rfl 1 rfl ?_
    refine J_aload_n dL_law_1090 rfl 0 rfl ?_
    refine J_iload_n dL_law_1091 rfl 3 rfl ?_
    refine J_iconst (v := 1) dL_law_1092 (by decide) ?_
    refine J_iadd dL_law_1093 ?_
    refine J_iald dL_law_1094 (fun v151 => ?_)
    refine J_callVI (c := 0) (as := [.int v151]) dL_law_1095 (by decide) rfl (Nat.le_of_ble_eq_true rfl) (cw_X0_rank _ (by decide)) q1187 q1188 q1189 q1190 np_X0_rank (i_X0_rank x1 v151) jad_keep rfl (fun v152 => ?_)
    refine J_aload_n dL_law_1098 rfl 2 rfl ?_
    refine J_aload_n dL_law_1099 rfl 0 rfl ?_
    refine J_iload_n dL_law_1100 rfl 3 rfl ?_
    refine J_iconst (v := 1) dL_law_1101 (by decide) ?_
    refine J_iadd dL_law_1102 ?_
    refine J_iald dL_law_1103 (fun v153 => ?_)
    refine J_callVI (c := 7) (as := [.int v153]) dL_law_1104 (by decide) rfl (Nat.le_of_ble_eq_true rfl) (cw_X8_rank _ (by decide)) q2049 q2050 q2051 q2052 np_X8_rank (i_X8_rank x2 v153) jad_keep rfl (fun v154 => ?_)
    refine J_icmp_eq (tgt := 1588) dL_law_1107 rfl ?_ ?_
    · refine J_sub [0, 1, 2, 3] rfl ?_
      exact j_L_law_b1588 D dA x0 x1 x2 x3
    refine J_inl ?_
    refine J_iconst (v := 0) dL_law_1110 (by decide) ?_
    exact J_zreturn0 dL_law_1111 rfl
  · refine J_aload_n dL_law_1112 rfl 1 rfl ?_
    refine J_aload_n dL_law_1113 rfl 0 rfl ?_
    refine J_iload_n dL_law_1114 rfl 3 rfl ?_
    refine J_iconst (v := 1) dL_law_1115 (by decide) ?_
    refine J_iadd dL_law_1116 ?_
    refine J_iald dL_law_1117 (fun v155 => ?_)
    refine J_callVI (c := 0) (as := [.int v155]) dL_law_1118 (by decide) rfl (Nat.le_of_ble_eq_true rfl) (cw_X0_power _ (by decide)) q1191 q1192 q1193 q1194 np_X0_power (i_X0_power x1 v155) jad_keep rfl (fun v156 => ?_)
    refine J_aload_n dL_law_1121 rfl 2 rfl ?_
    refine J_aload_n dL_law_1122 rfl 0 rfl ?_
    refine J_iload_n dL_law_1123 rfl 3 rfl ?_
    refine J_iconst (v := 1) dL_law_1124 (by decide) ?_
    refine J_iadd dL_law_1125 ?_
    refine J_iald dL_law_1126 (fun v157 => ?_)
    refine J_callVI (c := 7) (as := [.int v157]) dL_law_1127 (by decide) rfl (Nat.le_of_ble_eq_true rfl) (cw_X8_power _ (by decide)) q2133 q2134 q2135 q2136 np_X8_power (i_X8_power x2 v157) jad_keep rfl (fun v158 => ?_)
    refine J_icmp_eq (tgt := 1588) dL_law_1130 rfl ?_ ?_
    · refine J_sub [0, 1, 2, 3] rfl ?_
      exact j_L_law_b1588 D dA x0 x1 x2 x3
    refine J_inl ?_
    refine J_iconst (v := 0) dL_law_1133 (by decide) ?_
    exact J_zreturn0 dL_law_1134 rfl
  · refine J_aload_n dL_law_1135 rfl 1 rfl ?_
    refine J_aload_n dL_law_1136 rfl 0 rfl ?_
    refine J_iload_n dL_law_1137 rfl 3 rfl ?_
    refine J_iconst (v := 1) dL_law_1138 (by decide) ?_
    refine J_iadd dL_law_1139 ?_
    refine J_iald dL_law_1140 (fun v159 => ?_)
    refine J_callVI (c := 0) (as := [.int v159]) dL_law_1141 (by decide) rfl (Nat.le_of_ble_eq_true rfl) (cw_X0_derivations _ (by decide)) q1270 q1271 q1272 q1273 np_X0_derivations (i_X0_derivations x1 v159) jad_keep rfl (fun v160 => ?_)
    refine J_aload_n dL_law_1144 rfl 2 rfl ?_
    refine J_aload_n dL_law_1145 rfl 0 rfl ?_
    refine J_iload_n dL_law_1146 rfl 3 rfl ?_
    refine J_iconst (v := 1) dL_law_1147 (by decide) ?_
    refine J_iadd dL_law_1148 ?_
    refine J_iald dL_law_1149 (fun v161 => ?_)
    refine J_callVI (c := 7) (as := [.int v161]) dL_law_1150 (by decide) rfl (Nat.le_of_ble_eq_true rfl) (cw_X8_derivations _ (by decide)) q2149 q2150 q2151 q2152 np_X8_derivations (i_X8_derivations x2 v161) jad_keep rfl (fun v162 => ?_)
    refine J_icmp_eq (tgt := 1588) dL_law_1153 rfl ?_ ?_
    · refine J_sub [0, 1, 2, 3] rfl ?_
      exact j_L_law_b1588 D dA x0 x1 x2 x3
    refine J_inl ?_
    refine J_iconst (v := 0) dL_law_1156 (by decide) ?_
    exact J_zreturn0 dL_law_1157 rfl
  · refine J_aload_n dL_law_1158 rfl 1 rfl ?_
    refine J_callVI (c := 0) (as := []) dL_law_1159 (by decide) rfl (Nat.le_of_ble_eq_true rfl) (cw_X0_form _ (by decide)) q1278 q1279 q1280 q1281 np_X0_form (i_X0_form x1) jad_keep rfl (fun v163 => ?_)
    refine J_aload_n dL_law_1162 rfl 2 rfl ?_
    refine J_callVI (c := 7) (as := []) dL_law_1163 (by decide) rfl (Nat.le_of_ble_eq_true rfl) (cw_X8_form _ (by decide)) q2157 q2158 q2159 q2160 np_X8_form (i_X8_form x2) jad_keep rfl (fun v164 => ?_)
    refine J_icmp_eq (tgt := 1588) dL_law_1166 rfl ?_ ?_
    · refine J_sub [0, 1, 2, 3] rfl ?_
      exact j_L_law_b1588 D dA x0 x1 x2 x3
    refine J_inl ?_
    refine J_iconst (v := 0) dL_law_1169 (by decide) ?_
    exact J_zreturn0 dL_law_1170 rfl
  · refine J_aload_n dL_law_1171 rfl 1 rfl ?_
    refine J_aload_n dL_law_1172 rfl 0 rfl ?_
    refine J_iload_n dL_law_1173 rfl 3 rfl ?_
    refine J_iconst (v := 1) dL_law_1174 (by decide) ?_
    refine J_iadd dL_law_1175 ?_
    refine J_iald dL_law_1176 (fun v165 => ?_)
    refine J_callVI (c := 0) (as := [.int v165]) dL_law_1177 (by decide) rfl (Nat.le_of_ble_eq_true rfl) (cw_X0_classes _ (by decide)) q1286 q1287 q1288 q1289 np_X0_classes (i_X0_classes x1 v165) jad_keep rfl (fun v166 => ?_)
    refine J_aload_n dL_law_1180 rfl 2 rfl ?_
    refine J_aload_n dL_law_1181 rfl 0 rfl ?_
    refine J_iload_n dL_law_1182 rfl 3 rfl ?_
    refine J_iconst (v := 1) dL_law_1183 (by decide) ?_
    refine J_iadd dL_law_1184 ?_
    refine J_iald dL_law_1185 (fun v167 => ?_)
    refine J_callVI (c := 7) (as := [.int v167]) dL_law_1186 (by decide) rfl (Nat.le_of_ble_eq_true rfl) (cw_X8_classes _ (by decide)) q2165 q2166 q2167 q2168 np_X8_classes (i_X8_classes x2 v167) jad_keep rfl (fun v168 => ?_)
    refine J_icmp_eq (tgt := 1588) dL_law_1189 rfl ?_ ?_
    · refine J_sub [0, 1, 2, 3] rfl ?_
      exact j_L_law_b1588 D dA x0 x1 x2 x3
    refine J_inl ?_
    refine J_iconst (v := 0) dL_law_1192 (by decide) ?_
    exact J_zreturn0 dL_law_1193 rfl
  · refine J_aload_n dL_law_1194 rfl 1 rfl ?_
    refine J_callVI (c := 0) (as := []) dL_law_1195 (by decide) rfl (Nat.le_of_ble_eq_true rfl) (cw_X0_commuting _ (by decide)) q1304 q1305 q1306 q1307 np_X0_commuting (i_X0_commuting x1) jad_keep rfl (fun v169 => ?_)
    refine J_aload_n dL_law_1198 rfl 2 rfl ?_
    refine J_callVI (c := 7) (as := []) dL_law_1199 (by decide) rfl (Nat.le_of_ble_eq_true rfl) (cw_X8_commuting _ (by decide)) q2192 q2193 q2194 q2195 np_X8_commuting (i_X8_commuting x2) jad_keep rfl (fun v170 => ?_)
    refine J_icmp_eq (tgt := 1588) dL_law_1202 rfl ?_ ?_
    · refine J_sub [0, 1, 2, 3] rfl ?_
      exact j_L_law_b1588 D dA x0 x1 x2 x3
    refine J_inl ?_
    refine J_iconst (v := 0) dL_law_1205 (by decide) ?_
    exact J_zreturn0 dL_law_1206 rfl
  · refine J_aload_n dL_law_1207 rfl 1 rfl ?_
    refine J_callVI (c := 0) (as := []) dL_law_1208 (by decide) rfl (Nat.le_of_ble_eq_true rfl) (cw_X0_maps _ (by decide)) q1312 q1313 q1314 q1315 np_X0_maps (i_X0_maps x1) jad_keep rfl (fun v171 => ?_)
    refine J_aload_n dL_law_1211 rfl 2 rfl ?_
    refine J_callVI (c := 7) (as := []) dL_law_1212 (by decide) rfl (Nat.le_of_ble_eq_true rfl) (cw_X8_maps _ (by decide)) q2200 q2201 q2202 q2203 np_X8_maps (i_X8_maps x2) jad_keep rfl (fun v172 => ?_)
    refine J_icmp_eq (tgt := 1588) dL_law_1215 rfl ?_ ?_
    · refine J_sub [0, 1, 2, 3] rfl ?_
      exact j_L_law_b1588 D dA x0 x1 x2 x3
    refine J_inl ?_
    refine J_iconst (v := 0) dL_law_1218 (by decide) ?_
    exact J_zreturn0 dL_law_1219 rfl
  · refine J_aload_n dL_law_1220 rfl 1 rfl ?_
    refine J_aload_n dL_law_1221 rfl 0 rfl ?_
    refine J_iload_n dL_law_1222 rfl 3 rfl ?_
    refine J_iconst (v := 1) dL_law_1223 (by decide) ?_
    refine J_iadd dL_law_1224 ?_
    refine J_iald dL_law_1225 (fun v173 => ?_)
    refine J_callVI (c := 0) (as := [.int v173]) dL_law_1226 (by decide) rfl (Nat.le_of_ble_eq_true rfl) (cw_X0_sameAs _ (by decide)) q1333 q1334 q1335 q1336 np_X0_sameAs (i_X0_sameAs x1 v173) jad_keep rfl (fun v174 => ?_)
    refine J_aload_n dL_law_1229 rfl 2 rfl ?_
    refine J_aload_n dL_law_1230 rfl 0 rfl ?_
    refine J_iload_n dL_law_1231 rfl 3 rfl ?_
    refine J_iconst (v := 1) dL_law_1232 (by decide) ?_
    refine J_iadd dL_law_1233 ?_
    refine J_iald dL_law_1234 (fun v175 => ?_)
    refine J_callVI (c := 7) (as := [.int v175]) dL_law_1235 (by decide) rfl (Nat.le_of_ble_eq_true rfl) (cw_X8_sameAs _ (by decide)) q2221 q2222 q2223 q2224 np_X8_sameAs (i_X8_sameAs x2 v175) jad_keep rfl (fun v176 => ?_)
    refine J_icmp_eq (tgt := 1588) dL_law_1238 rfl ?_ ?_
    · refine J_sub [0, 1, 2, 3] rfl ?_
      exact j_L_law_b1588 D dA x0 x1 x2 x3
    refine J_inl ?_
    refine J_iconst (v := 0) dL_law_1241 (by decide) ?_
    exact J_zreturn0 dL_law_1242 rfl
  · refine J_aload_n dL_law_1243 rfl 1 rfl ?_
    refine J_callVI (c := 0) (as := []) dL_law_1244 (by decide) rfl (Nat.le_of_ble_eq_true rfl) (cw_X0_tries _ (by decide)) q1341 q1342 q1343 q1344 np_X0_tries (i_X0_tries x1) jad_keep rfl (fun v177 => ?_)
    refine J_aload_n dL_law_1247 rfl 2 rfl ?_
    refine J_callVI (c := 7) (as := []) dL_law_1248 (by decide) rfl (Nat.le_of_ble_eq_true rfl) (cw_X8_tries _ (by decide)) q2233 q2234 q2235 q2236 np_X8_tries (i_X8_tries x2) jad_keep rfl (fun v178 => ?_)
    refine J_icmp_eq (tgt := 1588) dL_law_1251 rfl ?_ ?_
    · refine J_sub [0, 1, 2, 3] rfl ?_
      exact j_L_law_b1588 D dA x0 x1 x2 x3
    refine J_inl ?_
    refine J_iconst (v := 0) dL_law_1254 (by decide) ?_
    exact J_zreturn0 dL_law_1255 rfl
  · refine J_aload_n dL_law_1256 rfl 1 rfl ?_
    refine J_aload_n dL_law_1257 rfl 0 rfl ?_
    refine J_iload_n dL_law_1258 rfl 3 rfl ?_
    refine J_iconst (v := 1) dL_law_1259 (by decide) ?_
    refine J_iadd dL_law_1260 ?_
    refine J_iald dL_law_1261 (fun v179 => ?_)
    refine J_callVI (c := 0) (as := [.int v179]) dL_law_1262 (by decide) rfl (Nat.le_of_ble_eq_true rfl) (cw_X0_parted _ (by decide)) q1345 q1346 q1347 q1348 np_X0_parted (i_X0_parted x1 v179) jad_keep rfl (fun v180 => ?_)
    refine J_aload_n dL_law_1265 rfl 2 rfl ?_
    refine J_aload_n dL_law_1266 rfl 0 rfl ?_
    refine J_iload_n dL_law_1267 rfl 3 rfl ?_
    refine J_iconst (v := 1) dL_law_1268 (by decide) ?_
    refine J_iadd dL_law_1269 ?_
    refine J_iald dL_law_1270 (fun v181 => ?_)
    refine J_callVI (c := 7) (as := [.int v181]) dL_law_1271 (by decide) rfl (Nat.le_of_ble_eq_true rfl) (cw_X8_parted _ (by decide)) q2237 q2238 q2239 q2240 np_X8_parted (i_X8_parted x2 v181) jad_keep rfl (fun v182 => ?_)
    refine J_icmp_eq (tgt := 1588) dL_law_1274 rfl ?_ ?_
    · refine J_sub [0, 1, 2, 3] rfl ?_
      exact j_L_law_b1588 D dA x0 x1 x2 x3
    refine J_inl ?_
    refine J_iconst (v := 0) dL_law_1277 (by decide) ?_
    exact J_zreturn0 dL_law_1278 rfl
  · refine J_aload_n dL_law_1279 rfl 1 rfl ?_
    refine J_aload_n dL_law_1280 rfl 0 rfl ?_
    refine J_iload_n dL_law_1281 rfl 3 rfl ?_
    refine J_iconst (v := 1) dL_law_1282 (by decide) ?_
    refine J_iadd dL_law_1283 ?_
    refine J_iald dL_law_1284 (fun v183 => ?_)
    refine J_callVI (c := 0) (as := [.int v183]) dL_law_1285 (by decide) rfl (Nat.le_of_ble_eq_true rfl) (cw_X0_change _ (by decide)) q1353 q1354 q1355 q1356 np_X0_change (i_X0_change x1 v183) jad_keep rfl (fun v184 => ?_)
    refine J_aload_n dL_law_1288 rfl 2 rfl ?_
    refine J_aload_n dL_law_1289 rfl 0 rfl ?_
    refine J_iload_n dL_law_1290 rfl 3 rfl ?_
    refine J_iconst (v := 1) dL_law_1291 (by decide) ?_
    refine J_iadd dL_law_1292 ?_
    refine J_iald dL_law_1293 (fun v185 => ?_)
    refine J_callVI (c := 7) (as := [.int v185]) dL_law_1294 (by decide) rfl (Nat.le_of_ble_eq_true rfl) (cw_X8_change _ (by decide)) q2245 q2246 q2247 q2248 np_X8_change (i_X8_change x2 v185) jad_keep rfl (fun v186 => ?_)
    refine J_icmp_eq (tgt := 1588) dL_law_1297 rfl ?_ ?_
    · refine J_sub [0, 1, 2, 3] rfl ?_
      exact j_L_law_b1588 D dA x0 x1 x2 x3
    refine J_inl ?_
    refine J_iconst (v := 0) dL_law_1300 (by decide) ?_
    exact J_zreturn0 dL_law_1301 rfl
  · refine J_aload_n dL_law_1302 rfl 1 rfl ?_
    refine J_aload_n dL_law_1303 rfl 0 rfl ?_
    refine J_iload_n dL_law_1304 rfl 3 rfl ?_
    refine J_iconst (v := 1) dL_law_1305 (by decide) ?_
    refine J_iadd dL_law_1306 ?_
    refine J_iald dL_law_1307 (fun v187 => ?_)
    refine J_callVI (c := 0) (as := [.int v187]) dL_law_1308 (by decide) rfl (Nat.le_of_ble_eq_true rfl) (cw_X0_squeeze _ (by decide)) q1374 q1375 q1376 q1377 np_X0_squeeze (i_X0_squeeze x1 v187) jad_keep rfl (fun v188 => ?_)
    refine J_aload_n dL_law_1311 rfl 2 rfl ?_
    refine J_aload_n dL_law_1312 rfl 0 rfl ?_
    refine J_iload_n dL_law_1313 rfl 3 rfl ?_
    refine J_iconst (v := 1) dL_law_1314 (by decide) ?_
    refine J_iadd dL_law_1315 ?_
    refine J_iald dL_law_1316 (fun v189 => ?_)
    refine J_callVI (c := 7) (as := [.int v189]) dL_law_1317 (by decide) rfl (Nat.le_of_ble_eq_true rfl) (cw_X8_squeeze _ (by decide)) q2265 q2266 q2267 q2268 np_X8_squeeze (i_X8_squeeze x2 v189) jad_keep rfl (fun v190 => ?_)
    refine J_icmp_eq (tgt := 1588) dL_law_1320 rfl ?_ ?_
    · refine J_sub [0, 1, 2, 3] rfl ?_
      exact j_L_law_b1588 D dA x0 x1 x2 x3
    refine J_inl ?_
    refine J_iconst (v := 0) dL_law_1323 (by decide) ?_
    exact J_zreturn0 dL_law_1324 rfl
  · refine J_aload_n dL_law_1325 rfl 1 rfl ?_
    refine J_aload_n dL_law_1326 rfl 0 rfl ?_
    refine J_iload_n dL_law_1327 rfl 3 rfl ?_
    refine J_iconst (v := 1) dL_law_1328 (by decide) ?_
    refine J_iadd dL_law_1329 ?_
    refine J_iald dL_law_1330 (fun v191 => ?_)
    refine J_callVI (c := 0) (as := [.int v191]) dL_law_1331 (by decide) rfl (Nat.le_of_ble_eq_true rfl) (cw_X0_barred _ (by decide)) q1378 q1379 q1380 q1381 np_X0_barred (i_X0_barred x1 v191) jad_keep rfl (fun v192 => ?_)
    refine J_aload_n dL_law_1334 rfl 2 rfl ?_
    refine J_aload_n dL_law_1335 rfl 0 rfl ?_
    refine J_iload_n dL_law_1336 rfl 3 rfl ?_
    refine J_iconst (v := 1) dL_law_1337 (by decide) ?_
    refine J_iadd dL_law_1338 ?_
    refine J_iald dL_law_1339 (fun v193 => ?_)
    refine J_callVI (c := 7) (as := [.int v193]) dL_law_1340 (by decide) rfl (Nat.le_of_ble_eq_true rfl) (cw_X8_barred _ (by decide)) q2270 q2271 q2272 q2273 np_X8_barred (i_X8_barred x2 v193) jad_keep rfl (fun v194 => ?_)
    refine J_icmp_eq (tgt := 1588) dL_law_1343 rfl ?_ ?_
    · refine J_sub [0, 1, 2, 3] rfl ?_
      exact j_L_law_b1588 D dA x0 x1 x2 x3
    refine J_inl ?_
    refine J_iconst (v := 0) dL_law_1346 (by decide) ?_
    exact J_zreturn0 dL_law_1347 rfl
  · refine J_aload_n dL_law_1348 rfl 1 rfl ?_
    refine J_aload_n dL_law_1349 rfl 0 rfl ?_
    refine J_iload_n dL_law_1350 rfl 3 rfl ?_
    refine J_iconst (v := 1) dL_law_1351 (by decide) ?_
    refine J_iadd dL_law_1352 ?_
    refine J_iald dL_law_1353 (fun v195 => ?_)
    refine J_callVI (c := 0) (as := [.int v195]) dL_law_1354 (by decide) rfl (Nat.le_of_ble_eq_true rfl) (cw_X0_cocycle _ (by decide)) q1382 q1383 q1384 q1385 np_X0_cocycle (i_X0_cocycle x1 v195) jad_keep rfl (fun v196 => ?_)
    refine J_aload_n dL_law_1357 rfl 2 rfl ?_
    refine J_aload_n dL_law_1358 rfl 0 rfl ?_
    refine J_iload_n dL_law_1359 rfl 3 rfl ?_
    refine J_iconst (v := 1) dL_law_1360 (by decide) ?_
    refine J_iadd dL_law_1361 ?_
    refine J_iald dL_law_1362 (fun v197 => ?_)
    refine J_callVI (c := 7) (as := [.int v197]) dL_law_1363 (by decide) rfl (Nat.le_of_ble_eq_true rfl) (cw_X8_cocycle _ (by decide)) q2274 q2275 q2276 q2277 np_X8_cocycle (i_X8_cocycle x2 v197) jad_keep rfl (fun v198 => ?_)
    refine J_icmp_eq (tgt := 1588) dL_law_1366 rfl ?_ ?_
    · refine J_sub [0, 1, 2, 3] rfl ?_
      exact j_L_law_b1588 D dA x0 x1 x2 x3
    refine J_inl ?_
    refine J_iconst (v := 0) dL_law_1369 (by decide) ?_
    exact J_zreturn0 dL_law_1370 rfl
  · refine J_aload_n dL_law_1371 rfl 1 rfl ?_
    refine J_aload_n dL_law_1372 rfl 0 rfl ?_
    refine J_iload_n dL_law_1373 rfl 3 rfl ?_
    refine J_iconst (v := 1) dL_law_1374 (by decide) ?_
    refine J_iadd dL_law_1375 ?_
    refine J_iald dL_law_1376 (fun v199 => ?_)
    refine J_callVI (c := 0) (as := [.int v199]) dL_law_1377 (by decide) rfl (Nat.le_of_ble_eq_true rfl) (cw_X0_grow _ (by decide)) q1398 q1399 q1400 q1401 np_X0_grow (i_X0_grow x1 v199) jad_keep rfl (fun v200 => ?_)
    refine J_aload_n dL_law_1380 rfl 2 rfl ?_
    refine J_aload_n dL_law_1381 rfl 0 rfl ?_
    refine J_iload_n dL_law_1382 rfl 3 rfl ?_
    refine J_iconst (v := 1) dL_law_1383 (by decide) ?_
    refine J_iadd dL_law_1384 ?_
    refine J_iald dL_law_1385 (fun v201 => ?_)
    refine J_callVI (c := 7) (as := [.int v201]) dL_law_1386 (by decide) rfl (Nat.le_of_ble_eq_true rfl) (cw_X8_grow _ (by decide)) q2302 q2303 q2304 q2305 np_X8_grow (i_X8_grow x2 v201) jad_keep rfl (fun v202 => ?_)
    refine J_icmp_eq (tgt := 1588) dL_law_1389 rfl ?_ ?_
    · refine J_sub [0, 1, 2, 3] rfl ?_
      exact j_L_law_b1588 D dA x0 x1 x2 x3
    refine J_inl ?_
    refine J_iconst (v := 0) dL_law_1392 (by decide) ?_
    exact J_zreturn0 dL_law_1393 rfl
  · refine J_aload_n dL_law_1394 rfl 1 rfl ?_
    refine J_aload_n dL_law_1395 rfl 0 rfl ?_
    refine J_iload_n dL_law_1396 rfl 3 rfl ?_
    refine J_iconst (v := 1) dL_law_1397 (by decide) ?_
    refine J_iadd dL_law_1398 ?_
    refine J_iald dL_law_1399 (fun v203 => ?_)
    refine J_callVI (c := 0) (as := [.int v203]) dL_law_1400 (by decide) rfl (Nat.le_of_ble_eq_true rfl) (cw_X0_sum _ (by decide)) q1403 q1404 q1405 q1406 np_X0_sum (i_X0_sum x1 v203) jad_keep rfl (fun v204 => ?_)
    refine J_aload_n dL_law_1403 rfl 2 rfl ?_
    refine J_aload_n dL_law_1404 rfl 0 rfl ?_
    refine J_iload_n dL_law_1405 rfl 3 rfl ?_
    refine J_iconst (v := 1) dL_law_1406 (by decide) ?_
    refine J_iadd dL_law_1407 ?_
    refine J_iald dL_law_1408 (fun v205 => ?_)
    refine J_callVI (c := 7) (as := [.int v205]) dL_law_1409 (by decide) rfl (Nat.le_of_ble_eq_true rfl) (cw_X8_sum _ (by decide)) q2306 q2307 q2308 q2309 np_X8_sum (i_X8_sum x2 v205) jad_keep rfl (fun v206 => ?_)
    refine J_icmp_eq (tgt := 1588) dL_law_1412 rfl ?_ ?_
    · refine J_sub [0, 1, 2, 3] rfl ?_
      exact j_L_law_b1588 D dA x0 x1 x2 x3
    refine J_inl ?_
    refine J_iconst (v := 0) dL_law_1415 (by decide) ?_
    exact J_zreturn0 dL_law_1416 rfl
  · refine J_aload_n dL_law_1417 rfl 1 rfl ?_
    refine J_aload_n dL_law_1418 rfl 0 rfl ?_
    refine J_iload_n dL_law_1419 rfl 3 rfl ?_
    refine J_iconst (v := 1) dL_law_1420 (by decide) ?_
    refine J_iadd dL_law_1421 ?_
    refine J_iald dL_law_1422 (fun v207 => ?_)
    refine J_aload_n dL_law_1423 rfl 0 rfl ?_
    refine J_iload_n dL_law_1424 rfl 3 rfl ?_
    refine J_iconst (v := 2) dL_law_1425 (by decide) ?_
    refine J_iadd dL_law_1426 ?_
    refine J_iald dL_law_1427 (fun v208 => ?_)
    refine J_callVI (c := 0) (as := [.int v207, .int v208]) dL_law_1428 (by decide) rfl (Nat.le_of_ble_eq_true rfl) (cw_X0_rest _ (by decide)) q1415 q1416 q1417 q1418 np_X0_rest (i_X0_rest x1 v207 v208) jad_keep rfl (fun v209 => ?_)
    refine J_aload_n dL_law_1431 rfl 2 rfl ?_
    refine J_aload_n dL_law_1432 rfl 0 rfl ?_
    refine J_iload_n dL_law_1433 rfl 3 rfl ?_
    refine J_iconst (v := 1) dL_law_1434 (by decide) ?_
    refine J_iadd dL_law_1435 ?_
    refine J_iald dL_law_1436 (fun v210 => ?_)
    refine J_aload_n dL_law_1437 rfl 0 rfl ?_
    refine J_iload_n dL_law_1438 rfl 3 rfl ?_
    refine J_iconst (v := 2) dL_law_1439 (by decide) ?_
    refine J_iadd dL_law_1440 ?_
    refine J_iald dL_law_1441 (fun v211 => ?_)
    refine J_callVI (c := 7) (as := [.int v210, .int v211]) dL_law_1442 (by decide) rfl (Nat.le_of_ble_eq_true rfl) (cw_X8_rest _ (by decide)) q2314 q2315 q2316 q2317 np_X8_rest (i_X8_rest x2 v210 v211) jad_keep rfl (fun v212 => ?_)
    refine J_icmp_eq (tgt := 1588) dL_law_1445 rfl ?_ ?_
    · refine J_sub [0, 1, 2, 3] rfl ?_
      exact j_L_law_b1588 D dA x0 x1 x2 x3
    refine J_inl ?_
    refine J_iconst (v := 0) dL_law_1448 (by decide) ?_
    exact J_zreturn0 dL_law_1449 rfl
  · refine J_aload_n dL_law_1450 rfl 1 rfl ?_
    refine J_aload_n dL_law_1451 rfl 0 rfl ?_
    refine J_iload_n dL_law_1452 rfl 3 rfl ?_
    refine J_iconst (v := 1) dL_law_1453 (by decide) ?_
    refine J_iadd dL_law_1454 ?_
    refine J_iald dL_law_1455 (fun v213 => ?_)
    refine J_aload_n dL_law_1456 rfl 0 rfl ?_
    refine J_iload_n dL_law_1457 rfl 3 rfl ?_
    refine J_iconst (v := 2) dL_law_1458 (by decide) ?_
    refine J_iadd dL_law_1459 ?_
    refine J_iald dL_law_1460 (fun v214 => ?_)
    refine J_callVI (c := 0) (as := [.int v213, .int v214]) dL_law_1461 (by decide) rfl (Nat.le_of_ble_eq_true rfl) (cw_X0_takeOut _ (by decide)) q1424 q1425 q1426 q1427 np_X0_takeOut (i_X0_takeOut x1 v213 v214) jad_keep rfl (fun v215 => ?_)
    refine J_aload_n dL_law_1464 rfl 2 rfl ?_
    refine J_aload_n dL_law_1465 rfl 0 rfl ?_
    refine J_iload_n dL_law_1466 rfl 3 rfl ?_
    refine J_iconst (v := 1) dL_law_1467 (by decide) ?_
    refine J_iadd dL_law_1468 ?_
    refine J_iald dL_law_1469 (fun v216 => ?_)
    refine J_aload_n dL_law_1470 rfl 0 rfl ?_
    refine J_iload_n dL_law_1471 rfl 3 rfl ?_
    refine J_iconst (v := 2) dL_law_1472 (by decide) ?_
    refine J_iadd dL_law_1473 ?_
    refine J_iald dL_law_1474 (fun v217 => ?_)
    refine J_callVI (c := 7) (as := [.int v216, .int v217]) dL_law_1475 (by decide) rfl (Nat.le_of_ble_eq_true rfl) (cw_X8_takeOut _ (by decide)) q2322 q2323 q2324 q2325 np_X8_takeOut (i_X8_takeOut x2 v216 v217) jad_keep rfl (fun v218 => ?_)
    refine J_icmp_eq (tgt := 1588) dL_law_1478 rfl ?_ ?_
    · refine J_sub [0, 1, 2, 3] rfl ?_
      exact j_L_law_b1588 D dA x0 x1 x2 x3
    refine J_inl ?_
    refine J_iconst (v := 0) dL_law_1481 (by decide) ?_
    exact J_zreturn0 dL_law_1482 rfl
  · refine J_aload_n dL_law_1483 rfl 1 rfl ?_
    refine J_aload_n dL_law_1484 rfl 0 rfl ?_
    refine J_iload_n dL_law_1485 rfl 3 rfl ?_
    refine J_iconst (v := 1) dL_law_1486 (by decide) ?_
    refine J_iadd dL_law_1487 ?_
    refine J_iald dL_law_1488 (fun v219 => ?_)
    refine J_aload_n dL_law_1489 rfl 0 rfl ?_
    refine J_iload_n dL_law_1490 rfl 3 rfl ?_
    refine J_iconst (v := 2) dL_law_1491 (by decide) ?_
    refine J_iadd dL_law_1492 ?_
    refine J_iald dL_law_1493 (fun v220 => ?_)
    refine J_aload_n dL_law_1494 rfl 0 rfl ?_
    refine J_iload_n dL_law_1495 rfl 3 rfl ?_
    refine J_iconst (v := 3) dL_law_1496 (by decide) ?_
    refine J_iadd dL_law_1497 ?_
    refine J_iald dL_law_1498 (fun v221 => ?_)
    refine J_callVI (c := 0) (as := [.int v219, .int v220, .int v221]) dL_law_1499 (by decide) rfl (Nat.le_of_ble_eq_true rfl) (cw_X0_tables _ (by decide)) q1428 q1429 q1430 q1431 np_X0_tables (i_X0_tables x1 v219 v220 v221) jad_keep rfl (fun v222 => ?_)
    refine J_aload_n dL_law_1502 rfl 2 rfl ?_
    refine J_aload_n dL_law_1503 rfl 0 rfl ?_
    refine J_iload_n dL_law_1504 rfl 3 rfl ?_
    refine J_iconst (v := 1) dL_law_1505 (by decide) ?_
    refine J_iadd dL_law_1506 ?_
    refine J_iald dL_law_1507 (fun v223 => ?_)
    refine J_aload_n dL_law_1508 rfl 0 rfl ?_
    refine J_iload_n dL_law_1509 rfl 3 rfl ?_
    refine J_iconst (v := 2) dL_law_1510 (by decide) ?_
    refine J_iadd dL_law_1511 ?_
    refine J_iald dL_law_1512 (fun v224 => ?_)
    refine J_aload_n dL_law_1513 rfl 0 rfl ?_
    refine J_iload_n dL_law_1514 rfl 3 rfl ?_
    refine J_iconst (v := 3) dL_law_1515 (by decide) ?_
    refine J_iadd dL_law_1516 ?_
    refine J_iald dL_law_1517 (fun v225 => ?_)
    refine J_callVI (c := 7) (as := [.int v223, .int v224, .int v225]) dL_law_1518 (by decide) rfl (Nat.le_of_ble_eq_true rfl) (cw_X8_tables _ (by decide)) q2326 q2327 q2328 q2329 np_X8_tables (i_X8_tables x2 v223 v224 v225) jad_keep rfl (fun v226 => ?_)
    refine J_icmp_eq (tgt := 1588) dL_law_1521 rfl ?_ ?_
    · refine J_sub [0, 1, 2, 3] rfl ?_
      exact j_L_law_b1588 D dA x0 x1 x2 x3
    refine J_inl ?_
    refine J_iconst (v := 0) dL_law_1524 (by decide) ?_
    exact J_zreturn0 dL_law_1525 rfl
  · refine J_aload_n dL_law_1526 rfl 1 rfl ?_
    refine J_callVI (c := 0) (as := []) dL_law_1527 (by decide) rfl (Nat.le_of_ble_eq_true rfl) (cw_X0_run _ (by decide)) q1434 q1435 q1436 q1437 np_X0_run (i_X0_run x1) jad_keep rfl (fun v227 => ?_)
    refine J_aload_n dL_law_1530 rfl 2 rfl ?_
    refine J_callVI (c := 7) (as := []) dL_law_1531 (by decide) rfl (Nat.le_of_ble_eq_true rfl) (cw_X8_run _ (by decide)) q2386 q2387 q2388 q2389 np_X8_run (i_X8_run x2) jad_keep rfl (fun v228 => ?_)
    refine J_icmp_eq (tgt := 1588) dL_law_1534 rfl ?_ ?_
    · refine J_sub [0, 1, 2, 3] rfl ?_
      exact j_L_law_b1588 D dA x0 x1 x2 x3
    refine J_inl ?_
    refine J_iconst (v := 0) dL_law_1537 (by decide) ?_
    exact J_zreturn0 dL_law_1538 rfl
  · refine J_aload_n dL_law_1539 rfl 1 rfl ?_
    refine J_aload_n dL_law_1540 rfl 0 rfl ?_
    refine J_iload_n dL_law_1541 rfl 3 rfl ?_
    refine J_iconst (v := 1) dL_law_1542 (by decide) ?_
    refine J_iadd dL_law_1543 ?_
    refine J_iald dL_law_1544 (fun v229 => ?_)
    refine J_callVI (c := 0) (as := [.int v229]) dL_law_1545 (by decide) rfl (Nat.le_of_ble_eq_true rfl) (cw_X0_ran _ (by decide)) q1454 q1455 q1456 q1457 np_X0_ran (i_X0_ran x1 v229) jad_keep rfl (fun v230 => ?_)
    refine J_aload_n dL_law_1548 rfl 2 rfl ?_
    refine J_aload_n dL_law_1549 rfl 0 rfl ?_
    refine J_iload_n dL_law_1550 rfl 3 rfl ?_
    refine J_iconst (v := 1) dL_law_1551 (by decide) ?_
    refine J_iadd dL_law_1552 ?_
    refine J_iald dL_law_1553 (fun v231 => ?_)
    refine J_callVI (c := 7) (as := [.int v231]) dL_law_1554 (by decide) rfl (Nat.le_of_ble_eq_true rfl) (cw_X8_ran _ (by decide)) q2414 q2415 q2416 q2417 np_X8_ran (i_X8_ran x2 v231) jad_keep rfl (fun v232 => ?_)
    refine J_icmp_eq (tgt := 1588) dL_law_1557 rfl ?_ ?_
    · refine J_sub [0, 1, 2, 3] rfl ?_
      exact j_L_law_b1588 D dA x0 x1 x2 x3
    refine J_inl ?_
    refine J_iconst (v := 0) dL_law_1560 (by decide) ?_
    exact J_zreturn0 dL_law_1561 rfl
  · refine J_aload_n dL_law_1562 rfl 1 rfl ?_
    refine J_callVI (c := 0) (as := []) dL_law_1563 (by decide) rfl (Nat.le_of_ble_eq_true rfl) (cw_X0_mark _ (by decide)) q1458 q1459 q1460 q1461 np_X0_mark (i_X0_mark x1) jad_keep rfl (fun v233 => ?_)
    refine J_aload_n dL_law_1566 rfl 2 rfl ?_
    refine J_callVI (c := 7) (as := []) dL_law_1567 (by decide) rfl (Nat.le_of_ble_eq_true rfl) (cw_X8_mark _ (by decide)) q2418 q2419 q2420 q2421 np_X8_mark (i_X8_mark x2) jad_keep rfl (fun v234 => ?_)
    refine J_icmp_eq (tgt := 1588) dL_law_1570 rfl ?_ ?_
    · refine J_sub [0, 1, 2, 3] rfl ?_
      exact j_L_law_b1588 D dA x0 x1 x2 x3
    refine J_inl ?_
    refine J_iconst (v := 0) dL_law_1573 (by decide) ?_
    exact J_zreturn0 dL_law_1574 rfl
  · refine J_aload_n dL_law_1575 rfl 1 rfl ?_
    refine J_callVI (c := 0) (as := []) dL_law_1576 (by decide) rfl (Nat.le_of_ble_eq_true rfl) (cw_X0_back _ (by decide)) q1462 q1463 q1464 q1465 np_X0_back (i_X0_back x1) jad_keep rfl (fun v235 => ?_)
    refine J_aload_n dL_law_1579 rfl 2 rfl ?_
    refine J_callVI (c := 7) (as := []) dL_law_1580 (by decide) rfl (Nat.le_of_ble_eq_true rfl) (cw_X8_back _ (by decide)) q2426 q2427 q2428 q2429 np_X8_back (i_X8_back x2) jad_keep rfl (fun v236 => ?_)
    refine J_icmp_eq (tgt := 1588) dL_law_1583 rfl ?_ ?_
    · refine J_sub [0, 1, 2, 3] rfl ?_
      exact j_L_law_b1588 D dA x0 x1 x2 x3
    refine J_inl ?_
    refine J_iconst (v := 0) dL_law_1586 (by decide) ?_
    exact J_zreturn0 dL_law_1587 rfl
noncomputable def f_L_law (x0 : Nat) : JM Mem Int32 :=
  jb (jnew (.inl 0) 48) fun v1 =>
  jb ((jpay 2000 20000 (f_X0_init v1))) fun _ =>
  jb (jnew (.inl 7) 71) fun v2 =>
  jb ((jpay 60 9000 (f_X8_init v2))) fun _ =>
  jloop (fun (t : Int32) => L_law_L18 x0 v1 v2 t) 0
set_option maxHeartbeats 8000000 in
theorem j_L_law (D : va_G) (dA : Nat → ClassId) (x0 : Nat) : J (PM D dA true) Y_L_law [(0, .ref x0)] [] 0 (f_L_law x0) (FRet injI) := by
  unfold f_L_law
  refine J_new (c := 0) dL_law_0 (by decide) (by decide) q211 q212 q187 (fun v1 => ?_)
  refine J_dup dL_law_3 rfl ?_
  refine J_callIV (host := "") (as := []) dL_law_4 rfl (Nat.le_of_ble_eq_true rfl) (cw_X0_init _ (by decide)) rfl q213 q214 q215 np_X0_init (i_X0_init v1) jad_pay rfl ?_
  refine J_astore_n (env' := [(1, .ref v1), (0, .ref x0)]) dL_law_7 rfl (by decide) rfl ?_
  refine J_new (c := 7) dL_law_8 (by decide) (by decide) q1466 q1467 q198 (fun v2 => ?_)
  refine J_dup dL_law_11 rfl ?_
  refine J_callIV (host := "") (as := []) dL_law_12 rfl (Nat.le_of_ble_eq_true rfl) (cw_X8_init _ (by decide)) rfl q1468 q1469 q1470 np_X8_init (i_X8_init v2) jad_pay rfl ?_
  refine J_astore_n (env' := [(2, .ref v2), (1, .ref v1), (0, .ref x0)]) dL_law_15 rfl (by decide) rfl ?_
  refine J_iconst (v := 0) dL_law_16 (by decide) ?_
  refine J_istore_n (env' := [(3, .int 0), (2, .ref v2), (1, .ref v1), (0, .ref x0)]) dL_law_17 rfl (by decide) rfl ?_
  refine J_loop (he := fun (t : Int32) => [(0, .ref x0), (1, .ref v1), (2, .ref v2), (3, .int t)]) [3, 2, 1, 0] rfl (fun t => ?_)
  exact j_L_law_L18 D dA x0 v1 v2 t

