/-! THE MACHINE'S OWN THROWS in Tray.make, get, set. -/
set_option maxRecDepth 100000
section JTRAY0
variable {τ : Type} {D : va_G} {dA : Nat → ClassId} {β : Bool} {Y : JY} {env : List (Nat × Value)} {pu : List Value} {pc : Nat} {F : JF Mem τ}
theorem J_stop {α : Type} {P : JC Mem → Prop} {v : α} {G : JC Mem → α → Mem → Prop} (h : ∀ (Γ : JC Mem) (M : Mem), G Γ v M → JG Γ pc env pu M) : J P Y env pu pc (jp v) G := by
  intro Γ ok hP M r M' hk hv hq
  cases hk
  exact h Γ M (hv v rfl)
theorem jg_newarrayZ {at9 : ArrayType} {n : Int32} {Γ : JC Mem} (ok : JOk Y Γ) (hP : PM D dA true Γ) (hd : decode Y.1 pc = .ok (.newarray at9, 2)) (hn : n < 0) (hfr : 110 ≤ Y.2.2.2.1) (hcat : JCat pu) {M : Mem} (hb : 3 ≤ mC M ∧ 60 ≤ mS M) (hX : JXat jNE Γ pc env (mZ M + 2) (jbumpM M 3 3 60)) : JG Γ pc env (.int n :: pu) M := by
  intro H locs cells slots ls hi hl
  refine vx_newarrayZ ok.exec ok.code hn hd (fun tx htx => ?_)
  subst htx
  exact j_note (names := jNU) (nb := 50) ok hP hfr (by decide +kernel) (by decide +kernel) (by decide) (by decide +kernel) (by decide +kernel) (jmemB_1 jNB) (jmemB_2 jNB) (negative_text_modelled hn) (Nat.le_trans (negative_text_bytes n) (by decide)) (by decide) hb hcat hi hl hX
theorem jg_castN {idx : Nat} {Γ : JC Mem} (ok : JOk Y Γ) (hd : decode Y.1 pc = .ok (.checkcast idx, 3)) {M : Mem} (h : JG Γ (pc + 3) env (.null :: pu) M) : JG Γ pc env (.null :: pu) M := by
  intro H locs cells slots ls hi hl T hT X
  obtain ⟨t, a1, b1⟩ := h H locs cells slots ls hi hl T hT X
  exact ⟨t, X.checkcastNull ok.exec (g := F0 (jcM Γ) pc ls (.null :: pu)) rfl (rest := pu) rfl (by rw [ok.code]; exact hd) t a1, b1⟩
theorem jg_baldZ {a n : Nat} {i : Int32} {Γ : JC Mem} (ok : JOk Y Γ) (hP : PM D dA true Γ) (hd : decode Y.1 pc = .ok (.baload, 1)) {M : Mem} (hK : mK M a = some (.inr (1, n))) (hn : n ≤ 1000) (hout : ¬ vp_in i n) (hfr : 110 ≤ Y.2.2.2.1) (hcat : JCat pu) (hb : 3 ≤ mC M ∧ 230 ≤ mS M) (hX : JXat jAE Γ pc env (mZ M + 2) (jbumpM M 3 3 230)) : JG Γ pc env (.int i :: .ref a :: pu) M := by
  intro H locs cells slots ls hi hl
  obtain ⟨A, H0, hIΓ, hKK, hA, hFG⟩ := id hP
  have hi2 := hi
  rw [hIΓ] at hi2
  refine vx_baldZ ok.exec ok.code hKK.1 (rel_P hi2.1 hK) 0 1 rfl (jtys_at (by decide)) hout hd (fun tx htx => ?_)
  subst htx
  exact j_note (names := jAU) (nb := 220) ok hP hfr (by decide +kernel) (by decide +kernel) (by decide) (by decide +kernel) (by decide +kernel) (jmemB_1 jAB) (jmemB_2 jAB) (index_text_modelled i n) (Nat.le_trans (index_text_bytes i (by omega)) (by decide)) (by decide) hb hcat hi hl hX
theorem jg_baldN {i : Int32} {Γ : JC Mem} (ok : JOk Y Γ) (hP : PM D dA true Γ) (hd : decode Y.1 pc = .ok (.baload, 1)) {M : Mem} (hfr : 110 ≤ Y.2.2.2.1) (hcat : JCat pu) (hb : 1 ≤ mC M ∧ 8 ≤ mS M) (hX : JXat "java/lang/NullPointerException" Γ pc env (mZ M) (jbumpM M 1 1 8)) : JG Γ pc env (.int i :: .null :: pu) M := by
  intro H locs cells slots ls hi hl
  exact vx_baloadN ok.exec ok.code hd (j_noteN (nb := 8) ok hP hfr (jmemB_1 jPB) (jmemB_2 jPB) hb hcat hi hl hX)
theorem jg_saldZ {a n : Nat} {i : Int32} {Γ : JC Mem} (ok : JOk Y Γ) (hP : PM D dA true Γ) (hd : decode Y.1 pc = .ok (.saload, 1)) {M : Mem} (hK : mK M a = some (.inr (2, n))) (hn : n ≤ 1000) (hout : ¬ vp_in i n) (hfr : 110 ≤ Y.2.2.2.1) (hcat : JCat pu) (hb : 3 ≤ mC M ∧ 230 ≤ mS M) (hX : JXat jAE Γ pc env (mZ M + 2) (jbumpM M 3 3 230)) : JG Γ pc env (.int i :: .ref a :: pu) M := by
  intro H locs cells slots ls hi hl
  obtain ⟨A, H0, hIΓ, hKK, hA, hFG⟩ := id hP
  have hi2 := hi
  rw [hIΓ] at hi2
  refine vx_saldZ ok.exec ok.code hKK.1 (rel_P hi2.1 hK) 0 2 rfl (jtys_at (by decide)) hout hd (fun tx htx => ?_)
  subst htx
  exact j_note (names := jAU) (nb := 220) ok hP hfr (by decide +kernel) (by decide +kernel) (by decide) (by decide +kernel) (by decide +kernel) (jmemB_1 jAB) (jmemB_2 jAB) (index_text_modelled i n) (Nat.le_trans (index_text_bytes i (by omega)) (by decide)) (by decide) hb hcat hi hl hX
theorem jg_ialdZ {a n : Nat} {i : Int32} {Γ : JC Mem} (ok : JOk Y Γ) (hP : PM D dA true Γ) (hd : decode Y.1 pc = .ok (.iaload, 1)) {M : Mem} (hK : mK M a = some (.inr (0, n))) (hn : n ≤ 1000) (hout : ¬ vp_in i n) (hfr : 110 ≤ Y.2.2.2.1) (hcat : JCat pu) (hb : 3 ≤ mC M ∧ 230 ≤ mS M) (hX : JXat jAE Γ pc env (mZ M + 2) (jbumpM M 3 3 230)) : JG Γ pc env (.int i :: .ref a :: pu) M := by
  intro H locs cells slots ls hi hl
  obtain ⟨A, H0, hIΓ, hKK, hA, hFG⟩ := id hP
  have hi2 := hi
  rw [hIΓ] at hi2
  refine vx_ialdZ ok.exec ok.code hKK.1 (rel_P hi2.1 hK) 0 0 rfl (jtys_at (by decide)) hout hd (fun tx htx => ?_)
  subst htx
  exact j_note (names := jAU) (nb := 220) ok hP hfr (by decide +kernel) (by decide +kernel) (by decide) (by decide +kernel) (by decide +kernel) (jmemB_1 jAB) (jmemB_2 jAB) (index_text_modelled i n) (Nat.le_trans (index_text_bytes i (by omega)) (by decide)) (by decide) hb hcat hi hl hX
theorem jg_laldZ {a n : Nat} {i : Int32} {Γ : JC Mem} (ok : JOk Y Γ) (hP : PM D dA true Γ) (hd : decode Y.1 pc = .ok (.laload, 1)) {M : Mem} (hK : mK M a = some (.inr (3, n))) (hn : n ≤ 1000) (hout : ¬ vp_in i n) (hfr : 110 ≤ Y.2.2.2.1) (hcat : JCat pu) (hb : 3 ≤ mC M ∧ 230 ≤ mS M) (hX : JXat jAE Γ pc env (mZ M + 2) (jbumpM M 3 3 230)) : JG Γ pc env (.int i :: .ref a :: pu) M := by
  intro H locs cells slots ls hi hl
  obtain ⟨A, H0, hIΓ, hKK, hA, hFG⟩ := id hP
  have hi2 := hi
  rw [hIΓ] at hi2
  refine vx_laldZ ok.exec ok.code hKK.1 (rel_P hi2.1 hK) 0 3 rfl (jtys_at (by decide)) hout hd (fun tx htx => ?_)
  subst htx
  exact j_note (names := jAU) (nb := 220) ok hP hfr (by decide +kernel) (by decide +kernel) (by decide) (by decide +kernel) (by decide +kernel) (jmemB_1 jAB) (jmemB_2 jAB) (index_text_modelled i n) (Nat.le_trans (index_text_bytes i (by omega)) (by decide)) (by decide) hb hcat hi hl hX
theorem jg_bastZ {a n : Nat} {i : Int32} {x : Int32} {Γ : JC Mem} (ok : JOk Y Γ) (hP : PM D dA true Γ) (hd : decode Y.1 pc = .ok (.bastore, 1)) {M : Mem} (hK : mK M a = some (.inr (1, n))) (hn : n ≤ 1000) (hout : ¬ vp_in i n) (hfr : 110 ≤ Y.2.2.2.1) (hcat : JCat pu) (hb : 3 ≤ mC M ∧ 230 ≤ mS M) (hX : JXat jAE Γ pc env (mZ M + 2) (jbumpM M 3 3 230)) : JG Γ pc env (.int x :: .int i :: .ref a :: pu) M := by
  intro H locs cells slots ls hi hl
  obtain ⟨A, H0, hIΓ, hKK, hA, hFG⟩ := id hP
  have hi2 := hi
  rw [hIΓ] at hi2
  refine vx_bastZ ok.exec ok.code hKK.1 (rel_P hi2.1 hK) 0 1 rfl (jtys_at (by decide)) hout hd (fun tx htx => ?_)
  subst htx
  exact j_note (names := jAU) (nb := 220) ok hP hfr (by decide +kernel) (by decide +kernel) (by decide) (by decide +kernel) (by decide +kernel) (jmemB_1 jAB) (jmemB_2 jAB) (index_text_modelled i n) (Nat.le_trans (index_text_bytes i (by omega)) (by decide)) (by decide) hb hcat hi hl hX
theorem jg_bastN {i : Int32} {x : Int32} {Γ : JC Mem} (ok : JOk Y Γ) (hP : PM D dA true Γ) (hd : decode Y.1 pc = .ok (.bastore, 1)) {M : Mem} (hfr : 110 ≤ Y.2.2.2.1) (hcat : JCat pu) (hb : 1 ≤ mC M ∧ 8 ≤ mS M) (hX : JXat "java/lang/NullPointerException" Γ pc env (mZ M) (jbumpM M 1 1 8)) : JG Γ pc env (.int x :: .int i :: .null :: pu) M := by
  intro H locs cells slots ls hi hl
  exact vx_bastoreN ok.exec ok.code hd (j_noteN (nb := 8) ok hP hfr (jmemB_1 jPB) (jmemB_2 jPB) hb hcat hi hl hX)
theorem jg_sastZ {a n : Nat} {i : Int32} {x : Int32} {Γ : JC Mem} (ok : JOk Y Γ) (hP : PM D dA true Γ) (hd : decode Y.1 pc = .ok (.sastore, 1)) {M : Mem} (hK : mK M a = some (.inr (2, n))) (hn : n ≤ 1000) (hout : ¬ vp_in i n) (hfr : 110 ≤ Y.2.2.2.1) (hcat : JCat pu) (hb : 3 ≤ mC M ∧ 230 ≤ mS M) (hX : JXat jAE Γ pc env (mZ M + 2) (jbumpM M 3 3 230)) : JG Γ pc env (.int x :: .int i :: .ref a :: pu) M := by
  intro H locs cells slots ls hi hl
  obtain ⟨A, H0, hIΓ, hKK, hA, hFG⟩ := id hP
  have hi2 := hi
  rw [hIΓ] at hi2
  refine vx_sastZ ok.exec ok.code hKK.1 (rel_P hi2.1 hK) 0 2 rfl (jtys_at (by decide)) hout hd (fun tx htx => ?_)
  subst htx
  exact j_note (names := jAU) (nb := 220) ok hP hfr (by decide +kernel) (by decide +kernel) (by decide) (by decide +kernel) (by decide +kernel) (jmemB_1 jAB) (jmemB_2 jAB) (index_text_modelled i n) (Nat.le_trans (index_text_bytes i (by omega)) (by decide)) (by decide) hb hcat hi hl hX
theorem jg_iastZ {a n : Nat} {i : Int32} {x : Int32} {Γ : JC Mem} (ok : JOk Y Γ) (hP : PM D dA true Γ) (hd : decode Y.1 pc = .ok (.iastore, 1)) {M : Mem} (hK : mK M a = some (.inr (0, n))) (hn : n ≤ 1000) (hout : ¬ vp_in i n) (hfr : 110 ≤ Y.2.2.2.1) (hcat : JCat pu) (hb : 3 ≤ mC M ∧ 230 ≤ mS M) (hX : JXat jAE Γ pc env (mZ M + 2) (jbumpM M 3 3 230)) : JG Γ pc env (.int x :: .int i :: .ref a :: pu) M := by
  intro H locs cells slots ls hi hl
  obtain ⟨A, H0, hIΓ, hKK, hA, hFG⟩ := id hP
  have hi2 := hi
  rw [hIΓ] at hi2
  refine vx_iastZ ok.exec ok.code hKK.1 (rel_P hi2.1 hK) 0 0 rfl (jtys_at (by decide)) hout hd (fun tx htx => ?_)
  subst htx
  exact j_note (names := jAU) (nb := 220) ok hP hfr (by decide +kernel) (by decide +kernel) (by decide) (by decide +kernel) (by decide +kernel) (jmemB_1 jAB) (jmemB_2 jAB) (index_text_modelled i n) (Nat.le_trans (index_text_bytes i (by omega)) (by decide)) (by decide) hb hcat hi hl hX
theorem jg_lastZ {a n : Nat} {i : Int32} {x : Int64} {Γ : JC Mem} (ok : JOk Y Γ) (hP : PM D dA true Γ) (hd : decode Y.1 pc = .ok (.lastore, 1)) {M : Mem} (hK : mK M a = some (.inr (3, n))) (hn : n ≤ 1000) (hout : ¬ vp_in i n) (hfr : 110 ≤ Y.2.2.2.1) (hcat : JCat pu) (hb : 3 ≤ mC M ∧ 230 ≤ mS M) (hX : JXat jAE Γ pc env (mZ M + 2) (jbumpM M 3 3 230)) : JG Γ pc env (.long x :: .int i :: .ref a :: pu) M := by
  intro H locs cells slots ls hi hl
  obtain ⟨A, H0, hIΓ, hKK, hA, hFG⟩ := id hP
  have hi2 := hi
  rw [hIΓ] at hi2
  refine vx_lastZ ok.exec ok.code hKK.1 (rel_P hi2.1 hK) 0 3 rfl (jtys_at (by decide)) hout hd (fun tx htx => ?_)
  subst htx
  exact j_note (names := jAU) (nb := 220) ok hP hfr (by decide +kernel) (by decide +kernel) (by decide) (by decide +kernel) (by decide +kernel) (jmemB_1 jAB) (jmemB_2 jAB) (index_text_modelled i n) (Nat.le_trans (index_text_bytes i (by omega)) (by decide)) (by decide) hb hcat hi hl hX
end JTRAY0
theorem p_X6_make0 (D : va_G) (dA : Nat → ClassId) (x0 : Nat) (x1 x2 : Int32) : J (PM D dA true) (cX6_make, yX6_make.cls, 4, 110, yX6_make.name, none, []) [(0, .ref x0), (1, .int x1), (2, .int x2)] [] 0 (if x1 = 0 then jp () else jfail : JM Mem Unit) (fun Γ _ M => JG Γ 5 [(0, .ref x0), (1, .int x1), (2, .int x2)] [.int x2] M) := by
  refine J_iload_n dX6_make_0 rfl 1 rfl ?_
  refine J_if_ne (tgt := 10) dX6_make_1 rfl ?_ ?_
  · exact J_fail
  refine J_iload_n dX6_make_4 rfl 2 rfl ?_
  exact J_stop (fun _ _ h => h)
theorem p_X6_make1 (D : va_G) (dA : Nat → ClassId) (x0 : Nat) (x1 x2 : Int32) : J (PM D dA true) (cX6_make, yX6_make.cls, 4, 110, yX6_make.name, none, []) [(0, .ref x0), (1, .int x1), (2, .int x2)] [] 0 (if x1 = 0 then jfail else if x1 = 1 then jp () else jfail : JM Mem Unit) (fun Γ _ M => JG Γ 16 [(0, .ref x0), (1, .int x1), (2, .int x2)] [.int x2] M) := by
  refine J_iload_n dX6_make_0 rfl 1 rfl ?_
  refine J_if_ne (tgt := 10) dX6_make_1 rfl ?_ ?_
  rotate_left
  · exact J_fail
  refine J_iload_n dX6_make_10 rfl 1 rfl ?_
  refine J_iconst (v := 1) dX6_make_11 (by decide) ?_
  refine J_icmp_ne (tgt := 21) dX6_make_12 rfl ?_ ?_
  · exact J_fail
  refine J_iload_n dX6_make_15 rfl 2 rfl ?_
  exact J_stop (fun _ _ h => h)
theorem p_X6_make2 (D : va_G) (dA : Nat → ClassId) (x0 : Nat) (x1 x2 : Int32) : J (PM D dA true) (cX6_make, yX6_make.cls, 4, 110, yX6_make.name, none, []) [(0, .ref x0), (1, .int x1), (2, .int x2)] [] 0 (if x1 = 0 then jfail else if x1 = 1 then jfail else if x1 = 2 then jp () else jfail : JM Mem Unit) (fun Γ _ M => JG Γ 27 [(0, .ref x0), (1, .int x1), (2, .int x2)] [.int x2] M) := by
  refine J_iload_n dX6_make_0 rfl 1 rfl ?_
  refine J_if_ne (tgt := 10) dX6_make_1 rfl ?_ ?_
  rotate_left
  · exact J_fail
  refine J_iload_n dX6_make_10 rfl 1 rfl ?_
  refine J_iconst (v := 1) dX6_make_11 (by decide) ?_
  refine J_icmp_ne (tgt := 21) dX6_make_12 rfl ?_ ?_
  rotate_left
  · exact J_fail
  refine J_iload_n dX6_make_21 rfl 1 rfl ?_
  refine J_iconst (v := 2) dX6_make_22 (by decide) ?_
  refine J_icmp_ne (tgt := 32) dX6_make_23 rfl ?_ ?_
  · exact J_fail
  refine J_iload_n dX6_make_26 rfl 2 rfl ?_
  exact J_stop (fun _ _ h => h)
theorem p_X6_make3 (D : va_G) (dA : Nat → ClassId) (x0 : Nat) (x1 x2 : Int32) : J (PM D dA true) (cX6_make, yX6_make.cls, 4, 110, yX6_make.name, none, []) [(0, .ref x0), (1, .int x1), (2, .int x2)] [] 0 (if x1 = 0 then jfail else if x1 = 1 then jfail else if x1 = 2 then jfail else jp () : JM Mem Unit) (fun Γ _ M => JG Γ 33 [(0, .ref x0), (1, .int x1), (2, .int x2)] [.int x2] M) := by
  refine J_iload_n dX6_make_0 rfl 1 rfl ?_
  refine J_if_ne (tgt := 10) dX6_make_1 rfl ?_ ?_
  rotate_left
  · exact J_fail
  refine J_iload_n dX6_make_10 rfl 1 rfl ?_
  refine J_iconst (v := 1) dX6_make_11 (by decide) ?_
  refine J_icmp_ne (tgt := 21) dX6_make_12 rfl ?_ ?_
  rotate_left
  · exact J_fail
  refine J_iload_n dX6_make_21 rfl 1 rfl ?_
  refine J_iconst (v := 2) dX6_make_22 (by decide) ?_
  refine J_icmp_ne (tgt := 32) dX6_make_23 rfl ?_ ?_
  rotate_left
  · exact J_fail
  refine J_iload_n dX6_make_32 rfl 2 rfl ?_
  exact J_stop (fun _ _ h => h)
theorem t_X6_make (x0 : Nat) (x1 x2 : Int32) (hx2 : x2 < 0) : ImplT (ws_ yX6_make cX6_make 4 none) yX6_make 110 [.ref x0, .int x1, .int x2] (fun _ => True) 2 3 3 60 jNE := by
  refine implT_of (plainFor_of_name (by decide)) (Nat.le_of_ble_eq_true rfl) (fun D dA Γ ok hP M _ hc hs hX => ?_)
  have hb : 3 ≤ mC M ∧ 60 ≤ mS M := ⟨by omega, by omega⟩
  by_cases h0 : x1 = 0
  · exact p_X6_make0 D dA x0 x1 x2 Γ ok hP M (.ok ()) M (by rw [if_pos h0]; rfl) (fun _ _ => jg_newarrayZ ok hP dX6_make_5 hx2 (Nat.le_refl _) (by decide) hb (hX _ _)) (fun q e => by cases e)
  by_cases h1 : x1 = 1
  · exact p_X6_make1 D dA x0 x1 x2 Γ ok hP M (.ok ()) M (by rw [if_neg h0, if_pos h1]; rfl) (fun _ _ => jg_newarrayZ ok hP dX6_make_16 hx2 (Nat.le_refl _) (by decide) hb (hX _ _)) (fun q e => by cases e)
  by_cases h2 : x1 = 2
  · exact p_X6_make2 D dA x0 x1 x2 Γ ok hP M (.ok ()) M (by rw [if_neg h0, if_neg h1, if_pos h2]; rfl) (fun _ _ => jg_newarrayZ ok hP dX6_make_27 hx2 (Nat.le_refl _) (by decide) hb (hX _ _)) (fun q e => by cases e)
  · exact p_X6_make3 D dA x0 x1 x2 Γ ok hP M (.ok ()) M (by rw [if_neg h0, if_neg h1, if_neg h2]; rfl) (fun _ _ => jg_newarrayZ ok hP dX6_make_33 hx2 (Nat.le_refl _) (by decide) hb (hX _ _)) (fun q e => by cases e)
def CB (x0 : Nat) (i : Int32) (b n : Nat) (s : Int32) (t : Nat) : Mem → Prop := fun M => mK M x0 = some (.inl 5) ∧ mI M x0 1 = s ∧ mR M x0 0 = some b ∧ mK M b = some (.inr (t, n)) ∧ n ≤ 1000 ∧ ¬ vp_in i n
def CN (x0 : Nat) : Mem → Prop := fun M => mK M x0 = some (.inl 5) ∧ mI M x0 1 = 0 ∧ mR M x0 0 = none
theorem p_X6_get0 (D : va_G) (dA : Nat → ClassId) (x0 : Nat) (x1 : Int32) : J (PM D dA true) (cX6_get, yX6_get.cls, 2, 110, yX6_get.name, (some .long), []) [(0, .ref x0), (1, .int x1)] [] 0 (jb (jgetI 5 1 x0) fun v1 => if v1 = 0 then (jb (jgetA 5 0 x0) fun b => jb (jcast 1 b) fun _ => jp b) else jfail : JM Mem Nat) (fun Γ b M => JG Γ 15 [(0, .ref x0), (1, .int x1)] [.int x1, .ref b] M) := by
  refine J_aload_n dX6_get_0 rfl 0 rfl ?_
  refine J_getI dX6_get_1 fl_X6_13 rfl (fun v1 => ?_)
  refine J_if_ne (tgt := 20) dX6_get_4 rfl ?_ ?_
  · exact J_fail
  refine J_aload_n dX6_get_7 rfl 0 rfl ?_
  refine J_getA dX6_get_8 fl_X6_7 rfl (fun b => ?_)
  refine J_castA (t := 1) dX6_get_11 q721 (by decide +kernel) ?_
  refine J_iload_n dX6_get_14 rfl 1 rfl ?_
  exact J_stop (fun _ _ h => h)
theorem t_X6_get0 (x0 : Nat) (x1 : Int32) (b n : Nat) : ImplT (ws_ yX6_get cX6_get 2 (some .long)) yX6_get 110 [.ref x0, .int x1] (CB x0 x1 b n 0 1) 2 3 3 230 jAE := by
  refine implT_of (plainFor_of_name (by decide)) (Nat.le_of_ble_eq_true rfl) (fun D dA Γ ok hP M hC hc hs hX => ?_)
  have hb : 3 ≤ mC M ∧ 230 ≤ mS M := ⟨by omega, by omega⟩
  obtain ⟨h1, h2, h3, h4, h5, h6⟩ := hC
  exact p_X6_get0 D dA x0 x1 Γ ok hP M (.ok b) M (by simp [jb, jgetI, jgetA, jcast, jp, h1, h2, h3, h4]) (fun v e => by cases e; exact jg_baldZ ok hP dX6_get_15 h4 h5 h6 (Nat.le_refl _) (by decide) hb (hX _ _)) (fun q e => by cases e)
theorem p_X6_get1 (D : va_G) (dA : Nat → ClassId) (x0 : Nat) (x1 : Int32) : J (PM D dA true) (cX6_get, yX6_get.cls, 2, 110, yX6_get.name, (some .long), []) [(0, .ref x0), (1, .int x1)] [] 0 (jb (jgetI 5 1 x0) fun v1 => if v1 = 0 then jfail else jb (jgetI 5 1 x0) fun v2 => if v2 = 1 then (jb (jgetA 5 0 x0) fun b => jb (jcast 2 b) fun _ => jp b) else jfail : JM Mem Nat) (fun Γ b M => JG Γ 36 [(0, .ref x0), (1, .int x1)] [.int x1, .ref b] M) := by
  refine J_aload_n dX6_get_0 rfl 0 rfl ?_
  refine J_getI dX6_get_1 fl_X6_13 rfl (fun v1 => ?_)
  refine J_if_ne (tgt := 20) dX6_get_4 rfl ?_ ?_
  rotate_left
  · exact J_fail
  refine J_aload_n dX6_get_20 rfl 0 rfl ?_
  refine J_getI dX6_get_21 fl_X6_13 rfl (fun v2 => ?_)
  refine J_iconst (v := 1) dX6_get_24 (by decide) ?_
  refine J_icmp_ne (tgt := 41) dX6_get_25 rfl ?_ ?_
  · exact J_fail
  refine J_aload_n dX6_get_28 rfl 0 rfl ?_
  refine J_getA dX6_get_29 fl_X6_7 rfl (fun b => ?_)
  refine J_castA (t := 2) dX6_get_32 q722 (by decide +kernel) ?_
  refine J_iload_n dX6_get_35 rfl 1 rfl ?_
  exact J_stop (fun _ _ h => h)
theorem t_X6_get1 (x0 : Nat) (x1 : Int32) (b n : Nat) : ImplT (ws_ yX6_get cX6_get 2 (some .long)) yX6_get 110 [.ref x0, .int x1] (CB x0 x1 b n 1 2) 2 3 3 230 jAE := by
  refine implT_of (plainFor_of_name (by decide)) (Nat.le_of_ble_eq_true rfl) (fun D dA Γ ok hP M hC hc hs hX => ?_)
  have hb : 3 ≤ mC M ∧ 230 ≤ mS M := ⟨by omega, by omega⟩
  obtain ⟨h1, h2, h3, h4, h5, h6⟩ := hC
  exact p_X6_get1 D dA x0 x1 Γ ok hP M (.ok b) M (by simp [jb, jgetI, jgetA, jcast, jp, h1, h2, h3, h4]) (fun v e => by cases e; exact jg_saldZ ok hP dX6_get_36 h4 h5 h6 (Nat.le_refl _) (by decide) hb (hX _ _)) (fun q e => by cases e)
theorem p_X6_get2 (D : va_G) (dA : Nat → ClassId) (x0 : Nat) (x1 : Int32) : J (PM D dA true) (cX6_get, yX6_get.cls, 2, 110, yX6_get.name, (some .long), []) [(0, .ref x0), (1, .int x1)] [] 0 (jb (jgetI 5 1 x0) fun v1 => if v1 = 0 then jfail else jb (jgetI 5 1 x0) fun v2 => if v2 = 1 then jfail else jb (jgetI 5 1 x0) fun v3 => if v3 = 2 then (jb (jgetA 5 0 x0) fun b => jb (jcast 0 b) fun _ => jp b) else jfail : JM Mem Nat) (fun Γ b M => JG Γ 57 [(0, .ref x0), (1, .int x1)] [.int x1, .ref b] M) := by
  refine J_aload_n dX6_get_0 rfl 0 rfl ?_
  refine J_getI dX6_get_1 fl_X6_13 rfl (fun v1 => ?_)
  refine J_if_ne (tgt := 20) dX6_get_4 rfl ?_ ?_
  rotate_left
  · exact J_fail
  refine J_aload_n dX6_get_20 rfl 0 rfl ?_
  refine J_getI dX6_get_21 fl_X6_13 rfl (fun v2 => ?_)
  refine J_iconst (v := 1) dX6_get_24 (by decide) ?_
  refine J_icmp_ne (tgt := 41) dX6_get_25 rfl ?_ ?_
  rotate_left
  · exact J_fail
  refine J_aload_n dX6_get_41 rfl 0 rfl ?_
  refine J_getI dX6_get_42 fl_X6_13 rfl (fun v3 => ?_)
  refine J_iconst (v := 2) dX6_get_45 (by decide) ?_
  refine J_icmp_ne (tgt := 62) dX6_get_46 rfl ?_ ?_
  · exact J_fail
  refine J_aload_n dX6_get_49 rfl 0 rfl ?_
  refine J_getA dX6_get_50 fl_X6_7 rfl (fun b => ?_)
  refine J_castA (t := 0) dX6_get_53 q723 (by decide +kernel) ?_
  refine J_iload_n dX6_get_56 rfl 1 rfl ?_
  exact J_stop (fun _ _ h => h)
theorem t_X6_get2 (x0 : Nat) (x1 : Int32) (b n : Nat) : ImplT (ws_ yX6_get cX6_get 2 (some .long)) yX6_get 110 [.ref x0, .int x1] (CB x0 x1 b n 2 0) 2 3 3 230 jAE := by
  refine implT_of (plainFor_of_name (by decide)) (Nat.le_of_ble_eq_true rfl) (fun D dA Γ ok hP M hC hc hs hX => ?_)
  have hb : 3 ≤ mC M ∧ 230 ≤ mS M := ⟨by omega, by omega⟩
  obtain ⟨h1, h2, h3, h4, h5, h6⟩ := hC
  exact p_X6_get2 D dA x0 x1 Γ ok hP M (.ok b) M (by simp [jb, jgetI, jgetA, jcast, jp, h1, h2, h3, h4]) (fun v e => by cases e; exact jg_ialdZ ok hP dX6_get_57 h4 h5 h6 (Nat.le_refl _) (by decide) hb (hX _ _)) (fun q e => by cases e)
theorem p_X6_get3 (D : va_G) (dA : Nat → ClassId) (x0 : Nat) (x1 : Int32) : J (PM D dA true) (cX6_get, yX6_get.cls, 2, 110, yX6_get.name, (some .long), []) [(0, .ref x0), (1, .int x1)] [] 0 (jb (jgetI 5 1 x0) fun v1 => if v1 = 0 then jfail else jb (jgetI 5 1 x0) fun v2 => if v2 = 1 then jfail else jb (jgetI 5 1 x0) fun v3 => if v3 = 2 then jfail else (jb (jgetA 5 0 x0) fun b => jb (jcast 3 b) fun _ => jp b) : JM Mem Nat) (fun Γ b M => JG Γ 70 [(0, .ref x0), (1, .int x1)] [.int x1, .ref b] M) := by
  refine J_aload_n dX6_get_0 rfl 0 rfl ?_
  refine J_getI dX6_get_1 fl_X6_13 rfl (fun v1 => ?_)
  refine J_if_ne (tgt := 20) dX6_get_4 rfl ?_ ?_
  rotate_left
  · exact J_fail
  refine J_aload_n dX6_get_20 rfl 0 rfl ?_
  refine J_getI dX6_get_21 fl_X6_13 rfl (fun v2 => ?_)
  refine J_iconst (v := 1) dX6_get_24 (by decide) ?_
  refine J_icmp_ne (tgt := 41) dX6_get_25 rfl ?_ ?_
  rotate_left
  · exact J_fail
  refine J_aload_n dX6_get_41 rfl 0 rfl ?_
  refine J_getI dX6_get_42 fl_X6_13 rfl (fun v3 => ?_)
  refine J_iconst (v := 2) dX6_get_45 (by decide) ?_
  refine J_icmp_ne (tgt := 62) dX6_get_46 rfl ?_ ?_
  rotate_left
  · exact J_fail
  refine J_aload_n dX6_get_62 rfl 0 rfl ?_
  refine J_getA dX6_get_63 fl_X6_7 rfl (fun b => ?_)
  refine J_castA (t := 3) dX6_get_66 q724 (by decide +kernel) ?_
  refine J_iload_n dX6_get_69 rfl 1 rfl ?_
  exact J_stop (fun _ _ h => h)
theorem t_X6_get3 (x0 : Nat) (x1 : Int32) (b n : Nat) : ImplT (ws_ yX6_get cX6_get 2 (some .long)) yX6_get 110 [.ref x0, .int x1] (CB x0 x1 b n 3 3) 2 3 3 230 jAE := by
  refine implT_of (plainFor_of_name (by decide)) (Nat.le_of_ble_eq_true rfl) (fun D dA Γ ok hP M hC hc hs hX => ?_)
  have hb : 3 ≤ mC M ∧ 230 ≤ mS M := ⟨by omega, by omega⟩
  obtain ⟨h1, h2, h3, h4, h5, h6⟩ := hC
  exact p_X6_get3 D dA x0 x1 Γ ok hP M (.ok b) M (by simp [jb, jgetI, jgetA, jcast, jp, h1, h2, h3, h4]) (fun v e => by cases e; exact jg_laldZ ok hP dX6_get_70 h4 h5 h6 (Nat.le_refl _) (by decide) hb (hX _ _)) (fun q e => by cases e)
theorem p_X6_getN (D : va_G) (dA : Nat → ClassId) (x0 : Nat) (x1 : Int32) : J (PM D dA true) (cX6_get, yX6_get.cls, 2, 110, yX6_get.name, (some .long), []) [(0, .ref x0), (1, .int x1)] [] 0 (jb (jgetI 5 1 x0) fun v1 => if v1 = 0 then (jb (jgetO 5 0 x0) fun v => jp v) else jfail : JM Mem (Option Nat)) (fun Γ v M => JG Γ 11 [(0, .ref x0), (1, .int x1)] [va_rf v] M) := by
  refine J_aload_n dX6_get_0 rfl 0 rfl ?_
  refine J_getI dX6_get_1 fl_X6_13 rfl (fun v1 => ?_)
  refine J_if_ne (tgt := 20) dX6_get_4 rfl ?_ ?_
  · exact J_fail
  refine J_aload_n dX6_get_7 rfl 0 rfl ?_
  refine J_getO dX6_get_8 fl_X6_7 rfl (fun v => ?_)
  exact J_stop (fun _ _ h => h)
theorem p_X6_getM (D : va_G) (dA : Nat → ClassId) (x0 : Nat) (x1 : Int32) : J (PM D dA true) (cX6_get, yX6_get.cls, 2, 110, yX6_get.name, (some .long), []) [(0, .ref x0), (1, .int x1)] [.null] 14 (jp () : JM Mem Unit) (fun Γ _ M => JG Γ 15 [(0, .ref x0), (1, .int x1)] [.int x1, .null] M) := by
  refine J_iload_n dX6_get_14 rfl 1 rfl ?_
  exact J_stop (fun _ _ h => h)
theorem t_X6_getN (x0 : Nat) (x1 : Int32) : ImplT (ws_ yX6_get cX6_get 2 (some .long)) yX6_get 110 [.ref x0, .int x1] (CN x0) 0 1 1 8 "java/lang/NullPointerException" := by
  refine implT_of (plainFor_of_name (by decide)) (Nat.le_of_ble_eq_true rfl) (fun D dA Γ ok hP M hC hc hs hX => ?_)
  have hb : 1 ≤ mC M ∧ 8 ≤ mS M := ⟨by omega, by omega⟩
  obtain ⟨h1, h2, h3⟩ := hC
  refine p_X6_getN D dA x0 x1 Γ ok hP M (.ok none) M (by simp [jb, jgetI, jgetO, jp, h1, h2, h3]) (fun v e => ?_) (fun q e => by cases e)
  cases e
  refine jg_castN ok dX6_get_11 ?_
  exact p_X6_getM D dA x0 x1 Γ ok hP M (.ok ()) M rfl (fun _ _ => jg_baldN ok hP dX6_get_15 (Nat.le_refl _) (by decide) hb (hX _ _)) (fun q e => by cases e)
theorem p_X6_set0 (D : va_G) (dA : Nat → ClassId) (x0 : Nat) (x1 : Int32) (x2 : Int64) : J (PM D dA true) (cX6_set, yX6_set.cls, 4, 110, yX6_set.name, none, []) [(0, .ref x0), (1, .int x1), (2, .long x2)] [] 0 (jb (jgetI 5 1 x0) fun v1 => if v1 = 0 then (jb (jgetA 5 0 x0) fun b => jb (jcast 1 b) fun _ => jp b) else jfail : JM Mem Nat) (fun Γ b M => JG Γ 18 [(0, .ref x0), (1, .int x1), (2, .long x2)] [.int x2.toInt32.toInt8.toInt32, .int x1, .ref b] M) := by
  refine J_aload_n dX6_set_0 rfl 0 rfl ?_
  refine J_getI dX6_set_1 fl_X6_13 rfl (fun v1 => ?_)
  refine J_if_ne (tgt := 22) dX6_set_4 rfl ?_ ?_
  · exact J_fail
  refine J_aload_n dX6_set_7 rfl 0 rfl ?_
  refine J_getA dX6_set_8 fl_X6_7 rfl (fun b => ?_)
  refine J_castA (t := 1) dX6_set_11 q721 (by decide +kernel) ?_
  refine J_iload_n dX6_set_14 rfl 1 rfl ?_
  refine J_lload_n dX6_set_15 rfl 2 rfl ?_
  refine J_l2i dX6_set_16 ?_
  refine J_i2b dX6_set_17 ?_
  exact J_stop (fun _ _ h => h)
theorem t_X6_set0 (x0 : Nat) (x1 : Int32) (x2 : Int64) (b n : Nat) : ImplT (ws_ yX6_set cX6_set 4 none) yX6_set 110 [.ref x0, .int x1, .long x2] (CB x0 x1 b n 0 1) 2 3 3 230 jAE := by
  refine implT_of (plainFor_of_name (by decide)) (Nat.le_of_ble_eq_true rfl) (fun D dA Γ ok hP M hC hc hs hX => ?_)
  have hb : 3 ≤ mC M ∧ 230 ≤ mS M := ⟨by omega, by omega⟩
  obtain ⟨h1, h2, h3, h4, h5, h6⟩ := hC
  exact p_X6_set0 D dA x0 x1 x2 Γ ok hP M (.ok b) M (by simp [jb, jgetI, jgetA, jcast, jp, h1, h2, h3, h4]) (fun v e => by cases e; exact jg_bastZ ok hP dX6_set_18 h4 h5 h6 (Nat.le_refl _) (by decide) hb (hX _ _)) (fun q e => by cases e)
theorem p_X6_set1 (D : va_G) (dA : Nat → ClassId) (x0 : Nat) (x1 : Int32) (x2 : Int64) : J (PM D dA true) (cX6_set, yX6_set.cls, 4, 110, yX6_set.name, none, []) [(0, .ref x0), (1, .int x1), (2, .long x2)] [] 0 (jb (jgetI 5 1 x0) fun v1 => if v1 = 0 then jfail else jb (jgetI 5 1 x0) fun v2 => if v2 = 1 then (jb (jgetA 5 0 x0) fun b => jb (jcast 2 b) fun _ => jp b) else jfail : JM Mem Nat) (fun Γ b M => JG Γ 41 [(0, .ref x0), (1, .int x1), (2, .long x2)] [.int x2.toInt32.toInt16.toInt32, .int x1, .ref b] M) := by
  refine J_aload_n dX6_set_0 rfl 0 rfl ?_
  refine J_getI dX6_set_1 fl_X6_13 rfl (fun v1 => ?_)
  refine J_if_ne (tgt := 22) dX6_set_4 rfl ?_ ?_
  rotate_left
  · exact J_fail
  refine J_aload_n dX6_set_22 rfl 0 rfl ?_
  refine J_getI dX6_set_23 fl_X6_13 rfl (fun v2 => ?_)
  refine J_iconst (v := 1) dX6_set_26 (by decide) ?_
  refine J_icmp_ne (tgt := 45) dX6_set_27 rfl ?_ ?_
  · exact J_fail
  refine J_aload_n dX6_set_30 rfl 0 rfl ?_
  refine J_getA dX6_set_31 fl_X6_7 rfl (fun b => ?_)
  refine J_castA (t := 2) dX6_set_34 q722 (by decide +kernel) ?_
  refine J_iload_n dX6_set_37 rfl 1 rfl ?_
  refine J_lload_n dX6_set_38 rfl 2 rfl ?_
  refine J_l2i dX6_set_39 ?_
  refine J_i2s dX6_set_40 ?_
  exact J_stop (fun _ _ h => h)
theorem t_X6_set1 (x0 : Nat) (x1 : Int32) (x2 : Int64) (b n : Nat) : ImplT (ws_ yX6_set cX6_set 4 none) yX6_set 110 [.ref x0, .int x1, .long x2] (CB x0 x1 b n 1 2) 2 3 3 230 jAE := by
  refine implT_of (plainFor_of_name (by decide)) (Nat.le_of_ble_eq_true rfl) (fun D dA Γ ok hP M hC hc hs hX => ?_)
  have hb : 3 ≤ mC M ∧ 230 ≤ mS M := ⟨by omega, by omega⟩
  obtain ⟨h1, h2, h3, h4, h5, h6⟩ := hC
  exact p_X6_set1 D dA x0 x1 x2 Γ ok hP M (.ok b) M (by simp [jb, jgetI, jgetA, jcast, jp, h1, h2, h3, h4]) (fun v e => by cases e; exact jg_sastZ ok hP dX6_set_41 h4 h5 h6 (Nat.le_refl _) (by decide) hb (hX _ _)) (fun q e => by cases e)
theorem p_X6_set2 (D : va_G) (dA : Nat → ClassId) (x0 : Nat) (x1 : Int32) (x2 : Int64) : J (PM D dA true) (cX6_set, yX6_set.cls, 4, 110, yX6_set.name, none, []) [(0, .ref x0), (1, .int x1), (2, .long x2)] [] 0 (jb (jgetI 5 1 x0) fun v1 => if v1 = 0 then jfail else jb (jgetI 5 1 x0) fun v2 => if v2 = 1 then jfail else jb (jgetI 5 1 x0) fun v3 => if v3 = 2 then (jb (jgetA 5 0 x0) fun b => jb (jcast 0 b) fun _ => jp b) else jfail : JM Mem Nat) (fun Γ b M => JG Γ 63 [(0, .ref x0), (1, .int x1), (2, .long x2)] [.int x2.toInt32, .int x1, .ref b] M) := by
  refine J_aload_n dX6_set_0 rfl 0 rfl ?_
  refine J_getI dX6_set_1 fl_X6_13 rfl (fun v1 => ?_)
  refine J_if_ne (tgt := 22) dX6_set_4 rfl ?_ ?_
  rotate_left
  · exact J_fail
  refine J_aload_n dX6_set_22 rfl 0 rfl ?_
  refine J_getI dX6_set_23 fl_X6_13 rfl (fun v2 => ?_)
  refine J_iconst (v := 1) dX6_set_26 (by decide) ?_
  refine J_icmp_ne (tgt := 45) dX6_set_27 rfl ?_ ?_
  rotate_left
  · exact J_fail
  refine J_aload_n dX6_set_45 rfl 0 rfl ?_
  refine J_getI dX6_set_46 fl_X6_13 rfl (fun v3 => ?_)
  refine J_iconst (v := 2) dX6_set_49 (by decide) ?_
  refine J_icmp_ne (tgt := 67) dX6_set_50 rfl ?_ ?_
  · exact J_fail
  refine J_aload_n dX6_set_53 rfl 0 rfl ?_
  refine J_getA dX6_set_54 fl_X6_7 rfl (fun b => ?_)
  refine J_castA (t := 0) dX6_set_57 q723 (by decide +kernel) ?_
  refine J_iload_n dX6_set_60 rfl 1 rfl ?_
  refine J_lload_n dX6_set_61 rfl 2 rfl ?_
  refine J_l2i dX6_set_62 ?_
  exact J_stop (fun _ _ h => h)
theorem t_X6_set2 (x0 : Nat) (x1 : Int32) (x2 : Int64) (b n : Nat) : ImplT (ws_ yX6_set cX6_set 4 none) yX6_set 110 [.ref x0, .int x1, .long x2] (CB x0 x1 b n 2 0) 2 3 3 230 jAE := by
  refine implT_of (plainFor_of_name (by decide)) (Nat.le_of_ble_eq_true rfl) (fun D dA Γ ok hP M hC hc hs hX => ?_)
  have hb : 3 ≤ mC M ∧ 230 ≤ mS M := ⟨by omega, by omega⟩
  obtain ⟨h1, h2, h3, h4, h5, h6⟩ := hC
  exact p_X6_set2 D dA x0 x1 x2 Γ ok hP M (.ok b) M (by simp [jb, jgetI, jgetA, jcast, jp, h1, h2, h3, h4]) (fun v e => by cases e; exact jg_iastZ ok hP dX6_set_63 h4 h5 h6 (Nat.le_refl _) (by decide) hb (hX _ _)) (fun q e => by cases e)
theorem p_X6_set3 (D : va_G) (dA : Nat → ClassId) (x0 : Nat) (x1 : Int32) (x2 : Int64) : J (PM D dA true) (cX6_set, yX6_set.cls, 4, 110, yX6_set.name, none, []) [(0, .ref x0), (1, .int x1), (2, .long x2)] [] 0 (jb (jgetI 5 1 x0) fun v1 => if v1 = 0 then jfail else jb (jgetI 5 1 x0) fun v2 => if v2 = 1 then jfail else jb (jgetI 5 1 x0) fun v3 => if v3 = 2 then jfail else (jb (jgetA 5 0 x0) fun b => jb (jcast 3 b) fun _ => jp b) : JM Mem Nat) (fun Γ b M => JG Γ 76 [(0, .ref x0), (1, .int x1), (2, .long x2)] [.long x2, .int x1, .ref b] M) := by
  refine J_aload_n dX6_set_0 rfl 0 rfl ?_
  refine J_getI dX6_set_1 fl_X6_13 rfl (fun v1 => ?_)
  refine J_if_ne (tgt := 22) dX6_set_4 rfl ?_ ?_
  rotate_left
  · exact J_fail
  refine J_aload_n dX6_set_22 rfl 0 rfl ?_
  refine J_getI dX6_set_23 fl_X6_13 rfl (fun v2 => ?_)
  refine J_iconst (v := 1) dX6_set_26 (by decide) ?_
  refine J_icmp_ne (tgt := 45) dX6_set_27 rfl ?_ ?_
  rotate_left
  · exact J_fail
  refine J_aload_n dX6_set_45 rfl 0 rfl ?_
  refine J_getI dX6_set_46 fl_X6_13 rfl (fun v3 => ?_)
  refine J_iconst (v := 2) dX6_set_49 (by decide) ?_
  refine J_icmp_ne (tgt := 67) dX6_set_50 rfl ?_ ?_
  rotate_left
  · exact J_fail
  refine J_aload_n dX6_set_67 rfl 0 rfl ?_
  refine J_getA dX6_set_68 fl_X6_7 rfl (fun b => ?_)
  refine J_castA (t := 3) dX6_set_71 q724 (by decide +kernel) ?_
  refine J_iload_n dX6_set_74 rfl 1 rfl ?_
  refine J_lload_n dX6_set_75 rfl 2 rfl ?_
  exact J_stop (fun _ _ h => h)
theorem t_X6_set3 (x0 : Nat) (x1 : Int32) (x2 : Int64) (b n : Nat) : ImplT (ws_ yX6_set cX6_set 4 none) yX6_set 110 [.ref x0, .int x1, .long x2] (CB x0 x1 b n 3 3) 2 3 3 230 jAE := by
  refine implT_of (plainFor_of_name (by decide)) (Nat.le_of_ble_eq_true rfl) (fun D dA Γ ok hP M hC hc hs hX => ?_)
  have hb : 3 ≤ mC M ∧ 230 ≤ mS M := ⟨by omega, by omega⟩
  obtain ⟨h1, h2, h3, h4, h5, h6⟩ := hC
  exact p_X6_set3 D dA x0 x1 x2 Γ ok hP M (.ok b) M (by simp [jb, jgetI, jgetA, jcast, jp, h1, h2, h3, h4]) (fun v e => by cases e; exact jg_lastZ ok hP dX6_set_76 h4 h5 h6 (Nat.le_refl _) (by decide) hb (hX _ _)) (fun q e => by cases e)
theorem p_X6_setN (D : va_G) (dA : Nat → ClassId) (x0 : Nat) (x1 : Int32) (x2 : Int64) : J (PM D dA true) (cX6_set, yX6_set.cls, 4, 110, yX6_set.name, none, []) [(0, .ref x0), (1, .int x1), (2, .long x2)] [] 0 (jb (jgetI 5 1 x0) fun v1 => if v1 = 0 then (jb (jgetO 5 0 x0) fun v => jp v) else jfail : JM Mem (Option Nat)) (fun Γ v M => JG Γ 11 [(0, .ref x0), (1, .int x1), (2, .long x2)] [va_rf v] M) := by
  refine J_aload_n dX6_set_0 rfl 0 rfl ?_
  refine J_getI dX6_set_1 fl_X6_13 rfl (fun v1 => ?_)
  refine J_if_ne (tgt := 22) dX6_set_4 rfl ?_ ?_
  · exact J_fail
  refine J_aload_n dX6_set_7 rfl 0 rfl ?_
  refine J_getO dX6_set_8 fl_X6_7 rfl (fun v => ?_)
  exact J_stop (fun _ _ h => h)
theorem p_X6_setM (D : va_G) (dA : Nat → ClassId) (x0 : Nat) (x1 : Int32) (x2 : Int64) : J (PM D dA true) (cX6_set, yX6_set.cls, 4, 110, yX6_set.name, none, []) [(0, .ref x0), (1, .int x1), (2, .long x2)] [.null] 14 (jp () : JM Mem Unit) (fun Γ _ M => JG Γ 18 [(0, .ref x0), (1, .int x1), (2, .long x2)] [.int x2.toInt32.toInt8.toInt32, .int x1, .null] M) := by
  refine J_iload_n dX6_set_14 rfl 1 rfl ?_
  refine J_lload_n dX6_set_15 rfl 2 rfl ?_
  refine J_l2i dX6_set_16 ?_
  refine J_i2b dX6_set_17 ?_
  exact J_stop (fun _ _ h => h)
theorem t_X6_setN (x0 : Nat) (x1 : Int32) (x2 : Int64) : ImplT (ws_ yX6_set cX6_set 4 none) yX6_set 110 [.ref x0, .int x1, .long x2] (CN x0) 0 1 1 8 "java/lang/NullPointerException" := by
  refine implT_of (plainFor_of_name (by decide)) (Nat.le_of_ble_eq_true rfl) (fun D dA Γ ok hP M hC hc hs hX => ?_)
  have hb : 1 ≤ mC M ∧ 8 ≤ mS M := ⟨by omega, by omega⟩
  obtain ⟨h1, h2, h3⟩ := hC
  refine p_X6_setN D dA x0 x1 x2 Γ ok hP M (.ok none) M (by simp [jb, jgetI, jgetO, jp, h1, h2, h3]) (fun v e => ?_) (fun q e => by cases e)
  cases e
  refine jg_castN ok dX6_set_11 ?_
  exact p_X6_setM D dA x0 x1 x2 Γ ok hP M (.ok ()) M rfl (fun _ _ => jg_bastN ok hP dX6_set_18 (Nat.le_refl _) (by decide) hb (hX _ _)) (fun q e => by cases e)
def CX (x0 : Nat) (i : Int32) : Mem → Prop := fun M => ∃ b n, CB x0 i b n 0 1 M ∨ CB x0 i b n 1 2 M ∨ CB x0 i b n 2 0 M ∨ CB x0 i b n 3 3 M
theorem t_X6_getB (x0 : Nat) (x1 : Int32) : ImplT (ws_ yX6_get cX6_get 2 (some .long)) yX6_get 110 [.ref x0, .int x1] (CX x0 x1) 2 3 3 230 jAE := by
  intro l D dA M hst hC hc hs
  obtain ⟨b, n, h | h | h | h⟩ := hC
  · exact t_X6_get0 x0 x1 b n l D dA M hst h hc hs
  · exact t_X6_get1 x0 x1 b n l D dA M hst h hc hs
  · exact t_X6_get2 x0 x1 b n l D dA M hst h hc hs
  · exact t_X6_get3 x0 x1 b n l D dA M hst h hc hs
theorem t_X6_setB (x0 : Nat) (x1 : Int32) (x2 : Int64) : ImplT (ws_ yX6_set cX6_set 4 none) yX6_set 110 [.ref x0, .int x1, .long x2] (CX x0 x1) 2 3 3 230 jAE := by
  intro l D dA M hst hC hc hs
  obtain ⟨b, n, h | h | h | h⟩ := hC
  · exact t_X6_set0 x0 x1 x2 b n l D dA M hst h hc hs
  · exact t_X6_set1 x0 x1 x2 b n l D dA M hst h hc hs
  · exact t_X6_set2 x0 x1 x2 b n l D dA M hst h hc hs
  · exact t_X6_set3 x0 x1 x2 b n l D dA M hst h hc hs
