/-! ARRAYCOPY of a tray's row, and what it throws: J rows. -/
set_option maxRecDepth 100000
section JPOUR
variable {τ : Type} {D : va_G} {dA : Nat → ClassId} {β : Bool} {Y : JY} {env : List (Nat × Value)} {pu : List Value} {pc idx : Nat} {F : JF Mem τ}
theorem jg_natN {ox oy : Option Nat} {sp dp n : Int32} {Γ : JC Mem} (ok : JOk Y Γ) (hP : PM D dA true Γ) (hd : decode Y.1 pc = .ok (.invokestatic idx, 3)) (w1 : Cond.methodLink Y.2.1 idx arraycopyName ∈ lw_all) (w2 : Cond.native arraycopyName ∈ lw_all) (w3 : Cond.static arraycopyName ∈ lw_all) (w4 : Cond.initialized "java/lang/System" ∈ lw_all)
    (hnull : ox = none ∨ oy = none) {M : Mem} (hfr : 110 ≤ Y.2.2.2.1) (hcat : JCat pu) (hb : 1 ≤ mC M ∧ 8 ≤ mS M) (hX : JXat "java/lang/NullPointerException" Γ pc env (mZ M) (jbumpM M 1 1 8)) : JG Γ pc env (.int n :: .int dp :: va_rf oy :: .int sp :: va_rf ox :: pu) M := by
  intro H locs cells slots ls hi hl T hT X
  obtain ⟨A, H0, hIΓ, hKK, hA, hFG⟩ := id hP
  have hi2 := hi
  rw [hIΓ] at hi2
  have e0 : (jcS Γ).heap = H0 := hFG.2.2.2.2.2.2.2
  have hfr1 := ok.fr
  have hlo := ok.lo
  have hcat2 : (pu.map fun v => v.category).sum ≤ 8 := hcat
  have b1 := hi2.2.2.2.1
  have b2 := hi2.2.2.2.2
  obtain ⟨r, kS, methS, hnS, hmS, hkS, N9⟩ := NativeOf.of_static (ok.hts _ w2) (ok.hts _ w3) (ps := [.object "java/lang/Object", .int, .object "java/lang/Object", .int, .int]) (ret := none) (by decide +kernel)
  have hinitS : kS.init = .initialized := Cond.initialized_spec (findClass_of_methodNamed hnS) hkS (ok.hts _ w4)
  obtain ⟨vm1, X1, step⟩ := X.invokestatic ok.exec ok.own (ok.hts _ w1) hnS hmS N9.static hkS hinitS (by decide) (g := F0 (jcM Γ) pc ls (.int n :: .int dp :: va_rf oy :: .int sp :: va_rf ox :: pu)) rfl (argsL := [va_rf ox, .int sp, va_rf oy, .int dp, .int n]) (rest := pu) (by rw [N9.sig]; rfl) rfl (by rw [ok.code]; exact hd)
  have hfr9 : 1 ≤ (jcR Γ).frames := by omega
  have hlo9 : 8 + (nativeFrameWords arraycopyName.cls arraycopyName.name 5 + 11) ≤ (jcR Γ).locals := by
    have h3 : nativeFrameWords arraycopyName.cls arraycopyName.name 5 + 11 ≤ 60 := by decide
    omega
  have hK : Jvm.Free.BackT (jcL Γ) (jcR Γ) (jcP Γ) (jcE Γ) (jcB Γ) (jcS Γ) (jcA Γ) arraycopyName 3 8 (fun A9 a => a = #[va_rf ox, .int sp, va_rf oy, .int dp, .int n] ∧ A9.cells = cells ∧ A9.slots = slots ∧ A9.locs = locs ∧ A9.U.heap = H)
      (fun A9 a t B => t = H.size ∧ B.U.heap.size = H.size + 1 ∧ (∀ q : Nat, q < H.size → B.U.heap[q]? = H[q]?) ∧ B.locs = locs ∧ B.cells = cells + 1 ∧ B.slots = slots + 8 ∧ ∃ ce : Cell, B.U.heap[t]? = some ce ∧ ce.vm = .none ∧ (jcS Γ).vm.findClass "java/lang/NullPointerException" = some ce.cls) := by
    refine Jvm.Free.BackT.of_native (words := 5) (arraycopy_row (jcP Γ)) ⟨r, kS, methS, hnS, N9⟩ hfr9 hlo9 (fun m9 meth9 c9 A9 a x9 g9 mk9 X9 hg9 hsz9 hW9 hn9 hst9 hps9 hask => ?_)
    obtain ⟨rfl, hc, hs, hlc, hH⟩ := hask
    obtain ⟨S, ce, hst, hSt, z1, z2, z3, z4, z5⟩ := jx_natNpeK (A := A) (nb := 8) X9 ok.exec ok.st (fun w hw => j_words ok hKK (jmemB_1 jPB w hw)) (jmemB_2 jPB) (by rw [e0]; exact hFG.2.2.2.2.2.1.1) (by rw [e0]; exact hFG.2.2.2.2.2.1.2) (by rw [e0, hH, hlc]; exact hi2.2.1)
      (g := g9) hg9 hsz9 (nf := { method := mk9, args := #[va_rf ox, .int sp, va_rf oy, .int dp, .int n], locked := none }) rfl (by omega) (by omega) (by omega) (by omega)
    rw [hH] at z1 z2 z3 hst
    rw [hc, hs, hlc] at hSt
    refine ⟨by cases ox <;> cases oy <;> rfl, by cases ox <;> cases oy <;> simp [seenByNative, hst9, hps9, narrow, va_rf], "java/lang/NullPointerException", none, fun u => u, fun _ => rfl, rfl, fun fs E hE => ?_, H.size, ⟨S, locs, cells + 1, slots + 8⟩, hSt, ⟨rfl, z1, z2, rfl, rfl, rfl, ce, z3, z4, z5⟩, hst⟩
    cases ox with
    | none => exact Jvm.W.arraycopy_null1 sp dp n (va_rf oy) (hE _)
    | some x =>
      have e : oy = none := hnull.elim (fun h => nomatch h) id
      subst e
      exact Jvm.W.arraycopy_null2 x sp dp n (hE _)
  obtain ⟨q, B, X2, ⟨hq, z1, z2, z3, z4, z5, ce, hce, hcv, hcl⟩, st⟩ := hK (jcM Γ) (jcH Γ) (jcC Γ) ⟨T.setVm vm1, locs, cells, slots⟩ (F0 (jcM Γ) pc ls pu) (.invokestatic idx) r #[va_rf ox, .int sp, va_rf oy, .int dp, .int n] X1 rfl hl.1 (by rw [ok.code]; exact hd) (by show 2 * 0 + (pu.map fun v => v.category).sum ≤ 8; omega) (X1.named hnS) ⟨rfl, rfl, rfl, rfl, hT⟩
  obtain ⟨U2, l2, c2, s2⟩ := B
  dsimp only [Pt.U, Pt.locs, Pt.cells, Pt.slots] at X2 z1 z2 z3 z4 z5 hce st
  subst z3; subst z4; subst z5; subst hq
  have hz9 : H.size = mZ M := hi2.1.1
  obtain ⟨t, a1, b1⟩ := hX U2.heap l2 (cells + 1) (slots + 8) ls pu ce (by rw [hIΓ]; exact std_bump hi2 hb z1 z2) hl (by rw [← hz9]; exact hce) hcv hcl U2 rfl X2
  refine ⟨t, (step _ fun acts => ?_).trans a1, b1⟩
  rw [doInvoke_state]
  rw [← hz9]
  exact st
/-- a row that can't be copied so -/
def cpBad (a0 : Nat) (sp : Int32) (a : Nat) (dp n : Int32) (M : Mem) : Prop := ∃ t n0 n1, mK M a0 = some (.inr (t, n0)) ∧ mK M a = some (.inr (t, n1)) ∧ t < 4 ∧ n0 ≤ 1000 ∧ n1 ≤ 1000 ∧ (sp.toInt < 0 ∨ dp.toInt < 0 ∨ n.toInt < 0 ∨ (n0 : Int) < sp.toInt + n.toInt ∨ (n1 : Int) < dp.toInt + n.toInt)
theorem copyFault_bad {sT dT : FieldType} {n0 n1 : Nat} {sp dp n : Int32} (h : sp.toInt < 0 ∨ dp.toInt < 0 ∨ n.toInt < 0 ∨ (n0 : Int) < sp.toInt + n.toInt ∨ (n1 : Int) < dp.toInt + n.toInt) : ∃ what, copyFault sT dT n0 n1 sp dp n = some what := by
  have neg : ∀ z : Int32, z < 0 ↔ z.toInt < 0 := fun z => by
    rw [Int32.lt_iff_toInt_lt]
    simp
  unfold copyFault
  by_cases c1 : sp < 0
  · rw [if_pos c1]; exact ⟨_, rfl⟩
  rw [if_neg c1]
  by_cases c2 : dp < 0
  · rw [if_pos c2]; exact ⟨_, rfl⟩
  rw [if_neg c2]
  by_cases c3 : n < 0
  · rw [if_pos c3]; exact ⟨_, rfl⟩
  rw [if_neg c3]
  by_cases c4 : sp.toInt + n.toInt > (n0 : Int)
  · rw [if_pos c4]; exact ⟨_, rfl⟩
  rw [if_neg c4]
  by_cases c5 : dp.toInt + n.toInt > (n1 : Int)
  · rw [if_pos c5]; exact ⟨_, rfl⟩
  exfalso
  rw [neg] at c1 c2 c3
  omega
def jarr (dA : Nat → ClassId) (M : Mem) (t n a : Nat) : Cell := arrV (dA t) n (fun j => jval (jtag (jaT t)) M a j)
theorem jarr_at {M : Mem} {H : Heap} {t n a : Nat} (hR : Rel D dA M H) (ht : t < 4) (hK : mK M a = some (.inr (t, n))) : H[a]? = some (jarr dA M t n a) := by
  have h9 := (hR.2.2 a _ hK).2
  match t, ht with
  | 0, _ => exact h9
  | 1, _ => exact h9
  | 2, _ => exact h9
  | 3, _ => exact h9
theorem jg_natB {a0 a : Nat} {sp dp n : Int32} {Γ : JC Mem} (ok : JOk Y Γ) (hP : PM D dA true Γ) (hd : decode Y.1 pc = .ok (.invokestatic idx, 3)) (w1 : Cond.methodLink Y.2.1 idx arraycopyName ∈ lw_all) (w2 : Cond.native arraycopyName ∈ lw_all) (w3 : Cond.static arraycopyName ∈ lw_all) (w4 : Cond.initialized "java/lang/System" ∈ lw_all)
    {M : Mem} (hbad : cpBad a0 sp a dp n M) (hfr : 110 ≤ Y.2.2.2.1) (hcat : JCat pu) (hb : 3 ≤ mC M ∧ 610 ≤ mS M) (hX : JXat jAE Γ pc env (mZ M + 2) (jbumpM M 3 3 610)) : JG Γ pc env (.int n :: .int dp :: .ref a :: .int sp :: .ref a0 :: pu) M := by
  intro H locs cells slots ls hi hl T hT X
  obtain ⟨A, H0, hIΓ, hKK, hA, hFG⟩ := id hP
  have hi2 := hi
  rw [hIΓ] at hi2
  have e0 : (jcS Γ).heap = H0 := hFG.2.2.2.2.2.2.2
  have hfr1 := ok.fr
  have hlo := ok.lo
  have hcat2 : (pu.map fun v => v.category).sum ≤ 8 := hcat
  have b1 := hi2.2.2.2.1
  have b2 := hi2.2.2.2.2
  obtain ⟨t, n0, n1, k0, k1, ht, hn0, hn1, hbd⟩ := hbad
  have c0 := jarr_at hi2.1 ht k0
  have c1 := jarr_at hi2.1 ht k1
  obtain ⟨what, hwhat⟩ := copyFault_bad (sT := jaT t) (dT := jaT t) hbd
  obtain ⟨by1, by2⟩ := copy_bytes (copy_text ht (by omega) (by omega) hwhat)
  obtain ⟨-, kk0, hk0, cm0, hkk0⟩ := (hKK.1.2 t _ (jtys_at (by omega))).1 n0 (fun j => jval (jtag (jaT t)) M a0 j)
  obtain ⟨-, kk1, hk1, cm1, hkk1⟩ := (hKK.1.2 t _ (jtys_at (by omega))).1 n1 (fun j => jval (jtag (jaT t)) M a j)
  obtain ⟨r, kS, methS, hnS, hmS, hkS, N9⟩ := NativeOf.of_static (ok.hts _ w2) (ok.hts _ w3) (ps := [.object "java/lang/Object", .int, .object "java/lang/Object", .int, .int]) (ret := none) (by decide +kernel)
  have hinitS : kS.init = .initialized := Cond.initialized_spec (findClass_of_methodNamed hnS) hkS (ok.hts _ w4)
  obtain ⟨vm1, X1, step⟩ := X.invokestatic ok.exec ok.own (ok.hts _ w1) hnS hmS N9.static hkS hinitS (by decide) (g := F0 (jcM Γ) pc ls (.int n :: .int dp :: .ref a :: .int sp :: .ref a0 :: pu)) rfl (argsL := [.ref a0, .int sp, .ref a, .int dp, .int n]) (rest := pu) (by rw [N9.sig]; rfl) rfl (by rw [ok.code]; exact hd)
  have hfr9 : 1 ≤ (jcR Γ).frames := by omega
  have hlo9 : 8 + (nativeFrameWords arraycopyName.cls arraycopyName.name 5 + 11) ≤ (jcR Γ).locals := by
    have h3 : nativeFrameWords arraycopyName.cls arraycopyName.name 5 + 11 ≤ 60 := by decide
    omega
  have hK : Jvm.Free.BackT (jcL Γ) (jcR Γ) (jcP Γ) (jcE Γ) (jcB Γ) (jcS Γ) (jcA Γ) arraycopyName 3 8 (fun A9 av => av = #[.ref a0, .int sp, .ref a, .int dp, .int n] ∧ A9.cells = cells ∧ A9.slots = slots ∧ A9.locs = locs ∧ A9.U.heap = H)
      (fun A9 av q B => q = H.size + 2 ∧ B.U.heap.size = H.size + 3 ∧ (∀ q : Nat, q < H.size → B.U.heap[q]? = H[q]?) ∧ B.locs = locs ∧ B.cells = cells + 3 ∧ B.slots = slots + 610 ∧ ∃ ce : Cell, B.U.heap[q]? = some ce ∧ ce.vm = .none ∧ (jcS Γ).vm.findClass jAE = some ce.cls) := by
    refine Jvm.Free.BackT.of_native (words := 5) (arraycopy_row (jcP Γ)) ⟨r, kS, methS, hnS, N9⟩ hfr9 hlo9 (fun m9 meth9 c9 A9 av x9 g9 mk9 X9 hg9 hsz9 hW9 hn9 hst9 hps9 hask => ?_)
    obtain ⟨rfl, hc, hs, hlc, hH⟩ := hask
    obtain ⟨S, ce, hst, hSt, z1, z2, z3, z4, z5⟩ := jx_natMsgK (A := A) (names := jAU) (nb := 600) (cls := jAE) (text := "arraycopy: " ++ what) X9 ok.exec ok.st (by decide +kernel) (by decide +kernel) (by decide +kernel) (by decide +kernel) (fun w hw => j_words ok hKK (jmemB_1 jAB w hw)) (jmemB_2 jAB) (by rw [e0]; exact hFG.2.2.2.2.2.1.1) (by rw [e0]; exact hFG.2.2.2.2.2.1.2) (by rw [e0, hH, hlc]; exact hi2.2.1)
      by2 by1 (by decide) (g := g9) hg9 hsz9 (nf := { method := mk9, args := #[.ref a0, .int sp, .ref a, .int dp, .int n], locked := none }) rfl (by show 3 + 5 < _; omega) (by omega) (by decide) (by omega) (by omega)
    rw [hH] at z1 z2 z3 hst
    rw [hc, hs, hlc] at hSt
    obtain ⟨k0', hk0', he0⟩ := X9.warmed.alike.2.2 _ _ hk0
    obtain ⟨k1', hk1', he1⟩ := X9.warmed.alike.2.2 _ _ hk1
    refine ⟨rfl, by simp [seenByNative, hst9, hps9, narrow], jAE, some ("arraycopy: " ++ what), fun u => u, fun _ => rfl, rfl, fun fs E hE => ?_, H.size + 2, ⟨S, locs, cells + 3, slots + 610⟩, hSt, ⟨rfl, z1, z2, rfl, rfl, rfl, ce, z3, z4, z5⟩, hst⟩
    exact Jvm.W.arraycopy_bounds (s := A9.U.setFrames fs) (cs := jarr dA M t n0 a0) (cd := jarr dA M t n1 a) (sType := jaT t) (dType := jaT t) (what := what) (by show A9.U.heap[a0]? = _; rw [hH]; exact c0) (by show A9.U.heap[a]? = _; rw [hH]; exact c1)
      (fun _ h => by cases h) (fun _ h => by cases h) hk0' hk1' (by rw [he0]; exact hkk0) (by rw [he1]; exact hkk1) (by simp) (by show copyFault _ _ (arrV _ n0 _).slots.size (arrV _ n1 _).slots.size _ _ _ = _; rw [arrV_size, arrV_size]; exact hwhat) (hE _)
  obtain ⟨q, B, X2, ⟨hq, z1, z2, z3, z4, z5, ce, hce, hcv, hcl⟩, st⟩ := hK (jcM Γ) (jcH Γ) (jcC Γ) ⟨T.setVm vm1, locs, cells, slots⟩ (F0 (jcM Γ) pc ls pu) (.invokestatic idx) r #[.ref a0, .int sp, .ref a, .int dp, .int n] X1 rfl hl.1 (by rw [ok.code]; exact hd) (by show 2 * 0 + (pu.map fun v => v.category).sum ≤ 8; omega) (X1.named hnS) ⟨rfl, rfl, rfl, rfl, hT⟩
  obtain ⟨U2, l2, c2, s2⟩ := B
  dsimp only [Pt.U, Pt.locs, Pt.cells, Pt.slots] at X2 z1 z2 z3 z4 z5 hce st
  subst z3; subst z4; subst z5; subst hq
  have hz9 : H.size = mZ M := hi2.1.1
  obtain ⟨t9, a1, b9⟩ := hX U2.heap l2 (cells + 3) (slots + 610) ls pu ce (by rw [hIΓ]; exact std_bump hi2 hb z1 z2) hl (by rw [← hz9]; exact hce) hcv hcl U2 rfl X2
  refine ⟨t9, (step _ fun acts => ?_).trans a1, b9⟩
  rw [doInvoke_state]
  rw [← hz9]
  exact st
/-- null, caught -/
theorem J_copyN {kh : Nat → JM Mem τ} {name : String} {ox oy : Option Nat} {sp dp n : Int32} (pre suf : List (Nat × Nat × Nat × Nat)) {a z hpc ct : Nat} (hd : decode Y.1 pc = .ok (.invokestatic idx, 3)) (w1 : Cond.methodLink Y.2.1 idx arraycopyName ∈ lw_all) (w2 : Cond.native arraycopyName ∈ lw_all) (w3 : Cond.static arraycopyName ∈ lw_all) (w4 : Cond.initialized "java/lang/System" ∈ lw_all)
    (hnull : ox = none ∨ oy = none) (hfr : 110 ≤ Y.2.2.2.1) (hcat : JCat pu) (htab : Y.2.2.2.2.2.2 = pre ++ (a, z, hpc, ct) :: suf) (hin : (decide (a ≤ pc) && decide (pc < z)) = true) (hct : ct ≠ 0)
    (hpass : ∀ w ∈ pre, w.2.2.2 ≠ 0 ∧ "java/lang/NullPointerException" = "java/lang/ArrayIndexOutOfBoundsException" ∧ Cond.classLink Y.2.1 w.2.2.2 "java/lang/NullPointerException" ∈ lw_all) (wl : Cond.classLink Y.2.1 ct name ∈ lw_all) (wc : Cond.castable "java/lang/NullPointerException" name ∈ lw_tbl)
    (hh : ∀ q, J (PM D dA true) Y env [.ref q] hpc (kh q) F) : J (PM D dA true) Y env (.int n :: .int dp :: va_rf oy :: .int sp :: va_rf ox :: pu) pc (jb (jpure fun M => mZ M) fun q => jb (jbump 1 1 8) fun _ => kh q) F := by
  intro Γ ok hP M r M' hk hv hq
  rw [jb_ok (show jpure (fun M => mZ M) M = some (.ok (mZ M), M) from rfl)] at hk
  by_cases hb : 1 ≤ mC M ∧ 8 ≤ mS M
  · rw [jb_ok (show jbump 1 1 8 M = some (.ok (), jbumpM M 1 1 8) from if_pos hb)] at hk
    exact jg_natN ok hP hd w1 w2 w3 w4 hnull hfr hcat hb (j_catchX ok hP pre suf htab hin hct hpass wl wc (hh _ Γ ok hP _ r M' hk hv hq))
  · rw [jb_none (show jbump 1 1 8 M = none from if_neg hb)] at hk
    cases hk
/-- beyond the bounds, caught -/
theorem J_copyB {kh : Nat → JM Mem τ} {name : String} {a0 a1 : Nat} {sp dp n : Int32} (pre suf : List (Nat × Nat × Nat × Nat)) {a z hpc ct : Nat} (hd : decode Y.1 pc = .ok (.invokestatic idx, 3)) (w1 : Cond.methodLink Y.2.1 idx arraycopyName ∈ lw_all) (w2 : Cond.native arraycopyName ∈ lw_all) (w3 : Cond.static arraycopyName ∈ lw_all) (w4 : Cond.initialized "java/lang/System" ∈ lw_all)
    (hfr : 110 ≤ Y.2.2.2.1) (hcat : JCat pu) (htab : Y.2.2.2.2.2.2 = pre ++ (a, z, hpc, ct) :: suf) (hin : (decide (a ≤ pc) && decide (pc < z)) = true) (hct : ct ≠ 0)
    (hpass : ∀ w ∈ pre, w.2.2.2 ≠ 0 ∧ jAE = "java/lang/ArrayIndexOutOfBoundsException" ∧ Cond.classLink Y.2.1 w.2.2.2 "java/lang/NullPointerException" ∈ lw_all) (wl : Cond.classLink Y.2.1 ct name ∈ lw_all) (wc : Cond.castable jAE name ∈ lw_tbl)
    (hh : ∀ q, J (PM D dA true) Y env [.ref q] hpc (kh q) F) : J (PM D dA true) Y env (.int n :: .int dp :: .ref a1 :: .int sp :: .ref a0 :: pu) pc (jb (jguard (cpBad a0 sp a1 dp n)) fun _ => jb (jpure fun M => mZ M + 2) fun q => jb (jbump 3 3 610) fun _ => kh q) F := by
  intro Γ ok hP M r M' hk hv hq
  rcases jb_cases hk with ⟨v1, M1, e1, hk⟩ | ⟨q1, e1, -⟩
  · obtain ⟨hC, e2⟩ := jguard_of e1
    cases e2
    rw [jb_ok (show jpure (fun M => mZ M + 2) M = some (.ok (mZ M + 2), M) from rfl)] at hk
    by_cases hb : 3 ≤ mC M ∧ 610 ≤ mS M
    · rw [jb_ok (show jbump 3 3 610 M = some (.ok (), jbumpM M 3 3 610) from if_pos hb)] at hk
      exact jg_natB ok hP hd w1 w2 w3 w4 hC hfr hcat hb (j_catchX ok hP pre suf htab hin hct hpass wl wc (hh _ Γ ok hP _ r M' hk hv hq))
    · rw [jb_none (show jbump 3 3 610 M = none from if_neg hb)] at hk
      cases hk
  · obtain ⟨-, e2⟩ := jguard_of e1
    cases e2
/-- System.arraycopy of rows of a kind: bytes, shorts, ints -/
def jcpIOk (M : Mem) (t a0 a : Nat) (sp dp n : Int32) : Bool := match mK M a0, mK M a with
  | some (.inr (t0, n0)), some (.inr (t1, n1)) => decide (t0 = t ∧ t1 = t ∧ 0 ≤ sp.toInt ∧ 0 ≤ dp.toInt ∧ 0 ≤ n.toInt ∧ sp.toInt + n.toInt ≤ (n0 : Int) ∧ dp.toInt + n.toInt ≤ (n1 : Int)) && (List.range n.toNatClampNeg).all fun i => fits (jaT t) (.int (mI M a0 (sp.toNatClampNeg + i)))
  | _, _ => false
def jcpIM (M : Mem) (a0 a : Nat) (sp dp n : Int32) : Mem := sI M (upA (mI M) a (va_cpy (mI M a0) (mI M a) sp.toNatClampNeg dp.toNatClampNeg n.toNatClampNeg))
def jcpI (t a0 : Nat) (sp : Int32) (a : Nat) (dp n : Int32) : JM Mem Unit := fun M => if jcpIOk M t a0 a sp dp n = true then some (.ok (), jcpIM M a0 a sp dp n) else none
theorem J_cpI {t a0 a : Nat} {sp dp n : Int32} {f : Unit → JM Mem τ} (hd : decode Y.1 pc = .ok (.invokestatic idx, 3)) (ht : t = 0 ∨ t = 1 ∨ t = 2) (hcat : JCat pu) (hdep : 1 ≤ Y.2.2.2.1) (w1 : Cond.methodLink Y.2.1 idx arraycopyName ∈ lw_all) (w2 : Cond.native arraycopyName ∈ lw_all) (w3 : Cond.static arraycopyName ∈ lw_all) (w4 : Cond.initialized "java/lang/System" ∈ lw_all) (h : J (PM D dA β) Y env pu (pc + 3) (f ()) F) : J (PM D dA β) Y env (.int n :: .int dp :: .ref a :: .int sp :: .ref a0 :: pu) pc (jb (jcpI t a0 sp a dp n) f) F := by
  intro Γ ok hP M r M' hk hv hq H locs cells slots ls hi hl
  by_cases hc : jcpIOk M t a0 a sp dp n = true
  · rw [jb_ok (show jcpI t a0 sp a dp n M = some (.ok (), _) from if_pos hc)] at hk
    obtain ⟨A, H0, hIΓ, hKK, hA, hFG⟩ := id hP
    have hi2 := hi
    rw [hIΓ] at hi2
    unfold jcpIOk at hc
    split at hc
    case h_2 => cases hc
    rename_i t0 n0 t1 n1 hK0 hK1
    simp only [Bool.and_eq_true, decide_eq_true_eq] at hc
    obtain ⟨⟨e90, e91, g1, g2, g3, g4, g5⟩, g6⟩ := hc
    rw [e90] at hK0
    rw [e91] at hK1
    have nn : ∀ z : Int32, 0 ≤ z.toInt → z.toInt = (z.toNatClampNeg : Int) := fun z hz => by show z.toInt = ((z.toInt.toNat : Nat) : Int); omega
    have n1' : ¬ sp < 0 := fun q => by have := Int32.lt_iff_toInt_lt.mp q; simp at this; omega
    have n2' : ¬ dp < 0 := fun q => by have := Int32.lt_iff_toInt_lt.mp q; simp at this; omega
    have n3' : ¬ n < 0 := fun q => by have := Int32.lt_iff_toInt_lt.mp q; simp at this; omega
    have e1 := nn sp g1
    have e2 := nn dp g2
    have e3 := nn n g3
    have ht12 : t < 12 := by omega
    have hcell : ∀ (M : Mem) (b m : Nat), jent dA M b (.inr (t, m)) = .inl (dA t, m, .inl (mI M b)) := by rcases ht with e | e | e <;> subst e <;> exact fun _ _ _ => rfl
    have hc0 : H[a0]? = some (vp_cell (dA t) (n0, .inl (mI M a0))) := by have h9 := (hi2.1.2.2 a0 _ hK0).2; rw [hcell] at h9; exact h9
    have hc1 : H[a]? = some (vp_cell (dA t) (n1, .inl (mI M a))) := by have h9 := (hi2.1.2.2 a _ hK1).2; rw [hcell] at h9; exact h9
    obtain ⟨-, k0, hk0, cm0, hkk0⟩ := (hKK.1.2 t _ (jtys_at ht12)).1 n0 (fun j => .int (mI M a0 j))
    obtain ⟨-, k1, hk1, cm1, hkk1⟩ := (hKK.1.2 t _ (jtys_at ht12)).1 n1 (fun j => .int (mI M a j))
    have hprim : refKind (jaT t) = false := by rcases ht with e | e | e <;> subst e <;> rfl
    intro T hT X
    obtain ⟨vm', X', step⟩ := X.arraycopy ok.exec ok.own (ok.hts _ w1) (ok.hts _ w2) (ok.hts _ w3) (ok.hts _ w4) (src := a0) (dst := a) (cs := vp_cell (dA t) (n0, .inl (mI M a0))) (cd := vp_cell (dA t) (n1, .inl (mI M a))) (srcPos := sp) (destPos := dp) (n := n) (by rw [hT]; exact hc0) (by rw [hT]; exact hc1)
      (fun _ h => by cases h) (fun _ h => by cases h) (fun h => by cases h) (fun h => by cases h) hk0 hk1 hkk0 hkk1 (by simp [hprim]) n1' n2' n3'
      (by show ¬ _ > ((arrV (dA t) n0 (fun j => .int (mI M a0 j))).slots.size : Int); rw [arrV_size]; omega)
      (by show ¬ _ > ((arrV (dA t) n1 (fun j => .int (mI M a j))).slots.size : Int); rw [arrV_size]; omega)
      (fun vm₁ _ i hi => by
        have e : (vp_cell (dA t) (n0, .inl (mI M a0))).slots.getD (sp.toNatClampNeg + i) .null = .int (mI M a0 (sp.toNatClampNeg + i)) := by
          show (arrV (dA t) n0 (fun j => .int (mI M a0 j))).slots.getD _ _ = _
          rw [Array.getD_eq_getD_getElem?, arrV_read _ _ (by omega)]
          rfl
        refine ⟨?_, ?_⟩
        · rw [e]
          exact List.all_eq_true.mp g6 i (List.mem_range.mpr hi)
        · rw [e]
          exact trivial)
      (g := F0 (jcM Γ) pc ls (.int n :: .int dp :: .ref a :: .int sp :: .ref a0 :: pu)) rfl hl.1 (rest := pu) rfl (by rw [ok.code]; exact hd) (Nat.le_trans hdep ok.fr) (by
        have h1 := ok.lo
        have h2 : JCat pu := hcat
        unfold JCat at h2
        have h3 : nativeFrameWords "java/lang/System" "arraycopy" 5 + 11 ≤ 60 := by decide
        show 2 * 0 + _ + _ ≤ _
        omega)
    have ec : copied (vp_cell (dA t) (n0, .inl (mI M a0))) (vp_cell (dA t) (n1, .inl (mI M a))) sp dp n = vp_cell (dA t) (n1, .inl (va_cpy (mI M a0) (mI M a) sp.toNatClampNeg dp.toNatClampNeg n.toNatClampNeg)) := va_copied (fun z => .int z) (dA t) (dA t) (mI M a0) (mI M a) (by omega)
    rw [ec] at X' step
    have hlt : a < H.size := (Array.getElem?_eq_some_iff.mp hc1).1
    have oq : ∀ q : Nat, q ≠ a → (H.setIfInBounds a (vp_cell (dA t) (n1, .inl (va_cpy (mI M a0) (mI M a) sp.toNatClampNeg dp.toNatClampNeg n.toNatClampNeg))))[q]? = H[q]? := fun q hq => by simp [Array.getElem?_setIfInBounds, Ne.symm hq]
    have hheap : ((T.setVm vm').setCell a (vp_cell (dA t) (n1, .inl (va_cpy (mI M a0) (mI M a) sp.toNatClampNeg dp.toNatClampNeg n.toNatClampNeg)))).heap = H.setIfInBounds a (vp_cell (dA t) (n1, .inl (va_cpy (mI M a0) (mI M a) sp.toNatClampNeg dp.toNatClampNeg n.toNatClampNeg))) := by rw [← hT]; rfl
    have hstd0 := std_upd (M' := jcpIM M a0 a sp dp n) (i := 0) hi2 hK1 (by simp) oq (by
      rw [hcell]
      show (H.setIfInBounds a _)[a]? = some (vp_cell (dA t) (n1, .inl (upA (mI M) a (va_cpy (mI M a0) (mI M a) sp.toNatClampNeg dp.toNatClampNeg n.toNatClampNeg) a)))
      rw [upA_at]
      simp [Array.getElem?_setIfInBounds, hlt]) rfl rfl (fun b d2 hb => jent_I (upA_ne hb) d2)
    obtain ⟨q1, q2, q3, q4⟩ := hstd0
    have haA : A a := hi2.2.2.1 a (by rw [hK1]; rfl)
    obtain ⟨t9, a9, b9⟩ := h Γ ok hP _ r M' hk hv hq _ _ cells slots ls (by
      rw [hIΓ]
      exact ⟨q1, ⟨q2.1, q2.2.1, fun z hz => by
        rcases List.mem_append.mp hz with h | h
        · exact hi2.2.1.2.2 z h
        · obtain ⟨w, -, hw⟩ := List.mem_map.mp h
          rw [← hw]
          exact haA⟩, q3, q4⟩) hl _ hheap X'
    exact ⟨t9, step t9 a9, b9⟩
  · rw [jb_none (show jcpI t a0 sp a dp n M = none from if_neg hc)] at hk
    cases hk
/-- System.arraycopy of rows of a kind: longs -/
def jcpLOk (M : Mem) (t a0 a : Nat) (sp dp n : Int32) : Bool := match mK M a0, mK M a with
  | some (.inr (t0, n0)), some (.inr (t1, n1)) => decide (t0 = t ∧ t1 = t ∧ 0 ≤ sp.toInt ∧ 0 ≤ dp.toInt ∧ 0 ≤ n.toInt ∧ sp.toInt + n.toInt ≤ (n0 : Int) ∧ dp.toInt + n.toInt ≤ (n1 : Int)) && (List.range n.toNatClampNeg).all fun i => fits (jaT t) (.long (mL M a0 (sp.toNatClampNeg + i)))
  | _, _ => false
def jcpLM (M : Mem) (a0 a : Nat) (sp dp n : Int32) : Mem := sL M (upA (mL M) a (va_cpy (mL M a0) (mL M a) sp.toNatClampNeg dp.toNatClampNeg n.toNatClampNeg))
def jcpL (t a0 : Nat) (sp : Int32) (a : Nat) (dp n : Int32) : JM Mem Unit := fun M => if jcpLOk M t a0 a sp dp n = true then some (.ok (), jcpLM M a0 a sp dp n) else none
theorem J_cpL {t a0 a : Nat} {sp dp n : Int32} {f : Unit → JM Mem τ} (hd : decode Y.1 pc = .ok (.invokestatic idx, 3)) (ht : t = 3) (hcat : JCat pu) (hdep : 1 ≤ Y.2.2.2.1) (w1 : Cond.methodLink Y.2.1 idx arraycopyName ∈ lw_all) (w2 : Cond.native arraycopyName ∈ lw_all) (w3 : Cond.static arraycopyName ∈ lw_all) (w4 : Cond.initialized "java/lang/System" ∈ lw_all) (h : J (PM D dA β) Y env pu (pc + 3) (f ()) F) : J (PM D dA β) Y env (.int n :: .int dp :: .ref a :: .int sp :: .ref a0 :: pu) pc (jb (jcpL t a0 sp a dp n) f) F := by
  intro Γ ok hP M r M' hk hv hq H locs cells slots ls hi hl
  by_cases hc : jcpLOk M t a0 a sp dp n = true
  · rw [jb_ok (show jcpL t a0 sp a dp n M = some (.ok (), _) from if_pos hc)] at hk
    obtain ⟨A, H0, hIΓ, hKK, hA, hFG⟩ := id hP
    have hi2 := hi
    rw [hIΓ] at hi2
    unfold jcpLOk at hc
    split at hc
    case h_2 => cases hc
    rename_i t0 n0 t1 n1 hK0 hK1
    simp only [Bool.and_eq_true, decide_eq_true_eq] at hc
    obtain ⟨⟨e90, e91, g1, g2, g3, g4, g5⟩, g6⟩ := hc
    rw [e90] at hK0
    rw [e91] at hK1
    have nn : ∀ z : Int32, 0 ≤ z.toInt → z.toInt = (z.toNatClampNeg : Int) := fun z hz => by show z.toInt = ((z.toInt.toNat : Nat) : Int); omega
    have n1' : ¬ sp < 0 := fun q => by have := Int32.lt_iff_toInt_lt.mp q; simp at this; omega
    have n2' : ¬ dp < 0 := fun q => by have := Int32.lt_iff_toInt_lt.mp q; simp at this; omega
    have n3' : ¬ n < 0 := fun q => by have := Int32.lt_iff_toInt_lt.mp q; simp at this; omega
    have e1 := nn sp g1
    have e2 := nn dp g2
    have e3 := nn n g3
    have ht12 : t < 12 := by omega
    have hcell : ∀ (M : Mem) (b m : Nat), jent dA M b (.inr (t, m)) = .inl (dA t, m, .inr (.inl (mL M b))) := by subst ht; exact fun _ _ _ => rfl
    have hc0 : H[a0]? = some (vp_cell (dA t) (n0, .inr (.inl (mL M a0)))) := by have h9 := (hi2.1.2.2 a0 _ hK0).2; rw [hcell] at h9; exact h9
    have hc1 : H[a]? = some (vp_cell (dA t) (n1, .inr (.inl (mL M a)))) := by have h9 := (hi2.1.2.2 a _ hK1).2; rw [hcell] at h9; exact h9
    obtain ⟨-, k0, hk0, cm0, hkk0⟩ := (hKK.1.2 t _ (jtys_at ht12)).1 n0 (fun j => .long (mL M a0 j))
    obtain ⟨-, k1, hk1, cm1, hkk1⟩ := (hKK.1.2 t _ (jtys_at ht12)).1 n1 (fun j => .long (mL M a j))
    have hprim : refKind (jaT t) = false := by subst ht; rfl
    intro T hT X
    obtain ⟨vm', X', step⟩ := X.arraycopy ok.exec ok.own (ok.hts _ w1) (ok.hts _ w2) (ok.hts _ w3) (ok.hts _ w4) (src := a0) (dst := a) (cs := vp_cell (dA t) (n0, .inr (.inl (mL M a0)))) (cd := vp_cell (dA t) (n1, .inr (.inl (mL M a)))) (srcPos := sp) (destPos := dp) (n := n) (by rw [hT]; exact hc0) (by rw [hT]; exact hc1)
      (fun _ h => by cases h) (fun _ h => by cases h) (fun h => by cases h) (fun h => by cases h) hk0 hk1 hkk0 hkk1 (by simp [hprim]) n1' n2' n3'
      (by show ¬ _ > ((arrV (dA t) n0 (fun j => .long (mL M a0 j))).slots.size : Int); rw [arrV_size]; omega)
      (by show ¬ _ > ((arrV (dA t) n1 (fun j => .long (mL M a j))).slots.size : Int); rw [arrV_size]; omega)
      (fun vm₁ _ i hi => by
        have e : (vp_cell (dA t) (n0, .inr (.inl (mL M a0)))).slots.getD (sp.toNatClampNeg + i) .null = .long (mL M a0 (sp.toNatClampNeg + i)) := by
          show (arrV (dA t) n0 (fun j => .long (mL M a0 j))).slots.getD _ _ = _
          rw [Array.getD_eq_getD_getElem?, arrV_read _ _ (by omega)]
          rfl
        refine ⟨?_, ?_⟩
        · rw [e]
          exact List.all_eq_true.mp g6 i (List.mem_range.mpr hi)
        · rw [e]
          exact trivial)
      (g := F0 (jcM Γ) pc ls (.int n :: .int dp :: .ref a :: .int sp :: .ref a0 :: pu)) rfl hl.1 (rest := pu) rfl (by rw [ok.code]; exact hd) (Nat.le_trans hdep ok.fr) (by
        have h1 := ok.lo
        have h2 : JCat pu := hcat
        unfold JCat at h2
        have h3 : nativeFrameWords "java/lang/System" "arraycopy" 5 + 11 ≤ 60 := by decide
        show 2 * 0 + _ + _ ≤ _
        omega)
    have ec : copied (vp_cell (dA t) (n0, .inr (.inl (mL M a0)))) (vp_cell (dA t) (n1, .inr (.inl (mL M a)))) sp dp n = vp_cell (dA t) (n1, .inr (.inl (va_cpy (mL M a0) (mL M a) sp.toNatClampNeg dp.toNatClampNeg n.toNatClampNeg))) := va_copied (fun z => .long z) (dA t) (dA t) (mL M a0) (mL M a) (by omega)
    rw [ec] at X' step
    have hlt : a < H.size := (Array.getElem?_eq_some_iff.mp hc1).1
    have oq : ∀ q : Nat, q ≠ a → (H.setIfInBounds a (vp_cell (dA t) (n1, .inr (.inl (va_cpy (mL M a0) (mL M a) sp.toNatClampNeg dp.toNatClampNeg n.toNatClampNeg)))))[q]? = H[q]? := fun q hq => by simp [Array.getElem?_setIfInBounds, Ne.symm hq]
    have hheap : ((T.setVm vm').setCell a (vp_cell (dA t) (n1, .inr (.inl (va_cpy (mL M a0) (mL M a) sp.toNatClampNeg dp.toNatClampNeg n.toNatClampNeg))))).heap = H.setIfInBounds a (vp_cell (dA t) (n1, .inr (.inl (va_cpy (mL M a0) (mL M a) sp.toNatClampNeg dp.toNatClampNeg n.toNatClampNeg)))) := by rw [← hT]; rfl
    have hstd0 := std_upd (M' := jcpLM M a0 a sp dp n) (i := 0) hi2 hK1 (by simp) oq (by
      rw [hcell]
      show (H.setIfInBounds a _)[a]? = some (vp_cell (dA t) (n1, .inr (.inl (upA (mL M) a (va_cpy (mL M a0) (mL M a) sp.toNatClampNeg dp.toNatClampNeg n.toNatClampNeg) a))))
      rw [upA_at]
      simp [Array.getElem?_setIfInBounds, hlt]) rfl rfl (fun b d2 hb => jent_L (upA_ne hb) d2)
    obtain ⟨q1, q2, q3, q4⟩ := hstd0
    have haA : A a := hi2.2.2.1 a (by rw [hK1]; rfl)
    obtain ⟨t9, a9, b9⟩ := h Γ ok hP _ r M' hk hv hq _ _ cells slots ls (by
      rw [hIΓ]
      exact ⟨q1, ⟨q2.1, q2.2.1, fun z hz => by
        rcases List.mem_append.mp hz with h | h
        · exact hi2.2.1.2.2 z h
        · obtain ⟨w, -, hw⟩ := List.mem_map.mp h
          rw [← hw]
          exact haA⟩, q3, q4⟩) hl _ hheap X'
    exact ⟨t9, step t9 a9, b9⟩
  · rw [jb_none (show jcpL t a0 sp a dp n M = none from if_neg hc)] at hk
    cases hk
end JPOUR
