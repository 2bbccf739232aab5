/-! J rows: string constants, statics, casts of arrays, arrays of a computed length, int[][]. -/
set_option maxRecDepth 100000
section JSTR
variable {τ ρ : Type} {D : va_G} {dA : Nat → ClassId} {β β2 : Bool} {Y : JY} {env : List (Nat × Value)} {pu st as : List Value} {pc idx : Nat} {F : JF Mem τ}
def jldcS (k : Nat) : JM Mem Nat := fun M => some (.ok (mT M (100 + k)), M)
theorem J_ldcS {f : Nat → JM Mem τ} {k : Nat} (hd : decode Y.1 pc = .ok (.ldc idx, 2)) (ho : Y.2.1 = "BracketRoom$Reader") (hk : (k = 0 ∧ idx = 3) ∨ (k = 1 ∧ idx = 5)) (h : ∀ v, J (PM D dA β) Y env (.ref v :: pu) (pc + 2) (f v) F) : J (PM D dA β) Y env pu pc (jb (jldcS k) f) F := by
  intro Γ ok hP M r M' hk9 hv hq H locs cells slots ls hi hl
  obtain ⟨A, H0, hI, hKK, hA, hFG⟩ := id hP
  have hi2 := hi
  rw [hI] at hi2
  rw [jb_ok (show jldcS k M = some (.ok (mT M (100 + k)), M) from rfl)] at hk9
  have hc := h _ Γ ok hP M r M' hk9 hv hq H locs cells slots ls hi hl
  have hT : mT M = dA := hi2.1.2.1
  rw [hT] at hc
  rcases hk with ⟨rfl, rfl⟩ | ⟨rfl, rfl⟩
  · exact va_ldcS ok.exec ok.code (own := "BracketRoom$Reader") (by have := ok.own; rw [ho] at this; exact this) hFG.2.1 hd hc
  · exact va_ldcS ok.exec ok.code (own := "BracketRoom$Reader") (by have := ok.own; rw [ho] at this; exact this) hFG.2.2.1 hd hc
/-- a string constant's coder, its bytes -/
def jstrI (a : Nat) : JM Mem Int32 := fun M => if a = mT M 100 ∨ a = mT M 101 then some (.ok 0, M) else none
def jstrV (a : Nat) : JM Mem Nat := fun M => if a = mT M 100 then some (.ok (mT M 200), M) else if a = mT M 101 then some (.ok (mT M 201), M) else none
theorem J_strI {a : Nat} {f : Int32 → JM Mem τ} (hd : decode Y.1 pc = .ok (.getfield idx, 3)) (q : Cond.fieldLink Y.2.1 idx "java/lang/String" "coder" "B" ∈ lw_all) (h : ∀ v, J (PM D dA β) Y env (.int v :: pu) (pc + 3) (f v) F) : J (PM D dA β) Y env (.ref a :: pu) pc (jb (jstrI a) f) F := by
  intro Γ ok hP M r M' hk hv hq H locs cells slots ls hi hl
  obtain ⟨A, H0, hI, hKK, hA, hFG⟩ := id hP
  have hi2 := hi
  rw [hI] at hi2
  have hT : mT M = dA := hi2.1.2.1
  by_cases hc : a = mT M 100 ∨ a = mT M 101
  · rw [jb_ok (show jstrI a M = some (.ok 0, M) from if_pos hc)] at hk
    have hOF : va_OF "java/lang/String" "coder" "B" (.int 0) a A (jcS Γ) H0 := by
      rw [hT] at hc
      rcases hc with e | e
      · rw [e]; exact (hFG.1.1 0 (by decide)).2.1
      · rw [e]; exact (hFG.1.1 1 (by decide)).2.1
    obtain ⟨cf, k, fi, f9, cell, h1, h2, h3, h4, h5, h6⟩ := hOF.kept hi2.2.1.2.1
    exact W.getf ok.exec ok.code ok.own (ok.hts _ q) h1 h2 h3 h4 (v := .int 0) h5 rfl rfl hd (h _ Γ ok hP M r M' hk hv hq H locs cells slots ls hi hl)
  · rw [jb_none (show jstrI a M = none from if_neg hc)] at hk
    cases hk
theorem J_strV {a : Nat} {f : Nat → JM Mem τ} (hd : decode Y.1 pc = .ok (.getfield idx, 3)) (q : Cond.fieldLink Y.2.1 idx "java/lang/String" "value" "[B" ∈ lw_all) (h : ∀ v, J (PM D dA β) Y env (.ref v :: pu) (pc + 3) (f v) F) : J (PM D dA β) Y env (.ref a :: pu) pc (jb (jstrV a) f) F := by
  intro Γ ok hP M r M' hk hv hq H locs cells slots ls hi hl
  obtain ⟨A, H0, hI, hKK, hA, hFG⟩ := id hP
  have hi2 := hi
  rw [hI] at hi2
  have hT : mT M = dA := hi2.1.2.1
  have key : ∀ k, k < 2 → a = mT M (100 + k) → jstrV a M = some (.ok (mT M (200 + k)), M) → W (jcP Γ) (jcL Γ) (jcE Γ) (jcR Γ) (jcS Γ) (jcM Γ) (jcA Γ) (jcB Γ) (jcH Γ) (jcC Γ) H locs cells slots (jcQ Γ) (F0 (jcM Γ) pc ls (.ref a :: pu)) := by
    intro k hk2 e1 e2
    rw [jb_ok e2] at hk
    have hOF : va_OF "java/lang/String" "value" "[B" (.ref (dA (200 + k))) a A (jcS Γ) H0 := by rw [e1, hT]; exact (hFG.1.1 k hk2).2.2.1
    obtain ⟨cf, k9, fi, f9, cell, h1, h2, h3, h4, h5, h6⟩ := hOF.kept hi2.2.1.2.1
    have hc := h _ Γ ok hP M r M' hk hv hq H locs cells slots ls hi hl
    rw [hT] at hc
    exact W.getf ok.exec ok.code ok.own (ok.hts _ q) h1 h2 h3 h4 (v := .ref (dA (200 + k))) h5 rfl rfl hd hc
  by_cases hc : a = mT M 100
  · exact key 0 (by decide) hc (if_pos hc)
  · by_cases hc1 : a = mT M 101
    · exact key 1 (by decide) hc1 (by unfold jstrV; rw [if_neg hc, if_pos hc1])
    · rw [jb_none (show jstrV a M = none by unfold jstrV; rw [if_neg hc, if_neg hc1])] at hk
      cases hk
/-- which string's bytes stand there -/
def jstrN (M : Mem) (v : Nat) : Option Nat := if v = mT M 200 then some 0 else if v = mT M 201 then some 1 else none
def jsalen (v : Nat) : JM Mem Int32 := fun M => match jstrN M v with
  | some k => some (.ok (Int32.ofNat (jtb k).length), M)
  | none => none
def jsald (v : Nat) (i : Int32) : JM Mem Int32 := fun M => match jstrN M v with
  | some k => if 0 ≤ i.toInt ∧ i.toInt < ((jtb k).length : Int) then some (.ok ((jtb k).getD i.toNatClampNeg 0), M) else none
  | none => none
theorem jstrN_T {A : Nat → Prop} {U : State} {H0 : Heap} {M : Mem} {v k : Nat} (hFG : FG dA A U H0) (hT : mT M = dA) (h : jstrN M v = some k) : va_T .byte v (jtb k).length (fun j => .int ((jtb k).getD j 0)) A U H0 := by
  unfold jstrN at h
  rw [hT] at h
  split at h
  · rename_i e
    cases h
    rw [e]
    exact (hFG.1.1 0 (by decide)).2.2.2
  · split at h
    · rename_i e
      cases h
      rw [e]
      exact (hFG.1.1 1 (by decide)).2.2.2
    · cases h
theorem J_salen {v : Nat} {f : Int32 → JM Mem τ} (hd : decode Y.1 pc = .ok (.arraylength, 1)) (h : ∀ v, J (PM D dA β) Y env (.int v :: pu) (pc + 1) (f v) F) : J (PM D dA β) Y env (.ref v :: pu) pc (jb (jsalen v) f) F := by
  intro Γ ok hP M r M' hk hv hq H locs cells slots ls hi hl
  obtain ⟨A, H0, hI, hKK, hA, hFG⟩ := id hP
  have hi2 := hi
  rw [hI] at hi2
  cases hs : jstrN M v with
  | none => rw [jb_none (by unfold jsalen; rw [hs])] at hk; cases hk
  | some k =>
    rw [jb_ok (show jsalen v M = some (.ok (Int32.ofNat (jtb k).length), M) by unfold jsalen; rw [hs])] at hk
    obtain ⟨cell, h1, h2, h3, h4, h5, h6, h7⟩ := (jstrN_T hFG hi2.1.2.1 hs).kept hi2.2.1.2.1
    exact W.alen (n := Int32.ofNat (jtb k).length) ok.exec ok.code h1 h2 h5 rfl rfl hd (h _ Γ ok hP M r M' hk hv hq H locs cells slots ls hi hl)
theorem J_sald2 {v : Nat} {i : Int32} {f : Int32 → JM Mem τ} (hd : decode Y.1 pc = .ok (.baload, 1)) (h : ∀ v, J (PM D dA β) Y env (.int v :: pu) (pc + 1) (f v) F) : J (PM D dA β) Y env (.int i :: .ref v :: pu) pc (jb (jsald v i) f) F := by
  intro Γ ok hP M r M' hk hv hq H locs cells slots ls hi hl
  obtain ⟨A, H0, hI, hKK, hA, hFG⟩ := id hP
  have hi2 := hi
  rw [hI] at hi2
  cases hs : jstrN M v with
  | none => rw [jb_none (by unfold jsald; rw [hs])] at hk; cases hk
  | some k =>
    by_cases hc : 0 ≤ i.toInt ∧ i.toInt < ((jtb k).length : Int)
    · rw [jb_ok (show jsald v i M = some (.ok ((jtb k).getD i.toNatClampNeg 0), M) by unfold jsald; rw [hs]; exact if_pos hc)] at hk
      obtain ⟨cell, h1, h2, h3, h4, h5, h6, h7⟩ := (jstrN_T hFG hi2.1.2.1 hs).kept hi2.2.1.2.1
      have hin : vp_in i (jtb k).length := vp_in_iff.mpr hc
      have hlt : i.toNatClampNeg < (jtb k).length := Nat.not_le.mp fun q => hin (Or.inr q)
      exact W.bald (v := .int ((jtb k).getD i.toNatClampNeg 0)) ok.exec ok.code h1 h2 h3 (fun q => by
        rcases q with q | q
        · exact hin (Or.inl q)
        · omega) (h6 _ hlt) rfl rfl hd (h _ Γ ok hP M r M' hk hv hq H locs cells slots ls hi hl)
    · rw [jb_none (show jsald v i M = none by unfold jsald; rw [hs]; exact if_neg hc)] at hk
      cases hk
theorem j_gets {Γ : JC Mem} (ok : JOk Y Γ) {A : Nat → Prop} {H0 H : Heap} {locs : List Loc} {cells slots : Nat} {ls : Array Slot} {C n d : String} {v : Value} (hZ : va_Z C n d v A (jcS Γ) H0) (hS : va_S A H0 H locs) (q : Cond.fieldLink Y.2.1 idx C n d ∈ lw_all) (hd : decode Y.1 pc = .ok (.getstatic idx, 3))
    (k : W (jcP Γ) (jcL Γ) (jcE Γ) (jcR Γ) (jcS Γ) (jcM Γ) (jcA Γ) (jcB Γ) (jcH Γ) (jcC Γ) H locs cells slots (jcQ Γ) (F0 (jcM Γ) (pc + 3) ls (v :: pu))) : W (jcP Γ) (jcL Γ) (jcE Γ) (jcR Γ) (jcS Γ) (jcM Γ) (jcA Γ) (jcB Γ) (jcH Γ) (jcC Γ) H locs cells slots (jcQ Γ) (F0 (jcM Γ) pc ls pu) := by
  obtain ⟨cf, kf, fi, f, a, cell, h1, h2, h3, h4, h5, h6, h7, h8⟩ := hZ
  exact W.gets ok.exec ok.code ok.own (ok.hts _ q) h1 h2 h3 h4 (by rw [hS.2.1 a (Array.getElem?_eq_some_iff.mp h5).1 h8]; exact h5) (fun e => by rw [e] at h6; cases h6) h7 rfl hd k
theorem J_compact {k : JM Mem τ} (hd : decode Y.1 pc = .ok (.getstatic idx, 3)) (q : Cond.fieldLink Y.2.1 idx "java/lang/String" "COMPACT_STRINGS" "Z" ∈ lw_all) (h : J (PM D dA β) Y env (.int 1 :: pu) (pc + 3) k F) : J (PM D dA β) Y env pu pc k F := by
  intro Γ ok hP M r M' hk hv hq H locs cells slots ls hi hl
  obtain ⟨A, H0, hI, hKK, hA, hFG⟩ := id hP
  have hi2 := hi
  rw [hI] at hi2
  exact j_gets ok hFG.2.2.2.1 hi2.2.1 q hd (h Γ ok hP M r M' hk hv hq H locs cells slots ls hi hl)
def jgetsO (n : Nat) : JM Mem (Option Nat) := fun M => some (.ok (oAd (mT M) n), M)
theorem J_getsO {n : Nat} {f : Option Nat → JM Mem τ} (hd : decode Y.1 pc = .ok (.getstatic idx, 3)) (hn : n < 3) (q : Cond.fieldLink Y.2.1 idx (jsC n) (jsN n) (jsD n) ∈ lw_all) (h : ∀ v, J (PM D dA β) Y env (va_rf v :: pu) (pc + 3) (f v) F) : J (PM D dA β) Y env pu pc (jb (jgetsO n) f) F := by
  intro Γ ok hP M r M' hk hv hq H locs cells slots ls hi hl
  obtain ⟨A, H0, hI, hKK, hA, hFG⟩ := id hP
  have hi2 := hi
  rw [hI] at hi2
  rw [jb_ok (show jgetsO n M = some (.ok (oAd (mT M) n), M) from rfl)] at hk
  have hc := h _ Γ ok hP M r M' hk hv hq H locs cells slots ls hi hl
  rw [show mT M = dA from hi2.1.2.1] at hc
  exact j_gets ok (hFG.2.2.2.2.1 n hn) hi2.2.1 q hd hc
/-- a call on a string constant -/
def jcallT {ρ : Type} (b : Nat) (f : JM Mem ρ) : JM Mem ρ := fun M => if b = mT M 100 ∨ b = mT M 101 then f M else none
theorem J_callT {inj : ρ → Option Value} {f f' : JM Mem ρ} {k : ρ → JM Mem τ} {b : Nat} {y : MethodName} {cc : ByteArray} {nL d2 mc ms : Nat} {ret : Option FieldType} (hd : decode Y.1 pc = .ok (.invokevirtual idx, 3)) (hcov : JNoH Y pc) (hcat : JCat pu) (hw : JCw Y (ws_ y cc nL ret) y cc nL ret d2) (w1 : Cond.methodLink Y.2.1 idx y ∈ lw_all) (w2 : Cond.instanceMethod y ∈ lw_all) (w3 : Cond.selects "java/lang/String" y y ∈ lw_all) (w5 : Cond.code y cc nL ret ∈ lw_all) (hn : JNp y.desc as.length) (hI : Impl (ws_ y cc nL ret) y d2 β2 mc ms (.ref b :: as) f inj) (had : JAd β β2 mc ms f f') (hst : as.reverse ++ .ref b :: pu = st) (h : ∀ v, J (PM D dA β) Y env ((inj v).toList ++ pu) (pc + 3) (k v) F) : J (PM D dA β) Y env st pc (jb (jcallT b f') k) F := by
  intro Γ ok hP M r M' hk hv hq H locs cells slots ls hi hl
  by_cases hK : b = mT M 100 ∨ b = mT M 101
  · have hk : jb f' k M = some (r, M') := by
      unfold jb at hk ⊢
      rw [show jcallT b f' M = f' M from if_pos hK] at hk
      exact hk
    obtain ⟨A, H0, hIΓ, hKK, hA, hFG⟩ := id hP
    have hi2 := hi
    rw [hIΓ] at hi2
    have hO : va_O "java/lang/String" b A (jcS Γ) H0 := by
      rw [show mT M = dA from hi2.1.2.1] at hK
      rcases hK with e | e
      · rw [e]; exact (hFG.1.1 0 (by decide)).1
      · rw [e]; exact (hFG.1.1 1 (by decide)).1
    obtain ⟨cellB, g1, g2, g3, g4⟩ := hO.kept hi2.2.1.2.1
    exact j_core hcov h hcat hw rfl hI had ok hP hk hv hq hi hl (fun Pc Qc XC free T hT X hB hpre => vx_callV (C := "java/lang/String") (bytes := cc) (maxL := nL) (ret := ret) X ok.exec ok.own (ok.hts _ w1) (ok.hts _ w2) (ok.hts _ w3) (ok.hts _ w5) hw.2.2.2.2 hB (by rw [hT]; exact g1) g2 g3 rfl hl.1 (argsL := as) (jnp hn) hst.symm (lv_room hcat) (by rw [ok.code]; exact hd) hpre)
  · rw [jb_none (show jcallT b f' M = none from if_neg hK)] at hk
    cases hk
theorem J_callTI {f f' : JM Mem Int32} {k : Int32 → JM Mem τ} {b : Nat} {y : MethodName} {cc : ByteArray} {nL d2 mc ms : Nat} {ret : Option FieldType} (hd : decode Y.1 pc = .ok (.invokevirtual idx, 3)) (hcov : JNoH Y pc) (hcat : JCat pu) (hw : JCw Y (ws_ y cc nL ret) y cc nL ret d2) (w1 : Cond.methodLink Y.2.1 idx y ∈ lw_all) (w2 : Cond.instanceMethod y ∈ lw_all) (w3 : Cond.selects "java/lang/String" y y ∈ lw_all) (w5 : Cond.code y cc nL ret ∈ lw_all) (hn : JNp y.desc as.length) (hI : Impl (ws_ y cc nL ret) y d2 β2 mc ms (.ref b :: as) f injI) (had : JAd β β2 mc ms f f') (hst : as.reverse ++ .ref b :: pu = st) (h : ∀ v, J (PM D dA β) Y env (.int v :: pu) (pc + 3) (k v) F) : J (PM D dA β) Y env st pc (jb (jcallT b f') k) F := J_callT hd hcov hcat hw w1 w2 w3 w5 hn hI had hst h
/-- a cast to an array class -/
def jcast (t a : Nat) : JM Mem Unit := fun M => match mK M a with
  | some (.inr (t', _)) => if t' = t then some (.ok (), M) else none
  | _ => none
theorem J_castA {t a : Nat} {nm : String} {f : Unit → JM Mem τ} (hd : decode Y.1 pc = .ok (.checkcast idx, 3)) (q : Cond.classLink Y.2.1 idx nm ∈ lw_all) (hnm : nm = "[" ++ (jaT t).toString) (h : J (PM D dA β) Y env (.ref a :: pu) (pc + 3) (f ()) F) : J (PM D dA β) Y env (.ref a :: pu) pc (jb (jcast t a) f) F := by
  intro Γ ok hP M r M' hk hv hq H locs cells slots ls hi hl
  obtain ⟨A, H0, hI, hKK, hA, hFG⟩ := id hP
  have hi2 := hi
  rw [hI] at hi2
  by_cases hc : ∃ n, mK M a = some (.inr (t, n))
  · obtain ⟨n, hK⟩ := hc
    rw [jb_ok (show jcast t a M = some (.ok (), M) by unfold jcast; rw [hK]; exact if_pos rfl)] at hk
    have hRA := (hKK.1.2 t _ (jtys_at (hi2.1.2.2 a _ hK).1)).2
    exact va_castA ok.exec ok.code ok.own (ok.hts _ q) (rel_P hi2.1 hK) 0 rfl (by rw [hnm]; exact jra_name hRA) hd (h Γ ok hP M r M' hk hv hq H locs cells slots ls hi hl)
  · rw [jb_none (show jcast t a M = none by
      unfold jcast
      split
      · rename_i t' n hK
        exact if_neg (fun e => hc ⟨n, by rw [hK, e]⟩)
      · rfl)] at hk
    cases hk
/-- a new array of a computed length -/
def jnewN (t : Nat) (n : Int32) : JM Mem Nat := fun M => if 0 ≤ n.toInt ∧ n.toInt ≤ 1000 then jnew (.inr (t, n.toNatClampNeg)) n.toNatClampNeg M else none
theorem J_newarrayN {f : Nat → JM Mem τ} {atype : ArrayType} {t : Nat} {n : Int32} (hd : decode Y.1 pc = .ok (.newarray atype, 2)) (ht : t < 12) (hty : newarray.typeOf atype = jaT t) (hpl : jplain (jaT t) = true) (w1 : Cond.arrayClass (jaT t) ∈ lw_all) (hb8 : componentBytes (jaT t) ≤ 8) (h : ∀ v, J (PM D dA true) Y env (.ref v :: pu) (pc + 2) (f v) F) : J (PM D dA true) Y env (.int n :: pu) pc (jb (jnewN t n) f) F := by
  intro Γ ok hP M r M' hk
  by_cases hc : 0 ≤ n.toInt ∧ n.toInt ≤ 1000
  · have hk : jb (jnew (.inr (t, n.toNatClampNeg)) n.toNatClampNeg) f M = some (r, M') := by
      unfold jb at hk ⊢
      rw [show jnewN t n M = jnew (.inr (t, n.toNatClampNeg)) n.toNatClampNeg M from if_pos hc] at hk
      exact hk
    have h1 : n.toNatClampNeg ≤ 1000 := by show n.toInt.toNat ≤ 1000; omega
    have h2 : n.toNatClampNeg * componentBytes (jaT t) ≤ 1000 * 8 := Nat.mul_le_mul h1 hb8
    exact J_newarray hd ht hty hpl w1 (fun q => by have := Int32.lt_iff_toInt_lt.mp q; simp at this; omega) rfl (Nat.le_trans h2 (by decide)) h Γ ok hP M r M' hk
  · rw [jb_none (show jnewN t n M = none from if_neg hc)] at hk
    cases hk
end JSTR
