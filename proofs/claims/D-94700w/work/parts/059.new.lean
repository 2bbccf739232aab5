/-! J rows: calls; new objects and arrays; System.arraycopy. -/
set_option maxRecDepth 100000
section JCALLS
variable {ρ τ : Type} {D : va_G} {dA : Nat → ClassId} {β β2 : Bool} {Y : JY} {env : List (Nat × Value)} {pu st as : List Value} {pc idx c b : Nat} {F : JF Mem τ} {k : ρ → JM Mem τ} {inj : ρ → Option Value} {f f' : JM Mem ρ} {y x : MethodName} {cc : ByteArray} {nL d2 mc ms : Nat} {ret : Option FieldType}
theorem jcall_pos {M : Mem} (h : mK M b = some (.inl c)) : jb (jcall c b f') k M = jb f' k M := by
  unfold jb
  rw [show jcall c b f' M = f' M from if_pos h]
theorem jcall_neg {M : Mem} (h : ¬ mK M b = some (.inl c)) : jb (jcall c b f') k M = none := by
  unfold jb
  rw [show jcall c b f' M = none from if_neg h]
abbrev JNoH (Y : JY) (pc : Nat) : Prop := Y.2.2.2.2.2.2.all (fun x => !(decide (x.1 ≤ pc) && decide (pc < x.2.1))) = true
abbrev JCat (pu : List Value) : Prop := (pu.map fun v => v.category).sum ≤ 8
abbrev JNp (desc : String) (n : Nat) : Prop := (parseMethodDescriptor desc).map (fun d => d.parameters.length) = some n
theorem jnp {desc : String} {as : List Value} (h : JNp desc as.length) : ∀ sig, parseMethodDescriptor desc = some sig → as.length = sig.parameters.length := by
  intro sig hs
  have h : (parseMethodDescriptor desc).map (fun d => d.parameters.length) = some as.length := h
  rw [hs] at h
  exact (Option.some.inj h).symm
theorem J_callV (hd : decode Y.1 pc = .ok (.invokevirtual idx, 3)) (hc : c < 9) (hcov : JNoH Y pc) (hcat : JCat pu) (hw : JCw Y (ws_ y cc nL ret) y cc nL ret d2) (w1 : Cond.methodLink Y.2.1 idx y ∈ lw_all) (w2 : Cond.instanceMethod y ∈ lw_all) (w3 : Cond.selects (jC c) y y ∈ lw_all) (w5 : Cond.code y cc nL ret ∈ lw_all) (hn : JNp y.desc as.length) (hI : Impl (ws_ y cc nL ret) y d2 β2 mc ms (.ref b :: as) f inj) (had : JAd β β2 mc ms f f') (hst : as.reverse ++ .ref b :: pu = st) (h : ∀ v, J (PM D dA β) Y env ((inj v).toList ++ pu) (pc + 3) (k v) F) : J (PM D dA β) Y env st pc (jb (jcall c b f') k) F := by
  intro Γ ok hP M r M' hk hv hq H locs cells slots ls hi hl
  by_cases hK : mK M b = some (.inl c)
  · rw [jcall_pos hK] at hk
    obtain ⟨A, H0, hIΓ, hKK, hA, hFG⟩ := id hP
    have hi2 := hi
    rw [hIΓ] at hi2
    obtain ⟨cellB, g1, g2, g3⟩ := va_recv (q0 := 0) hKK.1 (rel_P hi2.1 hK) (jcl_at hc) rfl
    exact j_core hcov h hcat hw rfl hI had ok hP hk hv hq hi hl (fun Pc Qc XC free T hT X hB hpre => vx_callV (C := jC c) (bytes := cc) (maxL := nL) (ret := ret) X ok.exec ok.own (ok.hts _ w1) (ok.hts _ w2) (ok.hts _ w3) (ok.hts _ w5) hw.2.2.2.2 hB (by rw [hT]; exact g1) g2 g3 rfl hl.1 (argsL := as) (jnp hn) hst.symm (lv_room hcat) (by rw [ok.code]; exact hd) hpre)
  · rw [jcall_neg hK] at hk
    cases hk
theorem j_decl {args : Array Value} {s : State} {y : MethodName} {cc : ByteArray} {nL : Nat} {ret : Option FieldType} (h2 : (Cond.instanceMethod y).before args s = true) (h5 : (Cond.code y cc nL ret).before args s = true) : va_Decl s ⟨y.cls, y.name, y.desc⟩ := by
  obtain ⟨mk, methM, hnamed, hmethM, hst, hab⟩ := Cond.instanceMethod_spec h2
  obtain ⟨methM', cM, hmethM', -, -, -, -, -, -, hsig⟩ := Cond.code_spec hnamed h5
  cases hmethM.symm.trans hmethM'
  exact ⟨mk, methM, hnamed, hmethM, hst, hsig⟩
theorem J_callU {owner : String} (hd : decode Y.1 pc = .ok (.invokevirtual idx, 3)) (hc : c < 9) (hcov : JNoH Y pc) (hcat : JCat pu) (hw : JCw Y (ws_ y cc nL ret) y cc nL ret d2) (w1 : Cond.methodLink Y.2.1 idx x ∈ lw_all) (w4 : Cond.sameMethod x.cls owner x.name x.desc ∈ lw_all) (wo : owner = y.cls ∧ y.name = x.name ∧ y.desc = x.desc) (w2 : Cond.instanceMethod y ∈ lw_all) (w3 : Cond.selects (jC c) x y ∈ lw_all) (w5 : Cond.code y cc nL ret ∈ lw_all) (hn : JNp x.desc as.length) (hI : Impl (ws_ y cc nL ret) y d2 β2 mc ms (.ref b :: as) f inj) (had : JAd β β2 mc ms f f') (hst : as.reverse ++ .ref b :: pu = st) (h : ∀ v, J (PM D dA β) Y env ((inj v).toList ++ pu) (pc + 3) (k v) F) : J (PM D dA β) Y env st pc (jb (jcall c b f') k) F := by
  intro Γ ok hP M r M' hk hv hq H locs cells slots ls hi hl
  by_cases hK : mK M b = some (.inl c)
  · rw [jcall_pos hK] at hk
    obtain ⟨A, H0, hIΓ, hKK, hA, hFG⟩ := id hP
    have hi2 := hi
    rw [hIΓ] at hi2
    obtain ⟨cellB, g1, g2, g3⟩ := va_recv (q0 := 0) hKK.1 (rel_P hi2.1 hK) (jcl_at hc) rfl
    exact j_core hcov h hcat hw rfl hI had ok hP hk hv hq hi hl (fun Pc Qc XC free T hT X hB hpre => vx_callVU (C := jC c) (owner := owner) (x := x) (bytes := cc) (maxL := nL) (ret := ret) X ok.exec ok.own (ok.hts _ w1) (ok.hts _ w4) (by obtain ⟨e1, e2, e3⟩ := wo; rw [e1, ← e2, ← e3]; exact j_decl (ok.hts _ w2) (ok.hts _ w5)) (by rw [wo.1]; exact hw.2.2.2.2) (ok.hts _ w3) (ok.hts _ w2) (ok.hts _ w5) hB (by rw [hT]; exact g1) g2 g3 rfl hl.1 (argsL := as) (jnp hn) hst.symm (lv_room hcat) (by rw [ok.code]; exact hd) hpre)
  · rw [jcall_neg hK] at hk
    cases hk
theorem j_selP {args : Array Value} {s : State} {C : String} {x y z : MethodName} (hy : y.cls ≠ "java/lang/invoke/MethodHandle" ∧ y.cls ≠ "java/lang/invoke/VarHandle") (hz : z.cls = y.cls) (hinst : (Cond.instanceMethod y).before args s = true) (hpriv : (Cond.privateMethod y).before args s = true) (hsel : (Cond.selects C x z).before args s = true) : (Cond.selects C y y).before args s = true := by
  obtain ⟨c2, r2, m2, q1, q2, q3, q4, kP, hkP, hkPi⟩ := Cond.selects_spec hsel
  obtain ⟨mk, methM, hnamed, hmethM, -, -⟩ := Cond.instanceMethod_spec hinst
  have hfound : s.methodFound? y.cls y.name y.desc = some mk := State.methodFound?_of_named hnamed hy
  have hcls : mk.cls = m2.cls := Option.some.inj ((findClass_of_methodNamed hnamed).symm.trans ((congrArg s.vm.findClass hz.symm).trans (findClass_of_methodNamed q3)))
  have hs2 : selectMethod {} s.vm c2 mk = .method mk := selectMethod_private hmethM (Cond.privateMethod_at hpriv mk methM hnamed hmethM)
  simp only [Cond.before, Cond.holds, Cond.value, q1, hfound, hnamed, hs2, hcls, hkP]
  simp; exact hkPi
theorem J_callP {z : MethodName} (hd : decode Y.1 pc = .ok (.invokevirtual idx, 3)) (hc : c < 9) (hcov : JNoH Y pc) (hcat : JCat pu) (hw : JCw Y (ws_ y cc nL ret) y cc nL ret d2) (w1 : Cond.methodLink Y.2.1 idx y ∈ lw_all) (w2 : Cond.instanceMethod y ∈ lw_all) (w3 : Cond.selects (jC c) x z ∈ lw_all) (wz : z.cls = y.cls) (wp : Cond.privateMethod y ∈ lw_tbl) (w5 : Cond.code y cc nL ret ∈ lw_all) (hn : JNp y.desc as.length) (hI : Impl (ws_ y cc nL ret) y d2 β2 mc ms (.ref b :: as) f inj) (had : JAd β β2 mc ms f f') (hst : as.reverse ++ .ref b :: pu = st) (h : ∀ v, J (PM D dA β) Y env ((inj v).toList ++ pu) (pc + 3) (k v) F) : J (PM D dA β) Y env st pc (jb (jcall c b f') k) F := by
  intro Γ ok hP M r M' hk hv hq H locs cells slots ls hi hl
  by_cases hK : mK M b = some (.inl c)
  · rw [jcall_pos hK] at hk
    obtain ⟨A, H0, hIΓ, hKK, hA, hFG⟩ := id hP
    have hi2 := hi
    rw [hIΓ] at hi2
    obtain ⟨cellB, g1, g2, g3⟩ := va_recv (q0 := 0) hKK.1 (rel_P hi2.1 hK) (jcl_at hc) rfl
    exact j_core hcov h hcat hw rfl hI had ok hP hk hv hq hi hl (fun Pc Qc XC free T hT X hB hpre => vx_callV (C := jC c) (bytes := cc) (maxL := nL) (ret := ret) X ok.exec ok.own (ok.hts _ w1) (ok.hts _ w2) (j_selP hw.2.2.2.2 wz (ok.hts _ w2) (va_Nw.use rfl (hKK.2 _ (jnw_in wp rfl))) (ok.hts _ w3)) (ok.hts _ w5) hw.2.2.2.2 hB (by rw [hT]; exact g1) g2 g3 rfl hl.1 (argsL := as) (jnp hn) hst.symm (lv_room hcat) (by rw [ok.code]; exact hd) hpre)
  · rw [jcall_neg hK] at hk
    cases hk
theorem J_callS {host : String} (hd : decode Y.1 pc = .ok (.invokestatic idx, 3)) (hcov : JNoH Y pc) (hcat : JCat pu) (hw : JCw Y (ws_ y cc nL ret) y cc nL ret d2) (w1 : Cond.methodLink Y.2.1 idx y ∈ lw_all) (w2 : Cond.static y ∈ lw_all) (w5 : Cond.code y cc nL ret ∈ lw_all) (hn : JNp y.desc as.length) (hI : Impl (ws_ y cc nL ret) y d2 β2 mc ms as f inj) (had : JAd β β2 mc ms f f') (hst : as.reverse ++ pu = st) (h : ∀ v, J (PM D dA β) Y env ((inj v).toList ++ pu) (pc + 3) (k v) F) : J (PM D dA β) Y env st pc (jb f' k) F := by
  intro Γ ok hP M r M' hk hv hq H locs cells slots ls hi hl
  obtain ⟨A, H0, hIΓ, hKK, hA, hFG⟩ := id hP
  exact j_core hcov h hcat hw rfl hI had ok hP hk hv hq hi hl (fun Pc Qc XC free T hT X hB hpre => vx_callS (bytes := cc) (maxL := nL) (ret := ret) X ok.exec ok.own (ok.hts _ w1) (ok.hts _ w2) (ok.hts _ hw.2.2.2.1) (ok.hts _ w5) hw.2.2.2.2 hB rfl hl.1 (argsL := as) (jnp hn) hst.symm (lv_room hcat) (by rw [ok.code]; exact hd) hpre)
theorem J_callSN {host : String} (hd : decode Y.1 pc = .ok (.invokestatic idx, 3)) (hcov : JNoH Y pc) (hcat : JCat pu) (hw : JCw Y (ws_ y cc nL ret) y cc nL ret d2) (w1 : Cond.methodLinkNest Y.2.1 idx y host ∈ lw_tbl) (w2 : Cond.static y ∈ lw_all) (w5 : Cond.code y cc nL ret ∈ lw_all) (hn : JNp y.desc as.length) (hI : Impl (ws_ y cc nL ret) y d2 β2 mc ms as f inj) (had : JAd β β2 mc ms f f') (hst : as.reverse ++ pu = st) (h : ∀ v, J (PM D dA β) Y env ((inj v).toList ++ pu) (pc + 3) (k v) F) : J (PM D dA β) Y env st pc (jb f' k) F := by
  intro Γ ok hP M r M' hk hv hq H locs cells slots ls hi hl
  obtain ⟨A, H0, hIΓ, hKK, hA, hFG⟩ := id hP
  exact j_core hcov h hcat hw rfl hI had ok hP hk hv hq hi hl (fun Pc Qc XC free T hT X hB hpre => vx_callSN (host := host) (bytes := cc) (maxL := nL) (ret := ret) X ok.exec ok.own (va_Nw.use rfl (hKK.2 _ (jnw_in w1 rfl))) (ok.hts _ w2) (ok.hts _ hw.2.2.2.1) (ok.hts _ w5) hw.2.2.2.2 hB rfl hl.1 (argsL := as) (jnp hn) hst.symm (lv_room hcat) (by rw [ok.code]; exact hd) hpre)
theorem J_callI {host : String} (hd : decode Y.1 pc = .ok (.invokespecial idx, 3)) (hcov : JNoH Y pc) (hcat : JCat pu) (hw : JCw Y (ws_ y cc nL none) y cc nL none d2) (hnm : y.name = "<init>") (w1 : Cond.methodLink Y.2.1 idx y ∈ lw_all) (w2 : Cond.instanceMethod y ∈ lw_all) (w5 : Cond.code y cc nL none ∈ lw_all) (hn : JNp y.desc as.length) (hI : Impl (ws_ y cc nL none) y d2 β2 mc ms (.ref b :: as) f inj) (had : JAd β β2 mc ms f f') (hst : as.reverse ++ .ref b :: pu = st) (h : ∀ v, J (PM D dA β) Y env ((inj v).toList ++ pu) (pc + 3) (k v) F) : J (PM D dA β) Y env st pc (jb f' k) F := by
  intro Γ ok hP M r M' hk hv hq H locs cells slots ls hi hl
  obtain ⟨A, H0, hIΓ, hKK, hA, hFG⟩ := id hP
  exact j_core hcov h hcat hw rfl hI had ok hP hk hv hq hi hl (fun Pc Qc XC free T hT X hB hpre => vx_callI (bytes := cc) (maxL := nL) X ok.exec ok.own hnm (ok.hts _ w1) (ok.hts _ w2) (ok.hts _ w5) hw.2.2.2.2 hB rfl hl.1 (argsL := as) (jnp hn) hst.symm (lv_room hcat) (by rw [ok.code]; exact hd) hpre)
theorem J_callIN {host : String} (hd : decode Y.1 pc = .ok (.invokespecial idx, 3)) (hcov : JNoH Y pc) (hcat : JCat pu) (hw : JCw Y (ws_ y cc nL none) y cc nL none d2) (hnm : y.name = "<init>") (w1 : Cond.methodLinkNest Y.2.1 idx y host ∈ lw_tbl) (w2 : Cond.instanceMethod y ∈ lw_all) (w5 : Cond.code y cc nL none ∈ lw_all) (hn : JNp y.desc as.length) (hI : Impl (ws_ y cc nL none) y d2 β2 mc ms (.ref b :: as) f inj) (had : JAd β β2 mc ms f f') (hst : as.reverse ++ .ref b :: pu = st) (h : ∀ v, J (PM D dA β) Y env ((inj v).toList ++ pu) (pc + 3) (k v) F) : J (PM D dA β) Y env st pc (jb f' k) F := by
  intro Γ ok hP M r M' hk hv hq H locs cells slots ls hi hl
  obtain ⟨A, H0, hIΓ, hKK, hA, hFG⟩ := id hP
  exact j_core hcov h hcat hw rfl hI had ok hP hk hv hq hi hl (fun Pc Qc XC free T hT X hB hpre => vx_callIN (host := host) (bytes := cc) (maxL := nL) X ok.exec ok.own hnm (va_Nw.use rfl (hKK.2 _ (jnw_in w1 rfl))) (ok.hts _ w2) (ok.hts _ w5) hw.2.2.2.2 hB rfl hl.1 (argsL := as) (jnp hn) hst.symm (lv_room hcat) (by rw [ok.code]; exact hd) hpre)
theorem J_objInit {a : Nat} {k : JM Mem τ} (hd : decode Y.1 pc = .ok (.invokespecial idx, 3)) (hcat : JCat pu) (hdep : 1 ≤ Y.2.2.2.1) (w1 : Cond.methodLink Y.2.1 idx Lib.objectInit ∈ lw_all) (w2 : Cond.instanceMethod Lib.objectInit ∈ lw_all) (w3 : Cond.code Lib.objectInit ⟨#[0xb1]⟩ 1 none ∈ lw_all) (h : J (PM D dA β) Y env pu (pc + 3) k F) : J (PM D dA β) Y env (.ref a :: pu) pc k F := by
  intro Γ ok hP M r M' hk hv hq H locs cells slots ls hi hl
  refine W.objInit ok.exec ok.code ok.own (ok.hts _ w1) (ok.hts _ w2) (ok.hts _ w3) (a := a) (rest := pu) rfl hl.1 rfl hd (Nat.le_trans hdep ok.fr) ?_ (h Γ ok hP M r M' hk hv hq H locs cells slots ls hi hl)
  have h1 := ok.lo
  have h2 : JCat pu := hcat
  show 2 * 0 + (pu.map fun v => v.category).sum + 12 ≤ _
  unfold JCat at h2
  omega
end JCALLS
section JNEW
variable {τ : Type} {D : va_G} {dA : Nat → ClassId} {Y : JY} {env : List (Nat × Value)} {pu : List Value} {pc idx c : Nat} {F : JF Mem τ}
/-- a new cell of kind d with n places -/
def jnew (d : Kd) (n : Nat) : JM Mem Nat := fun M => if 1 ≤ mC M ∧ n ≤ mS M then some (.ok (mZ M), jnewM M d n) else none
theorem jent_congr {M M' : Mem} {b : Nat} (h1 : mI M b = mI M' b) (h2 : mL M b = mL M' b) (h3 : mR M b = mR M' b) (d : Kd) : jent dA M b d = jent dA M' b d := by
  cases d with
  | inl c =>
    have e : ∀ (t k : Nat), jval t M b k = jval t M' b k := by
      intro t k
      match t with
      | 0 => show Value.int (mI M b k) = Value.int (mI M' b k); rw [h1]
      | 1 => show Value.long (mL M b k) = Value.long (mL M' b k); rw [h2]
      | t + 2 => show va_rf (mR M b k) = va_rf (mR M' b k); rw [h3]
    simp only [jent, e]
  | inr t =>
    obtain ⟨t, n⟩ := t
    simp only [jent, h1, h2, h3]
theorem jent_new {M : Mem} {d : Kd} {n b : Nat} (hb : b ≠ mZ M) (d2 : Kd) : jent dA (jnewM M d n) b d2 = jent dA M b d2 :=
  jent_congr (by show upA (mI M) (mZ M) (fun _ => 0) b = mI M b; funext j; simp [upA, hb]) (by show upA (mL M) (mZ M) (fun _ => 0) b = mL M b; funext j; simp [upA, hb]) (by show upA (mR M) (mZ M) (fun _ => none) b = mR M b; funext j; simp [upA, hb]) d2
theorem rel_new {M : Mem} {H H' : Heap} {d : Kd} {n : Nat} (h : Rel D dA M H) (hz : H'.size = mZ M + 1) (he : ∀ q, q < mZ M → H'[q]? = H[q]?) (hd : match d with | .inl c => c < 9 | .inr (t, _) => t < 12) (hc : va_at D jcl (mZ M, jent dA (jnewM M d n) (mZ M) d) H') : Rel D dA (jnewM M d n) H' := by
  refine ⟨hz, h.2.1, fun b d2 hb => ?_⟩
  by_cases e : b = mZ M
  · subst e
    have hb : (if mZ M = mZ M then some d else mK M (mZ M)) = some d2 := hb
    rw [if_pos rfl] at hb
    cases hb
    exact ⟨hd, hc⟩
  · have hb : (if b = mZ M then some d else mK M b) = some d2 := hb
    rw [if_neg e] at hb
    obtain ⟨h1, h2⟩ := h.2.2 b d2 hb
    refine ⟨h1, ?_⟩
    rw [jent_new e]
    exact h2.kept (he b (by rw [← h.1]; exact h2.lt))
theorem std_new {R : Room} {A : Nat → Prop} {H0 : Heap} {M : Mem} {H H' : Heap} {locs : List Loc} {cells slots : Nat} {d : Kd} {n : Nat} (hi : jstd D dA true R A H0 M H locs cells slots) (hA : ∀ q, H0.size ≤ q → A q) (hb : 1 ≤ mC M ∧ n ≤ mS M) (hz : H'.size = mZ M + 1) (he : ∀ q, q < mZ M → H'[q]? = H[q]?) (hd : match d with | .inl c => c < 9 | .inr (t, _) => t < 12) (hc : va_at D jcl (mZ M, jent dA (jnewM M d n) (mZ M) d) H') : jstd D dA true R A H0 (jnewM M d n) H' locs (cells + 1) (slots + n) := by
  obtain ⟨h1, h2, h3, h4⟩ := hi
  have hsz : H.size = mZ M := h1.1
  refine ⟨rel_new h1 hz he hd hc, ⟨by have := h2.1; omega, fun q g1 g2 => ?_, h2.2.2⟩, fun a ha => ?_, ?_⟩
  · rw [he q (by have := h2.1; omega)]
    exact h2.2.1 q g1 g2
  · have ha : (if a = mZ M then some d else mK M a).isSome = true := ha
    by_cases e : a = mZ M
    · exact hA a (by have := h2.1; omega)
    · rw [if_neg e] at ha
      exact h3 a ha
  · have a1 := h4.1
    have a2 := h4.2
    exact ⟨by show cells + 1 + (mC M - 1) ≤ R.cells; omega, by show slots + n + (mS M - n) ≤ R.slots; omega⟩
theorem jnew_cases {d : Kd} {n : Nat} {f : Nat → JM Mem τ} {M M' : Mem} {r : Except Nat τ} (h : jb (jnew d n) f M = some (r, M')) : (1 ≤ mC M ∧ n ≤ mS M) ∧ f (mZ M) (jnewM M d n) = some (r, M') := by
  by_cases hc : 1 ≤ mC M ∧ n ≤ mS M
  · rw [jb_ok (show jnew d n M = some (.ok (mZ M), jnewM M d n) from if_pos hc)] at h
    exact ⟨hc, h⟩
  · rw [jb_none (show jnew d n M = none from if_neg hc)] at h
    cases h
def jplain (t : FieldType) : Bool := match t with | .float => false | .double => false | _ => true
theorem jval_new {M : Mem} {d : Kd} {n : Nat} {t : FieldType} (ht : jplain t = true) (k : Nat) : jval (jtag t) (jnewM M d n) (mZ M) k = defaultValue t := by
  have e1 : mI (jnewM M d n) (mZ M) k = 0 := by show upA (mI M) (mZ M) (fun _ => 0) (mZ M) k = 0; simp [upA]
  have e2 : mL (jnewM M d n) (mZ M) k = 0 := by show upA (mL M) (mZ M) (fun _ => 0) (mZ M) k = 0; simp [upA]
  have e3 : mR (jnewM M d n) (mZ M) k = none := by show upA (mR M) (mZ M) (fun _ => none) (mZ M) k = none; simp [upA]
  cases t <;> first | (exact absurd ht (by decide)) | (show Value.int (mI (jnewM M d n) (mZ M) k) = _; rw [e1]; rfl) | (show Value.long (mL (jnewM M d n) (mZ M) k) = _; rw [e2]; rfl) | (show va_rf (mR (jnewM M d n) (mZ M) k) = _; rw [e3]; rfl)
theorem jra_name {U : State} {cA : ClassId} {ty : FieldType} (h : va_RA U cA ty) : U.vm.findClass ("[" ++ ty.toString) = some cA := by
  cases ty <;> first | exact h | (obtain ⟨kA, comp, -, -, -, h⟩ := h; exact h)
theorem jcell_new {M : Mem} {t n N : Nat} (hpl : jplain (jaT t) = true) : arrV (dA t) N (fun _ => defaultValue (jaT t)) = vp_cell (dA t) (N, match jtag (jaT t) with
    | 0 => .inl (mI (jnewM M (.inr (t, N)) n) (mZ M))
    | 1 => .inr (.inl (mL (jnewM M (.inr (t, N)) n) (mZ M)))
    | _ => .inr (.inr (.inr (.inr (mR (jnewM M (.inr (t, N)) n) (mZ M)))))) := by
  have h9 := fun k => jval_new (M := M) (d := .inr (t, N)) (n := n) hpl k
  generalize jtag (jaT t) = g at h9 ⊢
  match g with
  | 0 => exact congrArg (arrV (dA t) N) (funext fun k => (h9 k).symm)
  | 1 => exact congrArg (arrV (dA t) N) (funext fun k => (h9 k).symm)
  | g + 2 => exact congrArg (arrV (dA t) N) (funext fun k => (h9 k).symm)
theorem J_new {f : Nat → JM Mem τ} (hd : decode Y.1 pc = .ok (.new idx, 3)) (hc : c < 9) (hpl : ∀ k, k < jN c → jplain (jty c k) = true) (w1 : Cond.classLink Y.2.1 idx (jC c) ∈ lw_all) (w2 : Cond.instantiable (jC c) (jN c) ∈ lw_all) (w3 : Cond.initialized (jC c) ∈ lw_all) (h : ∀ v, J (PM D dA true) Y env (.ref v :: pu) (pc + 3) (f v) F) : J (PM D dA true) Y env pu pc (jb (jnew (.inl c) (jN c)) f) F := by
  intro Γ ok hP M r M' hk hv hq H locs cells slots ls hi hl
  obtain ⟨hb, hk⟩ := jnew_cases hk
  obtain ⟨A, H0, hIΓ, hKK, hA, hFG⟩ := id hP
  have hi2 := hi
  rw [hIΓ] at hi2
  obtain ⟨hS, hfc, kC0, hkC0, hkind⟩ := hKK.1.1 c _ (jcl_at hc)
  have a1 := hi2.2.2.2.1
  have a2 := hi2.2.2.2.2
  refine W.newcK ok.exec ok.code ok.own (ok.hts _ w1) (ok.hts _ w2) (ok.hts _ w3) rfl hd (by omega) (by omega) hfc (h := mZ M) hi2.1.1 fun H' kC hkC e1 z1 o1 => ?_
  refine h _ Γ ok hP _ r M' hk hv hq H' locs (cells + 1) (slots + jN c) ls ?_ hl
  rw [hIΓ]
  refine std_new hi2 hA hb z1 o1 hc ⟨_, jcl_at hc, ?_⟩
  exact (u_born (jty c) ok.hts (jin hc) (hKK.1.1 c _ (jcl_at hc)) hkC e1 (jtyok hc)).to (fun j hj => by
    simp only [vp_V, List.getD_eq_getElem?_getD, jent_get hj, Option.getD_some]
    exact (jval_new (hpl j hj) j).symm)
/-- newarray of the element type t -/
theorem J_newarray {f : Nat → JM Mem τ} {atype : ArrayType} {t : Nat} {n : Int32} {N : Nat} (hd : decode Y.1 pc = .ok (.newarray atype, 2)) (ht : t < 12) (hty : newarray.typeOf atype = jaT t) (hpl : jplain (jaT t) = true) (w1 : Cond.arrayClass (jaT t) ∈ lw_all) (hn : ¬ n < 0) (hN : n.toNatClampNeg = N) (hb4 : N * componentBytes (jaT t) ≤ 536870912) (h : ∀ v, J (PM D dA true) Y env (.ref v :: pu) (pc + 2) (f v) F) : J (PM D dA true) Y env (.int n :: pu) pc (jb (jnew (.inr (t, N)) N) f) F := by
  intro Γ ok hP M r M' hk hv hq H locs cells slots ls hi hl
  obtain ⟨hb, hk⟩ := jnew_cases hk
  obtain ⟨A, H0, hIΓ, hKK, hA, hFG⟩ := id hP
  have hi2 := hi
  rw [hIΓ] at hi2
  have a1 := hi2.2.2.2.1
  have a2 := hi2.2.2.2.2
  have hRA := (hKK.1.2 t _ (jtys_at ht)).2
  refine va_newaK ok.exec ok.code (by rw [hty]; exact ok.hts _ w1) rfl hd rfl hn hN (by rw [hty]; exact hb4) (by omega) (by omega) (h := mZ M) hi2.1.1 fun H' cA e1 z1 o1 hAr hNm => ?_
  rw [hty] at e1 hNm hAr
  have hcA : cA = dA t := Option.some.inj (hNm.symm.trans (jra_name hRA))
  subst hcA
  refine h _ Γ ok hP _ r M' hk hv hq H' locs (cells + 1) (slots + N) ls ?_ hl
  rw [hIΓ]
  refine std_new hi2 hA hb z1 o1 ht ?_
  show H'[mZ M]? = some (vp_cell _ _)
  rw [e1]
  exact congrArg some (jcell_new (M := M) (n := N) hpl)
theorem J_anewarray {f : Nat → JM Mem τ} {t : Nat} {C : String} {n : Int32} {N : Nat} (hd : decode Y.1 pc = .ok (.anewarray idx, 3)) (ht : t < 12) (hty : jaT t = .object C) (w0 : Cond.classLink Y.2.1 idx C ∈ lw_all) (w1 : Cond.arrayOver (.object C) ∈ lw_tbl) (hn : ¬ n < 0) (hN : n.toNatClampNeg = N) (hb4 : N * 4 ≤ 536870912) (h : ∀ v, J (PM D dA true) Y env (.ref v :: pu) (pc + 3) (f v) F) : J (PM D dA true) Y env (.int n :: pu) pc (jb (jnew (.inr (t, N)) N) f) F := by
  intro Γ ok hP M r M' hk hv hq H locs cells slots ls hi hl
  obtain ⟨hb, hk⟩ := jnew_cases hk
  obtain ⟨A, H0, hIΓ, hKK, hA, hFG⟩ := id hP
  have hi2 := hi
  rw [hIΓ] at hi2
  subst hN
  have a1 := hi2.2.2.2.1
  have a2 := hi2.2.2.2.2
  have hRA := (hKK.1.2 t _ (jtys_at ht)).2
  refine W.anew ok.exec ok.code ok.own (ok.hts _ w0) (va_AO.use (hKK.2 _ (jnw_in w1 rfl))) rfl hd rfl hn hb4 (by omega) (by omega) fun cA kA comp f1 f2 f3 f4 => ?_
  generalize hH1 : H.push ({ cls := cA, slots := Array.replicate n.toNatClampNeg .null, vm := .none } : Cell) = H1
  have z1 : H1.size = mZ M + 1 := by rw [← hH1, Array.size_push, hi2.1.1]
  have e1 : H1[mZ M]? = some (arrV cA n.toNatClampNeg (fun _ => .null)) := by rw [← hH1, ← hi2.1.1, Array.getElem?_push_size, ← arrV_new]
  have o1 : ∀ q, q < mZ M → H1[q]? = H[q]? := fun q hq => by rw [← hH1, Array.getElem?_push, if_neg (Nat.ne_of_lt (by rw [hi2.1.1]; exact hq))]
  have hcA : cA = dA t := by
    have h9 := jra_name hRA
    rw [hty] at h9
    exact Option.some.inj (f1.symm.trans h9)
  subst hcA
  rw [hi2.1.1]
  refine h _ Γ ok hP _ r M' hk hv hq H1 locs (cells + 1) (slots + n.toNatClampNeg) ls ?_ hl
  rw [hIΓ]
  refine std_new hi2 hA hb z1 o1 ht ?_
  show H1[mZ M]? = some (vp_cell _ _)
  rw [e1]
  have h9 := jcell_new (dA := dA) (M := M) (t := t) (n := n.toNatClampNeg) (N := n.toNatClampNeg) (by rw [hty]; rfl)
  rw [hty] at h9 ⊢
  exact congrArg some h9
end JNEW
section JCOPY
variable {τ : Type} {D : va_G} {dA : Nat → ClassId} {β : Bool} {Y : JY} {env : List (Nat × Value)} {pu : List Value} {pc idx : Nat} {F : JF Mem τ}
def jcopyOk (M : Mem) (t a0 a : Nat) (sp dp n : Int32) : Bool := match mK M a0, mK M a with
  | some (.inr (t0, n0)), some (.inr (t1, n1)) => decide (t0 = t ∧ t1 = t ∧ 0 ≤ sp.toInt ∧ 0 ≤ dp.toInt ∧ 0 ≤ n.toInt ∧ sp.toInt + n.toInt ≤ (n0 : Int) ∧ dp.toInt + n.toInt ≤ (n1 : Int)) && (decide (t = 0) || (List.range n.toNatClampNeg).all fun i => decide (mI M a0 (sp.toNatClampNeg + i) = 0 ∨ mI M a0 (sp.toNatClampNeg + i) = 1))
  | _, _ => false
/-- System.arraycopy of int arrays (t is 0) or boolean ones (t is 4) -/
def jcopy (t a0 : Nat) (sp : Int32) (a : Nat) (dp n : Int32) : JM Mem Unit := fun M => if jcopyOk M t a0 a sp dp n = true then some (.ok (), sI M (upA (mI M) a (va_cpy (mI M a0) (mI M a) sp.toNatClampNeg dp.toNatClampNeg n.toNatClampNeg))) else none
theorem upA_at {α : Type} {f : Nat → Nat → α} {a : Nat} {g : Nat → α} : upA f a g a = g := by funext j; simp [upA]
theorem upA_ne {α : Type} {f : Nat → Nat → α} {a b : Nat} {g : Nat → α} (h : b ≠ a) : upA f a g b = f b := by funext j; simp [upA, h]
theorem J_copy {t a0 a : Nat} {sp dp n : Int32} {f : Unit → JM Mem τ} (hd : decode Y.1 pc = .ok (.invokestatic idx, 3)) (ht : t = 0 ∨ t = 4) (hcat : JCat pu) (hdep : 1 ≤ Y.2.2.2.1) (w1 : Cond.methodLink Y.2.1 idx arraycopyName ∈ lw_all) (w2 : Cond.native arraycopyName ∈ lw_all) (w3 : Cond.static arraycopyName ∈ lw_all) (w4 : Cond.initialized "java/lang/System" ∈ lw_all) (h : J (PM D dA β) Y env pu (pc + 3) (f ()) F) : J (PM D dA β) Y env (.int n :: .int dp :: .ref a :: .int sp :: .ref a0 :: pu) pc (jb (jcopy t a0 sp a dp n) f) F := by
  intro Γ ok hP M r M' hk hv hq H locs cells slots ls hi hl
  by_cases hc : jcopyOk M t a0 a sp dp n = true
  · rw [jb_ok (show jcopy t a0 sp a dp n M = some (.ok (), _) from if_pos hc)] at hk
    obtain ⟨A, H0, hIΓ, hKK, hA, hFG⟩ := id hP
    have hi2 := hi
    rw [hIΓ] at hi2
    unfold jcopyOk at hc
    split at hc
    case h_2 => cases hc
    rename_i t0 n0 t1 n1 hK0 hK1
    simp only [Bool.and_eq_true, decide_eq_true_eq] at hc
    obtain ⟨⟨e90, e91, g1, g2, g3, g4, g5⟩, g6⟩ := hc
    rw [e90] at hK0
    rw [e91] at hK1
    have nn : ∀ z : Int32, 0 ≤ z.toInt → z.toInt = (z.toNatClampNeg : Int) := fun z hz => by show z.toInt = ((z.toInt.toNat : Nat) : Int); omega
    have n1' : ¬ sp < 0 := fun q => by have := Int32.lt_iff_toInt_lt.mp q; simp at this; omega
    have n2' : ¬ dp < 0 := fun q => by have := Int32.lt_iff_toInt_lt.mp q; simp at this; omega
    have n3' : ¬ n < 0 := fun q => by have := Int32.lt_iff_toInt_lt.mp q; simp at this; omega
    have e1 := nn sp g1
    have e2 := nn dp g2
    have e3 := nn n g3
    have ht12 : t < 12 := by rcases ht with e | e <;> subst e <;> decide
    have hcell : ∀ (b m : Nat), jent dA M b (.inr (t, m)) = .inl (dA t, m, .inl (mI M b)) := by rcases ht with e | e <;> subst e <;> exact fun _ _ => rfl
    have hc0 : H[a0]? = some (vp_cell (dA t) (n0, .inl (mI M a0))) := by have h9 := (hi2.1.2.2 a0 _ hK0).2; rw [hcell] at h9; exact h9
    have hc1 : H[a]? = some (vp_cell (dA t) (n1, .inl (mI M a))) := by have h9 := (hi2.1.2.2 a _ hK1).2; rw [hcell] at h9; exact h9
    obtain ⟨-, k0, hk0, cm0, hkk0⟩ := (hKK.1.2 t _ (jtys_at ht12)).1 n0 (fun j => .int (mI M a0 j))
    obtain ⟨-, k1, hk1, cm1, hkk1⟩ := (hKK.1.2 t _ (jtys_at ht12)).1 n1 (fun j => .int (mI M a j))
    have hprim : refKind (jaT t) = false := by rcases ht with e | e <;> subst e <;> rfl
    intro T hT X
    obtain ⟨vm', X', step⟩ := X.arraycopy ok.exec ok.own (ok.hts _ w1) (ok.hts _ w2) (ok.hts _ w3) (ok.hts _ w4) (src := a0) (dst := a) (cs := vp_cell (dA t) (n0, .inl (mI M a0))) (cd := vp_cell (dA t) (n1, .inl (mI M a))) (srcPos := sp) (destPos := dp) (n := n) (by rw [hT]; exact hc0) (by rw [hT]; exact hc1)
      (fun _ h => by cases h) (fun _ h => by cases h) (fun h => by cases h) (fun h => by cases h) hk0 hk1 hkk0 hkk1 (by simp [hprim]) n1' n2' n3'
      (by show ¬ _ > ((arrV (dA t) n0 (fun j => .int (mI M a0 j))).slots.size : Int); rw [arrV_size]; omega)
      (by show ¬ _ > ((arrV (dA t) n1 (fun j => .int (mI M a j))).slots.size : Int); rw [arrV_size]; omega)
      (fun vm₁ _ i hi => by
        have e : (vp_cell (dA t) (n0, .inl (mI M a0))).slots.getD (sp.toNatClampNeg + i) .null = .int (mI M a0 (sp.toNatClampNeg + i)) := by
          show (arrV (dA t) n0 (fun j => .int (mI M a0 j))).slots.getD _ _ = _
          rw [Array.getD_eq_getD_getElem?, arrV_read _ _ (by omega)]
          rfl
        refine ⟨?_, ?_⟩
        · rw [e]
          rcases ht with e | e
          · subst e; rfl
          · subst e
            simp only [Bool.or_eq_true, decide_eq_true_eq, List.all_eq_true, List.mem_range] at g6
            rcases g6 with g6 | g6
            · cases g6
            · rcases g6 i hi with e | e <;> (rw [e]; rfl)
        · rw [e]
          exact trivial)
      (g := F0 (jcM Γ) pc ls (.int n :: .int dp :: .ref a :: .int sp :: .ref a0 :: pu)) rfl hl.1 (rest := pu) rfl (by rw [ok.code]; exact hd) (Nat.le_trans hdep ok.fr) (by
        have h1 := ok.lo
        have h2 : JCat pu := hcat
        unfold JCat at h2
        have h3 : nativeFrameWords "java/lang/System" "arraycopy" 5 + 11 ≤ 60 := by decide
        show 2 * 0 + _ + _ ≤ _
        omega)
    have ec : copied (vp_cell (dA t) (n0, .inl (mI M a0))) (vp_cell (dA t) (n1, .inl (mI M a))) sp dp n = vp_cell (dA t) (n1, .inl (va_cpy (mI M a0) (mI M a) sp.toNatClampNeg dp.toNatClampNeg n.toNatClampNeg)) := va_copied (fun z => .int z) (dA t) (dA t) (mI M a0) (mI M a) (by omega)
    rw [ec] at X' step
    have hlt : a < H.size := (Array.getElem?_eq_some_iff.mp hc1).1
    have oq : ∀ q : Nat, q ≠ a → (H.setIfInBounds a (vp_cell (dA t) (n1, .inl (va_cpy (mI M a0) (mI M a) sp.toNatClampNeg dp.toNatClampNeg n.toNatClampNeg))))[q]? = H[q]? := fun q hq => by simp [Array.getElem?_setIfInBounds, Ne.symm hq]
    have hheap : ((T.setVm vm').setCell a (vp_cell (dA t) (n1, .inl (va_cpy (mI M a0) (mI M a) sp.toNatClampNeg dp.toNatClampNeg n.toNatClampNeg)))).heap = H.setIfInBounds a (vp_cell (dA t) (n1, .inl (va_cpy (mI M a0) (mI M a) sp.toNatClampNeg dp.toNatClampNeg n.toNatClampNeg))) := by rw [← hT]; rfl
    have hstd0 := std_upd (M' := sI M (upA (mI M) a (va_cpy (mI M a0) (mI M a) sp.toNatClampNeg dp.toNatClampNeg n.toNatClampNeg))) (i := 0) hi2 hK1 (by simp) oq (by
      have h9 : jent dA (sI M (upA (mI M) a (va_cpy (mI M a0) (mI M a) sp.toNatClampNeg dp.toNatClampNeg n.toNatClampNeg))) a (.inr (t, n1)) = .inl (dA t, n1, .inl (upA (mI M) a (va_cpy (mI M a0) (mI M a) sp.toNatClampNeg dp.toNatClampNeg n.toNatClampNeg) a)) := by rcases ht with e | e <;> subst e <;> rfl
      rw [h9, upA_at]
      show (H.setIfInBounds a _)[a]? = some _
      simp [Array.getElem?_setIfInBounds, hlt]) rfl rfl (fun b d2 hb => jent_I (upA_ne hb) d2)
    obtain ⟨q1, q2, q3, q4⟩ := hstd0
    have haA : A a := hi2.2.2.1 a (by rw [hK1]; rfl)
    obtain ⟨t9, a9, b9⟩ := h Γ ok hP _ r M' hk hv hq _ _ cells slots ls (by
      rw [hIΓ]
      exact ⟨q1, ⟨q2.1, q2.2.1, fun z hz => by
        rcases List.mem_append.mp hz with h | h
        · exact hi2.2.1.2.2 z h
        · obtain ⟨w, -, hw⟩ := List.mem_map.mp h
          rw [← hw]
          exact haA⟩, q3, q4⟩) hl _ hheap X'
    exact ⟨t9, step t9 a9, b9⟩
  · rw [jb_none (show jcopy t a0 sp a dp n M = none from if_neg hc)] at hk
    cases hk
end JCOPY
