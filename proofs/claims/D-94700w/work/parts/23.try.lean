/-! J ROWS of calls within a try. -/
set_option maxRecDepth 100000
section JTRY
variable {ρ τ : Type} {D : va_G} {dA : Nat → ClassId} {β β2 : Bool} {Y : JY} {env : List (Nat × Value)} {pu st as : List Value} {pc idx c b : Nat} {F : JF Mem τ} {k : ρ → JM Mem τ} {inj : ρ → Option Value} {f f' : JM Mem ρ} {y : MethodName} {cc : ByteArray} {nL d2 mc ms : Nat} {ret : Option FieldType}
def jpure {α : Type} (g : Mem → α) : JM Mem α := fun M => some (.ok (g M), M)
theorem J_pure {α : Type} {g : Mem → α} {h : α → JM Mem τ} {P : JC Mem → Prop} (hh : ∀ v, J P Y env pu pc (h v) F) : J P Y env pu pc (jb (jpure g) h) F := by
  intro Γ ok hP M r M' hk hv hq
  rw [jb_ok (show jpure g M = some (.ok (g M), M) from rfl)] at hk
  exact hh _ Γ ok hP M r M' hk hv hq
/-- goes on only where C holds -/
noncomputable def jguard (C : Mem → Prop) : JM Mem Unit := fun M => @ite _ (C M) (Classical.propDecidable _) (some (.ok (), M)) none
theorem jguard_ok {C : Mem → Prop} {M : Mem} (h : C M) : jguard C M = some (.ok (), M) := if_pos h
theorem jguard_of {C : Mem → Prop} {M : Mem} {x : Except Nat Unit × Mem} (h : jguard C M = some x) : C M ∧ x = (.ok (), M) := by
  by_cases hC : C M
  · rw [jguard_ok hC] at h
    cases h
    exact ⟨hC, rfl⟩
  · have h9 : jguard C M = none := if_neg hC
    rw [h9] at h
    cases h
def jis (c q : Nat) : JM Mem Unit := fun M => if mK M q = some (.inl c) then some (.ok (), M) else none
/-- a call within a try whose handler takes objects of the class cw -/
theorem J_tryV {cw : Nat} {name : String} {kh : Nat → JM Mem τ} (pre suf : List (Nat × Nat × Nat × Nat)) {a z hpc ct : Nat} (hd : decode Y.1 pc = .ok (.invokevirtual idx, 3)) (hc : c < 9) (hcat : JCat pu) (hw : JCw Y (ws_ y cc nL ret) y cc nL ret d2) (w1 : Cond.methodLink Y.2.1 idx y ∈ lw_all) (w2 : Cond.instanceMethod y ∈ lw_all) (w3 : Cond.selects (jC c) y y ∈ lw_all) (w5 : Cond.code y cc nL ret ∈ lw_all) (hn : JNp y.desc as.length) (hI : Impl (ws_ y cc nL ret) y d2 β2 mc ms (.ref b :: as) f inj) (had : JAd β β2 mc ms f f') (hst : as.reverse ++ .ref b :: pu = st)
    (hcw : cw < 9) (htab : Y.2.2.2.2.2.2 = pre ++ (a, z, hpc, ct) :: suf) (hin : (decide (a ≤ pc) && decide (pc < z)) = true) (hct : ct ≠ 0) (hpre : pre = []) (wl : Cond.classLink Y.2.1 ct name ∈ lw_all) (wc : Cond.castable (jC cw) name ∈ lw_tbl)
    (h : ∀ v, J (PM D dA β) Y env ((inj v).toList ++ pu) (pc + 3) (k v) F) (hh : ∀ q, J (PM D dA β) Y env [.ref q] hpc (kh q) F) : J (PM D dA β) Y env st pc (jtry (jcall c b f') k (fun q => jb (jis cw q) fun _ => kh q)) F := by
  intro Γ ok hP M r M' hk hv hq
  by_cases hK : mK M b = some (.inl c)
  · obtain ⟨r1, M1, ef, ho, he⟩ := jtry_cases hk
    have ef' : f' M = some (r1, M1) := by
      have h9 : jcall c b f' M = f' M := if_pos hK
      rw [← h9]; exact ef
    refine jg_callV hd hc hcat hw w1 w2 w3 w5 hn hI had hst ok hP hK ef' (fun v e => h v Γ ok hP M1 r M' (ho v e) hv hq) (fun q e => ?_)
    have hk2 := he q e
    by_cases hKq : mK M1 q = some (.inl cw)
    · rw [jb_ok (show jis cw q M1 = some (.ok (), M1) from if_pos hKq)] at hk2
      intro H locs cells slots ls st9 hi hl
      obtain ⟨A, H0, hIΓ, hKK, hA, hFG⟩ := id hP
      have hi2 := hi
      rw [hIΓ] at hi2
      obtain ⟨q', h1, cell, g1, g2, g3, -⟩ := (rel_P hi2.1 hKq) 0 _ rfl
      subst hpre
      exact j_catchX ok hP [] suf htab hin hct (fun w hw => nomatch hw) wl wc (hh q Γ ok hP M1 r M' hk2 hv hq) H locs cells slots ls st9 cell hi hl g1 g3 (by rw [g2]; exact (hKK.1.1 cw _ (jcl_at hcw)).2.1)
    · rw [jb_none (show jis cw q M1 = none from if_neg hKq)] at hk2
      cases hk2
  · have h9 : jcall c b f' M = none := if_neg hK
    unfold jtry at hk
    rw [h9] at hk
    cases hk
/-- a call within a try that lets the machine's own throw out, caught -/
theorem J_tryT {C : Mem → Prop} {dq z0 c0 s0 : Nat} {E name : String} {kh : Nat → JM Mem τ} (pre suf : List (Nat × Nat × Nat × Nat)) {a z hpc ct : Nat} (hd : decode Y.1 pc = .ok (.invokevirtual idx, 3)) (hc : c < 9) (hcat : JCat pu) (hw : JCw Y (ws_ y cc nL ret) y cc nL ret d2) (w1 : Cond.methodLink Y.2.1 idx y ∈ lw_all) (w2 : Cond.instanceMethod y ∈ lw_all) (w3 : Cond.selects (jC c) y y ∈ lw_all) (w5 : Cond.code y cc nL ret ∈ lw_all) (hn : JNp y.desc as.length) (hI : ImplT (ws_ y cc nL ret) y d2 (.ref b :: as) C dq z0 c0 s0 E) (hCs : ∀ M m n, C M → C (sB M m n)) (hst : as.reverse ++ .ref b :: pu = st)
    (htab : Y.2.2.2.2.2.2 = pre ++ (a, z, hpc, ct) :: suf) (hin : (decide (a ≤ pc) && decide (pc < z)) = true) (hct : ct ≠ 0) (hpass : ∀ w ∈ pre, w.2.2.2 ≠ 0 ∧ E = "java/lang/ArrayIndexOutOfBoundsException" ∧ Cond.classLink Y.2.1 w.2.2.2 "java/lang/NullPointerException" ∈ lw_all) (wl : Cond.classLink Y.2.1 ct name ∈ lw_all) (wc : Cond.castable E name ∈ lw_tbl)
    (hh : ∀ q, J (PM D dA true) Y env [.ref q] hpc (kh q) F) : J (PM D dA true) Y env st pc (jb (jguard C) fun _ => jb (jcall c b (jpure fun M => mZ M + dq)) fun q => jb (jbump z0 c0 s0) fun _ => kh q) F := by
  intro Γ ok hP M r M' hk hv hq
  rcases jb_cases hk with ⟨v1, M1, e1, hk⟩ | ⟨q1, e1, -⟩
  · obtain ⟨hC, e2⟩ := jguard_of e1
    cases e2
    by_cases hK : mK M b = some (.inl c)
    · rw [jb_ok (show jcall c b (jpure fun M => mZ M + dq) M = some (.ok (mZ M + dq), M) from if_pos hK)] at hk
      by_cases hb : c0 ≤ mC M ∧ s0 ≤ mS M
      · rw [jb_ok (show jbump z0 c0 s0 M = some (.ok (), jbumpM M z0 c0 s0) from if_pos hb)] at hk
        exact jg_callVT hd hc hcat hw w1 w2 w3 w5 hn hI hst ok hP hK (hCs _ _ _ hC) hb (j_catchX ok hP pre suf htab hin hct hpass wl wc (hh _ Γ ok hP _ r M' hk hv hq))
      · rw [jb_none (show jbump z0 c0 s0 M = none from if_neg hb)] at hk
        cases hk
    · rw [jb_none (show jcall c b (jpure fun M => mZ M + dq) M = none from if_neg hK)] at hk
      cases hk
  · obtain ⟨-, e2⟩ := jguard_of e1
    cases e2
/-- a call within a try that throws nothing -/
theorem J_tryF (hd : decode Y.1 pc = .ok (.invokevirtual idx, 3)) (hc : c < 9) (hcat : JCat pu) (hw : JCw Y (ws_ y cc nL ret) y cc nL ret d2) (w1 : Cond.methodLink Y.2.1 idx y ∈ lw_all) (w2 : Cond.instanceMethod y ∈ lw_all) (w3 : Cond.selects (jC c) y y ∈ lw_all) (w5 : Cond.code y cc nL ret ∈ lw_all) (hn : JNp y.desc as.length) (hI : Impl (ws_ y cc nL ret) y d2 β2 mc ms (.ref b :: as) f inj) (had : JAd β β2 mc ms f f') (hst : as.reverse ++ .ref b :: pu = st)
    (h : ∀ v, J (PM D dA β) Y env ((inj v).toList ++ pu) (pc + 3) (k v) F) : J (PM D dA β) Y env st pc (jtry (jcall c b f') k (fun _ => jfail)) F := by
  intro Γ ok hP M r M' hk hv hq
  by_cases hK : mK M b = some (.inl c)
  · obtain ⟨r1, M1, ef, ho, he⟩ := jtry_cases hk
    have ef' : f' M = some (r1, M1) := by
      have h9 : jcall c b f' M = f' M := if_pos hK
      rw [← h9]; exact ef
    refine jg_callV hd hc hcat hw w1 w2 w3 w5 hn hI had hst ok hP hK ef' (fun v e => h v Γ ok hP M1 r M' (ho v e) hv hq) (fun q e => ?_)
    have hk2 := he q e
    cases hk2
  · have h9 : jcall c b f' M = none := if_neg hK
    unfold jtry at hk
    rw [h9] at hk
    cases hk
theorem J_ite {P : JC Mem → Prop} {C : Prop} [Decidable C] {k1 k2 : JM Mem τ} (h1 : C → J P Y env pu pc k1 F) (h2 : ¬ C → J P Y env pu pc k2 F) : J P Y env pu pc (if C then k1 else k2) F := by
  by_cases h : C
  · rw [if_pos h]; exact h1 h
  · rw [if_neg h]; exact h2 h
/-- a tray's row at hand: 0 it's in it, 1 it is missing, 2 beyond -/
def jrowk (a : Nat) (i : Int32) : Mem → Nat := fun M => match mR M a 0 with
  | none => 1
  | some b => match mK M b with
    | some (.inr (_, n)) => if 0 ≤ i.toInt ∧ i.toInt < (n : Int) then 0 else 2
    | _ => 0
end JTRY
