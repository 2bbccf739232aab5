/-! CALLS whose throws are told by a premise; contracts of methods that let the machine's own throw out. -/
section JCALLE
variable {ρ τ : Type} {D : va_G} {dA : Nat → ClassId} {β β2 : Bool} {Y : JY} {env : List (Nat × Value)} {pu st as : List Value} {pc idx c b : Nat} {F : JF Mem τ} {k : ρ → JM Mem τ} {inj : ρ → Option Value} {f f' : JM Mem ρ} {avs : List Value} {y : MethodName} {cc : ByteArray} {nL d2 mc ms : Nat} {ret : Option FieldType} {ws : List Cond}
/-- q was thrown at pc, the memory is M -/
def JTa (Γ : JC Mem) (pc : Nat) (env : List (Nat × Value)) (q : Nat) (M : Mem) : Prop :=
  ∀ (H : Heap) (locs : List Loc) (cells slots : Nat) (ls : Array Slot) (st : List Value), jcI Γ M H locs cells slots → lv_has ls (jcC Γ).maxLocals env →
    vx_W (jcP Γ) (jcL Γ) (jcE Γ) (jcR Γ) (jcS Γ) (jcM Γ) (jcA Γ) (jcB Γ) (jcH Γ) (jcC Γ) H locs cells slots (jcQ Γ) (F0 (jcM Γ) pc ls st) q
theorem j_coreE (hcat : (pu.map fun v => v.category).sum ≤ 8) (hw : JCw Y ws y cc nL ret d2) (hws : ws = Cond.code y cc nL ret :: lw_all) (hI : Impl ws y d2 β2 mc ms avs f inj) (had : JAd β β2 mc ms f f') {Γ : JC Mem} (ok : JOk Y Γ) (hP : PM D dA β Γ) {M M2 : Mem} {r1 : Except Nat ρ} (ef : f' M = some (r1, M2)) (hok : ∀ v, r1 = .ok v → JG Γ (pc + 3) env ((inj v).toList ++ pu) M2) (herr : ∀ q, r1 = .error q → JTa Γ pc env q M2) {H : Heap} {locs : List Loc} {cells slots : Nat} {ls : Array Slot} (hi : jcI Γ M H locs cells slots) (hl : lv_has ls (jcC Γ).maxLocals env)
    (hcall : ∀ (Pc : Array Value → State → Prop) (Qc : Array Value → State → Outcome → State → Prop) (XC : Addr → State → State → Prop) (free : Addr → Prop) (T : State), T.heap = H → Stand (jcP Γ) (jcL Γ) (jcE Γ) (jcR Γ) (jcS Γ) (jcM Γ) (jcA Γ) (jcB Γ) (jcH Γ) (jcC Γ) T locs cells slots →
      vx_Back (jcL Γ) (jcR Γ) (jcP Γ) (jcE Γ) (jcB Γ) (jcS Γ) (jcA Γ) y 3 8 (PreOf (jcR Γ) mc ms Pc) (PostOf Qc mc ms free) (jPost XC mc ms free) → (∀ vm₁, (jcS Γ).WarmedH vm₁ → PreOf (jcR Γ) mc ms Pc ⟨T.setVm vm₁, locs, cells, slots⟩ avs.toArray) → JEnd Γ T locs cells slots avs ls pc st pu Qc XC mc ms free) :
    W (jcP Γ) (jcL Γ) (jcE Γ) (jcR Γ) (jcS Γ) (jcM Γ) (jcA Γ) (jcB Γ) (jcH Γ) (jcC Γ) H locs cells slots (jcQ Γ) (F0 (jcM Γ) pc ls st) := by
  obtain ⟨A, H0, hIΓ, hKK, hA, hFG⟩ := id hP
  have hi2 := hi
  rw [hIΓ] at hi2
  obtain ⟨hd, hnL, hgood, hini, hyy⟩ := hw
  obtain ⟨c0, s0, M1, c1, s1, ef1, hb2, eM2, hbud⟩ := had M r1 M2 ef
  have hrun := hI (jcL Γ) D dA (sB M c0 s0) r1 M1 ok.st hb2 ef1
  have hroom : cells + mc ≤ (jcR Γ).cells ∧ slots + ms ≤ (jcR Γ).slots := by
    obtain ⟨-, -, -, h4⟩ := hi2
    cases β with
    | true =>
      have a1 := h4.1
      have a2 := h4.2
      have b1 := hbud.1
      have b2 := hbud.2
      exact ⟨by omega, by omega⟩
    | false => exact ⟨by rw [h4.1, hbud.1]; exact Nat.zero_le _, by rw [h4.2, hbud.2]; exact Nat.zero_le _⟩
  have hgw : ∀ w ∈ ws, ∀ (a' : Array Value) (U : State), (jcS Γ).WarmedH U.vm → w.before a' U = true := fun w hw a' U hW => word_at hW (hgood w hw).2 (ok.hts w (hgood w hw).1)
  have hback : vx_Back (jcL Γ) (jcR Γ) (jcP Γ) (jcE Γ) (jcB Γ) (jcS Γ) (jcA Γ) y 3 8 (PreOf (jcR Γ) mc ms (jPc D dA avs (sB M c0 s0))) (PostOf (jQc D dA (sB M c0 s0) (exMap inj r1) M1) mc ms (jA (sB M c0 s0))) (jPost (jXC D dA (sB M c0 s0) (exMap inj r1) M1) mc ms (jA (sB M c0 s0))) := by
    refine j_back (bytes := cc) (maxL := nL) (ret := ret) hrun ?_ rfl rfl ?_ ?_ hgw (by rw [hws]; exact List.mem_cons_self) ?_
    · intro a U g mk h9
      obtain ⟨h91, h92, h93, h94⟩ := h9
      exact ⟨h91, h92, h93.calling, h94.calling⟩
    · exact Nat.le_trans hd ok.fr
    · show 8 + (nL + 11) + 100 * d2 ≤ _
      have := ok.lo
      omega
    · intro a' U hW
      exact word_at hW (Or.inl (by first | rfl | simp [Cond.onTables, Cond.keeps, Cond.steady])) (ok.hts _ hini)
  intro T hT X
  have hpre : ∀ vm₁, (jcS Γ).WarmedH vm₁ → PreOf (jcR Γ) mc ms (jPc D dA avs (sB M c0 s0)) ⟨T.setVm vm₁, locs, cells, slots⟩ avs.toArray := fun vm₁ hW => ⟨hroom.1, hroom.2, rfl, by show Rel D dA (sB M c0 s0) T.heap; rw [hT]; exact hi2.1, hKK.moved (U := T.setVm vm₁) hW, by
      show FG dA (jA (sB M c0 s0)) (T.setVm vm₁) T.heap
      rw [hT]
      exact hFG.go (U := T.setVm vm₁) hW hi2.2.1.2.1 (fun q hq => by
        rcases hq with h | h
        · exact hi2.2.2.1 q h
        · exact hA q (Nat.le_trans hi2.2.1.1 (by rw [hi2.1.1]; exact h))) hT⟩
  rcases hcall _ _ _ _ T hT X hback hpre with ⟨v, vm₁, ⟨U', l2, c2, n2⟩, hW₁, X', ⟨g', mk, t, L, e1, e2, hqc, h1, hL, h2, h3⟩, hst⟩ | ⟨q, vm₁, ⟨U', l2, c2, n2⟩, hW₁, X', ⟨g', mk, t, L, e1, e2, hxc, h1, hL, h2, h3⟩, hst⟩
  · obtain ⟨v2, hr1, hv2, hR, hF, hdom⟩ := hqc
    cases hv2
    cases r1 with
    | error q => cases hr1
    | ok v1 =>
      cases hr1
      dsimp only [Pt.U, Pt.locs, Pt.cells, Pt.slots] at e1 e2 h1 h2 h3 X' hst
      subst h1; subst h2; subst h3
      have hstd := std_call (st₀ := (T.setVm vm₁).calling g' mk avs.toArray) (c1 := c1) (s1 := s1) hi2 hA (by show T.heap = H; exact hT) hR hF hdom hL hbud
      have hcont := hok v1 rfl t.heap (locs ++ L) (cells + mc) (slots + ms) ls (by rw [hIΓ, eM2]; exact hstd) hl
      obtain ⟨t2, a1, b1⟩ := hcont U' e1 X'
      exact ⟨t2, hst t2 a1, b1⟩
  · obtain ⟨hr1, hR, hF, hdom⟩ := hxc
    cases r1 with
    | ok v => cases hr1
    | error q1 =>
      cases hr1
      dsimp only [Pt.U, Pt.locs, Pt.cells, Pt.slots] at e1 e2 h1 h2 h3 X' hst
      subst h1; subst h2; subst h3
      have hstd := std_call (st₀ := (T.setVm vm₁).calling g' mk avs.toArray) (c1 := c1) (s1 := s1) hi2 hA (by show T.heap = H; exact hT) hR hF hdom hL hbud
      have hcont := herr q rfl t.heap (locs ++ L) (cells + mc) (slots + ms) ls pu (by rw [hIΓ, eM2]; exact hstd) hl
      obtain ⟨t2, a1, b1⟩ := hcont U' e1 X'
      exact ⟨t2, hst.trans a1, b1⟩
theorem jg_callV (hd : decode Y.1 pc = .ok (.invokevirtual idx, 3)) (hc : c < 9) (hcat : JCat pu) (hw : JCw Y (ws_ y cc nL ret) y cc nL ret d2) (w1 : Cond.methodLink Y.2.1 idx y ∈ lw_all) (w2 : Cond.instanceMethod y ∈ lw_all) (w3 : Cond.selects (jC c) y y ∈ lw_all) (w5 : Cond.code y cc nL ret ∈ lw_all) (hn : JNp y.desc as.length) (hI : Impl (ws_ y cc nL ret) y d2 β2 mc ms (.ref b :: as) f inj) (had : JAd β β2 mc ms f f') (hst : as.reverse ++ .ref b :: pu = st) {Γ : JC Mem} (ok : JOk Y Γ) (hP : PM D dA β Γ) {M M2 : Mem} (hK : mK M b = some (.inl c)) {r1 : Except Nat ρ} (ef : f' M = some (r1, M2)) (hok : ∀ v, r1 = .ok v → JG Γ (pc + 3) env ((inj v).toList ++ pu) M2) (herr : ∀ q, r1 = .error q → JTa Γ pc env q M2) : JG Γ pc env st M := by
  intro H locs cells slots ls hi hl
  obtain ⟨A, H0, hIΓ, hKK, hA, hFG⟩ := id hP
  have hi2 := hi
  rw [hIΓ] at hi2
  obtain ⟨cellB, g1, g2, g3⟩ := va_recv (q0 := 0) hKK.1 (rel_P hi2.1 hK) (jcl_at hc) rfl
  exact j_coreE hcat hw rfl hI had ok hP ef hok herr hi hl (fun Pc Qc XC free T hT X hB hpre => vx_callV (C := jC c) (bytes := cc) (maxL := nL) (ret := ret) X ok.exec ok.own (ok.hts _ w1) (ok.hts _ w2) (ok.hts _ w3) (ok.hts _ w5) hw.2.2.2.2 hB (by rw [hT]; exact g1) g2 g3 rfl hl.1 (argsL := as) (jnp hn) hst.symm (lv_room hcat) (by rw [ok.code]; exact hd) hpre)
/-- try, with what a throw comes to -/
def jtry {μ α τ : Type} (x : JM μ α) (f : α → JM μ τ) (h : Nat → JM μ τ) : JM μ τ := fun M => match x M with
  | none => none
  | some (.error q, M1) => h q M1
  | some (.ok v, M1) => f v M1
theorem jtry_cases {μ α τ : Type} {x : JM μ α} {f : α → JM μ τ} {h : Nat → JM μ τ} {M M' : μ} {r : Except Nat τ} (e : jtry x f h M = some (r, M')) : ∃ (r1 : Except Nat α) (M1 : μ), x M = some (r1, M1) ∧ (∀ v, r1 = .ok v → f v M1 = some (r, M')) ∧ ∀ q, r1 = .error q → h q M1 = some (r, M') := by
  unfold jtry at e
  split at e
  · cases e
  · rename_i q M1 ex
    exact ⟨_, _, ex, (fun v hv => nomatch hv), (fun q' hq => by cases hq; exact e)⟩
  · rename_i v M1 ex
    exact ⟨_, _, ex, (fun v' hv => by cases hv; exact e), (fun q hq => nomatch hq)⟩
/-- caught by a row of the method's table -/
theorem j_catchX {Γ : JC Mem} (ok : JOk Y Γ) (hP : PM D dA β Γ) {E name : String} {q : Nat} {M : Mem} (pre suf : List (Nat × Nat × Nat × Nat)) {a z hpc ct : Nat} (htab : Y.2.2.2.2.2.2 = pre ++ (a, z, hpc, ct) :: suf) (hin : (decide (a ≤ pc) && decide (pc < z)) = true) (hct : ct ≠ 0)
    (hpass : ∀ w ∈ pre, w.2.2.2 ≠ 0 ∧ E = "java/lang/ArrayIndexOutOfBoundsException" ∧ Cond.classLink Y.2.1 w.2.2.2 "java/lang/NullPointerException" ∈ lw_all) (wl : Cond.classLink Y.2.1 ct name ∈ lw_all) (wc : Cond.castable E name ∈ lw_tbl) (hG : JG Γ hpc env [.ref q] M) : JXat E Γ pc env q M := by
  intro H locs cells slots ls st ce hi hl hce hv hcl
  obtain ⟨A, H0, hIΓ, hKK, hA, hFG⟩ := hP
  have ht := ok.tab
  rw [htab] at ht
  obtain ⟨p1, p2, e1, e2, e3⟩ := List.map_eq_append_iff.mp ht
  obtain ⟨x, s1, e4, e5, e6⟩ := List.map_eq_cons_iff.mp e3
  rw [e4] at e1
  have ex : x.startPc = a ∧ x.endPc = z ∧ x.handlerPc = hpc ∧ x.catchType = ct := by
    simp only [Prod.mk.injEq] at e5
    exact e5
  have hrow := hG H locs cells slots ls hi hl
  rw [← ex.2.2.1] at hrow
  refine vx_catch ok.own p1 x s1 e1 (fun w hw => ?_) ?_ (by rw [ex.2.2.2]; exact hct) (by rw [ex.2.2.2]; exact ok.hts _ wl) (va_Nw.use rfl (hKK.2 _ (jnw_in wc rfl))) hce hv hcl hrow
  · have h9 : (w.startPc, w.endPc, w.handlerPc, w.catchType) ∈ pre := by rw [← e2]; exact List.mem_map.mpr ⟨w, hw, rfl⟩
    obtain ⟨h91, h92, h93⟩ := hpass _ h9
    exact Or.inr ⟨h91, _, ok.hts _ h93, by rw [h92]; exact hFG.2.2.2.2.2.2.1⟩
  · unfold covers
    rw [ex.1, ex.2.1]
    exact hin
end JCALLE
section JIMPT
variable {y : MethodName} {cc : ByteArray} {nL d : Nat} {ret : Option FieldType} {avs : List Value} {C : Mem → Prop} {dq z c s0 : Nat} {E : String}
/-- called with avs at M, y lets E out -/
def RunsT (l : Launch) (D : va_G) (dA : Nat → ClassId) (ws : List Cond) (y : MethodName) (d mc ms : Nat) (avs : List Value) (M : Mem) (q : Nat) (M' : Mem) (E : String) : Prop :=
  jMet l y ws { frames := d, cells := mc, slots := ms, locals := 100 * d } (jPc D dA avs M) (fun _ _ _ _ => False) (fun q' st t => q' = q ∧ Rel D dA M' t.heap ∧ va_F (jA M) st t ∧ (∀ a, (mK M' a).isSome = true → jA M a) ∧ ∃ ce : Cell, t.heap[q]? = some ce ∧ ce.vm = .none ∧ st.vm.findClass E = some ce.cls) mc ms (jA M)
def ImplT (ws : List Cond) (y : MethodName) (d : Nat) (avs : List Value) (C : Mem → Prop) (dq z c s0 : Nat) (E : String) : Prop :=
  ∀ (l : Launch) (D : va_G) (dA : Nat → ClassId) (M : Mem), l.stackTraces = false → C M → mC M = c → mS M = s0 → RunsT l D dA ws y d c s0 avs M (mZ M + dq) (jbumpM M z c s0) E
theorem implT_of (hy : plainFor y = true) (hlen : (lg_sl avs).length ≤ nL)
    (hJ : ∀ (D : va_G) (dA : Nat → ClassId) (Γ : JC Mem), JOk (cc, y.cls, nL, d, y.name, ret, []) Γ → PM D dA true Γ → ∀ M : Mem, C M → mC M = c → mS M = s0 → (∀ (pc : Nat) (env : List (Nat × Value)), JXat E Γ pc env (mZ M + dq) (jbumpM M z c s0)) → JG Γ 0 (lv_args 0 avs) [] M) : ImplT (ws_ y cc nL ret) y d avs C dq z c s0 E := by
  intro l D dA M hst hC hc1 hs1
  unfold RunsT
  refine j_ofW (cc := cc) (maxL := nL) (ret := ret) hy rfl ?_
  intro p e s m args below meth c₀ s₁ B hml htab hv
  obtain ⟨rfl, hR, hK, hFG⟩ := hv
  have hts := atoms_spec (ws := ws_ y cc nL ret) B.pre
  have hts : ∀ w ∈ lw_all, w.before _ s = true := fun w h => hts w (List.mem_cons_of_mem _ h)
  have hown : s.vm.findClass y.cls = some m.cls := findClass_of_methodNamed B.named
  rw [lg_entry_eq]
  have hl := lv_entry avs (n := nL) hlen
  have hsz : s.heap.size = mZ M := hR.1
  let Γ : JC Mem := (p, l, e, (headSpec (ws_ y cc nL ret) { frames := d, cells := c, slots := s0, locals := 100 * d }).room, s, m, avs.toArray, below, meth, c₀, jMQ below (fun _ _ _ _ => False) (fun q' st t => q' = mZ M + dq ∧ Rel D dA (jbumpM M z c s0) t.heap ∧ va_F (jA M) st t ∧ (∀ a, (mK (jbumpM M z c s0) a).isSome = true → jA M a) ∧ ∃ ce : Cell, t.heap[mZ M + dq]? = some ce ∧ ce.vm = .none ∧ st.vm.findClass E = some ce.cls) avs.toArray s c s0 (jA M), jstd D dA true { frames := d, cells := c, slots := s0, locals := 100 * d } (jA M) s.heap)
  have ok : JOk (cc, y.cls, nL, d, y.name, ret, []) Γ := by
    refine ⟨B.exec, B.bytes, hml, hown, hts, Nat.le_refl _, Nat.le_refl _, (name_of_methodNamed B.named B.method).1, B.returns, B.notSynchronized, ?_, hst⟩
    have h9 : c₀.exceptionTable.toList = [] := List.eq_nil_iff_forall_not_mem.mpr htab
    show c₀.exceptionTable.toList.map _ = []
    rw [h9]
    rfl
  have hP : PM D dA true Γ := ⟨jA M, s.heap, rfl, hK, fun q h => Or.inr (by rw [← hsz]; exact h), hFG⟩
  have hS0 : va_S (jA M) s.heap s.heap [] := va_S.rf
  have hI0 : jcI Γ M s.heap [] 0 0 := by
    refine ⟨hR, hS0, fun a h => Or.inl h, ?_⟩
    exact ⟨by show 0 + mC M ≤ c; omega, by show 0 + mS M ≤ s0; omega⟩
  have fin : ∀ (M1 : Mem) (H : Heap) (locs : List Loc) (cells slots : Nat), jcI Γ M1 H locs cells slots → cells ≤ c ∧ slots ≤ s0 ∧ (∀ z ∈ locs, (jA M) z.base) ∧ (∀ a, (mK M1 a).isSome = true → jA M a) ∧ Rel D dA M1 H ∧ va_S (jA M) s.heap H locs := by
    intro M1 H locs cells slots hi
    obtain ⟨h1, h2, h3, h4⟩ := hi
    refine ⟨?_, ?_, h2.2.2, h3, h1, h2⟩
    · exact Nat.le_trans (Nat.le_add_right _ _) h4.1
    · exact Nat.le_trans (Nat.le_add_right _ _) h4.2
  refine hJ D dA Γ ok hP M hC hc1 hs1 (fun pc env => ?_) s.heap [] 0 0 _ hI0 (by show lv_has _ c₀.maxLocals _; rw [hml]; exact hl)
  intro H locs cells slots ls st ce hi hl9 hce hv hcl
  obtain ⟨h1, h2, h3, h4, h5, h6⟩ := fin _ H locs cells slots hi
  exact j_out (fun x hx => absurd hx (htab x)) B.notSynchronized (fun t ht hW => ⟨rfl, by rw [ht]; exact h5, h6.F ht, h4, ce, by rw [ht]; exact hce, hv, hcl⟩) h3 h1 h2
end JIMPT
section JCALLT
variable {τ : Type} {D : va_G} {dA : Nat → ClassId} {Y : JY} {env : List (Nat × Value)} {pu st as : List Value} {pc idx c b : Nat} {avs : List Value} {y : MethodName} {cc : ByteArray} {nL d2 : Nat} {ret : Option FieldType} {ws : List Cond} {C : Mem → Prop} {dq z c0 s0 : Nat} {E : String}
theorem j_coreT (hcat : (pu.map fun v => v.category).sum ≤ 8) (hw : JCw Y ws y cc nL ret d2) (hws : ws = Cond.code y cc nL ret :: lw_all) (hI : ImplT ws y d2 avs C dq z c0 s0 E) {Γ : JC Mem} (ok : JOk Y Γ) (hP : PM D dA true Γ) {M : Mem} (hC : C (sB M c0 s0)) (hb : c0 ≤ mC M ∧ s0 ≤ mS M) (hX : JXat E Γ pc env (mZ M + dq) (jbumpM M z c0 s0)) {H : Heap} {locs : List Loc} {cells slots : Nat} {ls : Array Slot} (hi : jcI Γ M H locs cells slots) (hl : lv_has ls (jcC Γ).maxLocals env)
    (hcall : ∀ (Pc : Array Value → State → Prop) (Qc : Array Value → State → Outcome → State → Prop) (XC : Addr → State → State → Prop) (free : Addr → Prop) (T : State), T.heap = H → Stand (jcP Γ) (jcL Γ) (jcE Γ) (jcR Γ) (jcS Γ) (jcM Γ) (jcA Γ) (jcB Γ) (jcH Γ) (jcC Γ) T locs cells slots →
      vx_Back (jcL Γ) (jcR Γ) (jcP Γ) (jcE Γ) (jcB Γ) (jcS Γ) (jcA Γ) y 3 8 (PreOf (jcR Γ) c0 s0 Pc) (PostOf Qc c0 s0 free) (jPost XC c0 s0 free) → (∀ vm₁, (jcS Γ).WarmedH vm₁ → PreOf (jcR Γ) c0 s0 Pc ⟨T.setVm vm₁, locs, cells, slots⟩ avs.toArray) → JEnd Γ T locs cells slots avs ls pc st pu Qc XC c0 s0 free) :
    W (jcP Γ) (jcL Γ) (jcE Γ) (jcR Γ) (jcS Γ) (jcM Γ) (jcA Γ) (jcB Γ) (jcH Γ) (jcC Γ) H locs cells slots (jcQ Γ) (F0 (jcM Γ) pc ls st) := by
  obtain ⟨A, H0, hIΓ, hKK, hA, hFG⟩ := id hP
  have hi2 := hi
  rw [hIΓ] at hi2
  obtain ⟨hd, hnL, hgood, hini, hyy⟩ := hw
  have hrun := hI (jcL Γ) D dA (sB M c0 s0) ok.st hC rfl rfl
  unfold RunsT at hrun
  have hroom : cells + c0 ≤ (jcR Γ).cells ∧ slots + s0 ≤ (jcR Γ).slots := by
    have a1 := hi2.2.2.2.1
    have a2 := hi2.2.2.2.2
    exact ⟨by omega, by omega⟩
  have hgw : ∀ w ∈ ws, ∀ (a' : Array Value) (U : State), (jcS Γ).WarmedH U.vm → w.before a' U = true := fun w hw a' U hW => word_at hW (hgood w hw).2 (ok.hts w (hgood w hw).1)
  have hback := by
    refine j_back (R := jcR Γ) (p := jcP Γ) (e := jcE Γ) (below := jcB Γ) (s := jcS Γ) (sargs := jcA Γ) (len := 3) (W9 := 8) (bytes := cc) (maxL := nL) (ret := ret) hrun ?_ rfl rfl ?_ ?_ hgw (by rw [hws]; exact List.mem_cons_self) ?_
    · intro a U g mk h9
      obtain ⟨h91, h92, h93, h94⟩ := h9
      exact ⟨h91, h92, h93.calling, h94.calling⟩
    · exact Nat.le_trans hd ok.fr
    · show 8 + (nL + 11) + 100 * d2 ≤ _
      have := ok.lo
      omega
    · intro a' U hW
      exact word_at hW (Or.inl (by first | rfl | simp [Cond.onTables, Cond.keeps, Cond.steady])) (ok.hts _ hini)
  intro T hT X
  have hpre : ∀ vm₁, (jcS Γ).WarmedH vm₁ → PreOf (jcR Γ) c0 s0 (jPc D dA avs (sB M c0 s0)) ⟨T.setVm vm₁, locs, cells, slots⟩ avs.toArray := fun vm₁ hW => ⟨hroom.1, hroom.2, rfl, by show Rel D dA (sB M c0 s0) T.heap; rw [hT]; exact hi2.1, hKK.moved (U := T.setVm vm₁) hW, by
      show FG dA (jA (sB M c0 s0)) (T.setVm vm₁) T.heap
      rw [hT]
      exact hFG.go (U := T.setVm vm₁) hW hi2.2.1.2.1 (fun q hq => by
        rcases hq with h | h
        · exact hi2.2.2.1 q h
        · exact hA q (Nat.le_trans hi2.2.1.1 (by rw [hi2.1.1]; exact h))) hT⟩
  rcases hcall _ _ _ _ T hT X hback hpre with ⟨v, vm₁, ⟨U', l2, c2, n2⟩, hW₁, X', ⟨g', mk, t, L, e1, e2, hqc, h1, hL, h2, h3⟩, hst⟩ | ⟨q, vm₁, ⟨U', l2, c2, n2⟩, hW₁, X', ⟨g', mk, t, L, e1, e2, hxc, h1, hL, h2, h3⟩, hst⟩
  · exact False.elim hqc
  · obtain ⟨eq1, hR, hF, hdom, ce, hce, hcv, hcl⟩ := hxc
    dsimp only [Pt.U, Pt.locs, Pt.cells, Pt.slots] at e1 e2 h1 h2 h3 X' hst
    subst h1; subst h2; subst h3
    have hstd := std_call (β := true) (mc := c0) (ms := s0) (st₀ := (T.setVm vm₁).calling g' mk avs.toArray) (c1 := mC M - c0) (s1 := mS M - s0) hi2 hA (by show T.heap = H; exact hT) hR hF hdom hL ⟨by omega, by omega⟩
    have hcl2 : (jcS Γ).vm.findClass E = some ce.cls := by
      have h9 : vm₁.findClass E = some ce.cls := hcl
      rw [← hW₁.alike.findClass]
      exact h9
    have eq2 : q = mZ M + dq := eq1
    subst eq2
    have hcont := hX t.heap (locs ++ L) (cells + c0) (slots + s0) ls pu ce (by rw [hIΓ]; exact hstd) hl hce hcv hcl2
    obtain ⟨t2, a1, b1⟩ := hcont U' e1 X'
    exact ⟨t2, hst.trans a1, b1⟩
theorem jg_callVT (hd : decode Y.1 pc = .ok (.invokevirtual idx, 3)) (hc : c < 9) (hcat : JCat pu) (hw : JCw Y (ws_ y cc nL ret) y cc nL ret d2) (w1 : Cond.methodLink Y.2.1 idx y ∈ lw_all) (w2 : Cond.instanceMethod y ∈ lw_all) (w3 : Cond.selects (jC c) y y ∈ lw_all) (w5 : Cond.code y cc nL ret ∈ lw_all) (hn : JNp y.desc as.length) (hI : ImplT (ws_ y cc nL ret) y d2 (.ref b :: as) C dq z c0 s0 E) (hst : as.reverse ++ .ref b :: pu = st) {Γ : JC Mem} (ok : JOk Y Γ) (hP : PM D dA true Γ) {M : Mem} (hK : mK M b = some (.inl c)) (hC : C (sB M c0 s0)) (hb : c0 ≤ mC M ∧ s0 ≤ mS M) (hX : JXat E Γ pc env (mZ M + dq) (jbumpM M z c0 s0)) : JG Γ pc env st M := by
  intro H locs cells slots ls hi hl
  obtain ⟨A, H0, hIΓ, hKK, hA, hFG⟩ := id hP
  have hi2 := hi
  rw [hIΓ] at hi2
  obtain ⟨cellB, g1, g2, g3⟩ := va_recv (q0 := 0) hKK.1 (rel_P hi2.1 hK) (jcl_at hc) rfl
  exact j_coreT hcat hw rfl hI ok hP hC hb hX hi hl (fun Pc Qc XC free T hT X hB hpre => vx_callV (C := jC c) (bytes := cc) (maxL := nL) (ret := ret) X ok.exec ok.own (ok.hts _ w1) (ok.hts _ w2) (ok.hts _ w3) (ok.hts _ w5) hw.2.2.2.2 hB (by rw [hT]; exact g1) g2 g3 rfl hl.1 (argsL := as) (jnp hn) hst.symm (lv_room hcat) (by rw [ok.code]; exact hd) hpre)
end JCALLT
