/-! FROM J TO A CONTRACT, and calls. -/
set_option maxRecDepth 100000
section JIMPL
theorem jA_dom {M : Mem} {a : Nat} (h : (mK M a).isSome = true) : jA M a := Or.inl h
/-- a method without handlers, from the walk of its body -/
theorem impl_of {ρ : Type} {cc : ByteArray} {y : MethodName} {nL d mc ms : Nat} {ret : Option FieldType} {β : Bool} {avs : List Value} {f : JM Mem ρ} {inj : ρ → Option Value} (hy : plainFor y = true) (hlen : (lg_sl avs).length ≤ nL)
    (hJ : ∀ (D : va_G) (dA : Nat → ClassId), J (PM D dA β) (cc, y.cls, nL, d, y.name, ret, []) (lv_args 0 avs) [] 0 f (FRet inj)) : Impl (ws_ y cc nL ret) y d β mc ms avs f inj := by
  intro l D dA M r M' hst hb hf
  refine j_ofW (cc := cc) (maxL := nL) (ret := ret) hy rfl ?_
  intro p e s m args below meth c s₁ B hml htab hv
  obtain ⟨rfl, hR, hK, hFG⟩ := hv
  have hts := atoms_spec (ws := ws_ y cc nL ret) B.pre
  have hts : ∀ w ∈ lw_all, w.before _ s = true := fun w h => hts w (List.mem_cons_of_mem _ h)
  have hown : s.vm.findClass y.cls = some m.cls := findClass_of_methodNamed B.named
  rw [lg_entry_eq]
  have hl := lv_entry avs (n := nL) hlen
  have hsz : s.heap.size = mZ M := hR.1
  let Γ : JC Mem := (p, l, e, (headSpec (ws_ y cc nL ret) { frames := d, cells := mc, slots := ms, locals := 100 * d }).room, s, m, avs.toArray, below, meth, c, jMQ below (jQc D dA M (exMap inj r) M') (jXC D dA M (exMap inj r) M') avs.toArray s mc ms (jA M), jstd D dA β { frames := d, cells := mc, slots := ms, locals := 100 * d } (jA M) s.heap)
  have ok : JOk (cc, y.cls, nL, d, y.name, ret, []) Γ := by
    refine ⟨B.exec, B.bytes, hml, hown, hts, Nat.le_refl _, Nat.le_refl _, (name_of_methodNamed B.named B.method).1, B.returns, B.notSynchronized, ?_, hst⟩
    have h9 : c.exceptionTable.toList = [] := List.eq_nil_iff_forall_not_mem.mpr htab
    show c.exceptionTable.toList.map _ = []
    rw [h9]
    rfl
  have hP : PM D dA β Γ := ⟨jA M, s.heap, rfl, hK, fun q h => Or.inr (by rw [← hsz]; exact h), hFG⟩
  have hS0 : va_S (jA M) s.heap s.heap [] := va_S.rf
  have hI0 : jcI Γ M s.heap [] 0 0 := by
    refine ⟨hR, hS0, fun a h => Or.inl h, ?_⟩
    cases β with
    | true => exact ⟨by show 0 + mC M ≤ mc; rw [Nat.zero_add]; exact hb.1, by show 0 + mS M ≤ ms; rw [Nat.zero_add]; exact hb.2⟩
    | false => exact ⟨rfl, rfl⟩
  have fin : ∀ (M1 : Mem) (H : Heap) (locs : List Loc) (cells slots : Nat), jcI Γ M1 H locs cells slots → cells ≤ mc ∧ slots ≤ ms ∧ (∀ z ∈ locs, (jA M) z.base) ∧ (∀ a, (mK M1 a).isSome = true → jA M a) ∧ Rel D dA M1 H ∧ va_S (jA M) s.heap H locs := by
    intro M1 H locs cells slots hi
    obtain ⟨h1, h2, h3, h4⟩ := hi
    refine ⟨?_, ?_, h2.2.2, h3, h1, h2⟩
    · cases β with
      | true => exact Nat.le_trans (Nat.le_add_right _ _) h4.1
      | false => rw [h4.1]; exact Nat.zero_le _
    · cases β with
      | true => exact Nat.le_trans (Nat.le_add_right _ _) h4.2
      | false => rw [h4.2]; exact Nat.zero_le _
  refine hJ D dA Γ ok hP M r M' hf (fun v e => ?_) (fun q e => ?_) s.heap [] 0 0 _ hI0 (by show lv_has _ c.maxLocals _; rw [hml]; exact hl)
  · refine ⟨jQc D dA M (exMap inj r) M', jXC D dA M (exMap inj r) M', mc, ms, jA M, rfl, fun H locs cells slots hi => ?_⟩
    obtain ⟨h1, h2, h3, h4, h5, h6⟩ := fin M' H locs cells slots hi
    refine ⟨h1, h2, h3, fun t ht hW => ⟨inj v, by rw [e]; rfl, rfl, by rw [ht]; exact h5, h6.F ht, h4⟩⟩
  · intro H locs cells slots ls pc st hi hcov
    obtain ⟨h1, h2, h3, h4, h5, h6⟩ := fin M' H locs cells slots hi
    exact j_out hcov B.notSynchronized (fun t ht hW => ⟨by rw [e]; rfl, by rw [ht]; exact h5, h6.F ht, h4⟩) h3 h1 h2
def JBud (β : Bool) (mc ms c1 s1 : Nat) (M : Mem) : Prop := match β with
  | true => mc + c1 ≤ mC M ∧ ms + s1 ≤ mS M
  | false => mc = 0 ∧ ms = 0
/-- how a caller takes a callee's function into its own: what may be made is handed over and taken back -/
def JAd {ρ : Type} (β β2 : Bool) (mc ms : Nat) (f f' : JM Mem ρ) : Prop := ∀ (M : Mem) (r : Except Nat ρ) (M' : Mem), f' M = some (r, M') → ∃ (c0 s0 : Nat) (M1 : Mem) (c1 s1 : Nat), f (sB M c0 s0) = some (r, M1) ∧ (match β2 with | true => c0 ≤ mc ∧ s0 ≤ ms | false => mc = 0 ∧ ms = 0) ∧ M' = sB M1 c1 s1 ∧ JBud β mc ms c1 s1 M
def jkeep {ρ : Type} (f : JM Mem ρ) : JM Mem ρ := fun M => match f M with
  | some (r, M1) => some (r, sB M1 (mC M) (mS M))
  | none => none
def jpay {ρ : Type} (mc ms : Nat) (f : JM Mem ρ) : JM Mem ρ := fun M => if mc ≤ mC M ∧ ms ≤ mS M then (match f (sB M mc ms) with
  | some (r, M1) => some (r, sB M1 (mC M - mc) (mS M - ms))
  | none => none) else none
theorem jad_id {ρ : Type} {f : JM Mem ρ} : JAd false false 0 0 f f := fun M r M' h => ⟨mC M, mS M, M', mC M', mS M', h, ⟨rfl, rfl⟩, rfl, ⟨rfl, rfl⟩⟩
theorem jad_keep {ρ : Type} {f : JM Mem ρ} : JAd true false 0 0 f (jkeep f) := by
  intro M r M' h
  unfold jkeep at h
  split at h
  · rename_i r1 M1 e
    cases h
    exact ⟨mC M, mS M, M1, mC M, mS M, e, ⟨rfl, rfl⟩, rfl, by show 0 + mC M ≤ mC M; omega, by show 0 + mS M ≤ mS M; omega⟩
  · cases h
theorem jad_pay {ρ : Type} {mc ms : Nat} {f : JM Mem ρ} : JAd true true mc ms f (jpay mc ms f) := by
  intro M r M' h
  unfold jpay at h
  split at h
  · rename_i hc
    split at h
    · rename_i r1 M1 e
      cases h
      exact ⟨mc, ms, M1, _, _, e, ⟨Nat.le_refl _, Nat.le_refl _⟩, rfl, by show mc + (mC M - mc) ≤ mC M; omega, by show ms + (mS M - ms) ≤ mS M; omega⟩
    · cases h
  · cases h
def jcall {ρ : Type} (c b : Nat) (f : JM Mem ρ) : JM Mem ρ := fun M => if mK M b = some (.inl c) then f M else none
end JIMPL
section JCALL
variable {ρ τ : Type} {D : va_G} {dA : Nat → ClassId} {β β2 : Bool} {Y : JY} {env : List (Nat × Value)} {pu st : List Value} {pc : Nat} {F : JF Mem τ} {k : ρ → JM Mem τ} {inj : ρ → Option Value} {f f' : JM Mem ρ} {avs : List Value} {y : MethodName} {cc : ByteArray} {nL d2 mc ms : Nat} {ret : Option FieldType} {ws : List Cond}
/-- a call's two ends, as the kit's rows have them -/
def JEnd (Γ : JC Mem) (T : State) (locs : List Loc) (cells slots : Nat) (avs : List Value) (ls : Array Slot) (pc : Nat) (st pu : List Value) (Qc : Array Value → State → Outcome → State → Prop) (XC : Addr → State → State → Prop) (mc ms : Nat) (free : Addr → Prop) : Prop :=
  (∃ (v : Option Value) (vm₁ : Vm) (B : Pt), (jcS Γ).WarmedH vm₁ ∧ Stand (jcP Γ) (jcL Γ) (jcE Γ) (jcR Γ) (jcS Γ) (jcM Γ) (jcA Γ) (jcB Γ) (jcH Γ) (jcC Γ) B.U B.locs B.cells B.slots ∧ PostOf Qc mc ms free ⟨T.setVm vm₁, locs, cells, slots⟩ avs.toArray v B ∧
      ∀ target, Steps (jcP Γ).tables (jcE Γ) (jcB Γ) (B.U.setTop (F0 (jcM Γ) (pc + 3) ls (v.toList ++ pu))) target → Steps (jcP Γ).tables (jcE Γ) (jcB Γ) (T.setTop (F0 (jcM Γ) pc ls st)) target) ∨
    (∃ (q : Addr) (vm₁ : Vm) (B : Pt), (jcS Γ).WarmedH vm₁ ∧ Stand (jcP Γ) (jcL Γ) (jcE Γ) (jcR Γ) (jcS Γ) (jcM Γ) (jcA Γ) (jcB Γ) (jcH Γ) (jcC Γ) B.U B.locs B.cells B.slots ∧ jPost XC mc ms free ⟨T.setVm vm₁, locs, cells, slots⟩ avs.toArray q B ∧
      Steps (jcP Γ).tables (jcE Γ) (jcB Γ) (T.setTop (F0 (jcM Γ) pc ls st)) ((B.U.setTop (F0 (jcM Γ) pc ls pu)).pushFrame (.throwing q)))
/-- what must hold for a call: words, room, the callee's function -/
def JCw (Y : JY) (ws : List Cond) (y : MethodName) (cc : ByteArray) (nL : Nat) (ret : Option FieldType) (d2 : Nat) : Prop := d2 + 1 ≤ Y.2.2.2.1 ∧ nL ≤ 80 ∧ GoodIn lw_all ws ∧ Cond.initialized y.cls ∈ lw_all ∧ (y.cls ≠ "java/lang/invoke/MethodHandle" ∧ y.cls ≠ "java/lang/invoke/VarHandle")
theorem std_call {R : Room} {A : Nat → Prop} {H0 : Heap} {M M1 : Mem} {H : Heap} {locs L : List Loc} {cells slots c0 s0 c1 s1 : Nat} {st₀ t : State} (hi : jstd D dA β R A H0 M H locs cells slots) (hA : ∀ q, H0.size ≤ q → A q) (h0 : st₀.heap = H) (hR : Rel D dA M1 t.heap) (hF : va_F (jA (sB M c0 s0)) st₀ t) (hdom : ∀ a, (mK M1 a).isSome = true → jA (sB M c0 s0) a) (hL : ∀ q ∈ L, jA (sB M c0 s0) q.base)
    (hbud : JBud β mc ms c1 s1 M) : jstd D dA β R A H0 (sB M1 c1 s1) t.heap (locs ++ L) (cells + mc) (slots + ms) := by
  obtain ⟨h1, h2, h3, h4⟩ := hi
  have hz : H0.size ≤ mZ M := by rw [← h1.1]; exact h2.1
  have hjA : ∀ q, jA (sB M c0 s0) q → A q := fun q h => by
    rcases h with h | h
    · exact h3 q h
    · exact hA q (Nat.le_trans hz h)
  refine ⟨hR, ⟨Nat.le_trans h2.1 (by rw [← h0]; exact hF.1), fun q g1 g2 => ?_, fun z hz => ?_⟩, fun a ha => hjA a (hdom a ha), ?_⟩
  · rw [hF.2 q (by rw [h0]; exact Nat.lt_of_lt_of_le g1 h2.1) (fun h => g2 (hjA q h)), h0]
    exact h2.2.1 q g1 g2
  · rcases List.mem_append.mp hz with h | h
    · exact h2.2.2 z h
    · exact hjA _ (hL z h)
  · cases β with
    | true =>
      have a1 := h4.1
      have a2 := h4.2
      have b1 := hbud.1
      have b2 := hbud.2
      exact ⟨by show cells + mc + c1 ≤ R.cells; omega, by show slots + ms + s1 ≤ R.slots; omega⟩
    | false =>
      refine ⟨?_, ?_⟩
      · rw [h4.1, hbud.1]
      · rw [h4.2, hbud.2]
theorem j_core (hcov : Y.2.2.2.2.2.2.all (fun x => !(decide (x.1 ≤ pc) && decide (pc < x.2.1))) = true) (h : ∀ v, J (PM D dA β) Y env ((inj v).toList ++ pu) (pc + 3) (k v) F) (hcat : (pu.map fun v => v.category).sum ≤ 8) (hw : JCw Y ws y cc nL ret d2) (hws : ws = Cond.code y cc nL ret :: lw_all) (hI : Impl ws y d2 β2 mc ms avs f inj) (had : JAd β β2 mc ms f f') {Γ : JC Mem} (ok : JOk Y Γ) (hP : PM D dA β Γ) {M M' : Mem} {r : Except Nat τ} (hk : jb f' k M = some (r, M')) (hv : ∀ v, r = .ok v → F Γ v M') (hq : ∀ q, r = .error q → JT Γ q M') {H : Heap} {locs : List Loc} {cells slots : Nat} {ls : Array Slot} (hi : jcI Γ M H locs cells slots) (hl : lv_has ls (jcC Γ).maxLocals env)
    (hcall : ∀ (Pc : Array Value → State → Prop) (Qc : Array Value → State → Outcome → State → Prop) (XC : Addr → State → State → Prop) (free : Addr → Prop) (T : State), T.heap = H → Stand (jcP Γ) (jcL Γ) (jcE Γ) (jcR Γ) (jcS Γ) (jcM Γ) (jcA Γ) (jcB Γ) (jcH Γ) (jcC Γ) T locs cells slots →
      vx_Back (jcL Γ) (jcR Γ) (jcP Γ) (jcE Γ) (jcB Γ) (jcS Γ) (jcA Γ) y 3 8 (PreOf (jcR Γ) mc ms Pc) (PostOf Qc mc ms free) (jPost XC mc ms free) → (∀ vm₁, (jcS Γ).WarmedH vm₁ → PreOf (jcR Γ) mc ms Pc ⟨T.setVm vm₁, locs, cells, slots⟩ avs.toArray) → JEnd Γ T locs cells slots avs ls pc st pu Qc XC mc ms free) :
    W (jcP Γ) (jcL Γ) (jcE Γ) (jcR Γ) (jcS Γ) (jcM Γ) (jcA Γ) (jcB Γ) (jcH Γ) (jcC Γ) H locs cells slots (jcQ Γ) (F0 (jcM Γ) pc ls st) := by
  obtain ⟨A, H0, hIΓ, hKK, hA, hFG⟩ := id hP
  have hi2 := hi
  rw [hIΓ] at hi2
  obtain ⟨hd, hnL, hgood, hini, hyy⟩ := hw
  -- what the callee did
  have hcase : ∃ (r1 : Except Nat ρ) (M2 : Mem), f' M = some (r1, M2) := by
    rcases jb_cases hk with ⟨v, M1, e, -⟩ | ⟨q, e, -⟩
    · exact ⟨_, _, e⟩
    · exact ⟨_, _, e⟩
  obtain ⟨r1, M2, ef⟩ := hcase
  obtain ⟨c0, s0, M1, c1, s1, ef1, hb2, eM2, hbud⟩ := had M r1 M2 ef
  have hrun := hI (jcL Γ) D dA (sB M c0 s0) r1 M1 ok.st hb2 ef1
  have hroom : cells + mc ≤ (jcR Γ).cells ∧ slots + ms ≤ (jcR Γ).slots := by
    obtain ⟨-, -, -, h4⟩ := hi2
    cases β with
    | true =>
      have a1 := h4.1
      have a2 := h4.2
      have b1 := hbud.1
      have b2 := hbud.2
      exact ⟨by omega, by omega⟩
    | false => exact ⟨by rw [h4.1, hbud.1]; exact Nat.zero_le _, by rw [h4.2, hbud.2]; exact Nat.zero_le _⟩
  have hgw : ∀ w ∈ ws, ∀ (a' : Array Value) (U : State), (jcS Γ).WarmedH U.vm → w.before a' U = true := fun w hw a' U hW => word_at hW (hgood w hw).2 (ok.hts w (hgood w hw).1)
  have hback : vx_Back (jcL Γ) (jcR Γ) (jcP Γ) (jcE Γ) (jcB Γ) (jcS Γ) (jcA Γ) y 3 8 (PreOf (jcR Γ) mc ms (jPc D dA avs (sB M c0 s0))) (PostOf (jQc D dA (sB M c0 s0) (exMap inj r1) M1) mc ms (jA (sB M c0 s0))) (jPost (jXC D dA (sB M c0 s0) (exMap inj r1) M1) mc ms (jA (sB M c0 s0))) := by
    refine j_back (bytes := cc) (maxL := nL) (ret := ret) hrun ?_ rfl rfl ?_ ?_ hgw (by rw [hws]; exact List.mem_cons_self) ?_
    · intro a U g mk h9
      obtain ⟨h91, h92, h93, h94⟩ := h9
      exact ⟨h91, h92, h93.calling, h94.calling⟩
    · exact Nat.le_trans hd ok.fr
    · show 8 + (nL + 11) + 100 * d2 ≤ _
      have := ok.lo
      omega
    · intro a' U hW
      exact word_at hW (Or.inl (by first | rfl | simp [Cond.onTables, Cond.keeps, Cond.steady])) (ok.hts _ hini)
  intro T hT X
  have hpre : ∀ vm₁, (jcS Γ).WarmedH vm₁ → PreOf (jcR Γ) mc ms (jPc D dA avs (sB M c0 s0)) ⟨T.setVm vm₁, locs, cells, slots⟩ avs.toArray := fun vm₁ hW => ⟨hroom.1, hroom.2, rfl, by show Rel D dA (sB M c0 s0) T.heap; rw [hT]; exact hi2.1, hKK.moved (U := T.setVm vm₁) hW, by
      show FG dA (jA (sB M c0 s0)) (T.setVm vm₁) T.heap
      rw [hT]
      exact hFG.go (U := T.setVm vm₁) hW hi2.2.1.2.1 (fun q hq => by
        rcases hq with h | h
        · exact hi2.2.2.1 q h
        · exact hA q (Nat.le_trans hi2.2.1.1 (by rw [hi2.1.1]; exact h))) hT⟩
  rcases hcall _ _ _ _ T hT X hback hpre with ⟨v, vm₁, ⟨U', l2, c2, n2⟩, hW₁, X', ⟨g', mk, t, L, e1, e2, hqc, h1, hL, h2, h3⟩, hst⟩ | ⟨q, vm₁, ⟨U', l2, c2, n2⟩, hW₁, X', ⟨g', mk, t, L, e1, e2, hxc, h1, hL, h2, h3⟩, hst⟩
  · obtain ⟨v2, hr1, hv2, hR, hF, hdom⟩ := hqc
    cases hv2
    cases r1 with
    | error q => cases hr1
    | ok v1 =>
      cases hr1
      dsimp only [Pt.U, Pt.locs, Pt.cells, Pt.slots] at e1 e2 h1 h2 h3 X' hst
      subst h1; subst h2; subst h3
      have hstd := std_call (st₀ := (T.setVm vm₁).calling g' mk avs.toArray) (c1 := c1) (s1 := s1) hi2 hA (by show T.heap = H; exact hT) hR hF hdom hL hbud
      have hcont := h v1 Γ ok hP M2 r M' (by rw [jb_ok ef] at hk; exact hk) hv hq t.heap (locs ++ L) (cells + mc) (slots + ms) ls (by rw [hIΓ, eM2]; exact hstd) hl
      obtain ⟨t2, a1, b1⟩ := hcont U' e1 X'
      exact ⟨t2, hst t2 a1, b1⟩
  · obtain ⟨hr1, hR, hF, hdom⟩ := hxc
    cases r1 with
    | ok v => cases hr1
    | error q1 =>
      cases hr1
      dsimp only [Pt.U, Pt.locs, Pt.cells, Pt.slots] at e1 e2 h1 h2 h3 X' hst
      subst h1; subst h2; subst h3
      have hstd := std_call (st₀ := (T.setVm vm₁).calling g' mk avs.toArray) (c1 := c1) (s1 := s1) hi2 hA (by show T.heap = H; exact hT) hR hF hdom hL hbud
      rw [jb_err ef] at hk
      cases hk
      have hcont := hq q rfl t.heap (locs ++ L) (cells + mc) (slots + ms) ls pc pu (by rw [hIΓ, eM2]; exact hstd) (j_uncov ok hcov)
      obtain ⟨t2, a1, b1⟩ := hcont U' e1 X'
      exact ⟨t2, hst.trans a1, b1⟩
end JCALL
