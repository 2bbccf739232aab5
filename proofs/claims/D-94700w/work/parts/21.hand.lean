/-! METHODS WITH HANDLERS: from J to a contract; calls of such methods. -/
section JPayerH
variable {l : Launch} {R : Room} {p : Program} {e : Env} {below : List Frame} {s : State} {sargs : Array Value} {y : MethodName} {len W9 : Nat}
theorem j_backH {ws : List Cond} {rm : Room} {Pc : Array Value → State → Prop} {Qc : Array Value → State → Outcome → State → Prop} {XC : Addr → State → State → Prop} {mc ms : Nat} {free : Addr → Prop} {bytes : ByteArray} {maxL : Nat} {ret : Option FieldType} {hh : List (Nat × Nat × Nat × Nat)}
    (hM : jMet l y ws rm Pc Qc XC mc ms free) (hblind : FrameBlind Pc) (hrc : rm.cells = mc) (hrs : rm.slots = ms)
    (hframes : rm.frames + 1 ≤ R.frames) (hlocals : W9 + (maxL + 11) + rm.locals ≤ R.locals)
    (hws : ∀ w ∈ ws, ∀ a' U, s.WarmedH U.vm → w.before a' U = true) (hcode : Cond.codeWith y bytes maxL ret hh ∈ ws) (hinit : ∀ a' U, s.WarmedH U.vm → (Cond.initialized y.cls).before a' U = true) :
    vx_Back l R p e below s sargs y len W9 (PreOf R mc ms Pc) (PostOf Qc mc ms free) (jPost XC mc ms free) := by
  intro m meth c A g ig mk a X hg hsize hdg hW hn hp
  have h1 : (headSpec ws rm).pre.before a A.U = true := atoms_intro fun w hw => hws w hw _ _ X.warmed
  have h2 : (Cond.codeWith y bytes maxL ret hh).before a A.U = true := hws _ hcode _ _ X.warmed
  have h3 : (Cond.initialized y.cls).before a A.U = true := hinit _ _ X.warmed
  have h4 : A.cells + (headSpec ws rm).room.cells ≤ R.cells := by rw [show (headSpec ws rm).room.cells = mc from hrc]; exact hp.1
  have h5 : A.slots + (headSpec ws rm).room.slots ≤ R.slots := by rw [show (headSpec ws rm).room.slots = ms from hrs]; exact hp.2.1
  have hPc : Pc a (A.U.calling g mk a) := hblind _ _ _ _ hp.2.2
  obtain ⟨U, Ls, c0, s0⟩ := A
  dsimp only [Pt.U, Pt.locs, Pt.cells, Pt.slots] at h1 h2 h3 h4 h5 X hn hPc ⊢
  obtain ⟨m9, methY, cY, hn9, hmY, hcY, -, hlY, -⟩ := Cond.codeWith_spec h2
  cases Option.some.inj (hn9.symm.trans hn)
  obtain ⟨kY, hkY, -⟩ := className_of_methodNamed hn
  have hinitY : kY.init = .initialized := Cond.initialized_spec (findClass_of_methodNamed hn) hkY h3
  have h : At U g.method c below := by rw [hg]; exact X.here
  have hlocals9 : W9 + (maxL + 11) + (headSpec ws rm).room.locals ≤ R.locals := hlocals
  have happ : (headSpec ws rm).appliesLoose y e.platform (U.calling g mk a) = true :=
    Spec.appliesLoose_calling (g := g) h hdg hn hkY hinitY
      (X.room_calling (g := g) (R' := (headSpec ws rm).room) hsize hmY hcY hframes (by rw [hlY]; omega) h4 h5) h1
  obtain ⟨mid, hmid⟩ := h.above
  have hfr : (U.setTop g).frames = (.java g :: mid) ++ below := by rw [State.frames_setTop' g h.top, hmid]; rfl
  obtain ⟨o, s₂, hsteps, -, hend, hq⟩ := Steps.callFree hM p X.admits X.cas X.clock (acts := []) hfr happ hPc trivial
  have hq' : jQ Qc XC mc ms free a (U.calling g mk a) o s₂ := hq
  rw [State.frames_setTop' g h.top] at hend
  obtain ⟨g₀, hg0⟩ := Option.isSome_iff_exists.mp h.top
  obtain ⟨r, hr⟩ := State.topJava?_eq_some.mp hg0
  have hr' : (({ U with heap := s₂.heap, slotsUsed := s₂.slotsUsed } : State).setVm s₂.vm).frames = .java g₀ :: r := hr
  rcases hq' with ⟨hqc, L, hfe, hL⟩ | ⟨q, rfl, hx, L, hW₂, hsm, hL⟩
  · obtain ⟨⟨v, rfl⟩, hW₂, e2, q2, q3, q4, q5, q6⟩ := id hfe
    have e3 : s₂ = ({ (U.calling g mk a).setFrames s₂.frames with heap := s₂.heap, slotsUsed := s₂.slotsUsed } : State).setVm s₂.vm := by
      have : s₂ = ({ s₂ with vm := (U.calling g mk a).vm } : State).setVm s₂.vm := rfl
      rw [e2] at this
      exact this
    obtain ⟨c₂, i₂, len₂, hc₂, hd₂, hf₂⟩ := hend
    have hW' : U.WarmedH s₂.vm := hW₂
    have hcc : c₂ = c := by
      have h1 : s₂.code? g.method = U.code? g.method := by
        rw [State.code?_eq, State.code?_eq, hW'.alike.method?]
      exact Option.some.inj (hc₂.symm.trans (h1.trans h.code))
    subst hcc
    have hlen : len₂ = len := by rw [hdg] at hd₂; cases hd₂; rfl
    subst hlen
    have hs₂ : s₂ = (({ U with heap := s₂.heap, slotsUsed := s₂.slotsUsed } : State).setVm s₂.vm).setTop { g with pc := g.pc + len₂, stack := v.toList ++ g.stack } := by
      refine e3.trans ?_
      rw [hf₂, State.calling_eq h.top, State.setFrames_setFrames, State.setTop_of_frames _ hr', hr]
      rfl
    have hsame : U.sameButNew ({ U with heap := s₂.heap, slotsUsed := s₂.slotsUsed } : State) L mc ms := by
      refine ⟨?_, q2, q3, q4, q5, q6⟩
      obtain ⟨t, ht, -⟩ := State.frames_cons hr
      show ({ U with heap := s₂.heap, slotsUsed := s₂.slotsUsed } : State) = { U.setFrames U.frames with heap := s₂.heap, slotsUsed := s₂.slotsUsed }
      rw [State.setFrames_self ht]
    subst hg
    refine Or.inl ⟨v, ⟨(({ U with heap := s₂.heap, slotsUsed := s₂.slotsUsed } : State).setVm s₂.vm), Ls ++ L, c0 + mc, s0 + ms⟩,
      ⟨X.admits, X.cas, X.clock, X.frames, X.room, X.hears, X.method, X.code, (X.here.setHeapUsed s₂.heap s₂.slotsUsed).setVm hW'.alike, X.tail, State.WarmedH.trans X.warmed hW', X.limits, X.bytes, X.same.trans (hsame.setVm s.vm)⟩,
      ⟨g, mk, s₂, L, rfl, rfl, hqc, rfl, hL, rfl, rfl⟩, ?_⟩
    show Steps p.tables e below _ ((({ U with heap := s₂.heap, slotsUsed := s₂.slotsUsed } : State).setVm s₂.vm).setTop { g with pc := g.pc + len₂, stack := v.toList ++ g.stack })
    rw [← hs₂]
    exact hsteps
  · obtain ⟨e2, q2, q3, q4, q5, q6⟩ := id hsm
    have e3 : s₂ = ({ (U.calling g mk a).setFrames s₂.frames with heap := s₂.heap, slotsUsed := s₂.slotsUsed } : State).setVm s₂.vm := by
      have : s₂ = ({ s₂ with vm := (U.calling g mk a).vm } : State).setVm s₂.vm := rfl
      rw [e2] at this
      exact this
    have hf₂ : s₂.frames = .throwing q :: .java g :: U.frames.tail := hend
    have hW' : U.WarmedH s₂.vm := hW₂
    have hs₂ : s₂ = ((({ U with heap := s₂.heap, slotsUsed := s₂.slotsUsed } : State).setVm s₂.vm).setTop g).pushFrame (.throwing q) := by
      refine e3.trans ?_
      rw [hf₂, State.calling_eq h.top, State.setFrames_setFrames, State.pushFrame, State.frames_setTop _ hr', State.setTop_of_frames _ hr', State.setFrames_setFrames, hr]
      rfl
    have hsame : U.sameButNew ({ U with heap := s₂.heap, slotsUsed := s₂.slotsUsed } : State) L mc ms := by
      refine ⟨?_, q2, q3, q4, q5, q6⟩
      obtain ⟨t, ht, -⟩ := State.frames_cons hr
      show ({ U with heap := s₂.heap, slotsUsed := s₂.slotsUsed } : State) = { U.setFrames U.frames with heap := s₂.heap, slotsUsed := s₂.slotsUsed }
      rw [State.setFrames_self ht]
    subst hg
    refine Or.inr ⟨q, ⟨(({ U with heap := s₂.heap, slotsUsed := s₂.slotsUsed } : State).setVm s₂.vm), Ls ++ L, c0 + mc, s0 + ms⟩,
      ⟨X.admits, X.cas, X.clock, X.frames, X.room, X.hears, X.method, X.code, (X.here.setHeapUsed s₂.heap s₂.slotsUsed).setVm hW'.alike, X.tail, State.WarmedH.trans X.warmed hW', X.limits, X.bytes, X.same.trans (hsame.setVm s.vm)⟩,
      ⟨g, mk, s₂, L, rfl, rfl, hx, rfl, hL, rfl, rfl⟩, ?_⟩
    show Steps p.tables e below _ (((({ U with heap := s₂.heap, slotsUsed := s₂.slotsUsed } : State).setVm s₂.vm).setTop g).pushFrame (.throwing q))
    rw [← hs₂]
    exact hsteps
end JPayerH
section JIMPLH
theorem impl_ofH {ρ : Type} {hh : List (Nat × Nat × Nat × Nat)} {cc : ByteArray} {y : MethodName} {nL d mc ms : Nat} {ret : Option FieldType} {β : Bool} {avs : List Value} {f : JM Mem ρ} {inj : ρ → Option Value} (hy : plainFor y = true) (hlen : (lg_sl avs).length ≤ nL)
    (hJ : ∀ (D : va_G) (dA : Nat → ClassId), J (PM D dA β) (cc, y.cls, nL, d, y.name, ret, hh) (lv_args 0 avs) [] 0 f (FRet inj)) : Impl (wsW_ y cc nL ret hh) y d β mc ms avs f inj := by
  intro l D dA M r M' hst hb hf
  refine j_ofWH (cc := cc) (maxL := nL) (ret := ret) hy rfl ?_
  intro p e s m args below meth c s₁ B hml hv
  obtain ⟨rfl, hR, hK, hFG⟩ := hv
  have hts := atoms_spec (ws := wsW_ y cc nL ret hh) B.pre
  have hcw := hts _ (List.mem_cons_self (a := Cond.codeWith y cc nL ret hh) (l := lw_all))
  have hts : ∀ w ∈ lw_all, w.before _ s = true := fun w h => hts w (List.mem_cons_of_mem _ h)
  have hown : s.vm.findClass y.cls = some m.cls := findClass_of_methodNamed B.named
  rw [lg_entry_eq]
  have hl := lv_entry avs (n := nL) hlen
  have hsz : s.heap.size = mZ M := hR.1
  let Γ : JC Mem := (p, l, e, (headSpec (wsW_ y cc nL ret hh) { frames := d, cells := mc, slots := ms, locals := 100 * d }).room, s, m, avs.toArray, below, meth, c, jMQ below (jQc D dA M (exMap inj r) M') (jXC D dA M (exMap inj r) M') avs.toArray s mc ms (jA M), jstd D dA β { frames := d, cells := mc, slots := ms, locals := 100 * d } (jA M) s.heap)
  have ok : JOk (cc, y.cls, nL, d, y.name, ret, hh) Γ := by
    refine ⟨B.exec, B.bytes, hml, hown, hts, Nat.le_refl _, Nat.le_refl _, (name_of_methodNamed B.named B.method).1, B.returns, B.notSynchronized, ?_, hst⟩
    obtain ⟨m9, meth9, c9, hn9, k1, k2, -, -, k5, -⟩ := Cond.codeWith_spec hcw
    cases hn9.symm.trans B.named
    cases k1.symm.trans B.method
    have k9 := B.here.code
    rw [State.code?_eq, B.state] at k9
    have k9 : (s.vm.method? m).bind Method.code = some c := k9
    rw [B.method] at k9
    cases k2.symm.trans k9
    exact k5
  have hP : PM D dA β Γ := ⟨jA M, s.heap, rfl, hK, fun q h => Or.inr (by rw [← hsz]; exact h), hFG⟩
  have hS0 : va_S (jA M) s.heap s.heap [] := va_S.rf
  have hI0 : jcI Γ M s.heap [] 0 0 := by
    refine ⟨hR, hS0, fun a h => Or.inl h, ?_⟩
    cases β with
    | true => exact ⟨by show 0 + mC M ≤ mc; rw [Nat.zero_add]; exact hb.1, by show 0 + mS M ≤ ms; rw [Nat.zero_add]; exact hb.2⟩
    | false => exact ⟨rfl, rfl⟩
  have fin : ∀ (M1 : Mem) (H : Heap) (locs : List Loc) (cells slots : Nat), jcI Γ M1 H locs cells slots → cells ≤ mc ∧ slots ≤ ms ∧ (∀ z ∈ locs, (jA M) z.base) ∧ (∀ a, (mK M1 a).isSome = true → jA M a) ∧ Rel D dA M1 H ∧ va_S (jA M) s.heap H locs := by
    intro M1 H locs cells slots hi
    obtain ⟨h1, h2, h3, h4⟩ := hi
    refine ⟨?_, ?_, h2.2.2, h3, h1, h2⟩
    · cases β with
      | true => exact Nat.le_trans (Nat.le_add_right _ _) h4.1
      | false => rw [h4.1]; exact Nat.zero_le _
    · cases β with
      | true => exact Nat.le_trans (Nat.le_add_right _ _) h4.2
      | false => rw [h4.2]; exact Nat.zero_le _
  refine hJ D dA Γ ok hP M r M' hf (fun v e => ?_) (fun q e => ?_) s.heap [] 0 0 _ hI0 (by show lv_has _ c.maxLocals _; rw [hml]; exact hl)
  · refine ⟨jQc D dA M (exMap inj r) M', jXC D dA M (exMap inj r) M', mc, ms, jA M, rfl, fun H locs cells slots hi => ?_⟩
    obtain ⟨h1, h2, h3, h4, h5, h6⟩ := fin M' H locs cells slots hi
    refine ⟨h1, h2, h3, fun t ht hW => ⟨inj v, by rw [e]; rfl, rfl, by rw [ht]; exact h5, h6.F ht, h4⟩⟩
  · intro H locs cells slots ls pc st hi hcov
    obtain ⟨h1, h2, h3, h4, h5, h6⟩ := fin M' H locs cells slots hi
    exact j_out hcov B.notSynchronized (fun t ht hW => ⟨by rw [e]; rfl, by rw [ht]; exact h5, h6.F ht, h4⟩) h3 h1 h2
end JIMPLH
section JCALLH
variable {ρ τ : Type} {D : va_G} {dA : Nat → ClassId} {β β2 : Bool} {Y : JY} {env : List (Nat × Value)} {pu st as : List Value} {pc idx c b : Nat} {F : JF Mem τ} {k : ρ → JM Mem τ} {inj : ρ → Option Value} {f f' : JM Mem ρ} {avs : List Value} {y : MethodName} {cc : ByteArray} {nL d2 mc ms : Nat} {ret : Option FieldType} {ws : List Cond}
theorem j_coreH {hh : List (Nat × Nat × Nat × Nat)} (hcov : Y.2.2.2.2.2.2.all (fun x => !(decide (x.1 ≤ pc) && decide (pc < x.2.1))) = true) (h : ∀ v, J (PM D dA β) Y env ((inj v).toList ++ pu) (pc + 3) (k v) F) (hcat : (pu.map fun v => v.category).sum ≤ 8) (hw : JCw Y ws y cc nL ret d2) (hws : ws = Cond.codeWith y cc nL ret hh :: lw_all) (hI : Impl ws y d2 β2 mc ms avs f inj) (had : JAd β β2 mc ms f f') {Γ : JC Mem} (ok : JOk Y Γ) (hP : PM D dA β Γ) {M M' : Mem} {r : Except Nat τ} (hk : jb f' k M = some (r, M')) (hv : ∀ v, r = .ok v → F Γ v M') (hq : ∀ q, r = .error q → JT Γ q M') {H : Heap} {locs : List Loc} {cells slots : Nat} {ls : Array Slot} (hi : jcI Γ M H locs cells slots) (hl : lv_has ls (jcC Γ).maxLocals env)
    (hcall : ∀ (Pc : Array Value → State → Prop) (Qc : Array Value → State → Outcome → State → Prop) (XC : Addr → State → State → Prop) (free : Addr → Prop) (T : State), T.heap = H → Stand (jcP Γ) (jcL Γ) (jcE Γ) (jcR Γ) (jcS Γ) (jcM Γ) (jcA Γ) (jcB Γ) (jcH Γ) (jcC Γ) T locs cells slots →
      vx_Back (jcL Γ) (jcR Γ) (jcP Γ) (jcE Γ) (jcB Γ) (jcS Γ) (jcA Γ) y 3 8 (PreOf (jcR Γ) mc ms Pc) (PostOf Qc mc ms free) (jPost XC mc ms free) → (∀ vm₁, (jcS Γ).WarmedH vm₁ → PreOf (jcR Γ) mc ms Pc ⟨T.setVm vm₁, locs, cells, slots⟩ avs.toArray) → JEnd Γ T locs cells slots avs ls pc st pu Qc XC mc ms free) :
    W (jcP Γ) (jcL Γ) (jcE Γ) (jcR Γ) (jcS Γ) (jcM Γ) (jcA Γ) (jcB Γ) (jcH Γ) (jcC Γ) H locs cells slots (jcQ Γ) (F0 (jcM Γ) pc ls st) := by
  obtain ⟨A, H0, hIΓ, hKK, hA, hFG⟩ := id hP
  have hi2 := hi
  rw [hIΓ] at hi2
  obtain ⟨hd, hnL, hgood, hini, hyy⟩ := hw
  -- what the callee did
  have hcase : ∃ (r1 : Except Nat ρ) (M2 : Mem), f' M = some (r1, M2) := by
    rcases jb_cases hk with ⟨v, M1, e, -⟩ | ⟨q, e, -⟩
    · exact ⟨_, _, e⟩
    · exact ⟨_, _, e⟩
  obtain ⟨r1, M2, ef⟩ := hcase
  obtain ⟨c0, s0, M1, c1, s1, ef1, hb2, eM2, hbud⟩ := had M r1 M2 ef
  have hrun := hI (jcL Γ) D dA (sB M c0 s0) r1 M1 ok.st hb2 ef1
  have hroom : cells + mc ≤ (jcR Γ).cells ∧ slots + ms ≤ (jcR Γ).slots := by
    obtain ⟨-, -, -, h4⟩ := hi2
    cases β with
    | true =>
      have a1 := h4.1
      have a2 := h4.2
      have b1 := hbud.1
      have b2 := hbud.2
      exact ⟨by omega, by omega⟩
    | false => exact ⟨by rw [h4.1, hbud.1]; exact Nat.zero_le _, by rw [h4.2, hbud.2]; exact Nat.zero_le _⟩
  have hgw : ∀ w ∈ ws, ∀ (a' : Array Value) (U : State), (jcS Γ).WarmedH U.vm → w.before a' U = true := fun w hw a' U hW => word_at hW (hgood w hw).2 (ok.hts w (hgood w hw).1)
  have hback : vx_Back (jcL Γ) (jcR Γ) (jcP Γ) (jcE Γ) (jcB Γ) (jcS Γ) (jcA Γ) y 3 8 (PreOf (jcR Γ) mc ms (jPc D dA avs (sB M c0 s0))) (PostOf (jQc D dA (sB M c0 s0) (exMap inj r1) M1) mc ms (jA (sB M c0 s0))) (jPost (jXC D dA (sB M c0 s0) (exMap inj r1) M1) mc ms (jA (sB M c0 s0))) := by
    refine j_backH (bytes := cc) (maxL := nL) (ret := ret) (hh := hh) hrun ?_ rfl rfl ?_ ?_ hgw (by rw [hws]; exact List.mem_cons_self) ?_
    · intro a U g mk h9
      obtain ⟨h91, h92, h93, h94⟩ := h9
      exact ⟨h91, h92, h93.calling, h94.calling⟩
    · exact Nat.le_trans hd ok.fr
    · show 8 + (nL + 11) + 100 * d2 ≤ _
      have := ok.lo
      omega
    · intro a' U hW
      exact word_at hW (Or.inl (by first | rfl | simp [Cond.onTables, Cond.keeps, Cond.steady])) (ok.hts _ hini)
  intro T hT X
  have hpre : ∀ vm₁, (jcS Γ).WarmedH vm₁ → PreOf (jcR Γ) mc ms (jPc D dA avs (sB M c0 s0)) ⟨T.setVm vm₁, locs, cells, slots⟩ avs.toArray := fun vm₁ hW => ⟨hroom.1, hroom.2, rfl, by show Rel D dA (sB M c0 s0) T.heap; rw [hT]; exact hi2.1, hKK.moved (U := T.setVm vm₁) hW, by
      show FG dA (jA (sB M c0 s0)) (T.setVm vm₁) T.heap
      rw [hT]
      exact hFG.go (U := T.setVm vm₁) hW hi2.2.1.2.1 (fun q hq => by
        rcases hq with h | h
        · exact hi2.2.2.1 q h
        · exact hA q (Nat.le_trans hi2.2.1.1 (by rw [hi2.1.1]; exact h))) hT⟩
  rcases hcall _ _ _ _ T hT X hback hpre with ⟨v, vm₁, ⟨U', l2, c2, n2⟩, hW₁, X', ⟨g', mk, t, L, e1, e2, hqc, h1, hL, h2, h3⟩, hst⟩ | ⟨q, vm₁, ⟨U', l2, c2, n2⟩, hW₁, X', ⟨g', mk, t, L, e1, e2, hxc, h1, hL, h2, h3⟩, hst⟩
  · obtain ⟨v2, hr1, hv2, hR, hF, hdom⟩ := hqc
    cases hv2
    cases r1 with
    | error q => cases hr1
    | ok v1 =>
      cases hr1
      dsimp only [Pt.U, Pt.locs, Pt.cells, Pt.slots] at e1 e2 h1 h2 h3 X' hst
      subst h1; subst h2; subst h3
      have hstd := std_call (st₀ := (T.setVm vm₁).calling g' mk avs.toArray) (c1 := c1) (s1 := s1) hi2 hA (by show T.heap = H; exact hT) hR hF hdom hL hbud
      have hcont := h v1 Γ ok hP M2 r M' (by rw [jb_ok ef] at hk; exact hk) hv hq t.heap (locs ++ L) (cells + mc) (slots + ms) ls (by rw [hIΓ, eM2]; exact hstd) hl
      obtain ⟨t2, a1, b1⟩ := hcont U' e1 X'
      exact ⟨t2, hst t2 a1, b1⟩
  · obtain ⟨hr1, hR, hF, hdom⟩ := hxc
    cases r1 with
    | ok v => cases hr1
    | error q1 =>
      cases hr1
      dsimp only [Pt.U, Pt.locs, Pt.cells, Pt.slots] at e1 e2 h1 h2 h3 X' hst
      subst h1; subst h2; subst h3
      have hstd := std_call (st₀ := (T.setVm vm₁).calling g' mk avs.toArray) (c1 := c1) (s1 := s1) hi2 hA (by show T.heap = H; exact hT) hR hF hdom hL hbud
      rw [jb_err ef] at hk
      cases hk
      have hcont := hq q rfl t.heap (locs ++ L) (cells + mc) (slots + ms) ls pc pu (by rw [hIΓ, eM2]; exact hstd) (j_uncov ok hcov)
      obtain ⟨t2, a1, b1⟩ := hcont U' e1 X'
      exact ⟨t2, hst.trans a1, b1⟩
theorem J_callVH {hh : List (Nat × Nat × Nat × Nat)} (hd : decode Y.1 pc = .ok (.invokevirtual idx, 3)) (hc : c < 9) (hcov : JNoH Y pc) (hcat : JCat pu) (hw : JCw Y (wsW_ y cc nL ret hh) y cc nL ret d2) (w1 : Cond.methodLink Y.2.1 idx y ∈ lw_all) (w2 : Cond.instanceMethod y ∈ lw_all) (w3 : Cond.selects (jC c) y y ∈ lw_all) (w5 : Cond.codeWith y cc nL ret hh ∈ lw_all) (hn : JNp y.desc as.length) (hI : Impl (wsW_ y cc nL ret hh) y d2 β2 mc ms (.ref b :: as) f inj) (had : JAd β β2 mc ms f f') (hst : as.reverse ++ .ref b :: pu = st) (h : ∀ v, J (PM D dA β) Y env ((inj v).toList ++ pu) (pc + 3) (k v) F) : J (PM D dA β) Y env st pc (jb (jcall c b f') k) F := by
  intro Γ ok hP M r M' hk hv hq H locs cells slots ls hi hl
  by_cases hK : mK M b = some (.inl c)
  · rw [jcall_pos hK] at hk
    obtain ⟨A, H0, hIΓ, hKK, hA, hFG⟩ := id hP
    have hi2 := hi
    rw [hIΓ] at hi2
    obtain ⟨cellB, g1, g2, g3⟩ := va_recv (q0 := 0) hKK.1 (rel_P hi2.1 hK) (jcl_at hc) rfl
    exact j_coreH hcov h hcat hw rfl hI had ok hP hk hv hq hi hl (fun Pc Qc XC free T hT X hB hpre => vx_callVX (C := jC c) (bytes := cc) (maxL := nL) (ret := ret) X ok.exec ok.own (ok.hts _ w1) (ok.hts _ w2) (ok.hts _ w3) (ok.hts _ w5) hw.2.2.2.2 hB (by rw [hT]; exact g1) g2 g3 rfl hl.1 (argsL := as) (jnp hn) hst.symm (lv_room hcat) (by rw [ok.code]; exact hd) hpre)
  · rw [jcall_neg hK] at hk
    cases hk
theorem J_callVHI {hh : List (Nat × Nat × Nat × Nat)} {f f' : JM Mem Int32} {k : Int32 → JM Mem τ} (hd : decode Y.1 pc = .ok (.invokevirtual idx, 3)) (hc : c < 9) (hcov : JNoH Y pc) (hcat : JCat pu) (hw : JCw Y (wsW_ y cc nL ret hh) y cc nL ret d2) (w1 : Cond.methodLink Y.2.1 idx y ∈ lw_all) (w2 : Cond.instanceMethod y ∈ lw_all) (w3 : Cond.selects (jC c) y y ∈ lw_all) (w5 : Cond.codeWith y cc nL ret hh ∈ lw_all) (hn : JNp y.desc as.length) (hI : Impl (wsW_ y cc nL ret hh) y d2 β2 mc ms (.ref b :: as) f injI) (had : JAd β β2 mc ms f f') (hst : as.reverse ++ .ref b :: pu = st) (h : ∀ v, J (PM D dA β) Y env (.int v :: pu) (pc + 3) (k v) F) : J (PM D dA β) Y env st pc (jb (jcall c b f') k) F := J_callVH hd hc hcov hcat hw w1 w2 w3 w5 hn hI had hst h
theorem J_callVHL {hh : List (Nat × Nat × Nat × Nat)} {f f' : JM Mem Int64} {k : Int64 → JM Mem τ} (hd : decode Y.1 pc = .ok (.invokevirtual idx, 3)) (hc : c < 9) (hcov : JNoH Y pc) (hcat : JCat pu) (hw : JCw Y (wsW_ y cc nL ret hh) y cc nL ret d2) (w1 : Cond.methodLink Y.2.1 idx y ∈ lw_all) (w2 : Cond.instanceMethod y ∈ lw_all) (w3 : Cond.selects (jC c) y y ∈ lw_all) (w5 : Cond.codeWith y cc nL ret hh ∈ lw_all) (hn : JNp y.desc as.length) (hI : Impl (wsW_ y cc nL ret hh) y d2 β2 mc ms (.ref b :: as) f injL) (had : JAd β β2 mc ms f f') (hst : as.reverse ++ .ref b :: pu = st) (h : ∀ v, J (PM D dA β) Y env (.long v :: pu) (pc + 3) (k v) F) : J (PM D dA β) Y env st pc (jb (jcall c b f') k) F := J_callVH hd hc hcov hcat hw w1 w2 w3 w5 hn hI had hst h
end JCALLH
