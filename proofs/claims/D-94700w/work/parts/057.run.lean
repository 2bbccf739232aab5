/-! CONTRACTS that return or throw, what they throw named; calls; returns. (j_back, j_ofW, j_ofWH: rows of the kit's exceptions, turned.) -/
set_option maxRecDepth 100000
def jQ (Qc : Array Value → State → Outcome → State → Prop) (XC : Addr → State → State → Prop) (mc ms : Nat) (free : Addr → Prop) : Array Value → State → Outcome → State → Prop := fun a st o t =>
  (Qc a st o t ∧ ∃ L, FrameEnd st o t L mc ms ∧ ∀ q ∈ L, free q.base) ∨ ∃ q, o = .threw q ∧ XC q st t ∧ ∃ L, st.WarmedH t.vm ∧ st.sameButNew ({ t with vm := st.vm } : State) L mc ms ∧ ∀ z ∈ L, free z.base
def jMet (l : Launch) (y : MethodName) (ws : List Cond) (rm : Room) (Pc : Array Value → State → Prop) (Qc : Array Value → State → Outcome → State → Prop) (XC : Addr → State → State → Prop) (mc ms : Nat) (free : Addr → Prop) : Prop :=
  MetFree l y (headSpec ws rm) Pc (fun _ _ _ _ _ => True) (jQ Qc XC mc ms free)
def jPost (XC : Addr → State → State → Prop) (mc ms : Nat) (free : Addr → Prop) : Pt → Array Value → Addr → Pt → Prop := fun A a q B =>
  ∃ (g : JFrame) (mk : MethodId) (t : State) (L : List Loc), B.U.heap = t.heap ∧ B.U.vm = t.vm ∧ XC q (A.U.calling g mk a) t ∧ B.locs = A.locs ++ L ∧ (∀ z ∈ L, free z.base) ∧ B.cells = A.cells + mc ∧ B.slots = A.slots + ms
def jMQ (below : List Frame) (Qc : Array Value → State → Outcome → State → Prop) (XC : Addr → State → State → Prop) (a : Array Value) (s : State) (mc ms : Nat) (free : Addr → Prop) : State → Prop := fun t =>
  ∃ o, t.status = .running ∧ Ended t below o ∧ jQ Qc XC mc ms free a s o t
section JPayer
variable {l : Launch} {R : Room} {p : Program} {e : Env} {below : List Frame} {s : State} {sargs : Array Value} {y : MethodName} {len W9 : Nat}
theorem j_back {ws : List Cond} {rm : Room} {Pc : Array Value → State → Prop} {Qc : Array Value → State → Outcome → State → Prop} {XC : Addr → State → State → Prop} {mc ms : Nat} {free : Addr → Prop} {bytes : ByteArray} {maxL : Nat} {ret : Option FieldType}
    (hM : jMet l y ws rm Pc Qc XC mc ms free) (hblind : FrameBlind Pc) (hrc : rm.cells = mc) (hrs : rm.slots = ms)
    (hframes : rm.frames + 1 ≤ R.frames) (hlocals : W9 + (maxL + 11) + rm.locals ≤ R.locals)
    (hws : ∀ w ∈ ws, ∀ a' U, s.WarmedH U.vm → w.before a' U = true) (hcode : Cond.code y bytes maxL ret ∈ ws) (hinit : ∀ a' U, s.WarmedH U.vm → (Cond.initialized y.cls).before a' U = true) :
    vx_Back l R p e below s sargs y len W9 (PreOf R mc ms Pc) (PostOf Qc mc ms free) (jPost XC mc ms free) := by
  intro m meth c A g ig mk a X hg hsize hdg hW hn hp
  have h1 : (headSpec ws rm).pre.before a A.U = true := atoms_intro fun w hw => hws w hw _ _ X.warmed
  have h2 : (Cond.code y bytes maxL ret).before a A.U = true := hws _ hcode _ _ X.warmed
  have h3 : (Cond.initialized y.cls).before a A.U = true := hinit _ _ X.warmed
  have h4 : A.cells + (headSpec ws rm).room.cells ≤ R.cells := by rw [show (headSpec ws rm).room.cells = mc from hrc]; exact hp.1
  have h5 : A.slots + (headSpec ws rm).room.slots ≤ R.slots := by rw [show (headSpec ws rm).room.slots = ms from hrs]; exact hp.2.1
  have hPc : Pc a (A.U.calling g mk a) := hblind _ _ _ _ hp.2.2
  obtain ⟨U, Ls, c0, s0⟩ := A
  dsimp only [Pt.U, Pt.locs, Pt.cells, Pt.slots] at h1 h2 h3 h4 h5 X hn hPc ⊢
  obtain ⟨methY, cY, hmY, hcY, -, hlY, -, -, -, -⟩ := Cond.code_spec hn h2
  obtain ⟨kY, hkY, -⟩ := className_of_methodNamed hn
  have hinitY : kY.init = .initialized := Cond.initialized_spec (findClass_of_methodNamed hn) hkY h3
  have h : At U g.method c below := by rw [hg]; exact X.here
  have hlocals9 : W9 + (maxL + 11) + (headSpec ws rm).room.locals ≤ R.locals := hlocals
  have happ : (headSpec ws rm).appliesLoose y e.platform (U.calling g mk a) = true :=
    Spec.appliesLoose_calling (g := g) h hdg hn hkY hinitY
      (X.room_calling (g := g) (R' := (headSpec ws rm).room) hsize hmY hcY hframes (by rw [hlY]; omega) h4 h5) h1
  obtain ⟨mid, hmid⟩ := h.above
  have hfr : (U.setTop g).frames = (.java g :: mid) ++ below := by rw [State.frames_setTop' g h.top, hmid]; rfl
  obtain ⟨o, s₂, hsteps, -, hend, hq⟩ := Steps.callFree hM p X.admits X.cas X.clock (acts := []) hfr happ hPc trivial
  have hq' : jQ Qc XC mc ms free a (U.calling g mk a) o s₂ := hq
  rw [State.frames_setTop' g h.top] at hend
  obtain ⟨g₀, hg0⟩ := Option.isSome_iff_exists.mp h.top
  obtain ⟨r, hr⟩ := State.topJava?_eq_some.mp hg0
  have hr' : (({ U with heap := s₂.heap, slotsUsed := s₂.slotsUsed } : State).setVm s₂.vm).frames = .java g₀ :: r := hr
  rcases hq' with ⟨hqc, L, hfe, hL⟩ | ⟨q, rfl, hx, L, hW₂, hsm, hL⟩
  · obtain ⟨⟨v, rfl⟩, hW₂, e2, q2, q3, q4, q5, q6⟩ := id hfe
    have e3 : s₂ = ({ (U.calling g mk a).setFrames s₂.frames with heap := s₂.heap, slotsUsed := s₂.slotsUsed } : State).setVm s₂.vm := by
      have : s₂ = ({ s₂ with vm := (U.calling g mk a).vm } : State).setVm s₂.vm := rfl
      rw [e2] at this
      exact this
    obtain ⟨c₂, i₂, len₂, hc₂, hd₂, hf₂⟩ := hend
    have hW' : U.WarmedH s₂.vm := hW₂
    have hcc : c₂ = c := by
      have h1 : s₂.code? g.method = U.code? g.method := by
        rw [State.code?_eq, State.code?_eq, hW'.alike.method?]
      exact Option.some.inj (hc₂.symm.trans (h1.trans h.code))
    subst hcc
    have hlen : len₂ = len := by rw [hdg] at hd₂; cases hd₂; rfl
    subst hlen
    have hs₂ : s₂ = (({ U with heap := s₂.heap, slotsUsed := s₂.slotsUsed } : State).setVm s₂.vm).setTop { g with pc := g.pc + len₂, stack := v.toList ++ g.stack } := by
      refine e3.trans ?_
      rw [hf₂, State.calling_eq h.top, State.setFrames_setFrames, State.setTop_of_frames _ hr', hr]
      rfl
    have hsame : U.sameButNew ({ U with heap := s₂.heap, slotsUsed := s₂.slotsUsed } : State) L mc ms := by
      refine ⟨?_, q2, q3, q4, q5, q6⟩
      obtain ⟨t, ht, -⟩ := State.frames_cons hr
      show ({ U with heap := s₂.heap, slotsUsed := s₂.slotsUsed } : State) = { U.setFrames U.frames with heap := s₂.heap, slotsUsed := s₂.slotsUsed }
      rw [State.setFrames_self ht]
    subst hg
    refine Or.inl ⟨v, ⟨(({ U with heap := s₂.heap, slotsUsed := s₂.slotsUsed } : State).setVm s₂.vm), Ls ++ L, c0 + mc, s0 + ms⟩,
      ⟨X.admits, X.cas, X.clock, X.frames, X.room, X.hears, X.method, X.code, (X.here.setHeapUsed s₂.heap s₂.slotsUsed).setVm hW'.alike, X.tail, State.WarmedH.trans X.warmed hW', X.limits, X.bytes, X.same.trans (hsame.setVm s.vm)⟩,
      ⟨g, mk, s₂, L, rfl, rfl, hqc, rfl, hL, rfl, rfl⟩, ?_⟩
    show Steps p.tables e below _ ((({ U with heap := s₂.heap, slotsUsed := s₂.slotsUsed } : State).setVm s₂.vm).setTop { g with pc := g.pc + len₂, stack := v.toList ++ g.stack })
    rw [← hs₂]
    exact hsteps
  · obtain ⟨e2, q2, q3, q4, q5, q6⟩ := id hsm
    have e3 : s₂ = ({ (U.calling g mk a).setFrames s₂.frames with heap := s₂.heap, slotsUsed := s₂.slotsUsed } : State).setVm s₂.vm := by
      have : s₂ = ({ s₂ with vm := (U.calling g mk a).vm } : State).setVm s₂.vm := rfl
      rw [e2] at this
      exact this
    have hf₂ : s₂.frames = .throwing q :: .java g :: U.frames.tail := hend
    have hW' : U.WarmedH s₂.vm := hW₂
    have hs₂ : s₂ = ((({ U with heap := s₂.heap, slotsUsed := s₂.slotsUsed } : State).setVm s₂.vm).setTop g).pushFrame (.throwing q) := by
      refine e3.trans ?_
      rw [hf₂, State.calling_eq h.top, State.setFrames_setFrames, State.pushFrame, State.frames_setTop _ hr', State.setTop_of_frames _ hr', State.setFrames_setFrames, hr]
      rfl
    have hsame : U.sameButNew ({ U with heap := s₂.heap, slotsUsed := s₂.slotsUsed } : State) L mc ms := by
      refine ⟨?_, q2, q3, q4, q5, q6⟩
      obtain ⟨t, ht, -⟩ := State.frames_cons hr
      show ({ U with heap := s₂.heap, slotsUsed := s₂.slotsUsed } : State) = { U.setFrames U.frames with heap := s₂.heap, slotsUsed := s₂.slotsUsed }
      rw [State.setFrames_self ht]
    subst hg
    refine Or.inr ⟨q, ⟨(({ U with heap := s₂.heap, slotsUsed := s₂.slotsUsed } : State).setVm s₂.vm), Ls ++ L, c0 + mc, s0 + ms⟩,
      ⟨X.admits, X.cas, X.clock, X.frames, X.room, X.hears, X.method, X.code, (X.here.setHeapUsed s₂.heap s₂.slotsUsed).setVm hW'.alike, X.tail, State.WarmedH.trans X.warmed hW', X.limits, X.bytes, X.same.trans (hsame.setVm s.vm)⟩,
      ⟨g, mk, s₂, L, rfl, rfl, hx, rfl, hL, rfl, rfl⟩, ?_⟩
    show Steps p.tables e below _ (((({ U with heap := s₂.heap, slotsUsed := s₂.slotsUsed } : State).setVm s₂.vm).setTop g).pushFrame (.throwing q))
    rw [← hs₂]
    exact hsteps
end JPayer
section JEnds
variable {p : Program} {l : Launch} {e : Env} {R : Room} {s : State} {m : MethodId} {args : Array Value} {below : List Frame} {meth : Method} {c : Code} {H : Heap} {locs : List Loc} {cells slots : Nat} {Q : State → Prop}
variable {Qc : Array Value → State → Outcome → State → Prop} {XC : Addr → State → State → Prop} {free : Addr → Prop} {ls : Array Slot} {rest : List Value}
theorem j_ret {g : JFrame} {mc ms : Nat} (k : W p l e R s m args below meth c H locs cells slots (MQ below Qc args s mc ms free) g) : W p l e R s m args below meth c H locs cells slots (jMQ below Qc XC args s mc ms free) g := by
  intro T hT X
  obtain ⟨t, a1, o, b1, b2, b3, b4⟩ := k T hT X
  exact ⟨t, a1, o, b1, b2, Or.inl ⟨b3, b4⟩⟩
theorem j_out {pc : Nat} {q : Addr} {mc ms : Nat} (hout : ∀ x ∈ c.exceptionTable.toList, covers x pc = false) (hlocks : meth.locks = false)
    (hx : ∀ t : State, t.heap = H → s.WarmedH t.vm → XC q s t) (hf : ∀ z ∈ locs, free z.base) (hc : cells ≤ mc) (hs : slots ≤ ms) :
    vx_W p l e R s m args below meth c H locs cells slots (jMQ below Qc XC args s mc ms free) (F0 m pc ls rest) q := by
  intro T hT X
  obtain ⟨st1, hrun, hend, hW, hsm⟩ := X.leaveThrown q (g := F0 m pc ls rest) rfl rfl rfl hout hlocks
  exact ⟨_, st1, .threw q, hrun, hend, Or.inr ⟨q, rfl, hx _ hT hW, locs, hW, hsm.mono hc hs, hf⟩⟩
end JEnds
section JOfW
variable {l : Launch}
theorem j_ofW {y : MethodName} {ws ws' : List Cond} {rm : Room} {Pc : Array Value → State → Prop} {Qc : Array Value → State → Outcome → State → Prop} {XC : Addr → State → State → Prop} {mc ms : Nat} {free : Addr → Prop} {cc : ByteArray} {maxL : Nat} {ret : Option FieldType}
    (hy : plainFor y = true) (hw : ws = Cond.code y cc maxL ret :: ws')
    (body : ∀ p e s m args below meth c s₁, BodyLoose p l y (headSpec ws rm) cc maxL ret e s m args below meth c s₁ → c.maxLocals = maxL → (∀ x ∈ c.exceptionTable.toList, False) → Pc args s →
      W p l e (headSpec ws rm).room s m args below meth c s.heap [] 0 0 (jMQ below Qc XC args s mc ms free) (entryFrame m args maxL)) : jMet l y ws rm Pc Qc XC mc ms free := by
  refine MetFree.of_bodySF (code := cc) (maxLocals := maxL) (ret := ret) hy ?_ ?_
  · intro args s m h hn
    obtain ⟨meth, c, h1, h2, h3, h4, h5, h6, -, -⟩ := Cond.code_spec hn (atoms_spec (ws := ws) h _ (by rw [hw]; exact List.mem_cons_self))
    exact ⟨meth, c, h1, h2, h3, h4, h5, h6⟩
  · intro p e s m args below meth c s₁ B hml hP _
    have hh0 : s₁.heap = s.heap := by rw [B.state]; rfl
    have ht : ∀ x ∈ c.exceptionTable.toList, False := by
      obtain ⟨meth9, c9, h1, h2, -, -, -, -, h7, -⟩ := Cond.code_spec B.named (atoms_spec (ws := ws) B.pre _ (by rw [hw]; exact List.mem_cons_self))
      cases Option.some.inj (h1.symm.trans B.method)
      cases Option.some.inj (h2.symm.trans (Stand.of_body B).code)
      intro x hx
      rw [Array.isEmpty_iff.mp h7] at hx
      cases hx
    obtain ⟨t, a1, o, b1, b2, b3⟩ := body p e s m args below meth c s₁ B hml ht hP s₁ hh0 (Stand.of_body B)
    exact ⟨t, o, a1, b1, b2, b3⟩
theorem j_ofWH {l : Launch} {y : MethodName} {ws ws' : List Cond} {rm : Room} {Pc : Array Value → State → Prop} {Qc : Array Value → State → Outcome → State → Prop} {XC : Addr → State → State → Prop} {mc ms : Nat} {free : Addr → Prop} {cc : ByteArray} {maxL : Nat} {ret : Option FieldType} {hh : List (Nat × Nat × Nat × Nat)}
    (hy : plainFor y = true) (hw : ws = Cond.codeWith y cc maxL ret hh :: ws')
    (body : ∀ p e s m args below meth c s₁, BodyLoose p l y (headSpec ws rm) cc maxL ret e s m args below meth c s₁ → c.maxLocals = maxL → Pc args s →
      W p l e (headSpec ws rm).room s m args below meth c s.heap [] 0 0 (jMQ below Qc XC args s mc ms free) (entryFrame m args maxL)) : jMet l y ws rm Pc Qc XC mc ms free := by
  refine MetFree.of_bodySF (code := cc) (maxLocals := maxL) (ret := ret) hy ?_ ?_
  · intro args s m h hn
    obtain ⟨m9, meth, c, hn9, h1, h2, h3, h4, -, h5, h6, -⟩ := Cond.codeWith_spec (atoms_spec (ws := ws) h _ (by rw [hw]; exact List.mem_cons_self))
    cases hn.symm.trans hn9
    exact ⟨meth, c, h1, h2, h3, h4, h5, h6⟩
  · intro p e s m args below meth c s₁ B hml hP _
    have hh0 : s₁.heap = s.heap := by rw [B.state]; rfl
    obtain ⟨t, a1, o, b1, b2, b3⟩ := body p e s m args below meth c s₁ B hml hP s₁ hh0 (Stand.of_body B)
    exact ⟨t, o, a1, b1, b2, b3⟩
end JOfW
section JRUN
def jA (M : Mem) : Nat → Prop := fun q => (mK M q).isSome = true ∨ mZ M ≤ q
def jPc (D : va_G) (dA : Nat → ClassId) (avs : List Value) (M : Mem) : Array Value → State → Prop := va_Pc avs (fun U => Rel D dA M U.heap ∧ KK D dA U ∧ FG dA (jA M) U U.heap)
def jQc (D : va_G) (dA : Nat → ClassId) (M : Mem) (r : Except Nat (Option Value)) (M' : Mem) : Array Value → State → Outcome → State → Prop := fun _ st oc t => ∃ v, r = .ok v ∧ oc = .returned v ∧ Rel D dA M' t.heap ∧ va_F (jA M) st t ∧ ∀ a, (mK M' a).isSome = true → jA M a
def jXC (D : va_G) (dA : Nat → ClassId) (M : Mem) (r : Except Nat (Option Value)) (M' : Mem) : Addr → State → State → Prop := fun q st t => r = .error q ∧ Rel D dA M' t.heap ∧ va_F (jA M) st t ∧ ∀ a, (mK M' a).isSome = true → jA M a
def Runs (l : Launch) (D : va_G) (dA : Nat → ClassId) (ws : List Cond) (y : MethodName) (d mc ms : Nat) (avs : List Value) (M : Mem) (r : Except Nat (Option Value)) (M' : Mem) : Prop :=
  jMet l y ws { frames := d, cells := mc, slots := ms, locals := 100 * d } (jPc D dA avs M) (jQc D dA M r M') (jXC D dA M r M') mc ms (jA M)
def exMap {α β : Type} (f : α → β) : Except Nat α → Except Nat β
  | .ok v => .ok (f v)
  | .error q => .error q
/-- the method y, called with avs, does what f says -/
def Impl {ρ : Type} (ws : List Cond) (y : MethodName) (d : Nat) (β : Bool) (mc ms : Nat) (avs : List Value) (f : JM Mem ρ) (inj : ρ → Option Value) : Prop :=
  ∀ (l : Launch) (D : va_G) (dA : Nat → ClassId) (M : Mem) (r : Except Nat ρ) (M' : Mem), l.stackTraces = false → (match β with | true => mC M ≤ mc ∧ mS M ≤ ms | false => mc = 0 ∧ ms = 0) → f M = some (r, M') → Runs l D dA ws y d mc ms avs M (exMap inj r) M'
def JRet {μ : Type} (Γ : JC μ) (ov : Option Value) (M : μ) : Prop := ∃ (Qc : Array Value → State → Outcome → State → Prop) (XC : Addr → State → State → Prop) (mc ms : Nat) (free : Addr → Prop), jcQ Γ = jMQ (jcB Γ) Qc XC (jcA Γ) (jcS Γ) mc ms free ∧
  ∀ (H : Heap) (locs : List Loc) (cells slots : Nat), jcI Γ M H locs cells slots → cells ≤ mc ∧ slots ≤ ms ∧ (∀ z ∈ locs, free z.base) ∧ ∀ t : State, t.heap = H → (jcS Γ).WarmedH t.vm → Qc (jcA Γ) (jcS Γ) (.returned ov) t
def FRet {μ ρ : Type} (inj : ρ → Option Value) : JF μ ρ := fun Γ v M => JRet Γ (inj v) M
def injI (v : Int32) : Option Value := some (.int v)
def injL (v : Int64) : Option Value := some (.long v)
def injA (v : Nat) : Option Value := some (.ref v)
def injO (v : Option Nat) : Option Value := some (va_rf v)
def injU (_ : Unit) : Option Value := none
variable {μ τ : Type} {P : JC μ → Prop} {Y : JY} {env : List (Nat × Value)} {pc : Nat}
theorem J_ireturn {v : Int32} (hd : decode Y.1 pc = .ok (.ireturn, 1)) (hr : Y.2.2.2.2.2.1 = some .int) : J P Y env [.int v] pc (jp v) (FRet (μ := μ) injI) := by
  intro Γ ok hP M r M' hk hv hq H locs cells slots ls hi hl
  cases hk
  obtain ⟨Qc, XC, mc, ms, free, hQ, h⟩ := hv v rfl
  obtain ⟨h1, h2, h3, h4⟩ := h H locs cells slots hi
  have hlk := ok.locks
  rw [hQ]
  exact j_ret (W.widen h1 h2 (W.iret ok.exec ok.code (ok.rt.trans hr) h4 h3 hd (hlocks := hlk)))
/-- what a boolean method answers -/
def jrz (v : Int32) : JM μ Int32 := fun M => if v = 0 ∨ v = 1 then some (.ok v, M) else none
theorem J_zreturn {v : Int32} (hd : decode Y.1 pc = .ok (.ireturn, 1)) (hr : Y.2.2.2.2.2.1 = some .boolean) : J P Y env [.int v] pc (jrz v) (FRet (μ := μ) injI) := by
  intro Γ ok hP M r M' hk hv hq H locs cells slots ls hi hl
  by_cases hz : v = 0 ∨ v = 1
  · rw [show (jrz v : JM μ Int32) M = some (.ok v, M) from if_pos hz] at hk
    cases hk
    obtain ⟨Qc, XC, mc, ms, free, hQ, h⟩ := hv v rfl
    obtain ⟨h1, h2, h3, h4⟩ := h H locs cells slots hi
    have hlk := ok.locks
    rw [hQ]
    exact j_ret (W.widen h1 h2 (W.zret ok.exec ok.code (ok.rt.trans hr) (by rcases hz with e | e <;> subst e <;> rfl) h4 h3 hd (hlocks := hlk)))
  · rw [show (jrz v : JM μ Int32) M = none from if_neg hz] at hk
    cases hk
/-- what a method that answers a narrow number answers -/
def jrn (ty : FieldType) (v : Int32) : JM μ Int32 := fun M => if narrow ty (.int v) = .int v then some (.ok v, M) else none
theorem J_nreturn {v : Int32} {ty : FieldType} (hd : decode Y.1 pc = .ok (.ireturn, 1)) (hr : Y.2.2.2.2.2.1 = some ty) : J P Y env [.int v] pc (jrn ty v) (FRet (μ := μ) injI) := by
  intro Γ ok hP M r M' hk hv hq H locs cells slots ls hi hl
  by_cases hz : narrow ty (.int v) = .int v
  · rw [show (jrn ty v : JM μ Int32) M = some (.ok v, M) from if_pos hz] at hk
    cases hk
    obtain ⟨Qc, XC, mc, ms, free, hQ, h⟩ := hv v rfl
    obtain ⟨h1, h2, h3, h4⟩ := h H locs cells slots hi
    have hlk := ok.locks
    rw [hQ]
    exact j_ret (W.widen h1 h2 (W.zret ok.exec ok.code (ok.rt.trans hr) hz h4 h3 hd (hlocks := hlk)))
  · rw [show (jrn ty v : JM μ Int32) M = none from if_neg hz] at hk
    cases hk
theorem J_zreturn0 (hd : decode Y.1 pc = .ok (.ireturn, 1)) (hr : Y.2.2.2.2.2.1 = some .boolean) : J P Y env [.int 0] pc (jp 0) (FRet (μ := μ) injI) := J_zreturn (v := 0) hd hr
theorem J_zreturn1 (hd : decode Y.1 pc = .ok (.ireturn, 1)) (hr : Y.2.2.2.2.2.1 = some .boolean) : J P Y env [.int 1] pc (jp 1) (FRet (μ := μ) injI) := J_zreturn (v := 1) hd hr
theorem J_return (hd : decode Y.1 pc = .ok (.return_, 1)) (hr : Y.2.2.2.2.2.1 = none) : J P Y env [] pc (jp ()) (FRet (μ := μ) injU) := by
  intro Γ ok hP M r M' hk hv hq H locs cells slots ls hi hl
  cases hk
  obtain ⟨Qc, XC, mc, ms, free, hQ, h⟩ := hv () rfl
  obtain ⟨h1, h2, h3, h4⟩ := h H locs cells slots hi
  have hlk := ok.locks
  rw [hQ]
  exact j_ret (W.widen h1 h2 (W.vret ok.exec ok.code (ok.rt.trans hr) h4 h3 hd (hlocks := hlk)))
theorem J_lreturn {v : Int64} (hd : decode Y.1 pc = .ok (.lreturn, 1)) (hr : Y.2.2.2.2.2.1 = some .long) : J P Y env [.long v] pc (jp v) (FRet (μ := μ) injL) := by
  intro Γ ok hP M r M' hk hv hq H locs cells slots ls hi hl
  cases hk
  obtain ⟨Qc, XC, mc, ms, free, hQ, h⟩ := hv v rfl
  obtain ⟨h1, h2, h3, h4⟩ := h H locs cells slots hi
  have hlk := ok.locks
  rw [hQ]
  exact j_ret (W.widen h1 h2 (W.lret ok.exec ok.code (ok.rt.trans hr) h4 h3 hd (hlocks := hlk)))
theorem J_areturn {v : Nat} {rt : FieldType} (hd : decode Y.1 pc = .ok (.areturn, 1)) (hr : Y.2.2.2.2.2.1 = some rt) (hrt : (∃ n, rt = .object n) ∨ ∃ t, rt = .array t) : J P Y env [.ref v] pc (jp v) (FRet (μ := μ) injA) := by
  intro Γ ok hP M r M' hk hv hq H locs cells slots ls hi hl
  cases hk
  obtain ⟨Qc, XC, mc, ms, free, hQ, h⟩ := hv v rfl
  obtain ⟨h1, h2, h3, h4⟩ := h H locs cells slots hi
  have hlk := ok.locks
  rw [hQ]
  exact j_ret (W.widen h1 h2 (W.aret ok.exec ok.code (ok.rt.trans hr) hrt (Or.inr ⟨v, rfl⟩) h4 h3 hd (hlocks := hlk)))
theorem j_uncov {Γ : JC μ} (ok : JOk Y Γ) (h : Y.2.2.2.2.2.2.all (fun x => !(decide (x.1 ≤ pc) && decide (pc < x.2.1))) = true) : ∀ x ∈ (jcC Γ).exceptionTable.toList, covers x pc = false := by
  intro x hx
  have h1 : (x.startPc, x.endPc, x.handlerPc, x.catchType) ∈ Y.2.2.2.2.2.2 := by
    rw [← ok.tab]
    exact List.mem_map.mpr ⟨x, hx, rfl⟩
  have h2 := List.all_eq_true.mp h _ h1
  unfold covers
  simp only [Bool.not_eq_true', Bool.and_eq_false_iff, decide_eq_false_iff_not] at h2 ⊢
  exact h2
theorem J_athrow {q : Nat} {pu : List Value} {F : JF μ τ} (hd : decode Y.1 pc = .ok (.athrow, 1)) (hc : Y.2.2.2.2.2.2.all (fun x => !(decide (x.1 ≤ pc) && decide (pc < x.2.1))) = true) : J P Y env (.ref q :: pu) pc (jthrow q) F := by
  intro Γ ok hP M r M' hk hv hq H locs cells slots ls hi hl
  cases hk
  exact vx_athrow ok.exec ok.code hd (hq q rfl H locs cells slots ls pc _ hi (j_uncov ok hc))
end JRUN
