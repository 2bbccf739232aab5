/-! THE MACHINE'S OWN NullPointerException thrown over any frames (a native's among them): no traces kept. -/
set_option maxRecDepth 100000
section JNPE
variable {p : Program} {e : Env} {below base : List Frame} {s₀ W : State}
/-- the constructor's frame upon the frames that wait -/
theorem jn_in (h : Over W base below) (a : Addr) {m : MethodId} {meth : Method} {code : Code} (hm : W.vm.method? m = some meth) (hc : meth.code = some code) (hpl : W.plainMethod m) :
    At ((W.setFrames (.thenThrow a :: base)).pushFrame (.java (pass0J m a 0 []))) m code below ∧ ((W.setFrames (.thenThrow a :: base)).pushFrame (.java (pass0J m a 0 []))).frames = .java (pass0J m a 0 []) :: .thenThrow a :: base := by
  obtain ⟨mid, e0⟩ := h.above
  have f1 : (W.setFrames (.thenThrow a :: base)).frames = .thenThrow a :: base := State.frames_setFrames _ h.cur
  have c1 := State.cur_lt_of_frames f1
  have go : (W.setFrames (.thenThrow a :: base)).goesOn := ⟨h.running, by simpa using h.runnable, by simpa using h.alone⟩
  exact ⟨At.pushOn _ go c1 ⟨.thenThrow a :: mid, by rw [f1, e0]; rfl⟩ hm hc hpl, (State.frames_setFrames _ c1).trans (by rw [f1])⟩
/-- it returns, and what waits throws -/
theorem jn_out (h : Over W base below) (hexec : p.tables.exec = Jvm.exec) (a : Addr) (C : Cell) {m : MethodId} {meth : Method} {code : Code} (hm : W.vm.method? m = some meth) (hc : meth.code = some code) (hpl : W.plainMethod m)
    (hl : meth.locks = false) (h4 : decode code.code 4 = .ok (.return_, 1)) {target : State} (hrest : Steps p.tables e below ((W.setCell a C).setFrames (.throwing a :: base)) target) :
    Steps p.tables e below ((((W.setFrames (.thenThrow a :: base)).pushFrame (.java (pass0J m a 0 []))).setCell a C).setTop (pass0J m a 4 [])) target := by
  obtain ⟨hI, hfI⟩ := jn_in h a hm hc hpl
  obtain ⟨mid, e0⟩ := h.above
  have hH : HeapOnly (fun u => u.setCell a C) := heapOnly_id.thenSetCell a C
  have hB := hH.at_ hI
  have hmB : (((W.setFrames (.thenThrow a :: base)).pushFrame (.java (pass0J m a 0 []))).setCell a C).vm.method? m = some meth := hm
  have hfH : (((W.setFrames (.thenThrow a :: base)).pushFrame (.java (pass0J m a 0 []))).setCell a C).frames = .java (pass0J m a 0 []) :: .thenThrow a :: base := hfI
  have hF : ∀ F, (((W.setFrames (.thenThrow a :: base)).pushFrame (.java (pass0J m a 0 []))).setCell a C).setFrames F = (W.setCell a C).setFrames F := fun F => by
    rw [State.pushFrame, State.setCell_setFrames, State.setCell_setFrames, State.setFrames_setFrames, State.setFrames_setFrames]
  generalize ((W.setFrames (.thenThrow a :: base)).pushFrame (.java (pass0J m a 0 []))).setCell a C = B at hB hmB hfH hF ⊢
  have hcur := State.cur_lt_of_frames hfH
  jvm_step hB [hexec, h4, return_.wp_sem]
  intro acts2
  rw [ret_to (t := B) (f := pass0J m a 4 []) (f₀ := pass0J m a 0 []) (below := .thenThrow a :: base) (fs := .thenThrow a :: base) (meth := meth) hfH hmB hl rfl rfl rfl acts2]
  have f1 : (B.setFrames (.thenThrow a :: base)).frames = .thenThrow a :: base := State.frames_setFrames _ hcur
  refine Steps.head ⟨hB.running, by simpa using hB.runnable, by simpa using hB.alone⟩ ⟨.thenThrow a :: mid, by rw [f1, e0]; rfl, by simp, by simp⟩ ?_
  rw [stepThread_thenThrow f1]
  show Steps p.tables e below ((B.setFrames (.thenThrow a :: base)).setFrames (.throwing a :: base)) target
  rw [State.setFrames_setFrames, hF]
  exact hrest
/-- the constructor from its call to the throw -/
theorem jn_ctor (h : Over W base below) (hexec : p.tables.exec = Jvm.exec) (T : ThrowableC) (L : T.Links e.platform s₀) (Z : Init0T) (LZ : Z.Laid T.toThrowableT) (N : NpeC) (LN : N.Links T e.platform s₀) (hW : s₀.WarmedH W.vm)
    (P1 : PassC) (L1 : P1.Links0 e.platform s₀) (Ps : List PassC) (hL : ∀ P, P ∈ Ps → P.Links0 e.platform s₀) (hlink1 : P1.sup = firstOf (Z.m T.toThrowableT) (Ps.map (·.toPassT))) (hlink : PassesOn (Z.m T.toThrowableT) (Ps.map (·.toPassT)))
    {kX : Class} (hk : s₀.vm.classes[P1.m.cls]? = some kX) {q : Addr} (hq : W.heap[q]? = some (freshCell P1.m.cls kX)) {u0 sen : RefV} {cellS : Cell}
    (hsel0 : selectMethod e.platform s₀.vm P1.m.cls T.fill0 = .method T.fill0) (hselF : selectMethod e.platform s₀.vm P1.m.cls T.fill = .method N.fill)
    (hcellS : W.heap[T.aS]? = some cellS) (hneS : T.aS ≠ q) (hknownS : cellS.vm ≠ .unknown) (hvU : cellS.slots[T.fUnassigned.slot]? = some u0.v) (hvSen : cellS.slots[T.fSentinel.slot]? = some sen.v)
    (hv0 : (freshCell P1.m.cls kX).slots[N.fState.slot]? = some (.int 0)) (hneC : T.fCause.slot ≠ N.fState.slot) (hneSt : T.fStack.slot ≠ N.fState.slot) (hneP : T.fSupp.slot ≠ N.fState.slot)
    (htC : Takes s₀ (freshCell P1.m.cls kX) T.fCause (.ref q)) (htS : Takes s₀ (freshCell P1.m.cls kX) T.fStack u0.v) (htP : Takes s₀ (freshCell P1.m.cls kX) T.fSupp sen.v) (ht1 : Takes s₀ (freshCell P1.m.cls kX) N.fState (.int 1)) (hobjLocals : T.codeObj.maxLocals = 1)
    (hskip : SkipFacts T e.platform s₀ (fun u => u) u0 ((npeCell N.toNpeT (preparedCellV T.toThrowableT (freshCell P1.m.cls kX) q u0 sen) W.cur).withEntry W.cur))
    (hnat : u0.v ≠ .null → ∀ u : State, At u T.fill T.codeFill below → s₀.WarmedH u.vm → u.heap[q]? = some ((npeCell N.toNpeT (preparedCellV T.toThrowableT (freshCell P1.m.cls kX) q u0 sen) W.cur).withEntry W.cur) →
      e.platform.stackFull (((u.setTop (fillJ T.fill q 16 [])).threads[(u.setTop (fillJ T.fill q 16 [])).cur]?).getD { frames := [] }) (u.setTop (fillJ T.fill q 16 [])).frames (nativeFrameWords "java/lang/Throwable" "fillInStackTrace" 2) = false → ∀ t' : State,
      Steps p.tables e below (u.setTop (fillJ T.fill q 19 [.ref q])) t' → Steps p.tables e below (doInvoke e (u.setTop (fillJ T.fill q 16 [])) [] T.fill0 #[.ref q, .int 0]).1 t')
    {lim : Nat × Nat} (hlim : e.platform.stackLimits W.me = lim) (hframes : base.length + Ps.length + 5 < lim.1) (hwords : (stackUse base).2 + 13 * Ps.length + 68 ≤ lim.2) :
    ∃ vm', s₀.WarmedH vm' ∧ ∀ target, Steps p.tables e below (((W.setVm vm').setCell q (npeBareV T.toThrowableT N.toNpeT (freshCell P1.m.cls kX) q u0 sen)).setFrames (.throwing q :: base)) target →
      Steps p.tables e below (doInvoke e (W.setFrames (.thenThrow q :: base)) [] P1.m #[.ref q]).1 target := by
  have hm := hW.methodAt L1.method
  have hpl := hW.plainAt L1.plain
  obtain ⟨hI, hfI⟩ := jn_in h q hm L1.code hpl
  have f1 : (W.setFrames (.thenThrow q :: base)).frames = .thenThrow q :: base := State.frames_setFrames _ h.cur
  have hl1 : e.platform.stackLimits (W.setFrames (.thenThrow q :: base)).me = lim := by rw [State.stackLimits_setFrames]; exact hlim
  have hroom := roomAbove (pl := e.platform) (u := W.setFrames (.thenThrow q :: base)) (vars := 1) (pushed := [.thenThrow q]) (base := base) (free := 13 * Ps.length + 68) (lim := lim) f1 hl1
    (by simp only [List.length_cons, List.length_nil]; omega) (by omega) (by rw [stackUse_light _ _ (fun f hf => by cases hf) rfl, stackUse_nil]; show 0 + 1 + 11 ≤ _; omega)
  obtain ⟨vm1, hW1, st1⟩ := Steps.invokeInitCold (tb := p.tables) (s₀ := s₀) (U := (W.setFrames (.thenThrow q :: base)).pushFrame (.java (pass0J P1.m q 0 []))) (f := pass0J P1.m q 1 [.ref q]) (args := []) (rest := []) (a := q) hI hexec L1.at1 hW L1.links L1.right L1.notHandle L1.cls L1.file L1.pool
    L1.supClass L1.supMethod L1.supName L1.supStatic L1.supAbstract L1.supFound L1.supParams.symm rfl
  have hI1 := hI.setVm (hW.alike.symm.trans hW1.alike)
  have hl2 : e.platform.stackLimits (((W.setFrames (.thenThrow q :: base)).pushFrame (.java (pass0J P1.m q 0 []))).setVm vm1).me = lim := by
    show e.platform.stackLimits ((W.setFrames (.thenThrow q :: base)).pushFrame (.java (pass0J P1.m q 0 []))).me = lim
    rw [State.stackLimits_pushFrame]; exact hl1
  have hf2 : (((W.setFrames (.thenThrow q :: base)).pushFrame (.java (pass0J P1.m q 0 []))).setVm vm1).frames = .java (pass0J P1.m q 0 []) :: .thenThrow q :: base := hfI
  obtain ⟨vm2, hW2, st2⟩ := Steps.initNpe0ColdByV p (V := ((W.setFrames (.thenThrow q :: base)).pushFrame (.java (pass0J P1.m q 0 []))).setVm vm1) (g := pass0J P1.m q 1 []) (c := P1.code) (self := q) hI1 hexec T L Z LZ N LN hW1 (t := W.cur) rfl
    (Nn := fun u => u) heapOnly_id (fun _ _ => rfl) (fun _ => rfl) (fun u x y => setCell_twice _ _ _ _) (fun _ => Nat.le_refl _) (cN := ((npeCell N.toNpeT (preparedCellV T.toThrowableT (freshCell P1.m.cls kX) q u0 sen) W.cur).withEntry W.cur))
    hq (by intro k hk'; cases hk') (by intro hk'; cases hk') rfl hk hsel0 hcellS hneS hknownS hvU hv0 hneC hneSt hneP htS ht1 (fun _ hu => hu) (fun _ hu => hu) rfl rfl rfl (by simp [npeCell, preparedCellV, Cell.setSlot, Cell.withEntry]) hskip hnat hselF hvSen htC htP hobjLocals
    Ps hL hlink (ig := .invokespecial P1.index) (len := 3) [] hl2
    (by rw [hf2]; simp only [List.length_cons]; omega)
    (by rw [hf2, List.tail_cons, stackUse_java, stackUse_light _ _ (fun f hf => by cases hf) rfl]
        show (stackUse base).2 + (1 + 11 + 2 * 0 + operandWords []) + 13 * Ps.length + 55 ≤ lim.2
        simp only [operandWords, List.foldl_nil]
        omega)
    L1.at1
  rw [npeBareV_eq T.toThrowableT N.toNpeT q u0 sen W.cur rfl rfl] at st2
  refine ⟨vm2, hW2, fun target hrest => ?_⟩
  rw [(doInvoke_java (s := W.setFrames (.thenThrow q :: base)) (e := e) (acts := []) (args := #[.ref q]) (meth := P1.meth) (code := P1.code) hm L1.code L1.locks (by rw [L1.locals]; exact hroom)).1, L1.locals]
  show Steps p.tables e below ((W.setFrames (.thenThrow q :: base)).pushFrame (.java (pass0J P1.m q 0 []))) target
  rw [← State.setTop_self (s := (W.setFrames (.thenThrow q :: base)).pushFrame (.java (pass0J P1.m q 0 []))) (State.topJava?_of_frames hfI)]
  jvm_step hI [hexec, L1.at0, Value.isRef]
  refine st1 target ?_
  rw [hlink1]
  refine st2 target ?_
  have e9 : (((W.setFrames (.thenThrow q :: base)).pushFrame (.java (pass0J P1.m q 0 []))).setVm vm1).setVm vm2 = ((W.setVm vm2).setFrames (.thenThrow q :: base)).pushFrame (.java (pass0J P1.m q 0 [])) := by
    rw [State.setVm_twice, State.pushFrame_setVm, State.setFrames_setVm]
  show Steps p.tables e below ((((((W.setFrames (.thenThrow q :: base)).pushFrame (.java (pass0J P1.m q 0 []))).setVm vm1).setVm vm2).setCell q _).setTop (pass0J P1.m q 4 [])) target
  rw [e9]
  exact jn_out (W := W.setVm vm2) (h.setVm (hW.alike.symm.trans hW2.alike)) hexec q _ (hW2.methodAt L1.method) L1.code (hW2.plainAt (U := W.setVm vm2) L1.plain) L1.locks L1.at4 hrest
/-- the note becomes an object that is thrown -/
theorem jn_npe (h : Over W base below) (hexec : p.tables.exec = Jvm.exec) (T : ThrowableC) (L : T.Links e.platform s₀) (Z : Init0T) (LZ : Z.Laid T.toThrowableT) (N : NpeC) (LN : N.Links T e.platform s₀) (hW : s₀.WarmedH W.vm)
    (P1 : PassC) (L1 : P1.Links0 e.platform s₀) (Ps : List PassC) (hL : ∀ P, P ∈ Ps → P.Links0 e.platform s₀) (hlink1 : P1.sup = firstOf (Z.m T.toThrowableT) (Ps.map (·.toPassT))) (hlink : PassesOn (Z.m T.toThrowableT) (Ps.map (·.toPassT)))
    {kX : Class} (hfound : s₀.vm.findClass "java/lang/NullPointerException" = some P1.m.cls) (hk : s₀.vm.classes[P1.m.cls]? = some kX) (hinit : kX.init = .initialized) (hord : kX.kind = .ordinary) (hctor : kX.findMethod "<init>" "()V" = some P1.m.idx)
    (hhot : e.platform.hotImplicitExceptions = false)
    (hbeyond : e.platform.stackBeyond ((((W.setFrames (.throwNew "java/lang/NullPointerException" none none :: base)).threads[W.cur]?).map (·.stackBytes)).getD 0) (W.setFrames (.throwNew "java/lang/NullPointerException" none none :: base)).frames = false)
    (hfree : e.platform.vmThrowRoom ≤ e.platform.stackFree ((((W.setFrames (.throwNew "java/lang/NullPointerException" none none :: base)).threads[W.cur]?).map (·.stackBytes)).getD 0) (W.setFrames (.throwNew "java/lang/NullPointerException" none none :: base)).frames)
    (hcells : W.heap.size + 1 ≤ e.platform.maxCells) (hslots : W.slotsUsed + kX.instanceTypes.size ≤ e.platform.maxSlots) {u0 sen : RefV} {cellS : Cell}
    (hsel0 : selectMethod e.platform s₀.vm P1.m.cls T.fill0 = .method T.fill0) (hselF : selectMethod e.platform s₀.vm P1.m.cls T.fill = .method N.fill)
    (hcellS : W.heap[T.aS]? = some cellS) (hknownS : cellS.vm ≠ .unknown) (hvU : cellS.slots[T.fUnassigned.slot]? = some u0.v) (hvSen : cellS.slots[T.fSentinel.slot]? = some sen.v)
    (hv0 : (freshCell P1.m.cls kX).slots[N.fState.slot]? = some (.int 0)) (hneC : T.fCause.slot ≠ N.fState.slot) (hneSt : T.fStack.slot ≠ N.fState.slot) (hneP : T.fSupp.slot ≠ N.fState.slot)
    (htC : Takes s₀ (freshCell P1.m.cls kX) T.fCause (.ref W.heap.size)) (htS : Takes s₀ (freshCell P1.m.cls kX) T.fStack u0.v) (htP : Takes s₀ (freshCell P1.m.cls kX) T.fSupp sen.v) (ht1 : Takes s₀ (freshCell P1.m.cls kX) N.fState (.int 1)) (hobjLocals : T.codeObj.maxLocals = 1)
    (hskip : SkipFacts T e.platform s₀ (fun u => u) u0 ((npeCell N.toNpeT (preparedCellV T.toThrowableT (freshCell P1.m.cls kX) W.heap.size u0 sen) W.cur).withEntry W.cur))
    (hnat : u0.v ≠ .null → ∀ u : State, At u T.fill T.codeFill below → s₀.WarmedH u.vm → u.heap[W.heap.size]? = some ((npeCell N.toNpeT (preparedCellV T.toThrowableT (freshCell P1.m.cls kX) W.heap.size u0 sen) W.cur).withEntry W.cur) →
      e.platform.stackFull (((u.setTop (fillJ T.fill W.heap.size 16 [])).threads[(u.setTop (fillJ T.fill W.heap.size 16 [])).cur]?).getD { frames := [] }) (u.setTop (fillJ T.fill W.heap.size 16 [])).frames (nativeFrameWords "java/lang/Throwable" "fillInStackTrace" 2) = false → ∀ t' : State,
      Steps p.tables e below (u.setTop (fillJ T.fill W.heap.size 19 [.ref W.heap.size])) t' → Steps p.tables e below (doInvoke e (u.setTop (fillJ T.fill W.heap.size 16 [])) [] T.fill0 #[.ref W.heap.size, .int 0]).1 t')
    {lim : Nat × Nat} (hlim : e.platform.stackLimits W.me = lim) (hframes : base.length + Ps.length + 5 < lim.1) (hwords : (stackUse base).2 + 13 * Ps.length + 68 ≤ lim.2) :
    ∃ vm', s₀.WarmedH vm' ∧ ∀ target, Steps p.tables e below ((((W.pushCell (freshCell P1.m.cls kX)).setVm vm').setCell W.heap.size (npeBareV T.toThrowableT N.toNpeT (freshCell P1.m.cls kX) W.heap.size u0 sen)).setFrames (.throwing W.heap.size :: base)) target →
      Steps p.tables e below (W.setFrames (.throwNew "java/lang/NullPointerException" none none :: base)) target := by
  obtain ⟨kX', hk', he'⟩ := hW.alike.2.2 _ _ hk
  have hty : kX'.instanceTypes = kX.instanceTypes := by rw [he']
  have hfresh : freshCell P1.m.cls kX' = freshCell P1.m.cls kX := by
    show ({ cls := P1.m.cls, slots := kX'.instanceTypes.map defaultValue, vm := .none } : Cell) = _
    rw [hty]
  have hltS : T.aS < W.heap.size := (Array.getElem?_eq_some_iff.mp hcellS).1
  have w5 : (W.pushCell (freshCell P1.m.cls kX)).heap[T.aS]? = some cellS := by
    rw [← hcellS]
    simp [State.pushCell, Array.getElem?_push, Nat.ne_of_lt hltS]
  obtain ⟨vm', hW', st⟩ := jn_ctor (p := p) (W := W.pushCell (freshCell P1.m.cls kX)) ((Over.pushCell_iff _).mpr h) hexec T L Z LZ N LN hW P1 L1 Ps hL hlink1 hlink hk (State.heap_pushCell_size W (freshCell P1.m.cls kX)) hsel0 hselF w5 (Nat.ne_of_lt hltS) hknownS hvU hvSen
    hv0 hneC hneSt hneP htC htS htP ht1 hobjLocals hskip hnat hlim hframes hwords
  refine ⟨vm', hW', fun target hrest => ?_⟩
  obtain ⟨mid, e0⟩ := h.above
  have f0 : (W.setFrames (.throwNew "java/lang/NullPointerException" none none :: base)).frames = .throwNew "java/lang/NullPointerException" none none :: base := State.frames_setFrames _ h.cur
  refine Steps.head ⟨h.running, by simpa using h.runnable, by simpa using h.alone⟩ ⟨.throwNew "java/lang/NullPointerException" none none :: mid, by rw [f0, e0]; rfl, by simp, by simp⟩ ?_
  rw [stepThread_throwNew f0, stepThrowNew_plain (s := W.setFrames (.throwNew "java/lang/NullPointerException" none none :: base)) (c := P1.m.cls) (k := kX') (i := P1.m.idx) (by decide) (by decide) (by rw [show (W.setFrames (.throwNew "java/lang/NullPointerException" none none :: base)).vm = W.vm from rfl, hW.alike.findClass]; exact hfound) hk' (by rw [he']; exact hinit) (by rw [he']; exact hord)
    hhot hbeyond hfree (by rw [he']; exact hctor) hcells (by rw [hty]; exact hslots)]
  rw [State.pushCell_setFrames, State.setFrames_setFrames, hfresh]
  exact st target hrest
end JNPE
section JNBARE
variable {p : Program} {l : Launch} {e : Env} {R : Room} {s : State} {m₀ : MethodId} {args : Array Value} {below : List Frame} {meth : Method} {c : Code} {W : State} {locs : List Loc} {cells slots : Nat}
/-- seen from the frame that called the native -/
theorem jn_bare (X : Stand p l e R s m₀ args below meth c W locs cells slots) (hexec : p.tables.exec = Jvm.exec) {g : JFrame} (hsize : g.locals.size = c.maxLocals) {nf : NFrame} (hnf : nf.words = 0)
    (T : ThrowableC) (L : T.Links e.platform s) (Z : Init0T) (LZ : Z.Laid T.toThrowableT) (N : NpeC) (LN : N.Links T e.platform s)
    (P1 : PassC) (L1 : P1.Links0 e.platform s) (Ps : List PassC) (hL : ∀ P, P ∈ Ps → P.Links0 e.platform s) (hlink1 : P1.sup = firstOf (Z.m T.toThrowableT) (Ps.map (·.toPassT))) (hlink : PassesOn (Z.m T.toThrowableT) (Ps.map (·.toPassT)))
    {kX : Class} (hfound : s.vm.findClass "java/lang/NullPointerException" = some P1.m.cls) (hk : s.vm.classes[P1.m.cls]? = some kX) (hinit : kX.init = .initialized) (hord : kX.kind = .ordinary) (hctor : kX.findMethod "<init>" "()V" = some P1.m.idx)
    {u0 sen : RefV} {cellS : Cell} (hsel0 : selectMethod e.platform s.vm P1.m.cls T.fill0 = .method T.fill0) (hselF : selectMethod e.platform s.vm P1.m.cls T.fill = .method N.fill)
    (hcellS : W.heap[T.aS]? = some cellS) (hknownS : cellS.vm ≠ .unknown) (hvU : cellS.slots[T.fUnassigned.slot]? = some u0.v) (hvSen : cellS.slots[T.fSentinel.slot]? = some sen.v)
    (hv0 : (freshCell P1.m.cls kX).slots[N.fState.slot]? = some (.int 0)) (hneC : T.fCause.slot ≠ N.fState.slot) (hneSt : T.fStack.slot ≠ N.fState.slot) (hneP : T.fSupp.slot ≠ N.fState.slot)
    (htC : Takes s (freshCell P1.m.cls kX) T.fCause (.ref W.heap.size)) (htS : Takes s (freshCell P1.m.cls kX) T.fStack u0.v) (htP : Takes s (freshCell P1.m.cls kX) T.fSupp sen.v) (ht1 : Takes s (freshCell P1.m.cls kX) N.fState (.int 1)) (hobjLocals : T.codeObj.maxLocals = 1)
    (hskip : SkipFacts T e.platform s (fun u => u) u0 ((npeCell N.toNpeT (preparedCellV T.toThrowableT (freshCell P1.m.cls kX) W.heap.size u0 sen) W.cur).withEntry W.cur))
    (hnat : u0.v ≠ .null → ∀ u : State, At u T.fill T.codeFill below → s.WarmedH u.vm → u.heap[W.heap.size]? = some ((npeCell N.toNpeT (preparedCellV T.toThrowableT (freshCell P1.m.cls kX) W.heap.size u0 sen) W.cur).withEntry W.cur) →
      e.platform.stackFull (((u.setTop (fillJ T.fill W.heap.size 16 [])).threads[(u.setTop (fillJ T.fill W.heap.size 16 [])).cur]?).getD { frames := [] }) (u.setTop (fillJ T.fill W.heap.size 16 [])).frames (nativeFrameWords "java/lang/Throwable" "fillInStackTrace" 2) = false → ∀ t' : State,
      Steps p.tables e below (u.setTop (fillJ T.fill W.heap.size 19 [.ref W.heap.size])) t' → Steps p.tables e below (doInvoke e (u.setTop (fillJ T.fill W.heap.size 16 [])) [] T.fill0 #[.ref W.heap.size, .int 0]).1 t')
    (hRframes : Ps.length + 6 < R.frames) (hRlocals : 2 * g.monitorRoom + (g.stack.map fun v => v.category).sum + 10240 ≤ R.locals) (hshort : 13 * Ps.length + 68 ≤ 10240) (hRcells : cells + 1 ≤ R.cells) (hRslots : slots + kX.instanceTypes.size ≤ R.slots) :
    ∃ vm', Stand p l e R s m₀ args below meth c (((W.pushCell (freshCell P1.m.cls kX)).setVm vm').setCell W.heap.size (npeBareV T.toThrowableT N.toNpeT (freshCell P1.m.cls kX) W.heap.size u0 sen))
        (locs ++ [⟨W.heap.size, T.fCause.slot⟩, ⟨W.heap.size, T.fStack.slot⟩, ⟨W.heap.size, T.fSupp.slot⟩, ⟨W.heap.size, N.fState.slot⟩, ⟨W.heap.size, T.fStack.slot⟩]) (cells + 1) (slots + (freshCell P1.m.cls kX).slots.size) ∧
      Steps p.tables e below (W.setFrames (.throwNew "java/lang/NullPointerException" none none :: .native nf :: .java g :: below)) ((((W.pushCell (freshCell P1.m.cls kX)).setVm vm').setCell W.heap.size (npeBareV T.toThrowableT N.toNpeT (freshCell P1.m.cls kX) W.heap.size u0 sen)).setFrames (.throwing W.heap.size :: .native nf :: .java g :: below)) ∧ True := by
  obtain ⟨hbeyond, hfree⟩ := X.vmMayThrowNative hsize hnf (.throwNew "java/lang/NullPointerException" none none) (fun f hf => by cases hf) rfl hRlocals
  have hfr : (Frame.native nf :: .java g :: below).length + Ps.length + 5 < (e.platform.stackLimits W.me).1 := by have := X.framesAboveNative g nf (n := Ps.length + 5) (by omega); omega
  have hwd : (stackUse (.native nf :: .java g :: below)).2 + 13 * Ps.length + 68 ≤ (e.platform.stackLimits W.me).2 := by have := X.stackAboveNative hsize hnf (K := 13 * Ps.length + 68) (by omega); omega
  obtain ⟨vm', hW', st⟩ := jn_npe (p := p) (X.overNative g nf) hexec T L Z LZ N LN X.warmed P1 L1 Ps hL hlink1 hlink hfound hk hinit hord hctor (Launch.admits_hotImplicitExceptions X.admits) hbeyond hfree (X.cellsAbove hRcells) (X.slotsAbove hRslots)
    hsel0 hselF hcellS hknownS hvU hvSen hv0 hneC hneSt hneP htC htS htP ht1 hobjLocals hskip hnat rfl hfr hwd
  have X2 := (X.pushed (freshCell P1.m.cls kX)).noted hW'
  have ha : W.heap.size < ((W.pushCell (freshCell P1.m.cls kX)).setVm vm').heap.size := by
    show W.heap.size < (W.pushCell (freshCell P1.m.cls kX)).heap.size
    rw [State.heap_size_pushCell]; omega
  have hcell : ((W.pushCell (freshCell P1.m.cls kX)).setVm vm').heap[W.heap.size]? = some (freshCell P1.m.cls kX) := State.heap_pushCell_size W (freshCell P1.m.cls kX)
  have X3 := ((((X2.stored hcell T.fCause.slot (.ref W.heap.size)).storedAgain ha T.fStack.slot u0.v).storedAgain ha T.fSupp.slot sen.v).storedAgain ha N.fState.slot (.int 1)).storedAgain ha T.fStack.slot u0.v
  simp only [List.append_assoc, List.cons_append, List.nil_append] at X3
  exact ⟨vm', X3, st _ (Steps.refl _), trivial⟩
end JNBARE
