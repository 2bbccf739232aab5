/-! ARRAYCOPY that throws by itself: J rows. -/
set_option maxRecDepth 100000
section JNK
variable {p : Program} {l : Launch} {e : Env} {R : Room} {s : State} {m : MethodId} {args : Array Value} {below : List Frame} {meth : Method} {c : Code} {T : State} {locs : List Loc} {cells slots : Nat}
theorem jx_natNpeK (X : Stand p l e R s m args below meth c T locs cells slots) (hexec : p.tables.exec = Jvm.exec) (hl : l.stackTraces = false) {nb : Nat} {A : Nat → Prop}
    (hat : ∀ w ∈ vx_atN nb, w.before args s = true) (hgood : ∀ w ∈ vx_atN nb, vx_ot w = true)
    (hU : vx_Zq Bundle.tN "UNASSIGNED_STACK" Bundle.steD A s s.heap) (hN : vx_Zq Bundle.tN "SUPPRESSED_SENTINEL" Bundle.listD A s s.heap) (hS : va_S A s.heap T.heap locs)
    {g : JFrame} (hg : g.method = m) (hsize : g.locals.size = c.maxLocals) {nf : NFrame} (hnf : nf.words = 0)
    (hRframes : 8 < R.frames) (hRlocals : 2 * g.monitorRoom + (g.stack.map fun v => v.category).sum + 10240 ≤ R.locals) (hRcells : cells + 1 ≤ R.cells) (hRslots : slots + nb ≤ R.slots) :
    ∃ (S : State) (ce : Cell), Steps p.tables e below (T.setFrames (.throwNew "java/lang/NullPointerException" none none :: .native nf :: .java g :: below)) (S.setFrames (.throwing T.heap.size :: .native nf :: .java g :: below)) ∧
      Stand p l e R s m args below meth c S locs (cells + 1) (slots + nb) ∧ S.heap.size = T.heap.size + 1 ∧ (∀ q : Nat, q < T.heap.size → S.heap[q]? = T.heap[q]?) ∧ S.heap[T.heap.size]? = some ce ∧ ce.vm = .none ∧ s.vm.findClass "java/lang/NullPointerException" = some ce.cls := by
  have htr : e.platform.stackTraces = false := (show e.platform.stackTraces = l.stackTraces by rw [X.admits.platform]).trans hl
  have Y := vx_rebase X (R' := { frames := R.frames, locals := R.locals, cells := 1, slots := nb }) (Nat.le_refl _) (Nat.le_refl _) hRcells hRslots
  have hW0 : s.WarmedH ((T.setVm s.vm).setFrames (.invoking m args :: below)).vm := State.WarmedH.refl s
  have hat' : ∀ w ∈ vx_atN nb, w.before args ((T.setVm s.vm).setFrames (.invoking m args :: below)) = true := fun w hw => vx_ot_at hW0 rfl (hgood w hw) (hat w hw)
  have hU' : vx_Zq Bundle.tN "UNASSIGNED_STACK" Bundle.steD A ((T.setVm s.vm).setFrames (.invoking m args :: below)) ((T.setVm s.vm).setFrames (.invoking m args :: below)).heap := vx_Zq.moved hW0.alike (hU.kept hS.2.1)
  have hN' : vx_Zq Bundle.tN "SUPPRESSED_SENTINEL" Bundle.listD A ((T.setVm s.vm).setFrames (.invoking m args :: below)) ((T.setVm s.vm).setFrames (.invoking m args :: below)).heap := vx_Zq.moved hW0.alike (hN.kept hS.2.1)
  obtain ⟨S, q, ce, st, Z, hce, hcl', hv, hz1, hz2⟩ := jx_natNpe Y hexec htr (n := nb) (vx_own hat' (vx_isRefq hU'.1) (vx_isRefq hN'.1) hU'.2.word hN'.2.word) (fun x hx => nomatch hx)
    (g := g) hg hsize (nf := nf) hnf hRframes hRlocals (by show 0 + 1 ≤ 1; omega) (by show 0 + nb ≤ nb; omega)
  obtain ⟨f1, f2⟩ := vx_frame Z.same
  have X5 := vx_back9 X Y Z
  have X6 : Stand p l e R s m args below meth c S locs (cells + 1) (slots + nb) := { X5 with same := X5.same.mono (by omega) (by omega) }
  subst hz2
  exact ⟨S, ce, st, X6, hz1, fun q hq => f2 q hq (fun z hz => nomatch hz), hce, hv, hcl'⟩
theorem jx_natMsgK (X : Stand p l e R s m args below meth c T locs cells slots) (hexec : p.tables.exec = Jvm.exec) (hl : l.stackTraces = false) {cls text : String} {names : List String} {nb : Nat} {A : Nat → Prop}
    (hcls : Bundle.fit cls = true) (hnames : ∀ n ∈ names, Bundle.fit n = true) (hsoe : (cls == "java/lang/StackOverflowError") = false) (hoom : (cls == "java/lang/OutOfMemoryError") = false)
    (hat : ∀ w ∈ vx_atM cls names, w.before args s = true) (hgood : ∀ w ∈ vx_atM cls names, vx_ot w = true)
    (hU : vx_Zq Bundle.tN "UNASSIGNED_STACK" Bundle.steD A s s.heap) (hN : vx_Zq Bundle.tN "SUPPRESSED_SENTINEL" Bundle.listD A s s.heap) (hS : va_S A s.heap T.heap locs)
    (htext : (text == notModelled) = false) (hnb : (stringBytes (stringToUtf16 text)).size ≤ nb) (hnb1 : nb ≤ 1000)
    {g : JFrame} (hg : g.method = m) (hsize : g.locals.size = c.maxLocals) {nf : NFrame} (hnf : nf.words = 0)
    (hRframes : names.length + 5 < R.frames) (hRlocals : 2 * g.monitorRoom + (g.stack.map fun v => v.category).sum + 10240 ≤ R.locals) (hshort : 13 * names.length + 55 ≤ 10240) (hRcells : cells + 3 ≤ R.cells) (hRslots : slots + (nb + 10) ≤ R.slots) :
    ∃ (S : State) (ce : Cell), Steps p.tables e below (T.setFrames (.throwNew cls (some text) none :: .native nf :: .java g :: below)) (S.setFrames (.throwing (T.heap.size + 2) :: .native nf :: .java g :: below)) ∧
      Stand p l e R s m args below meth c S locs (cells + 3) (slots + (nb + 10)) ∧ S.heap.size = T.heap.size + 3 ∧ (∀ q : Nat, q < T.heap.size → S.heap[q]? = T.heap[q]?) ∧ S.heap[T.heap.size + 2]? = some ce ∧ ce.vm = .none ∧ s.vm.findClass cls = some ce.cls := by
  have htr : e.platform.stackTraces = false := (show e.platform.stackTraces = l.stackTraces by rw [X.admits.platform]).trans hl
  have Y := vx_rebase X (R' := { frames := R.frames, locals := R.locals, cells := 3, slots := nb + 10 }) (Nat.le_refl _) (Nat.le_refl _) hRcells hRslots
  have hW0 : s.WarmedH ((T.setVm s.vm).setFrames (.invoking m args :: below)).vm := State.WarmedH.refl s
  have hat' : ∀ w ∈ vx_atM cls names, w.before args ((T.setVm s.vm).setFrames (.invoking m args :: below)) = true := fun w hw => vx_ot_at hW0 rfl (hgood w hw) (hat w hw)
  have hU' : vx_Zq Bundle.tN "UNASSIGNED_STACK" Bundle.steD A ((T.setVm s.vm).setFrames (.invoking m args :: below)) ((T.setVm s.vm).setFrames (.invoking m args :: below)).heap := vx_Zq.moved hW0.alike (hU.kept hS.2.1)
  have hN' : vx_Zq Bundle.tN "SUPPRESSED_SENTINEL" Bundle.listD A ((T.setVm s.vm).setFrames (.invoking m args :: below)) ((T.setVm s.vm).setFrames (.invoking m args :: below)).heap := vx_Zq.moved hW0.alike (hN.kept hS.2.1)
  obtain ⟨S, q, ce, st, Z, hce, hcl', hv, hz1, hz2⟩ := jx_natMsg Y hexec htr (cls := cls) (names := names) (text := text) hcls hnames hsoe hoom (vx_own hat' (vx_isRefq hU'.1) (vx_isRefq hN'.1) hU'.2.word hN'.2.word) (fun x hx => nomatch hx) htext
    (by rw [Launch.admits_arrayLengthLimit X.admits]; omega) (by rw [Launch.admits_maxHeapBytes X.admits]; simp only [componentBytes]; omega)
    (g := g) hg hsize (nf := nf) hnf hRframes hRlocals hshort (by show 0 + 3 ≤ 3; omega) (by show 0 + (_ + 4 + 6) ≤ nb + 10; omega)
  obtain ⟨f1, f2⟩ := vx_frame Z.same
  have X5 := vx_back9 X Y Z
  have X6 : Stand p l e R s m args below meth c S locs (cells + 3) (slots + (nb + 10)) := { X5 with same := X5.same.mono (by omega) (by omega) }
  subst hz2
  exact ⟨S, ce, st, X6, hz1, fun q hq => f2 q hq (fun z hz => nomatch hz), hce, hv, hcl'⟩
end JNK
section JNB
/-- the text's length -/
theorem int_pr (z : Int) (h : -10000000000 < z ∧ z < 10000000000) : (toString z).toList.length ≤ 11 := by
  show (Int.repr z).toList.length ≤ 11
  cases z with
  | ofNat m =>
    have h' : (m : Int) < 10000000000 := h.2
    have := nat_print (n := m) (by omega)
    show (toString m).toList.length ≤ 11
    omega
  | negSucc m =>
    have h' : -10000000000 < -((m : Int) + 1) := by
      have h1 := h.1
      rw [Int.negSucc_eq] at h1
      exact h1
    have := nat_print (n := m.succ) (by omega)
    show ("-" ++ toString m.succ).toList.length ≤ 11
    rw [String.toList_append, List.length_append]
    have h0 : "-".toList.length = 1 := by decide
    omega
theorem kind_len {t : Nat} (ht : t < 4) : (Native.java_lang_System.arraycopy.kindName (jaT t)).toList.length ≤ 10 := by
  match t, ht with
  | 0, _ => decide +kernel
  | 1, _ => decide +kernel
  | 2, _ => decide +kernel
  | 3, _ => decide +kernel
theorem copy_text {t n0 n1 : Nat} {sp dp n : Int32} {what : String} (ht : t < 4) (h0 : n0 < 10000000000) (h1 : n1 < 10000000000) (h : copyFault (jaT t) (jaT t) n0 n1 sp dp n = some what) : what.toList.length ≤ 120 := by
  have k1 := kind_len ht
  have k2 := nat_print (n := n0) (by omega)
  have k3 := nat_print (n := n1) (by omega)
  have k4 := int32_print sp
  have k5 := int32_print dp
  have k6 := int32_print n
  have b1 := Int32.toInt_lt sp
  have b2 := Int32.le_toInt sp
  have b3 := Int32.toInt_lt n
  have b4 := Int32.le_toInt n
  have b5 := Int32.toInt_lt dp
  have b6 := Int32.le_toInt dp
  have k7 := int_pr (sp.toInt + n.toInt) (by omega)
  have k8 := int_pr (dp.toInt + n.toInt) (by omega)
  have c1 : (toString "source index ").toList.length = 13 := by decide
  have c2 : (toString " out of bounds for ").toList.length = 19 := by decide
  have c3 : (toString "destination index ").toList.length = 18 := by decide
  have c4 : (toString "length ").toList.length = 7 := by decide
  have c5 : (toString " is negative").toList.length = 12 := by decide
  have c6 : (toString "last source index ").toList.length = 18 := by decide
  have c7 : (toString "last destination index ").toList.length = 23 := by decide
  have c8 : (toString "[").toList.length = 1 := by decide
  have c9 : (toString "]").toList.length = 1 := by decide
  have key : ∀ (k : String) (nn : Nat), (toString (toString k ++ toString "[" ++ toString nn ++ toString "]") : String).toList.length = k.toList.length + 1 + (toString nn).toList.length + 1 := fun k nn => by
    show (toString k ++ toString "[" ++ toString nn ++ toString "]").toList.length = _
    simp only [String.toList_append, List.length_append]
    rw [c8, c9]
    rfl
  unfold copyFault at h
  repeat' split at h
  all_goals first | (cases h; done) | (have h := Option.some.inj h; rw [← h]; simp only [String.toList_append, List.length_append, key, c1, c2, c3, c4, c5, c6, c7]; omega) | skip
theorem copy_bytes {what : String} (h : what.toList.length ≤ 120) : (stringBytes (stringToUtf16 ("arraycopy: " ++ what))).size ≤ 600 ∧ (("arraycopy: " ++ what) == notModelled) = false := by
  constructor
  · have b1 := stringBytes_size_le (stringToUtf16 ("arraycopy: " ++ what))
    have b2 := utf16_size_le ("arraycopy: " ++ what)
    have b3 : ("arraycopy: " ++ what).toList.length = 11 + what.toList.length := by
      rw [String.toList_append, List.length_append]
      rfl
    omega
  · rw [beq_eq_false_iff_ne]
    intro h
    have h2 := congrArg String.toList h
    have h4 : notModelled.toList = '\u0000' :: " a message that is not modelled".toList := by decide
    rw [h4, String.toList_append] at h2
    have h5 : "arraycopy: ".toList = 'a' :: "rraycopy: ".toList := by decide
    rw [h5] at h2
    simp at h2
end JNB
