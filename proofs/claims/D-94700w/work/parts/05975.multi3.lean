/-! J rows: int[][][] made at once: the machine's own make of three, and its J row. -/
section JMULTI3A
def out3C (c : ClassId) (N h0 w : Nat) : Nat → Cell
  | 0 => { cls := c, slots := Array.replicate N .null, vm := .none }
  | i + 1 => (out3C c N h0 w i).setSlot i (.ref (h0 + 1 + i * w))
def fill3 (s : State) (cA cB cC : ClassId) (N M K : Nat) (dv : Value) : Nat → State
  | 0 => s.pushCell (out3C cA N s.heap.size (1 + M) 0)
  | i + 1 => (Jvm.Free.Multi.fill (fill3 s cA cB cC N M K dv i) cB cC M K dv M).setCell s.heap.size (out3C cA N s.heap.size (1 + M) (i + 1))
theorem out3C_form (c : ClassId) (N h0 w : Nat) : ∀ i, out3C c N h0 w i = { cls := c, slots := (out3C c N h0 w i).slots, vm := .none }
  | 0 => rfl
  | i + 1 => by
    have ih := out3C_form c N h0 w i
    show (out3C c N h0 w i).setSlot i _ = _
    rw [ih]
    rfl
theorem out3C_facts (c : ClassId) (N h0 w : Nat) : ∀ i, (out3C c N h0 w i).cls = c ∧ (out3C c N h0 w i).vm = .none ∧ (out3C c N h0 w i).slots.size = N
  | 0 => ⟨rfl, rfl, by simp [out3C]⟩
  | i + 1 => by
    obtain ⟨a, b, d⟩ := out3C_facts c N h0 w i
    exact ⟨by simp [out3C, Cell.setSlot, a], by simp [out3C, Cell.setSlot, b], by simp [out3C, Cell.setSlot, d]⟩
theorem out3C_slot (c : ClassId) (N h0 w : Nat) : ∀ i j, j < N → (out3C c N h0 w i).slots[j]? = some (if j < i then .ref (h0 + 1 + j * w) else .null)
  | 0, j, h => by simp [out3C, h]
  | i + 1, j, h => by
    have ih := out3C_slot c N h0 w i j h
    have hs := (out3C_facts c N h0 w i).2.2
    show ((out3C c N h0 w i).setSlot i (.ref (h0 + 1 + i * w))).slots[j]? = _
    simp only [Cell.setSlot, Array.getElem?_setIfInBounds]
    by_cases e : i = j
    · subst e; simp [hs, h]
    · rw [if_neg e, ih]
      by_cases hj : j < i
      · rw [if_pos hj, if_pos (by omega)]
      · rw [if_neg hj, if_neg (by omega)]
theorem out3C_arr (c : ClassId) (N h0 w : Nat) : out3C c N h0 w N = arrV c N (fun j => va_rf (if j < N then some (h0 + 1 + j * w) else none)) := by
  rw [out3C_form]
  unfold arrV
  congr 1
  apply Array.ext
  · rw [(out3C_facts c N h0 w N).2.2, Array.size_ofFn]
  · intro j h1 h2
    have hj : j < N := by rw [(out3C_facts c N h0 w N).2.2] at h1; exact h1
    have h3 := out3C_slot c N h0 w N j hj
    rw [Array.getElem?_eq_getElem h1] at h3
    rw [Option.some.inj h3, Array.getElem_ofFn, if_pos hj]
    simp [hj, va_rf]
theorem fill3_setTop (s : State) (f : JFrame) (cA cB cC : ClassId) (N M K : Nat) (dv : Value) : ∀ i, fill3 (s.setTop f) cA cB cC N M K dv i = (fill3 s cA cB cC N M K dv i).setTop f
  | 0 => rfl
  | i + 1 => by simp only [fill3, fill3_setTop s f cA cB cC N M K dv i, Jvm.Free.Multi.fill_setTop, State.heap_setTop, State.pushCell_setTop, State.setCell_setTop]
theorem fill3_facts (s : State) (cA cB cC : ClassId) (N M K : Nat) (dv : Value) : ∀ i, (fill3 s cA cB cC N M K dv i).heap.size = s.heap.size + 1 + i * (1 + M) ∧ (fill3 s cA cB cC N M K dv i).heap[s.heap.size]? = some (out3C cA N s.heap.size (1 + M) i) ∧ (fill3 s cA cB cC N M K dv i).vm = s.vm ∧ (fill3 s cA cB cC N M K dv i).slotsUsed = s.slotsUsed + N + i * (M + M * K)
  | 0 => ⟨by simp [fill3], by simp [fill3], rfl, by simp [fill3, out3C]⟩
  | i + 1 => by
    obtain ⟨a, b, d, u⟩ := fill3_facts s cA cB cC N M K dv i
    have hlt : s.heap.size < (fill3 s cA cB cC N M K dv i).heap.size := by rw [a]; omega
    obtain ⟨f1, -, f3, f4⟩ := Jvm.Free.Multi.fill_facts (fill3 s cA cB cC N M K dv i) cB cC M K dv M
    have hb' : (Jvm.Free.Multi.fill (fill3 s cA cB cC N M K dv i) cB cC M K dv M).heap[s.heap.size]? = some (out3C cA N s.heap.size (1 + M) i) := by rw [Jvm.Free.Multi.fill_old _ _ _ _ _ _ hlt]; exact b
    refine ⟨?_, State.heap_setCell_self hb', by show (Jvm.Free.Multi.fill _ _ _ _ _ _ _).vm = _; rw [f3]; exact d, ?_⟩
    · have : (fill3 s cA cB cC N M K dv (i + 1)).heap.size = (Jvm.Free.Multi.fill (fill3 s cA cB cC N M K dv i) cB cC M K dv M).heap.size := by simp [fill3, State.setCell]
      rw [this, f1, a, Nat.succ_mul]; omega
    · have : (fill3 s cA cB cC N M K dv (i + 1)).slotsUsed = (Jvm.Free.Multi.fill (fill3 s cA cB cC N M K dv i) cB cC M K dv M).slotsUsed := by simp [fill3]
      rw [this, f4, u, Nat.succ_mul]; omega
theorem fill3_old (s : State) (cA cB cC : ClassId) (N M K : Nat) (dv : Value) {a : Addr} (ha : a < s.heap.size) : ∀ i, (fill3 s cA cB cC N M K dv i).heap[a]? = s.heap[a]?
  | 0 => State.heap_pushCell_of_lt _ _ ha
  | i + 1 => by
    have f1 := (fill3_facts s cA cB cC N M K dv i).1
    have hlt : a < (fill3 s cA cB cC N M K dv i).heap.size := Nat.lt_of_lt_of_le ha (by rw [f1]; omega)
    show ((Jvm.Free.Multi.fill _ _ _ _ _ _ _).setCell s.heap.size _).heap[a]? = _
    rw [State.heap_setCell_other (Nat.ne_of_gt ha), Jvm.Free.Multi.fill_old _ _ _ _ _ _ hlt]
    exact fill3_old s cA cB cC N M K dv ha i
theorem fill3_mid (s : State) (cA cB cC : ClassId) (N M K : Nat) (dv : Value) : ∀ i j, j < i → (fill3 s cA cB cC N M K dv i).heap[s.heap.size + 1 + j * (1 + M)]? = some (Jvm.Free.Multi.outerC cB M (s.heap.size + 1 + j * (1 + M)) M)
  | 0, _, h => absurd h (Nat.not_lt_zero _)
  | i + 1, j, h => by
    have f1 := (fill3_facts s cA cB cC N M K dv i).1
    show ((Jvm.Free.Multi.fill _ _ _ _ _ _ _).setCell s.heap.size _).heap[s.heap.size + 1 + j * (1 + M)]? = _
    rw [State.heap_setCell_other (show s.heap.size ≠ s.heap.size + 1 + j * (1 + M) by omega)]
    rcases Nat.lt_or_ge j i with hj | hj
    · have h9 := Nat.mul_le_mul_right (1 + M) (show j + 1 ≤ i from hj)
      rw [Nat.succ_mul] at h9
      have hl9 : s.heap.size + 1 + j * (1 + M) < (fill3 s cA cB cC N M K dv i).heap.size := by rw [f1]; omega
      rw [Jvm.Free.Multi.fill_old _ _ _ _ _ _ hl9]
      exact fill3_mid s cA cB cC N M K dv i j hj
    · have e : j = i := by omega
      subst e
      rw [← f1]
      exact (Jvm.Free.Multi.fill_facts _ cB cC M K dv M).2.1
theorem fill3_inner (s : State) (cA cB cC : ClassId) (N M K : Nat) (dv : Value) : ∀ i j x, j < i → x < M → (fill3 s cA cB cC N M K dv i).heap[s.heap.size + 1 + j * (1 + M) + 1 + x]? = some (Jvm.Free.Multi.innerC cC K dv)
  | 0, _, _, h, _ => absurd h (Nat.not_lt_zero _)
  | i + 1, j, x, h, hx => by
    have f1 := (fill3_facts s cA cB cC N M K dv i).1
    show ((Jvm.Free.Multi.fill _ _ _ _ _ _ _).setCell s.heap.size _).heap[s.heap.size + 1 + j * (1 + M) + 1 + x]? = _
    rw [State.heap_setCell_other (show s.heap.size ≠ s.heap.size + 1 + j * (1 + M) + 1 + x by omega)]
    rcases Nat.lt_or_ge j i with hj | hj
    · have h9 := Nat.mul_le_mul_right (1 + M) (show j + 1 ≤ i from hj)
      rw [Nat.succ_mul] at h9
      have hl9 : s.heap.size + 1 + j * (1 + M) + 1 + x < (fill3 s cA cB cC N M K dv i).heap.size := by rw [f1]; omega
      rw [Jvm.Free.Multi.fill_old _ _ _ _ _ _ hl9]
      exact fill3_inner s cA cB cC N M K dv i j x hj hx
    · have e : j = i := by omega
      subst e
      rw [← f1]
      exact Jvm.Free.Multi.fill_inner _ cB cC M K dv M x hx
end JMULTI3A
section JMULTI3B
variable {E : CtlPost} {e : Env} {d : Bool} {acts : List Action} {s : State}
/-- the machine's make of three -/
theorem wp_make3 {cA cB cC cc : ClassId} {k kB kC : Class} {n m o : Int32} (hk : s.vm.classes[cA]? = some k) (hkind : k.kind = .array cB (.array (.array .int))) (hkB : s.vm.classes[cB]? = some kB) (hkindB : kB.kind = .array cC (.array .int)) (hkC : s.vm.classes[cC]? = some kC) (hkindC : kC.kind = .array cc .int) (hn : ¬ n < 0) (hm : ¬ m < 0) (ho : ¬ o < 0)
    (hl1 : ¬ n.toNatClampNeg > e.platform.arrayLengthLimit) (hh1 : ¬ n.toNatClampNeg * componentBytes (.array (.array .int)) > e.platform.maxHeapBytes)
    (hl2 : ¬ m.toNatClampNeg > e.platform.arrayLengthLimit) (hh2 : ¬ m.toNatClampNeg * componentBytes (.array .int) > e.platform.maxHeapBytes)
    (hl3 : ¬ o.toNatClampNeg > e.platform.arrayLengthLimit) (hh3 : ¬ o.toNatClampNeg * componentBytes .int > e.platform.maxHeapBytes)
    (hc : s.heap.size + 1 + n.toNatClampNeg * (1 + m.toNatClampNeg) ≤ e.platform.maxCells) (hs : s.slotsUsed + n.toNatClampNeg + n.toNatClampNeg * (m.toNatClampNeg + m.toNatClampNeg * o.toNatClampNeg) ≤ e.platform.maxSlots)
    {Q : Addr → Pre} (hq : ∀ d' acts', Q s.heap.size d' acts' (fill3 s cA cB cC n.toNatClampNeg m.toNatClampNeg o.toNatClampNeg (.int 0) n.toNatClampNeg)) :
    wp (multianewarray.make cA [n, m, o]) Q E e d acts s := by
  have hfind : ([m, o].find? (· < 0)) = none := by simp [hm, ho]
  rw [multianewarray.make]
  simp only [wp_bind', W.ite, hn, if_false, wp_pure', W.theClass, hk, hkind, Option.some.injEq, exists_eq_left']
  refine Jvm.Free.Multi.wp_newArray hk hkind hl1 hh1 (Jvm.Free.Multi.refFits rfl _ (Or.inl rfl)) rfl (by omega) (by have := Nat.zero_le (n.toNatClampNeg * (m.toNatClampNeg + m.toNatClampNeg * o.toNatClampNeg)); omega) ?_
  simp only [hfind]
  rw [ite_self, wp_bind', Std.Legacy.Range.forIn_eq_forIn_range']
  have hsz : ([:n.toNatClampNeg] : Std.Legacy.Range).size = n.toNatClampNeg := by simp [Std.Legacy.Range.size]
  rw [hsz]
  show wp (forIn (List.range' 0 n.toNatClampNeg 1) PUnit.unit _) _ E e d acts _
  refine wp_forIn_inv (fun rest s' => ∃ i, i ≤ n.toNatClampNeg ∧ rest = List.range' i (n.toNatClampNeg - i) ∧ s' = fill3 s cA cB cC n.toNatClampNeg m.toNatClampNeg o.toNatClampNeg (.int 0) i) _ _ ⟨0, Nat.zero_le _, rfl, rfl⟩ ?_ ?_
  · rintro x rest s' d' acts' Q' ⟨i, hi, hl, rfl⟩ hnext
    have hlt : i < n.toNatClampNeg := by
      rcases Nat.lt_or_ge i n.toNatClampNeg with h | h
      · exact h
      · rw [show n.toNatClampNeg - i = 0 from by omega] at hl; simp at hl
    obtain ⟨rfl, hrest⟩ : x = i ∧ rest = List.range' (i + 1) (n.toNatClampNeg - (i + 1)) := by
      rw [show n.toNatClampNeg - i = (n.toNatClampNeg - (i + 1)) + 1 from by omega, List.range'_succ] at hl
      exact ⟨(List.cons.inj hl).1, (List.cons.inj hl).2⟩
    obtain ⟨f1, f2, f3, f4⟩ := fill3_facts s cA cB cC n.toNatClampNeg m.toNatClampNeg o.toNatClampNeg (.int 0) x
    obtain ⟨o1, o2, o3⟩ := out3C_facts cA n.toNatClampNeg s.heap.size (1 + m.toNatClampNeg) x
    have hmul := Nat.mul_le_mul_right (m.toNatClampNeg + m.toNatClampNeg * o.toNatClampNeg) (show x + 1 ≤ n.toNatClampNeg from hlt)
    rw [Nat.succ_mul] at hmul
    have hmul2 := Nat.mul_le_mul_right (1 + m.toNatClampNeg) (show x + 1 ≤ n.toNatClampNeg from hlt)
    rw [Nat.succ_mul] at hmul2
    simp only [wp_bind']
    refine Jvm.Free.Multi.wp_make2 (t0 := .array .int) (type := .int) (by rw [f3]; exact hkB) hkindB rfl (by rw [f3]; exact hkC) hkindC hm ho hl2 hh2 hl3 hh3 rfl rfl (by rw [f1]; omega) (by rw [f4]; omega) (fun d2 acts2 => ?_)
    have hlt0 : s.heap.size < (fill3 s cA cB cC n.toNatClampNeg m.toNatClampNeg o.toNatClampNeg (.int 0) x).heap.size := by rw [f1]; omega
    obtain ⟨-, -, g3, -⟩ := Jvm.Free.Multi.fill_facts (fill3 s cA cB cC n.toNatClampNeg m.toNatClampNeg o.toNatClampNeg (.int 0) x) cB cC m.toNatClampNeg o.toNatClampNeg (defaultValue .int) m.toNatClampNeg
    simp only [wp_bind', W.writeLoc, wp_pure']
    refine ⟨out3C cA n.toNatClampNeg s.heap.size (1 + m.toNatClampNeg) x, by rw [Jvm.Free.Multi.fill_old _ _ _ _ _ _ hlt0]; exact f2, by rw [o2]; simp, by rw [o3]; exact hlt, ?_, hnext _ _ _ ⟨x + 1, hlt, hrest, ?_⟩⟩
    · rw [o1, o2]
      simp [State.fitsSlot, State.slotType?, g3, f3, hk, hkind, Jvm.Free.Multi.refFits (t := .array (.array .int)) rfl _ (Or.inr ⟨_, rfl⟩)]
    · rw [f1]; rfl
  · rintro s' d' acts' ⟨i, hi, hl, rfl⟩
    have hiN : i = n.toNatClampNeg := by
      rcases Nat.lt_or_ge i n.toNatClampNeg with h | h
      · rw [show n.toNatClampNeg - i = (n.toNatClampNeg - (i + 1)) + 1 from by omega, List.range'_succ] at hl; cases hl
      · omega
    subst hiN
    simp only [wp_pure']
    exact hq _ _
end JMULTI3B
section JMULTI3C
variable {p : Program} {l : Launch} {e : Env} {R : Room} {s : State} {m : MethodId} {args : Array Value} {below : List Frame} {meth : Method} {c : Code} {T : State} {locs : List Loc} {cells slots : Nat}
theorem std_filled3 (X : Stand p l e R s m args below meth c T locs cells slots) (cA cB cC : ClassId) (N M K : Nat) (dv : Value) :
    ∀ i, ∃ ls, (∀ x ∈ ls, T.heap.size ≤ x.base) ∧ Stand p l e R s m args below meth c (fill3 T cA cB cC N M K dv i) (locs ++ ls) (cells + 1 + i * (1 + M)) (slots + N + i * (M + M * K))
  | 0 => by
    have h := X.pushed (out3C cA N T.heap.size (1 + M) 0)
    rw [(out3C_facts cA N T.heap.size (1 + M) 0).2.2] at h
    exact ⟨[], by simp, by simpa [fill3] using h⟩
  | i + 1 => by
    obtain ⟨ls, hls, Xi⟩ := std_filled3 X cA cB cC N M K dv i
    obtain ⟨f1, f2, f3, f4⟩ := fill3_facts T cA cB cC N M K dv i
    have hlt0 : T.heap.size < (fill3 T cA cB cC N M K dv i).heap.size := by rw [f1]; omega
    have X2 := Xi.filled cB cC M K dv M
    have hcell : (Jvm.Free.Multi.fill (fill3 T cA cB cC N M K dv i) cB cC M K dv M).heap[T.heap.size]? = some (out3C cA N T.heap.size (1 + M) i) := by rw [Jvm.Free.Multi.fill_old _ _ _ _ _ _ hlt0]; exact f2
    have h := X2.stored hcell i (.ref (T.heap.size + 1 + i * (1 + M)))
    refine ⟨ls ++ ((List.range M).map fun j => ⟨(fill3 T cA cB cC N M K dv i).heap.size, j⟩) ++ [⟨T.heap.size, i⟩], ?_, ?_⟩
    · intro x hx
      simp only [List.mem_append, List.mem_map, List.mem_singleton] at hx
      rcases hx with (hx | ⟨j, -, rfl⟩) | rfl
      · exact hls x hx
      · exact Nat.le_of_lt hlt0
      · exact Nat.le_refl _
    · have e3 : slots + N + (i + 1) * (M + M * K) = slots + N + i * (M + M * K) + M + M * K := by rw [Nat.succ_mul]; omega
      have e4 : cells + 1 + (i + 1) * (1 + M) = cells + 1 + i * (1 + M) + 1 + M := by rw [Nat.succ_mul]; omega
      rw [e3, e4, ← List.append_assoc, ← List.append_assoc]
      exact h
theorem std_multi3 (X : Stand p l e R s m args below meth c T locs cells slots) (hexec : p.tables.exec = Jvm.exec) {own : String} {index : Nat}
    (hown : s.vm.findClass own = some m.cls) (hclink : (Cond.classLink own index "[[[I").before args s = true)
    (hover3 : (Cond.arrayOver (.array (.array .int))).before args s = true) (hover : (Cond.arrayOver (.array .int)).before args s = true) (harr : (Cond.arrayClass .int).before args s = true)
    {g : JFrame} (hg : g.method = m) (hdg : decode c.code g.pc = .ok (.multianewarray index 3, 4)) {n k o : Int32} {rest : List Value} (hstack : g.stack = .int o :: .int k :: .int n :: rest)
    (hn : ¬ n < 0) (hk : ¬ k < 0) (ho : ¬ o < 0) (hb1 : n.toNatClampNeg * 4 ≤ 536870912) (hb2 : k.toNatClampNeg * 4 ≤ 536870912) (hb3 : o.toNatClampNeg * 4 ≤ 536870912)
    (hcells : cells + (1 + n.toNatClampNeg * (1 + k.toNatClampNeg)) ≤ R.cells) (hslots : slots + (n.toNatClampNeg + n.toNatClampNeg * (k.toNatClampNeg + k.toNatClampNeg * o.toNatClampNeg)) ≤ R.slots) :
    ∃ (vm₁ : Vm) (cA cB cC : ClassId), s.vm.findClass "[[[I" = some cA ∧ s.vm.findClass "[[I" = some cB ∧ s.vm.findClass "[I" = some cC ∧
      Stand p l e R s m args below meth c (fill3 (T.setVm vm₁) cA cB cC n.toNatClampNeg k.toNatClampNeg o.toNatClampNeg (.int 0) n.toNatClampNeg) locs (cells + 1 + n.toNatClampNeg * (1 + k.toNatClampNeg)) (slots + n.toNatClampNeg + n.toNatClampNeg * (k.toNatClampNeg + k.toNatClampNeg * o.toNatClampNeg)) ∧
      ∀ target, Steps p.tables e below ((fill3 (T.setVm vm₁) cA cB cC n.toNatClampNeg k.toNatClampNeg o.toNatClampNeg (.int 0) n.toNatClampNeg).setTop { g with pc := g.pc + 4, stack := .ref T.heap.size :: rest }) target →
        Steps p.tables e below (T.setTop g) target := by
  subst hg
  have hpl : e.platform.magicAccessors = ({} : Platform).magicAccessors := by rw [X.admits.platform]
  obtain ⟨cB, cA, kA, hcB, hkA, hkindA, hnameA⟩ := Cond.arrayOver_specA hover3
  obtain ⟨cC, cB', kB, hcC, hkB, hkindB, hnameB⟩ := Cond.arrayOver_specA hover
  obtain ⟨cC', kC, cc, hcC', hkC, hkindC⟩ := Cond.arrayClass_spec harr
  have eB : cB' = cB := Option.some.inj (hnameB.symm.trans hcB)
  subst eB
  have eC : cC' = cC := Option.some.inj (hcC'.symm.trans hcC)
  subst eC
  obtain ⟨c0, hfc0, hcl⟩ := Cond.classLink_spec hown hclink e.platform hpl
  cases hnameA.symm.trans hfc0
  obtain ⟨hg₁, hwarm₁, hready₁⟩ := State.classEntry (e := e) X.warmed hcl
  generalize T.vm.noted g.method.cls index (.cls cA) = vm₁ at hg₁ hwarm₁ hready₁
  have hal : s.vm.Alike vm₁ := hwarm₁.alike
  obtain ⟨kA₁, hkA₁, heA⟩ := hal.2.2 _ _ hkA
  obtain ⟨kB₁, hkB₁, heB⟩ := hal.2.2 _ _ hkB
  obtain ⟨kC₁, hkC₁, heC⟩ := hal.2.2 _ _ hkC
  have hkindA₁ : kA₁.kind = .array cB' (.array (.array .int)) := by rw [heA]; exact hkindA
  have hkindB₁ : kB₁.kind = .array cC' (.array .int) := by rw [heB]; exact hkindB
  have hkindC₁ : kC₁.kind = .array cc .int := by rw [heC]; exact hkindC
  have X₁ := X.noted hwarm₁
  obtain ⟨hr1, hr2⟩ := X.roomAbove hcells hslots
  obtain ⟨ls, hls, XF⟩ := std_filled3 X₁ cA cB' cC' n.toNatClampNeg k.toNatClampNeg o.toNatClampNeg (.int 0) n.toNatClampNeg
  refine ⟨vm₁, cA, cB', cC', hnameA, hnameB, hcC, XF.dropFresh (fun x hx => ?_), fun target hrest => ?_⟩
  · exact Nat.le_trans X.heapGrown (hls x hx)
  have hl1 : ¬ n.toNatClampNeg > e.platform.arrayLengthLimit := by rw [Launch.admits_arrayLengthLimit X.admits]; omega
  have hh1 : ¬ n.toNatClampNeg * componentBytes (.array (.array .int)) > e.platform.maxHeapBytes := by
    rw [Launch.admits_maxHeapBytes X.admits]; show ¬ n.toNatClampNeg * 4 > 536870912; omega
  have hl2 : ¬ k.toNatClampNeg > e.platform.arrayLengthLimit := by rw [Launch.admits_arrayLengthLimit X.admits]; omega
  have hh2 : ¬ k.toNatClampNeg * componentBytes (.array .int) > e.platform.maxHeapBytes := by
    rw [Launch.admits_maxHeapBytes X.admits]; show ¬ k.toNatClampNeg * 4 > 536870912; omega
  have hl3 : ¬ o.toNatClampNeg > e.platform.arrayLengthLimit := by rw [Launch.admits_arrayLengthLimit X.admits]; omega
  have hh3 : ¬ o.toNatClampNeg * componentBytes .int > e.platform.maxHeapBytes := by
    rw [Launch.admits_maxHeapBytes X.admits]; show ¬ o.toNatClampNeg * 4 > 536870912; omega
  jvm_step X.here [hexec, hdg]
  simp only [multianewarray.sem, wp_bind', W.resolveClassAt_links (State.method?_setTop g X.here.top) hg₁]
  rw [W.popN, if_neg (by decide)]
  refine ⟨g, State.topJava?_setTop' (s := T.setVm vm₁) g X.here.top, [.int n, .int k, .int o], rest, rfl, hstack, ?_⟩
  simp only [List.mapM_cons, List.mapM_nil, wp_bind', wp_pure']
  refine wp_make3 (k := kA₁) (kB := kB₁) (kC := kC₁) (cB := cB') (cC := cC') (cc := cc) hkA₁ hkindA₁ hkB₁ hkindB₁ hkC₁ hkindC₁ hn hk ho hl1 hh1 hl2 hh2 hl3 hh3 (by show T.heap.size + 1 + _ ≤ _; omega) (by show T.slotsUsed + _ + _ ≤ _; omega) (fun d' acts' => ?_)
  have eS : ((T.setTop g).setVm vm₁).setTop { g with stack := rest } = (T.setVm vm₁).setTop { g with stack := rest } := by
    show ((T.setVm vm₁).setTop g).setTop _ = _
    rw [State.setTop_setTop]
  rw [eS, fill3_setTop]
  simp only [wp_bind', W.mark, W.pushRef, State.topJava?_setTop' _ XF.here.top, Option.some.injEq, exists_eq_left', State.setTop_setTop, State.heap_setTop]
  intro acts
  simp [jvm, XF.here.top]
  exact hrest
end JMULTI3C
section JMULTI3D
variable {τ : Type} {D : va_G} {dA : Nat → ClassId} {Y : JY} {env : List (Nat × Value)} {pu : List Value} {pc idx : Nat} {F : JF Mem τ}
def jm3M (M : Mem) (n k o : Nat) : Mem := (fun b => if b = mZ M then some (.inr (6, n)) else if mZ M < b ∧ b ≤ mZ M + n * (1 + k) then (if (b - (mZ M + 1)) % (1 + k) = 0 then some (.inr (5, k)) else some (.inr (0, o))) else mK M b, fun b j => if mZ M < b ∧ b ≤ mZ M + n * (1 + k) then 0 else mI M b j, mL M, fun b j => if b = mZ M then (if j < n then some (mZ M + 1 + j * (1 + k)) else none) else if mZ M < b ∧ b ≤ mZ M + n * (1 + k) then (if j < k then some (b + 1 + j) else none) else mR M b j, mZ M + 1 + n * (1 + k), mC M - (1 + n * (1 + k)), mS M - (n + n * (k + k * o)), mT M)
/-- new int[n][k][o] -/
def jm3 (n k o : Nat) : JM Mem Nat := fun M => if 1 + n * (1 + k) ≤ mC M ∧ n + n * (k + k * o) ≤ mS M then some (.ok (mZ M), jm3M M n k o) else none
theorem std_m3 {R : Room} {A : Nat → Prop} {H0 : Heap} {M : Mem} {H H' : Heap} {locs : List Loc} {cells slots : Nat} {n k o : Nat} (hi : jstd D dA true R A H0 M H locs cells slots) (hA : ∀ q, H0.size ≤ q → A q) (hb : 1 + n * (1 + k) ≤ mC M ∧ n + n * (k + k * o) ≤ mS M) (hz : H'.size = mZ M + 1 + n * (1 + k)) (he : ∀ q, q < mZ M → H'[q]? = H[q]?) (h1 : H'[mZ M]? = some (arrV (dA 6) n (fun j => va_rf (if j < n then some (mZ M + 1 + j * (1 + k)) else none)))) (h2 : ∀ j, j < n → H'[mZ M + 1 + j * (1 + k)]? = some (arrV (dA 5) k (fun x => va_rf (if x < k then some (mZ M + 1 + j * (1 + k) + 1 + x) else none)))) (h3 : ∀ j x, j < n → x < k → H'[mZ M + 1 + j * (1 + k) + 1 + x]? = some (arrV (dA 0) o (fun _ => .int 0))) : jstd D dA true R A H0 (jm3M M n k o) H' locs (cells + 1 + n * (1 + k)) (slots + n + n * (k + k * o)) := by
  obtain ⟨q1, q2, q3, q4⟩ := hi
  have hsz : H.size = mZ M := q1.1
  refine ⟨⟨hz, q1.2.1, fun b d hb9 => ?_⟩, ⟨by have := q2.1; omega, fun q g1 g2 => ?_, q2.2.2⟩, fun a ha => ?_, ?_⟩
  · have hb9 : (if b = mZ M then some (Sum.inr (6, n)) else if mZ M < b ∧ b ≤ mZ M + n * (1 + k) then (if (b - (mZ M + 1)) % (1 + k) = 0 then some (Sum.inr (5, k)) else some (Sum.inr (0, o))) else mK M b) = some d := hb9
    by_cases e1 : b = mZ M
    · rw [if_pos e1] at hb9
      cases hb9
      subst e1
      refine ⟨(show (6 : Nat) < 12 by decide), ?_⟩
      rw [jref_cell (t := 6) rfl]
      show H'[mZ M]? = some (arrV (dA 6) n (fun j => va_rf (if mZ M = mZ M then (if j < n then some (mZ M + 1 + j * (1 + k)) else none) else if mZ M < mZ M ∧ mZ M ≤ mZ M + n * (1 + k) then (if j < k then some (mZ M + 1 + j) else none) else mR M (mZ M) j)))
      simp only [if_true]
      exact h1
    · rw [if_neg e1] at hb9
      by_cases e2 : mZ M < b ∧ b ≤ mZ M + n * (1 + k)
      · rw [if_pos e2] at hb9
        have e4 := Nat.div_add_mod (b - (mZ M + 1)) (1 + k)
        have e5 : (b - (mZ M + 1)) / (1 + k) < n := Nat.div_lt_of_lt_mul (by rw [Nat.mul_comm]; omega)
        have e6 : (b - (mZ M + 1)) % (1 + k) < 1 + k := Nat.mod_lt _ (by omega)
        rw [Nat.mul_comm] at e4
        by_cases e3 : (b - (mZ M + 1)) % (1 + k) = 0
        · rw [if_pos e3] at hb9
          cases hb9
          refine ⟨(show (5 : Nat) < 12 by decide), ?_⟩
          rw [jref_cell (t := 5) rfl]
          show H'[b]? = some (arrV (dA 5) k (fun j => va_rf (if b = mZ M then (if j < n then some (mZ M + 1 + j * (1 + k)) else none) else if mZ M < b ∧ b ≤ mZ M + n * (1 + k) then (if j < k then some (b + 1 + j) else none) else mR M b j)))
          simp only [if_neg e1, if_pos e2]
          have h9 := h2 _ e5
          rw [show mZ M + 1 + (b - (mZ M + 1)) / (1 + k) * (1 + k) = b by omega] at h9
          exact h9
        · rw [if_neg e3] at hb9
          cases hb9
          refine ⟨(show (0 : Nat) < 12 by decide), ?_⟩
          show H'[b]? = some (arrV (dA 0) o (fun j => Value.int (if mZ M < b ∧ b ≤ mZ M + n * (1 + k) then 0 else mI M b j)))
          simp only [if_pos e2]
          have h9 := h3 _ ((b - (mZ M + 1)) % (1 + k) - 1) e5 (by omega)
          rw [show mZ M + 1 + (b - (mZ M + 1)) / (1 + k) * (1 + k) + 1 + ((b - (mZ M + 1)) % (1 + k) - 1) = b by omega] at h9
          exact h9
      · rw [if_neg e2] at hb9
        obtain ⟨g1, g2⟩ := q1.2.2 b d hb9
        refine ⟨g1, ?_⟩
        rw [jent_congr (M := jm3M M n k o) (M' := M) (b := b) (by show (fun j => if mZ M < b ∧ b ≤ mZ M + n * (1 + k) then 0 else mI M b j) = _; simp only [if_neg e2]) rfl (by show (fun j => if b = mZ M then _ else if mZ M < b ∧ b ≤ mZ M + n * (1 + k) then _ else mR M b j) = _; simp only [if_neg e1, if_neg e2])]
        exact g2.kept (he b (by rw [← hsz]; exact g2.lt))
  · rw [he q (by have := q2.1; omega)]
    exact q2.2.1 q g1 g2
  · have ha : (if a = mZ M then some (Sum.inr (6, n)) else if mZ M < a ∧ a ≤ mZ M + n * (1 + k) then (if (a - (mZ M + 1)) % (1 + k) = 0 then some (Sum.inr (5, k)) else some (Sum.inr (0, o))) else mK M a).isSome = true := ha
    by_cases e1 : a = mZ M
    · exact hA a (by have := q2.1; omega)
    · rw [if_neg e1] at ha
      by_cases e2 : mZ M < a ∧ a ≤ mZ M + n * (1 + k)
      · exact hA a (by have := q2.1; omega)
      · rw [if_neg e2] at ha
        exact q3 a ha
  · have a1 := q4.1
    have a2 := q4.2
    exact ⟨by show cells + 1 + n * (1 + k) + (mC M - (1 + n * (1 + k))) ≤ R.cells; omega, by show slots + n + n * (k + k * o) + (mS M - (n + n * (k + k * o))) ≤ R.slots; omega⟩
theorem J_multi3 {f : Nat → JM Mem τ} {n k o : Int32} {N K O : Nat} (hd : decode Y.1 pc = .ok (.multianewarray idx 3, 4)) (w0 : Cond.classLink Y.2.1 idx "[[[I" ∈ lw_all) (hn : ¬ n < 0) (hk0 : ¬ k < 0) (ho : ¬ o < 0) (hN : n.toNatClampNeg = N) (hK : k.toNatClampNeg = K) (hO : o.toNatClampNeg = O) (hb1 : N * 4 ≤ 536870912) (hb2 : K * 4 ≤ 536870912) (hb3 : O * 4 ≤ 536870912) (h : ∀ v, J (PM D dA true) Y env (.ref v :: pu) (pc + 4) (f v) F) : J (PM D dA true) Y env (.int o :: .int k :: .int n :: pu) pc (jb (jm3 N K O) f) F := by
  intro Γ ok hP M r M' hk hv hq H locs cells slots ls hi hl
  subst hN; subst hK; subst hO
  by_cases hb : 1 + n.toNatClampNeg * (1 + k.toNatClampNeg) ≤ mC M ∧ n.toNatClampNeg + n.toNatClampNeg * (k.toNatClampNeg + k.toNatClampNeg * o.toNatClampNeg) ≤ mS M
  · rw [jb_ok (show jm3 n.toNatClampNeg k.toNatClampNeg o.toNatClampNeg M = some (.ok (mZ M), jm3M M n.toNatClampNeg k.toNatClampNeg o.toNatClampNeg) from if_pos hb)] at hk
    obtain ⟨A, H0, hIΓ, hKK, hA, hFG⟩ := id hP
    have hi2 := hi
    rw [hIΓ] at hi2
    have a1 := hi2.2.2.2.1
    have a2 := hi2.2.2.2.2
    have hRA0 : (jcS Γ).vm.findClass ("[" ++ FieldType.int.toString) = some (dA 0) := (hKK.1.2 0 _ (jtys_at (by decide))).2
    have hRA5 : (jcS Γ).vm.findClass ("[" ++ (FieldType.array .int).toString) = some (dA 5) := (hKK.1.2 5 _ (jtys_at (by decide))).2
    have hRA6 : (jcS Γ).vm.findClass ("[" ++ (FieldType.array (.array .int)).toString) = some (dA 6) := (hKK.1.2 6 _ (jtys_at (by decide))).2
    intro T hT X
    obtain ⟨vm₁, cA, cB, cC, hfA, hfB, hfC, X', step⟩ := std_multi3 X ok.exec ok.own (ok.hts _ w0) (hKK.2 (.arrayOver (.array (.array .int))) (jnw_in q383 rfl)) (hKK.2 (.arrayOver (.array .int)) (jnw_in q384 rfl)) (ok.hts _ q375) (g := F0 (jcM Γ) pc ls (.int o :: .int k :: .int n :: pu)) rfl (by rw [ok.code]; exact hd) rfl hn hk0 ho hb1 hb2 hb3 (by omega) (by omega)
    have e6 : cA = dA 6 := Option.some.inj (hfA.symm.trans hRA6)
    have e5 : cB = dA 5 := Option.some.inj (hfB.symm.trans hRA5)
    have e0 : cC = dA 0 := Option.some.inj (hfC.symm.trans hRA0)
    subst e6; subst e5; subst e0
    have hz : (T.setVm vm₁).heap.size = mZ M := by show T.heap.size = _; rw [hT]; exact hi2.1.1
    obtain ⟨f1, f2, f3, f4⟩ := fill3_facts (T.setVm vm₁) (dA 6) (dA 5) (dA 0) n.toNatClampNeg k.toNatClampNeg o.toNatClampNeg (.int 0) n.toNatClampNeg
    obtain ⟨t9, a9, b9⟩ := h _ Γ ok hP _ r M' hk hv hq _ locs (cells + 1 + n.toNatClampNeg * (1 + k.toNatClampNeg)) (slots + n.toNatClampNeg + n.toNatClampNeg * (k.toNatClampNeg + k.toNatClampNeg * o.toNatClampNeg)) ls (by
      rw [hIΓ]
      refine std_m3 hi2 hA hb (by rw [f1, hz]) (fun q hq => ?_) ?_ (fun j hj => ?_) (fun j x hj hx => ?_)
      · rw [fill3_old (T.setVm vm₁) _ _ _ _ _ _ _ (by rw [hz]; exact hq)]
        show T.heap[q]? = _
        rw [hT]
      · rw [← hz, f2, out3C_arr]
      · rw [← hz, fill3_mid (T.setVm vm₁) _ _ _ _ _ _ _ _ j hj, outerC_arr]
      · rw [← hz, fill3_inner (T.setVm vm₁) _ _ _ _ _ _ _ _ j x hj hx, ← arrV_new]
        rfl) hl _ rfl X'
    refine ⟨t9, step t9 ?_, b9⟩
    rw [show T.heap.size = mZ M by rw [hT]; exact hi2.1.1]
    exact a9
  · rw [jb_none (show jm3 n.toNatClampNeg k.toNatClampNeg o.toNatClampNeg M = none from if_neg hb)] at hk
    cases hk
end JMULTI3D
section JSWS
variable {μ τ : Type} {P : JC μ → Prop} {Y : JY} {env : List (Nat × Value)} {pu : List Value} {pc : Nat} {F : JF μ τ}
def JSw (P : JC μ → Prop) (Y : JY) (env : List (Nat × Value)) (pu : List Value) (F : JF μ τ) : List Nat → List (JM μ τ) → Prop
  | [], _ => True
  | _ :: _, [] => False
  | t :: ts, k :: ks => J P Y env pu t k F ∧ JSw P Y env pu F ts ks
theorem JSw_at : ∀ {tg : List Nat} {ks : List (JM μ τ)}, JSw P Y env pu F tg ks → ∀ (i t : Nat) (k : JM μ τ), tg[i]? = some t → ks[i]? = some k → J P Y env pu t k F
  | [], _, _, i, t, k, ht, _ => by simp at ht
  | _ :: _, [], h, _, _, _, _, _ => False.elim h
  | t0 :: ts, k0 :: ks, h, i, t, k, ht, hk => by
    cases i with
    | zero =>
      simp only [List.getElem?_cons_zero, Option.some.injEq] at ht hk
      rw [← ht, ← hk]
      exact h.1
    | succ i =>
      simp only [List.getElem?_cons_succ] at ht hk
      exact JSw_at h.2 i t k ht hk
theorem J_tswA {x : Int32} {dflt lo hi : Int} {offs : Array Int} {len : Nat} {tgt : Nat} {ks : List (JM μ τ)} {d : JM μ τ} (tg : List Nat) (hd : decode Y.1 pc = .ok (.tableswitch dflt lo hi offs, len)) (ht : (pc : Int) + dflt = (tgt : Int))
    (hlen : (ks.length : Int) = hi - lo + 1) (hoff : offs.toList.map (fun o => (pc : Int) + o) = tg.map (fun (n : Nat) => (n : Int))) (hlt : tg.length = ks.length) (h0 : J P Y env pu tgt d F) (h1 : JSw P Y env pu F tg ks) : J P Y env (.int x :: pu) pc (jsw x lo ks d) F :=
  J_tsw tg hd ht hlen hoff hlt h0 (JSw_at h1)
def JSwL (P : JC μ → Prop) (Y : JY) (env : List (Nat × Value)) (pu : List Value) (F : JF μ τ) : List (Int × Nat) → List (Int × JM μ τ) → Prop
  | [], _ => True
  | _ :: _, [] => False
  | t :: ts, k :: ks => J P Y env pu t.2 k.2 F ∧ JSwL P Y env pu F ts ks
theorem JSwL_at : ∀ {tg : List (Int × Nat)} {ks : List (Int × JM μ τ)}, JSwL P Y env pu F tg ks → ∀ (i : Nat) (t : Int × Nat) (k : Int × JM μ τ), tg[i]? = some t → ks[i]? = some k → J P Y env pu t.2 k.2 F
  | [], _, _, i, t, k, ht, _ => by simp at ht
  | _ :: _, [], h, _, _, _, _, _ => False.elim h
  | t0 :: ts, k0 :: ks, h, i, t, k, ht, hk => by
    cases i with
    | zero =>
      simp only [List.getElem?_cons_zero, Option.some.injEq] at ht hk
      rw [← ht, ← hk]
      exact h.1
    | succ i =>
      simp only [List.getElem?_cons_succ] at ht hk
      exact JSwL_at h.2 i t k ht hk
theorem J_lswA {x : Int32} {dflt : Int} {ps : Array (Int × Int)} {len : Nat} {tgt : Nat} {ks : List (Int × JM μ τ)} {d : JM μ τ} (tg : List (Int × Nat)) (hd : decode Y.1 pc = .ok (.lookupswitch dflt ps, len)) (hp : (ps.toList.zip (ps.toList.drop 1)).all (fun (a, next) => a.1 < next.1) = true) (ht : (pc : Int) + dflt = (tgt : Int))
    (hks : ps.toList.map (fun q => q.1) = ks.map (fun q => q.1)) (htg : ps.toList.map (fun q => (q.1, (pc : Int) + q.2)) = tg.map (fun q => (q.1, (q.2 : Int)))) (h0 : J P Y env pu tgt d F) (h1 : JSwL P Y env pu F tg ks) : J P Y env (.int x :: pu) pc (jlsw x ks d) F := by
  refine J_lsw hd hp ht hks h0 (fun i q k hq hk => ?_)
  have e1 : (ps.toList.map (fun q => (q.1, (pc : Int) + q.2)))[i]? = some (q.1, (pc : Int) + q.2) := by rw [List.getElem?_map, hq]; rfl
  rw [htg, List.getElem?_map] at e1
  cases e2 : tg[i]? with
  | none => rw [e2] at e1; cases e1
  | some t =>
    rw [e2] at e1
    simp only [Option.map_some, Option.some.injEq, Prod.mk.injEq] at e1
    exact ⟨t.2, e1.2.symm, JSwL_at h1 i t k e2 hk⟩
end JSWS
