/-! THE TYPED MEMORY of the claim's classes, its tie to the heap, and J rows over it. -/
set_option maxRecDepth 100000
def jC : Nat → String
  | 0 => RX0 | 1 => RX2 | 2 => RX3 | 3 => RX4 | 4 => RX5 | 5 => RX6 | 6 => RX7 | 7 => RX8 | _ => RX9
def jT : Nat → u_T
  | 0 => TX0 | 1 => TX2 | 2 => TX3 | 3 => TX4 | 4 => TX5 | 5 => TX6 | 6 => TX7 | 7 => TX8 | _ => TX9
def jty : Nat → Nat → FieldType
  | 0 => tyX0 | 1 => tyX2 | 2 => tyX3 | 3 => tyX4 | 4 => tyX5 | 5 => tyX6 | 6 => tyX7 | 7 => tyX8 | _ => tyX9
def jN : Nat → Nat
  | 0 => 48 | 1 => 15 | 2 => 8 | 3 => 3 | 4 => 3 | 5 => 2 | 6 => 5 | 7 => 71 | _ => 8
def jcl : List vw_C := (List.range 9).map fun c => (jC c, jT c, jN c)
theorem jcl_at {c : Nat} (h : c < 9) : jcl[c]? = some (jC c, jT c, jN c) := by
  unfold jcl
  rw [List.getElem?_map, List.getElem?_range h]
  rfl
theorem jin {c : Nat} (h : c < 9) : ∀ w ∈ u_ws (jC c) (jT c) (jN c), w ∈ lw_all :=
  match c, h with
  | 0, _ => in_X0 | 1, _ => in_X2 | 2, _ => in_X3 | 3, _ => in_X4 | 4, _ => in_X5 | 5, _ => in_X6 | 6, _ => in_X7 | 7, _ => in_X8 | 8, _ => in_X9
  | n + 9, h => absurd h (by omega)
theorem jtyok {c : Nat} (h : c < 9) : ∀ k, k < jN c → parseFieldDescriptor (jT c k).2.2.1 = some (jty c k) :=
  match c, h with
  | 0, _ => tyX0_ok | 1, _ => tyX2_ok | 2, _ => tyX3_ok | 3, _ => tyX4_ok | 4, _ => tyX5_ok | 5, _ => tyX6_ok | 6, _ => tyX7_ok | 7, _ => tyX8_ok | 8, _ => tyX9_ok
  | n + 9, h => absurd h (by omega)
theorem jnm {c : Nat} (h : c < 9) : ∀ a, a < jN c → ∀ b, b < jN c → a ≠ b → (jT c a).2.1 ≠ (jT c b).2.1 :=
  match c, h with
  | 0, _ => nmX0 | 1, _ => nmX2 | 2, _ => nmX3 | 3, _ => nmX4 | 4, _ => nmX5 | 5, _ => nmX6 | 6, _ => nmX7 | 7, _ => nmX8 | 8, _ => nmX9
  | n + 9, h => absurd h (by omega)
def jaT : Nat → FieldType
  | 0 => .int | 1 => .byte | 2 => .short | 3 => .long | 4 => .boolean | 5 => .array .int | 6 => .array (.array .int) | 7 => .object "BracketRoom$World" | 8 => .object "BracketRoom$Span" | 9 => .object "BracketRoom$Tray" | 10 => .object "BracketRoom$Kept" | _ => .object "BracketRoom$Step"
def jtys (dA : Nat → ClassId) : List (ClassId × FieldType) := (List.range 12).map fun t => (dA t, jaT t)
theorem jtys_at {dA : Nat → ClassId} {t : Nat} (h : t < 12) : (jtys dA)[t]? = some (dA t, jaT t) := by
  unfold jtys
  rw [List.getElem?_map, List.getElem?_range h]
  rfl
abbrev Kd : Type := Nat ⊕ (Nat × Nat)
/-- kinds; ints, longs, references by address and place; the heap's size; cells and slots that may still be made -/
abbrev Mem : Type := (Nat → Option Kd) × (Nat → Nat → Int32) × (Nat → Nat → Int64) × (Nat → Nat → Option Nat) × Nat × Nat × Nat × (Nat → Nat)
abbrev mK (M : Mem) : Nat → Option Kd := M.1
abbrev mI (M : Mem) : Nat → Nat → Int32 := M.2.1
abbrev mL (M : Mem) : Nat → Nat → Int64 := M.2.2.1
abbrev mR (M : Mem) : Nat → Nat → Option Nat := M.2.2.2.1
abbrev mZ (M : Mem) : Nat := M.2.2.2.2.1
abbrev mC (M : Mem) : Nat := M.2.2.2.2.2.1
abbrev mS (M : Mem) : Nat := M.2.2.2.2.2.2.1
/-- addresses that a run finds: string constants, what statics hold -/
abbrev mT (M : Mem) : Nat → Nat := M.2.2.2.2.2.2.2
def up2 {α : Type} (f : Nat → Nat → α) (a k : Nat) (v : α) : Nat → Nat → α := fun b j => if b = a ∧ j = k then v else f b j
def upA {α : Type} (f : Nat → Nat → α) (a : Nat) (g : Nat → α) : Nat → Nat → α := fun b j => if b = a then g j else f b j
def sI (M : Mem) (I : Nat → Nat → Int32) : Mem := (M.1, I, M.2.2)
def sL (M : Mem) (L : Nat → Nat → Int64) : Mem := (M.1, M.2.1, L, M.2.2.2)
def sR (M : Mem) (R : Nat → Nat → Option Nat) : Mem := (M.1, M.2.1, M.2.2.1, R, M.2.2.2.2)
def sK (M : Mem) (K : Nat → Option Kd) : Mem := (K, M.2)
def sB (M : Mem) (c s : Nat) : Mem := (M.1, M.2.1, M.2.2.1, M.2.2.2.1, M.2.2.2.2.1, c, s, M.2.2.2.2.2.2.2)
/-- the next cell, of kind d -/
def jnewM (M : Mem) (d : Kd) (n : Nat) : Mem := (fun b => if b = mZ M then some d else mK M b, upA (mI M) (mZ M) (fun _ => 0), upA (mL M) (mZ M) (fun _ => 0), upA (mR M) (mZ M) (fun _ => none), mZ M + 1, mC M - 1, mS M - n, mT M)
def jtag : FieldType → Nat
  | .long => 1 | .object _ => 2 | .array _ => 2 | _ => 0
def jval (t : Nat) (M : Mem) (a k : Nat) : Value := match t with
  | 0 => .int (mI M a k)
  | 1 => .long (mL M a k)
  | _ => va_rf (mR M a k)
def jent (dA : Nat → ClassId) (M : Mem) (a : Nat) : Kd → va_E
  | .inl c => .inr (c, (List.range (jN c)).map fun k => jval (jtag (jty c k)) M a k)
  | .inr (t, n) => .inl (dA t, n, match jtag (jaT t) with
    | 0 => .inl (mI M a)
    | 1 => .inr (.inl (mL M a))
    | _ => .inr (.inr (.inr (.inr (mR M a)))))
def Rel (D : va_G) (dA : Nat → ClassId) (M : Mem) (H : Heap) : Prop := H.size = mZ M ∧ mT M = dA ∧ ∀ a d, mK M a = some d → (match d with | .inl c => c < 9 | .inr (t, _) => t < 12) ∧ va_at D jcl (a, jent dA M a d) H
/-- words of nest mates and of array classes, which don't ride in the lists -/
def jnwOk : Cond → Bool
  | .fieldLinkNest .. => true
  | .methodLinkNest .. => true
  | .arrayOver (.object _) => true
  | .arrayOver (.array _) => true
  | .privateMethod _ => true
  | .castable _ _ => true
  | .declares _ => true
  | _ => false
def jnw : List Cond := lw_tbl.filter jnwOk
theorem jnw_in {w : Cond} (h : w ∈ lw_tbl) (g : jnwOk w = true) : w ∈ jnw := List.mem_filter.mpr ⟨h, g⟩
def KK (D : va_G) (dA : Nat → ClassId) (U : State) : Prop := va_K D jcl (jtys dA) U ∧ ∀ w ∈ jnw, va_Nw w U
theorem jidx_bare (vm : Vm) (comp : ClassId) : (vm.bare.classes.findIdx? fun (x : Class) => match x.kind with | .array component _ => component == comp | _ => false) = (vm.classes.findIdx? fun (x : Class) => match x.kind with | .array component _ => component == comp | _ => false) := by
  simp only [Vm.bare, Array.findIdx?_map]
  rfl
theorem jao_movedA {t : FieldType} {u U : State} (hvm : u.vm.Alike U.vm) (h : va_Nw (.arrayOver (.array t)) u) : va_Nw (.arrayOver (.array t)) U := by
  have h0 := h
  unfold va_Nw Cond.before Cond.holds at h0
  simp only [Cond.value, beq_iff_eq, Option.bind_eq_some_iff, Option.map_eq_some_iff] at h0
  obtain ⟨comp, h1, c, h2, k, h3, hb⟩ := h0
  obtain ⟨k', hk', he⟩ := hvm.2.2 _ _ h3
  have hi : (U.vm.classes.findIdx? fun (x : Class) => match x.kind with | .array component _ => component == comp | _ => false) = some c := by
    rw [← jidx_bare]
    first | rw [hvm.bare_eq] | rw [← hvm.bare_eq]
    rw [jidx_bare]
    exact h2
  have f1 : U.vm.findClass (FieldType.array t).toString = some comp := by rw [hvm.findClass]; exact h1
  have f3 : k'.kind = k.kind := by rw [he]
  unfold va_Nw Cond.before Cond.holds
  simp only [Cond.value]
  rw [f1, Option.bind_some]
  refine (congrArg (fun o : Option Nat => (o.bind (fun c => (U.vm.classes[c]?).map fun (k : Class) => match k.kind with | .array _ ty => decide (ty = FieldType.array t) && decide (U.vm.findClass ("[" ++ (FieldType.array t).toString) = some c) | _ => false) == some true)) hi).trans ?_
  cases hkk : k.kind with
  | array cm ty =>
    rw [hkk] at hb f3
    simp only [Bool.and_eq_true, decide_eq_true_eq] at hb
    have f2 : U.vm.findClass ("[" ++ (FieldType.array t).toString) = some c := by rw [hvm.findClass]; exact hb.2
    simp [hk', f3, f2, hb.1]
  | _ => rw [hkk] at hb; cases hb
theorem jnwOk_cases {w : Cond} (h : jnwOk w = true) : (∃ a i b n d h, w = .fieldLinkNest a i b n d h) ∨ (∃ a i x h, w = .methodLinkNest a i x h) ∨ (∃ C, w = .arrayOver (.object C)) ∨ (∃ t, w = .arrayOver (.array t)) ∨ (∃ x, w = .privateMethod x) ∨ (∃ C T, w = .castable C T) ∨ ∃ x, w = .declares x := by
  unfold jnwOk at h
  split at h
  · exact Or.inl ⟨_, _, _, _, _, _, rfl⟩
  · exact Or.inr (Or.inl ⟨_, _, _, _, rfl⟩)
  · exact Or.inr (Or.inr (Or.inl ⟨_, rfl⟩))
  · exact Or.inr (Or.inr (Or.inr (Or.inl ⟨_, rfl⟩)))
  · exact Or.inr (Or.inr (Or.inr (Or.inr (Or.inl ⟨_, rfl⟩))))
  · exact Or.inr (Or.inr (Or.inr (Or.inr (Or.inr (Or.inl ⟨_, _, rfl⟩)))))
  · exact Or.inr (Or.inr (Or.inr (Or.inr (Or.inr (Or.inr ⟨_, rfl⟩)))))
  · cases h
theorem jpriv_moved {x : MethodName} {s U : State} (hv : s.vm.Alike U.vm) (hZ : va_Nw (.privateMethod x) s) : va_Nw (.privateMethod x) U := va_tabs rfl (rfl : (s.setVm U.vm).vm = U.vm) (by rw [Cond.privateMethod_setVm hv]; exact hZ)
theorem KK.moved {D : va_G} {dA : Nat → ClassId} {s U : State} (hW : s.WarmedH U.vm) (h : KK D dA s) : KK D dA U := by
  refine ⟨va_K.moved hW.alike h.1, fun w hw => ?_⟩
  have h1 := h.2 w hw
  rcases jnwOk_cases (List.mem_filter.mp hw).2 with ⟨_, _, _, _, _, _, rfl⟩ | ⟨_, _, _, _, rfl⟩ | ⟨_, rfl⟩ | ⟨_, rfl⟩ | ⟨_, rfl⟩ | ⟨_, _, rfl⟩ | ⟨_, rfl⟩
  · exact va_Nw.warmF hW h1
  · exact va_Nw.warmM hW h1
  · exact va_AO.moved hW.alike h1
  · exact jao_movedA hW.alike h1
  · exact jpriv_moved hW.alike h1
  · exact va_Nw.warmC hW h1
  · exact va_tabs rfl (rfl : (s.setVm U.vm).vm = U.vm) (by rw [Cond.declares_setVm hW.alike]; exact h1)
theorem KK.calling {D : va_G} {dA : Nat → ClassId} {U : State} {g : JFrame} {mk : MethodId} {a : Array Value} (h : KK D dA U) : KK D dA (U.calling g mk a) := by
  refine ⟨va_K.moved (u := U) (U := U.calling g mk a) (Vm.Alike.refl U.vm) h.1, fun w hw => ?_⟩
  have h1 := h.2 w hw
  rcases jnwOk_cases (List.mem_filter.mp hw).2 with ⟨_, _, _, _, _, _, rfl⟩ | ⟨_, _, _, _, rfl⟩ | ⟨_, rfl⟩ | ⟨_, rfl⟩ | ⟨_, rfl⟩ | ⟨_, _, rfl⟩ | ⟨_, rfl⟩
  · exact va_Nw.same (u := U) (U := U.calling g mk a) rfl rfl h1
  · exact va_Nw.same (u := U) (U := U.calling g mk a) rfl rfl h1
  · exact va_AO.moved (u := U) (U := U.calling g mk a) (Vm.Alike.refl U.vm) h1
  · exact jao_movedA (u := U) (U := U.calling g mk a) (Vm.Alike.refl U.vm) h1
  · exact jpriv_moved (s := U) (U := U.calling g mk a) (Vm.Alike.refl U.vm) h1
  · exact va_Nw.same (u := U) (U := U.calling g mk a) rfl rfl h1
  · exact va_Nw.same (u := U) (U := U.calling g mk a) rfl rfl h1
/-! what lies in the heap beside: string constants, statics -/
def jtx (k : Nat) : String := if k = 0 then " prime size bracket gives less of swap scale add keep take sum when loop stop end by to lawful abelian nilpotent solvable derived same " else ";<>="
def jtb (k : Nat) : List Int32 := if k = 0 then [32, 112, 114, 105, 109, 101, 32, 115, 105, 122, 101, 32, 98, 114, 97, 99, 107, 101, 116, 32, 103, 105, 118, 101, 115, 32, 108, 101, 115, 115, 32, 111, 102, 32, 115, 119, 97, 112, 32, 115, 99, 97, 108, 101, 32, 97, 100, 100, 32, 107, 101, 101, 112, 32, 116, 97, 107, 101, 32, 115, 117, 109, 32, 119, 104, 101, 110, 32, 108, 111, 111, 112, 32, 115, 116, 111, 112, 32, 101, 110, 100, 32, 98, 121, 32, 116, 111, 32, 108, 97, 119, 102, 117, 108, 32, 97, 98, 101, 108, 105, 97, 110, 32, 110, 105, 108, 112, 111, 116, 101, 110, 116, 32, 115, 111, 108, 118, 97, 98, 108, 101, 32, 100, 101, 114, 105, 118, 101, 100, 32, 115, 97, 109, 101, 32] else [59, 60, 62, 61]
def oAd (T : Nat → Nat) (n : Nat) : Option Nat := if T (300 + 2 * n) = 0 then none else some (T (301 + 2 * n))
def jsC (n : Nat) : String := if n = 2 then "jdk/internal/util/Preconditions" else "java/lang/Throwable"
def jsN (n : Nat) : String := if n = 0 then "UNASSIGNED_STACK" else if n = 1 then "SUPPRESSED_SENTINEL" else "SIOOBE_FORMATTER"
def jsD (n : Nat) : String := if n = 0 then "[Ljava/lang/StackTraceElement;" else if n = 1 then "Ljava/util/List;" else "Ljava/util/function/BiFunction;"
def FG (dA : Nat → Nat) (A : Nat → Prop) (U : State) (H : Heap) : Prop :=
  vk_S 2 [(jtb 0).length, (jtb 1).length] [jtb 0, jtb 1] (fun i => dA (100 + i)) (fun i => dA (200 + i)) A U H ∧ vk_R "BracketRoom$Reader" 3 (jtx 0) (dA 100) U ∧ vk_R "BracketRoom$Reader" 5 (jtx 1) (dA 101) U ∧
    va_Z "java/lang/String" "COMPACT_STRINGS" "Z" (.int 1) A U H ∧ (∀ n, n < 3 → va_Z (jsC n) (jsN n) (jsD n) (va_rf (oAd dA n)) A U H) ∧ (vx_Zq Bundle.tN "UNASSIGNED_STACK" Bundle.steD A U H ∧ vx_Zq Bundle.tN "SUPPRESSED_SENTINEL" Bundle.listD A U H) ∧ va_Nc "java/lang/ArrayIndexOutOfBoundsException" "java/lang/NullPointerException" U ∧ U.heap = H
theorem FG.go {dA : Nat → Nat} {A B : Nat → Prop} {s U : State} {H0 H : Heap} (hW : s.WarmedH U.vm) (h : FG dA A s H0) (hq : ∀ a : Nat, a < H0.size → ¬ A a → H[a]? = H0[a]?) (hAB : ∀ q, B q → A q) (e : U.heap = H) : FG dA B U H :=
  ⟨((h.1.moved hW.alike).kept hq).narrow hAB, h.2.1.warm hW, h.2.2.1.warm hW, ((h.2.2.2.1.moved hW.alike).kept hq).narrow hAB, fun n hn => (((h.2.2.2.2.1 n hn).moved hW.alike).kept hq).narrow hAB, ⟨((vx_Zq.moved hW.alike h.2.2.2.2.2.1.1).kept hq).narrow hAB, ((vx_Zq.moved hW.alike h.2.2.2.2.2.1.2).kept hq).narrow hAB⟩, va_Nc.moved hW.alike h.2.2.2.2.2.2.1, e⟩
theorem FG.calling {dA : Nat → Nat} {A : Nat → Prop} {U : State} {H : Heap} {g : JFrame} {mk : MethodId} {a : Array Value} (h : FG dA A U H) : FG dA A (U.calling g mk a) H :=
  ⟨h.1.moved (u := U) (U := U.calling g mk a) (Vm.Alike.refl U.vm), h.2.1.same rfl, h.2.2.1.same rfl, h.2.2.2.1.moved (u := U) (U := U.calling g mk a) (Vm.Alike.refl U.vm), fun n hn => (h.2.2.2.2.1 n hn).moved (u := U) (U := U.calling g mk a) (Vm.Alike.refl U.vm), ⟨vx_Zq.moved (u := U) (U := U.calling g mk a) (Vm.Alike.refl U.vm) h.2.2.2.2.2.1.1, vx_Zq.moved (u := U) (U := U.calling g mk a) (Vm.Alike.refl U.vm) h.2.2.2.2.2.1.2⟩, va_Nc.moved (u := U) (U := U.calling g mk a) (Vm.Alike.refl U.vm) h.2.2.2.2.2.2.1, h.2.2.2.2.2.2.2⟩
