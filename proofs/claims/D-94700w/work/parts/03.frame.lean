/-! THE FRAME: a method's bytecode as a function of a world mu (JM), and the judgement J that says so over the kit's W. -/
set_option maxRecDepth 100000
section JMONAD
variable {μ α τ ρ σ : Type}
def JM (μ α : Type) : Type := μ → Option (Except Nat α × μ)
def jp (v : α) : JM μ α := fun M => some (.ok v, M)
def jfail : JM μ α := fun _ => none
def jthrow (q : Nat) : JM μ α := fun M => some (.error q, M)
def jb (x : JM μ α) (f : α → JM μ τ) : JM μ τ := fun M => match x M with
  | none => none
  | some (.error q, M1) => some (.error q, M1)
  | some (.ok v, M1) => f v M1
def jlet (v : α) (f : α → JM μ τ) : JM μ τ := f v
def jinl (x : JM μ ρ) : JM μ (ρ ⊕ σ) := fun M => match x M with
  | none => none
  | some (.error q, M1) => some (.error q, M1)
  | some (.ok v, M1) => some (.ok (.inl v), M1)
def jcont (t : σ) : JM μ (ρ ⊕ σ) := jp (.inr t)
def jloopN (b : σ → JM μ (ρ ⊕ σ)) : Nat → σ → JM μ ρ
  | 0, _, _ => none
  | n + 1, t, M => match b t M with
    | none => none
    | some (.error q, M1) => some (.error q, M1)
    | some (.ok (.inl v), M1) => some (.ok v, M1)
    | some (.ok (.inr t1), M1) => jloopN b n t1 M1
noncomputable def jloop (b : σ → JM μ (ρ ⊕ σ)) (t : σ) : JM μ ρ := fun M =>
  @dite _ (∃ n, (jloopN b n t M).isSome = true) (Classical.propDecidable _) (fun h => jloopN b (Classical.choose h) t M) (fun _ => none)
theorem jloopN_mono {b : σ → JM μ (ρ ⊕ σ)} : ∀ {n m : Nat} {t : σ} {M : μ} {r : Except Nat ρ × μ}, n ≤ m → jloopN b n t M = some r → jloopN b m t M = some r
  | 0, _, _, _, _, _, h => by cases h
  | n + 1, 0, _, _, _, hm, _ => absurd hm (by omega)
  | n + 1, m + 1, t, M, r, hm, h => by
    unfold jloopN at h ⊢
    cases hb : b t M with
    | none => rw [hb] at h; cases h
    | some x =>
      rw [hb] at h
      obtain ⟨x1, M1⟩ := x
      cases x1 with
      | error q => exact h
      | ok v =>
        cases v with
        | inl v => exact h
        | inr t1 => exact jloopN_mono (Nat.le_of_succ_le_succ hm) h
theorem jloop_of {b : σ → JM μ (ρ ⊕ σ)} {n : Nat} {t : σ} {M : μ} {r : Except Nat ρ × μ} (h : jloopN b n t M = some r) : jloop b t M = some r := by
  have hx : ∃ n, (jloopN b n t M).isSome = true := ⟨n, by rw [h]; rfl⟩
  unfold jloop
  rw [dif_pos hx]
  have h1 := Classical.choose_spec hx
  generalize Classical.choose hx = k at h1
  obtain ⟨r1, h2⟩ := Option.isSome_iff_exists.mp h1
  rw [h2]
  rcases Nat.le_total n k with q | q
  · exact h2.symm.trans (jloopN_mono q h)
  · exact (jloopN_mono q h2).symm.trans h
theorem jloop_to {b : σ → JM μ (ρ ⊕ σ)} {t : σ} {M : μ} {r : Except Nat ρ × μ} (h : jloop b t M = some r) : ∃ n, jloopN b n t M = some r := by
  unfold jloop at h
  by_cases hx : ∃ n, (jloopN b n t M).isSome = true
  · rw [dif_pos hx] at h
    exact ⟨_, h⟩
  · rw [dif_neg hx] at h
    cases h
theorem jloopN_succ {b : σ → JM μ (ρ ⊕ σ)} {n : Nat} {t : σ} {M : μ} : jloopN b (n + 1) t M = (match b t M with
    | none => none
    | some (Except.error q, M1) => some (Except.error q, M1)
    | some (Except.ok (Sum.inl v), M1) => some (Except.ok v, M1)
    | some (Except.ok (Sum.inr t1), M1) => jloopN b n t1 M1) := rfl
theorem jloop_inr {b : σ → JM μ (ρ ⊕ σ)} {t t1 : σ} {M M1 : μ} (h : b t M = some (.ok (.inr t1), M1)) : jloop b t M = jloop b t1 M1 := by
  have e : ∀ n, jloopN b (n + 1) t M = jloopN b n t1 M1 := fun n => by
    rw [jloopN_succ, h]
  cases hr : jloop b t1 M1 with
  | some r =>
    obtain ⟨n, hn⟩ := jloop_to hr
    exact jloop_of (n := n + 1) ((e n).trans hn)
  | none =>
    cases hq : jloop b t M with
    | none => rfl
    | some r =>
      obtain ⟨n, hn⟩ := jloop_to hq
      cases n with
      | zero => cases hn
      | succ n =>
        rw [e] at hn
        rw [jloop_of hn] at hr
        cases hr
theorem jloop_inl {b : σ → JM μ (ρ ⊕ σ)} {t : σ} {M M1 : μ} {v : ρ} (h : b t M = some (.ok (.inl v), M1)) : jloop b t M = some (.ok v, M1) :=
  jloop_of (n := 1) (by unfold jloopN; rw [h])
theorem jloop_err {b : σ → JM μ (ρ ⊕ σ)} {t : σ} {M M1 : μ} {q : Nat} (h : b t M = some (.error q, M1)) : jloop b t M = some (.error q, M1) :=
  jloop_of (n := 1) (by unfold jloopN; rw [h])
theorem jb_ok {x : JM μ α} {f : α → JM μ τ} {M M1 : μ} {v : α} (h : x M = some (Except.ok v, M1)) : jb x f M = f v M1 := by unfold jb; rw [h]
theorem jb_err {x : JM μ α} {f : α → JM μ τ} {M M1 : μ} {q : Nat} (h : x M = some (Except.error q, M1)) : jb x f M = some (Except.error q, M1) := by unfold jb; rw [h]
theorem jb_none {x : JM μ α} {f : α → JM μ τ} {M : μ} (h : x M = none) : jb x f M = none := by unfold jb; rw [h]
theorem jinl_ok {x : JM μ ρ} {M M1 : μ} {v : ρ} (h : x M = some (Except.ok v, M1)) : (jinl x : JM μ (ρ ⊕ σ)) M = some (Except.ok (Sum.inl v), M1) := by unfold jinl; rw [h]
theorem jinl_err {x : JM μ ρ} {M M1 : μ} {q : Nat} (h : x M = some (Except.error q, M1)) : (jinl x : JM μ (ρ ⊕ σ)) M = some (Except.error q, M1) := by unfold jinl; rw [h]
theorem jinl_none {x : JM μ ρ} {M : μ} (h : x M = none) : (jinl x : JM μ (ρ ⊕ σ)) M = none := by unfold jinl; rw [h]
theorem jb_cases {x : JM μ α} {f : α → JM μ τ} {M M' : μ} {r : Except Nat τ} (h : jb x f M = some (r, M')) : (∃ v M1, x M = some (Except.ok v, M1) ∧ f v M1 = some (r, M')) ∨ (∃ q, x M = some (Except.error q, M') ∧ r = Except.error q) := by
  cases e : x M with
  | none => rw [jb_none e] at h; cases h
  | some y =>
    obtain ⟨y, M1⟩ := y
    cases y with
    | error q => rw [jb_err e] at h; cases h; exact Or.inr ⟨q, rfl, rfl⟩
    | ok v => rw [jb_ok e] at h; exact Or.inl ⟨v, M1, rfl, h⟩
end JMONAD
section JCTX
abbrev JC (μ : Type) : Type := Program × Launch × Env × Room × State × MethodId × Array Value × List Frame × Method × Code × (State → Prop) × (μ → Heap → List Loc → Nat → Nat → Prop)
abbrev JY : Type := ByteArray × String × Nat × Nat × String × Option FieldType × List (Nat × Nat × Nat × Nat)
variable {μ : Type}
abbrev jcP (Γ : JC μ) : Program := Γ.1
abbrev jcL (Γ : JC μ) : Launch := Γ.2.1
abbrev jcE (Γ : JC μ) : Env := Γ.2.2.1
abbrev jcR (Γ : JC μ) : Room := Γ.2.2.2.1
abbrev jcS (Γ : JC μ) : State := Γ.2.2.2.2.1
abbrev jcM (Γ : JC μ) : MethodId := Γ.2.2.2.2.2.1
abbrev jcA (Γ : JC μ) : Array Value := Γ.2.2.2.2.2.2.1
abbrev jcB (Γ : JC μ) : List Frame := Γ.2.2.2.2.2.2.2.1
abbrev jcH (Γ : JC μ) : Method := Γ.2.2.2.2.2.2.2.2.1
abbrev jcC (Γ : JC μ) : Code := Γ.2.2.2.2.2.2.2.2.2.1
abbrev jcQ (Γ : JC μ) : State → Prop := Γ.2.2.2.2.2.2.2.2.2.2.1
abbrev jcI (Γ : JC μ) : μ → Heap → List Loc → Nat → Nat → Prop := Γ.2.2.2.2.2.2.2.2.2.2.2
/-- the body's facts -/
def JOk (Y : JY) (Γ : JC μ) : Prop :=
  (jcP Γ).tables.exec = Jvm.exec ∧ (jcC Γ).code = Y.1 ∧ (jcC Γ).maxLocals = Y.2.2.1 ∧ (jcS Γ).vm.findClass Y.2.1 = some (jcM Γ).cls ∧
    (∀ w ∈ lw_all, w.before (jcA Γ) (jcS Γ) = true) ∧ Y.2.2.2.1 ≤ (jcR Γ).frames ∧ 100 * Y.2.2.2.1 ≤ (jcR Γ).locals ∧ (jcH Γ).name = Y.2.2.2.2.1 ∧
    (jcH Γ).sig.returnType = Y.2.2.2.2.2.1 ∧ (jcH Γ).locks = false ∧ (jcC Γ).exceptionTable.toList.map (fun x => (x.startPc, x.endPc, x.handlerPc, x.catchType)) = Y.2.2.2.2.2.2 ∧ (jcL Γ).stackTraces = false
theorem JOk.exec {Y : JY} {Γ : JC μ} (h : JOk Y Γ) : (jcP Γ).tables.exec = Jvm.exec := h.1
theorem JOk.code {Y : JY} {Γ : JC μ} (h : JOk Y Γ) : (jcC Γ).code = Y.1 := h.2.1
theorem JOk.nL {Y : JY} {Γ : JC μ} (h : JOk Y Γ) : (jcC Γ).maxLocals = Y.2.2.1 := h.2.2.1
theorem JOk.own {Y : JY} {Γ : JC μ} (h : JOk Y Γ) : (jcS Γ).vm.findClass Y.2.1 = some (jcM Γ).cls := h.2.2.2.1
theorem JOk.hts {Y : JY} {Γ : JC μ} (h : JOk Y Γ) : ∀ w ∈ lw_all, w.before (jcA Γ) (jcS Γ) = true := h.2.2.2.2.1
theorem JOk.fr {Y : JY} {Γ : JC μ} (h : JOk Y Γ) : Y.2.2.2.1 ≤ (jcR Γ).frames := h.2.2.2.2.2.1
theorem JOk.lo {Y : JY} {Γ : JC μ} (h : JOk Y Γ) : 100 * Y.2.2.2.1 ≤ (jcR Γ).locals := h.2.2.2.2.2.2.1
theorem JOk.nm {Y : JY} {Γ : JC μ} (h : JOk Y Γ) : (jcH Γ).name = Y.2.2.2.2.1 := h.2.2.2.2.2.2.2.1
theorem JOk.rt {Y : JY} {Γ : JC μ} (h : JOk Y Γ) : (jcH Γ).sig.returnType = Y.2.2.2.2.2.1 := h.2.2.2.2.2.2.2.2.1
theorem JOk.locks {Y : JY} {Γ : JC μ} (h : JOk Y Γ) : (jcH Γ).locks = false := h.2.2.2.2.2.2.2.2.2.1
theorem JOk.tab {Y : JY} {Γ : JC μ} (h : JOk Y Γ) : (jcC Γ).exceptionTable.toList.map (fun x => (x.startPc, x.endPc, x.handlerPc, x.catchType)) = Y.2.2.2.2.2.2 := h.2.2.2.2.2.2.2.2.2.2.1
theorem JOk.st {Y : JY} {Γ : JC μ} (h : JOk Y Γ) : (jcL Γ).stackTraces = false := h.2.2.2.2.2.2.2.2.2.2.2
/-- the walk stands at pc with the listed locals and stack, the world is M: it comes to its end -/
def JG (Γ : JC μ) (pc : Nat) (env : List (Nat × Value)) (st : List Value) (M : μ) : Prop :=
  ∀ (H : Heap) (locs : List Loc) (cells slots : Nat) (ls : Array Slot), jcI Γ M H locs cells slots → lv_has ls (jcC Γ).maxLocals env →
    W (jcP Γ) (jcL Γ) (jcE Γ) (jcR Γ) (jcS Γ) (jcM Γ) (jcA Γ) (jcB Γ) (jcH Γ) (jcC Γ) H locs cells slots (jcQ Γ) (F0 (jcM Γ) pc ls st)
/-- an exception q that no handler of the method catches -/
def JT (Γ : JC μ) (q : Nat) (M : μ) : Prop :=
  ∀ (H : Heap) (locs : List Loc) (cells slots : Nat) (ls : Array Slot) (pc : Nat) (st : List Value), jcI Γ M H locs cells slots → (∀ x ∈ (jcC Γ).exceptionTable.toList, covers x pc = false) →
    vx_W (jcP Γ) (jcL Γ) (jcE Γ) (jcR Γ) (jcS Γ) (jcM Γ) (jcA Γ) (jcB Γ) (jcH Γ) (jcC Γ) H locs cells slots (jcQ Γ) (F0 (jcM Γ) pc ls st) q
abbrev JF (μ τ : Type) : Type := JC μ → τ → μ → Prop
/-- the code at pc does what k says -/
def J {τ : Type} (P : JC μ → Prop) (Y : JY) (env : List (Nat × Value)) (st : List Value) (pc : Nat) (k : JM μ τ) (F : JF μ τ) : Prop :=
  ∀ Γ : JC μ, JOk Y Γ → P Γ → ∀ (M : μ) (r : Except Nat τ) (M' : μ), k M = some (r, M') → (∀ v, r = .ok v → F Γ v M') → (∀ q, r = .error q → JT Γ q M') → JG Γ pc env st M
/-- back to a loop's head, or what lies behind the loop -/
def FLoop {ρ σ : Type} (F : JF μ ρ) (pc : Nat) (env : σ → List (Nat × Value)) : JF μ (ρ ⊕ σ) := fun Γ r M => match r with
  | .inl v => F Γ v M
  | .inr t => JG Γ pc (env t) [] M
end JCTX
/-! J rows: instructions that don't touch the heap. -/
section JROWS
variable {μ τ : Type} {P : JC μ → Prop} {Y : JY} {env env' : List (Nat × Value)} {pu : List Value} {pc : Nat} {k : JM μ τ} {F : JF μ τ}
theorem J_sub (ks : List Nat) (he : lv_pick env ks = env') (h : J P Y env' pu pc k F) : J P Y env pu pc k F := by
  intro Γ ok hP M r M' hk hv hq H locs cells slots ls hi hl
  exact h Γ ok hP M r M' hk hv hq H locs cells slots ls hi (lv_sub hl ks he)
theorem J_let {α : Type} {v : α} {f : α → JM μ τ} (h : ∀ x, J P Y env pu pc (f x) F) : J P Y env pu pc (jlet v f) F := h v
theorem J_letI {v : Int32} {f : Int32 → JM μ τ} (h : ∀ x, J P Y env (.int x :: pu) pc (f x) F) : J P Y env (.int v :: pu) pc (jlet v f) F := h v
theorem J_letL {v : Int64} {f : Int64 → JM μ τ} (h : ∀ x, J P Y env (.long x :: pu) pc (f x) F) : J P Y env (.long v :: pu) pc (jlet v f) F := h v
theorem J_fail : J P Y env pu pc (jfail : JM μ τ) F := by
  intro Γ ok hP M r M' hk
  cases hk
theorem J_iadd {x y : Int32} (hd : decode Y.1 pc = .ok (.iadd, 1)) (h : J P Y env (.int (x + y) :: pu) (pc + 1) k F) : J P Y env (.int y :: .int x :: pu) pc k F := by
  intro Γ ok hP M r M' hk hv hq H locs cells slots ls hi hl
  exact lv_iadd ok.exec ok.code hd (h Γ ok hP M r M' hk hv hq H locs cells slots ls hi hl)
theorem J_isub {x y : Int32} (hd : decode Y.1 pc = .ok (.isub, 1)) (h : J P Y env (.int (x - y) :: pu) (pc + 1) k F) : J P Y env (.int y :: .int x :: pu) pc k F := by
  intro Γ ok hP M r M' hk hv hq H locs cells slots ls hi hl
  exact lv_isub ok.exec ok.code hd (h Γ ok hP M r M' hk hv hq H locs cells slots ls hi hl)
theorem J_imul {x y : Int32} (hd : decode Y.1 pc = .ok (.imul, 1)) (h : J P Y env (.int (x * y) :: pu) (pc + 1) k F) : J P Y env (.int y :: .int x :: pu) pc k F := by
  intro Γ ok hP M r M' hk hv hq H locs cells slots ls hi hl
  exact lv_imul ok.exec ok.code hd (h Γ ok hP M r M' hk hv hq H locs cells slots ls hi hl)
theorem J_iand {x y : Int32} (hd : decode Y.1 pc = .ok (.iand, 1)) (h : J P Y env (.int (x &&& y) :: pu) (pc + 1) k F) : J P Y env (.int y :: .int x :: pu) pc k F := by
  intro Γ ok hP M r M' hk hv hq H locs cells slots ls hi hl
  exact lv_iand ok.exec ok.code hd (h Γ ok hP M r M' hk hv hq H locs cells slots ls hi hl)
theorem J_ior {x y : Int32} (hd : decode Y.1 pc = .ok (.ior, 1)) (h : J P Y env (.int (x ||| y) :: pu) (pc + 1) k F) : J P Y env (.int y :: .int x :: pu) pc k F := by
  intro Γ ok hP M r M' hk hv hq H locs cells slots ls hi hl
  exact lv_ior ok.exec ok.code hd (h Γ ok hP M r M' hk hv hq H locs cells slots ls hi hl)
theorem J_ixor {x y : Int32} (hd : decode Y.1 pc = .ok (.ixor, 1)) (h : J P Y env (.int (x ^^^ y) :: pu) (pc + 1) k F) : J P Y env (.int y :: .int x :: pu) pc k F := by
  intro Γ ok hP M r M' hk hv hq H locs cells slots ls hi hl
  exact lv_ixor ok.exec ok.code hd (h Γ ok hP M r M' hk hv hq H locs cells slots ls hi hl)
theorem J_ineg {x : Int32} (hd : decode Y.1 pc = .ok (.ineg, 1)) (h : J P Y env (.int (-x) :: pu) (pc + 1) k F) : J P Y env (.int x :: pu) pc k F := by
  intro Γ ok hP M r M' hk hv hq H locs cells slots ls hi hl
  exact lv_ineg ok.exec ok.code hd (h Γ ok hP M r M' hk hv hq H locs cells slots ls hi hl)
theorem J_ishl {x y : Int32} (hd : decode Y.1 pc = .ok (.ishl, 1)) (h : J P Y env (.int (x <<< (y &&& 31)) :: pu) (pc + 1) k F) : J P Y env (.int y :: .int x :: pu) pc k F := by
  intro Γ ok hP M r M' hk hv hq H locs cells slots ls hi hl
  exact lv_ishl ok.exec ok.code hd (h Γ ok hP M r M' hk hv hq H locs cells slots ls hi hl)
theorem J_ishr {x y : Int32} (hd : decode Y.1 pc = .ok (.ishr, 1)) (h : J P Y env (.int (x >>> (y &&& 31)) :: pu) (pc + 1) k F) : J P Y env (.int y :: .int x :: pu) pc k F := by
  intro Γ ok hP M r M' hk hv hq H locs cells slots ls hi hl
  exact lv_ishr ok.exec ok.code hd (h Γ ok hP M r M' hk hv hq H locs cells slots ls hi hl)
theorem J_iushr {x y : Int32} (hd : decode Y.1 pc = .ok (.iushr, 1)) (h : J P Y env (.int ((x.toUInt32 >>> (y.toUInt32 &&& Int32.toUInt32 31)).toInt32) :: pu) (pc + 1) k F) : J P Y env (.int y :: .int x :: pu) pc k F := by
  intro Γ ok hP M r M' hk hv hq H locs cells slots ls hi hl
  exact lv_iushr ok.exec ok.code hd rfl (h Γ ok hP M r M' hk hv hq H locs cells slots ls hi hl)
theorem J_ladd {x y : Int64} (hd : decode Y.1 pc = .ok (.ladd, 1)) (h : J P Y env (.long (x + y) :: pu) (pc + 1) k F) : J P Y env (.long y :: .long x :: pu) pc k F := by
  intro Γ ok hP M r M' hk hv hq H locs cells slots ls hi hl
  exact lv_ladd ok.exec ok.code hd (h Γ ok hP M r M' hk hv hq H locs cells slots ls hi hl)
theorem J_lsub {x y : Int64} (hd : decode Y.1 pc = .ok (.lsub, 1)) (h : J P Y env (.long (x - y) :: pu) (pc + 1) k F) : J P Y env (.long y :: .long x :: pu) pc k F := by
  intro Γ ok hP M r M' hk hv hq H locs cells slots ls hi hl
  exact lv_lsub ok.exec ok.code hd (h Γ ok hP M r M' hk hv hq H locs cells slots ls hi hl)
theorem J_lmul {x y : Int64} (hd : decode Y.1 pc = .ok (.lmul, 1)) (h : J P Y env (.long (x * y) :: pu) (pc + 1) k F) : J P Y env (.long y :: .long x :: pu) pc k F := by
  intro Γ ok hP M r M' hk hv hq H locs cells slots ls hi hl
  exact lv_lmul ok.exec ok.code hd (h Γ ok hP M r M' hk hv hq H locs cells slots ls hi hl)
theorem J_land {x y : Int64} (hd : decode Y.1 pc = .ok (.land, 1)) (h : J P Y env (.long (x &&& y) :: pu) (pc + 1) k F) : J P Y env (.long y :: .long x :: pu) pc k F := by
  intro Γ ok hP M r M' hk hv hq H locs cells slots ls hi hl
  exact lv_land ok.exec ok.code hd (h Γ ok hP M r M' hk hv hq H locs cells slots ls hi hl)
theorem J_lor {x y : Int64} (hd : decode Y.1 pc = .ok (.lor, 1)) (h : J P Y env (.long (x ||| y) :: pu) (pc + 1) k F) : J P Y env (.long y :: .long x :: pu) pc k F := by
  intro Γ ok hP M r M' hk hv hq H locs cells slots ls hi hl
  exact lv_lor ok.exec ok.code hd (h Γ ok hP M r M' hk hv hq H locs cells slots ls hi hl)
theorem J_lneg {x : Int64} (hd : decode Y.1 pc = .ok (.lneg, 1)) (h : J P Y env (.long (-x) :: pu) (pc + 1) k F) : J P Y env (.long x :: pu) pc k F := by
  intro Γ ok hP M r M' hk hv hq H locs cells slots ls hi hl
  exact lv_lneg ok.exec ok.code hd (h Γ ok hP M r M' hk hv hq H locs cells slots ls hi hl)
theorem J_lshl {x : Int64} {y : Int32} (hd : decode Y.1 pc = .ok (.lshl, 1)) (h : J P Y env (.long (x <<< (y.toInt64 &&& 63)) :: pu) (pc + 1) k F) : J P Y env (.int y :: .long x :: pu) pc k F := by
  intro Γ ok hP M r M' hk hv hq H locs cells slots ls hi hl
  exact lv_lshl ok.exec ok.code hd rfl (h Γ ok hP M r M' hk hv hq H locs cells slots ls hi hl)
theorem J_i2l {x : Int32} (hd : decode Y.1 pc = .ok (.i2l, 1)) (h : J P Y env (.long x.toInt64 :: pu) (pc + 1) k F) : J P Y env (.int x :: pu) pc k F := by
  intro Γ ok hP M r M' hk hv hq H locs cells slots ls hi hl
  exact lv_i2l ok.exec ok.code hd rfl (h Γ ok hP M r M' hk hv hq H locs cells slots ls hi hl)
theorem J_l2i {x : Int64} (hd : decode Y.1 pc = .ok (.l2i, 1)) (h : J P Y env (.int x.toInt32 :: pu) (pc + 1) k F) : J P Y env (.long x :: pu) pc k F := by
  intro Γ ok hP M r M' hk hv hq H locs cells slots ls hi hl
  exact lv_l2i ok.exec ok.code hd rfl (h Γ ok hP M r M' hk hv hq H locs cells slots ls hi hl)
theorem J_i2b {x : Int32} (hd : decode Y.1 pc = .ok (.i2b, 1)) (h : J P Y env (.int x.toInt8.toInt32 :: pu) (pc + 1) k F) : J P Y env (.int x :: pu) pc k F := by
  intro Γ ok hP M r M' hk hv hq H locs cells slots ls hi hl
  exact lv_i2b ok.exec ok.code hd rfl (h Γ ok hP M r M' hk hv hq H locs cells slots ls hi hl)
theorem J_i2s {x : Int32} (hd : decode Y.1 pc = .ok (.i2s, 1)) (h : J P Y env (.int x.toInt16.toInt32 :: pu) (pc + 1) k F) : J P Y env (.int x :: pu) pc k F := by
  intro Γ ok hP M r M' hk hv hq H locs cells slots ls hi hl
  exact lv_i2s ok.exec ok.code hd rfl (h Γ ok hP M r M' hk hv hq H locs cells slots ls hi hl)
theorem J_i2c {x : Int32} (hd : decode Y.1 pc = .ok (.i2c, 1)) (h : J P Y env (.int ((x.toUInt32 % 65536).toInt32) :: pu) (pc + 1) k F) : J P Y env (.int x :: pu) pc k F := by
  intro Γ ok hP M r M' hk hv hq H locs cells slots ls hi hl
  exact lv_i2c ok.exec ok.code hd rfl (h Γ ok hP M r M' hk hv hq H locs cells slots ls hi hl)
theorem J_iconst {n : Int} {v : Int32} (hd : decode Y.1 pc = .ok (.iconst n, 1)) (e : Int32.ofInt n = v) (h : J P Y env (.int v :: pu) (pc + 1) k F) : J P Y env pu pc k F := by
  intro Γ ok hP M r M' hk hv hq H locs cells slots ls hi hl
  exact lv_iconst ok.exec ok.code hd e (h Γ ok hP M r M' hk hv hq H locs cells slots ls hi hl)
theorem J_bipush {n : Int} {v : Int32} (hd : decode Y.1 pc = .ok (.bipush n, 2)) (e : (Int8.ofInt n).toInt32 = v) (h : J P Y env (.int v :: pu) (pc + 2) k F) : J P Y env pu pc k F := by
  intro Γ ok hP M r M' hk hv hq H locs cells slots ls hi hl
  exact lv_bipush ok.exec ok.code hd e (h Γ ok hP M r M' hk hv hq H locs cells slots ls hi hl)
theorem J_sipush {n : Int} {v : Int32} (hd : decode Y.1 pc = .ok (.sipush n, 3)) (e : (Int16.ofInt n).toInt32 = v) (h : J P Y env (.int v :: pu) (pc + 3) k F) : J P Y env pu pc k F := by
  intro Γ ok hP M r M' hk hv hq H locs cells slots ls hi hl
  exact lv_sipush ok.exec ok.code hd e (h Γ ok hP M r M' hk hv hq H locs cells slots ls hi hl)
theorem J_lconst {n : Fin 2} {v : Int64} (hd : decode Y.1 pc = .ok (.lconst n, 1)) (e : Int64.ofNat (n : Nat) = v) (h : J P Y env (.long v :: pu) (pc + 1) k F) : J P Y env pu pc k F := by
  intro Γ ok hP M r M' hk hv hq H locs cells slots ls hi hl
  exact lv_lconst ok.exec ok.code hd e (h Γ ok hP M r M' hk hv hq H locs cells slots ls hi hl)
theorem J_ldc {i : Nat} {v : Int32} (hd : decode Y.1 pc = .ok (.ldc i, 2)) (q : Cond.constant Y.2.1 i v ∈ lw_all) (h : J P Y env (.int v :: pu) (pc + 2) k F) : J P Y env pu pc k F := by
  intro Γ ok hP M r M' hk hv hq H locs cells slots ls hi hl
  exact lv_ldc ok.exec ok.code ok.own (ok.hts _ q) hd (h Γ ok hP M r M' hk hv hq H locs cells slots ls hi hl)
theorem J_ldcw {i : Nat} {v : Int32} (hd : decode Y.1 pc = .ok (.ldc_w i, 3)) (q : Cond.constant Y.2.1 i v ∈ lw_all) (h : J P Y env (.int v :: pu) (pc + 3) k F) : J P Y env pu pc k F := by
  intro Γ ok hP M r M' hk hv hq H locs cells slots ls hi hl
  exact lv_ldcw ok.exec ok.code ok.own (ok.hts _ q) hd (h Γ ok hP M r M' hk hv hq H locs cells slots ls hi hl)
theorem J_ldc2 {i : Nat} {v : Int64} (hd : decode Y.1 pc = .ok (.ldc2_w i, 3)) (q : Cond.constantLong Y.2.1 i v ∈ lw_all) (h : J P Y env (.long v :: pu) (pc + 3) k F) : J P Y env pu pc k F := by
  intro Γ ok hP M r M' hk hv hq H locs cells slots ls hi hl
  exact lv_ldc2 ok.exec ok.code ok.own (ok.hts _ q) hd (h Γ ok hP M r M' hk hv hq H locs cells slots ls hi hl)
theorem J_pop {v : Value} (hd : decode Y.1 pc = .ok (.pop, 1)) (hc : v.category = 1) (h : J P Y env pu (pc + 1) k F) : J P Y env (v :: pu) pc k F := by
  intro Γ ok hP M r M' hk hv hq H locs cells slots ls hi hl
  exact lv_pop ok.exec ok.code hd hc (h Γ ok hP M r M' hk hv hq H locs cells slots ls hi hl)
theorem J_dup {v : Value} (hd : decode Y.1 pc = .ok (.dup, 1)) (hc : v.category = 1) (h : J P Y env (v :: v :: pu) (pc + 1) k F) : J P Y env (v :: pu) pc k F := by
  intro Γ ok hP M r M' hk hv hq H locs cells slots ls hi hl
  exact lv_dup ok.exec ok.code hd hc (h Γ ok hP M r M' hk hv hq H locs cells slots ls hi hl)
theorem J_dup2 {v u : Value} (hd : decode Y.1 pc = .ok (.dup2, 1)) (hc : v.category = 1) (hu : u.category = 1) (h : J P Y env (v :: u :: v :: u :: pu) (pc + 1) k F) : J P Y env (v :: u :: pu) pc k F := by
  intro Γ ok hP M r M' hk hv hq H locs cells slots ls hi hl
  exact lv_dup2_11 ok.exec ok.code hd hc hu (h Γ ok hP M r M' hk hv hq H locs cells slots ls hi hl)
theorem J_null (hd : decode Y.1 pc = .ok (.aconst_null, 1)) (h : J P Y env (va_rf none :: pu) (pc + 1) k F) : J P Y env pu pc k F := by
  intro Γ ok hP M r M' hk hv hq H locs cells slots ls hi hl
  exact lv_null ok.exec ok.code hd (h Γ ok hP M r M' hk hv hq H locs cells slots ls hi hl)
theorem J_goto {off : Int} {tgt : Nat} (hd : decode Y.1 pc = .ok (.goto off, 3)) (ht : (pc : Int) + off = (tgt : Int)) (h : J P Y env pu tgt k F) : J P Y env pu pc k F := by
  intro Γ ok hP M r M' hk hv hq H locs cells slots ls hi hl
  exact lv_goto ok.exec ok.code hd ht (h Γ ok hP M r M' hk hv hq H locs cells slots ls hi hl)
theorem rf_cat (r : Option Nat) : (va_rf r).category = 1 := by cases r <;> rfl
theorem J_iload_n {q : Fin 4} {i : Nat} {x : Int32} (hd : decode Y.1 pc = .ok (.iload_n q, 1)) (hi0 : (q : Nat) = i) (n : Nat) (he : env[n]? = some (i, .int x)) (h : J P Y env (.int x :: pu) (pc + 1) k F) : J P Y env pu pc k F := by
  intro Γ ok hP M r M' hk hv hq H locs cells slots ls hi hl
  exact lv_iload_n ok.exec ok.code hd hi0 (lv_at hl n he) (h Γ ok hP M r M' hk hv hq H locs cells slots ls hi hl)
theorem J_istore_n {q : Fin 4} {i : Nat} {x : Int32} (hd : decode Y.1 pc = .ok (.istore_n q, 1)) (hi0 : (q : Nat) = i) (hn : i < Y.2.2.1) (he : (i, Value.int x) :: env.filter (fun q => !(q.1 == i) && !(q.1 + 1 == i && q.2.category == 2)) = env') (h : J P Y env' pu (pc + 1) k F) : J P Y env (.int x :: pu) pc k F := by
  intro Γ ok hP M r M' hk hv hq H locs cells slots ls hi hl
  exact lv_istore_n ok.exec ok.code hd hi0 hl (by rw [ok.nL]; exact hn) he (fun ls' hl' => h Γ ok hP M r M' hk hv hq H locs cells slots ls' hi hl')
theorem J_iload {i : Nat} {x : Int32} (hd : decode Y.1 pc = .ok (.iload i, 2)) (n : Nat) (he : env[n]? = some (i, .int x)) (h : J P Y env (.int x :: pu) (pc + 2) k F) : J P Y env pu pc k F := by
  intro Γ ok hP M r M' hk hv hq H locs cells slots ls hi hl
  exact lv_iload ok.exec ok.code hd (lv_at hl n he) (h Γ ok hP M r M' hk hv hq H locs cells slots ls hi hl)
theorem J_istore {i : Nat} {x : Int32} (hd : decode Y.1 pc = .ok (.istore i, 2)) (hn : i < Y.2.2.1) (he : (i, Value.int x) :: env.filter (fun q => !(q.1 == i) && !(q.1 + 1 == i && q.2.category == 2)) = env') (h : J P Y env' pu (pc + 2) k F) : J P Y env (.int x :: pu) pc k F := by
  intro Γ ok hP M r M' hk hv hq H locs cells slots ls hi hl
  exact lv_istore ok.exec ok.code hd hl (by rw [ok.nL]; exact hn) he (fun ls' hl' => h Γ ok hP M r M' hk hv hq H locs cells slots ls' hi hl')
theorem J_lload_n {q : Fin 4} {i : Nat} {x : Int64} (hd : decode Y.1 pc = .ok (.lload_n q, 1)) (hi0 : (q : Nat) = i) (n : Nat) (he : env[n]? = some (i, .long x)) (h : J P Y env (.long x :: pu) (pc + 1) k F) : J P Y env pu pc k F := by
  intro Γ ok hP M r M' hk hv hq H locs cells slots ls hi hl
  exact lv_lload_n ok.exec ok.code hd hi0 (lv_at hl n he) (h Γ ok hP M r M' hk hv hq H locs cells slots ls hi hl)
theorem J_lstore_n {q : Fin 4} {i : Nat} {x : Int64} (hd : decode Y.1 pc = .ok (.lstore_n q, 1)) (hi0 : (q : Nat) = i) (hn : i + 1 < Y.2.2.1) (he : (i, Value.long x) :: env.filter (fun q => !(q.1 == i) && (!(q.1 == i + 1) && !(q.1 + 1 == i && q.2.category == 2))) = env') (h : J P Y env' pu (pc + 1) k F) : J P Y env (.long x :: pu) pc k F := by
  intro Γ ok hP M r M' hk hv hq H locs cells slots ls hi hl
  exact lv_lstore_n ok.exec ok.code hd hi0 hl (by rw [ok.nL]; exact hn) he (fun ls' hl' => h Γ ok hP M r M' hk hv hq H locs cells slots ls' hi hl')
theorem J_lload {i : Nat} {x : Int64} (hd : decode Y.1 pc = .ok (.lload i, 2)) (n : Nat) (he : env[n]? = some (i, .long x)) (h : J P Y env (.long x :: pu) (pc + 2) k F) : J P Y env pu pc k F := by
  intro Γ ok hP M r M' hk hv hq H locs cells slots ls hi hl
  exact lv_lload ok.exec ok.code hd (lv_at hl n he) (h Γ ok hP M r M' hk hv hq H locs cells slots ls hi hl)
theorem J_lstore {i : Nat} {x : Int64} (hd : decode Y.1 pc = .ok (.lstore i, 2)) (hn : i + 1 < Y.2.2.1) (he : (i, Value.long x) :: env.filter (fun q => !(q.1 == i) && (!(q.1 == i + 1) && !(q.1 + 1 == i && q.2.category == 2))) = env') (h : J P Y env' pu (pc + 2) k F) : J P Y env (.long x :: pu) pc k F := by
  intro Γ ok hP M r M' hk hv hq H locs cells slots ls hi hl
  exact lv_lstore ok.exec ok.code hd hl (by rw [ok.nL]; exact hn) he (fun ls' hl' => h Γ ok hP M r M' hk hv hq H locs cells slots ls' hi hl')
theorem J_aload_n {q : Fin 4} {i : Nat} {x : Nat} (hd : decode Y.1 pc = .ok (.aload_n q, 1)) (hi0 : (q : Nat) = i) (n : Nat) (he : env[n]? = some (i, .ref x)) (h : J P Y env (.ref x :: pu) (pc + 1) k F) : J P Y env pu pc k F := by
  intro Γ ok hP M r M' hk hv hq H locs cells slots ls hi hl
  exact lv_aload_n ok.exec ok.code hd hi0 (lv_at hl n he) (h Γ ok hP M r M' hk hv hq H locs cells slots ls hi hl)
theorem J_aloadO_n {q : Fin 4} {i : Nat} {x : Option Nat} (hd : decode Y.1 pc = .ok (.aload_n q, 1)) (hi0 : (q : Nat) = i) (n : Nat) (he : env[n]? = some (i, va_rf x)) (h : J P Y env (va_rf x :: pu) (pc + 1) k F) : J P Y env pu pc k F := by
  intro Γ ok hP M r M' hk hv hq H locs cells slots ls hi hl
  cases x with
  | some x => exact lv_aload_n ok.exec ok.code hd hi0 (lv_at hl n he) (h Γ ok hP M r M' hk hv hq H locs cells slots ls hi hl)
  | none => exact lv_aload_nN ok.exec ok.code hd hi0 (lv_at hl n he) (h Γ ok hP M r M' hk hv hq H locs cells slots ls hi hl)
theorem J_astore_n {q : Fin 4} {i : Nat} {x : Nat} (hd : decode Y.1 pc = .ok (.astore_n q, 1)) (hi0 : (q : Nat) = i) (hn : i < Y.2.2.1) (he : (i, Value.ref x) :: env.filter (fun q => !(q.1 == i) && !(q.1 + 1 == i && q.2.category == 2)) = env') (h : J P Y env' pu (pc + 1) k F) : J P Y env (.ref x :: pu) pc k F := by
  intro Γ ok hP M r M' hk hv hq H locs cells slots ls hi hl
  exact lv_astore_n ok.exec ok.code hd hi0 hl (by rw [ok.nL]; exact hn) he (fun ls' hl' => h Γ ok hP M r M' hk hv hq H locs cells slots ls' hi hl')
theorem J_astoreO_n {q : Fin 4} {i : Nat} {x : Option Nat} (hd : decode Y.1 pc = .ok (.astore_n q, 1)) (hi0 : (q : Nat) = i) (hn : i < Y.2.2.1) (he : (i, va_rf x) :: env.filter (fun q => !(q.1 == i) && !(q.1 + 1 == i && q.2.category == 2)) = env') (h : J P Y env' pu (pc + 1) k F) : J P Y env (va_rf x :: pu) pc k F := by
  intro Γ ok hP M r M' hk hv hq H locs cells slots ls hi hl
  cases x with
  | some x => exact lv_astore_n ok.exec ok.code hd hi0 hl (by rw [ok.nL]; exact hn) he (fun ls' hl' => h Γ ok hP M r M' hk hv hq H locs cells slots ls' hi hl')
  | none => exact lv_astore_nN ok.exec ok.code hd hi0 hl (by rw [ok.nL]; exact hn) he (fun ls' hl' => h Γ ok hP M r M' hk hv hq H locs cells slots ls' hi hl')
theorem J_aload {i : Nat} {x : Nat} (hd : decode Y.1 pc = .ok (.aload i, 2)) (n : Nat) (he : env[n]? = some (i, .ref x)) (h : J P Y env (.ref x :: pu) (pc + 2) k F) : J P Y env pu pc k F := by
  intro Γ ok hP M r M' hk hv hq H locs cells slots ls hi hl
  exact lv_aload ok.exec ok.code hd (lv_at hl n he) (h Γ ok hP M r M' hk hv hq H locs cells slots ls hi hl)
theorem J_aloadO {i : Nat} {x : Option Nat} (hd : decode Y.1 pc = .ok (.aload i, 2)) (n : Nat) (he : env[n]? = some (i, va_rf x)) (h : J P Y env (va_rf x :: pu) (pc + 2) k F) : J P Y env pu pc k F := by
  intro Γ ok hP M r M' hk hv hq H locs cells slots ls hi hl
  cases x with
  | some x => exact lv_aload ok.exec ok.code hd (lv_at hl n he) (h Γ ok hP M r M' hk hv hq H locs cells slots ls hi hl)
  | none => exact lv_aloadN ok.exec ok.code hd (lv_at hl n he) (h Γ ok hP M r M' hk hv hq H locs cells slots ls hi hl)
theorem J_astore {i : Nat} {x : Nat} (hd : decode Y.1 pc = .ok (.astore i, 2)) (hn : i < Y.2.2.1) (he : (i, Value.ref x) :: env.filter (fun q => !(q.1 == i) && !(q.1 + 1 == i && q.2.category == 2)) = env') (h : J P Y env' pu (pc + 2) k F) : J P Y env (.ref x :: pu) pc k F := by
  intro Γ ok hP M r M' hk hv hq H locs cells slots ls hi hl
  exact lv_astore ok.exec ok.code hd hl (by rw [ok.nL]; exact hn) he (fun ls' hl' => h Γ ok hP M r M' hk hv hq H locs cells slots ls' hi hl')
theorem J_astoreO {i : Nat} {x : Option Nat} (hd : decode Y.1 pc = .ok (.astore i, 2)) (hn : i < Y.2.2.1) (he : (i, va_rf x) :: env.filter (fun q => !(q.1 == i) && !(q.1 + 1 == i && q.2.category == 2)) = env') (h : J P Y env' pu (pc + 2) k F) : J P Y env (va_rf x :: pu) pc k F := by
  intro Γ ok hP M r M' hk hv hq H locs cells slots ls hi hl
  cases x with
  | some x => exact lv_astore ok.exec ok.code hd hl (by rw [ok.nL]; exact hn) he (fun ls' hl' => h Γ ok hP M r M' hk hv hq H locs cells slots ls' hi hl')
  | none => exact lv_astoreN ok.exec ok.code hd hl (by rw [ok.nL]; exact hn) he (fun ls' hl' => h Γ ok hP M r M' hk hv hq H locs cells slots ls' hi hl')
theorem J_iinc {i : Nat} {n : Int} {x v : Int32} (hd : decode Y.1 pc = .ok (.iinc i n, 3)) (q : Nat) (hq0 : env[q]? = some (i, .int x)) (e : x + Int32.ofInt n = v) (hn : i < Y.2.2.1) (he : (i, Value.int v) :: env.filter (fun q => !(q.1 == i) && !(q.1 + 1 == i && q.2.category == 2)) = env') (h : J P Y env' pu (pc + 3) k F) : J P Y env pu pc k F := by
  intro Γ ok hP M r M' hk hv hq H locs cells slots ls hi hl
  exact lv_iinc ok.exec ok.code hd hl hq0 e (by rw [ok.nL]; exact hn) he (fun ls' hl' => h Γ ok hP M r M' hk hv hq H locs cells slots ls' hi hl')
theorem J_icmp_eq {x y : Int32} {off : Int} {tgt : Nat} {k1 k2 : JM μ τ} (hd : decode Y.1 pc = .ok (.if_icmp .eq off, 3)) (ht : (pc : Int) + off = (tgt : Int)) (h1 : J P Y env pu tgt k1 F) (h2 : J P Y env pu (pc + 3) k2 F) : J P Y env (.int y :: .int x :: pu) pc (if x = y then k1 else k2) F := by
  intro Γ ok hP M r M' hk hv hq H locs cells slots ls hi hl
  exact lv_icmp_eq ok.exec ok.code hd ht (fun c9 => h1 Γ ok hP M r M' (by rw [if_pos c9] at hk; exact hk) hv hq H locs cells slots ls hi hl) (fun c9 => h2 Γ ok hP M r M' (by rw [if_neg c9] at hk; exact hk) hv hq H locs cells slots ls hi hl)
theorem J_if_eq {x : Int32} {off : Int} {tgt : Nat} {k1 k2 : JM μ τ} (hd : decode Y.1 pc = .ok (.ifCond .eq off, 3)) (ht : (pc : Int) + off = (tgt : Int)) (h1 : J P Y env pu tgt k1 F) (h2 : J P Y env pu (pc + 3) k2 F) : J P Y env (.int x :: pu) pc (if x = 0 then k1 else k2) F := by
  intro Γ ok hP M r M' hk hv hq H locs cells slots ls hi hl
  exact lv_if_eq ok.exec ok.code hd ht (fun c9 => h1 Γ ok hP M r M' (by rw [if_pos c9] at hk; exact hk) hv hq H locs cells slots ls hi hl) (fun c9 => h2 Γ ok hP M r M' (by rw [if_neg c9] at hk; exact hk) hv hq H locs cells slots ls hi hl)
theorem J_icmp_ne {x y : Int32} {off : Int} {tgt : Nat} {k1 k2 : JM μ τ} (hd : decode Y.1 pc = .ok (.if_icmp .ne off, 3)) (ht : (pc : Int) + off = (tgt : Int)) (h1 : J P Y env pu tgt k1 F) (h2 : J P Y env pu (pc + 3) k2 F) : J P Y env (.int y :: .int x :: pu) pc (if x = y then k2 else k1) F := by
  intro Γ ok hP M r M' hk hv hq H locs cells slots ls hi hl
  exact lv_icmp_ne ok.exec ok.code hd ht (fun c9 => h1 Γ ok hP M r M' (by rw [if_neg c9] at hk; exact hk) hv hq H locs cells slots ls hi hl) (fun c9 => h2 Γ ok hP M r M' (by rw [if_pos c9] at hk; exact hk) hv hq H locs cells slots ls hi hl)
theorem J_if_ne {x : Int32} {off : Int} {tgt : Nat} {k1 k2 : JM μ τ} (hd : decode Y.1 pc = .ok (.ifCond .ne off, 3)) (ht : (pc : Int) + off = (tgt : Int)) (h1 : J P Y env pu tgt k1 F) (h2 : J P Y env pu (pc + 3) k2 F) : J P Y env (.int x :: pu) pc (if x = 0 then k2 else k1) F := by
  intro Γ ok hP M r M' hk hv hq H locs cells slots ls hi hl
  exact lv_if_ne ok.exec ok.code hd ht (fun c9 => h1 Γ ok hP M r M' (by rw [if_neg c9] at hk; exact hk) hv hq H locs cells slots ls hi hl) (fun c9 => h2 Γ ok hP M r M' (by rw [if_pos c9] at hk; exact hk) hv hq H locs cells slots ls hi hl)
theorem J_icmp_lt {x y : Int32} {off : Int} {tgt : Nat} {k1 k2 : JM μ τ} (hd : decode Y.1 pc = .ok (.if_icmp .lt off, 3)) (ht : (pc : Int) + off = (tgt : Int)) (h1 : J P Y env pu tgt k1 F) (h2 : J P Y env pu (pc + 3) k2 F) : J P Y env (.int y :: .int x :: pu) pc (if x < y then k1 else k2) F := by
  intro Γ ok hP M r M' hk hv hq H locs cells slots ls hi hl
  exact lv_icmp_lt ok.exec ok.code hd ht (fun c9 => h1 Γ ok hP M r M' (by rw [if_pos c9] at hk; exact hk) hv hq H locs cells slots ls hi hl) (fun c9 => h2 Γ ok hP M r M' (by rw [if_neg c9] at hk; exact hk) hv hq H locs cells slots ls hi hl)
theorem J_if_lt {x : Int32} {off : Int} {tgt : Nat} {k1 k2 : JM μ τ} (hd : decode Y.1 pc = .ok (.ifCond .lt off, 3)) (ht : (pc : Int) + off = (tgt : Int)) (h1 : J P Y env pu tgt k1 F) (h2 : J P Y env pu (pc + 3) k2 F) : J P Y env (.int x :: pu) pc (if x < 0 then k1 else k2) F := by
  intro Γ ok hP M r M' hk hv hq H locs cells slots ls hi hl
  exact lv_if_lt ok.exec ok.code hd ht (fun c9 => h1 Γ ok hP M r M' (by rw [if_pos c9] at hk; exact hk) hv hq H locs cells slots ls hi hl) (fun c9 => h2 Γ ok hP M r M' (by rw [if_neg c9] at hk; exact hk) hv hq H locs cells slots ls hi hl)
theorem J_icmp_ge {x y : Int32} {off : Int} {tgt : Nat} {k1 k2 : JM μ τ} (hd : decode Y.1 pc = .ok (.if_icmp .ge off, 3)) (ht : (pc : Int) + off = (tgt : Int)) (h1 : J P Y env pu tgt k1 F) (h2 : J P Y env pu (pc + 3) k2 F) : J P Y env (.int y :: .int x :: pu) pc (if y ≤ x then k1 else k2) F := by
  intro Γ ok hP M r M' hk hv hq H locs cells slots ls hi hl
  exact lv_icmp_ge ok.exec ok.code hd ht (fun c9 => h1 Γ ok hP M r M' (by rw [if_pos c9] at hk; exact hk) hv hq H locs cells slots ls hi hl) (fun c9 => h2 Γ ok hP M r M' (by rw [if_neg c9] at hk; exact hk) hv hq H locs cells slots ls hi hl)
theorem J_if_ge {x : Int32} {off : Int} {tgt : Nat} {k1 k2 : JM μ τ} (hd : decode Y.1 pc = .ok (.ifCond .ge off, 3)) (ht : (pc : Int) + off = (tgt : Int)) (h1 : J P Y env pu tgt k1 F) (h2 : J P Y env pu (pc + 3) k2 F) : J P Y env (.int x :: pu) pc (if 0 ≤ x then k1 else k2) F := by
  intro Γ ok hP M r M' hk hv hq H locs cells slots ls hi hl
  exact lv_if_ge ok.exec ok.code hd ht (fun c9 => h1 Γ ok hP M r M' (by rw [if_pos c9] at hk; exact hk) hv hq H locs cells slots ls hi hl) (fun c9 => h2 Γ ok hP M r M' (by rw [if_neg c9] at hk; exact hk) hv hq H locs cells slots ls hi hl)
theorem J_icmp_gt {x y : Int32} {off : Int} {tgt : Nat} {k1 k2 : JM μ τ} (hd : decode Y.1 pc = .ok (.if_icmp .gt off, 3)) (ht : (pc : Int) + off = (tgt : Int)) (h1 : J P Y env pu tgt k1 F) (h2 : J P Y env pu (pc + 3) k2 F) : J P Y env (.int y :: .int x :: pu) pc (if y < x then k1 else k2) F := by
  intro Γ ok hP M r M' hk hv hq H locs cells slots ls hi hl
  exact lv_icmp_gt ok.exec ok.code hd ht (fun c9 => h1 Γ ok hP M r M' (by rw [if_pos c9] at hk; exact hk) hv hq H locs cells slots ls hi hl) (fun c9 => h2 Γ ok hP M r M' (by rw [if_neg c9] at hk; exact hk) hv hq H locs cells slots ls hi hl)
theorem J_if_gt {x : Int32} {off : Int} {tgt : Nat} {k1 k2 : JM μ τ} (hd : decode Y.1 pc = .ok (.ifCond .gt off, 3)) (ht : (pc : Int) + off = (tgt : Int)) (h1 : J P Y env pu tgt k1 F) (h2 : J P Y env pu (pc + 3) k2 F) : J P Y env (.int x :: pu) pc (if 0 < x then k1 else k2) F := by
  intro Γ ok hP M r M' hk hv hq H locs cells slots ls hi hl
  exact lv_if_gt ok.exec ok.code hd ht (fun c9 => h1 Γ ok hP M r M' (by rw [if_pos c9] at hk; exact hk) hv hq H locs cells slots ls hi hl) (fun c9 => h2 Γ ok hP M r M' (by rw [if_neg c9] at hk; exact hk) hv hq H locs cells slots ls hi hl)
theorem J_icmp_le {x y : Int32} {off : Int} {tgt : Nat} {k1 k2 : JM μ τ} (hd : decode Y.1 pc = .ok (.if_icmp .le off, 3)) (ht : (pc : Int) + off = (tgt : Int)) (h1 : J P Y env pu tgt k1 F) (h2 : J P Y env pu (pc + 3) k2 F) : J P Y env (.int y :: .int x :: pu) pc (if x ≤ y then k1 else k2) F := by
  intro Γ ok hP M r M' hk hv hq H locs cells slots ls hi hl
  exact lv_icmp_le ok.exec ok.code hd ht (fun c9 => h1 Γ ok hP M r M' (by rw [if_pos c9] at hk; exact hk) hv hq H locs cells slots ls hi hl) (fun c9 => h2 Γ ok hP M r M' (by rw [if_neg c9] at hk; exact hk) hv hq H locs cells slots ls hi hl)
theorem J_if_le {x : Int32} {off : Int} {tgt : Nat} {k1 k2 : JM μ τ} (hd : decode Y.1 pc = .ok (.ifCond .le off, 3)) (ht : (pc : Int) + off = (tgt : Int)) (h1 : J P Y env pu tgt k1 F) (h2 : J P Y env pu (pc + 3) k2 F) : J P Y env (.int x :: pu) pc (if x ≤ 0 then k1 else k2) F := by
  intro Γ ok hP M r M' hk hv hq H locs cells slots ls hi hl
  exact lv_if_le ok.exec ok.code hd ht (fun c9 => h1 Γ ok hP M r M' (by rw [if_pos c9] at hk; exact hk) hv hq H locs cells slots ls hi hl) (fun c9 => h2 Γ ok hP M r M' (by rw [if_neg c9] at hk; exact hk) hv hq H locs cells slots ls hi hl)
theorem J_lcmp_eq {x y : Int64} {off : Int} {tgt : Nat} {k1 k2 : JM μ τ} (hd0 : decode Y.1 pc = .ok (.lcmp, 1)) (hd : decode Y.1 (pc + 1) = .ok (.ifCond .eq off, 3)) (ht : ((pc + 1 : Nat) : Int) + off = (tgt : Int)) (h1 : J P Y env pu tgt k1 F) (h2 : J P Y env pu (pc + 1 + 3) k2 F) : J P Y env (.long y :: .long x :: pu) pc (if x = y then k1 else k2) F := by
  intro Γ ok hP M r M' hk hv hq H locs cells slots ls hi hl
  exact W.lcmp ok.exec ok.code hd0 (lv_if_eq ok.exec ok.code hd ht (fun c9 => h1 Γ ok hP M r M' (by rw [if_pos ((lg_cmp_eq x y).mp c9)] at hk; exact hk) hv hq H locs cells slots ls hi hl) (fun c9 => h2 Γ ok hP M r M' (by rw [if_neg (fun q => c9 ((lg_cmp_eq x y).mpr q))] at hk; exact hk) hv hq H locs cells slots ls hi hl))
theorem J_lcmp_ne {x y : Int64} {off : Int} {tgt : Nat} {k1 k2 : JM μ τ} (hd0 : decode Y.1 pc = .ok (.lcmp, 1)) (hd : decode Y.1 (pc + 1) = .ok (.ifCond .ne off, 3)) (ht : ((pc + 1 : Nat) : Int) + off = (tgt : Int)) (h1 : J P Y env pu tgt k1 F) (h2 : J P Y env pu (pc + 1 + 3) k2 F) : J P Y env (.long y :: .long x :: pu) pc (if x = y then k2 else k1) F := by
  intro Γ ok hP M r M' hk hv hq H locs cells slots ls hi hl
  exact W.lcmp ok.exec ok.code hd0 (lv_if_ne ok.exec ok.code hd ht (fun c9 => h1 Γ ok hP M r M' (by rw [if_neg (fun q => c9 ((lg_cmp_eq x y).mpr q))] at hk; exact hk) hv hq H locs cells slots ls hi hl) (fun c9 => h2 Γ ok hP M r M' (by rw [if_pos ((lg_cmp_eq x y).mp c9)] at hk; exact hk) hv hq H locs cells slots ls hi hl))
theorem J_lcmp_lt {x y : Int64} {off : Int} {tgt : Nat} {k1 k2 : JM μ τ} (hd0 : decode Y.1 pc = .ok (.lcmp, 1)) (hd : decode Y.1 (pc + 1) = .ok (.ifCond .lt off, 3)) (ht : ((pc + 1 : Nat) : Int) + off = (tgt : Int)) (h1 : J P Y env pu tgt k1 F) (h2 : J P Y env pu (pc + 1 + 3) k2 F) : J P Y env (.long y :: .long x :: pu) pc (if x < y then k1 else k2) F := by
  intro Γ ok hP M r M' hk hv hq H locs cells slots ls hi hl
  exact W.lcmp ok.exec ok.code hd0 (lv_if_lt ok.exec ok.code hd ht (fun c9 => h1 Γ ok hP M r M' (by rw [if_pos ((lg_cmp_lt x y).mp c9)] at hk; exact hk) hv hq H locs cells slots ls hi hl) (fun c9 => h2 Γ ok hP M r M' (by rw [if_neg (fun q => c9 ((lg_cmp_lt x y).mpr q))] at hk; exact hk) hv hq H locs cells slots ls hi hl))
theorem J_lcmp_ge {x y : Int64} {off : Int} {tgt : Nat} {k1 k2 : JM μ τ} (hd0 : decode Y.1 pc = .ok (.lcmp, 1)) (hd : decode Y.1 (pc + 1) = .ok (.ifCond .ge off, 3)) (ht : ((pc + 1 : Nat) : Int) + off = (tgt : Int)) (h1 : J P Y env pu tgt k1 F) (h2 : J P Y env pu (pc + 1 + 3) k2 F) : J P Y env (.long y :: .long x :: pu) pc (if y ≤ x then k1 else k2) F := by
  intro Γ ok hP M r M' hk hv hq H locs cells slots ls hi hl
  exact W.lcmp ok.exec ok.code hd0 (lv_if_ge ok.exec ok.code hd ht (fun c9 => h1 Γ ok hP M r M' (by rw [if_pos ((lg_cmp_ge x y).mp c9)] at hk; exact hk) hv hq H locs cells slots ls hi hl) (fun c9 => h2 Γ ok hP M r M' (by rw [if_neg (fun q => c9 ((lg_cmp_ge x y).mpr q))] at hk; exact hk) hv hq H locs cells slots ls hi hl))
theorem J_lcmp_gt {x y : Int64} {off : Int} {tgt : Nat} {k1 k2 : JM μ τ} (hd0 : decode Y.1 pc = .ok (.lcmp, 1)) (hd : decode Y.1 (pc + 1) = .ok (.ifCond .gt off, 3)) (ht : ((pc + 1 : Nat) : Int) + off = (tgt : Int)) (h1 : J P Y env pu tgt k1 F) (h2 : J P Y env pu (pc + 1 + 3) k2 F) : J P Y env (.long y :: .long x :: pu) pc (if y < x then k1 else k2) F := by
  intro Γ ok hP M r M' hk hv hq H locs cells slots ls hi hl
  exact W.lcmp ok.exec ok.code hd0 (lv_if_gt ok.exec ok.code hd ht (fun c9 => h1 Γ ok hP M r M' (by rw [if_pos ((lg_cmp_gt x y).mp c9)] at hk; exact hk) hv hq H locs cells slots ls hi hl) (fun c9 => h2 Γ ok hP M r M' (by rw [if_neg (fun q => c9 ((lg_cmp_gt x y).mpr q))] at hk; exact hk) hv hq H locs cells slots ls hi hl))
theorem J_lcmp_le {x y : Int64} {off : Int} {tgt : Nat} {k1 k2 : JM μ τ} (hd0 : decode Y.1 pc = .ok (.lcmp, 1)) (hd : decode Y.1 (pc + 1) = .ok (.ifCond .le off, 3)) (ht : ((pc + 1 : Nat) : Int) + off = (tgt : Int)) (h1 : J P Y env pu tgt k1 F) (h2 : J P Y env pu (pc + 1 + 3) k2 F) : J P Y env (.long y :: .long x :: pu) pc (if x ≤ y then k1 else k2) F := by
  intro Γ ok hP M r M' hk hv hq H locs cells slots ls hi hl
  exact W.lcmp ok.exec ok.code hd0 (lv_if_le ok.exec ok.code hd ht (fun c9 => h1 Γ ok hP M r M' (by rw [if_pos ((lg_cmp_le x y).mp c9)] at hk; exact hk) hv hq H locs cells slots ls hi hl) (fun c9 => h2 Γ ok hP M r M' (by rw [if_neg (fun q => c9 ((lg_cmp_le x y).mpr q))] at hk; exact hk) hv hq H locs cells slots ls hi hl))
def jdiv (x y : Int32) : JM μ Int32 := fun M => if y = 0 then none else some (.ok (x / y), M)
def jrem (x y : Int32) : JM μ Int32 := fun M => if y = 0 then none else some (.ok (x - x / y * y), M)
def jldiv (x y : Int64) : JM μ Int64 := fun M => if y = 0 then none else some (.ok (x / y), M)
def jlrem (x y : Int64) : JM μ Int64 := fun M => if y = 0 then none else some (.ok (x - x / y * y), M)
theorem J_idiv {x y : Int32} {f : Int32 → JM μ τ} (hd : decode Y.1 pc = .ok (.idiv, 1)) (h : ∀ v, J P Y env (.int v :: pu) (pc + 1) (f v) F) : J P Y env (.int y :: .int x :: pu) pc (jb (jdiv x y) f) F := by
  intro Γ ok hP M r M' hk hv hq H locs cells slots ls hi hl
  by_cases hy : y = 0
  · exfalso
    rw [jb_none (show (jdiv x y : JM μ Int32) M = none from if_pos hy)] at hk
    cases hk
  · rw [jb_ok (show (jdiv x y : JM μ Int32) M = some (.ok (x / y), M) from if_neg hy)] at hk
    exact lv_idiv ok.exec ok.code hd hy (h _ Γ ok hP M r M' hk hv hq H locs cells slots ls hi hl)
theorem J_irem {x y : Int32} {f : Int32 → JM μ τ} (hd : decode Y.1 pc = .ok (.irem, 1)) (h : ∀ v, J P Y env (.int v :: pu) (pc + 1) (f v) F) : J P Y env (.int y :: .int x :: pu) pc (jb (jrem x y) f) F := by
  intro Γ ok hP M r M' hk hv hq H locs cells slots ls hi hl
  by_cases hy : y = 0
  · exfalso
    rw [jb_none (show (jrem x y : JM μ Int32) M = none from if_pos hy)] at hk
    cases hk
  · rw [jb_ok (show (jrem x y : JM μ Int32) M = some (.ok (x - x / y * y), M) from if_neg hy)] at hk
    exact lv_irem ok.exec ok.code hd hy (h _ Γ ok hP M r M' hk hv hq H locs cells slots ls hi hl)
theorem J_ldiv {x y : Int64} {f : Int64 → JM μ τ} (hd : decode Y.1 pc = .ok (.ldiv, 1)) (h : ∀ v, J P Y env (.long v :: pu) (pc + 1) (f v) F) : J P Y env (.long y :: .long x :: pu) pc (jb (jldiv x y) f) F := by
  intro Γ ok hP M r M' hk hv hq H locs cells slots ls hi hl
  by_cases hy : y = 0
  · exfalso
    rw [jb_none (show (jldiv x y : JM μ Int64) M = none from if_pos hy)] at hk
    cases hk
  · rw [jb_ok (show (jldiv x y : JM μ Int64) M = some (.ok (x / y), M) from if_neg hy)] at hk
    exact lv_ldiv ok.exec ok.code hd hy (h _ Γ ok hP M r M' hk hv hq H locs cells slots ls hi hl)
theorem J_lrem {x y : Int64} {f : Int64 → JM μ τ} (hd : decode Y.1 pc = .ok (.lrem, 1)) (h : ∀ v, J P Y env (.long v :: pu) (pc + 1) (f v) F) : J P Y env (.long y :: .long x :: pu) pc (jb (jlrem x y) f) F := by
  intro Γ ok hP M r M' hk hv hq H locs cells slots ls hi hl
  by_cases hy : y = 0
  · exfalso
    rw [jb_none (show (jlrem x y : JM μ Int64) M = none from if_pos hy)] at hk
    cases hk
  · rw [jb_ok (show (jlrem x y : JM μ Int64) M = some (.ok (x - x / y * y), M) from if_neg hy)] at hk
    exact lv_lrem ok.exec ok.code hd hy (h _ Γ ok hP M r M' hk hv hq H locs cells slots ls hi hl)
theorem J_ifnull {x : Option Nat} {off : Int} {tgt : Nat} {k1 k2 : JM μ τ} (hd : decode Y.1 pc = .ok (.ifnull off, 3)) (ht : (pc : Int) + off = (tgt : Int)) (h1 : J P Y env pu tgt k1 F) (h2 : J P Y env pu (pc + 3) k2 F) : J P Y env (va_rf x :: pu) pc (if x = none then k1 else k2) F := by
  intro Γ ok hP M r M' hk hv hq H locs cells slots ls hi hl
  cases x with
  | none => exact lv_ifnullN ok.exec ok.code hd ht (h1 Γ ok hP M r M' (by rw [if_pos rfl] at hk; exact hk) hv hq H locs cells slots ls hi hl)
  | some a => exact lv_ifnull ok.exec ok.code hd (h2 Γ ok hP M r M' (by rw [if_neg (fun q => by cases q)] at hk; exact hk) hv hq H locs cells slots ls hi hl)
theorem J_ifnonnull {x : Option Nat} {off : Int} {tgt : Nat} {k1 k2 : JM μ τ} (hd : decode Y.1 pc = .ok (.ifnonnull off, 3)) (ht : (pc : Int) + off = (tgt : Int)) (h1 : J P Y env pu tgt k1 F) (h2 : J P Y env pu (pc + 3) k2 F) : J P Y env (va_rf x :: pu) pc (if x = none then k2 else k1) F := by
  intro Γ ok hP M r M' hk hv hq H locs cells slots ls hi hl
  cases x with
  | none => exact lv_ifnonnullN ok.exec ok.code hd (h2 Γ ok hP M r M' (by rw [if_pos rfl] at hk; exact hk) hv hq H locs cells slots ls hi hl)
  | some a => exact lv_ifnonnull ok.exec ok.code hd ht (h1 Γ ok hP M r M' (by rw [if_neg (fun q => by cases q)] at hk; exact hk) hv hq H locs cells slots ls hi hl)
/-- a reference that isn't null here -/
def jnn (x : Option Nat) (f : Nat → JM μ τ) : JM μ τ := match x with
  | none => jfail
  | some a => f a
theorem J_nn {x : Option Nat} {f : Nat → JM μ τ} (h : ∀ a, J P Y env (.ref a :: pu) pc (f a) F) : J P Y env (va_rf x :: pu) pc (jnn x f) F := by
  cases x with
  | none => exact J_fail
  | some a => exact h a
/-- switches -/
def jsw (x : Int32) (lo : Int) (ks : List (JM μ τ)) (d : JM μ τ) : JM μ τ := if x.toInt < lo then d else match ks[(x.toInt - lo).toNat]? with
  | some k => k
  | none => d
theorem J_tsw {x : Int32} {dflt lo hi : Int} {offs : Array Int} {len : Nat} {tgt : Nat} {ks : List (JM μ τ)} {d : JM μ τ} (tg : List Nat) (hd : decode Y.1 pc = .ok (.tableswitch dflt lo hi offs, len)) (ht : (pc : Int) + dflt = (tgt : Int))
    (hlen : (ks.length : Int) = hi - lo + 1) (hoff : offs.toList.map (fun o => (pc : Int) + o) = tg.map (fun (n : Nat) => (n : Int))) (hlt : tg.length = ks.length) (h0 : J P Y env pu tgt d F) (h1 : ∀ (i : Nat) (t : Nat) (k : JM μ τ), tg[i]? = some t → ks[i]? = some k → J P Y env pu t k F) : J P Y env (.int x :: pu) pc (jsw x lo ks d) F := by
  intro Γ ok hP M r M' hk hv hq H locs cells slots ls hi0 hl
  by_cases c1 : x.toInt < lo
  · rw [show jsw x lo ks d = d from if_pos c1] at hk
    exact lv_tableOut ok.exec ok.code hd (Or.inl c1) ht (h0 Γ ok hP M r M' hk hv hq H locs cells slots ls hi0 hl)
  · by_cases c2 : hi < x.toInt
    · have e : ks[(x.toInt - lo).toNat]? = none := List.getElem?_eq_none (by omega)
      rw [show jsw x lo ks d = d from by unfold jsw; rw [if_neg c1, e]] at hk
      exact lv_tableOut ok.exec ok.code hd (Or.inr c2) ht (h0 Γ ok hP M r M' hk hv hq H locs cells slots ls hi0 hl)
    · have hb : (x.toInt - lo).toNat < ks.length := by omega
      obtain ⟨k9, e⟩ : ∃ k9, ks[(x.toInt - lo).toNat]? = some k9 := ⟨_, List.getElem?_eq_getElem hb⟩
      obtain ⟨t9, e2⟩ : ∃ t9, tg[(x.toInt - lo).toNat]? = some t9 := ⟨_, List.getElem?_eq_getElem (by omega)⟩
      rw [show jsw x lo ks d = k9 from by unfold jsw; rw [if_neg c1, e]] at hk
      have e3 : (offs.toList.map (fun o => (pc : Int) + o))[(x.toInt - lo).toNat]? = some (t9 : Int) := by rw [hoff, List.getElem?_map, e2]; rfl
      rw [List.getElem?_map, Option.map_eq_some_iff] at e3
      obtain ⟨o9, e4, e5⟩ := e3
      exact lv_tableIn ok.exec ok.code hd c1 c2 (by rw [← Array.getElem?_toList]; exact e4) e5 (h1 _ _ _ e2 e Γ ok hP M r M' hk hv hq H locs cells slots ls hi0 hl)
def jlsw (x : Int32) (ks : List (Int × JM μ τ)) (d : JM μ τ) : JM μ τ := match ks with
  | [] => d
  | q :: r => if x.toInt = q.1 then q.2 else jlsw x r d
theorem jlsw_offset (x : Int32) (pc : Nat) (dflt : Int) (tgt : Nat) (ht : (pc : Int) + dflt = (tgt : Int)) (d : JM μ τ) (h0 : J P Y env pu tgt d F) : ∀ (ps : List (Int × Int)) (ks : List (Int × JM μ τ)), ps.map (fun q => q.1) = ks.map (fun q => q.1) →
    (∀ (i : Nat) (q : Int × Int) (k : Int × JM μ τ), ps[i]? = some q → ks[i]? = some k → ∃ t : Nat, (pc : Int) + q.2 = t ∧ J P Y env pu t k.2 F) → ∃ t : Nat, (pc : Int) + Op.lookupswitch.offset ps dflt x.toInt = t ∧ J P Y env pu t (jlsw x ks d) F
  | [], [], _, _ => ⟨tgt, ht, h0⟩
  | [], _ :: _, h, _ => by simp at h
  | _ :: _, [], h, _ => by simp at h
  | q :: ps, k :: ks, h, hh => by
    have h1 : q.1 = k.1 ∧ ps.map (fun q => q.1) = ks.map (fun q => q.1) := by simpa using h
    obtain ⟨a, o⟩ := q
    by_cases c : x.toInt = a
    · obtain ⟨t, e1, e2⟩ := hh 0 _ _ rfl rfl
      refine ⟨t, ?_, ?_⟩
      · rw [Op.lookupswitch.offset_cons, if_pos (by first | exact c | exact c.symm)]
        exact e1
      · show J P Y env pu t (if x.toInt = k.1 then k.2 else jlsw x ks d) F
        rw [if_pos (by rw [c]; exact h1.1)]
        exact e2
    · obtain ⟨t, e1, e2⟩ := jlsw_offset x pc dflt tgt ht d h0 ps ks h1.2 (fun i q k hq hk => hh (i + 1) q k hq hk)
      refine ⟨t, ?_, ?_⟩
      · rw [Op.lookupswitch.offset_cons, if_neg (by first | exact c | exact fun q => c q.symm)]
        exact e1
      · show J P Y env pu t (if x.toInt = k.1 then k.2 else jlsw x ks d) F
        rw [if_neg (fun q => c (by rw [q]; exact h1.1.symm))]
        exact e2
theorem J_lsw {x : Int32} {dflt : Int} {ps : Array (Int × Int)} {len : Nat} {tgt : Nat} {ks : List (Int × JM μ τ)} {d : JM μ τ} (hd : decode Y.1 pc = .ok (.lookupswitch dflt ps, len)) (hp : (ps.toList.zip (ps.toList.drop 1)).all (fun (a, next) => a.1 < next.1) = true) (ht : (pc : Int) + dflt = (tgt : Int))
    (hks : ps.toList.map (fun q => q.1) = ks.map (fun q => q.1)) (h0 : J P Y env pu tgt d F) (h1 : ∀ (i : Nat) (q : Int × Int) (k : Int × JM μ τ), ps.toList[i]? = some q → ks[i]? = some k → ∃ t : Nat, (pc : Int) + q.2 = t ∧ J P Y env pu t k.2 F) : J P Y env (.int x :: pu) pc (jlsw x ks d) F := by
  obtain ⟨t, e1, e2⟩ := jlsw_offset (P := P) (Y := Y) (env := env) (pu := pu) (F := F) x pc dflt tgt ht d h0 ps.toList ks hks h1
  intro Γ ok hP M r M' hk hv hq H locs cells slots ls hi hl
  exact lv_lookup ok.exec ok.code hd hp rfl e1 (e2 Γ ok hP M r M' hk hv hq H locs cells slots ls hi hl)
end JROWS
section JLOOP
variable {μ ρ σ : Type} {P : JC μ → Prop} {Y : JY} {env env' : List (Nat × Value)} {pu : List Value} {pc : Nat}
theorem J_inl {k : JM μ ρ} {F : JF μ ρ} {hp : Nat} {he : σ → List (Nat × Value)} (h : J P Y env pu pc k F) : J P Y env pu pc (jinl k : JM μ (ρ ⊕ σ)) (FLoop F hp he) := by
  intro Γ ok hP M r M' hk hv hq
  cases e : k M with
  | none => rw [jinl_none e] at hk; cases hk
  | some x =>
    obtain ⟨x, M1⟩ := x
    cases x with
    | error q => rw [jinl_err e] at hk; cases hk; exact h Γ ok hP M _ _ e (fun v q => by cases q) (fun q9 e9 => by cases e9; exact hq _ rfl)
    | ok v => rw [jinl_ok e] at hk; cases hk; exact h Γ ok hP M _ _ e (fun v9 e9 => by cases e9; exact hv _ rfl) (fun q q9 => by cases q9)
theorem J_cont {F : JF μ ρ} {he : σ → List (Nat × Value)} {t : σ} (ks : List Nat) (e : lv_pick env ks = he t) : J P Y env [] pc (jcont t : JM μ (ρ ⊕ σ)) (FLoop F pc he) := by
  intro Γ ok hP M r M' hk hv hq H locs cells slots ls hi hl
  have hk : some ((Except.ok (Sum.inr t) : Except Nat (ρ ⊕ σ)), M) = some (r, M') := hk
  cases hk
  exact hv _ rfl H locs cells slots ls hi (lv_sub hl ks e)
theorem J_loop {F : JF μ ρ} {b : σ → JM μ (ρ ⊕ σ)} {he : σ → List (Nat × Value)} {t0 : σ} (ks : List Nat) (e : lv_pick env ks = he t0) (h : ∀ t, J P Y (he t) [] pc (b t) (FLoop F pc he)) : J P Y env [] pc (jloop b t0) F := by
  intro Γ ok hP M r M' hk hv hq
  obtain ⟨n, hn⟩ := jloop_to hk
  have key : ∀ (n : Nat) (t : σ) (M : μ), jloopN b n t M = some (r, M') → JG Γ pc (he t) [] M := by
    intro n
    induction n with
    | zero => intro t M h9; cases h9
    | succ n ih =>
      intro t M h9
      unfold jloopN at h9
      cases e9 : b t M with
      | none => rw [e9] at h9; cases h9
      | some x =>
        obtain ⟨x, M1⟩ := x
        rw [e9] at h9
        cases x with
        | error q => cases h9; exact h t Γ ok hP M _ _ e9 (fun v q => by cases q) (fun q9 e9 => by cases e9; exact hq _ rfl)
        | ok v =>
          cases v with
          | inl v => cases h9; exact h t Γ ok hP M _ _ e9 (fun v9 e9 => by cases e9; exact hv _ rfl) (fun q q9 => by cases q9)
          | inr t1 => exact h t Γ ok hP M _ _ e9 (fun v9 e9 => by cases e9; exact ih t1 M1 h9) (fun q q9 => by cases q9)
  intro H locs cells slots ls hi hl
  exact key n t0 M hn H locs cells slots ls hi (lv_sub hl ks e)
end JLOOP
