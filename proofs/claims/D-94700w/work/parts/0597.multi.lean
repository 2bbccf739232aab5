/-! J rows: int[][] made at once. -/
set_option maxRecDepth 100000
section JMULTI
variable {τ : Type} {D : va_G} {dA : Nat → ClassId} {Y : JY} {env : List (Nat × Value)} {pu : List Value} {pc idx : Nat} {F : JF Mem τ}
theorem outerC_form (c : ClassId) (N h0 : Nat) : ∀ i, Jvm.Free.Multi.outerC c N h0 i = { cls := c, slots := (Jvm.Free.Multi.outerC c N h0 i).slots, vm := .none }
  | 0 => rfl
  | i + 1 => by
    have ih := outerC_form c N h0 i
    show (Jvm.Free.Multi.outerC c N h0 i).setSlot i _ = _
    rw [ih]
    rfl
theorem outerC_arr (c : ClassId) (N h0 : Nat) : Jvm.Free.Multi.outerC c N h0 N = arrV c N (fun j => va_rf (if j < N then some (h0 + 1 + j) else none)) := by
  rw [outerC_form]
  unfold arrV
  congr 1
  apply Array.ext
  · rw [(Jvm.Free.Multi.outerC_facts c N h0 N).2.2, Array.size_ofFn]
  · intro j h1 h2
    have hj : j < N := by rw [(Jvm.Free.Multi.outerC_facts c N h0 N).2.2] at h1; exact h1
    have h3 := Jvm.Free.Multi.outerC_slot c N h0 N j hj
    rw [Array.getElem?_eq_getElem h1] at h3
    rw [Option.some.inj h3, Array.getElem_ofFn, if_pos hj]
    simp [hj, va_rf]
def jm2M (M : Mem) (n k : Nat) : Mem := (fun b => if b = mZ M then some (.inr (5, n)) else if mZ M < b ∧ b ≤ mZ M + n then some (.inr (0, k)) else mK M b, fun b j => if mZ M < b ∧ b ≤ mZ M + n then 0 else mI M b j, mL M, fun b j => if b = mZ M then (if j < n then some (mZ M + 1 + j) else none) else mR M b j, mZ M + 1 + n, mC M - (1 + n), mS M - (n + n * k), mT M)
/-- new int[n][k] -/
def jm2 (n k : Nat) : JM Mem Nat := fun M => if 1 + n ≤ mC M ∧ n + n * k ≤ mS M then some (.ok (mZ M), jm2M M n k) else none
theorem std_m2 {R : Room} {A : Nat → Prop} {H0 : Heap} {M : Mem} {H H' : Heap} {locs : List Loc} {cells slots : Nat} {n k : Nat} (hi : jstd D dA true R A H0 M H locs cells slots) (hA : ∀ q, H0.size ≤ q → A q) (hb : 1 + n ≤ mC M ∧ n + n * k ≤ mS M) (hz : H'.size = mZ M + 1 + n) (he : ∀ q, q < mZ M → H'[q]? = H[q]?) (h1 : H'[mZ M]? = some (arrV (dA 5) n (fun j => va_rf (if j < n then some (mZ M + 1 + j) else none)))) (h2 : ∀ j, j < n → H'[mZ M + 1 + j]? = some (arrV (dA 0) k (fun _ => .int 0))) : jstd D dA true R A H0 (jm2M M n k) H' locs (cells + 1 + n) (slots + n + n * k) := by
  obtain ⟨q1, q2, q3, q4⟩ := hi
  have hsz : H.size = mZ M := q1.1
  refine ⟨⟨hz, q1.2.1, fun b d hb9 => ?_⟩, ⟨by have := q2.1; omega, fun q g1 g2 => ?_, q2.2.2⟩, fun a ha => ?_, ?_⟩
  · have hb9 : (if b = mZ M then some (Sum.inr (5, n)) else if mZ M < b ∧ b ≤ mZ M + n then some (Sum.inr (0, k)) else mK M b) = some d := hb9
    by_cases e1 : b = mZ M
    · rw [if_pos e1] at hb9
      cases hb9
      subst e1
      refine ⟨(show (5 : Nat) < 12 by decide), ?_⟩
      rw [jref_cell (t := 5) rfl]
      show H'[mZ M]? = some (arrV (dA 5) n (fun j => va_rf (if mZ M = mZ M then (if j < n then some (mZ M + 1 + j) else none) else mR M (mZ M) j)))
      simp only [if_true]
      exact h1
    · rw [if_neg e1] at hb9
      by_cases e2 : mZ M < b ∧ b ≤ mZ M + n
      · rw [if_pos e2] at hb9
        cases hb9
        refine ⟨(show (0 : Nat) < 12 by decide), ?_⟩
        show H'[b]? = some (arrV (dA 0) k (fun j => Value.int (if mZ M < b ∧ b ≤ mZ M + n then 0 else mI M b j)))
        simp only [if_pos e2]
        have h9 := h2 (b - (mZ M + 1)) (by omega)
        rw [show mZ M + 1 + (b - (mZ M + 1)) = b by omega] at h9
        exact h9
      · rw [if_neg e2] at hb9
        obtain ⟨g1, g2⟩ := q1.2.2 b d hb9
        refine ⟨g1, ?_⟩
        rw [jent_congr (M := jm2M M n k) (M' := M) (b := b) (by show (fun j => if mZ M < b ∧ b ≤ mZ M + n then 0 else mI M b j) = _; simp only [if_neg e2]) rfl (by show (fun j => if b = mZ M then _ else mR M b j) = _; simp only [if_neg e1])]
        exact g2.kept (he b (by rw [← hsz]; exact g2.lt))
  · rw [he q (by have := q2.1; omega)]
    exact q2.2.1 q g1 g2
  · have ha : (if a = mZ M then some (Sum.inr (5, n)) else if mZ M < a ∧ a ≤ mZ M + n then some (Sum.inr (0, k)) else mK M a).isSome = true := ha
    by_cases e1 : a = mZ M
    · exact hA a (by have := q2.1; omega)
    · rw [if_neg e1] at ha
      by_cases e2 : mZ M < a ∧ a ≤ mZ M + n
      · exact hA a (by have := q2.1; omega)
      · rw [if_neg e2] at ha
        exact q3 a ha
  · have a1 := q4.1
    have a2 := q4.2
    exact ⟨by show cells + 1 + n + (mC M - (1 + n)) ≤ R.cells; omega, by show slots + n + n * k + (mS M - (n + n * k)) ≤ R.slots; omega⟩
theorem J_multi2 {f : Nat → JM Mem τ} {n k : Int32} {N K : Nat} (hd : decode Y.1 pc = .ok (.multianewarray idx 2, 4)) (w0 : Cond.classLink Y.2.1 idx "[[I" ∈ lw_all) (hn : ¬ n < 0) (hk0 : ¬ k < 0) (hN : n.toNatClampNeg = N) (hK : k.toNatClampNeg = K) (hb1 : N * 4 ≤ 536870912) (hb2 : K * 4 ≤ 536870912) (h : ∀ v, J (PM D dA true) Y env (.ref v :: pu) (pc + 4) (f v) F) : J (PM D dA true) Y env (.int k :: .int n :: pu) pc (jb (jm2 N K) f) F := by
  intro Γ ok hP M r M' hk hv hq H locs cells slots ls hi hl
  subst hN; subst hK
  by_cases hb : 1 + n.toNatClampNeg ≤ mC M ∧ n.toNatClampNeg + n.toNatClampNeg * k.toNatClampNeg ≤ mS M
  · rw [jb_ok (show jm2 n.toNatClampNeg k.toNatClampNeg M = some (.ok (mZ M), jm2M M n.toNatClampNeg k.toNatClampNeg) from if_pos hb)] at hk
    obtain ⟨A, H0, hIΓ, hKK, hA, hFG⟩ := id hP
    have hi2 := hi
    rw [hIΓ] at hi2
    have a1 := hi2.2.2.2.1
    have a2 := hi2.2.2.2.2
    have hRA0 : (jcS Γ).vm.findClass ("[" ++ FieldType.int.toString) = some (dA 0) := (hKK.1.2 0 _ (jtys_at (by decide))).2
    have hRA5 : (jcS Γ).vm.findClass ("[" ++ (FieldType.array .int).toString) = some (dA 5) := (hKK.1.2 5 _ (jtys_at (by decide))).2
    intro T hT X
    obtain ⟨vm₁, cA, comp, hW, hfA, hfC, -, -, X', step⟩ := X.multianewarray2F ok.exec (ty := .int) ok.own (ok.hts _ w0) (hKK.2 (.arrayOver (.array .int)) (jnw_in q384 rfl)) (ok.hts _ q375) (g := F0 (jcM Γ) pc ls (.int k :: .int n :: pu)) rfl (by rw [ok.code]; exact hd) rfl hn hk0 hb1 hb2 (by omega) rfl rfl (by omega) (by omega)
    have e5 : cA = dA 5 := Option.some.inj (hfA.symm.trans hRA5)
    have e0 : comp = dA 0 := Option.some.inj (hfC.symm.trans hRA0)
    subst e5; subst e0
    have hz : (T.setVm vm₁).heap.size = mZ M := by show T.heap.size = _; rw [hT]; exact hi2.1.1
    obtain ⟨f1, f2, f3, f4⟩ := Jvm.Free.Multi.fill_facts (T.setVm vm₁) (dA 5) (dA 0) n.toNatClampNeg k.toNatClampNeg (defaultValue .int) n.toNatClampNeg
    obtain ⟨t9, a9, b9⟩ := h _ Γ ok hP _ r M' hk hv hq _ locs (cells + 1 + n.toNatClampNeg) (slots + n.toNatClampNeg + n.toNatClampNeg * k.toNatClampNeg) ls (by
      rw [hIΓ]
      refine std_m2 hi2 hA hb (by rw [f1, hz]) (fun q hq => ?_) ?_ (fun j hj => ?_)
      · rw [Jvm.Free.Multi.fill_old (T.setVm vm₁) _ _ _ _ _ (by rw [hz]; exact hq)]
        show T.heap[q]? = _
        rw [hT]
      · rw [← hz, f2, outerC_arr]
      · rw [← hz, Jvm.Free.Multi.fill_inner (T.setVm vm₁) _ _ _ _ _ _ j hj, ← arrV_new]
        rfl) hl _ rfl X'
    refine ⟨t9, step t9 ?_, b9⟩
    rw [show T.heap.size = mZ M by rw [hT]; exact hi2.1.1]
    exact a9
  · rw [jb_none (show jm2 n.toNatClampNeg k.toNatClampNeg M = none from if_neg hb)] at hk
    cases hk
end JMULTI
