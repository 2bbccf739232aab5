/-! SEEKING MAPS: a pure picture. -/
set_option maxRecDepth 100000
section SEEK
/-- tried, found, spent -/
abbrev Sk : Type := Nat × Nat × Nat
/-- images so far fit -/
def Fit (p : Int) (n : Nat) (F T : Nat → Nat → Nat → Int) (lev : Nat) (im : Nat → Nat → Int) : Prop :=
  ∀ i j, i < j → j ≤ lev → (∀ k, lev < k → k < n → F i j k = 0) → ∀ m, m < n → Cg p (sm (lev + 1) (fun k => F i j k * im k m)) (bk n T (im i) (im j) m)
/-- one image more -/
def imS (p : Int) (n lev : Nat) (im : Nat → Nat → Int) (v : Nat) : Nat → Nat → Int := fun k => if k = lev then dgv p n v else im k
def SkOk (p : Int) (n : Nat) (F T : Nat → Nat → Nat → Int) (lev : Nat) (im : Nat → Nat → Int) (v : Nat) : Prop := ¬ Rs p n lev im (dgv p n v) ∧ Fit p n F T lev (imS p n lev im v)
noncomputable def skS (p : Int) (n : Nat) (F T : Nat → Nat → Nat → Int) (first : Prop) (rec : (Nat → Nat → Int) → Sk → Sk) (lev : Nat) (im : Nat → Nat → Int) (v : Nat) (st : Sk) : Sk :=
  @ite _ (st.2.2 = 1 ∨ first ∧ 0 < st.2.1) (Classical.propDecidable _) st
    (if st.1 = 200000 then (st.1, st.2.1, 1) else @ite _ (SkOk p n F T lev im v) (Classical.propDecidable _) (rec (imS p n lev im v) (st.1 + 1, st.2)) (st.1 + 1, st.2))
noncomputable def skR (p : Int) (n : Nat) (F T : Nat → Nat → Nat → Int) (first : Prop) (rec : (Nat → Nat → Int) → Sk → Sk) (lev : Nat) (im : Nat → Nat → Int) (st : Sk) : Nat → Sk
  | 0 => st
  | k + 1 => skS p n F T first rec lev im (k + 1) (skR p n F T first rec lev im st k)
/-- d levels are left -/
noncomputable def skL (p : Int) (n : Nat) (F T : Nat → Nat → Nat → Int) (first : Prop) : Nat → (Nat → Nat → Int) → Sk → Sk
  | 0, _, st => (st.1, st.2.1 + 1, st.2.2)
  | d + 1, im, st => skR p n F T first (skL p n F T first d) (n - (d + 1)) im st ((p ^ n).toNat - 1)
variable {p : Int} {n m : Nat} {F T : Nat → Nat → Nat → Int} {first : Prop} {rec : (Nat → Nat → Int) → Sk → Sk} {lev : Nat} {im : Nat → Nat → Int}
theorem skS_stop {v : Nat} {st : Sk} (h : st.2.2 = 1 ∨ first ∧ 0 < st.2.1) : skS p n F T first rec lev im v st = st := by
  unfold skS
  rw [if_pos h]
theorem skR_stop {st : Sk} {k : Nat} (h : (skR p n F T first rec lev im st k).2.2 = 1 ∨ first ∧ 0 < (skR p n F T first rec lev im st k).2.1) : ∀ d, skR p n F T first rec lev im st (k + d) = skR p n F T first rec lev im st k := by
  intro d
  induction d with
  | zero => rfl
  | succ d ih =>
    show skS p n F T first rec lev im (k + d + 1) (skR p n F T first rec lev im st (k + d)) = _
    rw [ih, skS_stop h]
/-- what stays small -/
def SkB (st : Sk) : Prop := st.1 ≤ 200000 ∧ st.2.1 ≤ st.1 ∧ st.2.2 ≤ 1
theorem Fit.q {im' : Nat → Nat → Int} (h : ∀ k, k ≤ lev → im k = im' k) : Fit p n F T lev im ↔ Fit p n F T lev im' := by
  have key : ∀ im im' : Nat → Nat → Int, (∀ k, k ≤ lev → im k = im' k) → Fit p n F T lev im → Fit p n F T lev im' := by
    intro im im' h hf i j hij hj hw x hx
    have := hf i j hij hj hw x hx
    rw [h i (by omega), h j hj, sm_congr (g := fun k => F i j k * im' k x) (fun k hk => by rw [h k (by omega)])] at this
    exact this
  exact ⟨key im im' h, key im' im (fun k hk => (h k hk).symm)⟩
end SEEK
