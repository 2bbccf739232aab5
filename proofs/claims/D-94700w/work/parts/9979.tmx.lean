/-! TABLES, the model's loop. -/
set_option maxRecDepth 100000
section TMX
variable {τ : Type} {M M' : Mem} {N N' N0 : NM} {m q n x mx : Nat} {S T : Tbl} {w : Int}
abbrev MsS : Type := Nat × (Nat → Prop)
/-- the kinds by what has been seen -/
noncomputable def msStep (q n : Nat) (w : Int) (x : Nat) (s : MsS) : MsS := @ite _ (Lw (q : Int) n (tbl q n x)) (Classical.propDecidable _) (if w = 1 then @ite _ (s.2 x) (Classical.propDecidable _) s (s.1 + 1, fun y => s.2 y ∨ ∃ u, u < q ^ (n * n) ∧ hit q n (tbl q n x) u y) else (s.1 + 1, s.2)) s
noncomputable def msF (q n : Nat) (w : Int) : Nat → MsS
  | 0 => (0, fun _ => False)
  | x + 1 => msStep q n w x (msF q n w x)
theorem msF_l : ∀ x, (msF q n w x).1 ≤ x := by
  intro x
  induction x with
  | zero => exact Nat.le_refl _
  | succ x ih =>
    show (msStep q n w x (msF q n w x)).1 ≤ x + 1
    unfold msStep
    split
    · split
      · split
        · omega
        · show (msF q n w x).1 + 1 ≤ x + 1; omega
      · show (msF q n w x).1 + 1 ≤ x + 1; omega
    · omega
/-- counting only, both are alike -/
theorem msF_tb (hw : w ≠ 1) : ∀ x, (msF q n w x).1 = (tbF q n w x).1 := by
  intro x
  induction x with
  | zero => rfl
  | succ x ih =>
    show (msStep q n w x (msF q n w x)).1 = (tbStep q n w x (tbF q n w x)).1
    unfold msStep tbStep
    by_cases e : Lw (q : Int) n (tbl q n x)
    · rw [if_pos e, if_pos e, if_neg hw]
      show (msF q n w x).1 + 1 = (tbF q n w x).1 + 1
      rw [ih]
    · rw [if_neg e, if_neg e]
      exact ih
/-- if maps and orbits are the same, both folds are alike -/
theorem msF_k (N : Nat) (hI : ∀ x y, x < N → y < N → Lw (q : Int) n (tbl q n x) → Lw (q : Int) n (tbl q n y) → (isoC q n x y ↔ ∃ u, u < q ^ (n * n) ∧ hit q n (tbl q n y) u x)) : ∀ x, x ≤ N → (msF q n 1 x).1 = (tbF q n 1 x).2.1 ∧ (∀ k, k < (tbF q n 1 x).2.1 → (tbF q n 1 x).2.2 k < x ∧ Lw (q : Int) n (tbl q n ((tbF q n 1 x).2.2 k))) ∧ ∀ y, (msF q n 1 x).2 y ↔ ∃ k, k < (tbF q n 1 x).2.1 ∧ ∃ u, u < q ^ (n * n) ∧ hit q n (tbl q n ((tbF q n 1 x).2.2 k)) u y := by
  intro x
  induction x with
  | zero => intro _; exact ⟨rfl, fun k hk => absurd hk (by show ¬ k < 0; omega), fun y => ⟨fun h => h.elim, fun ⟨k, hk, _⟩ => absurd hk (by show ¬ k < 0; omega)⟩⟩
  | succ x ih =>
    intro hx
    obtain ⟨i1, i2, i3⟩ := ih (by omega)
    have e1 : msF q n 1 (x + 1) = msStep q n 1 x (msF q n 1 x) := rfl
    have e2 : tbF q n 1 (x + 1) = tbStep q n 1 x (tbF q n 1 x) := rfl
    rw [e1, e2]
    generalize msF q n 1 x = s at *
    generalize tbF q n 1 x = t at *
    obtain ⟨s1, s2⟩ := s
    obtain ⟨l, r, K⟩ := t
    have i1 : s1 = r := i1
    have i2 : ∀ k, k < r → K k < x ∧ Lw (q : Int) n (tbl q n (K k)) := i2
    have i3 : ∀ y, s2 y ↔ ∃ k, k < r ∧ ∃ u, u < q ^ (n * n) ∧ hit q n (tbl q n (K k)) u y := i3
    unfold msStep tbStep
    by_cases e : Lw (q : Int) n (tbl q n x)
    · have hseen : s2 x ↔ ¬ newC q n x (l, r, K) := by
        rw [i3 x]
        constructor
        · rintro ⟨k, hk, hu⟩ hn
          exact hn k hk ((hI x (K k) (by omega) (by have := (i2 k hk).1; omega) e (i2 k hk).2).mpr hu)
        · intro hn
          refine Classical.byContradiction fun hc => hn (fun k hk hiso => hc ⟨k, hk, ?_⟩)
          exact (hI x (K k) (by omega) (by have := (i2 k hk).1; omega) e (i2 k hk).2).mp hiso
      rw [if_pos e, if_pos e, if_pos rfl]
      by_cases c : s2 x
      · rw [if_pos c, if_neg (fun z => (hseen.mp c) z.2)]
        exact ⟨i1, fun k hk => ⟨by have := (i2 k hk).1; show K k < x + 1; omega, (i2 k hk).2⟩, i3⟩
      · rw [if_neg c, if_pos ⟨rfl, Classical.byContradiction (fun z => c (hseen.mpr z))⟩]
        refine ⟨by show s1 + 1 = r + 1; omega, fun k hk => ?_, fun y => ?_⟩
        · have hk : k < r + 1 := hk
          show (if k = r then x else K k) < x + 1 ∧ Lw (q : Int) n (tbl q n (if k = r then x else K k))
          by_cases ek : k = r
          · rw [if_pos ek]; exact ⟨by omega, e⟩
          · rw [if_neg ek]
            have := i2 k (by omega)
            exact ⟨by omega, this.2⟩
        · show (s2 y ∨ ∃ u, u < q ^ (n * n) ∧ hit q n (tbl q n x) u y) ↔ ∃ k, k < r + 1 ∧ ∃ u, u < q ^ (n * n) ∧ hit q n (tbl q n (if k = r then x else K k)) u y
          rw [i3 y]
          constructor
          · rintro (⟨k, hk, hu⟩ | hu)
            · exact ⟨k, by omega, by rw [if_neg (by omega)]; exact hu⟩
            · exact ⟨r, by omega, by rw [if_pos rfl]; exact hu⟩
          · rintro ⟨k, hk, hu⟩
            by_cases ek : k = r
            · rw [if_pos ek] at hu; exact Or.inr hu
            · rw [if_neg ek] at hu; exact Or.inl ⟨k, by omega, hu⟩
    · rw [if_neg e, if_neg e]
      exact ⟨i1, fun k hk => ⟨by have := (i2 k hk).1; show K k < x + 1; omega, (i2 k hk).2⟩, i3⟩
end TMX
