/-! TURNING A BASE BACK: the pure process. -/
set_option maxRecDepth 100000
section GJ
variable {p : Int} {n c : Nat} {A B : Nat → Nat → Int} {r : Nat}
def gjP (n c : Nat) (A : Nat → Nat → Int) (r : Nat) : Prop := c ≤ r ∧ r < n ∧ A r c ≠ 0 ∧ ∀ q, c ≤ q → q < r → A q c = 0
theorem gjP.uni {s : Nat} (h : gjP n c A r) (h' : gjP n c A s) : r = s := by
  obtain ⟨a1, a2, a3, a4⟩ := h
  obtain ⟨b1, b2, b3, b4⟩ := h'
  rcases Nat.lt_trichotomy r s with e | e | e
  · exact absurd (b4 r a1 e) a3
  · exact e
  · exact absurd (a4 s b1 e) b3
noncomputable def pvt (n c : Nat) (A : Nat → Nat → Int) : Nat := @dite _ (∃ r, gjP n c A r) (Classical.propDecidable _) (fun h => h.choose) (fun _ => n)
theorem pvt_eq (h : gjP n c A r) : pvt n c A = r := by
  unfold pvt
  rw [dif_pos ⟨r, h⟩]
  exact (Exists.choose_spec (⟨r, h⟩ : ∃ r, gjP n c A r)).uni h
theorem pvt_no (h : ∀ q, c ≤ q → q < n → A q c = 0) : pvt n c A = n := by
  unfold pvt
  rw [dif_neg (fun ⟨r, h1, h2, h3, _⟩ => h3 (h r h1 h2))]
noncomputable def ivn (p v : Int) : Int := @dite _ (∃ r, Iv p v r) (Classical.propDecidable _) (fun h => h.choose) (fun _ => 0)
theorem ivn_eq {v r : Int} (h : Iv p v r) : ivn p v = r := by
  unfold ivn
  rw [dif_pos ⟨r, h⟩]
  exact (Exists.choose_spec (⟨r, h⟩ : ∃ r, Iv p v r)).uni h
/-- rows exchanged -/
def gjS (c r : Nat) (A : Nat → Nat → Int) (i : Nat) : Nat → Int := if i = c then A r else if i = r then A c else A i
/-- the leading row -/
noncomputable def gjL (p : Int) (c r : Nat) (A : Nat → Nat → Int) (k : Nat) : Int := A r k * ivn p (A r c) % p
noncomputable def gjN (p : Int) (c r : Nat) (A : Nat → Nat → Int) (i k : Nat) : Int := if i = c then gjL p c r A k else (gjS c r A i k - gjS c r A i c * gjL p c r A k) % p
noncomputable def gja (p : Int) (n : Nat) (A : Nat → Nat → Int) : Nat → Nat → Nat → Int
  | 0 => A
  | c + 1 => gjN p c (pvt n c (gja p n A c)) (gja p n A c)
/-- a base and what is told by it -/
def gj0 (n : Nat) (B : Nat → Nat → Int) (i k : Nat) : Int := if k < n then B i k else if k = n + i then 1 else 0
/-- whether rows are a base -/
def gjB (p : Int) (n : Nat) (B : Nat → Nat → Int) : Prop := ∀ c, c < n → pvt n c (gja p n (gj0 n B) c) < n
/-- what tells the old by the new -/
noncomputable def gjC (p : Int) (n : Nat) (B : Nat → Nat → Int) (i k : Nat) : Int := gja p n (gj0 n B) n i (n + k)
theorem gja_bd (hp : 1 < p) (h : ∀ i k, 0 ≤ A i k ∧ A i k < p) : ∀ c i k, 0 ≤ gja p n A c i k ∧ gja p n A c i k < p := by
  intro c
  induction c with
  | zero => exact h
  | succ c ih =>
    intro i k
    show 0 ≤ gjN p c _ _ i k ∧ gjN p c _ _ i k < p
    unfold gjN gjL
    split
    · exact ⟨Int.emod_nonneg _ (by omega), Int.emod_lt_of_pos _ (by omega)⟩
    · exact ⟨Int.emod_nonneg _ (by omega), Int.emod_lt_of_pos _ (by omega)⟩
theorem gj0_bd (hp : 1 < p) (h : ∀ i k, 0 ≤ B i k ∧ B i k < p) (i k : Nat) : 0 ≤ gj0 n B i k ∧ gj0 n B i k < p := by
  unfold gj0
  split
  · exact h i k
  · split <;> omega
theorem gjS_bd {i k : Nat} (h : ∀ i k, 0 ≤ A i k ∧ A i k < p) : 0 ≤ gjS c r A i k ∧ gjS c r A i k < p := by
  unfold gjS
  split
  · exact h _ _
  · split <;> exact h _ _
/-- how a world is told by a base -/
noncomputable def gjT (p : Int) (n : Nat) (B : Nat → Nat → Int) (T : Nat → Nat → Nat → Int) (i j k : Nat) : Int := sm n (fun l => (bk n T (B i) (B j) l % p) * gjC p n B l k)
end GJ
