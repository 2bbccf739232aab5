/-! THE GREATEST of a kind. -/
set_option maxRecDepth 100000
section RDV
variable {p : Int} {n : Nat} {T : Nat → Nat → Nat → Int}
theorem sm_pos {f : Nat → Int} : ∀ k, (∀ i, i < k → 0 ≤ f i) → 0 ≤ sm k f ∧ (sm k f ≠ 0 ↔ ∃ i, i < k ∧ f i ≠ 0) := by
  intro k
  induction k with
  | zero => exact fun _ => ⟨Int.le_refl 0, fun x => absurd rfl x, fun ⟨i, hi, _⟩ => absurd hi (by omega)⟩
  | succ k ih =>
    intro h
    obtain ⟨i1, i2⟩ := ih (fun i hi => h i (by omega))
    have hk := h k (by omega)
    rw [sm_s]
    refine ⟨by omega, fun x => ?_, fun ⟨i, hi, e⟩ => ?_⟩
    · by_cases c : sm k f = 0
      · exact ⟨k, by omega, by omega⟩
      · obtain ⟨i, hi, e⟩ := i2.mp c
        exact ⟨i, by omega, e⟩
    · by_cases c : i = k
      · rw [c] at e; omega
      · have := i2.mpr ⟨i, by omega, e⟩
        omega
theorem CSn_ne {size kind : Nat} : CSn p n T size kind ≠ 0 ↔ ∃ set, set < 2 ^ n ∧ bcn set n = size ∧ CBn p n T kind set ≠ 0 := by
  unfold CSn
  rw [(sm_pos (2 ^ n) (fun i _ => by split <;> omega)).2]
  constructor
  · rintro ⟨set, h1, h2⟩
    by_cases c : bcn set n = size
    · rw [if_pos c] at h2
      exact ⟨set, h1, c, by omega⟩
    · rw [if_neg c] at h2
      exact absurd rfl h2
  · rintro ⟨set, h1, c, h2⟩
    exact ⟨set, h1, by rw [if_pos c]; omega⟩
theorem cn_ne {k : Nat} {P : Nat → Prop} (h : cn k P ≠ 0) : ∃ i, i < k ∧ P i := Classical.byContradiction fun x => h (cn_false (fun i hi q => x ⟨i, hi, q⟩))
theorem cn_po {k i : Nat} {P : Nat → Prop} (hi : i < k) (h : P i) : cn k P ≠ 0 := fun e => cn_eq (P := fun _ => False) (fun _ _ x => x.elim) (by rw [e]; exact cn_false (fun _ _ x => x)) i hi h
theorem bcn_0 : ∀ k, bcn 0 k = 0 := by
  intro k
  induction k with
  | zero => rfl
  | succ k ih => rw [bcn_s, ih]; simp
theorem CS0 (hp : Pr p) {kind : Nat} (hk : kind = 4 ∨ kind = 5) : CSn p n T 0 kind ≠ 0 := by
  refine CSn_ne.mpr ⟨0, Nat.two_pow_pos n, bcn_0 n, ?_⟩
  have e1 : nfr 0 n = 0 := by unfold nfr; rw [bcn_0]; rfl
  have e2 : pnf p n 0 = 1 := by unfold pnf; rw [e1, Int.pow_zero]; rfl
  unfold CBn
  rw [e2]
  refine cn_po (i := 0) (by omega) ?_
  unfold KDc
  have hE := RC_ech (p := p) (n := n) (set := 0) (code := (0 : Nat))
  generalize Rs p n (bcn 0 n) (RC p n 0 (0 : Nat)) = S at hE
  have hm := bcn_0 n
  generalize bcn 0 n = m at hE hm
  subst hm
  have hc : Clo n T True S := (clo_ideal hp hE).mpr (fun a i ha => absurd ha (by omega))
  have hc' : Clo n T False S := fun a b ha hb => hc a b ha (Or.inl trivial)
  have h0 := hE.dm hp
  rcases hk with rfl | rfl
  · refine ⟨hc, ?_⟩
    have : ∀ k v, DSr p n T S k v → S v := fun k => by
      induction k with
      | zero => exact fun _ h => h
      | succ k ih => exact fun v h => ih v (DSr.dec hE.sb hc' k v h)
    have := dm_mono (p := p) (n := n) (this 5)
    omega
  · refine ⟨hc, ?_⟩
    have : ∀ k v, LSr p n T S k v → S v := fun k => by
      induction k with
      | zero => exact fun _ h => h
      | succ k ih => exact fun v h => ih v (LSr.dec hE.sb hc' k v h)
    have := dm_mono (p := p) (n := n) (this 5)
    omega
/-- the greatest size of which there are some of a kind -/
noncomputable def rdv (p : Int) (n : Nat) (T : Nat → Nat → Nat → Int) (kind : Nat) : Nat → Nat
  | 0 => 0
  | s + 1 => if CSn p n T (s + 1) kind = 0 then rdv p n T kind s else s + 1
theorem rdv_eq {kind most : Nat} (h2 : most = 0 ∨ CSn p n T most kind ≠ 0) : ∀ d, (∀ s, s ≤ most + d → most < s → CSn p n T s kind = 0) → rdv p n T kind (most + d) = most := by
  intro d
  induction d with
  | zero =>
    intro _
    rw [Nat.add_zero]
    cases most with
    | zero => rfl
    | succ k =>
      rcases h2 with h | h
      · omega
      · exact if_neg h
  | succ d ih =>
    intro h
    show (if CSn p n T (most + d + 1) kind = 0 then rdv p n T kind (most + d) else most + d + 1) = most
    rw [if_pos (h _ (by omega) (by omega))]
    exact ih (fun s a b => h s (by omega) b)
theorem rdv_le {kind : Nat} : ∀ s, rdv p n T kind s ≤ s := by
  intro s
  induction s with
  | zero => exact Nat.le_refl _
  | succ s ih =>
    show (if CSn p n T (s + 1) kind = 0 then rdv p n T kind s else s + 1) ≤ s + 1
    by_cases e : CSn p n T (s + 1) kind = 0
    · rw [if_pos e]; exact Nat.le_succ_of_le ih
    · rw [if_neg e]; exact Nat.le_refl _
end RDV
