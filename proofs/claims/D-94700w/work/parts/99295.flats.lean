/-! SCRIPTS laid flat: where steps stand. -/
set_option maxRecDepth 100000
section FLATS
variable {n i j b b1 to d a : Nat} {s : Scr} {P Q : Nat → Prop}
theorem cn_ext (hi : i ≤ n) (h : ∀ l, i ≤ l → l < n → ¬ P l) : cn n P = cn i P := by
  induction n with
  | zero => rw [show i = 0 by omega]
  | succ n ih =>
    by_cases e : i = n + 1
    · rw [e]
    · rw [cn_neg (h n (by omega) (by omega))]
      exact ih (by omega) (fun l a b => h l a (by omega))
/-- a step within a block's own row of steps -/
def Dir (s : Scr) (b1 i to : Nat) : Prop := i < to ∧ to ≤ s.1 ∧ ∀ l, l < i → isBl s.2 l → i < nxt s.2 l → l < b1 ∧ to ≤ nxt s.2 l
noncomputable def aft (s : Scr) (i : Nat) : Nat := @ite _ (isBl s.2 i) (Classical.propDecidable _) (fcl s i + 1) (fpo s.2 i + 1)
theorem aft_b (h : isBl s.2 i) : aft s i = fcl s i + 1 := if_pos h
theorem aft_n (h : ¬ isBl s.2 i) : aft s i = fpo s.2 i + 1 := if_neg h
theorem ScOk.lt (h : ScOk s) (hi : i < s.1) : i < nxt s.2 i ∧ nxt s.2 i ≤ s.1 := by
  have := h.2 i hi
  unfold nxt
  omega
theorem ScOk.one (h : ScOk s) (hi : i < s.1) (hb : ¬ isBl s.2 i) : nxt s.2 i = i + 1 := by
  have := (h.2 i hi).2.2.2.2.1 hb
  unfold nxt
  omega
theorem ScOk.nest (h : ScOk s) (hi : i < s.1) (h1 : i < j) (h2 : j < nxt s.2 i) : nxt s.2 j ≤ nxt s.2 i := by
  have h3 := (h.2 i hi).2.2.2.2.2.1 j h1 h2
  unfold nxt at *
  omega
theorem Dir.s1 (h : Dir s b1 i to) : i < s.1 := by have := h.1; have := h.2.1; omega
theorem Dir.nx (hO : ScOk s) (h : Dir s b1 i to) (h2 : nxt s.2 i < to) : Dir s b1 (nxt s.2 i) to := by
  have hi := h.s1
  have hl := hO.lt hi
  refine ⟨h2, h.2.1, fun l h3 h4 h5 => ?_⟩
  by_cases e1 : l < i
  · exact h.2.2 l e1 h4 (by omega)
  · by_cases e2 : l = i
    · rw [e2] at h5; omega
    · exact absurd (hO.nest hi (by omega) h3) (by omega)
theorem Dir.st (hO : ScOk s) (hb : b < s.1) (h2 : b + 1 < nxt s.2 b) : Dir s (b + 1) (b + 1) (nxt s.2 b) := by
  refine ⟨h2, (hO.lt hb).2, fun l h3 h4 h5 => ⟨h3, ?_⟩⟩
  by_cases e : l = b
  · rw [e]; exact Nat.le_refl _
  · exact hO.nest (by omega) (by omega) (by omega)
theorem Dir.top (h : 0 < s.1) : Dir s 0 0 s.1 := ⟨h, Nat.le_refl _, fun l h3 => absurd h3 (by omega)⟩
/-- the last of a block's steps is at or before its end -/
theorem Dir.le (hO : ScOk s) (h : Dir s b1 i to) : nxt s.2 i ≤ to ∨ b1 ≤ to ∧ False ∨ nxt s.2 i ≤ s.1 := Or.inr (Or.inr (hO.lt h.s1).2)
theorem fcl_bd (hO : ScOk s) (hi : i < s.1) : cn s.1 (fun l => isBl s.2 l ∧ (nxt s.2 l < nxt s.2 i ∨ nxt s.2 l = nxt s.2 i ∧ i < l)) = cn (nxt s.2 i) (fun l => isBl s.2 l ∧ (nxt s.2 l < nxt s.2 i ∨ nxt s.2 l = nxt s.2 i ∧ i < l)) :=
  cn_ext (hO.lt hi).2 (fun l h1 h2 h3 => by have := hO.lt h2; omega)
theorem aft_A (hO : ScOk s) (h : Dir s b1 i to) (h2 : nxt s.2 i < to) : aft s i = fpo s.2 (nxt s.2 i) := by
  have hi := h.s1
  have hl := hO.lt hi
  by_cases hb : isBl s.2 i
  · rw [aft_b hb]
    unfold fcl fpo
    rw [fcl_bd hO hi, Nat.add_assoc]
    have e : cn (nxt s.2 i) (fun l => isBl s.2 l ∧ nxt s.2 l ≤ nxt s.2 i) = cn (nxt s.2 i) (fun l => (isBl s.2 l ∧ (nxt s.2 l < nxt s.2 i ∨ nxt s.2 l = nxt s.2 i ∧ i < l)) ∨ l = i) := by
      refine cn_congr (fun l hl2 => ⟨fun ⟨h3, h4⟩ => ?_, fun h3 => ?_⟩)
      · by_cases e1 : l = i
        · exact Or.inr e1
        · refine Or.inl ⟨h3, ?_⟩
          by_cases e2 : nxt s.2 l = nxt s.2 i
          · refine Or.inr ⟨e2, ?_⟩
            refine Classical.byContradiction fun e3 => ?_
            have := h.2.2 l (by omega) h3 (by omega)
            omega
          · exact Or.inl (by omega)
      · rcases h3 with h3 | h3
        · exact ⟨h3.1, by omega⟩
        · rw [h3]; exact ⟨hb, Nat.le_refl _⟩
    rw [e, cn_or hl.1 (fun x => by omega)]
  · rw [aft_n hb]
    have e1 := hO.one hi hb
    unfold fpo
    rw [e1, cn_neg (fun x => hb x.1)]
    have e : cn i (fun l => isBl s.2 l ∧ nxt s.2 l ≤ i) = cn i (fun l => isBl s.2 l ∧ nxt s.2 l ≤ i + 1) := cn_congr (fun l hl2 => ⟨fun x => ⟨x.1, by omega⟩, fun x => ⟨x.1, by
      refine Classical.byContradiction fun e3 => ?_
      have := h.2.2 l hl2 x.1 (by omega)
      omega⟩⟩)
    rw [e]
    omega
theorem aft_B (hO : ScOk s) (hbs : b < s.1) (h : Dir s (b + 1) i (nxt s.2 b)) (hbi : b < i) (h2 : nxt s.2 i = nxt s.2 b) : aft s i = fcl s b := by
  have hi := h.s1
  have hl := hO.lt hi
  by_cases hb : isBl s.2 i
  · rw [aft_b hb]
    unfold fcl
    rw [fcl_bd hO hi, fcl_bd hO hbs, ← h2, Nat.add_assoc]
    have e : cn (nxt s.2 i) (fun l => isBl s.2 l ∧ (nxt s.2 l < nxt s.2 i ∨ nxt s.2 l = nxt s.2 i ∧ b < l)) = cn (nxt s.2 i) (fun l => (isBl s.2 l ∧ (nxt s.2 l < nxt s.2 i ∨ nxt s.2 l = nxt s.2 i ∧ i < l)) ∨ l = i) := by
      refine cn_congr (fun l hl2 => ⟨fun ⟨h3, h4⟩ => ?_, fun h3 => ?_⟩)
      · by_cases e1 : l = i
        · exact Or.inr e1
        · refine Or.inl ⟨h3, ?_⟩
          rcases h4 with h4 | h4
          · exact Or.inl h4
          · refine Or.inr ⟨h4.1, ?_⟩
            refine Classical.byContradiction fun e3 => ?_
            have := h.2.2 l (by omega) h3 (by omega)
            omega
      · rcases h3 with h3 | h3
        · exact ⟨h3.1, by omega⟩
        · rw [h3]; exact ⟨hb, Or.inr ⟨rfl, hbi⟩⟩
    rw [e, cn_or hl.1 (fun x => by omega)]
  · rw [aft_n hb]
    have e1 := hO.one hi hb
    unfold fcl fpo
    rw [← h2, e1]
    have e : cn s.1 (fun l => isBl s.2 l ∧ (nxt s.2 l < i + 1 ∨ nxt s.2 l = i + 1 ∧ b < l)) = cn i (fun l => isBl s.2 l ∧ nxt s.2 l ≤ i) := by
      rw [cn_ext (i := i) (by omega) (fun l a1 a2 a3 => by
        have := hO.lt a2
        by_cases e5 : l = i
        · rw [e5] at a3; exact hb a3.1
        · omega)]
      refine cn_congr (fun l hl2 => ⟨fun x => ⟨x.1, ?_⟩, fun x => ⟨x.1, by omega⟩⟩)
      refine Classical.byContradiction fun e3 => ?_
      have := h.2.2 l hl2 x.1 (by omega)
      omega
    rw [e]
    omega
theorem aft_C (hO : ScOk s) (h : Dir s 0 i s.1) (h2 : nxt s.2 i = s.1) : aft s i = s.1 + cn s.1 (isBl s.2) := by
  have hi := h.s1
  have hl := hO.lt hi
  by_cases hb : isBl s.2 i
  · rw [aft_b hb]
    unfold fcl
    rw [h2, Nat.add_assoc]
    have e : cn s.1 (isBl s.2) = cn s.1 (fun l => (isBl s.2 l ∧ (nxt s.2 l < s.1 ∨ nxt s.2 l = s.1 ∧ i < l)) ∨ l = i) := by
      refine cn_congr (fun l hl2 => ⟨fun h3 => ?_, fun h3 => ?_⟩)
      · by_cases e1 : l = i
        · exact Or.inr e1
        · refine Or.inl ⟨h3, ?_⟩
          have := hO.lt hl2
          by_cases e2 : nxt s.2 l = s.1
          · refine Or.inr ⟨e2, ?_⟩
            refine Classical.byContradiction fun e3 => ?_
            have := h.2.2 l (by omega) h3 (by omega)
            omega
          · exact Or.inl (by omega)
      · rcases h3 with h3 | h3
        · exact h3.1
        · rw [h3]; exact hb
    rw [e, cn_or hi (fun x => by omega)]
  · rw [aft_n hb]
    have e1 := hO.one hi hb
    unfold fpo
    have e : cn s.1 (isBl s.2) = cn i (fun l => isBl s.2 l ∧ nxt s.2 l ≤ i) := by
      rw [cn_ext (i := i) (by omega) (fun l a1 a2 a3 => by
        by_cases e5 : l = i
        · rw [e5] at a3; exact hb a3
        · omega)]
      refine cn_congr (fun l hl2 => ⟨fun x => ⟨x, ?_⟩, fun x => x.1⟩)
      refine Classical.byContradiction fun e3 => ?_
      have := h.2.2 l hl2 x (by omega)
      omega
    rw [e]
    omega
theorem fpo_in (hO : ScOk s) (hi : i < s.1) (hb : isBl s.2 i) (h2 : i + 1 < nxt s.2 i) : fpo s.2 (i + 1) = fpo s.2 i + 1 := by
  unfold fpo
  rw [cn_neg (fun x => by omega)]
  have e : cn i (fun l => isBl s.2 l ∧ nxt s.2 l ≤ i) = cn i (fun l => isBl s.2 l ∧ nxt s.2 l ≤ i + 1) := cn_congr (fun l hl2 => ⟨fun x => ⟨x.1, by omega⟩, fun x => ⟨x.1, by
    refine Classical.byContradiction fun e3 => ?_
    have := hO.nest (i := l) (j := i) (by omega) hl2 (by omega)
    omega⟩⟩)
  rw [e]
  omega
theorem fcl_in (hO : ScOk s) (hi : i < s.1) (hb : isBl s.2 i) (h2 : nxt s.2 i = i + 1) : fcl s i = fpo s.2 i + 1 := by
  unfold fcl fpo
  rw [h2]
  have e : cn s.1 (fun l => isBl s.2 l ∧ (nxt s.2 l < i + 1 ∨ nxt s.2 l = i + 1 ∧ i < l)) = cn i (fun l => isBl s.2 l ∧ nxt s.2 l ≤ i) := by
    rw [cn_ext (i := i) (by omega) (fun l a1 a2 a3 => by have := hO.lt a2; omega)]
    exact cn_congr (fun l hl2 => ⟨fun x => ⟨x.1, by omega⟩, fun x => ⟨x.1, by omega⟩⟩)
  rw [e]
  omega
theorem fpo_0 : fpo s.2 0 = 0 := rfl
/-- how deep -/
noncomputable def dpt (s : Scr) (i : Nat) : Nat := cn i (fun j => i < nxt s.2 j)
theorem dpt_3 (hO : ScOk s) (hi : i < s.1) : dpt s i ≤ 3 := (hO.2 i hi).2.2.2.2.2.2.1
theorem ScOk.arg (hO : ScOk s) (hi : i < s.1) : ArgR (s.2 i) := (hO.2 i hi).2.2.2.2.2.2.2
theorem dpt_in (hO : ScOk s) (hb : b < s.1) (h1 : b < i) (h2 : i < nxt s.2 b) : dpt s b + 1 ≤ dpt s i := by
  unfold dpt
  refine Nat.le_trans ?_ (cn_up (k := b + 1) i (by omega))
  rw [cn_pos (P := fun j => i < nxt s.2 j) h2]
  have := cn_mono (n := b) (P := fun j => b < nxt s.2 j) (Q := fun j => i < nxt s.2 j) (fun l hl h3 => by
    have := hO.nest (i := l) (j := b) (by omega) hl h3
    omega)
  omega
end FLATS
