/-! TABLES: both answers are the same. -/
set_option maxRecDepth 100000
section TBF
variable {q n x : Nat} {w p z : Int}
theorem tbK (h : q = 2 ∧ 1 ≤ n ∧ n ≤ 3 ∨ q = 3 ∧ 1 ≤ n ∧ n ≤ 2) : Pr (q : Int) ∧ skK (((q : Int) ^ n).toNat - 1) n ≤ 199999 := by
  have : (q = 2 ∧ (n = 1 ∨ n = 2 ∨ n = 3)) ∨ (q = 3 ∧ (n = 1 ∨ n = 2)) := by omega
  rcases this with ⟨rfl, rfl | rfl | rfl⟩ | ⟨rfl, rfl | rfl⟩
  · exact ⟨Or.inl rfl, by decide⟩
  · exact ⟨Or.inl rfl, by decide⟩
  · exact ⟨Or.inl rfl, by decide⟩
  · exact ⟨Or.inr (Or.inl rfl), by decide⟩
  · exact ⟨Or.inr (Or.inl rfl), by decide⟩
theorem tbl_w (hp : Pr (q : Int)) (hn : 1 ≤ n ∧ n ≤ 5) : WOk (q : Int) n (tbl q n x) := altT_ok hp hn
theorem tbF_few : ∀ x, x ≤ 512 → (tbF 2 3 1 x).2.1 ≤ cbL x ∧ ∀ y, y < x → Lw ((2 : Nat) : Int) 3 (tbl 2 3 y) → ∃ k, k < (tbF 2 3 1 x).2.1 ∧ isoC 2 3 y ((tbF 2 3 1 x).2.2 k) := by
  have hq : (2 = 2 ∧ 1 ≤ 3 ∧ 3 ≤ 3 ∨ 2 = 3 ∧ 1 ≤ 3 ∧ 3 ≤ 2) := by omega
  obtain ⟨hp, hK⟩ := tbK hq
  have hiso : ∀ a b, isoC 2 3 a b ↔ Iso ((2 : Nat) : Int) 3 (tbl 2 3 a) (tbl 2 3 b) := fun a b => iso_iff hp hK
  have hw : ∀ a, WOk ((2 : Nat) : Int) 3 (tbl 2 3 a) := fun a => tbl_w hp (by omega)
  intro x
  induction x with
  | zero => intro _; exact ⟨Nat.le_refl _, fun y hy => absurd hy (by omega)⟩
  | succ x ih =>
    intro hx
    obtain ⟨i1, i2⟩ := ih (by omega)
    have e2 : tbF 2 3 1 (x + 1) = tbStep 2 3 1 x (tbF 2 3 1 x) := rfl
    have e3 : cbL (x + 1) = cbL x + (if krL.contains x then 1 else 0) := rfl
    rw [e2, e3]
    generalize tbF 2 3 1 x = t at *
    obtain ⟨l, r, K⟩ := t
    have i1 : r ≤ cbL x := i1
    have i2 : ∀ y, y < x → Lw ((2 : Nat) : Int) 3 (tbl 2 3 y) → ∃ k, k < r ∧ isoC 2 3 y (K k) := i2
    unfold tbStep
    by_cases e : Lw ((2 : Nat) : Int) 3 (tbl 2 3 x)
    · rw [if_pos e]
      by_cases hnew : newC 2 3 x (l, r, K)
      · rw [if_pos ⟨rfl, hnew⟩]
        have hin : krL.contains x = true := by
          have h1 := crt_A (x := x) (by omega)
          rw [(Lw_b (by omega)).mp e] at h1
          obtain ⟨c, hc, hcx⟩ := List.any_eq_true.mp (show crt.any (fun e => e.1 == x) = true from h1)
          have hcx : c.1 = x := eq_of_beq hcx
          have h2 := crt_B hc
          rw [hcx, Bool.and_eq_true, Bool.and_eq_true] at h2
          obtain ⟨h3, h4, h5⟩ := h2
          have h4 : c.2.1 ≤ x := Nat.le_of_ble_eq_true h4
          by_cases c1 : c.2.1 = x
          · rw [← c1]; exact h3
          · exfalso
            obtain ⟨k, hk, hk2⟩ := i2 c.2.1 (by omega) ((Lw_b (by omega)).mpr (krL_l h3))
            refine hnew k hk ((hiso _ _).mpr ?_)
            exact (Iso_b (by omega) (by omega) h5).trans hp (hw _) (hw _) ((hiso _ _).mp hk2)
        rw [if_pos hin]
        refine ⟨by show r + 1 ≤ cbL x + 1; omega, fun y hy hL => ?_⟩
        show ∃ k, k < r + 1 ∧ isoC 2 3 y (if k = r then x else K k)
        by_cases c : y = x
        · refine ⟨r, by omega, ?_⟩
          rw [if_pos rfl, c]
          exact (hiso _ _).mpr (Iso.refl hp)
        · obtain ⟨k, hk, hk2⟩ := i2 y (by omega) hL
          exact ⟨k, by omega, by rw [if_neg (by omega)]; exact hk2⟩
      · rw [if_neg (fun c => hnew c.2)]
        refine ⟨Nat.le_trans i1 (Nat.le_add_right _ _), fun y hy hL => ?_⟩
        by_cases c : y = x
        · refine Classical.byContradiction fun h0 => hnew (fun k hk hiso => h0 ⟨k, hk, ?_⟩)
          rw [c]; exact hiso
        · exact i2 y (by omega) hL
    · rw [if_neg e]
      refine ⟨Nat.le_trans i1 (Nat.le_add_right _ _), fun y hy hL => ?_⟩
      by_cases c : y = x
      · rw [c] at hL; exact absurd hL e
      · exact i2 y (by omega) hL
theorem cbL_le : ∀ d x, x + d = 512 → cbL x ≤ cbL 512 := by
  intro d
  induction d with
  | zero => intro x h; rw [show x = 512 by omega]; exact Nat.le_refl _
  | succ d ih => intro x h; exact Nat.le_trans (Nat.le_add_right _ _) (ih (x + 1) (by omega))
theorem tbF_r : ∀ x, (tbF q n w x).2.1 ≤ x := by
  intro x
  induction x with
  | zero => exact Nat.le_refl _
  | succ x ih =>
    show (tbStep q n w x (tbF q n w x)).2.1 ≤ x + 1
    unfold tbStep
    split
    · show (@ite _ (w = 1 ∧ _) (Classical.propDecidable _) _ (tbF q n w x).2).1 ≤ x + 1
      split
      · show (tbF q n w x).2.1 + 1 ≤ x + 1; omega
      · omega
    · omega
theorem tbB : TbB := by
  intro q n h x hx
  by_cases c : q = 2 ∧ n = 3
  · obtain ⟨rfl, rfl⟩ := c
    have hx : x ≤ 512 := hx
    exact Nat.le_trans (tbF_few x hx).1 (Nat.le_trans (cbL_le (512 - x) x (by omega)) (by decide +kernel))
  · have hN : tbN q n ≤ 20 := by
      have : (q = 2 ∧ (n = 1 ∨ n = 2)) ∨ (q = 3 ∧ (n = 1 ∨ n = 2)) := by omega
      rcases this with ⟨rfl, rfl | rfl⟩ | ⟨rfl, rfl | rfl⟩ <;> decide
    exact Nat.le_trans (tbF_r x) (Nat.le_trans hx hN)
/-- component and model come to the same -/
theorem ab_tables : b_tables p z w = a_tables p z w := by
  unfold a_tables b_tables
  by_cases e : tbOk p z w
  · rw [if_pos e, if_pos e]
    obtain ⟨hpz, hw0⟩ := e
    obtain ⟨q, rfl⟩ : ∃ k : Nat, p = k := ⟨p.toNat, by omega⟩
    obtain ⟨n, rfl⟩ : ∃ k : Nat, z = k := ⟨z.toNat, by omega⟩
    rw [show ((q : Int).toNat) = q from rfl, show ((n : Int).toNat) = n from rfl]
    have hqn : q = 2 ∧ 1 ≤ n ∧ n ≤ 3 ∨ q = 3 ∧ 1 ≤ n ∧ n ≤ 2 := by omega
    by_cases c : w = 0
    · rw [if_pos c, msF_tb (show w ≠ 1 by omega)]
    · obtain rfl : w = 1 := by omega
      obtain ⟨hp, hK⟩ := tbK hqn
      rw [if_neg c, (msF_k (tbN q n) (fun x y hx hy _ _ => (iso_iff hp hK).trans (hit_iff hp hqn hx).symm) (tbN q n) (Nat.le_refl _)).1]
  · rw [if_neg e, if_neg e]
end TBF
