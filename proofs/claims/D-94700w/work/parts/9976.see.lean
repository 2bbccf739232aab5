/-! ALL TABLES THAT ARE ALIKE, the model. -/
set_option maxRecDepth 100000
section SEE
variable {τ : Type} {M M' : Mem} {N N' N0 : NM} {m q n i j k f r x a b v l : Nat} {S T : Tbl} {sn0 : Nat → Prop}
theorem ceK_lt (hT : ∀ i j k, T i j k < (q : Int)) (hq : 0 < q) : ∀ k b, ceK q T i j k b < (b + 1) * q ^ k := by
  intro k
  induction k with
  | zero => intro b; show b < (b + 1) * 1; omega
  | succ k ih =>
    intro b
    have h1 := ih (b * q + (T i j k).toNat)
    have h2 : (T i j k).toNat < q := by have := hT i j k; omega
    have h3 : (b * q + (T i j k).toNat + 1) * q ^ k ≤ (b + 1) * q * q ^ k := Nat.mul_le_mul_right _ (by rw [Nat.add_mul]; omega)
    have e : (b + 1) * q ^ (k + 1) = (b + 1) * q * q ^ k := by rw [Nat.pow_succ, Nat.mul_assoc, Nat.mul_comm (q ^ k) q]
    show ceK q T i j k (b * q + (T i j k).toNat) < _
    omega
theorem cdT_lt (hT : ∀ i j k, T i j k < (q : Int)) (hqn : q = 2 ∧ 1 ≤ n ∧ n ≤ 3 ∨ q = 3 ∧ 1 ≤ n ∧ n ≤ 2) : cdT q n T < tbN q n ∧ tbN q n ≤ 512 := by
  have k2 : n = 2 → cdT q n T = ceK q T 0 1 2 0 := fun e => by subst e; rfl
  have k3 : n = 3 → cdT q n T = ceK q T 0 1 3 (ceK q T 0 2 3 (ceK q T 1 2 3 0)) := fun e => by subst e; rfl
  have : (n = 1 ∧ (q = 2 ∨ q = 3)) ∨ (n = 2 ∧ (q = 2 ∨ q = 3)) ∨ (n = 3 ∧ q = 2) := by omega
  rcases this with ⟨rfl, h⟩ | ⟨rfl, h⟩ | ⟨rfl, rfl⟩
  · have e : cdT q 1 T = 0 := rfl
    rw [e]
    rcases h with rfl | rfl <;> decide
  · have h1 := ceK_lt (q := q) (T := T) (i := 0) (j := 1) hT (by omega) 2 0
    rw [k2 rfl]
    rcases h with rfl | rfl
    · exact ⟨h1, by decide⟩
    · exact ⟨h1, by decide⟩
  · rw [k3 rfl]
    have h1 := ceK_lt (q := 2) (T := T) (i := 1) (j := 2) hT (by omega) 3 0
    have h2 := ceK_lt (q := 2) (T := T) (i := 0) (j := 2) hT (by omega) 3 (ceK 2 T 1 2 3 0)
    have h3 := ceK_lt (q := 2) (T := T) (i := 0) (j := 1) hT (by omega) 3 (ceK 2 T 0 2 3 (ceK 2 T 1 2 3 0))
    have e : tbN 2 3 = 512 := by decide
    rw [e]
    have h1 : ceK 2 T 1 2 3 0 < (0 + 1) * 8 := h1
    have h2 : ceK 2 T 0 2 3 (ceK 2 T 1 2 3 0) < (ceK 2 T 1 2 3 0 + 1) * 8 := h2
    have h3 : ceK 2 T 0 1 3 (ceK 2 T 0 2 3 (ceK 2 T 1 2 3 0)) < (ceK 2 T 0 2 3 (ceK 2 T 1 2 3 0) + 1) * 8 := h3
    omega
/-- a base by number -/
def bmt (q n v : Nat) : Nat → Nat → Int := fun i k => if k < n then ((v / q ^ (n * i + k) % q : Nat) : Int) else 0
/-- what a base makes of a table -/
def hit (q n : Nat) (T : Tbl) (v y : Nat) : Prop := gjB (q : Int) n (bmt q n v) ∧ cdT q n (altT q n (gjT (q : Int) n (bmt q n v) T)) = y
/-- a base is put by number -/
theorem m_sB {Q : _ → Mem → NM → Prop} {x1 : Int32} (hM : ML M m) (hq : 0 < q ∧ q ≤ 7) (hn : 1 ≤ n ∧ n ≤ 5) (hv : v ≤ 100000) :
    ∀ f l (N : NM), l + f = n * n → N m 26 = q → N m 27 = n → (∀ l', l' < l → N (m + 32) (5 * (l' / n) + l' % n) = ((v / q ^ l' % q : Nat) : Int)) →
      (∀ N', (∀ l', l' < n * n → N' (m + 32) (5 * (l' / n) + l' % n) = ((v / q ^ l' % q : Nat) : Int)) → (∀ b, b ≠ m + 32 → N' b = N b) → GN M N' (X8_seeAll_b81 m x1 (zI (v : Nat))) Q) →
      GN M N (jloop (fun t => X8_seeAll_L26 m x1 (zI (v : Nat)) t.1 t.2) (zI ((v / q ^ l : Nat) : Int), zI (l : Nat))) Q := by
  have hnn : n * n ≤ 25 := nn_le hn.2
  have hnn2 : ((n : Int) * (n : Int)) = ((n * n : Nat) : Int) := (Int.natCast_mul n n).symm
  intro f
  induction f with
  | zero =>
    intro l N hl h26 h27 hB h
    refine w_unroll ?_
    unfold X8_seeAll_L26
    refine w_MI hM (w_MI hM ?_)
    rw [h27, zI_mul, hnn2]
    exact w_le ⟨by omega, by omega⟩ ⟨by omega, by omega⟩ (fun _ => w_jinl (h N (fun l' hl' => hB l' (by omega)) (fun _ _ => rfl))) (fun y => absurd (show (l : Int) < ((n * n : Nat) : Int) from y) (by omega))
  | succ f ih =>
    intro l N hl h26 h27 hB h
    refine w_unroll ?_
    unfold X8_seeAll_L26
    refine w_MI hM (w_MI hM ?_)
    rw [h27, zI_mul, hnn2]
    refine w_le ⟨by omega, by omega⟩ ⟨by omega, by omega⟩ (fun y => absurd (show ((n * n : Nat) : Int) ≤ (l : Int) from y) (by omega)) (fun _ => ?_)
    have h1 : (0 : Int) ≤ ((v / q ^ l : Nat) : Int) ∧ zR ((v / q ^ l : Nat) : Int) := (fun g (hg : g ≤ v) => (⟨by omega, by omega, by omega⟩ : (0 : Int) ≤ (g : Int) ∧ zR (g : Int))) _ (Nat.div_le_self _ _)
    have hln : l / n < n := Nat.div_lt_of_lt_mul (by omega)
    have hlr : l % n < n := Nat.mod_lt _ (by omega)
    refine w_Mf hM rfl (w_MI hM ?_)
    rw [h27]
    refine w_divP ⟨by omega, by omega, by omega⟩ ⟨by omega, by omega, by omega⟩ (w_MI hM ?_)
    rw [h27]
    refine w_remP ⟨by omega, by omega, by omega⟩ ⟨by omega, by omega, by omega⟩ (w_MI hM ?_)
    rw [h26]
    refine w_remP h1 ⟨by omega, by omega, by omega⟩ ?_
    rw [show ((l : Int) / (n : Int)) = ((l / n : Nat) : Int) from rfl, show ((l : Int) % (n : Int)) = ((l % n : Nat) : Int) from rfl, show (((v / q ^ l : Nat) : Int) % (q : Int)) = ((v / q ^ l % q : Nat) : Int) from rfl, z_5, z_1, zI_mul, zI_add, show (5 * ((l / n : Nat) : Int) + ((l % n : Nat) : Int)) = ((5 * (l / n) + l % n : Nat) : Int) by omega]
    refine w_ast (hM.ka (o := 32) (d := (0, 25)) rfl) (by omega) (by omega) (w_MI hM ?_)
    rw [show (((5 * (l / n) + l % n : Nat) : Int).toNat) = 5 * (l / n) + l % n from rfl, upb (show m ≠ m + 32 by omega), h26]
    refine w_divP h1 ⟨by omega, by omega, by omega⟩ ?_
    have e1 : (((v / q ^ l : Nat) : Int) / (q : Int)) = ((v / q ^ (l + 1) : Nat) : Int) := by
      rw [Nat.pow_succ, ← Nat.div_div_eq_div_mul]
      rfl
    rw [e1, zI_add, show ((l : Int) + 1) = ((l + 1 : Nat) : Int) by omega]
    refine w_jcontB (ih (l + 1) _ (by omega) (by rw [upb (show m ≠ m + 32 by omega)]; exact h26) (by rw [upb (show m ≠ m + 32 by omega)]; exact h27) (fun l' hl' => ?_) (fun N2 g1 g2 => h N2 g1 (fun b hb => (g2 b hb).trans (upb hb))))
    by_cases e : l' = l
    · rw [e, upv]
    · have hne : 5 * (l' / n) + l' % n ≠ 5 * (l / n) + l % n := fun x => by
        have hl2 : l' % n < n := Nat.mod_lt _ (by omega)
        have hd : l' / n = l / n := by omega
        have hm2 : l' % n = l % n := by omega
        have a1 := Nat.div_add_mod l' n
        have a2 := Nat.div_add_mod l n
        rw [hd, hm2] at a1
        omega
      rw [upk hne]
      exact hB l' (by omega)
end SEE
