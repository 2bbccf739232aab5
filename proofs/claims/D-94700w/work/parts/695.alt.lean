/-! TABLES from their upper halves. -/
set_option maxRecDepth 100000
section ALT
variable {p : Int} {n : Nat} {S S' : Nat → Nat → Nat → Int}
def altT (p : Int) (n : Nat) (S : Nat → Nat → Nat → Int) (i j k : Nat) : Int := if i < n ∧ j < n ∧ k < n then (if i < j then S i j k % p else if j < i then (-S j i k) % p else 0) else 0
theorem altT_q (h : ∀ i j k, i < j → j < n → k < n → S i j k = S' i j k) : altT p n S = altT p n S' := by
  funext i j k
  unfold altT
  by_cases c : i < n ∧ j < n ∧ k < n
  · rw [if_pos c, if_pos c]
    by_cases c1 : i < j
    · rw [if_pos c1, if_pos c1, h i j k c1 c.2.1 c.2.2]
    · rw [if_neg c1, if_neg c1]
      by_cases c2 : j < i
      · rw [if_pos c2, if_pos c2, h j i k c2 c.1 c.2.2]
      · rw [if_neg c2, if_neg c2]
  · rw [if_neg c, if_neg c]
theorem neg_mod (x p : Int) : (-(x % p)) % p = (-x) % p := by
  have h : -x = -(x % p) + p * (-(x / p)) := by
    have := Int.emod_add_mul_ediv x p
    rw [Int.mul_neg]
    omega
  rw [h, Int.add_mul_emod_self_left]
theorem altT_ok (hp : Pr p) (hn : 1 ≤ n ∧ n ≤ 5) : WOk p n (altT p n S) := by
  have hp1 := hp.pos
  refine ⟨hp, hn.1, hn.2, fun i j k => ?_, fun i j k h => if_neg h, fun i j k => ?_, fun i k => ?_⟩
  · unfold altT
    split
    · split
      · exact ⟨Int.emod_nonneg _ (by omega), Int.emod_lt_of_pos _ (by omega)⟩
      · split
        · exact ⟨Int.emod_nonneg _ (by omega), Int.emod_lt_of_pos _ (by omega)⟩
        · omega
    · omega
  · unfold altT
    by_cases c : i < n ∧ j < n ∧ k < n
    · rw [if_pos c, if_pos (show j < n ∧ i < n ∧ k < n by omega)]
      rcases Nat.lt_trichotomy i j with e | e | e
      · rw [if_pos e, if_neg (by omega), if_pos e, neg_mod]
      · rw [if_neg (by omega), if_neg (by omega), if_neg (by omega), if_neg (by omega)]; rfl
      · rw [if_pos e, if_neg (by omega), if_pos e, neg_mod, Int.neg_neg]
    · rw [if_neg c, if_neg (show ¬ (j < n ∧ i < n ∧ k < n) by omega)]; rfl
  · unfold altT
    split
    · rw [if_neg (by omega), if_neg (by omega)]
    · rfl
theorem altT_z : altT p n (fun _ _ _ => 0) = fun _ _ _ => 0 := by
  funext i j k
  unfold altT
  split
  · split
    · rfl
    · split
      · rfl
      · rfl
  · rfl
/-- one is set -/
def stT (S : Nat → Nat → Nat → Int) (i j k : Nat) (v : Int) : Nat → Nat → Nat → Int := fun a b c => if a = i ∧ b = j ∧ c = k then v else S a b c
theorem altT_st {i j k : Nat} {v : Int} (hij : i < j) (hj : j < n) (hk : k < n) (a b c : Nat) :
    altT p n (stT S i j k v) a b c = if a = j ∧ b = i ∧ c = k then (-v) % p else if a = i ∧ b = j ∧ c = k then v % p else altT p n S a b c := by
  unfold altT stT
  by_cases c1 : a = j ∧ b = i ∧ c = k
  · obtain ⟨rfl, rfl, rfl⟩ := c1
    rw [if_pos (by omega), if_neg (by omega), if_pos hij, if_pos ⟨rfl, rfl, rfl⟩, if_pos ⟨rfl, rfl, rfl⟩]
  · rw [if_neg c1]
    by_cases c2 : a = i ∧ b = j ∧ c = k
    · obtain ⟨rfl, rfl, rfl⟩ := c2
      rw [if_pos (by omega), if_pos hij, if_pos ⟨rfl, rfl, rfl⟩, if_pos ⟨rfl, rfl, rfl⟩]
    · rw [if_neg c2, if_neg c2, if_neg (show ¬ (b = i ∧ a = j ∧ c = k) from fun e => c1 ⟨e.2.1, e.1, e.2.2⟩)]
end ALT
