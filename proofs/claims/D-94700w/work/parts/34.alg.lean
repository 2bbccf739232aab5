/-! SUMS, CONGRUENCES, PRIMES: plain. -/
set_option maxRecDepth 100000
section SMS
def sm : Nat → (Nat → Int) → Int
  | 0, _ => 0
  | n + 1, f => sm n f + f n
theorem sm_s (n : Nat) (f : Nat → Int) : sm (n + 1) f = sm n f + f n := rfl
theorem sm_congr {n : Nat} {f g : Nat → Int} (h : ∀ k, k < n → f k = g k) : sm n f = sm n g := by
  induction n with
  | zero => rfl
  | succ n ih => rw [sm_s, sm_s, ih (fun k hk => h k (by omega)), h n (by omega)]
theorem sm_add (n : Nat) (f g : Nat → Int) : sm n (fun k => f k + g k) = sm n f + sm n g := by
  induction n with
  | zero => rfl
  | succ n ih => rw [sm_s, sm_s, sm_s, ih]; omega
theorem sm_mul (n : Nat) (c : Int) (f : Nat → Int) : sm n (fun k => c * f k) = c * sm n f := by
  induction n with
  | zero => exact (Int.mul_zero c).symm
  | succ n ih => rw [sm_s, sm_s, ih, Int.mul_add]
theorem sm_zero (n : Nat) : sm n (fun _ => 0) = 0 := by
  induction n with
  | zero => rfl
  | succ n ih => rw [sm_s, ih]; rfl
theorem sm_neg (n : Nat) (f : Nat → Int) : sm n (fun k => -f k) = -sm n f := by
  induction n with
  | zero => rfl
  | succ n ih => rw [sm_s, sm_s, ih]; omega
theorem sm_sub (n : Nat) (f g : Nat → Int) : sm n (fun k => f k - g k) = sm n f - sm n g := by
  induction n with
  | zero => rfl
  | succ n ih => rw [sm_s, sm_s, sm_s, ih]; omega
theorem sm_swap (n m : Nat) (f : Nat → Nat → Int) : sm n (fun i => sm m (fun j => f i j)) = sm m (fun j => sm n (fun i => f i j)) := by
  induction n with
  | zero => exact (sm_zero m).symm
  | succ n ih =>
    rw [sm_s, ih, ← sm_add]
    rfl
theorem sm_one {n i : Nat} (hi : i < n) (f : Nat → Int) : sm n (fun k => if k = i then f k else 0) = f i := by
  induction n with
  | zero => omega
  | succ n ih =>
    rw [sm_s]
    by_cases h : n = i
    · subst h
      rw [if_pos rfl, sm_congr (g := fun _ => 0) (fun k hk => if_neg (by omega)), sm_zero]; omega
    · rw [if_neg h, ih (by omega)]; omega
theorem sm_bd {n : Nat} {f : Nat → Int} {a b : Int} (h : ∀ k, k < n → a ≤ f k ∧ f k ≤ b) : n * a ≤ sm n f ∧ sm n f ≤ n * b := by
  induction n with
  | zero => exact ⟨by simp [sm], by simp [sm]⟩
  | succ n ih =>
    have h1 := ih (fun k hk => h k (by omega))
    have h2 := h n (by omega)
    rw [sm_s]
    have e1 : ((n + 1 : Nat) : Int) * a = n * a + a := by rw [Int.natCast_add, Int.add_mul]; simp
    have e2 : ((n + 1 : Nat) : Int) * b = n * b + b := by rw [Int.natCast_add, Int.add_mul]; simp
    rw [e1, e2]
    omega
end SMS
section CGS
def Cg (p a b : Int) : Prop := ∃ c, a = b + p * c
variable {p a b c d : Int}
theorem Cg.of (h : a = b) : Cg p a b := ⟨0, by rw [h, Int.mul_zero, Int.add_zero]⟩
theorem Cg.rf : Cg p a a := Cg.of rfl
theorem Cg.sy (h : Cg p a b) : Cg p b a := by
  obtain ⟨c, rfl⟩ := h
  exact ⟨-c, by rw [Int.mul_neg]; omega⟩
theorem Cg.tr (h : Cg p a b) (h2 : Cg p b c) : Cg p a c := by
  obtain ⟨x, rfl⟩ := h
  obtain ⟨y, rfl⟩ := h2
  exact ⟨y + x, by rw [Int.mul_add]; omega⟩
theorem Cg.add (h : Cg p a b) (h2 : Cg p c d) : Cg p (a + c) (b + d) := by
  obtain ⟨x, rfl⟩ := h
  obtain ⟨y, rfl⟩ := h2
  exact ⟨x + y, by rw [Int.mul_add]; omega⟩
theorem Cg.neg (h : Cg p a b) : Cg p (-a) (-b) := by
  obtain ⟨x, rfl⟩ := h
  exact ⟨-x, by rw [Int.mul_neg]; omega⟩
theorem Cg.sub (h : Cg p a b) (h2 : Cg p c d) : Cg p (a - c) (b - d) := by
  rw [Int.sub_eq_add_neg, Int.sub_eq_add_neg]
  exact h.add h2.neg
theorem Cg.mul (h : Cg p a b) (h2 : Cg p c d) : Cg p (a * c) (b * d) := by
  obtain ⟨x, rfl⟩ := h
  obtain ⟨y, rfl⟩ := h2
  exact ⟨b * y + x * d + x * (p * y), by grind⟩
theorem Cg.ml (c : Int) (h : Cg p a b) : Cg p (c * a) (c * b) := Cg.mul Cg.rf h
theorem Cg.mod (p a : Int) : Cg p (a % p) a := ⟨-(a / p), by rw [Int.emod_def, Int.mul_neg, Int.sub_eq_add_neg]⟩
theorem Cg.iff_mod : Cg p a b ↔ a % p = b % p := by
  constructor
  · rintro ⟨c, rfl⟩
    exact Int.add_mul_emod_self_left ..
  · intro h
    exact (Cg.mod p a).sy.tr ((Cg.of h).tr (Cg.mod p b))
theorem Cg.zero_iff : Cg p a 0 ↔ a % p = 0 := by rw [Cg.iff_mod, Int.zero_emod]
theorem Cg.eq (h : Cg p a b) (ha : 0 ≤ a ∧ a < p) (hb : 0 ≤ b ∧ b < p) : a = b := by
  have h1 := Cg.iff_mod.mp h
  rw [Int.emod_eq_of_lt ha.1 ha.2, Int.emod_eq_of_lt hb.1 hb.2] at h1
  exact h1
theorem Cg.sm {n : Nat} {f g : Nat → Int} (h : ∀ k, k < n → Cg p (f k) (g k)) : Cg p (sm n f) (sm n g) := by
  induction n with
  | zero => exact Cg.rf
  | succ n ih =>
    rw [sm_s, sm_s]
    exact (ih (fun k hk => h k (by omega))).add (h n (by omega))
def Pr (p : Int) : Prop := p = 2 ∨ p = 3 ∨ p = 5 ∨ p = 7
theorem Pr.pos (h : Pr p) : 1 < p := by rcases h with h | h | h | h <;> omega
theorem Pr.le7 (h : Pr p) : p ≤ 7 := by rcases h with h | h | h | h <;> omega
theorem Pr.inv (hp : Pr p) (h : ¬ Cg p a 0) : ∃ r, 1 ≤ r ∧ r < p ∧ Cg p (r * a) 1 := by
  have h0 : a % p ≠ 0 := fun e => h (Cg.zero_iff.mpr e)
  rcases hp with rfl | rfl | rfl | rfl
  · exact ⟨1, by omega, by omega, (1 * a - 1) / 2, by omega⟩
  · rcases (show a % 3 = 1 ∨ a % 3 = 2 by omega) with e | e
    · exact ⟨1, by omega, by omega, (1 * a - 1) / 3, by omega⟩
    · exact ⟨2, by omega, by omega, (2 * a - 1) / 3, by omega⟩
  · rcases (show a % 5 = 1 ∨ a % 5 = 2 ∨ a % 5 = 3 ∨ a % 5 = 4 by omega) with e | e | e | e
    · exact ⟨1, by omega, by omega, (1 * a - 1) / 5, by omega⟩
    · exact ⟨3, by omega, by omega, (3 * a - 1) / 5, by omega⟩
    · exact ⟨2, by omega, by omega, (2 * a - 1) / 5, by omega⟩
    · exact ⟨4, by omega, by omega, (4 * a - 1) / 5, by omega⟩
  · rcases (show a % 7 = 1 ∨ a % 7 = 2 ∨ a % 7 = 3 ∨ a % 7 = 4 ∨ a % 7 = 5 ∨ a % 7 = 6 by omega) with e | e | e | e | e | e
    · exact ⟨1, by omega, by omega, (1 * a - 1) / 7, by omega⟩
    · exact ⟨4, by omega, by omega, (4 * a - 1) / 7, by omega⟩
    · exact ⟨5, by omega, by omega, (5 * a - 1) / 7, by omega⟩
    · exact ⟨2, by omega, by omega, (2 * a - 1) / 7, by omega⟩
    · exact ⟨3, by omega, by omega, (3 * a - 1) / 7, by omega⟩
    · exact ⟨6, by omega, by omega, (6 * a - 1) / 7, by omega⟩
theorem Pr.one (hp : Pr p) : ¬ Cg p 1 0 := by
  intro h
  have := h.eq ⟨by omega, hp.pos⟩ ⟨by omega, by have := hp.pos; omega⟩
  omega
theorem Pr.dom (hp : Pr p) (h : Cg p (a * b) 0) (ha : ¬ Cg p a 0) : Cg p b 0 := by
  obtain ⟨r, _, _, hr⟩ := hp.inv ha
  have h1 : Cg p (r * a * b) (1 * b) := hr.mul Cg.rf
  have h2 : Cg p (r * (a * b)) (r * 0) := Cg.ml r h
  rw [Int.mul_assoc] at h1
  rw [Int.mul_zero] at h2
  rw [Int.one_mul] at h1
  exact h1.sy.tr h2
end CGS
