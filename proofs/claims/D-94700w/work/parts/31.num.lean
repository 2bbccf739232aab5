/-! NUMBERS: ints of the machine by integers. -/
set_option maxRecDepth 100000
section NUM
def zI (z : Int) : Int32 := Int32.ofInt z
def zR (z : Int) : Prop := -2147483648 ≤ z ∧ z < 2147483648
theorem zI_to {z : Int} (h : zR z) : (zI z).toInt = z := by
  unfold zI
  exact Int32.toInt_ofInt_of_le (by have := h.1; simpa using this) (by have := h.2; simpa using this)
theorem zI_of (x : Int32) : zI x.toInt = x := by unfold zI; exact Int32.ofInt_toInt x
theorem zI_add (a b : Int) : zI a + zI b = zI (a + b) := by unfold zI; exact (Int32.ofInt_add a b).symm
theorem zI_sub (a b : Int) : zI a - zI b = zI (a - b) := by unfold zI; exact (Int32.ofInt_sub a b).symm
theorem zI_mul (a b : Int) : zI a * zI b = zI (a * b) := by unfold zI; exact (Int32.ofInt_mul a b).symm
theorem zI_neg (a : Int) : -zI a = zI (-a) := by unfold zI; exact (Int32.ofInt_neg a).symm
theorem zI_inj {a b : Int} (ha : zR a) (hb : zR b) : zI a = zI b ↔ a = b := by
  constructor
  · intro h
    have := congrArg Int32.toInt h
    rw [zI_to ha, zI_to hb] at this
    exact this
  · intro h; rw [h]
theorem zI_lt {a b : Int} (ha : zR a) (hb : zR b) : zI a < zI b ↔ a < b := by
  rw [Int32.lt_iff_toInt_lt, zI_to ha, zI_to hb]
theorem zI_le {a b : Int} (ha : zR a) (hb : zR b) : zI a ≤ zI b ↔ a ≤ b := by
  rw [Int32.le_iff_toInt_le, zI_to ha, zI_to hb]
theorem zI_nat {k : Nat} (h : k < 2147483648) : (zI k).toNatClampNeg = k := by
  have h1 : (zI k).toInt = k := zI_to ⟨by omega, by omega⟩
  have h2 : (zI k).toNatClampNeg = (zI k).toInt.toNat := rfl
  rw [h2, h1]
  rfl
end NUM
section GOA
variable {M : Mem}
theorem zI_in {n k : Nat} (hk : k < n) (hn : n ≤ 100000) : 0 ≤ (zI k).toInt ∧ (zI k).toInt < (n : Int) := by
  rw [zI_to ⟨by omega, by omega⟩]
  omega
theorem go_ald {α : Type} {g : Mem → Nat → Nat → α} {t a n k : Nat} {Q : α → Mem → Prop} (hK : mK M a = some (.inr (t, n))) (hk : k < n) (hn : n ≤ 100000) (q : Q (g M a k) M) : Go (jald g t a (zI k)) Q M := by
  refine ⟨_, _, ?_, q⟩
  unfold jald
  rw [hK]
  show (if t = t ∧ 0 ≤ (zI k).toInt ∧ (zI k).toInt < (n : Int) then _ else none) = _
  rw [if_pos ⟨rfl, zI_in hk hn⟩, zI_nat (by omega)]
theorem go_aldA {t a n k b : Nat} {Q : Nat → Mem → Prop} (hK : mK M a = some (.inr (t, n))) (hk : k < n) (hn : n ≤ 100000) (hR : mR M a k = some b) (q : Q b M) : Go (jaldA t a (zI k)) Q M := by
  refine ⟨b, M, ?_, q⟩
  unfold jaldA
  rw [hK]
  simp only [zI_nat (show k < 2147483648 by omega), hR, zI_in hk hn, and_self, if_true]
theorem go_ast {t a n k : Nat} {ok : Mem → Bool} {up : Mem → Mem} {Q : Unit → Mem → Prop} (hK : mK M a = some (.inr (t, n))) (hk : k < n) (hn : n ≤ 100000) (ho : ok M = true) (q : Q () (up M)) : Go (jast t a (zI k) ok up) Q M := by
  refine ⟨(), _, ?_, q⟩
  unfold jast
  rw [hK]
  simp only [zI_in hk hn, ho, and_self, if_true]
theorem go_ast_i {a n k : Nat} {x : Int32} {Q : Unit → Mem → Prop} (hK : mK M a = some (.inr (0, n))) (hk : k < n) (hn : n ≤ 100000) (q : Q () (sI M (up2 (mI M) a k x))) : Go (jast_i a (zI k) x) Q M := by
  unfold jast_i
  refine go_ast hK hk hn rfl ?_
  rw [zI_nat (by omega)]
  exact q
theorem go_ast_l {a n k : Nat} {x : Int64} {Q : Unit → Mem → Prop} (hK : mK M a = some (.inr (3, n))) (hk : k < n) (hn : n ≤ 100000) (q : Q () (sL M (up2 (mL M) a k x))) : Go (jast_l a (zI k) x) Q M := by
  unfold jast_l
  refine go_ast hK hk hn rfl ?_
  rw [zI_nat (by omega)]
  exact q
theorem go_alen {a t n : Nat} {Q : Int32 → Mem → Prop} (hK : mK M a = some (.inr (t, n))) (q : Q (zI n) M) : Go (jalen a) Q M := by
  refine ⟨_, _, ?_, q⟩
  unfold jalen
  rw [hK]
  rfl
end GOA
