/-! POWERS of brackets with one vector. -/
set_option maxRecDepth 100000
section PWR
variable {p : Int} {n : Nat} {T : Nat → Nat → Nat → Int} {x : Nat → Int} {Y : Nat → Int} {Z : Nat → Nat → Int}
theorem bk_un (j : Nat) : sm n (fun k => Y k * bk n T x (un k) j) = bk n T x Y j := by
  have key : ∀ l, l ≤ n → sm l (fun k => Y k * bk n T x (un k) j) = bk n T x (fun k => if k < l then Y k else 0) j := by
    intro l
    induction l with
    | zero =>
      intro _
      have e : (fun k => if k < 0 then Y k else 0) = fun _ => (0 : Int) := funext fun k => if_neg (by omega)
      rw [e, bk_z2]
      rfl
    | succ l ih =>
      intro hl
      have e : (fun k => if k < l + 1 then Y k else 0) = fun i => (if i < l then Y i else 0) + Y l * un l i := by
        funext k
        unfold un
        by_cases c : k = l
        · rw [c, if_pos (by omega), if_neg (by omega), if_pos rfl]; omega
        · rw [if_neg c]
          by_cases c2 : k < l
          · rw [if_pos c2, if_pos (by omega)]; omega
          · rw [if_neg c2, if_neg (by omega)]; omega
      rw [e, bk_ax2, ← ih (by omega)]
      rfl
  rw [key n (Nat.le_refl n)]
  unfold bk
  exact sm_congr (fun i hi => sm_congr (fun k hk => by
    show x i * (if k < n then Y k else 0) * T i k j = _
    rw [if_pos hk]))
theorem mmul_ad (i j : Nat) : mmul p n Z (adM p n T x) i j = bk n T x (Z i) j % p := by
  unfold mmul
  rw [← bk_un]
  refine Cg.iff_mod.mp (Cg.sm (fun k hk => Cg.ml _ ?_))
  exact Cg.mod p _
/-- brackets again and again -/
def pwr (p : Int) (n : Nat) (T : Nat → Nat → Nat → Int) (x : Nat → Int) : Nat → Nat → Nat → Int
  | 0, i => un i
  | k + 1, i => fun j => bk n T x (pwr p n T x k i) j % p
theorem pwr_1 : pwr p n T x 1 = adM p n T x := rfl
theorem pwr_s (k i j : Nat) : mmul p n (pwr p n T x k) (adM p n T x) i j = pwr p n T x (k + 1) i j := mmul_ad i j
end PWR
