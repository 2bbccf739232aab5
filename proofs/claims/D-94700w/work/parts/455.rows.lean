/-! ROWS that are worked on: what they generate stays. -/
set_option maxRecDepth 100000
section ROWS
variable {p : Int} {n m : Nat}
/-- what the first m rows generate -/
def Rs (p : Int) (n m : Nat) (B : Nat → Nat → Int) : VS := Gn p n (fun g => ∃ r, r < m ∧ g = B r)
variable {B C : Nat → Nat → Int}
theorem Rs.sb : Sbp p n (Rs p n m B) := Gn.sb
theorem Rs.mem {r : Nat} (hr : r < m) : Rs p n m B (B r) := Gn.mem ⟨r, hr, rfl⟩
theorem Rs.le {S : VS} (hS : Sbp p n S) (h : ∀ r, r < m → S (B r)) {v : Nat → Int} (hv : Rs p n m B v) : S v := Gn.le hS (fun g ⟨r, hr, e⟩ => by rw [e]; exact h r hr) hv
theorem Rs.eq (h1 : ∀ r, r < m → Rs p n m C (B r)) (h2 : ∀ r, r < m → Rs p n m B (C r)) : Rs p n m B = Rs p n m C :=
  vs_anti (fun _ hv => Rs.le Rs.sb h1 hv) (fun _ hv => Rs.le Rs.sb h2 hv)
theorem Rs.q (h : ∀ r, r < m → Vq p n (B r) (C r)) : Rs p n m B = Rs p n m C :=
  Rs.eq (fun r hr => Rs.sb.q (Rs.mem hr) (h r hr).sy) (fun r hr => Rs.sb.q (Rs.mem hr) (h r hr))
/-- one step of the elimination -/
theorem Rs.step {rk r col : Nat} {a : Int} (hrk : rk ≤ r) (hr : r < m) (ha : Cg p (a * B r col) 1)
    (h0 : ∀ q, q < rk → C q = B q) (h1 : Vq p n (C rk) (fun k => a * B r k)) (h2 : ∀ i, rk < i → i < m → Vq p n (C i) (fun k => (if i = r then B rk else B i) k - (if i = r then B rk else B i) col * C rk k)) :
    Rs p n m B = Rs p n m C := by
  have hrkm : rk < m := by omega
  have hU : Rs p n m B (C rk) := Rs.sb.q (Rs.sb.ml a (Rs.mem hr)) h1.sy
  have hBr : Rs p n m C (B r) := by
    refine Rs.sb.q (Rs.sb.ml (B r col) (Rs.mem hrkm)) (fun k hk => ?_)
    refine (Cg.ml (B r col) (h1 k hk)).tr ?_
    have := ha.mul (Cg.rf (a := B r k))
    rw [Int.one_mul] at this
    refine (Cg.of ?_).tr this
    grind
  refine Rs.eq (fun i hi => ?_) (fun i hi => ?_)
  · by_cases c1 : i < rk
    · rw [← h0 i c1]; exact Rs.mem hi
    by_cases c2 : i = r
    · rw [c2]; exact hBr
    -- any other row: by its own place, or r's if it stood at rk
    have key : ∀ j, rk < j → j < m → Rs p n m C ((if j = r then B rk else B j)) := by
      intro j hj hjm
      refine Rs.sb.q (Rs.sb.ax ((if j = r then B rk else B j) col) (Rs.mem hjm) (Rs.mem hrkm)) (fun k hk => ?_)
      have := (h2 j hj hjm k hk).add (Cg.rf (a := (if j = r then B rk else B j) col * C rk k))
      refine this.tr (Cg.of ?_)
      show (if j = r then B rk else B j) k - _ + _ = _
      omega
    by_cases c3 : i = rk
    · have h3 := key r (by omega) hr
      rw [if_pos rfl] at h3
      rw [c3]; exact h3
    · have h3 := key i (by omega) hi
      rw [if_neg c2] at h3
      exact h3
  · by_cases c1 : i < rk
    · rw [h0 i c1]; exact Rs.mem hi
    by_cases c3 : i = rk
    · rw [c3]; exact hU
    refine Rs.sb.q (Rs.sb.ax (-((if i = r then B rk else B i) col)) (?_ : Rs p n m B (if i = r then B rk else B i)) hU) (fun k hk => ?_)
    · split
      · exact Rs.mem hrkm
      · exact Rs.mem hi
    · refine (Cg.of ?_).tr (h2 i (by omega) hi k hk).sy
      grind
theorem Rs.cut {rk : Nat} (hrk : rk ≤ m) (h : ∀ i, rk ≤ i → i < m → Vq p n (B i) (fun _ => 0)) : Rs p n m B = Rs p n rk B := by
  refine vs_anti (fun v hv => Rs.le Rs.sb (fun r hr => ?_) hv) (fun v hv => Rs.le Rs.sb (fun r hr => Rs.mem (by omega)) hv)
  by_cases c : r < rk
  · exact Rs.mem c
  · exact Rs.sb.zv (h r (by omega) hr)
end ROWS
