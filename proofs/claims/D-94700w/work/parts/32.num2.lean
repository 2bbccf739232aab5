/-! NUMBERS: quotients and remainders. -/
section NUM2
variable {μ : Type}
theorem zI_max : Int32.maxValue.toInt = 2147483647 := by decide
theorem zR_max {a : Int} (h : zR a) : a ≤ Int32.maxValue.toInt := by rw [zI_max]; have := h.2; omega
theorem zR_min {a : Int} (h : zR a) : Int32.minValue.toInt ≤ a := by rw [show Int32.minValue.toInt = -2147483648 from by decide]; exact h.1
theorem zI_div {a b : Int} (ha : zR a) (hb : zR b) : zI a / zI b = zI (a.tdiv b) := by
  unfold zI
  exact (Int32.ofInt_tdiv (zR_min ha) (zR_max ha) (zR_min hb) (zR_max hb)).symm
theorem zI_rem {a b : Int} (ha : zR a) (hb : zR b) : zI a - zI a / zI b * zI b = zI (a.tmod b) := by
  rw [zI_div ha hb, zI_mul, zI_sub]
  congr 1
  rw [Int.tmod_def, Int.mul_comm]
theorem go_rem {a b : Int} {Q : Int32 → μ → Prop} {M : μ} (ha : zR a) (hb : zR b) (h0 : b ≠ 0) (q : Q (zI (a.tmod b)) M) : Go (jrem (zI a) (zI b)) Q M := by
  refine ⟨_, _, ?_, q⟩
  unfold jrem
  rw [if_neg, zI_rem ha hb]
  intro h
  exact h0 ((zI_inj hb ⟨by omega, by omega⟩).mp (h.trans (show (0 : Int32) = zI 0 from rfl)))
theorem go_div {a b : Int} {Q : Int32 → μ → Prop} {M : μ} (ha : zR a) (hb : zR b) (h0 : b ≠ 0) (q : Q (zI (a.tdiv b)) M) : Go (jdiv (zI a) (zI b)) Q M := by
  refine ⟨_, _, ?_, q⟩
  unfold jdiv
  rw [if_neg, zI_div ha hb]
  intro h
  exact h0 ((zI_inj hb ⟨by omega, by omega⟩).mp (h.trans (show (0 : Int32) = zI 0 from rfl)))
end NUM2
