/-! floorMod, by. -/
section FMOD
theorem i32_neg (x : Int32) : x < 0 ↔ x.toBitVec.msb = true := by
  rw [Int32.lt_iff_toInt_lt]
  show x.toBitVec.toInt < 0 ↔ _
  rw [BitVec.msb_eq_toInt]
  simp
theorem i32_xor (x y : Int32) : 0 ≤ x ^^^ y ↔ (x < 0 ↔ y < 0) := by
  rw [← Int32.not_lt, i32_neg, i32_neg, i32_neg]
  show ¬ (x.toBitVec ^^^ y.toBitVec).msb = true ↔ _
  rw [BitVec.msb_xor]
  cases x.toBitVec.msb <;> cases y.toBitVec.msb <;> simp
theorem go_floorMod {a p : Int} {Q : Int32 → Mem → Prop} {M : Mem} (ha : zR a) (hp : 0 < p) (hp2 : zR p) (q : Q (zI (a % p)) M) : Go (f_J8_floorMod (zI a) (zI p)) Q M := by
  unfold f_J8_floorMod
  refine go_jb (go_rem ha hp2 (by omega) ?_)
  have z0 : zR 0 := ⟨by omega, by omega⟩
  have e0 : (0 : Int32) = zI 0 := rfl
  have hx : 0 ≤ zI a ^^^ zI p ↔ (a < 0 ↔ p < 0) := by rw [i32_xor, e0, zI_lt ha z0, zI_lt hp2 z0]
  have hm := Int.emod_nonneg a (show p ≠ 0 by omega)
  have hm2 := Int.emod_lt_of_pos a hp
  refine go_ite (fun h => ?_) (fun h => ?_) <;> rw [hx] at h
  · have h1 : 0 ≤ a := by omega
    refine go_jp ?_
    rw [Int.tmod_eq_emod_of_nonneg h1]
    exact q
  · have h1 : a < 0 := by omega
    have h2 : -p < a.tmod p := Int.lt_tmod_of_pos a hp
    have h3 : a.tmod p < p := Int.tmod_lt_of_pos a hp
    have hr : zR (a.tmod p) := ⟨by have := hp2.2; omega, by have := hp2.2; omega⟩
    have e2 : (a.tmod p) % p = a % p := by
      rw [Int.tmod_def, Int.sub_mul_emod_self_left]
    refine go_ite (fun h5 => ?_) (fun h5 => ?_) <;> rw [e0, zI_inj hr z0] at h5
    · refine go_jp ?_
      rw [h5] at e2 ⊢
      rw [← e2] at q
      simpa using q
    · refine go_jp ?_
      have h6 : a.tmod p < 0 := by
        have h7 := Int.tmod_nonneg p (show 0 ≤ -a by omega)
        rw [Int.neg_tmod] at h7
        omega
      have e3 : a.tmod p + p = a % p := by
        rw [← e2, ← Int.add_emod_right, Int.emod_eq_of_lt (by omega) (by omega)]
      rw [zI_add, e3]
      exact q
end FMOD
