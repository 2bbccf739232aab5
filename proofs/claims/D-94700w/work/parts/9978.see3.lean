/-! ALL TABLES THAT ARE ALIKE are seen, from the start, the model. -/
set_option maxRecDepth 100000
section SEE3
variable {τ : Type} {M M' : Mem} {N N' N0 : NM} {m q n : Nat} {S T : Tbl}
theorem m_seeAll {g : Unit → JM Mem τ} {Q : τ → Mem → NM → Prop} {P : Nat → Prop} (hM : ML M m) (hqn : q = 2 ∧ 1 ≤ n ∧ n ≤ 3 ∨ q = 3 ∧ 1 ≤ n ∧ n ≤ 2) (hp : Pr (q : Int)) (hD : MT M N m q n S) (hs : SnM N m (tbN q n) P)
    (h : ∀ N', MT M N' m q n S → SnM N' m (tbN q n) (fun y => P y ∨ ∃ u, u < q ^ (n * n) ∧ hit q n (altT q n S) u y) → SeF m N N' → GN M N' (g ()) Q) : GN M N (jb (jcall 7 m (f_X8_seeAll m)) g) Q := by
  refine w_Mc hM ?_
  unfold f_X8_seeAll
  have hb : n * n ≤ 9 ∧ q ^ (n * n) ≤ 512 := by
    have : (n = 1 ∧ (q = 2 ∨ q = 3)) ∨ (n = 2 ∧ (q = 2 ∨ q = 3)) ∨ (n = 3 ∧ q = 2) := by omega
    rcases this with ⟨rfl, rfl | rfl⟩ | ⟨rfl, rfl | rfl⟩ | ⟨rfl, rfl⟩ <;> decide
  have hpw : (q : Int) ^ (n * n) = ((q ^ (n * n) : Nat) : Int) := (Int.natCast_pow q (n * n)).symm
  refine w_MI hM (w_MI hM ?_)
  rw [hD.2.2.2.2, zI_mul, show ((n : Int) * (n : Int)) = ((n * n : Nat) : Int) from (Int.natCast_mul n n).symm]
  refine w_powerOf hM (hD.ma hM hp (by omega)) hb.1 (by rw [hpw]; omega) ?_
  rw [hpw, z_0]
  refine m_sA (P := P) hM hqn hp (q ^ (n * n)) (by omega) (q ^ (n * n)) 0 N (by omega) hD (fun y hy => ?_) (fun N1 hD1 hs1 hF1 => h N1 hD1 hs1 hF1)
  rcases hs y hy with ⟨s1, s2⟩ | ⟨s1, s2⟩
  · exact Or.inl ⟨s1, Or.inl s2⟩
  · refine Or.inr ⟨s1, fun x => ?_⟩
    rcases x with x | ⟨u, hu, _⟩
    · exact s2 x
    · omega
end SEE3
