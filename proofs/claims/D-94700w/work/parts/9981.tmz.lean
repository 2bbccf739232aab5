/-! TABLES, the model: nothing is seen yet. -/
set_option maxRecDepth 100000
section TMZ
variable {τ : Type} {M M' : Mem} {N N' N0 N1 N2 : NM} {m q n x mx : Nat} {S T : Tbl} {w : Int}
theorem m_tC {Q : Int32 → Mem → NM → Prop} {x3 : Int32} (hM : ML M m) (hmx : mx ≤ 512) :
    ∀ f x (N : NM), x + f = mx → (∀ y, y < x → N (m + 34) y = 0) → (∀ N', (∀ y, y < mx → N' (m + 34) y = 0) → (∀ b, b ≠ m + 34 → N' b = N b) → GN M N' (X8_tables_b124 m x3 (zI (mx : Nat))) Q) →
      GN M N (jloop (fun t => X8_tables_L103 m x3 (zI (mx : Nat)) t) (zI (x : Nat))) Q := by
  intro f
  induction f with
  | zero =>
    intro x N hx h0 h
    obtain rfl : x = mx := by omega
    refine w_unroll ?_
    unfold X8_tables_L103
    exact w_le ⟨by omega, by omega⟩ ⟨by omega, by omega⟩ (fun _ => w_jinl (h N h0 (fun _ _ => rfl))) (fun y => absurd y (by omega))
  | succ f ih =>
    intro x N hx h0 h
    refine w_unroll ?_
    unfold X8_tables_L103
    rw [z_0, z_1]
    refine w_le ⟨by omega, by omega⟩ ⟨by omega, by omega⟩ (fun y => absurd y (by omega)) (fun _ => ?_)
    refine w_Mf hM rfl (w_astZ (hM.ka (o := 34) (d := (4, 512)) rfl) (by omega) (by omega) (Or.inl rfl) ?_)
    rw [show ((x : Int).toNat) = x from rfl, zI_add, show ((x : Int) + 1) = ((x + 1 : Nat) : Int) by omega]
    refine w_jcontB (ih (x + 1) _ (by omega) (fun y hy => ?_) (fun N2 g1 g2 => h N2 g1 (fun b hb => (g2 b hb).trans (upb hb))))
    by_cases e : y = x
    · rw [e, upv]
    · rw [upk e]
      exact h0 y (by omega)
end TMZ
