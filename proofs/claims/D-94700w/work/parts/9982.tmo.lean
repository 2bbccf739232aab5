/-! TABLES, the model's op. -/
set_option maxRecDepth 100000
section TMO
variable {τ : Type} {M M' : Mem} {N N' N0 N1 N2 : NM} {m q n x mx : Nat} {S S' : St} {p z w : Int}
noncomputable def b_tables (p z w : Int) : Int × Int := @ite _ (tbOk p z w) (Classical.propDecidable _) (((msF p.toNat z.toNat w (tbN p.toNat z.toNat)).1 : Int), 0) (-1, 5)
theorem m_tGood {f : Int32 → JM Mem τ} {Q : τ → Mem → NM → Prop} (hR : MR M N m (stU S 0 0)) (hqn : q = 2 ∧ 1 ≤ n ∧ n ≤ 3 ∨ q = 3 ∧ 1 ≤ n ∧ n ≤ 2) (hw0 : w = 0 ∨ w = 1) (h : mPost M N m (stU S 0 0) (f (zI ((msF q n w (tbN q n)).1 : Nat))) Q) :
    GN M N (X8_tables_b47 m (zI (q : Nat)) (zI (n : Nat)) (zI w) (zI 1)) (fun v M1 N1 => GN M1 N1 (f v) Q) := by
  have hM := hR.ml
  have hw : zR w := ⟨by omega, by omega⟩
  have hpr : Pr (q : Int) := by
    rcases hqn with ⟨rfl, _⟩ | ⟨rfl, _⟩
    · exact Or.inl rfl
    · exact Or.inr (Or.inl rfl)
  have hb : n * n * (n - 1) / 2 ≤ 9 ∧ tbN q n ≤ 512 ∧ (n : Int) * ((n : Int) - 1) / 2 * n = ((n * n * (n - 1) / 2 : Nat) : Int) ∧ 0 ≤ (n : Int) * ((n : Int) - 1) ∧ (n : Int) * ((n : Int) - 1) ≤ 100 := by
    have : (n = 1 ∧ (q = 2 ∨ q = 3)) ∨ (n = 2 ∧ (q = 2 ∨ q = 3)) ∨ (n = 3 ∧ q = 2) := by omega
    rcases this with ⟨rfl, rfl | rfl⟩ | ⟨rfl, rfl | rfl⟩ | ⟨rfl, rfl⟩ <;> decide
  unfold X8_tables_b47
  rw [zL_int hw, show (0 : Int64) = zL 0 from rfl, show (1 : Int64) = zL 1 from rfl, z_0]
  refine w_eq ⟨by omega, by omega⟩ ⟨by omega, by omega⟩ (fun y => absurd y (by decide)) (fun _ => ?_)
  refine w_isIn (zRL_of hw) ⟨by omega, by omega⟩ ⟨by omega, by omega⟩ ?_
  rw [if_pos (show 0 ≤ w ∧ w ≤ 1 by omega)]
  refine w_eq ⟨by omega, by omega⟩ ⟨by omega, by omega⟩ (fun y => absurd y (by decide)) (fun _ => ?_)
  have k35 := hM.ka (o := 35) (d := (0, 127)) rfl
  refine w_Mf hM rfl (w_mclear (B := 0) k35 ⟨by omega, by omega⟩ (fun N2 hW2 f2 _ => ?_))
  refine w_Mf hM rfl (w_ask (B := 0) (T := fun _ _ _ => 0) hM (Or.inr rfl) k35 ⟨by omega, by omega⟩ hW2 (by rw [← altT_z (p := (q : Int)) (n := n)]; exact altT_ok hpr (by omega)) (fun M3 N3 hB3 _ hA3 f3 g3 => ?_))
  have hM3 := hM.bg hB3
  have hD3 : MT M3 N3 m q n (fun _ _ _ => 0) := ⟨by rw [altT_z]; obtain ⟨w1, w2, w3⟩ := hW2; exact ⟨by rw [f3 _ (by omega)]; exact w1, by rw [f3 _ (by omega)]; exact w2, by rw [f3 _ (by omega)]; exact w3⟩, hA3.1, hA3.2.1, hA3.2.2.1, hA3.2.2.2.1⟩
  refine w_Mc hM3 ?_
  unfold f_X8_numbersOf
  rw [z_1, z_2, zI_sub, zI_mul]
  refine w_divP ⟨by omega, by omega, by omega⟩ ⟨by omega, by omega, by omega⟩ (w_jp ?_)
  rw [zI_mul, hb.2.2.1]
  have hpw : (q : Int) ^ (n * n * (n - 1) / 2) = ((tbN q n : Nat) : Int) := (Int.natCast_pow q _).symm
  refine w_powerOf hM3 hA3 hb.1 (by rw [hpw]; omega) ?_
  rw [hpw]
  refine m_tC hM3 hb.2.1 (tbN q n) 0 N3 (by omega) (fun y hy => by omega) (fun N4 h4 f4 => ?_)
  unfold X8_tables_b124
  rw [z_0]
  have hD4 : MT M3 N4 m q n (fun _ _ _ => 0) := hD3.fr (fun b _ _ _ _ _ a6 => f4 b a6)
  refine m_tX hM3 hqn hpr hw0 hb.2.1 rfl (tbN q n) 0 N4 _ (by omega) hD4 (fun y hy => Or.inr ⟨h4 y hy, fun x => x⟩) (fun N5 hF5 => ?_)
  have fo : ∀ b, b < m + 7 ∧ b ≠ m ∨ b = m + 8 ∨ m + 17 < b ∧ b < m + 25 ∨ m + 36 ≤ b → N5 b = N b := fun b hb => by rw [hF5 b (by omega), f4 b (by omega), f3 b (by omega), f2 b (by omega)]
  have fm : ∀ k, k ≠ 25 → k ≠ 26 → k ≠ 27 → N5 m k = N m k := fun k a1 a2 a3 => by rw [hF5 m (by omega), f4 m (by omega), g3 k a1 a2 a3, f2 m (by omega)]
  refine h M3 N5 ?_ (MFm.bg hB3 (fun b hb => fo b (by omega)))
  exact (hR.bg hB3).ag hM3 (fun b x y => fo b (by omega)) (fo _ (by omega)) (fun k hk => fm k (by omega) (by omega) (by omega)) ⟨rfl, rfl, rfl⟩
end TMO
