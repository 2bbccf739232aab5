/-! TABLES, the component's op, from the start. -/
set_option maxRecDepth 100000
section TBC3
variable {τ : Type} {M M' : Mem} {N N' N0 : NM} {c q n i j k f r x l mx : Nat} {K : Nat → Nat} {p z w : Int} {S S' : St}
def tbOk (p z w : Int) : Prop := (p = 2 ∧ 1 ≤ z ∧ z ≤ 3 ∨ p = 3 ∧ 1 ≤ z ∧ z ≤ 2) ∧ 0 ≤ w ∧ w ≤ 1
def tbN (q n : Nat) : Nat := q ^ (n * n * (n - 1) / 2)
noncomputable def a_tables (p z w : Int) : Int × Int := @ite _ (tbOk p z w) (Classical.propDecidable _) (if w = 0 then ((tbF p.toNat z.toNat w (tbN p.toNat z.toNat)).1 : Int) else ((tbF p.toNat z.toNat w (tbN p.toNat z.toNat)).2.1 : Int), 0) (-1, 5)
/-- there are few kinds -/
def TbB : Prop := ∀ q n, (q = 2 ∧ 1 ≤ n ∧ n ≤ 3 ∨ q = 3 ∧ 1 ≤ n ∧ n ≤ 2) → ∀ x, x ≤ tbN q n → (tbF q n 1 x).2.1 ≤ 20
theorem c_tP {Q : Int32 → Mem → NM → Prop} {x2 x3 : Int32} (hq : q ≤ 7) : ∀ d a, a * q ^ d ≤ 100000 → 0 < q → d ≤ 100 → (GN M N (X0_tables_b114 c (zI (q : Nat)) x2 x3 (zI ((a * q ^ d : Nat) : Int))) Q) → GN M N (jloop (fun t => X0_tables_L97 c (zI (q : Nat)) x2 x3 t.1 t.2) (zI (a : Nat), zI (d : Nat))) Q := by
  intro d
  induction d with
  | zero =>
    intro a ha hq0 hd h
    refine w_unroll ?_
    unfold X0_tables_L97
    rw [z_0]
    rw [Nat.pow_zero, Nat.mul_one] at h
    exact w_le ⟨by omega, by omega⟩ ⟨by omega, by omega⟩ (fun _ => w_jinl h) (fun y => absurd (show (0 : Int) < ((0 : Nat) : Int) from y) (by decide))
  | succ d ih =>
    intro a ha hq0 hd h
    refine w_unroll ?_
    unfold X0_tables_L97
    rw [z_m1, z_0]
    refine w_le ⟨by omega, by omega⟩ ⟨by omega, by omega⟩ (fun y => absurd y (by omega)) (fun _ => ?_)
    rw [zI_mul, zI_add, show ((a : Int) * (q : Int)) = ((a * q : Nat) : Int) from (Int.natCast_mul a q).symm, show (((d + 1 : Nat) : Int) + (-1)) = ((d : Nat) : Int) by omega]
    have e : a * q ^ (d + 1) = a * q * q ^ d := by rw [Nat.pow_succ, Nat.mul_assoc, Nat.mul_comm (q ^ d) q]
    rw [e] at ha h
    exact w_jlet (w_jcontB (ih (a * q) ha hq0 (by omega) h))
theorem c_tables {f : Int32 → JM Mem τ} {Q : τ → Mem → NM → Prop} (hB : TbB) (hR : CR M N c S) (hp : zR p) (hz : zR z) (hw : zR w) (h : cPost M N c (stU S 0 (a_tables p z w).2) (f (zI (a_tables p z w).1)) Q) : GN M N (jb (jcall 0 c (f_X0_tables c (zI p) (zI z) (zI w))) f) Q := by
  have hC := hR.cl
  refine w_Cc hC ?_
  unfold f_X0_tables X0_tables_b10 X0_tables_b27 X0_tables_b46
  have bad : ¬ tbOk p z w → GN M N (X0_tables_b47 c (zI p) (zI z) (zI w) (zI 0)) (fun v M1 N1 => GN M1 N1 (f v) Q) := fun hn => by
    unfold X0_tables_b47
    rw [show a_tables p z w = (-1, 5) from if_neg hn] at h
    rw [z_5, z_0]
    exact w_eq ⟨by omega, by omega⟩ ⟨by omega, by omega⟩ (fun _ => w_none hC (w_jp (c_fin0 hR h))) (fun y => absurd rfl y)
  have good : tbOk p z w → GN M N (X0_tables_b47 c (zI p) (zI z) (zI w) (zI 1)) (fun v M1 N1 => GN M1 N1 (f v) Q) := fun hok => by
    unfold X0_tables_b47
    rw [show a_tables p z w = _ from if_pos hok] at h
    obtain ⟨hpz, hw0⟩ := hok
    obtain ⟨q, rfl⟩ : ∃ k : Nat, p = k := ⟨p.toNat, by omega⟩
    obtain ⟨n, rfl⟩ : ∃ k : Nat, z = k := ⟨z.toNat, by omega⟩
    rw [show ((q : Int).toNat) = q from rfl, show ((n : Int).toNat) = n from rfl] at h
    have hqn : q = 2 ∧ 1 ≤ n ∧ n ≤ 3 ∨ q = 3 ∧ 1 ≤ n ∧ n ≤ 2 := by omega
    have hmx : tbN q n ≤ 100000 := by
      have : (q = 2 ∧ (n = 1 ∨ n = 2 ∨ n = 3)) ∨ (q = 3 ∧ (n = 1 ∨ n = 2)) := by omega
      rcases this with ⟨rfl, rfl | rfl | rfl⟩ | ⟨rfl, rfl | rfl⟩ <;> decide
    have hpr : Pr (q : Int) := by
      rcases hqn with ⟨rfl, _⟩ | ⟨rfl, _⟩
      · exact Or.inl rfl
      · exact Or.inr (Or.inl rfl)
    have hW := hC.w224
    rw [z_0, z_1, z_2]
    refine w_eq ⟨by omega, by omega⟩ ⟨by omega, by omega⟩ (fun y => absurd y (by decide)) (fun _ => ?_)
    refine w_Cf hC rfl (w_clear hW (fun N1 z1 g1 => ?_))
    refine w_Cf hC rfl (w_putI hW.1 (w_Cf hC rfl (w_putI hW.1 ?_)))
    have hD2 : WD (up2 (up2 N1 (c + 224) 1 (q : Nat)) (c + 224) 2 (n : Nat)) (c + 224) q n (altT q n (fun _ _ _ => 0)) := by
      refine ⟨by rw [upk (by omega), upv], upv, fun i j k hi hj hk => ?_, altT_ok hpr ⟨by omega, by omega⟩⟩
      rw [altT_z, upb (by omega), upb (by omega)]
      exact z1 i j k hi hj hk
    have hF2 : CFr c N (up2 (up2 N1 (c + 224) 1 (q : Nat)) (c + 224) 2 (n : Nat)) := CFr.of (fun b hb => by rw [upb (by omega), upb (by omega)]; exact g1 b (by omega))
    generalize up2 (up2 N1 (c + 224) 1 (q : Nat)) (c + 224) 2 (n : Nat) = N2 at *
    have hnn : ((n : Int) * (n : Int) * ((n : Int) - 1)) / 2 = ((n * n * (n - 1) / 2 : Nat) : Int) ∧ 0 ≤ ((n : Int) * (n : Int) * ((n : Int) - 1)) ∧ ((n : Int) * (n : Int) * ((n : Int) - 1)) ≤ 100 ∧ n * n * (n - 1) / 2 ≤ 100 := by
      have : n = 1 ∨ n = 2 ∨ n = 3 := by omega
      rcases this with rfl | rfl | rfl <;> decide
    rw [zI_mul, zI_sub, zI_mul]
    refine w_divP ⟨by omega, by omega, by omega⟩ ⟨by omega, by omega, by omega⟩ ?_
    rw [hnn.1]
    have emx : 1 * q ^ (n * n * (n - 1) / 2) = tbN q n := Nat.one_mul _
    refine c_tP (by omega) (n * n * (n - 1) / 2) 1 (by rw [emx]; exact hmx) (by omega) (by omega) ?_
    rw [emx]
    unfold X0_tables_b114
    rw [z_0]
    have hB2 : ∀ x, x ≤ tbN q n → (tbF q n w x).2.1 ≤ 20 := fun x hx => by
      by_cases e : w = 1
      · rw [e]; exact hB q n hqn x hx
      · rw [tbF_0 e]; show 0 ≤ 20; omega
    have hl := tbF_l (q := q) (n := n) (w := w) (tbN q n)
    have hr := hB2 _ (Nat.le_refl _)
    refine c_tX (q := q) (n := n) hC (by omega) (by omega) (by omega) hmx hB2 (tbN q n) 0 N2 (fun _ _ _ => 0) (by omega) hD2 (fun k hk => absurd hk (by show ¬ k < 0; omega)) (fun N3 hF3 => ?_)
    unfold X0_tables_b312 X0_tables_b324
    rw [z_0]
    refine w_eq ⟨by omega, by omega⟩ ⟨by omega, by omega⟩ (fun e => ?_) (fun e => ?_)
    · rw [if_pos e] at h
      exact w_gives hC (w_jp (c_fin hR (Bg.rf hC) (hF2.tr hF3) h))
    · rw [if_neg e] at h
      exact w_gives hC (w_jp (c_fin hR (Bg.rf hC) (hF2.tr hF3) h))
  rw [z_0, z_1, z_2, z_3, zL_int hz, show (1 : Int64) = zL 1 from rfl, show (3 : Int64) = zL 3 from rfl, show (2 : Int64) = zL 2 from rfl]
  have fin : (p = 2 ∨ p = 3) → ∀ m : Int, (p = 2 ∧ m = 3 ∨ p = 3 ∧ m = 2) → GN M N (jb (f_X0_isFrom (zL z) (zL 1) (zL m)) fun v1 => if v1 = zI 0 then X0_tables_b47 c (zI p) (zI z) (zI w) (zI 0) else if zI w < zI 0 then X0_tables_b47 c (zI p) (zI z) (zI w) (zI 0) else if zI 1 < zI w then X0_tables_b47 c (zI p) (zI z) (zI w) (zI 0) else X0_tables_b47 c (zI p) (zI z) (zI w) (zI 1)) (fun v M1 N1 => GN M1 N1 (f v) Q) := fun h2 m hm => by
    refine w_isFrom (zRL_of hz) ⟨by omega, by omega⟩ ⟨by omega, by omega⟩ ?_
    by_cases c1 : 1 ≤ z ∧ z ≤ m
    · rw [if_pos c1]
      refine w_eq ⟨by omega, by omega⟩ ⟨by omega, by omega⟩ (fun y => absurd y (by decide)) (fun _ => ?_)
      refine w_lt hw ⟨by omega, by omega⟩ (fun y => bad (fun x => by have := x.2; omega)) (fun y => ?_)
      exact w_lt ⟨by omega, by omega⟩ hw (fun y => bad (fun x => by have := x.2; omega)) (fun y => good ⟨by omega, by omega, by omega⟩)
    · rw [if_neg c1]
      exact w_eq ⟨by omega, by omega⟩ ⟨by omega, by omega⟩ (fun _ => bad (fun x => c1 (by have := x.1; omega))) (fun y => absurd rfl y)
  refine w_eq hp ⟨by omega, by omega⟩ (fun e => ?_) (fun e => ?_)
  · refine w_eq hp ⟨by omega, by omega⟩ (fun _ => ?_) (fun y => absurd e y)
    exact fin (Or.inl e) 3 (Or.inl ⟨e, rfl⟩)
  · refine w_eq hp ⟨by omega, by omega⟩ (fun e3 => ?_) (fun e3 => bad (fun x => by have := x.1; omega))
    refine w_eq hp ⟨by omega, by omega⟩ (fun y => absurd y e) (fun _ => ?_)
    exact fin (Or.inr e3) 2 (Or.inr ⟨e3, rfl⟩)
end TBC3
