/-! ALL TABLES THAT ARE ALIKE are seen, the model. -/
set_option maxRecDepth 100000
section SEE2
variable {τ : Type} {M M' : Mem} {N N' N0 : NM} {m q n i j k f r x a b v l : Nat} {S T : Tbl}
/-- what has been seen -/
def SnM (N : NM) (m K : Nat) (P : Nat → Prop) : Prop := ∀ y, y < K → N (m + 34) y = 1 ∧ P y ∨ N (m + 34) y = 0 ∧ ¬ P y
def SeF (m : Nat) (N N' : NM) : Prop := ∀ b, b ≠ m + 29 → b ≠ m + 33 → b ≠ m + 17 → b ≠ m + 7 → b ≠ m + 32 → b ≠ m + 34 → N' b = N b
theorem SeF.tr {N2 : NM} (h : SeF m N N') (h2 : SeF m N' N2) : SeF m N N2 := fun b a1 a2 a3 a4 a5 a6 => (h2 b a1 a2 a3 a4 a5 a6).trans (h b a1 a2 a3 a4 a5 a6)
theorem bmt_b (hq : 0 < q) : ∀ i k, 0 ≤ bmt q n v i k ∧ bmt q n v i k < (q : Int) ∧ (n ≤ k → bmt q n v i k = 0) := fun i k => by
  unfold bmt
  by_cases e : k < n
  · rw [if_pos e]
    have := Nat.mod_lt (v / q ^ (n * i + k)) hq
    exact ⟨Int.natCast_nonneg _, Int.ofNat_lt.mpr this, fun x => by omega⟩
  · rw [if_neg e]
    exact ⟨by omega, by omega, fun _ => rfl⟩
theorem MT.fr (h : MT M N m q n S) (hF : SeF m N N') : MT M N' m q n S := by
  have e35 : N' (m + 35) = N (m + 35) := hF _ (by omega) (by omega) (by omega) (by omega) (by omega) (by omega)
  have em : N' m = N m := hF _ (by omega) (by omega) (by omega) (by omega) (by omega) (by omega)
  refine h.st ?_ em
  obtain ⟨w1, w2, w3⟩ := h.1
  exact ⟨by rw [e35]; exact w1, by rw [e35]; exact w2, by rw [e35]; exact w3⟩
theorem m_sA {Q : Unit → Mem → NM → Prop} {P : Nat → Prop} (hM : ML M m) (hqn : q = 2 ∧ 1 ≤ n ∧ n ≤ 3 ∨ q = 3 ∧ 1 ≤ n ∧ n ≤ 2) (hp : Pr (q : Int)) (mx : Nat) (hmx : mx ≤ 100000) :
    ∀ f v N, v + f = mx → MT M N m q n S → SnM N m (tbN q n) (fun y => P y ∨ ∃ u, u < v ∧ hit q n (altT q n S) u y) →
      (∀ N', MT M N' m q n S → SnM N' m (tbN q n) (fun y => P y ∨ ∃ u, u < mx ∧ hit q n (altT q n S) u y) → SeF m N N' → Q () M N') →
      GN M N (jloop (fun t => X8_seeAll_L16 m (zI (mx : Nat)) t) (zI (v : Nat))) Q := by
  intro f
  induction f with
  | zero =>
    intro v N hv hD hs h
    obtain rfl : v = mx := by omega
    refine w_unroll ?_
    unfold X8_seeAll_L16
    exact w_le ⟨by omega, by omega⟩ ⟨by omega, by omega⟩ (fun _ => w_jinl (w_jp (h N hD hs (fun _ _ _ _ _ _ _ => rfl)))) (fun y => absurd y (by omega))
  | succ f ih =>
    intro v N hv hD hs h
    refine w_unroll ?_
    unfold X8_seeAll_L16
    refine w_le ⟨by omega, by omega⟩ ⟨by omega, by omega⟩ (fun y => absurd y (by omega)) (fun _ => ?_)
    rw [z_0]
    have e0 : v / q ^ 0 = v := by rw [Nat.pow_zero, Nat.div_one]
    have start := m_sB (Q := LQ Q fun t1 M1 N1 => GN M1 N1 (jloop (fun t => X8_seeAll_L16 m (zI (mx : Nat)) t) t1) Q) (x1 := zI (mx : Nat)) (v := v) hM (q := q) (n := n) (by omega) (by omega) (by omega) (n * n) 0 N (by omega) hD.2.2.2.1 hD.2.2.2.2 (fun l' hl' => by omega)
    rw [e0] at start
    refine start (fun N1 hB1 f1 => ?_)
    have hF1 : SeF m N N1 := fun b _ _ _ _ a5 _ => f1 b a5
    have hD1 := hD.fr hF1
    have e34 : N1 (m + 34) = N (m + 34) := f1 _ (by omega)
    unfold X8_seeAll_b81 X8_seeAll_b102
    rw [z_0, z_1]
    refine w_changeInto (Bm := bmt q n v) hM (hD1.ma hM hp (by omega)) (fun i k hi hk => ?_) (bmt_b (by omega)) (fun N2 z hz g2 => ?_)
    · have h1 : n * (i + 1) ≤ n * n := Nat.mul_le_mul_left n hi
      rw [Nat.mul_add] at h1
      have h2 := hB1 (n * i + k) (by omega)
      rw [Nat.mul_add_div (by omega), Nat.div_eq_of_lt hk, Nat.mul_add_mod, Nat.mod_eq_of_lt hk] at h2
      exact Eq.trans (show N1 (m + 32) (5 * i + k) = _ from h2) (if_pos hk).symm
    have hF2 : SeF m N N2 := hF1.tr (fun b a1 a2 a3 a4 _ _ => g2 b a1 a2 a3 a4)
    have hD2 := hD.fr hF2
    have e34b : N2 (m + 34) = N (m + 34) := (g2 _ (by omega) (by omega) (by omega) (by omega)).trans e34
    rcases hz with ⟨rfl, hgj, hW⟩ | ⟨rfl, hgj⟩
    · refine w_eq ⟨by omega, by omega⟩ ⟨by omega, by omega⟩ (fun y => absurd y (by decide)) (fun _ => ?_)
      refine w_Mf hM rfl (w_Mf hM rfl ?_)
      have hok : WOk (q : Int) n (altT q n (gjT (q : Int) n (bmt q n v) (altT q n S))) := altT_ok hp (by omega)
      refine m_codeOf (q := q) (n := n) (T := altT q n (gjT (q : Int) n (bmt q n v) (altT q n S))) hM (by omega) (by omega) hD2.2.2.2.1 hD2.2.2.2.2 (hM.ka (o := 7) (d := (0, 127)) rfl) (fun i j k hi hj hk => ⟨by have := hW.2.2 i j k hi hj hk; rw [show 0 + 2 + 25 * i + 5 * j + k = 2 + 25 * i + 5 * j + k by omega] at this; exact this, (hok.2.2.2.1 i j k).1⟩) ?_
      have hcd := cdT_lt (q := q) (n := n) (T := altT q n (gjT (q : Int) n (bmt q n v) (altT q n S))) (fun i j k => (hok.2.2.2.1 i j k).2) hqn
      generalize hy0 : cdT q n (altT q n (gjT (q : Int) n (bmt q n v) (altT q n S))) = y0 at *
      have hhit : hit q n (altT q n S) v y0 := ⟨hgj, hy0⟩
      refine w_astZ (hM.ka (o := 34) (d := (4, 512)) rfl) (by omega) (by omega) (Or.inr rfl) ?_
      rw [show ((y0 : Int).toNat) = y0 from rfl, zI_add, show ((v : Int) + 1) = ((v + 1 : Nat) : Int) by omega]
      have hF3 : SeF m N (up2 N2 (m + 34) y0 1) := hF2.tr (fun b _ _ _ _ _ a6 => upb a6)
      refine w_jcontB (ih (v + 1) _ (by omega) (hD.fr hF3) (fun y hy => ?_) (fun N4 hD4 hs4 hF4 => h N4 hD4 hs4 (hF3.tr hF4)))
      by_cases e : y = y0
      · rw [e, upv]
        exact Or.inl ⟨rfl, Or.inr ⟨v, by omega, hhit⟩⟩
      · rw [upk e, e34b]
        rcases hs y hy with ⟨s1, s2⟩ | ⟨s1, s2⟩
        · exact Or.inl ⟨s1, s2.imp id (fun ⟨u, hu, hh⟩ => ⟨u, by omega, hh⟩)⟩
        · refine Or.inr ⟨s1, fun x => s2 (x.imp id (fun ⟨u, hu, hh⟩ => ⟨u, ?_, hh⟩))⟩
          by_cases e2 : u = v
          · exact absurd (by rw [e2] at hh; exact (hh.2.symm.trans hy0)) e
          · omega
    · refine w_eq ⟨by omega, by omega⟩ ⟨by omega, by omega⟩ (fun _ => ?_) (fun y => absurd rfl y)
      rw [zI_add, show ((v : Int) + 1) = ((v + 1 : Nat) : Int) by omega]
      refine w_jcontB (ih (v + 1) _ (by omega) hD2 (fun y hy => ?_) (fun N4 hD4 hs4 hF4 => h N4 hD4 hs4 (hF2.tr hF4)))
      rw [e34b]
      rcases hs y hy with ⟨s1, s2⟩ | ⟨s1, s2⟩
      · exact Or.inl ⟨s1, s2.imp id (fun ⟨u, hu, hh⟩ => ⟨u, by omega, hh⟩)⟩
      · refine Or.inr ⟨s1, fun x => s2 (x.imp id (fun ⟨u, hu, hh⟩ => ⟨u, ?_, hh⟩))⟩
        by_cases e2 : u = v
        · exact absurd (by rw [e2] at hh; exact hh.1) hgj
        · omega
end SEE2
