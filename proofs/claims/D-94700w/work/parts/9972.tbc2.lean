/-! TABLES, the component's op. -/
set_option maxRecDepth 100000
section TBC2
variable {τ : Type} {M M' : Mem} {N N' N0 : NM} {c q n i j k f r x l mx : Nat} {K : Nat → Nat} {w : Int} {S S' : St} {y y' : Nat × Tbl}
theorem c_tX {Q : Int32 → Mem → NM → Prop} (hC : CL M c) (hq : 0 < q ∧ q ≤ 7) (hn : n ≤ 5) (hw : w = 0 ∨ w = 1) (hmx : mx ≤ 100000) (hB : ∀ x, x ≤ mx → (tbF q n w x).2.1 ≤ 20) :
    ∀ f x N S, x + f = mx → WD N (c + 224) q n (altT q n S) → (∀ k, k < (tbF q n w x).2.1 → WD N (c + 879 + 32 * k) q n (tbl q n ((tbF q n w x).2.2 k))) →
      (∀ N', CFr c N N' → GN M N' (X0_tables_b312 c (zI w) (zI ((tbF q n w mx).1 : Nat)) (zI ((tbF q n w mx).2.1 : Nat))) Q) →
      GN M N (jloop (fun t => X0_tables_L123 c (zI (q : Nat)) (zI (n : Nat)) (zI w) (zI (mx : Nat)) t.1 t.2.1 t.2.2) (zI ((tbF q n w x).1 : Nat), zI ((tbF q n w x).2.1 : Nat), zI (x : Nat))) Q := by
  intro f
  induction f with
  | zero =>
    intro x N S hx hD hK h
    obtain rfl : x = mx := by omega
    refine w_unroll ?_
    unfold X0_tables_L123
    exact w_le ⟨by omega, by omega⟩ ⟨by omega, by omega⟩ (fun _ => w_jinl (h N CFr.rf)) (fun y => absurd y (by omega))
  | succ f ih =>
    intro x N S hx hD hK h
    have hB0 := hB x (by omega)
    have hB1 := hB (x + 1) (by omega)
    have hl := tbF_l (q := q) (n := n) (w := w) x
    have hih := ih (x + 1)
    have e0 : tbF q n w (x + 1) = tbStep q n w x (tbF q n w x) := rfl
    have hz := tbF_0 (q := q) (n := n) (w := w)
    rw [e0] at hih hB1
    generalize hs : tbF q n w x = s at *
    obtain ⟨l, r, K⟩ := s
    have hK : ∀ k, k < r → WD N (c + 879 + 32 * k) q n (tbl q n (K k)) := hK
    have hB0 : r ≤ 20 := hB0
    have hl : l ≤ x := hl
    refine w_unroll ?_
    unfold X0_tables_L123
    refine w_le ⟨by omega, by omega⟩ ⟨by omega, by omega⟩ (fun y => absurd y (by omega)) (fun _ => ?_)
    rw [z_0]
    refine c_tI hC.w224 hC hq hn n 0 (x, S) N (by omega) hD (by show x ≤ 100000; omega) (fun N1 hD1 f1 => ?_)
    rw [tbl_any] at hD1
    have hK1 : ∀ k, k < r → WD N1 (c + 879 + 32 * k) q n (tbl q n (K k)) := fun k hk => (hK k hk).fr (fun b h1 h2 => f1 b (by omega))
    have hF1 : CFr c N N1 := CFr.of (fun b hb => f1 b (by omega))
    unfold X0_tables_b205 X0_tables_b306
    rw [z_0, z_1]
    have eS : tbl q n x = altT q n (dcI q n n 0 (x, fun _ _ _ => 0)).2 := rfl
    refine w_Cf hC rfl ?_
    refine w_isLawful hC hC.w224 hD1 (by omega) (fun hL => ?_) (fun i j k hF3 => ?_)
    rotate_left
    · -- not lawful
      have e1 : tbStep q n w x (l, r, K) = (l, r, K) := if_neg (F3.not hF3)
      rw [e1] at hih
      refine w_eq ⟨by omega, by omega⟩ ⟨by omega, by omega⟩ (fun _ => ?_) (fun y => absurd rfl y)
      rw [zI_add, show ((x : Int) + 1) = ((x + 1 : Nat) : Int) by omega]
      have g : ∀ b, b ≠ c + 76 → up2 (up2 (up2 N1 (c + 76) 0 i) (c + 76) 1 j) (c + 76) 2 k b = N1 b := fun b hb => by rw [upb hb, upb hb, upb hb]
      exact w_jcontB (hih _ (dcI q n n 0 (x, fun _ _ _ => 0)).2 (by omega) (eS ▸ hD1.fr (fun b h1 h2 => g b (by omega))) (fun k hk => (hK1 k hk).fr (fun b h1 h2 => g b (by omega))) (fun N' hF => h N' (hF1.tr ((three_fr _ _ _).tr hF))))
    refine w_eq ⟨by omega, by omega⟩ ⟨by omega, by omega⟩ (fun y => absurd y (by decide)) (fun _ => ?_)
    rw [zI_add, show ((l : Int) + 1) = ((l + 1 : Nat) : Int) by omega]
    have e1 : tbStep q n w x (l, r, K) = (l + 1, @ite _ (w = 1 ∧ newC q n x (l, r, K)) (Classical.propDecidable _) (r + 1, fun k => if k = r then x else K k) (r, K)) := if_pos hL
    rw [e1] at hih hB1
    -- not a new kind
    have old : ∀ N2, ¬ (w = 1 ∧ newC q n x (l, r, K)) → CFr c N1 N2 → WD N2 (c + 224) q n (tbl q n x) → (∀ k, k < r → WD N2 (c + 879 + 32 * k) q n (tbl q n (K k))) → GN M N2 (jcont (zI ((l + 1 : Nat) : Int), zI (r : Nat), zI (x : Nat) + zI 1)) (LQ Q fun t1 M1 N1 => GN M1 N1 (jloop (fun t => X0_tables_L123 c (zI (q : Nat)) (zI (n : Nat)) (zI w) (zI (mx : Nat)) t.1 t.2.1 t.2.2) t1) Q) := fun N2 hne hF2 hD2 hK2 => by
      rw [if_neg hne] at hih
      rw [zI_add, show ((x : Int) + 1) = ((x + 1 : Nat) : Int) by omega]
      exact w_jcontB (hih N2 (dcI q n n 0 (x, fun _ _ _ => 0)).2 (by omega) (eS ▸ hD2) hK2 (fun N' hF => h N' (hF1.tr (hF2.tr hF))))
    rcases hw with rfl | rfl
    · -- only to count
      have hr0 : r = 0 := by
        have := hz (by decide) x
        rw [hs] at this
        exact congrArg Prod.fst this
      subst hr0
      refine w_unroll ?_
      unfold X0_tables_L228 X0_tables_b277 X0_tables_b306
      rw [z_0, z_1]
      refine w_le ⟨by omega, by omega⟩ ⟨by omega, by omega⟩ (fun _ => w_jinl ?_) (fun y => absurd (show (0 : Int) < ((0 : Nat) : Int) from y) (by decide))
      refine w_eq ⟨by omega, by omega⟩ ⟨by omega, by omega⟩ (fun _ => ?_) (fun y => absurd rfl y)
      refine w_eq ⟨by omega, by omega⟩ ⟨by omega, by omega⟩ (fun _ => ?_) (fun y => absurd rfl y)
      exact old N1 (fun y => absurd y.1 (by decide)) CFr.rf hD1 hK1
    · refine c_tL hC hq hn hB0 (by omega) r 0 N1 (by omega) hD1 hK1 (fun k hk => by omega) (fun N2 v hv hF2 => ?_)
      have fr : ∀ b, c + 224 ≤ b → b < c + 1519 → N2 b = N1 b := fun b h1 h2 => hF2.1 b (by omega) (by omega) (by omega) (by omega) (by omega)
      have hD2 : WD N2 (c + 224) q n (tbl q n x) := hD1.fr (fun b h1 h2 => fr b (by omega) (by omega))
      have hK2 : ∀ k, k < r → WD N2 (c + 879 + 32 * k) q n (tbl q n (K k)) := fun k hk => (hK1 k hk).fr (fun b h1 h2 => fr b (by omega) (by omega))
      unfold X0_tables_b277 X0_tables_b306
      rw [z_0, z_1]
      rcases hv with ⟨rfl, k, hk, hiso⟩ | ⟨rfl, hno⟩
      · refine w_eq ⟨by omega, by omega⟩ ⟨by omega, by omega⟩ (fun y => absurd y (by decide)) (fun _ => ?_)
        exact old N2 (fun y => y.2 k hk hiso) hF2.cf hD2 hK2
      · refine w_eq ⟨by omega, by omega⟩ ⟨by omega, by omega⟩ (fun _ => ?_) (fun y => absurd rfl y)
        refine w_eq ⟨by omega, by omega⟩ ⟨by omega, by omega⟩ (fun y => absurd y (by decide)) (fun _ => ?_)
        rw [if_pos ⟨rfl, hno⟩] at hih hB1
        have hr1 : r + 1 ≤ 20 := hB1
        obtain ⟨u1, u2⟩ := hC.un (k := r) (by omega)
        refine w_Cf hC rfl (w_aldA (b := c + 879 + 32 * r) (hC.ka (o := 256) (d := (7, 20)) rfl) (by omega) (by omega) u1 ?_)
        refine w_Cf hC rfl (w_wcopy u2 hC.w224 (by omega) (fun N3 y1 y2 y3 y4 => ?_))
        have hD3 : WD N3 (c + 224) q n (tbl q n x) := hD2.fr (fun b h1 h2 => y4 b (by omega))
        have hK3 : ∀ k, k < r + 1 → WD N3 (c + 879 + 32 * k) q n (tbl q n (if k = r then x else K k)) := fun k hk => by
          by_cases e : k = r
          · rw [if_pos e, e]
            exact ⟨by rw [y2]; exact hD2.pe, by rw [y3]; exact hD2.ne, fun i j k hi hj hk => by rw [y1 i j k hi hj hk]; exact hD2.t hi hj hk, hD2.ok⟩
          · rw [if_neg e]
            exact (hK2 k (by omega)).fr (fun b h1 h2 => y4 b (by omega))
        have hF3 : CFr c N2 N3 := CFr.of (fun b hb => y4 b (by omega))
        rw [zI_add, zI_add, show ((x : Int) + 1) = ((x + 1 : Nat) : Int) by omega, show ((r : Int) + 1) = ((r + 1 : Nat) : Int) by omega]
        exact w_jcontB (hih N3 (dcI q n n 0 (x, fun _ _ _ => 0)).2 (by omega) (eS ▸ hD3) hK3 (fun N' hF => h N' (hF1.tr (hF2.cf.tr (hF3.tr hF)))))
end TBC2
