/-! THE COMPONENT: sums of worlds. -/
set_option maxRecDepth 100000
section CMP15
variable {α τ ρ : Type} {M : Mem} {N N' : NM} {c w u : Nat} {p p2 : Int} {n n2 m : Nat} {T U S : Nat → Nat → Nat → Int}
/-- a sum of two tables -/
def smT (n : Nat) (T U : Nat → Nat → Nat → Int) : Nat → Nat → Nat → Int := fun a b c => if n ≤ a ∧ n ≤ b ∧ n ≤ c then U (a - n) (b - n) (c - n) else T a b c
/-- a part of it is there -/
def smP (n : Nat) (T U : Nat → Nat → Nat → Int) (i j k : Nat) : Nat → Nat → Nat → Int := fun a b c => if n ≤ a ∧ n ≤ b ∧ n ≤ c ∧ bfr i j k (a - n) (b - n) (c - n) then U (a - n) (b - n) (c - n) else T a b c
theorem smP_q {i j k i' j' k' : Nat} (h : ∀ a b c, a < b → b < n2 → c < n2 → (bfr i j k a b c ↔ bfr i' j' k' a b c)) : altT p (n + n2) (smP n T U i j k) = altT p (n + n2) (smP n T U i' j' k') := by
  refine altT_q (fun a b c h1 h2 h3 => ?_)
  unfold smP
  by_cases e : n ≤ a ∧ n ≤ b ∧ n ≤ c
  · have hh := h (a - n) (b - n) (c - n) (by omega) (by omega) (by omega)
    by_cases e2 : bfr i j k (a - n) (b - n) (c - n)
    · rw [if_pos ⟨e.1, e.2.1, e.2.2, e2⟩, if_pos ⟨e.1, e.2.1, e.2.2, hh.mp e2⟩]
    · rw [if_neg (fun x => e2 x.2.2.2), if_neg (fun x => e2 (hh.mpr x.2.2.2))]
  · rw [if_neg (fun x => e ⟨x.1, x.2.1, x.2.2.1⟩), if_neg (fun x => e ⟨x.1, x.2.1, x.2.2.1⟩)]
theorem smP_0 (h : WOk p (n + n2) T) : altT p (n + n2) (smP n T U 0 0 0) = T := by
  rw [altT_q (S' := T) (fun a b c _ _ _ => ?_), altT_self h]
  unfold smP
  rw [if_neg (fun x => by have := x.2.2.2; unfold bfr at this; omega)]
theorem smP_1 : altT p (n + n2) (smP n T U n2 0 0) = altT p (n + n2) (smT n T U) := by
  refine altT_q (fun a b c h1 h2 h3 => ?_)
  unfold smP smT
  by_cases e : n ≤ a ∧ n ≤ b ∧ n ≤ c
  · rw [if_pos ⟨e.1, e.2.1, e.2.2, by unfold bfr; omega⟩, if_pos e]
  · rw [if_neg (fun x => e ⟨x.1, x.2.1, x.2.2.1⟩), if_neg e]
theorem smP_st {i j k : Nat} : altT p (n + n2) (stT (smP n T U i j k) (n + i) (n + j) (n + k) (U i j k)) = altT p (n + n2) (smP n T U i j (k + 1)) := by
  refine altT_q (fun a b c h1 h2 h3 => ?_)
  unfold stT
  by_cases e : a = n + i ∧ b = n + j ∧ c = n + k
  · obtain ⟨rfl, rfl, rfl⟩ := e
    rw [if_pos ⟨rfl, rfl, rfl⟩]
    unfold smP
    rw [if_pos ⟨by omega, by omega, by omega, by unfold bfr; omega⟩, Nat.add_sub_cancel_left, Nat.add_sub_cancel_left, Nat.add_sub_cancel_left]
  · rw [if_neg e]
    unfold smP
    by_cases e2 : n ≤ a ∧ n ≤ b ∧ n ≤ c ∧ bfr i j k (a - n) (b - n) (c - n)
    · rw [if_pos e2, if_pos ⟨e2.1, e2.2.1, e2.2.2.1, by have := e2.2.2.2; unfold bfr at this ⊢; omega⟩]
    · rw [if_neg e2, if_neg (fun x => e2 ⟨x.1, x.2.1, x.2.2.1, by have := x.2.2.2; unfold bfr at this ⊢; omega⟩)]
theorem WOk.more (h : WOk p n T) (hn : n + n2 ≤ 5) : WOk p (n + n2) T := ⟨h.1, by have := h.2.1; omega, hn, h.2.2.2.1, fun i j k hx => h.2.2.2.2.1 i j k (fun e => hx ⟨by omega, by omega, by omega⟩), h.2.2.2.2.2⟩
theorem w_sums {f : Unit → JM Mem τ} {Q : τ → Mem → NM → Prop} (hC : CL M c) (hD : WD N (c + 6) p n T) (hV : WL M u) (hE : WD N u p n2 U) (hu : c + 70 ≤ u) (hs : n + n2 ≤ 5)
    (h : ∀ N', WD N' (c + 6) p (n + n2) (altT p (n + n2) (smT n T U)) → (∀ b, b < c + 6 ∨ c + 70 ≤ b → N' b = N b) → GN M N' (f ()) Q) : GN M N (jb (jcall 0 c (f_X0_sums c u)) f) Q := by
  have hpb := hD.pb
  have hW := hC.w6
  have hR := hC.w38
  have hUb := hE.tb
  refine w_Cc hC ?_
  unfold f_X0_sums
  refine w_Cf hC rfl ?_
  refine w_Wp hW ?_
  rw [hD.ne]
  refine w_Cf hC rfl ?_
  refine w_wcopy hR hV (by omega) (fun N1 t1 t2 t3 f1 => ?_)
  have hR1 : WD N1 (c + 38) p n2 U := ⟨by rw [t2]; exact hE.pe, by rw [t3]; exact hE.ne, fun i j k hi hj hk => by rw [t1 i j k hi hj hk]; exact hE.t hi hj hk, hE.ok⟩
  have hD1 : WD N1 (c + 6) p n T := hD.fr (fun b h1 h2 => f1 b (by omega))
  refine w_Cf hC rfl ?_
  refine w_Wp hW ?_
  refine w_Cf hC rfl ?_
  refine w_Wp hR ?_
  rw [hD1.ne, hR1.ne, zI_add]
  refine w_putI hW.1 ?_
  have eo : ∀ b, b ≠ c + 6 → up2 N1 (c + 6) 2 ((n : Int) + n2) b = N1 b := fun b hb => funext fun k => if_neg (fun e => hb e.1)
  have hD2 : WD (up2 N1 (c + 6) 2 ((n : Int) + n2)) (c + 6) p (n + n2) T := ⟨by
    show (if c + 6 = c + 6 ∧ 1 = 2 then _ else N1 (c + 6) 1) = _
    rw [if_neg (by omega)]; exact hD1.pe, by
    show (if c + 6 = c + 6 ∧ 2 = 2 then (n : Int) + n2 else _) = _
    rw [if_pos ⟨rfl, rfl⟩]; omega, fun i j k hi hj hk => by rw [eo _ (by omega)]; exact hD1.t hi hj hk, hD.ok.more hs⟩
  have hR2 : WD (up2 N1 (c + 6) 2 ((n : Int) + n2)) (c + 38) p n2 U := hR1.fr (fun b h1 h2 => eo b (by omega))
  have f2 : ∀ b, b < c + 6 ∨ c + 70 ≤ b → up2 N1 (c + 6) 2 ((n : Int) + n2) b = N b := fun b hb => by rw [eo b (by omega), f1 b (by omega)]
  generalize up2 N1 (c + 6) 2 ((n : Int) + n2) = N2 at hD2 hR2 f2
  let J : Nat → Nat → Nat → NM → Prop := fun i j k N3 => WD N3 (c + 6) p (n + n2) (altT p (n + n2) (smP n T U i j k)) ∧ WD N3 (c + 38) p n2 U ∧ ∀ b, b < c + 6 ∨ c + 70 ≤ b → N3 b = N b
  have hnxt : ∀ i j k i' j' k' N3, (∀ a b c, a < b → b < n2 → c < n2 → (bfr i j k a b c ↔ bfr i' j' k' a b c)) → J i j k N3 → J i' j' k' N3 := fun i j k i' j' k' N3 hb ⟨k1, k2⟩ => ⟨by
    rw [← smP_q hb]; exact k1, k2⟩
  have hJ0 : J 0 0 0 N2 := ⟨by rw [smP_0 (hD.ok.more hs)]; exact hD2, hR2, f2⟩
  rw [z_0]
  refine w_up n2 (fun i N3 => J i 0 0 N3) 0 rfl (by omega) hJ0 ?_
  rintro i N3 hi hJ3
  unfold X0_sums_L37
  refine w_Cf hC rfl ?_
  refine w_Wp hR ?_
  rw [hJ3.2.1.ne]
  refine w_le ⟨by omega, by omega⟩ ⟨by omega, by omega⟩ (fun hd => ?_) (fun hd => ?_)
  · obtain rfl : i = n2 := by omega
    exact w_jinl (w_jp (h N3 (by rw [← smP_1]; exact hJ3.1) hJ3.2.2))
  rw [z_1, zI_add]
  refine w_jlet ?_
  refine w_up n2 (fun j N4 => i < j ∧ J i j 0 N4) (i + 1) (by rfl) (by omega) ⟨by omega, hnxt _ _ _ _ _ _ _ (fun a b c h1 h2 h3 => by unfold bfr; omega) hJ3⟩ ?_
  rintro j N4 hj ⟨hij, hJ4⟩
  unfold X0_sums_L53
  refine w_Cf hC rfl ?_
  refine w_Wp hR ?_
  rw [hJ4.2.1.ne]
  refine w_le ⟨by omega, by omega⟩ ⟨by omega, by omega⟩ (fun he => ?_) (fun he => ?_)
  · unfold X0_sums_b125
    rw [z_1, zI_add]
    exact w_jinl (w_jcont ⟨by omega, rfl, hnxt _ _ _ _ _ _ _ (fun a b c h1 h2 h3 => by unfold bfr; omega) hJ4⟩)
  rw [z_0]
  refine w_up n2 (fun k N5 => J i j k N5) 0 rfl (by omega) hJ4 ?_
  rintro k N5 hk hJ5
  unfold X0_sums_L68
  refine w_Cf hC rfl ?_
  refine w_Wp hR ?_
  rw [hJ5.2.1.ne]
  refine w_le ⟨by omega, by omega⟩ ⟨by omega, by omega⟩ (fun hf => ?_) (fun hf => ?_)
  · unfold X0_sums_b119
    rw [z_1, zI_add]
    exact w_jinl (w_jcont ⟨by omega, rfl, by omega, hnxt _ _ _ _ _ _ _ (fun a b c h1 h2 h3 => by unfold bfr; omega) hJ5⟩)
  refine w_Cf hC rfl ?_
  refine w_Cf hC rfl ?_
  refine w_tab hR (by omega) (by omega) ?_
  refine w_Wk hR (by omega) (by omega) (by omega) ?_
  rw [hJ5.2.1.t (by omega) (by omega) (by omega), zI_add, zI_add, zI_add, show (n : Int) + (i : Int) = ((n + i : Nat) : Int) by omega, show (n : Int) + (j : Int) = ((n + j : Nat) : Int) by omega, show (n : Int) + (k : Int) = ((n + k : Nat) : Int) by omega]
  have hub := hUb i j k
  refine w_cset hW hJ5.1 (by omega) (by omega) (by omega) (by omega) (fun N6 c6 f6 => ?_)
  rw [z_1, zI_add]
  exact w_jcont ⟨by omega, rfl, by rw [← smP_st]; exact c6, hJ5.2.1.fr (fun b h1 h2 => f6 b (by omega)), fun b hb => by rw [f6 b (by omega)]; exact hJ5.2.2 b hb⟩
end CMP15
