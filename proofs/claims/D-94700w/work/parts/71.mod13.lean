/-! THE MODEL: a world told by a new base. -/
set_option maxRecDepth 100000
section MOD13
variable {α τ : Type} {M M' : Mem} {N N' : NM} {m a b o W B U D L : Nat} {p : Int} {n q lev c r : Nat} {T F S : Nat → Nat → Nat → Int} {Bm : Nat → Nat → Int}
theorem gjC_bd (hp : 1 < p) (hBb : ∀ i k, 0 ≤ Bm i k ∧ Bm i k < p) (i k : Nat) : 0 ≤ gjC p n Bm i k ∧ gjC p n Bm i k < p := gja_bd hp (gj0_bd hp hBb) n i (n + k)
theorem gjT_bd (hp : Pr p) (hn : n ≤ 5) (hBb : ∀ i k, 0 ≤ Bm i k ∧ Bm i k < p) (i j k l : Nat) (hl : l ≤ n) : 0 ≤ sm l (fun l => (bk n T (Bm i) (Bm j) l % p) * gjC p n Bm l k) ∧ sm l (fun l => (bk n T (Bm i) (Bm j) l % p) * gjC p n Bm l k) ≤ 245 := by
  have hp1 := hp.pos
  have hp7 := hp.le7
  have := sm_bd (n := l) (f := fun l => (bk n T (Bm i) (Bm j) l % p) * gjC p n Bm l k) (a := 0) (b := 49) (fun x hx => by
    have h1 := Int.emod_nonneg (bk n T (Bm i) (Bm j) x) (show p ≠ 0 by omega)
    have h2 := Int.emod_lt_of_pos (bk n T (Bm i) (Bm j) x) (show 0 < p by omega)
    have h3 := gjC_bd (n := n) hp1 hBb x k
    exact mul_bd (a := 7) (b := 7) (by omega) (by omega))
  omega
/-- what is set before a place -/
abbrev bfr (i j k a b c : Nat) : Prop := a < i ∨ a = i ∧ (b < j ∨ b = j ∧ c < k)
theorem w_changeInto {f : Int32 → JM Mem τ} {Q : τ → Mem → NM → Prop} (hM : ML M m) (hA : MA M N m W B p n T) (hB : ∀ i k, i < n → k < n → N (m + 32) (5 * i + k) = Bm i k) (hBb : ∀ i k, 0 ≤ Bm i k ∧ Bm i k < p ∧ (n ≤ k → Bm i k = 0))
    (h : ∀ N' v, (v = 1 ∧ gjB p n Bm ∧ WC N' (m + 7) 0 p n (altT p n (gjT p n Bm T)) ∨ v = 0 ∧ ¬ gjB p n Bm) → (∀ b, b ≠ m + 29 → b ≠ m + 33 → b ≠ m + 17 → b ≠ m + 7 → N' b = N b) → GN M N' (f (zI v)) Q) : GN M N (jb (jcall 7 m (f_X8_changeInto m)) f) Q := by
  have hpb := hA.pb
  have hp := hA.pr
  have hn5 := hA.n5
  have hn1 := hA.n1
  have hWe := hA.We
  have h32 := hM.ka (o := 32) (d := (0, 25)) rfl
  have h33 := hM.ka (o := 33) (d := (0, 25)) rfl
  have h17 := hM.ka (o := 17) (d := (0, 5)) rfl
  have h7 := hM.ka (o := 7) (d := (0, 127)) rfl
  have hBb2 : ∀ i k, 0 ≤ Bm i k ∧ Bm i k < p := fun i k => ⟨(hBb i k).1, (hBb i k).2.1⟩
  refine w_Mc hM ?_
  unfold f_X8_changeInto
  refine w_mturnsBack hM hA hB hBb2 (fun N1 v hv f1 => ?_)
  rw [z_0]
  have hvb : v = 0 ∨ v = 1 := by rcases hv with ⟨e, _⟩ | ⟨e, _⟩; exact Or.inr e; exact Or.inl e
  refine w_eq ⟨by omega, by omega⟩ ⟨by omega, by omega⟩ (fun hc => ?_) (fun hc => ?_)
  · refine w_jp (h N1 0 (Or.inr ⟨rfl, ?_⟩) (fun b a1 a2 _ _ => f1 b a1 a2))
    rcases hv with ⟨e, _⟩ | ⟨_, e⟩
    · omega
    · exact e
  obtain ⟨hgb, hC1⟩ : gjB p n Bm ∧ ∀ i k, i < n → k < n → N1 (m + 33) (5 * i + k) = gjC p n Bm i k := by
    rcases hv with ⟨_, e⟩ | ⟨e, _⟩
    · exact e
    · omega
  have fra : ∀ N2 : NM, (∀ b, b ≠ m + 29 → b ≠ m + 33 → b ≠ m + 17 → b ≠ m + 7 → N2 b = N b) → MA M N2 m W B p n T := fun N2 g => hA.fr (g m (by omega) (by omega) (by omega) (by omega)) (g W (by omega) (by omega) (by omega) (by omega))
  have g1 : ∀ b, b ≠ m + 29 → b ≠ m + 33 → b ≠ m + 17 → b ≠ m + 7 → N1 b = N b := fun b a1 a2 _ _ => f1 b a1 a2
  have hA1 := fra N1 g1
  refine w_Mf hM rfl ?_
  refine w_MI hM (w_MI hM ?_)
  rw [hA1.pe, hA1.ne]
  refine w_mclear h7 (B := 0) (by omega) (n := n) (fun N2 c2 f2 _ => ?_)
  have g2 : ∀ b, b ≠ m + 29 → b ≠ m + 33 → b ≠ m + 17 → b ≠ m + 7 → N2 b = N b := fun b a1 a2 a3 a4 => (f2 b a4).trans (g1 b a1 a2 a3 a4)
  have hC2 : ∀ i k, i < n → k < n → N2 (m + 33) (5 * i + k) = gjC p n Bm i k := fun i k hi hk => by rw [f2 _ (by omega)]; exact hC1 i k hi hk
  -- what holds while it is set
  let J : Nat → Nat → Nat → NM → Prop := fun i j k N3 => WC N3 (m + 7) 0 p n (altT p n (fun a b c => if bfr i j k a b c then gjT p n Bm T a b c else 0)) ∧ (∀ i k, i < n → k < n → N3 (m + 33) (5 * i + k) = gjC p n Bm i k) ∧ ∀ b, b ≠ m + 29 → b ≠ m + 33 → b ≠ m + 17 → b ≠ m + 7 → N3 b = N b
  have hnxt : ∀ i j k i' j' k' N3, (∀ a b c, a < b → b < n → c < n → (bfr i j k a b c ↔ bfr i' j' k' a b c)) → J i j k N3 → J i' j' k' N3 := fun i j k i' j' k' N3 hb ⟨k1, k2, k3⟩ => ⟨by
    rw [altT_q (S' := fun a b c => if bfr i j k a b c then gjT p n Bm T a b c else 0) (fun a b c h1 h2 h3 => ?_)]
    · exact k1
    · by_cases e : bfr i j k a b c
      · rw [if_pos e, if_pos ((hb a b c h1 h2 h3).mp e)]
      · rw [if_neg e, if_neg (fun x => e ((hb a b c h1 h2 h3).mpr x))], k2, k3⟩
  have hJ0 : J 0 0 0 N2 := ⟨by
    rw [altT_q (S' := fun _ _ _ => 0) (fun a b c _ _ _ => if_neg (fun e => by unfold bfr at e; omega)), altT_z]
    exact c2, hC2, g2⟩
  refine w_up n (fun i N3 => J i 0 0 N3) 0 rfl (by omega) hJ0 ?_
  rintro i N3 hi hJ3
  unfold X8_changeInto_L27
  refine w_MI hM ?_
  rw [(fra N3 hJ3.2.2).ne]
  refine w_le ⟨by omega, by omega⟩ ⟨by omega, by omega⟩ (fun hd => ?_) (fun hd => ?_)
  · obtain rfl : i = n := by omega
    rw [z_1]
    refine w_jinl (w_jp (h N3 1 (Or.inl ⟨rfl, hgb, ?_⟩) hJ3.2.2))
    rw [altT_q (S' := fun a b c => if bfr i 0 0 a b c then gjT p i Bm T a b c else 0) (fun a b c h1 h2 h3 => ?_)]
    · exact hJ3.1
    · rw [if_pos (by unfold bfr; omega)]
  have hin : i < n := by omega
  rw [z_1, zI_add]
  refine w_jlet ?_
  refine w_up n (fun j N4 => i < j ∧ J i j 0 N4) (i + 1) (by rfl) (by omega) ⟨by omega, hnxt _ _ _ _ _ _ _ (fun a b c h1 h2 h3 => by unfold bfr; omega) hJ3⟩ ?_
  rintro j N4 hj ⟨hij, hJ4⟩
  unfold X8_changeInto_L39
  refine w_MI hM ?_
  have hA4 := fra N4 hJ4.2.2
  rw [hA4.ne]
  refine w_le ⟨by omega, by omega⟩ ⟨by omega, by omega⟩ (fun he => ?_) (fun he => ?_)
  · unfold X8_changeInto_b149
    rw [z_1, zI_add]
    exact w_jinl (w_jcont ⟨hin, rfl, hnxt _ _ _ _ _ _ _ (fun a b c h1 h2 h3 => by unfold bfr; omega) hJ4⟩)
  have hjn : j < n := by omega
  have hVm : ∀ i, i < n → VM N4 (m + 32) (5 * i) p n (Bm i) := fun i hi => ⟨fun k hk => by rw [hJ4.2.2 _ (by omega) (by omega) (by omega) (by omega)]; exact hB i k hi hk, hBb i⟩
  refine w_Mf hM rfl (w_Mf hM rfl (w_Mf hM rfl ?_))
  rw [z_5, zI_mul, zI_mul, show (5 : Int) * (i : Int) = ((5 * i : Nat) : Int) by omega, show (5 : Int) * (j : Int) = ((5 * j : Nat) : Int) by omega]
  refine w_bracketOf hM hA4 h32 (by omega) h32 (by omega) h17 (by omega) (hVm i hin) (hVm j hjn) (by omega) (by omega) (by omega) (by omega) ?_
  have e5 : ∀ x, x < n → wro N4 (m + 17) 0 n (fun k => bk n T (Bm i) (Bm j) k % p) (m + 17) x = bk n T (Bm i) (Bm j) x % p := fun x hx => by
    have := wro_at (N := N4) (a := m + 17) (o := 0) (g := fun k => bk n T (Bm i) (Bm j) k % p) hx
    rw [Nat.zero_add] at this
    exact this
  have hJ5 : J i j 0 (wro N4 (m + 17) 0 n (fun k => bk n T (Bm i) (Bm j) k % p)) := ⟨hJ4.1.fr (wro_ne (by omega)), fun i k hi hk => by rw [wro_ne (by omega)]; exact hJ4.2.1 i k hi hk, fun b a1 a2 a3 a4 => by rw [wro_ne a3]; exact hJ4.2.2 b a1 a2 a3 a4⟩
  generalize wro N4 (m + 17) 0 n (fun k => bk n T (Bm i) (Bm j) k % p) = N5 at e5 hJ5
  rw [z_0]
  refine w_up n (fun k N6 => (∀ x, x < n → N6 (m + 17) x = bk n T (Bm i) (Bm j) x % p) ∧ J i j k N6) 0 rfl (by omega) ⟨e5, hJ5⟩ ?_
  rintro k N6 hk ⟨e6, hJ6⟩
  have hA6 := fra N6 hJ6.2.2
  unfold X8_changeInto_L71
  refine w_MI hM ?_
  rw [hA6.ne]
  refine w_le ⟨by omega, by omega⟩ ⟨by omega, by omega⟩ (fun hf => ?_) (fun hf => ?_)
  · unfold X8_changeInto_b143
    rw [z_1, zI_add]
    exact w_jinl (w_jcont ⟨hjn, rfl, by omega, hnxt _ _ _ _ _ _ _ (fun a b c h1 h2 h3 => by unfold bfr; omega) hJ6⟩)
  have hkn : k < n := by omega
  rw [z_0]
  refine w_up2 n (fun l x N7 => x = sm l (fun l => (bk n T (Bm i) (Bm j) l % p) * gjC p n Bm l k) ∧ N7 = N6) 0 0 rfl (by omega) ⟨rfl, rfl⟩ ?_
  rintro l x N7 hl ⟨rfl, rfl⟩
  have hsl := gjT_bd (T := T) hp hn5 hBb2 i j k l hl
  show GN M N7 (X8_changeInto_L85 m (zI _) (zI _) (zI _) (zI _) (zI _)) _
  unfold X8_changeInto_L85
  refine w_MI hM ?_
  rw [hA6.ne]
  refine w_le ⟨by omega, by omega⟩ ⟨by omega, by omega⟩ (fun hg => ?_) (fun hg => ?_)
  · obtain rfl : l = n := by omega
    unfold X8_changeInto_b124
    refine w_jinl ?_
    refine w_Mf hM rfl ?_
    rw [z_0]
    refine w_mset h7 (by omega) (B := 0) hJ6.1 hp hn5 hij hjn hkn (by omega) (fun N8 c8 f8 _ => ?_)
    rw [z_1, zI_add]
    refine w_jcont ⟨hkn, rfl, fun x hx => by rw [f8 _ (by omega)]; exact e6 x hx, ?_, fun i k hi hk => by rw [f8 _ (by omega)]; exact hJ6.2.1 i k hi hk, fun b a1 a2 a3 a4 => by rw [f8 b a4]; exact hJ6.2.2 b a1 a2 a3 a4⟩
    rw [altT_q (S' := stT (fun a b c => if bfr i j k a b c then gjT p l Bm T a b c else 0) i j k (sm l (fun q => (bk l T (Bm i) (Bm j) q % p) * gjC p l Bm q k))) (fun a b c h1 h2 h3 => ?_)]
    · exact c8
    · unfold stT
      by_cases e : a = i ∧ b = j ∧ c = k
      · obtain ⟨rfl, rfl, rfl⟩ := e
        rw [if_pos (by unfold bfr; omega), if_pos ⟨rfl, rfl, rfl⟩]
        rfl
      · rw [if_neg e]
        show (if bfr i j (k + 1) a b c then gjT p l Bm T a b c else 0) = if bfr i j k a b c then gjT p l Bm T a b c else 0
        by_cases e2 : bfr i j k a b c
        · rw [if_pos e2, if_pos (by unfold bfr at e2 ⊢; omega)]
        · rw [if_neg e2, if_neg (by unfold bfr at e2 ⊢; omega)]
  have hln : l < n := by omega
  refine w_Mf hM rfl ?_
  refine w_ald h17 (by omega) (by omega) ?_
  rw [show ((l : Int).toNat) = l from rfl, e6 l hln]
  refine w_Mf hM rfl ?_
  rw [z_5, zI_mul, zI_add]
  refine w_ald h33 (by omega) (by omega) ?_
  rw [show ((5 * (l : Int) + (k : Int)).toNat) = 5 * l + k by omega, hJ6.2.1 l k hln hkn, zI_mul, zI_add, z_1, zI_add]
  exact w_jlet (w_jcont ⟨hln, _, rfl, rfl, rfl⟩)
end MOD13
