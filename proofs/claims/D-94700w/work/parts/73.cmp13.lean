/-! THE COMPONENT: a world told by a new base. -/
set_option maxRecDepth 100000
section CMP13
variable {α τ ρ : Type} {M : Mem} {N N' : NM} {c w u : Nat} {p p2 : Int} {n n2 m : Nat} {T F S : Nat → Nat → Nat → Int} {Bm A : Nat → Nat → Int}
theorem altT_self (h : WOk p n T) : altT p n T = T := by
  obtain ⟨hp, h1, h5, hb, hz, hs, hd⟩ := h
  funext i j k
  unfold altT
  by_cases c1 : i < n ∧ j < n ∧ k < n
  · rw [if_pos c1]
    by_cases c2 : i < j
    · rw [if_pos c2, Int.emod_eq_of_lt (hb i j k).1 (hb i j k).2]
    · rw [if_neg c2]
      by_cases c3 : j < i
      · rw [if_pos c3, ← hs j i k]
      · rw [if_neg c3, show i = j by omega, hd]
  · rw [if_neg c1, hz i j k c1]
theorem w_cset {f : Unit → JM Mem τ} {Q : τ → Mem → NM → Prop} {i j k : Nat} {v : Int} (hW : WL M w) (hD : WD N w p n (altT p n S)) (hij : i < j) (hj : j < n) (hk : k < n) (hv : -1000000 ≤ v ∧ v ≤ 1000000)
    (h : ∀ N', WD N' w p n (altT p n (stT S i j k v)) → (∀ b, b < w ∨ w + 32 ≤ b → N' b = N b) → GN M N' (f ()) Q) : GN M N (jb (jcall 3 w (f_X4_set w (zI i) (zI j) (zI k) (zI v))) f) Q := by
  have hpb := hD.pb
  have hn5 := hD.n5
  refine w_set hW (by rw [hD.pe]; omega) (by omega) (by omega) (by omega) hv ?_
  refine h _ ⟨?_, ?_, fun x y z hx hy hz => ?_, altT_ok hD.pr ⟨hD.n1, hn5⟩⟩ (fun b hb => ?_)
  · show (if w = w + 3 + 6 * j + i ∧ _ then _ else if w = w + 3 + 6 * i + j ∧ _ then _ else N w 1) = p
    rw [if_neg (by omega), if_neg (by omega), hD.pe]
  · show (if w = w + 3 + 6 * j + i ∧ _ then _ else if w = w + 3 + 6 * i + j ∧ _ then _ else N w 2) = n
    rw [if_neg (by omega), if_neg (by omega), hD.ne]
  · show (if w + 3 + 6 * x + y = w + 3 + 6 * j + i ∧ z = k then (-v) % N w 1 else if w + 3 + 6 * x + y = w + 3 + 6 * i + j ∧ z = k then v % N w 1 else N (w + 3 + 6 * x + y) z) = _
    rw [altT_st hij hj hk, hD.t hx hy hz, hD.pe]
    by_cases d1 : x = j ∧ y = i ∧ z = k
    · rw [if_pos d1, if_pos ⟨by rw [d1.1, d1.2.1], d1.2.2⟩]
    · rw [if_neg d1, if_neg (show ¬ (w + 3 + 6 * x + y = w + 3 + 6 * j + i ∧ z = k) by omega)]
      by_cases d2 : x = i ∧ y = j ∧ z = k
      · rw [if_pos d2, if_pos ⟨by rw [d2.1, d2.2.1], d2.2.2⟩]
      · rw [if_neg d2, if_neg (show ¬ (w + 3 + 6 * x + y = w + 3 + 6 * i + j ∧ z = k) by omega)]
  · funext l
    show (if b = w + 3 + 6 * j + i ∧ _ then _ else if b = w + 3 + 6 * i + j ∧ _ then _ else N b l) = _
    rw [if_neg (by omega), if_neg (by omega)]
/-- what changing writes, but for the world -/
def ChF (N : NM) (c w : Nat) (N' : NM) : Prop := ∀ b, b < w ∨ w + 32 ≤ b → b < c + 38 ∨ c + 70 ≤ b → b ≠ c + 74 → b < c + 206 ∨ c + 217 ≤ b → N' b = N b
theorem w_changes {f : Int32 → JM Mem τ} {Q : τ → Mem → NM → Prop} (hC : CL M c) (hW : WL M w) (hD : WD N w p n T) (hw : w + 32 ≤ c + 38 ∨ c + 217 ≤ w) (hw0 : c < w) (hB : ∀ i, i < n → VD N (c + 199 + 1 + i) p n (Bm i)) (hBb : ∀ i k, 0 ≤ Bm i k ∧ Bm i k < p)
    (h : ∀ M' N' v, Bg c M M' → (v = 1 ∧ gjB p n Bm ∧ WD N' w p n (altT p n (gjT p n Bm T)) ∨ v = 0 ∧ ¬ gjB p n Bm ∧ WD N' w p n T) → ChF N c w N' → GN M' N' (f (zI v)) Q) : GN M N (jb (jcall 0 c (f_X0_changes c w)) f) Q := by
  have hpb := hD.pb
  have hp := hD.pr
  have hn5 := hD.n5
  have hn1 := hD.n1
  refine w_Cc hC ?_
  unfold f_X0_changes
  refine w_cturnsBack hC hW hD (by omega) (fun i k hi hk => (hB i hi).at (by omega)) hBb (fun M1 N1 v hb hv f1 => ?_)
  have g1 : ChF N c w N1 := fun b _ _ _ a4 => f1 b a4
  have hC1 := hC.bg hb
  have hW1 := hW.bg hb (by omega)
  have hD1 : WD N1 w p n T := hD.fr (fun b h1 h2 => f1 b (by omega))
  rw [z_0]
  have hvb : v = 0 ∨ v = 1 := by rcases hv with ⟨e, _⟩ | ⟨e, _⟩; exact Or.inr e; exact Or.inl e
  refine w_eq ⟨by omega, by omega⟩ ⟨by omega, by omega⟩ (fun hc => ?_) (fun hc => ?_)
  · refine w_jp (h M1 N1 0 hb (Or.inr ⟨rfl, ?_, hD1⟩) g1)
    rcases hv with ⟨e, _⟩ | ⟨_, e⟩
    · omega
    · exact e
  obtain ⟨hgb, hCm⟩ : gjB p n Bm ∧ ∀ i k, i < n → k < n → N1 (c + 205 + 1 + i) k = gjC p n Bm i k := by
    rcases hv with ⟨_, e⟩ | ⟨e, _⟩
    · exact e
    · omega
  have h199 := hC1.ka (o := 199) (d := (5, 5)) rfl
  have h205 := hC1.ka (o := 205) (d := (5, 5)) rfl
  have h74 := hC1.ka (o := 74) (d := (0, 5)) rfl
  refine w_Wp hW1 ?_
  rw [hD1.ne]
  refine w_Cf hC1 rfl ?_
  refine w_wcopy hC1.w38 hW1 (by omega) (fun N2 t1 t2 t3 f2 => ?_)
  have hR2 : WD N2 (c + 38) p n T := ⟨by rw [t2]; exact hD1.pe, by rw [t3]; exact hD1.ne, fun i j k hi hj hk => by rw [t1 i j k hi hj hk]; exact hD1.t hi hj hk, hD.ok⟩
  have g2 : ChF N c w N2 := fun b a1 a2 a3 a4 => (f2 b a2).trans (g1 b a1 a2 a3 a4)
  let J : Nat → Nat → Nat → NM → Prop := fun i j k N3 => WD N3 w p n (altT p n (fun a b c => if bfr i j k a b c then gjT p n Bm T a b c else T a b c)) ∧ (∀ i k, i < n → k < n → N3 (c + 205 + 1 + i) k = gjC p n Bm i k) ∧ WD N3 (c + 38) p n T ∧ ChF N c w N3
  have hnxt : ∀ i j k i' j' k' N3, (∀ a b c, a < b → b < n → c < n → (bfr i j k a b c ↔ bfr i' j' k' a b c)) → J i j k N3 → J i' j' k' N3 := fun i j k i' j' k' N3 hb ⟨k1, k2⟩ => ⟨by
    rw [altT_q (S' := fun a b c => if bfr i j k a b c then gjT p n Bm T a b c else T a b c) (fun a b c h1 h2 h3 => ?_)]
    · exact k1
    · by_cases e : bfr i j k a b c
      · rw [if_pos e, if_pos ((hb a b c h1 h2 h3).mp e)]
      · rw [if_neg e, if_neg (fun x => e ((hb a b c h1 h2 h3).mpr x))], k2⟩
  have hJ0 : J 0 0 0 N2 := ⟨by
    rw [altT_q (S' := T) (fun a b c _ _ _ => if_neg (fun e => by unfold bfr at e; omega)), altT_self hD.ok]
    exact hD1.fr (fun b h1 h2 => f2 b (by omega)), fun i k hi hk => by rw [f2 _ (by omega)]; exact hCm i k hi hk, hR2, g2⟩
  refine w_up n (fun i N3 => J i 0 0 N3) 0 rfl (by omega) hJ0 ?_
  rintro i N3 hi hJ3
  unfold X0_changes_L25
  refine w_le ⟨by omega, by omega⟩ ⟨by omega, by omega⟩ (fun hd => ?_) (fun hd => ?_)
  · obtain rfl : i = n := by omega
    rw [z_1]
    refine w_jinl (w_jp (h M1 N3 1 hb (Or.inl ⟨rfl, hgb, ?_⟩) hJ3.2.2.2))
    rw [altT_q (S' := fun a b c => if bfr i 0 0 a b c then gjT p i Bm T a b c else T a b c) (fun a b c h1 h2 h3 => ?_)]
    · exact hJ3.1
    · rw [if_pos (by unfold bfr; omega)]
  have hin : i < n := by omega
  rw [z_1, zI_add]
  refine w_jlet ?_
  refine w_up n (fun j N4 => i < j ∧ J i j 0 N4) (i + 1) (by rfl) (by omega) ⟨by omega, hnxt _ _ _ _ _ _ _ (fun a b c h1 h2 h3 => by unfold bfr; omega) hJ3⟩ ?_
  rintro j N4 hj ⟨hij, hJ4⟩
  unfold X0_changes_L35
  refine w_le ⟨by omega, by omega⟩ ⟨by omega, by omega⟩ (fun he => ?_) (fun he => ?_)
  · unfold X0_changes_b138
    rw [z_1, zI_add]
    exact w_jinl (w_jcont ⟨hin, rfl, hnxt _ _ _ _ _ _ _ (fun a b c h1 h2 h3 => by unfold bfr; omega) hJ4⟩)
  have hjn : j < n := by omega
  have hVm : ∀ i, i < n → VD N4 (c + 199 + 1 + i) p n (Bm i) := fun i hi => (hB i hi).fr (hJ4.2.2.2 _ (by omega) (by omega) (by omega) (by omega))
  refine w_Cf hC1 rfl ?_
  refine w_Cf hC1 rfl ?_
  refine w_R1 h199 hC1.ba (by omega) (by omega) ?_
  refine w_Cf hC1 rfl ?_
  refine w_R1 h199 hC1.ba (by omega) (by omega) ?_
  refine w_Cf hC1 rfl ?_
  refine w_wbracket hC1.w38 hJ4.2.2.1 (hC1.ba i (by omega)).2 (by omega) (hC1.ba j (by omega)).2 (by omega) h74 (by omega) (hVm i hin) (hVm j hjn) (by omega) (by omega) (by omega) ?_
  have e5 : ∀ x, x < 5 → wr5 N4 (c + 74) (fun k => bk n T (Bm i) (Bm j) k % p) (c + 74) x = bk n T (Bm i) (Bm j) x % p := fun x hx => wr5_at hx
  have hJ5 : J i j 0 (wr5 N4 (c + 74) (fun k => bk n T (Bm i) (Bm j) k % p)) := ⟨hJ4.1.fr (fun b h1 h2 => wr5_ne (by omega)), fun i k hi hk => by rw [wr5_ne (by omega)]; exact hJ4.2.1 i k hi hk, hJ4.2.2.1.fr (fun b h1 h2 => wr5_ne (by omega)), fun b a1 a2 a3 a4 => by rw [wr5_ne a3]; exact hJ4.2.2.2 b a1 a2 a3 a4⟩
  generalize wr5 N4 (c + 74) (fun k => bk n T (Bm i) (Bm j) k % p) = N5 at e5 hJ5
  rw [z_0]
  refine w_up n (fun k N6 => (∀ x, x < 5 → N6 (c + 74) x = bk n T (Bm i) (Bm j) x % p) ∧ J i j k N6) 0 rfl (by omega) ⟨e5, hJ5⟩ ?_
  rintro k N6 hk ⟨e6, hJ6⟩
  unfold X0_changes_L68
  refine w_le ⟨by omega, by omega⟩ ⟨by omega, by omega⟩ (fun hf => ?_) (fun hf => ?_)
  · unfold X0_changes_b132
    rw [z_1, zI_add]
    exact w_jinl (w_jcont ⟨hjn, rfl, by omega, hnxt _ _ _ _ _ _ _ (fun a b c h1 h2 h3 => by unfold bfr; omega) hJ6⟩)
  have hkn : k < n := by omega
  rw [z_0]
  refine w_up2 n (fun l x N7 => x = sm l (fun l => (bk n T (Bm i) (Bm j) l % p) * gjC p n Bm l k) ∧ N7 = N6) 0 0 rfl (by omega) ⟨rfl, rfl⟩ ?_
  rintro l x N7 hl ⟨rfl, rfl⟩
  have hsl := gjT_bd (T := T) hp hn5 hBb i j k l hl
  show GN M1 N7 (X0_changes_L80 c w (zI _) (zI _) (zI _) (zI _) (zI _) (zI _)) _
  unfold X0_changes_L80
  refine w_le ⟨by omega, by omega⟩ ⟨by omega, by omega⟩ (fun hg => ?_) (fun hg => ?_)
  · obtain rfl : l = n := by omega
    unfold X0_changes_b115
    refine w_jinl ?_
    refine w_cset hW1 hJ6.1 hij hjn hkn (by omega) (fun N8 c8 f8 => ?_)
    rw [z_1, zI_add]
    refine w_jcont ⟨hkn, rfl, fun x hx => by rw [f8 _ (by omega)]; exact e6 x hx, ?_, fun i k hi hk => by rw [f8 _ (by omega)]; exact hJ6.2.1 i k hi hk, hJ6.2.2.1.fr (fun b h1 h2 => f8 b (by omega)), fun b a1 a2 a3 a4 => by rw [f8 b a1]; exact hJ6.2.2.2 b a1 a2 a3 a4⟩
    rw [altT_q (S' := stT (fun a b c => if bfr i j k a b c then gjT p l Bm T a b c else T a b c) i j k (sm l (fun q => (bk l T (Bm i) (Bm j) q % p) * gjC p l Bm q k))) (fun a b c h1 h2 h3 => ?_)]
    · exact c8
    · unfold stT
      by_cases e : a = i ∧ b = j ∧ c = k
      · obtain ⟨rfl, rfl, rfl⟩ := e
        rw [if_pos (by unfold bfr; omega), if_pos ⟨rfl, rfl, rfl⟩]
        rfl
      · rw [if_neg e]
        show (if bfr i j (k + 1) a b c then gjT p l Bm T a b c else T a b c) = if bfr i j k a b c then gjT p l Bm T a b c else T a b c
        by_cases e2 : bfr i j k a b c
        · rw [if_pos e2, if_pos (by unfold bfr at e2 ⊢; omega)]
        · rw [if_neg e2, if_neg (by unfold bfr at e2 ⊢; omega)]
  have hln : l < n := by omega
  refine w_Cf hC1 rfl ?_
  refine w_ald h74 (by omega) (by omega) ?_
  rw [show ((l : Int).toNat) = l from rfl, e6 l (by omega)]
  refine w_Cf hC1 rfl ?_
  refine w_R1 h205 hC1.bk (by omega) (by omega) ?_
  refine w_ald (hC1.bk l (by omega)).2 (by omega) (by omega) ?_
  rw [show ((k : Int).toNat) = k from rfl, hJ6.2.1 l k hln hkn, zI_mul, zI_add, z_1, zI_add]
  exact w_jlet (w_jcont ⟨hln, _, rfl, rfl, rfl⟩)
end CMP13
