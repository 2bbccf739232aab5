/-! THE MODEL: sums of worlds. -/
set_option maxRecDepth 100000
section MOD14
variable {α τ : Type} {M M' : Mem} {N N' : NM} {m a b o W B D L : Nat} {p p2 : Int} {n n2 q lev c r : Nat} {T U F S : Nat → Nat → Nat → Int} {Bm : Nat → Nat → Int}
/-- how wide worlds may be -/
def gst (p : Int) : Int := if p = 5 then 4 else if p = 7 then 3 else 5
theorem w_greatest {f : Int32 → JM Mem τ} {Q : τ → Mem → NM → Prop} (hp : 0 ≤ p ∧ p ≤ 7) (h : GN M N (f (zI (gst p))) Q) : GN M N (jb (f_X8_greatest (zI p)) f) Q := by
  refine w_jb ?_
  unfold f_X8_greatest gst at *
  rw [show (5 : Int32) = zI 5 from rfl, show (7 : Int32) = zI 7 from rfl, show (4 : Int32) = zI 4 from rfl, show (3 : Int32) = zI 3 from rfl]
  refine w_eq ⟨by omega, by omega⟩ ⟨by omega, by omega⟩ (fun hc => ?_) (fun hc => ?_)
  · rw [if_pos hc] at h; exact w_jp h
  rw [if_neg hc] at h
  refine w_eq ⟨by omega, by omega⟩ ⟨by omega, by omega⟩ (fun hd => ?_) (fun hd => ?_)
  · rw [if_pos hd] at h; exact w_jp h
  · rw [if_neg hd] at h; exact w_jp h
theorem gst_le : 3 ≤ gst p ∧ gst p ≤ 5 := by
  unfold gst
  split
  · omega
  · split <;> omega
theorem w_sumWith {f : Int32 → JM Mem τ} {Q : τ → Mem → NM → Prop} {s : Nat} (hM : ML M m) (hA : MA M N m (m + 5) 0 p n T) (hC0 : WC N (m + 5) 0 p n T) (hCs : WC N (m + 5) (127 * (s + 1)) p2 n2 U) (hU : WOk p2 n2 U) (hs : 127 * (s + 1) + 127 ≤ 3440)
    (h : ∀ N' v, (p2 ≠ p ∧ v = 5 ∧ N' = N ∨ p2 = p ∧ gst p < n + n2 ∧ v = 7 ∧ N' = N ∨ p2 = p ∧ (n : Int) + n2 ≤ gst p ∧ v = 0 ∧ WC N' (m + 5) 0 p (n + n2) (altT p (n + n2) (smT n T U))) → (∀ b, b ≠ m + 5 → N' b = N b) → (∀ l, 127 ≤ l → N' (m + 5) l = N (m + 5) l) → GN M N' (f (zI v)) Q) :
    GN M N (jb (jcall 7 m (f_X8_sumWith m (zI s))) f) Q := by
  have hpb := hA.pb
  have hp := hA.pr
  have hg := gst_le (p := p)
  have hn1 := hA.n1
  have hn5 := hA.n5
  have h5 := hM.ka (o := 5) (d := (0, 3440)) rfl
  have hU1 := hU.2.1
  have hU5 := hU.2.2.1
  have hUp := hU.1.pos
  have hUp7 := hU.1.le7
  have hUb := hU.2.2.2.1
  refine w_Mc hM ?_
  unfold f_X8_sumWith
  rw [show (127 : Int32) = zI 127 from rfl, z_1, zI_add, zI_mul]
  refine w_jlet ?_
  refine w_Mf hM rfl ?_
  refine w_ald h5 (by omega) (by omega) ?_
  rw [show ((127 * ((s : Int) + 1)).toNat) = 127 * (s + 1) by omega, hCs.1]
  refine w_MI hM ?_
  rw [hA.pe]
  refine w_eq ⟨by omega, by omega⟩ ⟨by omega, by omega⟩ (fun hc => ?_) (fun hc => ?_)
  rotate_left
  · rw [show (5 : Int32) = zI 5 from rfl]
    exact w_jp (h N 5 (Or.inl ⟨hc, rfl, rfl⟩) (fun _ _ => rfl) (fun _ _ => rfl))
  subst hc
  refine w_Mf hM rfl ?_
  rw [zI_add]
  refine w_ald h5 (by omega) (by omega) ?_
  rw [show ((127 * ((s : Int) + 1) + 1).toNat) = 127 * (s + 1) + 1 by omega, hCs.2.1]
  refine w_MI hM (w_MI hM ?_)
  rw [hA.ne, hA.pe]
  refine w_greatest (by omega) ?_
  rw [zI_add]
  refine w_le ⟨by omega, by omega⟩ ⟨by omega, by omega⟩ (fun hd => ?_) (fun hd => ?_)
  rotate_left
  · rw [show (7 : Int32) = zI 7 from rfl]
    exact w_jp (h N 7 (Or.inr (Or.inl ⟨rfl, by omega, rfl, rfl⟩)) (fun _ _ => rfl) (fun _ _ => rfl))
  have hs5 : n + n2 ≤ 5 := by omega
  let J : Nat → Nat → Nat → NM → Prop := fun i j k N3 => WC N3 (m + 5) 0 p2 n (altT p2 (n + n2) (smP n T U i j k)) ∧ (∀ b, b ≠ m + 5 → N3 b = N b) ∧ ∀ l, 127 ≤ l → N3 (m + 5) l = N (m + 5) l
  have hnxt : ∀ i j k i' j' k' N3, (∀ a b c, a < b → b < n2 → c < n2 → (bfr i j k a b c ↔ bfr i' j' k' a b c)) → J i j k N3 → J i' j' k' N3 := fun i j k i' j' k' N3 hb ⟨k1, k2⟩ => ⟨by
    rw [← smP_q hb]; exact k1, k2⟩
  have hJ0 : J 0 0 0 N := ⟨by rw [smP_0 (hA.ok.more hs5)]; exact hC0, fun _ _ => rfl, fun _ _ => rfl⟩
  rw [z_0]
  refine w_up n2 (fun i N3 => J i 0 0 N3) 0 rfl (by omega) hJ0 ?_
  rintro i N3 hi hJ3
  unfold X8_sumWith_L53
  refine w_le ⟨by omega, by omega⟩ ⟨by omega, by omega⟩ (fun hd => ?_) (fun hd => ?_)
  · obtain rfl : i = n2 := by omega
    unfold X8_sumWith_b143
    refine w_jinl ?_
    refine w_Mf hM rfl ?_
    refine w_MI hM ?_
    rw [hJ3.2.1 m (by omega), hA.ne, zI_add, z_1]
    refine w_ast h5 (by omega) (by omega) ?_
    rw [show ((1 : Int).toNat) = 1 from rfl, z_0]
    obtain ⟨d1, d2, d3⟩ := hJ3.1
    refine w_jp (h _ 0 (Or.inr (Or.inr ⟨rfl, by omega, rfl, ⟨?_, ?_, fun x y z hx hy hz => ?_⟩⟩)) (fun b hb => ?_) (fun l hl => ?_))
    · show (if m + 5 = m + 5 ∧ 0 = 1 then _ else N3 (m + 5) 0) = _
      rw [if_neg (by omega)]; exact d1
    · show (if m + 5 = m + 5 ∧ 0 + 1 = 1 then (n : Int) + i else _) = _
      rw [if_pos ⟨rfl, rfl⟩]; omega
    · show (if m + 5 = m + 5 ∧ 0 + 2 + 25 * x + 5 * y + z = 1 then _ else N3 (m + 5) (0 + 2 + 25 * x + 5 * y + z)) = _
      rw [if_neg (by omega), d3 x y z hx hy hz, smP_1]
    · funext l
      show (if b = m + 5 ∧ _ then _ else N3 b l) = _
      rw [if_neg (fun e => hb e.1), hJ3.2.1 b hb]
    · show (if m + 5 = m + 5 ∧ l = 1 then _ else N3 (m + 5) l) = _
      rw [if_neg (by omega), hJ3.2.2 l hl]
  rw [z_1, zI_add]
  refine w_jlet ?_
  refine w_up n2 (fun j N4 => i < j ∧ J i j 0 N4) (i + 1) (by rfl) (by omega) ⟨by omega, hnxt _ _ _ _ _ _ _ (fun a b c h1 h2 h3 => by unfold bfr; omega) hJ3⟩ ?_
  rintro j N4 hj ⟨hij, hJ4⟩
  unfold X8_sumWith_L65
  refine w_le ⟨by omega, by omega⟩ ⟨by omega, by omega⟩ (fun he => ?_) (fun he => ?_)
  · unfold X8_sumWith_b137
    rw [z_1, zI_add]
    exact w_jinl (w_jcont ⟨by omega, rfl, hnxt _ _ _ _ _ _ _ (fun a b c h1 h2 h3 => by unfold bfr; omega) hJ4⟩)
  rw [z_0]
  refine w_up n2 (fun k N5 => J i j k N5) 0 rfl (by omega) hJ4 ?_
  rintro k N5 hk hJ5
  unfold X8_sumWith_L74
  refine w_le ⟨by omega, by omega⟩ ⟨by omega, by omega⟩ (fun hf => ?_) (fun hf => ?_)
  · unfold X8_sumWith_b131
    rw [z_1, zI_add]
    exact w_jinl (w_jcont ⟨by omega, rfl, by omega, hnxt _ _ _ _ _ _ _ (fun a b c h1 h2 h3 => by unfold bfr; omega) hJ5⟩)
  have en : N5 m 27 = n := by rw [hJ5.2.1 m (by omega)]; exact hA.ne
  refine w_Mf hM rfl ?_
  refine w_MI hM (w_MI hM (w_MI hM ?_))
  refine w_Mf hM rfl ?_
  unfold f_X8_cell
  rw [z_2, z_25, z_5]
  rw [zI_mul, zI_mul, zI_add, zI_add, zI_add]
  refine w_jb (w_jp ?_)
  rw [zI_add]
  refine w_ald h5 (by omega) (by omega) ?_
  rw [show ((127 * ((s : Int) + 1) + (2 + 25 * (i : Int) + 5 * (j : Int) + (k : Int))).toNat) = 127 * (s + 1) + 2 + 25 * i + 5 * j + k by omega, hJ5.2.2 _ (by omega), hCs.2.2 i j k (by omega) (by omega) (by omega), en, zI_add, zI_add, zI_add,
    show (n : Int) + (i : Int) = ((n + i : Nat) : Int) by omega, show (n : Int) + (j : Int) = ((n + j : Nat) : Int) by omega, show (n : Int) + (k : Int) = ((n + k : Nat) : Int) by omega, z_0]
  have hub := hUb i j k
  refine w_mset h5 (by omega) (B := 0) hJ5.1 hp hs5 (by omega) (by omega) (by omega) (by omega) (fun N6 c6 f6 f7 => ?_)
  rw [z_1, zI_add]
  exact w_jcont ⟨by omega, rfl, by rw [← smP_st]; exact c6, fun b hb => by rw [f6 b hb]; exact hJ5.2.1 b hb, fun l hl => by rw [f7 l (by omega)]; exact hJ5.2.2 l hl⟩
end MOD14
