/-! THE MODEL: seeking maps. -/
set_option maxRecDepth 100000
section MOD9
variable {α τ : Type} {M : Mem} {N N' : NM} {m a b o W B U D : Nat} {p : Int} {n q lev : Nat} {T F : Nat → Nat → Nat → Int} {im : Nat → Nat → Int}
def SkM (N : NM) (m : Nat) (st : Sk) : Prop := N m 43 = st.1 ∧ N m 45 = st.2.1 ∧ N m 46 = st.2.2
/-- what seeking from a level on writes -/
def SkG (N : NM) (m lev : Nat) (N' : NM) : Prop := (∀ b, b ≠ m → b ≠ m + 10 → b ≠ m + 17 → b ≠ m + 20 → b ≠ m + 21 → b ≠ m + 22 → b ≠ m + 24 → N' b = N b) ∧ (∀ k, k ≠ 43 → k ≠ 45 → k ≠ 46 → N' m k = N m k) ∧
  (∀ k, k < 5 * lev → N' (m + 20) k = N (m + 20) k) ∧ (∀ k, k < 25 * lev + 25 → N' (m + 21) k = N (m + 21) k) ∧ ∀ k, k < lev + 1 → N' (m + 22) k = N (m + 22) k
theorem SkG.rf : SkG N m lev N := ⟨fun _ _ _ _ _ _ _ _ => rfl, fun _ _ _ _ => rfl, fun _ _ => rfl, fun _ _ => rfl, fun _ _ => rfl⟩
theorem SkG.tr {N2 : NM} (h : SkG N m lev N') (h2 : SkG N' m lev N2) : SkG N m lev N2 :=
  ⟨fun b a1 a2 a3 a4 a5 a6 a7 => (h2.1 b a1 a2 a3 a4 a5 a6 a7).trans (h.1 b a1 a2 a3 a4 a5 a6 a7), fun k a1 a2 a3 => (h2.2.1 k a1 a2 a3).trans (h.2.1 k a1 a2 a3), fun k a1 => (h2.2.2.1 k a1).trans (h.2.2.1 k a1), fun k a1 => (h2.2.2.2.1 k a1).trans (h.2.2.2.1 k a1), fun k a1 => (h2.2.2.2.2 k a1).trans (h.2.2.2.2 k a1)⟩
theorem SkG.up {l2 : Nat} (h : SkG N m l2 N') (hl : lev ≤ l2) : SkG N m lev N' := ⟨h.1, h.2.1, fun k a1 => h.2.2.1 k (by omega), fun k a1 => h.2.2.2.1 k (by omega), fun k a1 => h.2.2.2.2 k (by omega)⟩
/-- the span of the images before a level -/
def ImS (N : NM) (m : Nat) (p : Int) (n k : Nat) (S : VS) : Prop := ∃ (q : Nat) (R : Nat → Nat → Int) (ld : Nat → Nat), N (m + 22) k = q ∧ (∀ r j, r < q → j < n → N (m + 21) (25 * k + (5 * r + j)) = R r j) ∧ (∀ r j, 0 ≤ R r j ∧ R r j < p ∧ (n ≤ j → R r j = 0)) ∧ (∀ r s, r < s → s < q → ld r < ld s) ∧ Ech p n q R ld S
theorem ImS.fr {k : Nat} {S : VS} (h : ImS N m p n k S) (hp : Pr p) (hn : n ≤ 5) (h1 : N' (m + 22) k = N (m + 22) k) (h2 : ∀ j, j < 25 * k + 25 → N' (m + 21) j = N (m + 21) j) : ImS N' m p n k S := by
  obtain ⟨q, R, ld, e1, e2, e3, e4, e5⟩ := h
  have hq : q ≤ n := SpM.qn (N := fun _ i => R (i / 5) (i % 5)) (a := 0) (R := R) ⟨fun r j hr hj => by
    show R ((5 * r + j) / 5) ((5 * r + j) % 5) = R r j
    rw [show (5 * r + j) / 5 = r by omega, show (5 * r + j) % 5 = j by omega], e3, e4, e5⟩ hp
  exact ⟨q, R, ld, h1.trans e1, fun r j hr hj => by rw [h2 _ (by omega)]; exact e2 r j hr hj, e3, e4, e5⟩
theorem w_goMaps (hM : ML M m) {fst : Int} (hfst : fst = 0 ∨ fst = 1) :
    ∀ (d fuel lev : Nat) (im : Nat → Nat → Int) (st : Sk) (N : NM), d < fuel → lev + d = n → MA M N m W B p n T → MSr M N m U D p n F → N m 47 = fst → SkM N m st → st.1 ≤ 200000 → st.2.1 ≤ st.1 → (d = 0 → st.2.1 < st.1) → st.2.2 = 0 →
      (∀ k, k < lev → VM N (m + 20) (5 * k) p n (im k)) → (∀ k, k ≤ lev → k < n → ImS N m p n k (Rs p n k im)) →
      GN M N (f_X8_goMaps fuel m (zI lev)) (fun _ B N' => B = M ∧ SkM N' m (skL p n F T (fst = 1) d im st) ∧ SkB (skL p n F T (fst = 1) d im st) ∧ SkG N m lev N') := by
  intro d
  induction d with
  | zero =>
    intro fuel lev im st N hfu hld hA hS hfs hst hb1 hb2 hb3 hb4 him hah
    obtain ⟨fuel, rfl⟩ : ∃ k, fuel = k + 1 := ⟨fuel - 1, by omega⟩
    have hn5 := hA.n5
    show GN M N (e_X8_goMaps (f_X8_goMaps fuel) m (zI lev)) _
    unfold e_X8_goMaps
    refine w_MI hM ?_
    rw [hA.ne]
    have := hb3 rfl
    refine w_eq ⟨by omega, by omega⟩ ⟨by omega, by omega⟩ (fun hc => ?_) (fun hc => absurd (show (lev : Int) = n by omega) hc)
    refine w_MI hM ?_
    rw [hst.2.1, z_1, zI_add]
    refine w_Mput hM (w_jp ⟨rfl, ⟨?_, ?_, ?_⟩, ⟨hb1, by show st.2.1 + 1 ≤ st.1; omega, by show st.2.2 ≤ 1; omega⟩, fun b a1 _ _ _ _ _ _ => ?_, fun k a1 a2 a3 => ?_, fun k _ => ?_, fun k _ => ?_, fun k _ => ?_⟩)
    · show (if m = m ∧ 43 = 45 then _ else N m 43) = _
      rw [if_neg (by omega)]; exact hst.1
    · show (if m = m ∧ 45 = 45 then (st.2.1 : Int) + 1 else _) = _
      rw [if_pos ⟨rfl, rfl⟩]; rfl
    · show (if m = m ∧ 46 = 45 then _ else N m 46) = _
      rw [if_neg (by omega)]; exact hst.2.2
    · funext k
      show (if b = m ∧ _ then _ else N b k) = _
      rw [if_neg (fun e => a1 e.1)]
    · show (if m = m ∧ k = 45 then _ else N m k) = _
      rw [if_neg (fun e => a2 e.2)]
    · show (if m + 20 = m ∧ _ then _ else N (m + 20) k) = _
      rw [if_neg (fun e => by omega)]
    · show (if m + 21 = m ∧ _ then _ else N (m + 21) k) = _
      rw [if_neg (fun e => by omega)]
    · show (if m + 22 = m ∧ _ then _ else N (m + 22) k) = _
      rw [if_neg (fun e => by omega)]
  | succ d ih =>
    intro fuel lev im st N hfu hld hA hS hfs hst hb1 hb2 hb3 hb4 him hah
    obtain ⟨fuel, rfl⟩ : ∃ k, fuel = k + 1 := ⟨fuel - 1, by omega⟩
    have hpb := hA.pb
    have hn5 := hA.n5
    have hp := hA.pr
    have hWe := hA.We
    have hUe := hS.2.2.2.2.2
    have hpw := pow_bd hpb n hn5
    have hpe : (((p ^ n).toNat : Nat) : Int) = p ^ n := by omega
    have h20 := hM.ka (o := 20) (d := (0, 25)) rfl
    have h21 := hM.ka (o := 21) (d := (0, 125)) rfl
    have h22 := hM.ka (o := 22) (d := (0, 6)) rfl
    have h10 := hM.ka (o := 10) (d := (0, 25)) rfl
    show GN M N (e_X8_goMaps (f_X8_goMaps fuel) m (zI lev)) _
    unfold e_X8_goMaps
    refine w_MI hM ?_
    rw [hA.ne]
    refine w_eq ⟨by omega, by omega⟩ ⟨by omega, by omega⟩ (fun hc => by omega) (fun hc => ?_)
    have elev : n - (d + 1) = lev := by omega
    have fra : ∀ N1 : NM, SkG N m lev N1 → MA M N1 m W B p n T := fun N1 g => hA.fr2 (fun k h1 h2 => g.2.1 k (by omega) (by omega) (by omega)) (g.1 W (by omega) (by omega) (by omega) (by omega) (by omega) (by omega) (by omega))
    have frs : ∀ N1 : NM, SkG N m lev N1 → MSr M N1 m U D p n F := fun N1 g => hS.fr (g.2.1 65 (by omega) (by omega) (by omega)) (g.1 U (by omega) (by omega) (by omega) (by omega) (by omega) (by omega) (by omega))
    have frf : ∀ N1 : NM, SkG N m lev N1 → N1 m 47 = fst := fun N1 g => by rw [g.2.1 47 (by omega) (by omega) (by omega)]; exact hfs
    have fri : ∀ N1 : NM, SkG N m lev N1 → ∀ k, k < lev → VM N1 (m + 20) (5 * k) p n (im k) := fun N1 g k hk => ⟨fun j hj => by rw [g.2.2.1 _ (by omega)]; exact (him k hk).1 j hj, (him k hk).2⟩
    have frh : ∀ N1 : NM, SkG N m lev N1 → ∀ k, k ≤ lev → k < n → ImS N1 m p n k (Rs p n k im) := fun N1 g k hk hkn => (hah k hk hkn).fr hp hn5 (g.2.2.2.2 k (by omega)) (fun j hj => g.2.2.2.1 j (by omega))
    have hsk : skL p n F T (fst = 1) (d + 1) im st = skR p n F T (fst = 1) (skL p n F T (fst = 1) d) lev im st ((p ^ n).toNat - 1) := by
      show skR p n F T (fst = 1) (skL p n F T (fst = 1) d) (n - (d + 1)) im st ((p ^ n).toNat - 1) = _
      rw [elev]
    rw [hsk]
    generalize hrr : skR p n F T (fst = 1) (skL p n F T (fst = 1) d) lev im st = sr
    have hsr0 : sr 0 = st := by rw [← hrr]; rfl
    have hsrs : ∀ k, sr (k + 1) = skS p n F T (fst = 1) (skL p n F T (fst = 1) d) lev im (k + 1) (sr k) := fun k => by rw [← hrr]; rfl
    have hstop : ∀ k, ((sr k).2.2 = 1 ∨ (fst = 1) ∧ 0 < (sr k).2.1) → ∀ j, k ≤ j → sr j = sr k := fun k hk j hj => by
      obtain ⟨e, rfl⟩ := Nat.le.dest hj
      rw [← hrr] at hk ⊢
      exact skR_stop hk e
    rw [z_1]
    refine w_up (p ^ n).toNat (fun v N1 => 1 ≤ v ∧ SkM N1 m (sr (v - 1)) ∧ SkB (sr (v - 1)) ∧ SkG N m lev N1) 1 rfl (by omega)
      ⟨by omega, by rw [show 1 - 1 = 0 from rfl, hsr0]; exact hst, by rw [show 1 - 1 = 0 from rfl, hsr0]; exact ⟨hb1, hb2, by omega⟩, SkG.rf⟩ ?_
    rintro v N1 hv ⟨hv1, hst1, hB1, hfr⟩
    obtain ⟨q1, q2, q3⟩ := hB1
    have hA1 := fra N1 hfr
    unfold X8_goMaps_L21
    refine w_mvectors hM hA1 ?_
    refine w_le ⟨by omega, by omega⟩ ⟨by omega, by omega⟩ (fun he => ?_) (fun he => ?_)
    · refine w_jinl (w_jp ⟨rfl, ?_⟩)
      rw [show (p ^ n).toNat - 1 = v - 1 by omega]
      exact ⟨hst1, ⟨q1, q2, q3⟩, hfr⟩
    have hexit : ((sr (v - 1)).2.2 = 1 ∨ (fst = 1) ∧ 0 < (sr (v - 1)).2.1) → SkM N1 m (sr ((p ^ n).toNat - 1)) ∧ SkB (sr ((p ^ n).toNat - 1)) ∧ SkG N m lev N1 := fun hx => by
      rw [hstop (v - 1) hx ((p ^ n).toNat - 1) (by omega)]
      exact ⟨hst1, ⟨q1, q2, q3⟩, hfr⟩
    refine w_MI hM ?_
    rw [hst1.2.2, z_0]
    have hstep : ((sr (v - 1)).2.2 = 0) → ¬ (fst = 1 ∧ 0 < (sr (v - 1)).2.1) → GN M N1 (X8_goMaps_b51 (f_X8_goMaps fuel) m (zI lev) (zI v)) (LQ (fun _ B N' => B = M ∧ SkM N' m (sr ((p ^ n).toNat - 1)) ∧ SkB (sr ((p ^ n).toNat - 1)) ∧ SkG N m lev N') (KF M (fun t N2 => v < (p ^ n).toNat ∧ t = zI ((v : Int) + 1) ∧ 1 ≤ v + 1 ∧ SkM N2 m (sr (v + 1 - 1)) ∧ SkB (sr (v + 1 - 1)) ∧ SkG N m lev N2))) := by
      intro hs0 hs1
      have hsv := hsrs (v - 1)
      rw [show v - 1 + 1 = v by omega] at hsv
      generalize hs : sr (v - 1) = s at hs0 hs1 hsv hst1 q1 q2 q3
      have hnst : ¬ (s.2.2 = 1 ∨ (fst = 1) ∧ 0 < s.2.1) := fun x => by
        rcases x with x | x
        · omega
        · exact hs1 x
      unfold skS at hsv
      rw [if_neg hnst] at hsv
      unfold X8_goMaps_b51
      refine w_MI hM ?_
      rw [hst1.1, show (200000 : Int32) = zI 200000 from rfl]
      refine w_eq ⟨by omega, by omega⟩ ⟨by omega, by omega⟩ (fun hf => ?_) (fun hf => ?_)
      · unfold X8_goMaps_b61
        rw [if_pos (by omega)] at hsv
        have hend : sr ((p ^ n).toNat - 1) = (s.1, s.2.1, 1) := by
          rw [hstop v (Or.inl (by rw [hsv])) _ (by omega), hsv]
        rw [hend]
        refine w_jinl ?_
        rw [z_1]
        refine w_putZ hM.km (Or.inr rfl) (w_jp ⟨rfl, ⟨?_, ?_, ?_⟩, ⟨q1, q2, Nat.le_refl _⟩, hfr.tr ⟨fun b a1 _ _ _ _ _ _ => ?_, fun k a1 a2 a3 => ?_, fun k _ => ?_, fun k _ => ?_, fun k _ => ?_⟩⟩)
        · show (if m = m ∧ 43 = 46 then _ else N1 m 43) = _
          rw [if_neg (by omega)]; exact hst1.1
        · show (if m = m ∧ 45 = 46 then _ else N1 m 45) = _
          rw [if_neg (by omega)]; exact hst1.2.1
        · show (if m = m ∧ 46 = 46 then (1 : Int) else _) = _
          rw [if_pos ⟨rfl, rfl⟩]; rfl
        · funext k
          show (if b = m ∧ _ then _ else N1 b k) = _
          rw [if_neg (fun e => a1 e.1)]
        · show (if m = m ∧ k = 46 then _ else N1 m k) = _
          rw [if_neg (fun e => a3 e.2)]
        · show (if m + 20 = m ∧ _ then _ else N1 (m + 20) k) = _
          rw [if_neg (fun e => by omega)]
        · show (if m + 21 = m ∧ _ then _ else N1 (m + 21) k) = _
          rw [if_neg (fun e => by omega)]
        · show (if m + 22 = m ∧ _ then _ else N1 (m + 22) k) = _
          rw [if_neg (fun e => by omega)]
      rw [if_neg (by omega)] at hsv
      refine w_MI hM ?_
      rw [hst1.1, z_1, zI_add]
      refine w_Mput hM ?_
      have hst2 : SkM (up2 N1 m 43 ((s.1 : Int) + 1)) m (s.1 + 1, s.2) := by
        refine ⟨?_, ?_, ?_⟩
        · show (if m = m ∧ 43 = 43 then (s.1 : Int) + 1 else _) = _
          rw [if_pos ⟨rfl, rfl⟩]; rfl
        · show (if m = m ∧ 45 = 43 then _ else N1 m 45) = _
          rw [if_neg (by omega)]; exact hst1.2.1
        · show (if m = m ∧ 46 = 43 then _ else N1 m 46) = _
          rw [if_neg (by omega)]; exact hst1.2.2
      have eu : ∀ b k, b ≠ m → up2 N1 m 43 ((s.1 : Int) + 1) b k = N1 b k := fun b k hb => by
        show (if b = m ∧ _ then _ else N1 b k) = _
        rw [if_neg (fun e => hb e.1)]
      have hfr2 : SkG N m lev (up2 N1 m 43 ((s.1 : Int) + 1)) := hfr.tr ⟨fun b a1 _ _ _ _ _ _ => funext fun k => eu b k a1, fun k a1 a2 a3 => by
        show (if m = m ∧ k = 43 then _ else N1 m k) = _
        rw [if_neg (fun e => a1 e.2)], fun k _ => eu _ _ (by omega), fun k _ => eu _ _ (by omega), fun k _ => eu _ _ (by omega)⟩
      generalize up2 N1 m 43 ((s.1 : Int) + 1) = N2 at hst2 hfr2
      refine w_Mf hM rfl ?_
      rw [z_5, zI_mul, show (5 : Int) * (lev : Int) = ((5 * lev : Nat) : Int) by omega]
      refine w_parts2 hM (fra N2 hfr2) (by omega) h20 (by omega) (by omega) ?_
      have hst3 : SkM (wro N2 (m + 20) (5 * lev) n (dg p v)) m (s.1 + 1, s.2) := by
        unfold SkM at hst2 ⊢
        rw [wro_ne (by omega)]
        exact hst2
      have hfr3 : SkG N m lev (wro N2 (m + 20) (5 * lev) n (dg p v)) := hfr2.tr ⟨fun b _ _ _ a4 _ _ _ => wro_ne a4, fun k _ _ _ => by rw [wro_ne (by omega)], fun k hk => by
        show (if m + 20 = m + 20 ∧ 5 * lev ≤ k ∧ _ then _ else N2 (m + 20) k) = _
        rw [if_neg (fun e => by omega)], fun k _ => by rw [wro_ne (by omega)], fun k _ => by rw [wro_ne (by omega)]⟩
      have him3 : VM (wro N2 (m + 20) (5 * lev) n (dg p v)) (m + 20) (5 * lev) p n (dgv p n v) := ⟨fun k hk => by rw [wro_at hk]; exact (if_pos hk).symm, fun k => dgv_bd (by omega) k⟩
      generalize wro N2 (m + 20) (5 * lev) n (dg p v) = N3 at hfr3 hst3 him3
      have hpost : ∀ N6 : NM, SkM N6 m (sr v) → SkB (sr v) → SkG N m lev N6 → GN M N6 (X8_goMaps_b227 (f_X8_goMaps fuel) m (zI lev) (zI v)) (LQ (fun _ B N' => B = M ∧ SkM N' m (sr ((p ^ n).toNat - 1)) ∧ SkB (sr ((p ^ n).toNat - 1)) ∧ SkG N m lev N') (KF M (fun t N2 => v < (p ^ n).toNat ∧ t = zI ((v : Int) + 1) ∧ 1 ≤ v + 1 ∧ SkM N2 m (sr (v + 1 - 1)) ∧ SkB (sr (v + 1 - 1)) ∧ SkG N m lev N2))) := by
        intro N6 h1 h2 h3
        unfold X8_goMaps_b227
        rw [z_1, zI_add]
        exact w_jcont ⟨by omega, rfl, by omega, by rw [Nat.add_sub_cancel]; exact h1, by rw [Nat.add_sub_cancel]; exact h2, h3⟩
      rw [z_0]
      refine w_up 25 (fun k N4 => N4 = wrj N3 (m + 10) k (fun j => N3 (m + 21) (25 * lev + j))) 0 rfl (by omega) wrj_0.symm ?_
      rintro k N4 hk rfl
      unfold X8_goMaps_L91
      rw [show (25 : Int32) = zI 25 from rfl]
      refine w_le ⟨by omega, by omega⟩ ⟨by omega, by omega⟩ (fun hc2 => ?_) (fun hc2 => ?_)
      rotate_left
      · refine w_Mf hM rfl ?_
        refine w_Mf hM rfl ?_
        rw [zI_mul, zI_add]
        refine w_ald h21 (by omega) (by omega) ?_
        rw [wrj_ne (by omega), show ((25 * (lev : Int) + (k : Int)).toNat) = 25 * lev + k by omega]
        refine w_ast h10 (by omega) (by omega) ?_
        rw [show ((k : Int).toNat) = k from rfl, wrj_up rfl, z_1, zI_add]
        exact w_jcont ⟨by omega, rfl, rfl⟩
      obtain rfl : k = 25 := by omega
      refine w_jinl ?_
      have ecp : ∀ j, j < 25 → wrj N3 (m + 10) 25 (fun j => N3 (m + 21) (25 * lev + j)) (m + 10) j = N3 (m + 21) (25 * lev + j) := fun j hj => by
        show (if m + 10 = m + 10 ∧ j < 25 then N3 (m + 21) (25 * lev + j) else _) = _
        rw [if_pos ⟨rfl, hj⟩]
      have hfr4 : SkG N m lev (wrj N3 (m + 10) 25 (fun j => N3 (m + 21) (25 * lev + j))) := hfr3.tr ⟨fun b _ a2 _ _ _ _ _ => wrj_ne a2, fun k _ _ _ => by rw [wrj_ne (by omega)], fun k hk => by rw [wrj_ne (by omega)], fun k _ => by rw [wrj_ne (by omega)], fun k _ => by rw [wrj_ne (by omega)]⟩
      have hst4 : SkM (wrj N3 (m + 10) 25 (fun j => N3 (m + 21) (25 * lev + j))) m (s.1 + 1, s.2) := by
        unfold SkM at hst3 ⊢
        rw [wrj_ne (by omega)]
        exact hst3
      have him4 : VM (wrj N3 (m + 10) 25 (fun j => N3 (m + 21) (25 * lev + j))) (m + 20) (5 * lev) p n (dgv p n v) := him3.fr (wrj_ne (by omega))
      obtain ⟨q, R, ld, i1, i2, i3, i4, i5⟩ := frh N3 hfr3 lev (Nat.le_refl _) (by omega)
      have hsp : SpM (wrj N3 (m + 10) 25 (fun j => N3 (m + 21) (25 * lev + j))) (m + 10) p n q R ld (Rs p n lev im) := by
        have hq : q ≤ n := SpM.qn (N := fun _ i => R (i / 5) (i % 5)) (a := 0) (R := R) ⟨fun r j hr hj => by
          show R ((5 * r + j) / 5) ((5 * r + j) % 5) = R r j
          rw [show (5 * r + j) / 5 = r by omega, show (5 * r + j) % 5 = j by omega], i3, i4, i5⟩ hp
        exact ⟨fun r j hr hj => by rw [ecp _ (by omega)]; exact i2 r j hr hj, i3, i4, i5⟩
      have hmq : wrj N3 (m + 10) 25 (fun j => N3 (m + 21) (25 * lev + j)) (m + 22) lev = q := by rw [wrj_ne (by omega)]; exact i1
      generalize wrj N3 (m + 10) 25 (fun j => N3 (m + 21) (25 * lev + j)) = N4 at hfr4 hst4 him4 hsp hmq
      have hqn := hsp.qn hp
      unfold X8_goMaps_b120
      refine w_Mf hM rfl ?_
      refine w_Mf hM rfl ?_
      refine w_ald h22 (by omega) (by omega) ?_
      rw [show ((lev : Int).toNat) = lev from rfl, hmq]
      refine w_Mf hM rfl ?_
      rw [z_5, zI_mul, show (5 : Int) * (lev : Int) = ((5 * lev : Nat) : Int) by omega]
      refine w_join hM (fra N4 hfr4) h10 (by omega) hsp h20 (by omega) him4 (by omega) (by omega) (by omega) (by omega) (fun N5 q5 R5 ld5 hs5 hx f5 => ?_)
      have hfr5 : SkG N m lev N5 := hfr4.tr ⟨fun b _ a2 _ _ _ _ a7 => f5 b a2 a7, fun k _ _ _ => by rw [f5 m (by omega) (by omega)], fun k _ => by rw [f5 _ (by omega) (by omega)], fun k _ => by rw [f5 _ (by omega) (by omega)], fun k _ => by rw [f5 _ (by omega) (by omega)]⟩
      have hst5 : SkM N5 m (s.1 + 1, s.2) := by
        unfold SkM at hst4 ⊢
        rw [f5 m (by omega) (by omega)]
        exact hst4
      have hq5n := hs5.qn hp
      refine w_Mf hM rfl ?_
      refine w_ald h22 (by omega) (by omega) ?_
      rw [show ((lev : Int).toNat) = lev from rfl, f5 (m + 22) (by omega) (by omega), hmq]
      have hBs : SkB (s.1 + 1, s.2) := ⟨by show s.1 + 1 ≤ 200000; omega, by show s.2.1 ≤ s.1 + 1; omega, by show s.2.2 ≤ 1; omega⟩
      refine w_eq ⟨by omega, by omega⟩ ⟨by omega, by omega⟩ (fun hx0 => ?_) (fun hx0 => ?_)
      · have hin : Rs p n lev im (dgv p n v) := by
          rcases hx with ⟨_, e⟩ | ⟨e, _⟩
          · exact e
          · omega
        rw [if_neg (fun x => x.1 hin)] at hsv
        exact hpost N5 (by rw [hsv]; exact hst5) (by rw [hsv]; exact hBs) hfr5
      have hout : ¬ Rs p n lev im (dgv p n v) := by
        rcases hx with ⟨e, _⟩ | ⟨_, e⟩
        · omega
        · exact e
      have himS : ∀ k, k ≤ lev → VM N5 (m + 20) (5 * k) p n (imS p n lev im v k) := fun k hk => by
        by_cases e : k = lev
        · rw [e, show imS p n lev im v lev = dgv p n v from if_pos rfl]
          exact him4.fr (f5 _ (by omega) (by omega))
        · rw [show imS p n lev im v k = im k from if_neg e]
          exact fri N5 hfr5 k (by omega)
      refine w_soFar hM (fra N5 hfr5) (frs N5 hfr5) (by omega) himS (fun N6 y hy f6 => ?_)
      have hfr6 : SkG N m lev N6 := hfr5.tr ⟨fun b _ _ a3 _ _ _ _ => f6 b a3, fun k _ _ _ => by rw [f6 m (by omega)], fun k _ => by rw [f6 _ (by omega)], fun k _ => by rw [f6 _ (by omega)], fun k _ => by rw [f6 _ (by omega)]⟩
      have hst6 : SkM N6 m (s.1 + 1, s.2) := by
        unfold SkM at hst5 ⊢
        rw [f6 m (by omega)]
        exact hst5
      have hs6 : SpM N6 (m + 10) p n q5 R5 ld5 (Ad (Rs p n lev im) (dgv p n v)) := hs5.fr (f6 _ (by omega))
      have him6 : ∀ k, k ≤ lev → VM N6 (m + 20) (5 * k) p n (imS p n lev im v k) := fun k hk => (himS k hk).fr (f6 _ (by omega))
      have hyb : y = 0 ∨ y = 1 := by rcases hy with ⟨e, _⟩ | ⟨e, _⟩ <;> omega
      rw [z_0]
      refine w_eq ⟨by omega, by omega⟩ ⟨by omega, by omega⟩ (fun hy0 => ?_) (fun hy0 => ?_)
      · have hnf : ¬ Fit p n F T lev (imS p n lev im v) := by
          rcases hy with ⟨e, _⟩ | ⟨_, e⟩
          · omega
          · exact e
        rw [if_neg (fun x => hnf x.2)] at hsv
        exact hpost N6 (by rw [hsv]; exact hst6) (by rw [hsv]; exact hBs) hfr6
      have hfit : Fit p n F T lev (imS p n lev im v) := by
        rcases hy with ⟨_, e⟩ | ⟨e, _⟩
        · exact e
        · omega
      rw [if_pos ⟨hout, hfit⟩] at hsv
      have hgo : ∀ N7 : NM, SkG N m lev N7 → SkM N7 m (s.1 + 1, s.2) → (∀ k, k ≤ lev → VM N7 (m + 20) (5 * k) p n (imS p n lev im v k)) → (lev + 1 < n → ∀ r j, r < q5 → j < n → N7 (m + 21) (25 * (lev + 1) + (5 * r + j)) = R5 r j) →
          GN M N7 (X8_goMaps_b211 (f_X8_goMaps fuel) m (zI lev) (zI v) (zI q5)) (LQ (fun _ B N' => B = M ∧ SkM N' m (sr ((p ^ n).toNat - 1)) ∧ SkB (sr ((p ^ n).toNat - 1)) ∧ SkG N m lev N') (KF M (fun t N2 => v < (p ^ n).toNat ∧ t = zI ((v : Int) + 1) ∧ 1 ≤ v + 1 ∧ SkM N2 m (sr (v + 1 - 1)) ∧ SkB (sr (v + 1 - 1)) ∧ SkG N m lev N2))) := by
        intro N7 h1 h2 h3 h4
        unfold X8_goMaps_b211
        refine w_Mf hM rfl ?_
        rw [z_1, zI_add]
        refine w_ast h22 (by omega) (by omega) ?_
        rw [show (((lev : Int) + 1).toNat) = lev + 1 by omega]
        have ev : up2 N7 (m + 22) (lev + 1) q5 (m + 22) (lev + 1) = q5 := if_pos ⟨rfl, rfl⟩
        have eo : ∀ b, b ≠ m + 22 → up2 N7 (m + 22) (lev + 1) q5 b = N7 b := fun b hb => funext fun k => if_neg (fun e => hb e.1)
        have en : ∀ k, k ≠ lev + 1 → up2 N7 (m + 22) (lev + 1) q5 (m + 22) k = N7 (m + 22) k := fun k hk => if_neg (fun e => hk e.2)
        have hfr8 : SkG N m lev (up2 N7 (m + 22) (lev + 1) q5) := h1.tr ⟨fun b _ _ _ _ _ a6 _ => eo b a6, fun k _ _ _ => by rw [eo m (by omega)], fun k _ => by rw [eo _ (by omega)], fun k _ => by rw [eo _ (by omega)], fun k hk => en k (by omega)⟩
        have hst8 : SkM (up2 N7 (m + 22) (lev + 1) q5) m (s.1 + 1, s.2) := by
          unfold SkM at h2 ⊢
          rw [eo m (by omega)]
          exact h2
        have him8 : ∀ k, k ≤ lev → VM (up2 N7 (m + 22) (lev + 1) q5) (m + 20) (5 * k) p n (imS p n lev im v k) := fun k hk => (h3 k hk).fr (eo _ (by omega))
        have hsp8 : lev + 1 < n → ∀ r j, r < q5 → j < n → up2 N7 (m + 22) (lev + 1) q5 (m + 21) (25 * (lev + 1) + (5 * r + j)) = R5 r j := fun a r j hr hj => by rw [eo _ (by omega)]; exact h4 a r j hr hj
        generalize up2 N7 (m + 22) (lev + 1) q5 = N8 at ev hfr8 hst8 him8 hsp8
        rw [show (lev : Int) + 1 = ((lev + 1 : Nat) : Int) by omega]
        refine w_Mc hM ?_
        refine gn_mono (ih fuel (lev + 1) (imS p n lev im v) (s.1 + 1, s.2) N8 (by omega) (by omega) (fra N8 hfr8) (frs N8 hfr8) (frf N8 hfr8) hst8 (by show s.1 + 1 ≤ 200000; omega) (by show s.2.1 ≤ s.1 + 1; omega) (fun _ => by show s.2.1 < s.1 + 1; omega) hs0 (fun k hk => him8 k (by omega)) (fun k hk hkn => ?_)) (fun _ B N9 hq => ?_)
        · by_cases e : k = lev + 1
          · subst e
            refine ⟨q5, R5, ld5, ev, hsp8 hkn, hs6.2.1, hs6.2.2.1, ?_⟩
            have eR : Ad (Rs p n lev im) (dgv p n v) = Rs p n (lev + 1) (imS p n lev im v) := by
              rw [← Rs.succ, show imS p n lev im v lev = dgv p n v from if_pos rfl]
              rw [Rs.same (B := imS p n lev im v) (C := im) (fun r hr => if_neg (by omega))]
            rw [← eR]
            exact hs6.2.2.2
          · rw [Rs.same (B := imS p n lev im v) (C := im) (fun r hr => if_neg (by omega))]
            exact frh N8 hfr8 k (by omega) hkn
        · obtain ⟨rfl, o1, o2, o3⟩ := hq
          exact hpost N9 (by rw [hsv]; exact o1) (by rw [hsv]; exact o2) (hfr8.tr (o3.up (by omega)))
      refine w_MI hM ?_
      rw [(fra N6 hfr6).ne, z_1, zI_add]
      refine w_le ⟨by omega, by omega⟩ ⟨by omega, by omega⟩ (fun hl => ?_) (fun hl => ?_)
      · exact hgo N6 hfr6 hst6 him6 (fun a => by omega)
      refine w_up 25 (fun k N7 => N7 = wro N6 (m + 21) (25 * lev + 25) k (N6 (m + 10))) 0 rfl (by omega) wro_0.symm ?_
      rintro k N7 hk7 rfl
      unfold X8_goMaps_L176
      rw [show (25 : Int32) = zI 25 from rfl]
      refine w_le ⟨by omega, by omega⟩ ⟨by omega, by omega⟩ (fun hc2 => ?_) (fun hc2 => ?_)
      rotate_left
      · refine w_Mf hM rfl ?_
        refine w_Mf hM rfl ?_
        refine w_ald h10 (by omega) (by omega) ?_
        rw [wro_ne (by omega), zI_mul, zI_add, zI_add]
        refine w_ast h21 (by omega) (by omega) ?_
        rw [show ((25 * (lev : Int) + 25 + (k : Int)).toNat) = 25 * lev + 25 + k by omega, wro_up (g := N6 (m + 10)) (show N6 (m + 10) ((k : Int).toNat) = N6 (m + 10) k from rfl), z_1, zI_add]
        exact w_jcont ⟨by omega, rfl, rfl⟩
      obtain rfl : k = 25 := by omega
      refine w_jinl (hgo _ ?_ ?_ (fun k hk => (him6 k hk).fr (wro_ne (by omega))) (fun _ r j hr hj => ?_))
      · refine hfr6.tr ⟨fun b _ _ _ _ a5 _ _ => wro_ne a5, fun k _ _ _ => by rw [wro_ne (by omega)], fun k _ => by rw [wro_ne (by omega)], fun k hk => ?_, fun k _ => by rw [wro_ne (by omega)]⟩
        show (if m + 21 = m + 21 ∧ 25 * lev + 25 ≤ k ∧ _ then _ else N6 (m + 21) k) = _
        rw [if_neg (fun e => by omega)]
      · unfold SkM at hst6 ⊢
        rw [wro_ne (by omega)]
        exact hst6
      · rw [show 25 * (lev + 1) + (5 * r + j) = 25 * lev + 25 + (5 * r + j) by omega, wro_at (by omega)]
        exact hs6.1 r j hr hj
    refine w_eq ⟨by omega, by omega⟩ ⟨by omega, by omega⟩ (fun hf => ?_) (fun hf => ?_)
    rotate_left
    · exact w_jinl (w_jp ⟨rfl, hexit (Or.inl (by omega))⟩)
    refine w_MI hM ?_
    rw [frf N1 hfr]
    refine w_eq ⟨by omega, by omega⟩ ⟨by omega, by omega⟩ (fun hg => ?_) (fun hg => ?_)
    · exact hstep (by omega) (fun x => by omega)
    refine w_MI hM ?_
    rw [hst1.2.1]
    refine w_le ⟨by omega, by omega⟩ ⟨by omega, by omega⟩ (fun hh => ?_) (fun hh => ?_)
    · exact hstep (by omega) (fun x => by omega)
    · exact w_jinl (w_jp ⟨rfl, hexit (Or.inr ⟨by omega, by omega⟩)⟩)
end MOD9
