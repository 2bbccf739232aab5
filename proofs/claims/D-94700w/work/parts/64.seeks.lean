/-! THE COMPONENT: seeking maps. -/
set_option maxRecDepth 100000
section CMP10
variable {α τ ρ : Type} {M : Mem} {N N' : NM} {c w u : Nat} {p : Int} {n m : Nat} {T F : Nat → Nat → Nat → Int} {im : Nat → Nat → Int} {lev : Nat}
theorem Rs.succ {B : Nat → Nat → Int} {k : Nat} : Ad (Rs p n k B) (B k) = Rs p n (k + 1) B := by
  unfold Rs
  rw [Ad.gn]
  refine congrArg (Gn p n) (vs_anti (fun g h => ?_) (fun g ⟨r, hr, e⟩ => ?_))
  · rcases h with ⟨r, hr, e⟩ | e
    · exact ⟨r, by omega, e⟩
    · exact ⟨k, by omega, e⟩
  · by_cases q : r = k
    · rw [q] at e; exact Or.inr e
    · exact Or.inl ⟨r, by omega, e⟩
theorem Rs.same {B C : Nat → Nat → Int} {k : Nat} (h : ∀ r, r < k → B r = C r) : Rs p n k B = Rs p n k C := Rs.q (fun r hr => by rw [h r hr]; exact Vq.rf)
def SkN (N : NM) (c : Nat) (st : Sk) : Prop := N c 29 = st.1 ∧ N c 31 = st.2.1 ∧ N c 32 = st.2.2
/-- what seeking from a level on writes -/
def SkF (N : NM) (c lev : Nat) (N' : NM) : Prop := (∀ b, b ≠ c → b ≠ c + 74 → b ≠ c + 75 → b < c + 193 + lev ∨ c + 198 ≤ b → b < c + 1519 + 8 * (lev + 1) ∨ c + 1567 ≤ b → N' b = N b) ∧ ∀ k, k ≠ 29 → k ≠ 31 → k ≠ 32 → N' c k = N c k
theorem SkF.rf : SkF N c lev N := ⟨fun _ _ _ _ _ _ => rfl, fun _ _ _ _ => rfl⟩
theorem SkF.tr {N2 : NM} (h : SkF N c lev N') (h2 : SkF N' c lev N2) : SkF N c lev N2 := ⟨fun b a1 a2 a3 a4 a5 => (h2.1 b a1 a2 a3 a4 a5).trans (h.1 b a1 a2 a3 a4 a5), fun k a1 a2 a3 => (h2.2 k a1 a2 a3).trans (h.2 k a1 a2 a3)⟩
theorem SkF.up {l2 : Nat} (h : SkF N c l2 N') (hl : lev ≤ l2) : SkF N c lev N' := ⟨fun b a1 a2 a3 a4 a5 => h.1 b a1 a2 a3 (by omega) (by omega), h.2⟩
theorem w_seeks (hC : CL M c) (hU : WL M u) (hW : WL M w) (hw : w + 32 ≤ c + 72 ∨ c + 212 ≤ w) (hu : u + 32 ≤ c + 72 ∨ c + 212 ≤ u) (hwc : c < w ∧ c < u ∧ w + 32 ≤ c + 1519 ∧ u + 32 ≤ c + 1519) {fst : Int} (hfst : fst = 0 ∨ fst = 1) :
    ∀ (d fuel lev : Nat) (im : Nat → Nat → Int) (st : Sk) (N : NM), d < fuel → lev + d = n → WD N u p n F → WD N w p n T → SkN N c st → st.1 ≤ 200000 → st.2.1 ≤ st.1 → (d = 0 → st.2.1 < st.1) → st.2.2 = 0 →
      (∀ k, k < lev → VD N (c + 192 + 1 + k) p n (im k)) → (∀ k, k ≤ lev → ∃ m R ld, SpD N (c + 1519 + 8 * k) p n m R ld (Rs p n k im)) →
      GN M N (f_X0_seeks fuel c u w (zI lev) (zI fst)) (fun _ B N' => B = M ∧ SkN N' c (skL p n F T (fst = 1) d im st) ∧ SkB (skL p n F T (fst = 1) d im st) ∧ SkF N c lev N') := by
  intro d
  induction d with
  | zero =>
    intro fuel lev im st N hfu hld hE hD hst hb1 hb2 hb3 hb4 him hah
    obtain ⟨fuel, rfl⟩ : ∃ k, fuel = k + 1 := ⟨fuel - 1, by omega⟩
    have hn5 := hD.n5
    show GN M N (e_X0_seeks (f_X0_seeks fuel) c u w (zI lev) (zI fst)) _
    unfold e_X0_seeks
    refine w_Wp hU ?_
    rw [hE.ne]
    have := hb3 rfl
    refine w_eq ⟨by omega, by omega⟩ ⟨by omega, by omega⟩ (fun hc => ?_) (fun hc => absurd (show (lev : Int) = n by omega) hc)
    refine w_CI hC ?_
    rw [hst.2.1, z_1, zI_add]
    refine w_Cput hC (w_jp ⟨rfl, ⟨?_, ?_, ?_⟩, ⟨hb1, by show st.2.1 + 1 ≤ st.1; omega, by show st.2.2 ≤ 1; omega⟩, fun b a1 _ _ _ _ => ?_, fun k a1 a2 a3 => ?_⟩)
    · show (if c = c ∧ 29 = 31 then _ else N c 29) = _
      rw [if_neg (by omega)]; exact hst.1
    · show (if c = c ∧ 31 = 31 then (st.2.1 : Int) + 1 else _) = _
      rw [if_pos ⟨rfl, rfl⟩]; rfl
    · show (if c = c ∧ 32 = 31 then _ else N c 32) = _
      rw [if_neg (by omega)]; exact hst.2.2
    · funext k
      show (if b = c ∧ _ then _ else N b k) = _
      rw [if_neg (fun e => a1 e.1)]
    · show (if c = c ∧ k = 31 then _ else N c k) = _
      rw [if_neg (fun e => a2 e.2)]
  | succ d ih =>
    intro fuel lev im st N hfu hld hE hD hst hb1 hb2 hb3 hb4 him hah
    obtain ⟨fuel, rfl⟩ : ∃ k, fuel = k + 1 := ⟨fuel - 1, by omega⟩
    have hpb := hD.pb
    have hn5 := hD.n5
    have hn1 := hD.n1
    have hp := hD.pr
    have hpw := pow_bd hpb n hn5
    have hpe : (((p ^ n).toNat : Nat) : Int) = p ^ n := by omega
    have hI := hC.im
    have h192 := hC.ka (o := 192) (d := (5, 5)) rfl
    have h198 := hC.ka (o := 198) (d := (8, 6)) rfl
    have h75 := hC.ka (o := 75) (d := (0, 5)) rfl
    show GN M N (e_X0_seeks (f_X0_seeks fuel) c u w (zI lev) (zI fst)) _
    unfold e_X0_seeks
    refine w_Wp hU ?_
    rw [hE.ne]
    refine w_eq ⟨by omega, by omega⟩ ⟨by omega, by omega⟩ (fun hc => by omega) (fun hc => ?_)
    have elev : n - (d + 1) = lev := by omega
    have frw : ∀ N1 : NM, SkF N c lev N1 → WD N1 w p n T := fun N1 g => hD.fr (fun b h1 h2 => g.1 b (by omega) (by omega) (by omega) (by omega) (by omega))
    have fru : ∀ N1 : NM, SkF N c lev N1 → WD N1 u p n F := fun N1 g => hE.fr (fun b h1 h2 => g.1 b (by omega) (by omega) (by omega) (by omega) (by omega))
    have fri : ∀ N1 : NM, SkF N c lev N1 → ∀ k, k < lev → VD N1 (c + 192 + 1 + k) p n (im k) := fun N1 g k hk => (him k hk).fr (g.1 _ (by omega) (by omega) (by omega) (by omega) (by omega))
    have fra : ∀ N1 : NM, SkF N c lev N1 → ∀ k, k ≤ lev → ∃ m R ld, SpD N1 (c + 1519 + 8 * k) p n m R ld (Rs p n k im) := fun N1 g k hk => by
      obtain ⟨m, R, ld, h⟩ := hah k hk
      exact ⟨m, R, ld, h.fr (fun b h1 h2 _ => g.1 b (by omega) (by omega) (by omega) (by omega) (by omega)) hp hn5⟩
    have hsk : skL p n F T (fst = 1) (d + 1) im st = skR p n F T (fst = 1) (skL p n F T (fst = 1) d) lev im st ((p ^ n).toNat - 1) := by
      show skR p n F T (fst = 1) (skL p n F T (fst = 1) d) (n - (d + 1)) im st ((p ^ n).toNat - 1) = _
      rw [elev]
    rw [hsk]
    generalize hrr : skR p n F T (fst = 1) (skL p n F T (fst = 1) d) lev im st = sr
    have hsr0 : sr 0 = st := by rw [← hrr]; rfl
    have hsrs : ∀ k, sr (k + 1) = skS p n F T (fst = 1) (skL p n F T (fst = 1) d) lev im (k + 1) (sr k) := fun k => by rw [← hrr]; rfl
    have hstop : ∀ k, ((sr k).2.2 = 1 ∨ (fst = 1) ∧ 0 < (sr k).2.1) → ∀ j, k ≤ j → sr j = sr k := fun k hk j hj => by
      obtain ⟨e, rfl⟩ := Nat.le.dest hj
      rw [← hrr] at hk ⊢
      exact skR_stop hk e
    refine w_up (p ^ n).toNat (fun v N1 => 1 ≤ v ∧ SkN N1 c (sr (v - 1)) ∧ SkB (sr (v - 1)) ∧ SkF N c lev N1) 1 rfl (by omega)
      ⟨by omega, by rw [show 1 - 1 = 0 from rfl, hsr0]; exact hst, by rw [show 1 - 1 = 0 from rfl, hsr0]; exact ⟨hb1, hb2, by omega⟩, SkF.rf⟩ ?_
    rintro v N1 hv ⟨hv1, hst1, hB1, hfr⟩
    obtain ⟨q1, q2, q3⟩ := hB1
    have hDw := frw N1 hfr
    unfold X0_seeks_L22
    refine w_vectors hW hDw ?_
    refine w_le ⟨by omega, by omega⟩ ⟨by omega, by omega⟩ (fun he => ?_) (fun he => ?_)
    · refine w_jinl (w_jp ⟨rfl, ?_⟩)
      rw [show (p ^ n).toNat - 1 = v - 1 by omega]
      exact ⟨hst1, ⟨q1, q2, q3⟩, hfr⟩
    have hexit : ((sr (v - 1)).2.2 = 1 ∨ (fst = 1) ∧ 0 < (sr (v - 1)).2.1) → SkN N1 c (sr ((p ^ n).toNat - 1)) ∧ SkB (sr ((p ^ n).toNat - 1)) ∧ SkF N c lev N1 := fun hx => by
      rw [hstop (v - 1) hx ((p ^ n).toNat - 1) (by omega)]
      exact ⟨hst1, ⟨q1, q2, q3⟩, hfr⟩
    refine w_CI hC ?_
    rw [hst1.2.2, z_0]
    have hstep : ((sr (v - 1)).2.2 = 0) → ¬ (fst = 1 ∧ 0 < (sr (v - 1)).2.1) → GN M N1 (X0_seeks_b50 (f_X0_seeks fuel) c u w (zI lev) (zI fst) (zI v)) (LQ (fun _ B N' => B = M ∧ SkN N' c (sr ((p ^ n).toNat - 1)) ∧ SkB (sr ((p ^ n).toNat - 1)) ∧ SkF N c lev N') (KF M (fun t N2 => v < (p ^ n).toNat ∧ t = zI ((v : Int) + 1) ∧ 1 ≤ v + 1 ∧ SkN N2 c (sr (v + 1 - 1)) ∧ SkB (sr (v + 1 - 1)) ∧ SkF N c lev N2))) := by
      intro hs0 hs1
      have hsv := hsrs (v - 1)
      rw [show v - 1 + 1 = v by omega] at hsv
      generalize hs : sr (v - 1) = s at hs0 hs1 hsv hst1 q1 q2 q3
      have hnst : ¬ (s.2.2 = 1 ∨ (fst = 1) ∧ 0 < s.2.1) := fun x => by
        rcases x with x | x
        · omega
        · exact hs1 x
      unfold skS at hsv
      rw [if_neg hnst] at hsv
      unfold X0_seeks_b50
      refine w_CI hC ?_
      rw [hst1.1, show (200000 : Int32) = zI 200000 from rfl]
      refine w_eq ⟨by omega, by omega⟩ ⟨by omega, by omega⟩ (fun hf => ?_) (fun hf => ?_)
      · unfold X0_seeks_b60
        rw [if_pos (by omega)] at hsv
        have hend : sr ((p ^ n).toNat - 1) = (s.1, s.2.1, 1) := by
          rw [hstop v (Or.inl (by rw [hsv])) _ (by omega), hsv]
        rw [hend]
        refine w_jinl ?_
        rw [z_1]
        refine w_CputZ hC (Or.inr rfl) (w_jp ⟨rfl, ⟨?_, ?_, ?_⟩, ⟨q1, q2, Nat.le_refl _⟩, hfr.tr ⟨fun b a1 _ _ _ _ => ?_, fun k a1 a2 a3 => ?_⟩⟩)
        · show (if c = c ∧ 29 = 32 then _ else N1 c 29) = _
          rw [if_neg (by omega)]; exact hst1.1
        · show (if c = c ∧ 31 = 32 then _ else N1 c 31) = _
          rw [if_neg (by omega)]; exact hst1.2.1
        · show (if c = c ∧ 32 = 32 then (1 : Int) else _) = _
          rw [if_pos ⟨rfl, rfl⟩]; rfl
        · funext k
          show (if b = c ∧ _ then _ else N1 b k) = _
          rw [if_neg (fun e => a1 e.1)]
        · show (if c = c ∧ k = 32 then _ else N1 c k) = _
          rw [if_neg (fun e => a3 e.2)]
      rw [if_neg (by omega)] at hsv
      refine w_CI hC ?_
      rw [hst1.1, z_1, zI_add]
      refine w_Cput hC ?_
      have hst2 : SkN (up2 N1 c 29 ((s.1 : Int) + 1)) c (s.1 + 1, s.2) := by
        refine ⟨?_, ?_, ?_⟩
        · show (if c = c ∧ 29 = 29 then (s.1 : Int) + 1 else _) = _
          rw [if_pos ⟨rfl, rfl⟩]; rfl
        · show (if c = c ∧ 31 = 29 then _ else N1 c 31) = _
          rw [if_neg (by omega)]; exact hst1.2.1
        · show (if c = c ∧ 32 = 29 then _ else N1 c 32) = _
          rw [if_neg (by omega)]; exact hst1.2.2
      have hfr2 : SkF N c lev (up2 N1 c 29 ((s.1 : Int) + 1)) := hfr.tr ⟨fun b a1 _ _ _ _ => by
        funext k
        show (if b = c ∧ _ then _ else N1 b k) = _
        rw [if_neg (fun e => a1 e.1)], fun k a1 a2 a3 => by
        show (if c = c ∧ k = 29 then _ else N1 c k) = _
        rw [if_neg (fun e => a1 e.2)]⟩
      generalize up2 N1 c 29 ((s.1 : Int) + 1) = N2 at hst2 hfr2
      have hrl := hI lev (show lev < 5 by omega)
      refine w_Cf hC rfl ?_
      refine w_R1 h192 hI (by omega) (by omega) ?_
      refine w_parts hW (frw N2 hfr2) (by omega) hrl.2 (by omega) (by omega) ?_
      refine w_Cf hC rfl ?_
      refine w_R1 h192 hI (by omega) (by omega) ?_
      refine w_Cf hC rfl ?_
      rw [z_0]
      refine w_copy5 hrl.2 h75 (by omega) (by omega) ?_
      have e3 : cp5 (wr5 N2 (c + 192 + 1 + lev) (fun k => if k < n then dg p v k else 0)) (c + 192 + 1 + lev) (c + 75) = wr5 (wr5 N2 (c + 192 + 1 + lev) (dgv p n v)) (c + 75) (dgv p n v) := by
        funext b k
        show (if b = c + 75 ∧ k < 5 then wr5 N2 (c + 192 + 1 + lev) (dgv p n v) (c + 192 + 1 + lev) k else _) = (if b = c + 75 ∧ k < 5 then dgv p n v k else _)
        by_cases e : b = c + 75 ∧ k < 5
        · rw [if_pos e, if_pos e, wr5_at e.2]
        · rw [if_neg e, if_neg e]; rfl
      rw [e3]
      have hfr3 : SkF N c lev (wr5 (wr5 N2 (c + 192 + 1 + lev) (dgv p n v)) (c + 75) (dgv p n v)) := hfr2.tr ⟨fun b a1 a2 a3 a4 a5 => by rw [wr5_ne a3, wr5_ne (by omega)], fun k _ _ _ => by rw [wr5_ne (by omega), wr5_ne (by omega)]⟩
      have hst3 : SkN (wr5 (wr5 N2 (c + 192 + 1 + lev) (dgv p n v)) (c + 75) (dgv p n v)) c (s.1 + 1, s.2) := by
        unfold SkN at hst2 ⊢
        rw [wr5_ne (by omega), wr5_ne (by omega)]
        exact hst2
      have him3 : VD (wr5 (wr5 N2 (c + 192 + 1 + lev) (dgv p n v)) (c + 75) (dgv p n v)) (c + 192 + 1 + lev) p n (dgv p n v) := ⟨fun k hk => by rw [wr5_ne (by omega), wr5_at hk], fun k => dgv_bd (by omega) k⟩
      have hwk3 : VD (wr5 (wr5 N2 (c + 192 + 1 + lev) (dgv p n v)) (c + 75) (dgv p n v)) (c + 75) p n (dgv p n v) := ⟨fun k hk => wr5_at hk, fun k => dgv_bd (by omega) k⟩
      generalize wr5 (wr5 N2 (c + 192 + 1 + lev) (dgv p n v)) (c + 75) (dgv p n v) = N3 at hfr3 hst3 him3 hwk3
      obtain ⟨ma, Ra, la, hsa⟩ := fra N3 hfr3 lev (Nat.le_refl _)
      have ha0 := hC.ah (k := lev) (by omega)
      have ha1 := hC.ah (k := lev + 1) (by omega)
      have e1 : (zI (lev : Nat) : Int32) + zI 1 = zI ((lev + 1 : Nat) : Int) := by rw [zI_add]; rfl
      refine w_Cf hC rfl ?_
      rw [e1]
      refine w_aldA h198 (by omega) (by omega) ha1.1 ?_
      refine w_Cf hC rfl ?_
      refine w_aldA h198 (by omega) (by omega) ha0.1 ?_
      refine w_scopy hp hn5 ha1.2 ha0.2 hsa (by omega) (fun N4 hs4 f4 => ?_)
      refine w_Cf hC rfl ?_
      refine w_aldA h198 (by omega) (by omega) ha1.1 ?_
      refine w_Cf hC rfl ?_
      have hfr4 : SkF N c lev N4 := hfr3.tr ⟨fun b a1 a2 a3 a4 a5 => f4 b (by omega), fun k _ _ _ => by rw [f4 c (by omega)]⟩
      refine w_add ha1.2 hW (frw N4 hfr4) hs4 h75 (by omega) (X := dgv p n v) (hwk3.fr (f4 _ (by omega))) (by omega) (by omega) (by omega) (fun N5 m5 R5 ld5 x hs5 hx f5 => ?_)
      have hfr5 : SkF N c lev N5 := hfr4.tr ⟨fun b a1 a2 a3 a4 a5 => f5 b a3 (by omega), fun k _ _ _ => by rw [f5 c (by omega) (by omega)]⟩
      have hst5 : SkN N5 c (s.1 + 1, s.2) := by
        unfold SkN at hst3 ⊢
        rw [f5 c (by omega) (by omega), f4 c (by omega)]
        exact hst3
      have hback : ∀ N6 : NM, SkN N6 c (sr v) → SkB (sr v) → SkF N c lev N6 → GN M N6 (X0_seeks_b161 (f_X0_seeks fuel) c u w (zI lev) (zI fst) (zI v)) (LQ (fun _ B N' => B = M ∧ SkN N' c (sr ((p ^ n).toNat - 1)) ∧ SkB (sr ((p ^ n).toNat - 1)) ∧ SkF N c lev N') (KF M (fun t N2 => v < (p ^ n).toNat ∧ t = zI ((v : Int) + 1) ∧ 1 ≤ v + 1 ∧ SkN N2 c (sr (v + 1 - 1)) ∧ SkB (sr (v + 1 - 1)) ∧ SkF N c lev N2))) := by
        intro N6 h1 h2 h3
        unfold X0_seeks_b161
        rw [z_1, zI_add]
        exact w_jcont ⟨by omega, rfl, by omega, by rw [Nat.add_sub_cancel]; exact h1, by rw [Nat.add_sub_cancel]; exact h2, h3⟩
      have hxb : x = 0 ∨ x = 1 := by rcases hx with ⟨e, _⟩ | ⟨e, _⟩ <;> omega
      refine w_eq ⟨by omega, by omega⟩ ⟨by omega, by omega⟩ (fun hx0 => ?_) (fun hx0 => ?_)
      · have hin : Rs p n lev im (dgv p n v) := by
          rcases hx with ⟨_, _, e⟩ | ⟨e, _⟩
          · exact e
          · omega
        rw [if_neg (fun x => x.1 hin)] at hsv
        exact hback N5 (by rw [hsv]; exact hst5) (by rw [hsv]; exact ⟨by show s.1 + 1 ≤ 200000; omega, by show s.2.1 ≤ s.1 + 1; omega, by show s.2.2 ≤ 1; omega⟩) hfr5
      have hout : ¬ Rs p n lev im (dgv p n v) := by
        rcases hx with ⟨e, _⟩ | ⟨_, _, e⟩
        · omega
        · exact e
      have himS : ∀ k, k ≤ lev → VD N5 (c + 192 + 1 + k) p n (imS p n lev im v k) := fun k hk => by
        by_cases e : k = lev
        · rw [e, show imS p n lev im v lev = dgv p n v from if_pos rfl]
          exact (him3.fr (f4 _ (by omega))).fr (f5 _ (by omega) (by omega))
        · rw [show imS p n lev im v k = im k from if_neg e]
          exact fri N5 hfr5 k (by omega)
      refine w_fits hC hU (fru N5 hfr5) hW (frw N5 hfr5) hw hu (by omega) himS (fun N6 y hy f6 => ?_)
      have hfr6 : SkF N c lev N6 := hfr5.tr ⟨fun b a1 a2 a3 a4 a5 => f6 b a2, fun k _ _ _ => by rw [f6 c (by omega)]⟩
      have hst6 : SkN N6 c (s.1 + 1, s.2) := by
        unfold SkN at hst5 ⊢
        rw [f6 c (by omega)]
        exact hst5
      have hyb : y = 0 ∨ y = 1 := by rcases hy with ⟨e, _⟩ | ⟨e, _⟩ <;> omega
      refine w_eq ⟨by omega, by omega⟩ ⟨by omega, by omega⟩ (fun hy0 => ?_) (fun hy0 => ?_)
      · have hnf : ¬ Fit p n F T lev (imS p n lev im v) := by
          rcases hy with ⟨e, _⟩ | ⟨_, e⟩
          · omega
          · exact e
        rw [if_neg (fun x => hnf x.2)] at hsv
        exact hback N6 (by rw [hsv]; exact hst6) (by rw [hsv]; exact ⟨by show s.1 + 1 ≤ 200000; omega, by show s.2.1 ≤ s.1 + 1; omega, by show s.2.2 ≤ 1; omega⟩) hfr6
      have hfit : Fit p n F T lev (imS p n lev im v) := by
        rcases hy with ⟨_, e⟩ | ⟨e, _⟩
        · exact e
        · omega
      rw [if_pos ⟨hout, hfit⟩] at hsv
      refine w_Cc hC ?_
      refine gn_mono (ih fuel (lev + 1) (imS p n lev im v) (s.1 + 1, s.2) N6 (by omega) (by omega) (fru N6 hfr6) (frw N6 hfr6) hst6 (by show s.1 + 1 ≤ 200000; omega) (by show s.2.1 ≤ s.1 + 1; omega) (fun _ => by show s.2.1 < s.1 + 1; omega) hs0 (fun k hk => (himS k (by omega)).fr (f6 _ (by omega))) (fun k hk => ?_)) (fun _ B N7 hq => ?_)
      · by_cases e : k = lev + 1
        · refine ⟨m5, R5, ld5, ?_⟩
          have eR : Ad (Rs p n lev im) (dgv p n v) = Rs p n k (imS p n lev im v) := by
            rw [e, ← Rs.succ, show imS p n lev im v lev = dgv p n v from if_pos rfl]
            rw [Rs.same (B := imS p n lev im v) (C := im) (fun r hr => if_neg (by omega))]
          rw [← eR, e]
          exact hs5.fr (fun b h1 h2 _ => f6 b (by omega)) hp hn5
        · rw [Rs.same (B := imS p n lev im v) (C := im) (fun r hr => if_neg (by omega))]
          exact fra N6 hfr6 k (by omega)
      · obtain ⟨rfl, h1, h2, h3⟩ := hq
        exact hback N7 (by rw [hsv]; exact h1) (by rw [hsv]; exact h2) (hfr6.tr (h3.up (by omega)))
    refine w_eq ⟨by omega, by omega⟩ ⟨by omega, by omega⟩ (fun hf => ?_) (fun hf => ?_)
    rotate_left
    · exact w_jinl (w_jp ⟨rfl, hexit (Or.inl (by omega))⟩)
    refine w_eq ⟨by omega, by omega⟩ ⟨by omega, by omega⟩ (fun hg => ?_) (fun hg => ?_)
    · exact hstep (by omega) (fun x => by omega)
    refine w_CI hC ?_
    rw [hst1.2.1]
    refine w_lt ⟨by omega, by omega⟩ ⟨by omega, by omega⟩ (fun hh => ?_) (fun hh => ?_)
    · exact w_jinl (w_jp ⟨rfl, hexit (Or.inr ⟨by omega, by omega⟩)⟩)
    · exact hstep (by omega) (fun x => by omega)
end CMP10
