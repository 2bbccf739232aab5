/-! OPS, sixteenth part: the rest. -/
set_option maxRecDepth 100000
section OPS16
variable {α τ : Type} {M M' M1 M2 : Mem} {N N' N1 : NM} {c m i j k q : Nat} {u v w s t z : Int} {S S' : St} {p : Int} {n many : Nat} {T F G : Nat → Nat → Nat → Int} {y : Wd} {V : Nat → Int} {good : Prop} {R : Nat → Nat → Int} {ld : Nat → Nat} {X : VS}
noncomputable def wre (S : St) (X : VS) : Wd := (sp S, sn S - dm (sp S) (sn S) X, altT (sp S) (sn S - dm (sp S) (sn S) X) (reT (sp S) (sn S) (dm (sp S) (sn S) X) (sT S) (chE (sp S) (sn S) X).2.2 X))
noncomputable def a_rest (S : St) (t z : Int) : St × Int := if wrS S t z (1 ≤ z ∧ z ≤ 20) = 0 then (if dm (sp S) (sn S) (mdS S 2 t z) = sn S then (stU S 0 9, -1) else (stU (stW S (wre S (mdS S 2 t z))) 0 0, ((sn S - dm (sp S) (sn S) (mdS S 2 t z) : Nat) : Int))) else (stU S 0 (wrS S t z (1 ≤ z ∧ z ≤ 20)), -1)
theorem w_leads {f : Int32 → JM Mem τ} {Q : τ → Mem → NM → Prop} (hC : CL M c) (hs : SpD N (c + 182) p n q R ld X) (hq : q ≤ 5) (hn : n ≤ 5) (h1 : (∃ r, r < q ∧ ld r = k) → GN M N (f (zI 1)) Q) (h0 : NL q ld k → GN M N (f (zI 0)) Q) (hk : k ≤ 5) :
    GN M N (jb (jcall 0 c (f_X0_leads c (zI k))) f) Q := by
  refine w_Cc hC ?_
  unfold f_X0_leads
  rw [z_0]
  refine w_up q (fun r N2 => N2 = N ∧ ∀ a, a < r → ld a ≠ k) 0 rfl (by omega) ⟨rfl, fun a ha => absurd ha (by omega)⟩ ?_
  rintro r N2 hr ⟨rfl, g⟩
  unfold X0_leads_L2
  refine w_Cf hC rfl (w_getI hC.s182.1 ?_)
  rw [hs.me]
  refine w_le ⟨by omega, by omega⟩ ⟨by omega, by omega⟩ (fun e => ?_) (fun e => ?_)
  · rw [z_0]
    exact w_jinl (w_jp (h0 (fun ⟨a, ha, e2⟩ => g a (by omega) e2)))
  have hrq : r < q := by omega
  have hl := hs.ech.ldn hrq
  refine w_Cf hC rfl (w_Sl hC.s182 ?_)
  refine w_ald hC.s182.kl (by omega) (by omega) ?_
  rw [show ((r : Int).toNat) = r from rfl, hs.l hrq, z_1]
  refine w_eq ⟨by omega, by omega⟩ ⟨by omega, by omega⟩ (fun e2 => ?_) (fun e2 => ?_)
  · exact w_jinl (w_jp (h1 ⟨r, hrq, by omega⟩))
  · rw [zI_add]
    refine w_jcont ⟨hrq, rfl, rfl, fun a ha => ?_⟩
    by_cases x : a = r
    · rw [x]; omega
    · exact g a (by omega)
theorem c_rest {f : Int32 → JM Mem τ} {Q : τ → Mem → NM → Prop} (hR : CR M N c S) (ht : zR t) (hz : zR z) (h : cPost M N c (a_rest S t z).1 (f (zI (a_rest S t z).2)) Q) : GN M N (jb (jcall 0 c (f_X0_rest c (zI t) (zI z))) f) Q := by
  have hpb := hR.w.pb
  have hp := hR.w.pr
  have hn5 : sn S ≤ 5 := hR.w.n5
  refine w_Cc hR.cl ?_
  unfold f_X0_rest
  unfold a_rest at h
  rw [z_0, z_1]
  refine c_made (wa := 1) (what := 2) (Or.inr ⟨rfl, rfl⟩) hR ht hz (fun e => ?_) (fun e N1 q R ld hF1 s1 => ?_)
  · rw [if_neg e] at h
    exact w_none hR.cl (w_jp (c_fin0 hR h))
  rw [if_pos e] at h
  unfold wre at h
  generalize mdS S 2 t z = X at *
  have hqn := s1.mn hp
  obtain ⟨hd, hT⟩ := reT_eq (T := sT S) hp s1.so'
  have hNL := NL_cn hp s1.so'
  rw [← hT, hd] at h
  have hR1 := hR.sc (Bg.rf hR.cl) hF1
  have hD1 := hR1.w
  refine w_Cf hR.cl rfl (w_getI hR.cl.s182.1 ?_)
  refine w_Cf hR.cl rfl (w_Wp hR.cl.w6 ?_)
  rw [s1.me, hD1.ne]
  refine w_eq ⟨by omega, by omega⟩ ⟨by omega, by omega⟩ (fun e0 => ?_) (fun e0 => ?_)
  · rw [if_pos (by omega)] at h
    rw [show (9 : Int32) = zI 9 from rfl]
    exact w_none hR.cl (w_jp (c_fin hR (Bg.rf hR.cl) hF1 h))
  rw [if_neg (by omega)] at h
  obtain ⟨z', hz'⟩ : ∃ z' : Nat, z' = sn S - q := ⟨_, rfl⟩
  rw [← hz'] at h
  have hcz : cn (sn S) (NL q ld) = z' := by omega
  refine w_Cf hR.cl rfl (w_Cf hR.cl rfl ?_)
  refine w_wcopy hR.cl.w38 hR.cl.w6 (by omega) (fun N2 t1 t2 t3 f2 => ?_)
  have hE2 : WD N2 (c + 38) (sp S) (sn S) (sT S) := ⟨by rw [t2]; exact hD1.pe, by rw [t3]; exact hD1.ne, fun i j k hi hj hk => by rw [t1 i j k hi hj hk]; exact hD1.t hi hj hk, hD1.ok⟩
  have h223 := hR.cl.ka (o := 223) (d := (0, 5)) rfl
  have h74 := hR.cl.ka (o := 74) (d := (0, 5)) rfl
  refine w_up2 (sn S) (fun k x N3 => x = (cn k (NL q ld) : Nat) ∧ (∀ a, a < k → NL q ld a → N3 (c + 223) (cn a (NL q ld)) = a) ∧ ∀ b, b ≠ c + 223 → N3 b = N2 b) 0 0 rfl (by omega) ⟨rfl, fun a ha => absurd ha (by omega), fun _ _ => rfl⟩ ?_
  rintro k x N3 hk ⟨rfl, g3, f3⟩
  show GN M N3 (X0_rest_L90 c (zI _) (zI _)) _
  have hE3 : WD N3 (c + 38) (sp S) (sn S) (sT S) := hE2.fr (fun b h1 h2 => f3 b (by omega))
  have s3 : SpD N3 (c + 182) (sp S) (sn S) q R ld X := s1.fr (fun b h1 h2 _ => by rw [f3 b (by omega), f2 b (by omega)]) hp hn5
  have hck := cn_le (n := k) (P := NL q ld)
  unfold X0_rest_L90
  refine w_Cf hR.cl rfl (w_Wp hR.cl.w38 ?_)
  rw [hE3.ne]
  refine w_le ⟨by omega, by omega⟩ ⟨by omega, by omega⟩ (fun hc => ?_) (fun hc => ?_)
  rotate_left
  · have hkn : k < sn S := by omega
    have hyes : NL q ld k → GN M N3 (X0_rest_b124 c (zI (cn k (NL q ld) : Nat)) (zI k)) (LQ (fun v M1 N1 => GN M1 N1 (f v) Q) (KF M fun t N1 => k < sn S ∧ ∃ a1, t = (zI a1, zI ((k : Int) + 1)) ∧ a1 = (cn (k + 1) (NL q ld) : Nat) ∧ (∀ a, a < k + 1 → NL q ld a → N1 (c + 223) (cn a (NL q ld)) = a) ∧ ∀ b, b ≠ c + 223 → N1 b = N2 b)) := fun hN => by
      unfold X0_rest_b124 X0_rest_b136
      refine w_Cf hR.cl rfl ?_
      refine w_ast h223 (by omega) (by omega) ?_
      rw [z_1, zI_add, zI_add, show (((cn k (NL q ld) : Nat) : Int).toNat) = cn k (NL q ld) from rfl]
      refine w_jcont ⟨hkn, _, rfl, by rw [cn_pos hN]; omega, fun a ha hA => ?_, fun b hb => by rw [upb hb, f3 b hb]⟩
      by_cases x : a = k
      · rw [x]; exact upv
      · have := cn_lt (show a < k by omega) hA
        rw [upk (by omega)]
        exact g3 a (by omega) hA
    refine w_Cf hR.cl rfl (w_getI hR.cl.s182.1 ?_)
    rw [s3.me, z_0]
    refine w_le ⟨by omega, by omega⟩ ⟨by omega, by omega⟩ (fun hd => hyes (fun ⟨r, hr, _⟩ => by omega)) (fun hd => ?_)
    refine w_leads hR.cl s3 (by omega) hn5 (fun hex => ?_) (fun hN => ?_) (by omega)
    · refine w_eq ⟨by omega, by omega⟩ ⟨by omega, by omega⟩ (fun x => absurd x (by decide)) (fun _ => ?_)
      unfold X0_rest_b136
      rw [z_1, zI_add]
      refine w_jcont ⟨hkn, _, rfl, by rw [cn_neg (fun x => x hex)], fun a ha hA => ?_, f3⟩
      by_cases x : a = k
      · rw [x] at hA; exact absurd hex hA
      · exact g3 a (by omega) hA
    · exact w_eq ⟨by omega, by omega⟩ ⟨by omega, by omega⟩ (fun _ => hyes hN) (fun x => absurd rfl x)
  obtain rfl : k = sn S := by omega
  rw [hcz]
  have lb : ∀ i, i < z' → N3 (c + 223) i = (pth (NL q ld) (sn S) i : Nat) ∧ pth (NL q ld) (sn S) i < sn S := fun i hi => by
    obtain ⟨a1, a2, a3⟩ := pth_ok (P := NL q ld) (i := i) (sn S) (by omega)
    have := g3 _ a1 a2
    rw [a3] at this
    exact ⟨this, a1⟩
  refine w_jinl ?_
  unfold X0_rest_b142
  refine w_Cf hR.cl rfl ?_
  refine w_clear hR.cl.w6 (fun N4 g4 f4 => ?_)
  refine w_Cf hR.cl rfl ?_
  refine w_putI hR.cl.w6.1 ?_
  have hG0 : WOk (sp S) z' (fun _ _ _ => 0) := by
    have := altT_ok (p := sp S) (n := z') (S := fun _ _ _ => 0) hp ⟨by omega, by omega⟩
    rw [altT_z] at this
    exact this
  have hW5 : WD (up2 N4 (c + 6) 2 (z' : Int)) (c + 6) (sp S) z' (fun _ _ _ => 0) := ⟨by rw [upk (by omega), f4 _ (by omega), f3 _ (by omega), f2 _ (by omega)]; exact hD1.pe, upv, fun i j k hi hj hk => by rw [upb (by omega)]; exact g4 i j k hi hj hk, hG0⟩
  have f5 : ∀ b, b < c + 6 ∨ c + 38 ≤ b → up2 N4 (c + 6) 2 (z' : Int) b = N3 b := fun b hb => by rw [upb (by omega), f4 b (by omega)]
  generalize up2 N4 (c + 6) 2 (z' : Int) = N5 at hW5 f5
  let J : Nat → Nat → Nat → NM → Prop := fun i j k N6 => WD N6 (c + 6) (sp S) z' (altT (sp S) z' (flP (fun _ _ _ => 0) (reT (sp S) (sn S) q (sT S) ld X) i j k)) ∧ (∀ b, b ≠ c + 74 → b < c + 6 ∨ c + 38 ≤ b → N6 b = N3 b)
  have hnxt : ∀ i j k i' j' k' N3, (∀ a b c, a < b → b < z' → c < z' → (bfr i j k a b c ↔ bfr i' j' k' a b c)) → J i j k N3 → J i' j' k' N3 := fun i j k i' j' k' N3 hb ⟨k1, k2⟩ => ⟨by
    rw [← flP_q hb]; exact k1, k2⟩
  have hJ0 : J 0 0 0 N5 := ⟨by rw [flP_0, altT_z]; exact hW5, fun b _ hb => f5 b hb⟩
  rw [z_0]
  refine w_up z' (fun i N5 => J i 0 0 N5) 0 rfl (by omega) hJ0 ?_
  rintro i N6 hi hJ6
  unfold X0_rest_L161
  refine w_le ⟨by omega, by omega⟩ ⟨by omega, by omega⟩ (fun hd2 => ?_) (fun hd2 => ?_)
  · obtain rfl : i = z' := by omega
    refine w_jinl ?_
    unfold X0_rest_b282
    have hw := hJ6.1
    rw [flP_1] at hw
    exact w_gives hR.cl (w_jp (c_finW (y := (sp S, i, altT (sp S) i (reT (sp S) (sn S) q (sT S) ld X))) hR (Bg.rf hR.cl) (hF1.tw.tr (CFw.of (fun b hb => by rw [hJ6.2 b (by omega) (by omega), f3 b (by omega), f2 b (by omega)]))) hw h))
  rw [z_1, zI_add]
  refine w_jlet ?_
  refine w_up z' (fun j N6 => i < j ∧ J i j 0 N6) (i + 1) (by rfl) (by omega) ⟨by omega, hnxt _ _ _ _ _ _ _ (fun a b c h1 h2 h3 => by unfold bfr; omega) hJ6⟩ ?_
  rintro j N7 hj ⟨hij, hJ7⟩
  unfold X0_rest_L174
  refine w_le ⟨by omega, by omega⟩ ⟨by omega, by omega⟩ (fun he => ?_) (fun he => ?_)
  · unfold X0_rest_b276
    rw [z_1, zI_add]
    exact w_jinl (w_jcont ⟨by omega, rfl, hnxt _ _ _ _ _ _ _ (fun a b c h1 h2 h3 => by unfold bfr; omega) hJ7⟩)
  have hiz : i < z' := by omega
  have hjz : j < z' := by omega
  have bi := lb i hiz
  have bj := lb j hjz
  have hE7 : WD N7 (c + 38) (sp S) (sn S) (sT S) := hE3.fr (fun b h1 h2 => hJ7.2 b (by omega) (by omega))
  have s7 : SpD N7 (c + 182) (sp S) (sn S) q R ld X := s3.fr (fun b h1 h2 _ => hJ7.2 b (by omega) (by omega)) hp hn5
  refine w_Cf hR.cl rfl (w_W0 hR.cl.w38 ?_)
  refine w_Cf hR.cl rfl ?_
  refine w_ald h223 (by omega) (by omega) ?_
  rw [show ((i : Int).toNat) = i from rfl, hJ7.2 _ (by omega) (by omega), bi.1]
  refine w_W1 hR.cl.w38 (by omega) ?_
  refine w_Cf hR.cl rfl ?_
  refine w_ald h223 (by omega) (by omega) ?_
  rw [show ((j : Int).toNat) = j from rfl, hJ7.2 _ (by omega) (by omega), bj.1]
  refine w_W2 hR.cl.w38 (by omega) (by omega) ?_
  generalize hA : pth (NL q ld) (sn S) i = a at *
  generalize hB : pth (NL q ld) (sn S) j = b at *
  refine w_Cf hR.cl rfl ?_
  rw [z_0, z_5]
  refine w_copy5 (hR.cl.w38.kk (by omega) (by omega)) h74 (by omega) (by omega) ?_
  have v8 : VD (cp5 N7 (c + 38 + 3 + 6 * a + b) (c + 74)) (c + 74) (sp S) (sn S) (sT S a b) := ⟨fun k hk => by
    unfold cp5
    rw [if_pos ⟨rfl, hk⟩]
    exact hE7.t (by omega) (by omega) hk, fun k => ⟨(hE7.tb a b k).1, (hE7.tb a b k).2, fun hk => hE7.ok.2.2.2.2.1 a b k (by omega)⟩⟩
  have g8 : ∀ x, x ≠ c + 74 → cp5 N7 (c + 38 + 3 + 6 * a + b) (c + 74) x = N7 x := fun x hx => funext fun k => by
    unfold cp5
    exact if_neg (fun e => hx e.1)
  generalize cp5 N7 (c + 38 + 3 + 6 * a + b) (c + 74) = N8 at v8 g8
  refine w_Cf hR.cl rfl (w_Cf hR.cl rfl (w_Cf hR.cl rfl ?_))
  refine w_reduce hR.cl.s182 hR.cl.w38 (hE7.fr (fun x h1 h2 => g8 x (by omega))) (s7.fr (fun x h1 h2 _ => g8 x (by omega)) hp hn5) h74 (by omega) v8 (by omega) (by omega) (fun Y y1 y2 y3 => ?_)
  have eY : Y = nfv (sp S) (sn S) q ld X (sT S a b) := Nf.eq s7.ech ⟨y1, y2, y3⟩
  have z9 : ∀ k, k < 5 → wr5 N8 (c + 74) Y (c + 74) k = Y k := fun k hk => wr5_at hk
  have g9 : ∀ x, x ≠ c + 74 → wr5 N8 (c + 74) Y x = N7 x := fun x hx => (wr5_ne hx).trans (g8 x hx)
  generalize wr5 N8 (c + 74) Y = N9 at z9 g9
  have hJ9 : J i j 0 N9 := ⟨hJ7.1.fr (fun x h1 h2 => g9 x (by omega)), fun x h1 h2 => by rw [g9 x h1]; exact hJ7.2 x h1 h2⟩
  refine w_up z' (fun k N10 => J i j k N10 ∧ N10 (c + 74) = N9 (c + 74)) 0 rfl (by omega) ⟨hJ9, rfl⟩ ?_
  rintro k N10 hk ⟨hJ10, e10⟩
  unfold X0_rest_L232
  refine w_le ⟨by omega, by omega⟩ ⟨by omega, by omega⟩ (fun hf => ?_) (fun hf => ?_)
  · unfold X0_rest_b270
    rw [z_1, zI_add]
    exact w_jinl (w_jcont ⟨by omega, rfl, by omega, hnxt _ _ _ _ _ _ _ (fun a b c h1 h2 h3 => by unfold bfr; omega) hJ10⟩)
  have hkz : k < z' := by omega
  have bk' := lb k hkz
  refine w_Cf hR.cl rfl (w_Cf hR.cl rfl (w_Cf hR.cl rfl ?_))
  refine w_ald h223 (by omega) (by omega) ?_
  rw [show ((k : Int).toNat) = k from rfl, hJ10.2 _ (by omega) (by omega), bk'.1]
  refine w_ald h74 (by omega) (by omega) ?_
  rw [show (((pth (NL q ld) (sn S) k : Nat) : Int).toNat) = pth (NL q ld) (sn S) k from rfl, e10, z9 _ (by omega)]
  have hyb := y1 (pth (NL q ld) (sn S) k)
  have eG : Y (pth (NL q ld) (sn S) k) = reT (sp S) (sn S) q (sT S) ld X i j k := by
    unfold reT
    rw [hA, hB, eY]
  refine w_cset hR.cl.w6 hJ10.1 hij hjz hkz (by omega) (fun N11 c11 f11 => ?_)
  rw [z_1, zI_add]
  refine w_jcont ⟨hkz, rfl, ⟨?_, fun x h1 h2 => by rw [f11 x (by omega)]; exact hJ10.2 x h1 h2⟩, by rw [f11 _ (by omega)]; exact e10⟩
  rw [← flP_st, ← eG]
  exact c11
theorem m_rest {f : Int32 → JM Mem τ} {Q : τ → Mem → NM → Prop} (hR : MR M N m S) (ht : zR t) (hz : zR z) (h : mPost M N m (a_rest S t z).1 (f (zI (a_rest S t z).2)) Q) : GN M N (jb (jcall 7 m (f_X8_rest m (zI t) (zI z))) f) Q := by
  refine w_Mc hR.ml ?_
  unfold f_X8_rest
  refine m_beg hR (fun M1 N1 hS hM hA => ?_)
  have hR1 := hR.be hS
  have hp := hA.pr
  have hn5 := hA.n5
  have hpb := hA.pb
  have hr := wrS_r (S := S) (t := t) (z := z) (good := 1 ≤ z ∧ z ≤ 20)
  refine m_wrongMade hR1 hA ht hz ?_
  rw [show wrS (stU S 0 0) t z (1 ≤ z ∧ z ≤ 20) = wrS S t z (1 ≤ z ∧ z ≤ 20) from rfl]
  unfold a_rest at h
  rw [z_0]
  by_cases e : wrS S t z (1 ≤ z ∧ z ≤ 20) = 0
  case neg =>
    rw [if_neg e] at h
    exact w_le ⟨by omega, by omega⟩ ⟨by omega, by omega⟩ (fun x => absurd x (by omega)) (fun _ => w_refuse hM (w_jp (m_fin hR hS MFr.rf h)))
  rw [if_pos e] at h
  rw [e]
  refine w_le ⟨by omega, by omega⟩ ⟨by omega, by omega⟩ (fun _ => ?_) (fun x => absurd x (by decide))
  rw [show (2 : Int32) = zI ((2 : Nat) : Int) from rfl]
  refine m_madeS (what := 2) hR1 hA (by omega) e (fun N2 q R ld s2 f2 => ?_)
  have s2 : SpM N2 (m + 11) (sp S) (sn S) q R ld (mdS S 2 t z) := s2
  unfold wre at h
  generalize mdS S 2 t z = X at *
  have hqn := s2.qn hp
  obtain ⟨hd, hT⟩ := reT_eq (T := sT S) hp s2.so'
  have hNL := NL_cn hp s2.so'
  rw [← hT, hd] at h
  have hF2 : MFr m N1 N2 := MFr.of (fun b hb => f2 b (by omega) (by omega) (by omega))
  have hA2 : MA M1 N2 m (m + 5) 0 (sp S) (sn S) (sT S) := hA.fr (f2 _ (by omega) (by omega) (by omega)) (f2 _ (by omega) (by omega) (by omega))
  refine w_MI hM ?_
  rw [hA2.ne]
  refine w_eq ⟨by omega, by omega⟩ ⟨by omega, by omega⟩ (fun e0 => ?_) (fun e0 => ?_)
  · rw [if_pos (by omega)] at h
    rw [show (9 : Int32) = zI 9 from rfl]
    exact w_refuse hM (w_jp (m_fin hR hS hF2 h))
  rw [if_neg (by omega)] at h
  obtain ⟨z', hz'⟩ : ∃ z' : Nat, z' = sn S - q := ⟨_, rfl⟩
  rw [← hz'] at h
  have hcz : cn (sn S) (NL q ld) = z' := by omega
  have h7 := hM.ka (o := 7) (d := (0, 127)) rfl
  have h11 := hM.ka (o := 11) (d := (0, 25)) rfl
  have h14 := hM.ka (o := 14) (d := (0, 5)) rfl
  have h24 := hM.ka (o := 24) (d := (0, 5)) rfl
  have h26 := hM.ka (o := 26) (d := (0, 5)) rfl
  refine w_up2 (sn S) (fun k x N3 => x = (cn k (NL q ld) : Nat) ∧ (∀ a, a < k → NL q ld a → N3 (m + 26) (cn a (NL q ld)) = a) ∧ ∀ b, b ≠ m + 26 → N3 b = N2 b) 0 0 rfl (by omega) ⟨rfl, fun a ha => absurd ha (by omega), fun _ _ => rfl⟩ ?_
  rintro k x N3 hk ⟨rfl, g3, f3⟩
  show GN M1 N3 (X8_rest_L62 m (zI _) (zI _) (zI _)) _
  have hA3 : MA M1 N3 m (m + 5) 0 (sp S) (sn S) (sT S) := hA2.fr (f3 _ (by omega)) (f3 _ (by omega))
  have s3 : SpM N3 (m + 11) (sp S) (sn S) q R ld X := s2.fr (f3 _ (by omega))
  have hck := cn_le (n := k) (P := NL q ld)
  unfold X8_rest_L62
  refine w_MI hM ?_
  rw [hA3.ne]
  refine w_le ⟨by omega, by omega⟩ ⟨by omega, by omega⟩ (fun hc => ?_) (fun hc => ?_)
  rotate_left
  · have hkn : k < sn S := by omega
    rw [z_0]
    refine w_up2 q (fun r a N4 => N4 = N3 ∧ (a = 1 ∧ (∃ x, x < r ∧ ld x = k) ∨ a = 0 ∧ ∀ x, x < r → ld x ≠ k)) 0 0 rfl (by omega) ⟨rfl, Or.inr ⟨rfl, fun x hx => absurd hx (by omega)⟩⟩ ?_
    rintro r a N4 hr ⟨rfl, ha⟩
    show GN M1 N4 (X8_rest_L77 m (zI _) (zI _) (zI _) (zI _) (zI _)) _
    unfold X8_rest_L77 X8_rest_b106 X8_rest_b111
    rw [z_0, z_1]
    refine w_le ⟨by omega, by omega⟩ ⟨by omega, by omega⟩ (fun hd => ?_) (fun hd => ?_)
    · refine w_jinl ?_
      unfold X8_rest_b119 X8_rest_b139
      rw [z_0, z_1]
      rcases ha with ⟨rfl, x1, x2, x3⟩ | ⟨rfl, x1⟩
      · refine w_eq ⟨by omega, by omega⟩ ⟨by omega, by omega⟩ (fun x => absurd x (by decide)) (fun _ => ?_)
        rw [zI_add]
        have hex : ¬ NL q ld k := fun x => x ⟨x1, by omega, x3⟩
        refine w_jcont ⟨hkn, _, rfl, by rw [cn_neg hex], fun a ha hA => ?_, f3⟩
        by_cases x : a = k
        · rw [x] at hA; exact absurd hA hex
        · exact g3 a (by omega) hA
      · have hN : NL q ld k := fun ⟨y, hy, e⟩ => x1 y (by omega) e
        refine w_eq ⟨by omega, by omega⟩ ⟨by omega, by omega⟩ (fun _ => ?_) (fun x => absurd rfl x)
        refine w_Mf hM rfl ?_
        refine w_ast h26 (by omega) (by omega) ?_
        rw [zI_add, zI_add, show (((cn k (NL q ld) : Nat) : Int).toNat) = cn k (NL q ld) from rfl]
        refine w_jcont ⟨hkn, _, rfl, by rw [cn_pos hN]; omega, fun a ha hA => ?_, fun b hb => by rw [upb hb, f3 b hb]⟩
        by_cases x : a = k
        · rw [x]; exact upv
        · have := cn_lt (show a < k by omega) hA
          rw [upk (by omega)]
          exact g3 a (by omega) hA
    have hrq : r < q := by omega
    have hlr := s3.ech.ldn hrq
    rcases ha with ⟨rfl, x1, x2, x3⟩ | ⟨rfl, x1⟩
    · refine w_eq ⟨by omega, by omega⟩ ⟨by omega, by omega⟩ (fun x => absurd x (by decide)) (fun _ => ?_)
      rw [zI_add]
      exact w_jcont ⟨hrq, _, rfl, rfl, Or.inl ⟨rfl, x1, by omega, x3⟩⟩
    · refine w_eq ⟨by omega, by omega⟩ ⟨by omega, by omega⟩ (fun _ => ?_) (fun x => absurd rfl x)
      refine w_Mf hM rfl ?_
      rw [z_5, zI_mul]
      refine w_leadRow hM ⟨hA3.ne, hn5⟩ hp h11 (by omega) s3 hrq ?_
      rw [zI_add]
      refine w_eq ⟨by omega, by omega⟩ ⟨by omega, by omega⟩ (fun e5 => ?_) (fun e5 => ?_)
      · exact w_jcont ⟨hrq, _, rfl, rfl, Or.inl ⟨rfl, r, by omega, by omega⟩⟩
      · refine w_jcont ⟨hrq, _, rfl, rfl, Or.inr ⟨rfl, fun x hx => ?_⟩⟩
        by_cases y : x = r
        · rw [y]; omega
        · exact x1 x (by omega)
  obtain rfl : k = sn S := by omega
  rw [hcz]
  have lb : ∀ i, i < z' → N3 (m + 26) i = (pth (NL q ld) (sn S) i : Nat) ∧ pth (NL q ld) (sn S) i < sn S := fun i hi => by
    obtain ⟨a1, a2, a3⟩ := pth_ok (P := NL q ld) (i := i) (sn S) (by omega)
    have := g3 _ a1 a2
    rw [a3] at this
    exact ⟨this, a1⟩
  refine w_jinl ?_
  unfold X8_rest_b145
  refine w_Mf hM rfl (w_MI hM ?_)
  rw [hA3.pe, z_0]
  refine w_mclear (B := 0) (n := z') h7 (by omega) (fun N4 c4 f4 _ => ?_)
  have hok := altT_ok (p := sp S) (n := z') (S := reT (sp S) (sn S) q (sT S) ld X) hp ⟨by omega, by omega⟩
  let J : Nat → Nat → Nat → NM → Prop := fun i j k N6 => WC N6 (m + 7) 0 (sp S) z' (altT (sp S) z' (flP (fun _ _ _ => 0) (reT (sp S) (sn S) q (sT S) ld X) i j k)) ∧ (∀ b, b ≠ m + 7 → b ≠ m + 14 → b ≠ m + 24 → N6 b = N3 b)
  have hnxt : ∀ i j k i' j' k' N3, (∀ a b c, a < b → b < z' → c < z' → (bfr i j k a b c ↔ bfr i' j' k' a b c)) → J i j k N3 → J i' j' k' N3 := fun i j k i' j' k' N3 hb ⟨k1, k2⟩ => ⟨by
    rw [← flP_q hb]; exact k1, k2⟩
  have hJ0 : J 0 0 0 N4 := ⟨by rw [flP_0, altT_z]; exact c4, fun b h1 _ _ => f4 b h1⟩
  refine w_up z' (fun i N5 => J i 0 0 N5) 0 rfl (by omega) hJ0 ?_
  rintro i N6 hi hJ6
  unfold X8_rest_L162
  refine w_le ⟨by omega, by omega⟩ ⟨by omega, by omega⟩ (fun hd2 => ?_) (fun hd2 => ?_)
  · obtain rfl : i = z' := by omega
    refine w_jinl ?_
    unfold X8_rest_b296
    have hw := hJ6.1
    rw [flP_1] at hw
    have hF6 : MFr m N1 N6 := hF2.tr (MFr.of (fun b hb => by rw [hJ6.2 b (by omega) (by omega) (by omega), f3 b (by omega)]))
    exact m_takeOther hM hw hok (fun N7 hF7 hW7 => w_jp (m_finW (y := (sp S, i, altT (sp S) i (reT (sp S) (sn S) q (sT S) ld X))) hR hS (hF6.tw.tr hF7) hW7 h))
  rw [z_1, zI_add]
  refine w_jlet ?_
  refine w_up z' (fun j N6 => i < j ∧ J i j 0 N6) (i + 1) (by rfl) (by omega) ⟨by omega, hnxt _ _ _ _ _ _ _ (fun a b c h1 h2 h3 => by unfold bfr; omega) hJ6⟩ ?_
  rintro j N7 hj ⟨hij, hJ7⟩
  unfold X8_rest_L175
  refine w_le ⟨by omega, by omega⟩ ⟨by omega, by omega⟩ (fun he => ?_) (fun he => ?_)
  · unfold X8_rest_b290
    rw [z_1, zI_add]
    exact w_jinl (w_jcont ⟨by omega, rfl, hnxt _ _ _ _ _ _ _ (fun a b c h1 h2 h3 => by unfold bfr; omega) hJ7⟩)
  have hiz : i < z' := by omega
  have hjz : j < z' := by omega
  have bi := lb i hiz
  have bj := lb j hjz
  generalize hAA : pth (NL q ld) (sn S) i = a at *
  generalize hBB : pth (NL q ld) (sn S) j = b at *
  rw [z_0]
  refine w_up (sn S) (fun k N8 => J i j 0 N8 ∧ ∀ l, l < k → N8 (m + 14) l = sT S a b l) 0 rfl (by omega) ⟨hJ7, fun l hl => absurd hl (by omega)⟩ ?_
  rintro k N8 hk ⟨hJ8, v8⟩
  have hA8 : MA M1 N8 m (m + 5) 0 (sp S) (sn S) (sT S) := hA3.fr (hJ8.2 _ (by omega) (by omega) (by omega)) (hJ8.2 _ (by omega) (by omega) (by omega))
  have s8 : SpM N8 (m + 11) (sp S) (sn S) q R ld X := s3.fr (hJ8.2 _ (by omega) (by omega) (by omega))
  unfold X8_rest_L185
  refine w_MI hM ?_
  rw [hA8.ne]
  refine w_le ⟨by omega, by omega⟩ ⟨by omega, by omega⟩ (fun hf => ?_) (fun hf => ?_)
  rotate_left
  · have hkn : k < sn S := by omega
    refine w_Mf hM rfl (w_Mf hM rfl ?_)
    refine w_ald h26 (by omega) (by omega) ?_
    refine w_Mf hM rfl ?_
    refine w_ald h26 (by omega) (by omega) ?_
    rw [show ((i : Int).toNat) = i from rfl, show ((j : Int).toNat) = j from rfl, hJ8.2 _ (by omega) (by omega) (by omega), bi.1, bj.1]
    refine w_mtable hM hA8 (by omega) (by omega) (by omega) ?_
    refine w_ast h14 (by omega) (by omega) ?_
    rw [z_1, zI_add, show ((k : Int).toNat) = k from rfl]
    refine w_jcont ⟨hkn, rfl, ⟨hJ8.1.fr (upb (by omega)), fun x h1 h2 h3 => by rw [upb h2]; exact hJ8.2 x h1 h2 h3⟩, fun l hl => ?_⟩
    by_cases y : l = k
    · rw [y]; exact upv
    · rw [upk y]; exact v8 l (by omega)
  refine w_jinl ?_
  unfold X8_rest_b227
  have hX8 : VM N8 (m + 14) 0 (sp S) (sn S) (sT S a b) := ⟨fun l hl => by rw [Nat.zero_add]; exact v8 l (by omega), fun l => ⟨(hA.tb a b l).1, (hA.tb a b l).2, fun hl => hA.ok.2.2.2.2.1 a b l (by omega)⟩⟩
  refine w_Mf hM rfl (w_Mf hM rfl ?_)
  rw [z_0]
  refine w_mreduce (o := 0) hM hA8 h11 (by omega) s8 h14 (by omega) hX8 (by omega) (by omega) (fun Y y1 y2 y3 => ?_)
  have eY : Y = nfv (sp S) (sn S) q ld X (sT S a b) := Nf.eq s8.ech ⟨y1, y2, y3⟩
  have z9 : ∀ k, k < sn S → wro N8 (m + 24) 0 (sn S) Y (m + 24) k = Y k := fun k hk => by
    have := wro_at (N := N8) (a := m + 24) (o := 0) (g := Y) hk
    rw [Nat.zero_add] at this
    exact this
  have g9 : ∀ x, x ≠ m + 24 → wro N8 (m + 24) 0 (sn S) Y x = N8 x := fun x hx => wro_ne hx
  generalize wro N8 (m + 24) 0 (sn S) Y = N9 at z9 g9
  have hJ9 : J i j 0 N9 := ⟨hJ8.1.fr (g9 _ (by omega)), fun x h1 h2 h3 => by rw [g9 x h3]; exact hJ8.2 x h1 h2 h3⟩
  refine w_up z' (fun k N10 => J i j k N10 ∧ N10 (m + 24) = N9 (m + 24)) 0 rfl (by omega) ⟨hJ9, rfl⟩ ?_
  rintro k2 N10 hk2 ⟨hJ10, e10⟩
  unfold X8_rest_L245
  refine w_le ⟨by omega, by omega⟩ ⟨by omega, by omega⟩ (fun hf => ?_) (fun hf => ?_)
  · unfold X8_rest_b284
    rw [z_1, zI_add]
    exact w_jinl (w_jcont ⟨by omega, rfl, by omega, hnxt _ _ _ _ _ _ _ (fun a b c h1 h2 h3 => by unfold bfr; omega) hJ10⟩)
  have hkz : k2 < z' := by omega
  have bk' := lb k2 hkz
  refine w_Mf hM rfl (w_Mf hM rfl (w_Mf hM rfl ?_))
  refine w_ald h26 (by omega) (by omega) ?_
  rw [show ((k2 : Int).toNat) = k2 from rfl, hJ10.2 _ (by omega) (by omega) (by omega), bk'.1]
  refine w_ald h24 (by omega) (by omega) ?_
  rw [show (((pth (NL q ld) (sn S) k2 : Nat) : Int).toNat) = pth (NL q ld) (sn S) k2 from rfl, e10, z9 _ (by omega), z_0]
  have hyb := y1 (pth (NL q ld) (sn S) k2)
  have eG : Y (pth (NL q ld) (sn S) k2) = reT (sp S) (sn S) q (sT S) ld X i j k2 := by
    unfold reT
    rw [hAA, hBB, eY]
  refine w_mset (B := 0) h7 (by omega) hJ10.1 hp (by omega) hij hjz hkz (by omega) (fun N11 c11 f11 _ => ?_)
  rw [z_1, zI_add]
  refine w_jcont ⟨hkz, rfl, ⟨?_, fun x h1 h2 h3 => by rw [f11 x h1]; exact hJ10.2 x h1 h2 h3⟩, by rw [f11 _ (by omega)]; exact e10⟩
  rw [← flP_st, ← eG]
  exact c11
end OPS16
