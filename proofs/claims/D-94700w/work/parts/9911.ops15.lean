/-! OPS, fifteenth part: a part is taken out. -/
set_option maxRecDepth 100000
section OPS15
variable {α τ : Type} {M M' M1 M2 : Mem} {N N' N1 : NM} {c m i j k : Nat} {u v w s t z : Int} {S S' : St} {p : Int} {n many : Nat} {T F G : Nat → Nat → Nat → Int} {y : Wd} {V : Nat → Int} {good : Prop}
noncomputable def mdS (S : St) (what : Nat) (t z : Int) : VS := Mdv (sp S) (sn S) (sT S) what (Vsp (sp S) (sn S) z.toNat (trV S t))
noncomputable def wto (S : St) (X : VS) : Wd := (sp S, dm (sp S) (sn S) X, altT (sp S) (dm (sp S) (sn S) X) (toT (sp S) (sn S) (sT S) (chE (sp S) (sn S) X).2.1 (chE (sp S) (sn S) X).2.2))
noncomputable def a_out (S : St) (t z : Int) : St × Int := if wrS S t z (1 ≤ z ∧ z ≤ 20) = 0 then (if dm (sp S) (sn S) (mdS S 1 t z) = 0 then (stU S 0 9, -1) else (stU (stW S (wto S (mdS S 1 t z))) 0 0, (dm (sp S) (sn S) (mdS S 1 t z) : Nat))) else (stU S 0 (wrS S t z (1 ≤ z ∧ z ≤ 20)), -1)
/-- a tray's vectors are spanned and closed, in the span that is gone -/
theorem c_made {α : Type} {f : Unit → JM Mem α} {bad : Int32 → JM Mem α} {Q : α → Mem → NM → Prop} {wa : Int} {what : Nat} (hwa : wa = 0 ∧ what = 1 ∨ wa = 1 ∧ what = 2) (hR : CR M N c S) (ht : zR t) (hz : zR z)
    (h0 : wrS S t z (1 ≤ z ∧ z ≤ 20) ≠ 0 → GN M N (bad (zI (wrS S t z (1 ≤ z ∧ z ≤ 20)))) Q)
    (h : wrS S t z (1 ≤ z ∧ z ≤ 20) = 0 → ∀ N' m R ld, CFr c N N' → SpD N' (c + 182) (sp S) (sn S) m R ld (mdS S what t z) → GN M N' (f ()) Q) :
    GN M N (jb ((f_X0_isFrom ((zI z).toInt64) 1 20)) fun v1 => jb (jcall 0 c (f_X0_wrongRow c (zI t) (zI z) v1)) fun v2 => if v2 ≤ 0 then jb (jgetA 0 24 c) fun v3 => jb (jcall 0 c (f_X0_spans c v3 (zI t) (zI z))) fun _ => jb (jgetA 0 2 c) fun v4 => jb (jgetA 0 24 c) fun v5 => jb (jcall 0 c (f_X0_closes c v4 v5 (zI wa))) f else bad v2) Q := by
  rw [zL_int hz, show (1 : Int64) = zL 1 from rfl, show (20 : Int64) = zL 20 from rfl]
  refine w_isFrom (zRL_of hz) ⟨by omega, by omega⟩ ⟨by omega, by omega⟩ ?_
  refine c_wrongRow (good := 1 ≤ z ∧ z ≤ 20) hR ht (by
    by_cases e : 1 ≤ z ∧ z ≤ 20
    · rw [if_pos e]; exact Or.inl ⟨rfl, e⟩
    · rw [if_neg e]; exact Or.inr ⟨rfl, e⟩) (fun g => by omega) ?_
  have hr := wrS_r (S := S) (t := t) (z := z) (good := 1 ≤ z ∧ z ≤ 20)
  rw [z_0]
  by_cases e : wrS S t z (1 ≤ z ∧ z ≤ 20) = 0
  case neg => exact w_le ⟨by omega, by omega⟩ ⟨by omega, by omega⟩ (fun x => absurd x (by omega)) (fun _ => h0 e)
  replace h := h e
  obtain ⟨ht4, g, r, e1, e2, e3, e4⟩ := wrS_0 e
  rw [e]
  refine w_le ⟨by omega, by omega⟩ ⟨by omega, by omega⟩ (fun _ => ?_) (fun x => absurd x (by decide))
  obtain ⟨hTr, hra⟩ := hR.tr ht4 e1
  unfold mdS at h
  rw [e2] at h
  obtain ⟨t, rfl⟩ : ∃ d : Nat, t = d := ⟨t.toNat, by omega⟩
  obtain ⟨z, rfl⟩ : ∃ d : Nat, z = d := ⟨z.toNat, by omega⟩
  rw [show ((z : Int).toNat) = z from rfl] at h e3 e4
  refine w_Cf hR.cl rfl ?_
  refine w_spans hR.cl (by omega) hR.w hR.cl.s182 (by omega) hTr hra e3 e4 (fun N1 m1 R1 ld1 s1 f1 => ?_)
  have hF1 : CFr c N N1 := CFr.of (fun b hb => f1 b (by omega) (by omega))
  have hR1 := hR.sc (Bg.rf hR.cl) hF1
  refine w_Cf hR.cl rfl (w_Cf hR.cl rfl ?_)
  refine w_closes hR.cl hR.cl.w6 hR1.w (by omega) hR.cl.s182 s1 (by omega) (by omega) (fun N2 m2 R2 ld2 s2 f2 => ?_)
  refine h N2 m2 R2 ld2 (hF1.tr (CFr.of (fun b hb => f2 b (by omega) (by omega) (by omega)))) ?_
  rw [show Mdv (sp S) (sn S) (sT S) what (Vsp (sp S) (sn S) z r.2.2) = Cl (sp S) (sn S) (sT S) (what = 2) (Vsp (sp S) (sn S) z r.2.2) from if_neg (by omega), show (what = 2) = (wa = 1) from propext ⟨fun _ => by omega, fun _ => by omega⟩]
  exact s2
theorem m_wrongMade {f : Int32 → JM Mem τ} {Q : τ → Mem → NM → Prop} (hR : MR M N m S) (hA : MA M N m (m + 5) 0 (sp S) (sn S) (sT S)) (ht : zR t) (hz : zR z) (h : GN M N (f (zI (wrS S t z (1 ≤ z ∧ z ≤ 20)))) Q) : GN M N (jb (jcall 7 m (f_X8_wrongMade m (zI t) (zI z))) f) Q := by
  refine w_Mc hR.ml ?_
  unfold f_X8_wrongMade
  refine m_tray hR ht (fun e => ?_) (fun e e2 => ?_) (fun e4 r e2 hT => ?_)
  · rw [show wrS S t z (1 ≤ z ∧ z ≤ 20) = 1 from if_neg e] at h
    rw [z_1]
    exact w_jp h
  · unfold wrS at h
    rw [if_pos e, e2] at h
    rw [z_3]
    exact w_jp h
  · have ew : wrS S t z (1 ≤ z ∧ z ≤ 20) = @ite Int (1 ≤ z ∧ z ≤ 20) (Classical.propDecidable _) (wrV (sp S) (sn S) z.toNat (some r.2)) 5 := by
      unfold wrS
      rw [if_pos e4, e2]
    rw [ew] at h
    rw [zL_int hz, show (1 : Int64) = zL 1 from rfl, show (20 : Int64) = zL 20 from rfl]
    refine w_isIn (zRL_of hz) ⟨by omega, by omega⟩ ⟨by omega, by omega⟩ ?_
    rw [z_0]
    by_cases g : 1 ≤ z ∧ z ≤ 20
    · rw [if_pos g] at h ⊢
      refine w_eq ⟨by omega, by omega⟩ ⟨by omega, by omega⟩ (fun x => absurd x (by decide)) (fun _ => ?_)
      obtain ⟨t, rfl⟩ : ∃ d : Nat, t = d := ⟨t.toNat, by omega⟩
      obtain ⟨z, rfl⟩ : ∃ d : Nat, z = d := ⟨z.toNat, by omega⟩
      exact w_wrongVectors hR.ml hA hT (by omega) (w_jp h)
    · rw [if_neg g] at h ⊢
      rw [z_5]
      exact w_eq ⟨by omega, by omega⟩ ⟨by omega, by omega⟩ (fun _ => w_jp h) (fun x => absurd rfl x)
theorem m_madeS {f : Int32 → JM Mem τ} {Q : τ → Mem → NM → Prop} {what : Nat} (hR : MR M N m S) (hA : MA M N m (m + 5) 0 (sp S) (sn S) (sT S)) (hw : what ≤ 2) (h0 : wrS S t z (1 ≤ z ∧ z ≤ 20) = 0)
    (h : ∀ N' q R ld, SpM N' (m + 11) (sp S) (sn S) q R ld (mdS S what t z) → (∀ b, b < m + 11 ∨ m + 14 < b → b ≠ m + 17 → b ≠ m + 24 → N' b = N b) → GN M N' (f (zI (q : Nat))) Q) : GN M N (jb (jcall 7 m (f_X8_made m (zI t) (zI z) (zI what))) f) Q := by
  obtain ⟨ht4, g, r, e1, e2, e3, e4⟩ := wrS_0 h0
  unfold mdS at h
  rw [e2] at h
  obtain ⟨t, rfl⟩ : ∃ d : Nat, t = d := ⟨t.toNat, by omega⟩
  obtain ⟨z, rfl⟩ : ∃ d : Nat, z = d := ⟨z.toNat, by omega⟩
  have hty := hR.2.2.2.1 t (by omega)
  rw [show S.2.2.1 t = some r from e1] at hty
  exact w_made hR.ml hA hty.2 e3 e4 hw h
theorem c_takeOut {f : Int32 → JM Mem τ} {Q : τ → Mem → NM → Prop} (hR : CR M N c S) (ht : zR t) (hz : zR z) (h : cPost M N c (a_out S t z).1 (f (zI (a_out S t z).2)) Q) : GN M N (jb (jcall 0 c (f_X0_takeOut c (zI t) (zI z))) f) Q := by
  have hpb := hR.w.pb
  have hp := hR.w.pr
  have hn5 : sn S ≤ 5 := hR.w.n5
  refine w_Cc hR.cl ?_
  unfold f_X0_takeOut
  unfold a_out at h
  rw [z_0]
  refine c_made (wa := 0) (what := 1) (Or.inl ⟨rfl, rfl⟩) hR ht hz (fun e => ?_) (fun e N1 q R ld hF1 s1 => ?_)
  · rw [if_neg e] at h
    exact w_none hR.cl (w_jp (c_fin0 hR h))
  rw [if_pos e] at h
  unfold wto at h
  generalize mdS S 1 t z = X at *
  have hq5 := s1.mn hp
  obtain ⟨hd, hT⟩ := toT_eq (T := sT S) hp s1.so'
  rw [← hT, hd] at h
  have hR1 := hR.sc (Bg.rf hR.cl) hF1
  have hD1 := hR1.w
  refine w_Cf hR.cl rfl (w_getI hR.cl.s182.1 ?_)
  rw [s1.me]
  refine w_eq ⟨by omega, by omega⟩ ⟨by omega, by omega⟩ (fun e0 => ?_) (fun e0 => ?_)
  · rw [if_pos (by omega)] at h
    rw [show (9 : Int32) = zI 9 from rfl]
    exact w_none hR.cl (w_jp (c_fin hR (Bg.rf hR.cl) hF1 h))
  rw [if_neg (by omega)] at h
  refine w_Cf hR.cl rfl (w_Cf hR.cl rfl ?_)
  refine w_wcopy hR.cl.w38 hR.cl.w6 (by omega) (fun N2 t1 t2 t3 f2 => ?_)
  have hE2 : WD N2 (c + 38) (sp S) (sn S) (sT S) := ⟨by rw [t2]; exact hD1.pe, by rw [t3]; exact hD1.ne, fun i j k hi hj hk => by rw [t1 i j k hi hj hk]; exact hD1.t hi hj hk, hD1.ok⟩
  have s2 : SpD N2 (c + 182) (sp S) (sn S) q R ld X := s1.fr (fun b h1 h2 _ => f2 b (by omega)) hp hn5
  refine w_Cf hR.cl rfl (w_getI hR.cl.s182.1 ?_)
  rw [s2.me]
  refine w_Cf hR.cl rfl ?_
  refine w_clear hR.cl.w6 (fun N3 g3 f3 => ?_)
  refine w_Cf hR.cl rfl ?_
  refine w_putI hR.cl.w6.1 ?_
  have hG0 : WOk (sp S) q (fun _ _ _ => 0) := by
    have := altT_ok (p := sp S) (n := q) (S := fun _ _ _ => 0) hp ⟨by omega, by omega⟩
    rw [altT_z] at this
    exact this
  have hW4 : WD (up2 N3 (c + 6) 2 (q : Int)) (c + 6) (sp S) q (fun _ _ _ => 0) := ⟨by rw [upk (by omega), f3 _ (by omega), f2 _ (by omega)]; exact hD1.pe, upv, fun i j k hi hj hk => by rw [upb (by omega)]; exact g3 i j k hi hj hk, hG0⟩
  have f4 : ∀ b, b < c + 6 ∨ c + 70 ≤ b → up2 N3 (c + 6) 2 (q : Int) b = N1 b := fun b hb => by rw [upb (by omega), f3 b (by omega), f2 b (by omega)]
  have hE4 : WD (up2 N3 (c + 6) 2 (q : Int)) (c + 38) (sp S) (sn S) (sT S) := hE2.fr (fun b h1 h2 => by rw [upb (by omega), f3 b (by omega)])
  have s4 : SpD (up2 N3 (c + 6) 2 (q : Int)) (c + 182) (sp S) (sn S) q R ld X := s1.fr (fun b h1 h2 _ => f4 b (by omega)) hp hn5
  generalize up2 N3 (c + 6) 2 (q : Int) = N4 at hW4 f4 hE4 s4
  let J : Nat → Nat → Nat → NM → Prop := fun i j k N3 => WD N3 (c + 6) (sp S) q (altT (sp S) q (flP (fun _ _ _ => 0) (toT (sp S) (sn S) (sT S) R ld) i j k)) ∧ (∀ b, b ≠ c + 74 → b < c + 6 ∨ c + 38 ≤ b → N3 b = N4 b)
  have hnxt : ∀ i j k i' j' k' N3, (∀ a b c, a < b → b < q → c < q → (bfr i j k a b c ↔ bfr i' j' k' a b c)) → J i j k N3 → J i' j' k' N3 := fun i j k i' j' k' N3 hb ⟨k1, k2⟩ => ⟨by
    rw [← flP_q hb]; exact k1, k2⟩
  have hJ0 : J 0 0 0 N4 := ⟨by rw [flP_0, altT_z]; exact hW4, fun _ _ _ => rfl⟩
  refine w_up q (fun i N5 => J i 0 0 N5) 0 rfl (by omega) hJ0 ?_
  rintro i N5 hi hJ5
  unfold X0_takeOut_L105
  refine w_le ⟨by omega, by omega⟩ ⟨by omega, by omega⟩ (fun hd2 => ?_) (fun hd2 => ?_)
  · obtain rfl : i = q := by omega
    refine w_jinl ?_
    unfold X0_takeOut_b212
    have hw := hJ5.1
    rw [flP_1] at hw
    exact w_gives hR.cl (w_jp (c_finW (y := (sp S, i, altT (sp S) i (toT (sp S) (sn S) (sT S) R ld))) hR (Bg.rf hR.cl) (hF1.tw.tr (CFw.of (fun b hb => by rw [hJ5.2 b (by omega) (by omega), f4 b (by omega)]))) hw h))
  rw [z_1, zI_add]
  refine w_jlet ?_
  refine w_up q (fun j N6 => i < j ∧ J i j 0 N6) (i + 1) (by rfl) (by omega) ⟨by omega, hnxt _ _ _ _ _ _ _ (fun a b c h1 h2 h3 => by unfold bfr; omega) hJ5⟩ ?_
  rintro j N6 hj ⟨hij, hJ6⟩
  unfold X0_takeOut_L118
  refine w_le ⟨by omega, by omega⟩ ⟨by omega, by omega⟩ (fun he => ?_) (fun he => ?_)
  · unfold X0_takeOut_b206
    rw [z_1, zI_add]
    exact w_jinl (w_jcont ⟨by omega, rfl, hnxt _ _ _ _ _ _ _ (fun a b c h1 h2 h3 => by unfold bfr; omega) hJ6⟩)
  have hiq : i < q := by omega
  have hjq : j < q := by omega
  have hE6 : WD N6 (c + 38) (sp S) (sn S) (sT S) := hE4.fr (fun b h1 h2 => hJ6.2 b (by omega) (by omega))
  have s6 : SpD N6 (c + 182) (sp S) (sn S) q R ld X := s4.fr (fun b h1 h2 _ => hJ6.2 b (by omega) (by omega)) hp hn5
  have h74 := hR.cl.ka (o := 74) (d := (0, 5)) rfl
  refine w_Cf hR.cl rfl ?_
  refine w_Cf hR.cl rfl (w_Sr hR.cl.s182 (by omega) ?_)
  refine w_Cf hR.cl rfl (w_Sr hR.cl.s182 (by omega) ?_)
  refine w_Cf hR.cl rfl ?_
  refine w_wbracket hR.cl.w38 hE6 (hR.cl.s182.kr (by omega)) (by omega) (hR.cl.s182.kr (by omega)) (by omega) h74 (by omega) (s6.vd hiq) (s6.vd hjq) (by omega) (by omega) (by omega) ?_
  have z7 : ∀ k, k < 5 → wr5 N6 (c + 74) (fun k => bk (sn S) (sT S) (R i) (R j) k % sp S) (c + 74) k = bkm (sp S) (sn S) (sT S) (R i) (R j) k := fun k hk => wr5_at hk
  have g7 : ∀ b, b ≠ c + 74 → wr5 N6 (c + 74) (fun k => bk (sn S) (sT S) (R i) (R j) k % sp S) b = N6 b := fun b hb => wr5_ne hb
  generalize wr5 N6 (c + 74) (fun k => bk (sn S) (sT S) (R i) (R j) k % sp S) = N7 at z7 g7
  have hJ7 : J i j 0 N7 := ⟨hJ6.1.fr (fun b h1 h2 => g7 b (by omega)), fun b h1 h2 => by rw [g7 b h1]; exact hJ6.2 b h1 h2⟩
  rw [z_0]
  refine w_up q (fun k N8 => J i j k N8 ∧ N8 (c + 74) = N7 (c + 74)) 0 rfl (by omega) ⟨hJ7, rfl⟩ ?_
  rintro k N8 hk ⟨hJ8, e8⟩
  unfold X0_takeOut_L159
  refine w_le ⟨by omega, by omega⟩ ⟨by omega, by omega⟩ (fun hf => ?_) (fun hf => ?_)
  · unfold X0_takeOut_b200
    rw [z_1, zI_add]
    exact w_jinl (w_jcont ⟨by omega, rfl, by omega, hnxt _ _ _ _ _ _ _ (fun a b c h1 h2 h3 => by unfold bfr; omega) hJ8⟩)
  have hkq : k < q := by omega
  have hlk := s6.ech.ldn hkq
  have s8 : SpD N8 (c + 182) (sp S) (sn S) q R ld X := s4.fr (fun b h1 h2 _ => hJ8.2 b (by omega) (by omega)) hp hn5
  refine w_Cf hR.cl rfl (w_Cf hR.cl rfl ?_)
  refine w_Cf hR.cl rfl (w_Sl hR.cl.s182 ?_)
  refine w_ald hR.cl.s182.kl (by omega) (by omega) ?_
  rw [show ((k : Int).toNat) = k from rfl, s8.l hkq]
  refine w_ald h74 (by omega) (by omega) ?_
  rw [show ((ld k : Int).toNat) = ld k from rfl, e8, z7 _ (by omega)]
  have hb := bkm_bd (X := R i) (Y := R j) hR.w.ok (ld k)
  refine w_cset hR.cl.w6 hJ8.1 hij hjq hkq (by omega) (fun N9 c9 f9 => ?_)
  rw [z_1, zI_add]
  refine w_jcont ⟨hkq, rfl, ⟨?_, fun b h1 h2 => by rw [f9 b (by omega)]; exact hJ8.2 b h1 h2⟩, by rw [f9 _ (by omega)]; exact e8⟩
  rw [← flP_st]
  exact c9
theorem m_takeOut {f : Int32 → JM Mem τ} {Q : τ → Mem → NM → Prop} (hR : MR M N m S) (ht : zR t) (hz : zR z) (h : mPost M N m (a_out S t z).1 (f (zI (a_out S t z).2)) Q) : GN M N (jb (jcall 7 m (f_X8_takeOut m (zI t) (zI z))) f) Q := by
  refine w_Mc hR.ml ?_
  unfold f_X8_takeOut
  refine m_beg hR (fun M1 N1 hS hM hA => ?_)
  have hR1 := hR.be hS
  have hp := hA.pr
  have hn5 := hA.n5
  have hpb := hA.pb
  have hr := wrS_r (S := S) (t := t) (z := z) (good := 1 ≤ z ∧ z ≤ 20)
  refine m_wrongMade hR1 hA ht hz ?_
  rw [show wrS (stU S 0 0) t z (1 ≤ z ∧ z ≤ 20) = wrS S t z (1 ≤ z ∧ z ≤ 20) from rfl]
  unfold a_out at h
  rw [z_0]
  by_cases e : wrS S t z (1 ≤ z ∧ z ≤ 20) = 0
  case neg =>
    rw [if_neg e] at h
    exact w_le ⟨by omega, by omega⟩ ⟨by omega, by omega⟩ (fun x => absurd x (by omega)) (fun _ => w_refuse hM (w_jp (m_fin hR hS MFr.rf h)))
  rw [if_pos e] at h
  rw [e]
  refine w_le ⟨by omega, by omega⟩ ⟨by omega, by omega⟩ (fun _ => ?_) (fun x => absurd x (by decide))
  rw [show (1 : Int32) = zI ((1 : Nat) : Int) from rfl]
  refine m_madeS (what := 1) hR1 hA (by omega) e (fun N2 q R ld s2 f2 => ?_)
  have s2 : SpM N2 (m + 11) (sp S) (sn S) q R ld (mdS S 1 t z) := s2
  unfold wto at h
  generalize mdS S 1 t z = X at *
  have hq5 := s2.qn hp
  obtain ⟨hd, hT⟩ := toT_eq (T := sT S) hp s2.so'
  rw [← hT, hd] at h
  have hF2 : MFr m N1 N2 := MFr.of (fun b hb => f2 b (by omega) (by omega) (by omega))
  refine w_eq ⟨by omega, by omega⟩ ⟨by omega, by omega⟩ (fun e0 => ?_) (fun e0 => ?_)
  · rw [if_pos (by omega)] at h
    rw [show (9 : Int32) = zI 9 from rfl]
    exact w_refuse hM (w_jp (m_fin hR hS hF2 h))
  rw [if_neg (by omega)] at h
  have hA2 : MA M1 N2 m (m + 5) 0 (sp S) (sn S) (sT S) := hA.fr (f2 _ (by omega) (by omega) (by omega)) (f2 _ (by omega) (by omega) (by omega))
  have h7 := hM.ka (o := 7) (d := (0, 127)) rfl
  have h11 := hM.ka (o := 11) (d := (0, 25)) rfl
  have h17 := hM.ka (o := 17) (d := (0, 5)) rfl
  refine w_Mf hM rfl (w_MI hM ?_)
  rw [hA2.pe]
  refine w_mclear (B := 0) (n := q) h7 (by omega) (fun N3 c3 f3 _ => ?_)
  have hok := altT_ok (p := sp S) (n := q) (S := toT (sp S) (sn S) (sT S) R ld) hp ⟨by omega, by omega⟩
  let J : Nat → Nat → Nat → NM → Prop := fun i j k N4 => WC N4 (m + 7) 0 (sp S) q (altT (sp S) q (flP (fun _ _ _ => 0) (toT (sp S) (sn S) (sT S) R ld) i j k)) ∧ (∀ b, b ≠ m + 7 → b ≠ m + 17 → N4 b = N2 b)
  have hnxt : ∀ i j k i' j' k' N3, (∀ a b c, a < b → b < q → c < q → (bfr i j k a b c ↔ bfr i' j' k' a b c)) → J i j k N3 → J i' j' k' N3 := fun i j k i' j' k' N3 hb ⟨k1, k2⟩ => ⟨by
    rw [← flP_q hb]; exact k1, k2⟩
  have hJ0 : J 0 0 0 N3 := ⟨by rw [flP_0, altT_z]; exact c3, fun b h1 _ => f3 b h1⟩
  refine w_up q (fun i N5 => J i 0 0 N5) 0 rfl (by omega) hJ0 ?_
  rintro i N5 hi hJ5
  unfold X8_takeOut_L69
  refine w_le ⟨by omega, by omega⟩ ⟨by omega, by omega⟩ (fun hd2 => ?_) (fun hd2 => ?_)
  · obtain rfl : i = q := by omega
    refine w_jinl ?_
    unfold X8_takeOut_b172
    have hw := hJ5.1
    rw [flP_1] at hw
    have hF5 : MFr m N1 N5 := hF2.tr (MFr.of (fun b hb => hJ5.2 b (by omega) (by omega)))
    exact m_takeOther hM hw hok (fun N6 hF6 hW6 => w_jp (m_finW (y := (sp S, i, altT (sp S) i (toT (sp S) (sn S) (sT S) R ld))) hR hS (hF5.tw.tr hF6) hW6 h))
  rw [z_1, zI_add]
  refine w_jlet ?_
  refine w_up q (fun j N6 => i < j ∧ J i j 0 N6) (i + 1) (by rfl) (by omega) ⟨by omega, hnxt _ _ _ _ _ _ _ (fun a b c h1 h2 h3 => by unfold bfr; omega) hJ5⟩ ?_
  rintro j N6 hj ⟨hij, hJ6⟩
  unfold X8_takeOut_L82
  refine w_le ⟨by omega, by omega⟩ ⟨by omega, by omega⟩ (fun he => ?_) (fun he => ?_)
  · unfold X8_takeOut_b166
    rw [z_1, zI_add]
    exact w_jinl (w_jcont ⟨by omega, rfl, hnxt _ _ _ _ _ _ _ (fun a b c h1 h2 h3 => by unfold bfr; omega) hJ6⟩)
  have hiq : i < q := by omega
  have hjq : j < q := by omega
  have hA6 : MA M1 N6 m (m + 5) 0 (sp S) (sn S) (sT S) := hA2.fr (hJ6.2 _ (by omega) (by omega)) (hJ6.2 _ (by omega) (by omega))
  have s6 : SpM N6 (m + 11) (sp S) (sn S) q R ld X := s2.fr (hJ6.2 _ (by omega) (by omega))
  refine w_Mf hM rfl (w_Mf hM rfl (w_Mf hM rfl ?_))
  rw [z_5, zI_mul, zI_mul, show (5 * (i : Int)) = ((5 * i : Nat) : Int) by omega, show (5 * (j : Int)) = ((5 * j : Nat) : Int) by omega]
  refine w_bracketOf hM hA6 h11 (by omega) h11 (by omega) h17 (by omega) (s6.vm hiq) (s6.vm hjq) (by omega) (by omega) (by omega) (by omega) ?_
  have z7 : ∀ k, k < sn S → wro N6 (m + 17) 0 (sn S) (fun k => bk (sn S) (sT S) (R i) (R j) k % sp S) (m + 17) k = bkm (sp S) (sn S) (sT S) (R i) (R j) k := fun k hk => by
    have := wro_at (N := N6) (a := m + 17) (o := 0) (g := fun k => bk (sn S) (sT S) (R i) (R j) k % sp S) hk
    rw [Nat.zero_add] at this
    exact this
  have g7 : ∀ b, b ≠ m + 17 → wro N6 (m + 17) 0 (sn S) (fun k => bk (sn S) (sT S) (R i) (R j) k % sp S) b = N6 b := fun b hb => wro_ne hb
  generalize wro N6 (m + 17) 0 (sn S) (fun k => bk (sn S) (sT S) (R i) (R j) k % sp S) = N7 at z7 g7
  have hJ7 : J i j 0 N7 := ⟨hJ6.1.fr (g7 _ (by omega)), fun b h1 h2 => by rw [g7 b h2]; exact hJ6.2 b h1 h2⟩
  rw [z_0]
  refine w_up q (fun k N8 => J i j k N8 ∧ N8 (m + 17) = N7 (m + 17)) 0 rfl (by omega) ⟨hJ7, rfl⟩ ?_
  rintro k N8 hk ⟨hJ8, e8⟩
  unfold X8_takeOut_L116
  refine w_le ⟨by omega, by omega⟩ ⟨by omega, by omega⟩ (fun hf => ?_) (fun hf => ?_)
  · unfold X8_takeOut_b160
    rw [z_1, zI_add]
    exact w_jinl (w_jcont ⟨by omega, rfl, by omega, hnxt _ _ _ _ _ _ _ (fun a b c h1 h2 h3 => by unfold bfr; omega) hJ8⟩)
  have hkq : k < q := by omega
  have hlk := s6.ech.ldn hkq
  have s8 : SpM N8 (m + 11) (sp S) (sn S) q R ld X := s2.fr (hJ8.2 _ (by omega) (by omega))
  refine w_Mf hM rfl (w_Mf hM rfl (w_Mf hM rfl ?_))
  rw [z_5, zI_mul]
  refine w_leadRow hM ⟨by rw [hJ8.2 m (by omega) (by omega)]; exact hA2.ne, hn5⟩ hp h11 (by omega) s8 hkq ?_
  refine w_ald h17 (by omega) (by omega) ?_
  rw [show ((ld k : Int).toNat) = ld k from rfl, e8, z7 _ hlk, z_0]
  have hb := bkm_bd (X := R i) (Y := R j) hA.ok (ld k)
  refine w_mset (B := 0) h7 (by omega) hJ8.1 hp (by omega) hij hjq hkq (by omega) (fun N9 c9 f9 l9 => ?_)
  rw [z_1, zI_add]
  refine w_jcont ⟨hkq, rfl, ⟨?_, fun b h1 h2 => by rw [f9 b h1]; exact hJ8.2 b h1 h2⟩, by rw [f9 _ (by omega)]; exact e8⟩
  rw [← flP_st]
  exact c9
end OPS15
