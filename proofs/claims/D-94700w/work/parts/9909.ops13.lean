/-! OPS, thirteenth part: squeeze. -/
set_option maxRecDepth 100000
section OPS13
variable {α τ : Type} {M M' M1 M2 : Mem} {N N' N1 : NM} {c m i j k i' j' k' : Nat} {u v w s t : Int} {S S' : St} {p : Int} {n many : Nat} {T F G : Nat → Nat → Nat → Int} {y : Wd} {V : Nat → Int}
theorem zL_add (a b : Int) : zL a + zL b = zL (a + b) := (Int64.ofInt_add a b).symm
theorem zL_sub (a b : Int) : zL a - zL b = zL (a - b) := (Int64.ofInt_sub a b).symm
theorem w_leL {a b : Int} {f g : JM Mem τ} {Q : τ → Mem → NM → Prop} (ha : zRL a) (hb : zRL b) (h1 : a ≤ b → GN M N f Q) (h2 : b < a → GN M N g Q) : GN M N (if zL a ≤ zL b then f else g) Q :=
  w_ite (fun h => h1 ((zL_le ha hb).mp h)) (fun h => h2 (Int.not_le.mp (fun q => h ((zL_le ha hb).mpr q))))
def sqT (V : Nat → Int) (T : Nat → Nat → Nat → Int) : Nat → Nat → Nat → Int := fun a b c => if V c < V a + V b then 0 else T a b c
def SqB (n : Nat) (V : Nat → Int) (T : Nat → Nat → Nat → Int) : Prop := ∃ i j k, i < j ∧ j < n ∧ k < n ∧ T i j k ≠ 0 ∧ V i + V j < V k
def wsq (S : St) (t : Int) : Wd := (sp S, sn S, altT (sp S) (sn S) (sqT (trV S t) (sT S)))
noncomputable def a_squeeze (S : St) (t : Int) : St × Int := if wnS S t (sn S) (-20) 20 = 0 then (@ite _ (SqB (sn S) (trV S t) (sT S)) (Classical.propDecidable _) (stU S 0 9, 0) (stU (stW S (wsq S t)) 0 0, 1)) else (stU S 0 (wnS S t (sn S) (-20) 20), 0)
theorem c_squeeze {f : Int32 → JM Mem τ} {Q : τ → Mem → NM → Prop} (hR : CR M N c S) (ht : zR t) (h : cPost M N c (a_squeeze S t).1 (f (zI (a_squeeze S t).2)) Q) : GN M N (jb (jcall 0 c (f_X0_squeeze c (zI t))) f) Q := by
  have hpb := hR.w.pb
  have hn5 : sn S ≤ 5 := hR.w.n5
  refine w_Cc hR.cl ?_
  unfold f_X0_squeeze
  refine w_Cf hR.cl rfl (w_Wp hR.cl.w6 ?_)
  rw [hR.w.ne, z_m20, show (20 : Int32) = zI 20 from rfl]
  refine c_wrongNumbers hR ht (by omega) ⟨by omega, by omega⟩ ⟨by omega, by omega⟩ ?_
  have hr := wnS_r (S := S) (t := t) (many := sn S) (least := -20) (great := 20)
  unfold a_squeeze at h
  rw [z_0]
  by_cases e : wnS S t (sn S) (-20) 20 = 0
  case neg =>
    rw [if_neg e] at h
    exact w_le ⟨by omega, by omega⟩ ⟨by omega, by omega⟩ (fun x => absurd x (by omega)) (fun _ => c_is0 hR h ⟨by omega, by omega⟩ e rfl)
  rw [if_pos e] at h
  rw [e]
  refine w_le ⟨by omega, by omega⟩ ⟨by omega, by omega⟩ (fun _ => ?_) (fun x => absurd x (by decide))
  obtain ⟨ht4, r, e1, e2, e3, e4⟩ := wnS_0 e
  obtain ⟨hTr, hra⟩ := hR.tr ht4 e1
  have eW : wsq S t = (sp S, sn S, altT (sp S) (sn S) (sqT r.2.2 (sT S))) := by
    unfold wsq
    rw [e2]
  rw [e2, eW] at h
  obtain ⟨t, rfl⟩ : ∃ d : Nat, t = d := ⟨t.toNat, by omega⟩
  rw [show ((t : Int).toNat) = t from rfl] at hTr hra
  have hk258 := (hR.cl.tr (show t < 4 by omega)).2
  refine w_Cf hR.cl rfl ?_
  refine w_aldA (hR.cl.ka (o := 1) (d := (9, 4)) rfl) (by omega) (by omega) (hR.cl.tr (show t < 4 by omega)).1 ?_
  generalize hVd : r.2.2 = V at *
  have hV : ∀ i, i < sn S → -20 ≤ V i ∧ V i ≤ 20 := e4
  -- three numbers of the tray
  have get3 : ∀ {α : Type} {g : Int64 → Int64 → Int64 → JM Mem α} {Q : α → Mem → NM → Prop} (N2 : NM), (∀ b, b < c + 6 ∨ c + 38 ≤ b → N2 b = N b) → ∀ i j k, i < sn S → j < sn S → k < sn S → GN M N2 (g (zL (V i)) (zL (V j)) (zL (V k))) Q →
      GN M N2 (jb (jcall 5 (c + 258 + t) (f_X6_get (c + 258 + t) (zI (i : Nat)))) fun x => jb (jcall 5 (c + 258 + t) (f_X6_get (c + 258 + t) (zI (j : Nat)))) fun y => jb (jcall 5 (c + 258 + t) (f_X6_get (c + 258 + t) (zI (k : Nat)))) fun z => g x y z) Q := fun N2 g2 i j k hi hj hk hh => by
    have hT2 : TrR M N2 (c + 258 + t) r.2.1 V := hTr.fr (g2 _ (by omega)) (fun a ha => g2 a (by have := hra a ha; omega))
    refine w_get hk258 hT2 (by omega) ?_
    refine w_get hk258 hT2 (by omega) ?_
    refine w_get hk258 hT2 (by omega) ?_
    exact hh
  -- the second part
  have hsec : ¬ SqB (sn S) V (sT S) → GN M N (X0_squeeze_b137 c (zI (sn S)) (c + 258 + t)) (fun v M1 N1 => GN M1 N1 (f v) Q) := fun hB => by
    rw [if_neg hB] at h
    unfold X0_squeeze_b137
    rw [z_0]
    let J : Nat → Nat → Nat → NM → Prop := fun i j k N3 => WD N3 (c + 6) (sp S) (sn S) (altT (sp S) (sn S) (flP (sT S) (sqT V (sT S)) i j k)) ∧ ∀ b, b < c + 6 ∨ c + 38 ≤ b → N3 b = N b
    have hnxt : ∀ i j k i' j' k' N3, (∀ a b c, a < b → b < sn S → c < sn S → (bfr i j k a b c ↔ bfr i' j' k' a b c)) → J i j k N3 → J i' j' k' N3 := fun i j k i' j' k' N3 hb ⟨k1, k2⟩ => ⟨by
      rw [← flP_q hb]; exact k1, k2⟩
    have hJ0 : J 0 0 0 N := ⟨by rw [flP_0, altT_self hR.w.ok]; exact hR.w, fun _ _ => rfl⟩
    refine w_up (sn S) (fun i N3 => J i 0 0 N3) 0 rfl (by omega) hJ0 ?_
    rintro i N3 hi hJ3
    unfold X0_squeeze_L140
    refine w_le ⟨by omega, by omega⟩ ⟨by omega, by omega⟩ (fun hd => ?_) (fun hd => ?_)
    · obtain rfl : i = sn S := by omega
      refine w_jinl ?_
      unfold X0_squeeze_b225
      have := hJ3.1
      rw [flP_1] at this
      exact c_is00 hR.cl (c_finW (y := (sp S, sn S, altT (sp S) (sn S) (sqT V (sT S)))) hR (Bg.rf hR.cl) (CFw.of (fun b hb => hJ3.2 b (by omega))) this h)
    rw [z_1, zI_add]
    refine w_jlet ?_
    refine w_up (sn S) (fun j N4 => i < j ∧ J i j 0 N4) (i + 1) (by rfl) (by omega) ⟨by omega, hnxt _ _ _ _ _ _ _ (fun a b c h1 h2 h3 => by unfold bfr; omega) hJ3⟩ ?_
    rintro j N4 hj ⟨hij, hJ4⟩
    unfold X0_squeeze_L152
    refine w_le ⟨by omega, by omega⟩ ⟨by omega, by omega⟩ (fun he => ?_) (fun he => ?_)
    · unfold X0_squeeze_b219
      rw [z_1, zI_add]
      exact w_jinl (w_jcont ⟨by omega, rfl, hnxt _ _ _ _ _ _ _ (fun a b c h1 h2 h3 => by unfold bfr; omega) hJ4⟩)
    rw [z_0]
    refine w_up (sn S) (fun k N5 => J i j k N5) 0 rfl (by omega) hJ4 ?_
    rintro k N5 hk hJ5
    unfold X0_squeeze_L161
    refine w_le ⟨by omega, by omega⟩ ⟨by omega, by omega⟩ (fun hf => ?_) (fun hf => ?_)
    · unfold X0_squeeze_b213
      rw [z_1, zI_add]
      exact w_jinl (w_jcont ⟨by omega, rfl, by omega, hnxt _ _ _ _ _ _ _ (fun a b c h1 h2 h3 => by unfold bfr; omega) hJ5⟩)
    have hi' : i < sn S := by omega
    have hj' : j < sn S := by omega
    have hk' : k < sn S := by omega
    have q1 := hV i hi'
    have q2 := hV j hj'
    have q3 := hV k hk'
    refine get3 N5 hJ5.2 i j k hi' hj' hk' ?_
    rw [zL_add]
    refine w_leL ⟨by omega, by omega⟩ ⟨by omega, by omega⟩ (fun hg => ?_) (fun hg => ?_)
    · unfold X0_squeeze_b207
      rw [z_1, zI_add]
      refine w_jcont ⟨hk', rfl, ?_, hJ5.2⟩
      rw [← flP_no (show sqT V (sT S) i j k = sT S i j k from if_neg (by omega))]
      exact hJ5.1
    · refine w_Cf hR.cl rfl ?_
      rw [z_0]
      refine w_cset hR.cl.w6 hJ5.1 hij hj' hk' (by omega) (fun N6 c6 f6 => ?_)
      unfold X0_squeeze_b207
      rw [z_1, zI_add]
      refine w_jcont ⟨hk', rfl, ?_, fun b hb => by rw [f6 b (by omega)]; exact hJ5.2 b hb⟩
      rw [← flP_st, show sqT V (sT S) i j k = 0 from if_pos hg]
      exact c6
  -- the first part
  refine w_up (sn S) (fun i N2 => N2 = N ∧ ∀ a b d, bfr i 0 0 a b d → a < b → b < sn S → d < sn S → ¬ (sT S a b d ≠ 0 ∧ V a + V b < V d)) 0 rfl (by omega) ⟨rfl, fun a b d x => absurd x (by unfold bfr; omega)⟩ ?_
  rintro i N2 hi ⟨rfl, g1⟩
  unfold X0_squeeze_L40
  refine w_le ⟨by omega, by omega⟩ ⟨by omega, by omega⟩ (fun hd => ?_) (fun hd => ?_)
  · exact w_jinl (hsec (fun ⟨a, b, d, h1, h2, h3, h4⟩ => g1 a b d (by unfold bfr; omega) h1 h2 h3 h4))
  rw [z_1, zI_add]
  refine w_jlet ?_
  refine w_up (sn S) (fun j N3 => i < j ∧ N3 = N2 ∧ ∀ a b d, bfr i j 0 a b d → a < b → b < sn S → d < sn S → ¬ (sT S a b d ≠ 0 ∧ V a + V b < V d)) (i + 1) (by rfl) (by omega) ⟨by omega, rfl, fun a b d x h1 => g1 a b d (by unfold bfr at x ⊢; omega) h1⟩ ?_
  rintro j N3 hj ⟨hij, rfl, g2⟩
  unfold X0_squeeze_L52
  refine w_le ⟨by omega, by omega⟩ ⟨by omega, by omega⟩ (fun he => ?_) (fun he => ?_)
  · unfold X0_squeeze_b131
    rw [z_1, zI_add]
    exact w_jinl (w_jcont ⟨by omega, rfl, rfl, fun a b d x h1 h2 => g2 a b d (by unfold bfr at x ⊢; omega) h1 h2⟩)
  rw [z_0]
  refine w_up (sn S) (fun k N4 => N4 = N3 ∧ ∀ a b d, bfr i j k a b d → a < b → b < sn S → d < sn S → ¬ (sT S a b d ≠ 0 ∧ V a + V b < V d)) 0 rfl (by omega) ⟨rfl, g2⟩ ?_
  rintro k N4 hk ⟨rfl, g3⟩
  unfold X0_squeeze_L61
  refine w_le ⟨by omega, by omega⟩ ⟨by omega, by omega⟩ (fun hf => ?_) (fun hf => ?_)
  · unfold X0_squeeze_b125
    rw [z_1, zI_add]
    exact w_jinl (w_jcont ⟨by omega, rfl, by omega, rfl, fun a b d x h1 h2 h3 => g3 a b d (by unfold bfr at x ⊢; omega) h1 h2 h3⟩)
  have hi' : i < sn S := by omega
  have hj' : j < sn S := by omega
  have hk' : k < sn S := by omega
  have q1 := hV i hi'
  have q2 := hV j hj'
  have q3 := hV k hk'
  have htb := hR.w.tb i j k
  have hgo : ¬ (sT S i j k ≠ 0 ∧ V i + V j < V k) → ∀ a b d, bfr i j (k + 1) a b d → a < b → b < sn S → d < sn S → ¬ (sT S a b d ≠ 0 ∧ V a + V b < V d) := fun hn a b d x h1 h2 h3 => by
    by_cases y : a = i ∧ b = j ∧ d = k
    · rw [y.1, y.2.1, y.2.2]; exact hn
    · exact g3 a b d (by unfold bfr at x ⊢; omega) h1 h2 h3
  refine w_Cf hR.cl rfl ?_
  refine w_tab hR.cl.w6 (by omega) (by omega) ?_
  refine w_Wk hR.cl.w6 (by omega) (by omega) (by omega) ?_
  rw [hR.w.t (by omega) (by omega) (by omega), z_0]
  refine w_eq ⟨by omega, by omega⟩ ⟨by omega, by omega⟩ (fun hg => ?_) (fun hg => ?_)
  · unfold X0_squeeze_b119
    rw [z_1, zI_add]
    exact w_jcont ⟨hk', rfl, rfl, hgo (fun x => x.1 hg)⟩
  refine get3 N4 (fun _ _ => rfl) i j k hi' hj' hk' ?_
  rw [zL_add]
  refine w_leL ⟨by omega, by omega⟩ ⟨by omega, by omega⟩ (fun hg2 => ?_) (fun hg2 => ?_)
  · unfold X0_squeeze_b119
    rw [z_1, zI_add]
    exact w_jcont ⟨hk', rfl, rfl, hgo (fun x => by omega)⟩
  · rw [if_pos ⟨i, j, k, hij, hj', hk', hg, hg2⟩] at h
    refine w_jinl (w_jinl (w_jinl ?_))
    unfold X0_squeeze_b112
    rw [show (9 : Int32) = zI 9 from rfl]
    exact c_is0 (v := 9) (S := S) (x := (stU S 0 9, 0)) hR h ⟨by omega, by omega⟩ (by omega) rfl
theorem m_squeeze {f : Int32 → JM Mem τ} {Q : τ → Mem → NM → Prop} (hR : MR M N m S) (ht : zR t) (h : mPost M N m (a_squeeze S t).1 (f (zI (a_squeeze S t).2)) Q) : GN M N (jb (jcall 7 m (f_X8_squeeze m (zI t))) f) Q := by
  refine w_Mc hR.ml ?_
  unfold f_X8_squeeze
  refine m_beg hR (fun M1 N1 hS hM hA => ?_)
  have hR1 := hR.be hS
  have hFm : MFm m M N M1 N1 := MFm.stw hS MFr.rf.tw
  have hpb := hA.pb
  have hn5 := hA.n5
  unfold a_squeeze at h
  have hno : ∀ why : Int, why ≠ 0 → wnS S t (sn S) (-20) 20 = why → GN M1 N1 (jb (jcall 7 m (f_X8_no m (zI why))) fun x => jrz x) (fun v M1 N1 => GN M1 N1 (f v) Q) := fun why h0 e => by
    rw [e, if_neg h0] at h
    exact m_no (x := (stU S 0 why, 0)) hM hR1 hFm h (by rw [stU_2])
  refine m_tray (S := stU S 0 0) hR1 ht (fun e => ?_) (fun e e2 => ?_) (fun e r e2 hT => ?_)
  · rw [z_1]
    exact hno 1 (by decide) (if_neg e)
  · rw [z_3]
    refine hno 3 (by decide) ?_
    unfold wnS
    rw [if_pos e, show S.2.2.1 t.toNat = none from e2]
    rfl
  have e2 : S.2.2.1 t.toNat = some r := e2
  have hlen := hT.2.1
  have ew : wnS S t (sn S) (-20) 20 = if r.2.1 < sn S then 4 else @ite _ (∀ i, i < sn S → -20 ≤ r.2.2 i ∧ r.2.2 i ≤ 20) (Classical.propDecidable _) 0 5 := by
    unfold wnS
    rw [if_pos e, e2]
    rfl
  have eV : trV S t = r.2.2 := by
    unfold trV
    rw [e2]
  have eW : wsq S t = (sp S, sn S, altT (sp S) (sn S) (sqT r.2.2 (sT S))) := by
    unfold wsq
    rw [eV]
  rw [eV, eW] at h
  obtain ⟨t, rfl⟩ : ∃ d : Nat, t = d := ⟨t.toNat, by omega⟩
  rw [show ((t : Int).toNat) = t from rfl] at hT
  refine w_Mf hM rfl ?_
  refine w_ald (hM.ka (o := 2) (d := (0, 4)) rfl) (by omega) (by omega) ?_
  rw [show ((t : Int).toNat) = t from rfl, hT.2.2.1]
  refine w_MI hM ?_
  rw [hA.ne]
  refine w_le ⟨by omega, by omega⟩ ⟨by omega, by omega⟩ (fun hc => ?_) (fun hc => ?_)
  rotate_left
  · rw [z_4]
    refine hno 4 (by decide) ?_
    rw [ew, if_pos (by omega)]
  rw [if_neg (by omega)] at ew
  generalize hVd : r.2.2 = V at *
  have h5 := hM.ka (o := 5) (d := (0, 3440)) rfl
  have h7 := hM.ka (o := 7) (d := (0, 127)) rfl
  have hfin : (∀ i, i < sn S → -20 ≤ V i ∧ V i ≤ 20) → GN M1 N1 (X8_squeeze_b102 m (zI t)) (fun v M1 N1 => GN M1 N1 (f v) Q) := fun hV => by
    rw [if_pos hV] at ew
    rw [if_pos ew] at h
    unfold X8_squeeze_b102
    refine w_Mf hM rfl (w_Mf hM rfl ?_)
    rw [z_0]
    refine w_mmove (B := 0) (D := 0) hM h5 (by omega) h7 (by omega) (Or.inl (by omega)) (fun N2 e3 f2 l2 => ?_)
    have hW2 : WC N2 (m + 7) 0 (sp S) (sn S) (sT S) := WC.mv hR1.wm e3
    let J : Nat → Nat → Nat → NM → Prop := fun i j k N3 => WC N3 (m + 7) 0 (sp S) (sn S) (altT (sp S) (sn S) (flP (sT S) (sqT V (sT S)) i j k)) ∧ (∀ b, b ≠ m + 7 → N3 b = N1 b) ∧ ∀ a b d, bfr i j k a b d → a < b → b < sn S → d < sn S → ¬ (sT S a b d ≠ 0 ∧ V a + V b < V d)
    have hnxt : ∀ i j k i' j' k' N3, (∀ a b c, a < b → b < sn S → c < sn S → (bfr i j k a b c ↔ bfr i' j' k' a b c)) → J i j k N3 → J i' j' k' N3 := fun i j k i' j' k' N3 hb ⟨k1, k2, k3⟩ => ⟨by
      rw [← flP_q hb]; exact k1, k2, fun a b d x h1 h2 h3 => k3 a b d ((hb a b d h1 h2 h3).mpr x) h1 h2 h3⟩
    have hJ0 : J 0 0 0 N2 := ⟨by rw [flP_0, altT_self hA.ok]; exact hW2, f2, fun a b d x => absurd x (by unfold bfr; omega)⟩
    refine w_up (sn S) (fun i N3 => J i 0 0 N3) 0 rfl (by omega) hJ0 ?_
    rintro i N3 hi hJ3
    have ma : ∀ N4 : NM, (∀ b, b ≠ m + 7 → N4 b = N1 b) → MA M1 N4 m (m + 5) 0 (sp S) (sn S) (sT S) := fun N4 g => hA.fr (g _ (by omega)) (g _ (by omega))
    unfold X8_squeeze_L118
    refine w_MI hM ?_
    rw [(ma N3 hJ3.2.1).ne]
    refine w_le ⟨by omega, by omega⟩ ⟨by omega, by omega⟩ (fun hd => ?_) (fun hd => ?_)
    · obtain rfl : i = sn S := by omega
      refine w_jinl ?_
      unfold X8_squeeze_b236
      have hw := hJ3.1
      rw [flP_1] at hw
      rw [if_neg (fun ⟨a, b, d, h1, h2, h3, h4⟩ => hJ3.2.2 a b d (by unfold bfr; omega) h1 h2 h3 h4)] at h
      have hF3 : MFr m N1 N3 := MFr.of (fun b hb => hJ3.2.1 b (by omega))
      exact m_takeOther hM hw (altT_ok hA.pr ⟨hA.n1, hn5⟩) (fun N4 hF4 hW4 => w_jp (m_finW (y := (sp S, sn S, altT (sp S) (sn S) (sqT V (sT S)))) hR hS (hF3.tw.tr hF4) hW4 h))
    rw [z_1, zI_add]
    refine w_jlet ?_
    refine w_up (sn S) (fun j N4 => i < j ∧ J i j 0 N4) (i + 1) (by rfl) (by omega) ⟨by omega, hnxt _ _ _ _ _ _ _ (fun a b c h1 h2 h3 => by unfold bfr; omega) hJ3⟩ ?_
    rintro j N4 hj ⟨hij, hJ4⟩
    unfold X8_squeeze_L130
    refine w_MI hM ?_
    rw [(ma N4 hJ4.2.1).ne]
    refine w_le ⟨by omega, by omega⟩ ⟨by omega, by omega⟩ (fun he => ?_) (fun he => ?_)
    · unfold X8_squeeze_b230
      rw [z_1, zI_add]
      exact w_jinl (w_jcont ⟨by omega, rfl, hnxt _ _ _ _ _ _ _ (fun a b c h1 h2 h3 => by unfold bfr; omega) hJ4⟩)
    rw [z_0]
    refine w_up (sn S) (fun k N5 => J i j k N5) 0 rfl (by omega) hJ4 ?_
    rintro k N5 hk hJ5
    have hA5 := ma N5 hJ5.2.1
    unfold X8_squeeze_L141
    refine w_MI hM ?_
    rw [hA5.ne]
    refine w_le ⟨by omega, by omega⟩ ⟨by omega, by omega⟩ (fun hf => ?_) (fun hf => ?_)
    · unfold X8_squeeze_b224
      rw [z_1, zI_add]
      exact w_jinl (w_jcont ⟨by omega, rfl, by omega, hnxt _ _ _ _ _ _ _ (fun a b c h1 h2 h3 => by unfold bfr; omega) hJ5⟩)
    have hi' : i < sn S := by omega
    have hj' : j < sn S := by omega
    have hk' : k < sn S := by omega
    have q1 := hV i hi'
    have q2 := hV j hj'
    have q3 := hV k hk'
    have htb := hA.tb i j k
    have hT5 : TrM M1 N5 m t r.2.1 V := ⟨hT.1, hT.2.1, by rw [hJ5.2.1 _ (by omega)]; exact hT.2.2.1, hT.2.2.2⟩
    have hgo : ¬ (sT S i j k ≠ 0 ∧ V i + V j < V k) → ∀ a b d, bfr i j (k + 1) a b d → a < b → b < sn S → d < sn S → ¬ (sT S a b d ≠ 0 ∧ V a + V b < V d) := fun hn a b d x h1 h2 h3 => by
      by_cases y : a = i ∧ b = j ∧ d = k
      · rw [y.1, y.2.1, y.2.2]; exact hn
      · exact hJ5.2.2 a b d (by unfold bfr at x ⊢; omega) h1 h2 h3
    refine w_number hM hT5 (z := (i : Int)) (by omega) ?_
    refine w_number hM hT5 (z := (j : Int)) (by omega) ?_
    refine w_number hM hT5 (z := (k : Int)) (by omega) ?_
    rw [show ((i : Int).toNat) = i from rfl, show ((j : Int).toNat) = j from rfl, show ((k : Int).toNat) = k from rfl, zL_add, zL_sub]
    refine w_jlet ?_
    refine w_mtable hM hA5 (by omega) (by omega) (by omega) ?_
    have hnext : ¬ (sT S i j k ≠ 0 ∧ V i + V j < V k) → GN M1 N5 (X8_squeeze_b198 m (zI t) (zI i) (zI j) (zI k) (zL (V i + V j - V k))) (LQ (LQ (LQ (fun v M1 N1 => GN M1 N1 (f v) Q) (KF M1 fun t_1 N1 => i < sn S ∧ t_1 = zI ((i : Int) + 1) ∧ J (i + 1) 0 0 N1)) (KF M1 fun t_1 N1 => j < sn S ∧ t_1 = zI ((j : Int) + 1) ∧ i < j + 1 ∧ J i (j + 1) 0 N1)) (KF M1 fun t_1 N1 => k < sn S ∧ t_1 = zI ((k : Int) + 1) ∧ J i j (k + 1) N1)) := fun hn => by
      unfold X8_squeeze_b198 X8_squeeze_b218
      rw [show (0 : Int64) = zL 0 from rfl]
      refine w_leL ⟨by omega, by omega⟩ ⟨by omega, by omega⟩ (fun hg => ?_) (fun hg => ?_)
      · rw [z_1, zI_add]
        refine w_jcont ⟨hk', rfl, ?_, hJ5.2.1, hgo hn⟩
        rw [← flP_no (show sqT V (sT S) i j k = sT S i j k from if_neg (by omega))]
        exact hJ5.1
      · refine w_Mf hM rfl ?_
        rw [z_0]
        refine w_mset (B := 0) h7 (by omega) hJ5.1 hA.pr hn5 hij hj' hk' (by omega) (fun N6 c6 f6 l6 => ?_)
        rw [z_1, zI_add]
        refine w_jcont ⟨hk', rfl, ?_, fun b hb => by rw [f6 b hb]; exact hJ5.2.1 b hb, hgo hn⟩
        rw [← flP_st, show sqT V (sT S) i j k = 0 from if_pos (by omega)]
        exact c6
    rw [z_0]
    refine w_eq ⟨by omega, by omega⟩ ⟨by omega, by omega⟩ (fun hg => hnext (fun x => x.1 hg)) (fun hg => ?_)
    rw [show (0 : Int64) = zL 0 from rfl]
    refine w_leL ⟨by omega, by omega⟩ ⟨by omega, by omega⟩ (fun hg2 => hnext (fun x => by omega)) (fun hg2 => ?_)
    rw [if_pos ⟨i, j, k, hij, hj', hk', hg, by omega⟩] at h
    refine w_jinl (w_jinl (w_jinl ?_))
    unfold X8_squeeze_b191
    rw [show (9 : Int32) = zI 9 from rfl]
    have hF5 : MFr m N1 N5 := MFr.of (fun b hb => hJ5.2.1 b (by omega))
    exact m_no (S := stU S 0 0) (x := (stU S 0 9, 0)) hM (hR1.sc hF5) (MFm.st hS hF5) h (by rw [stU_2])
  rw [z_0]
  refine w_up (sn S) (fun q N2 => N2 = N1 ∧ ∀ i, i < q → -20 ≤ V i ∧ V i ≤ 20) 0 rfl (by omega) ⟨rfl, fun i hi => absurd hi (by omega)⟩ ?_
  rintro q N2 hq ⟨rfl, hV⟩
  unfold X8_squeeze_L64
  refine w_MI hM ?_
  rw [hA.ne]
  refine w_le ⟨by omega, by omega⟩ ⟨by omega, by omega⟩ (fun hd => ?_) (fun hd => ?_)
  · exact w_jinl (hfin (fun i hi => hV i (by omega)))
  have hqn : q < sn S := by omega
  refine w_number hM hT (z := (q : Int)) (by omega) ?_
  rw [show (-20 : Int64) = zL (-20) from by decide, show (20 : Int64) = zL 20 from rfl, show ((q : Int).toNat) = q from rfl]
  refine w_isIn (hT.2.2.2 q (by omega)).2 ⟨by omega, by omega⟩ ⟨by omega, by omega⟩ ?_
  rw [z_0]
  by_cases x : -20 ≤ V q ∧ V q ≤ 20
  · rw [if_pos x]
    refine w_eq ⟨by omega, by omega⟩ ⟨by omega, by omega⟩ (fun x => absurd x (by decide)) (fun _ => ?_)
    rw [z_1, zI_add]
    refine w_jcont ⟨hqn, rfl, rfl, fun i hi => ?_⟩
    by_cases y : i = q
    · rw [y]; exact x
    · exact hV i (by omega)
  · rw [if_neg x]
    refine w_eq ⟨by omega, by omega⟩ ⟨by omega, by omega⟩ (fun _ => ?_) (fun x => absurd rfl x)
    unfold X8_squeeze_b90
    rw [z_5]
    refine w_jinl (hno 5 (by decide) ?_)
    rw [ew, if_neg (fun y => x (y q hqn))]
end OPS13
