/-! OPS, twelfth part: grow. -/
set_option maxRecDepth 100000
section OPS12
variable {α τ : Type} {M M' M1 M2 : Mem} {N N' N1 : NM} {c m i j k i' j' k' : Nat} {u v w s t : Int} {S S' : St} {p : Int} {n many : Nat} {T F G X : Nat → Nat → Nat → Int} {y : Wd}
theorem flP_e (h : ∀ a b c, a < b → b < n → c < n → (bfr i j k a b c ↔ bfr i' j' k' a b c) ∨ G a b c = T a b c) : altT p n (flP T G i j k) = altT p n (flP T G i' j' k') := by
  refine altT_q (fun a b c h1 h2 h3 => ?_)
  unfold flP
  rcases h a b c h1 h2 h3 with hh | hh
  · by_cases e2 : bfr i j k a b c
    · rw [if_pos e2, if_pos (hh.mp e2)]
    · rw [if_neg e2, if_neg (fun x => e2 (hh.mpr x))]
  · rw [hh]
    by_cases e2 : bfr i j k a b c
    · rw [if_pos e2]
      by_cases e3 : bfr i' j' k' a b c
      · rw [if_pos e3]
      · rw [if_neg e3]
    · rw [if_neg e2]
      by_cases e3 : bfr i' j' k' a b c
      · rw [if_pos e3]
      · rw [if_neg e3]
/-- a table that grows by a form -/
def grT (n : Nat) (T : Nat → Nat → Nat → Int) (X : Nat → Nat → Int) : Nat → Nat → Nat → Int := fun a b c => if c = n ∧ a < n ∧ b < n then X a b else T a b c
theorem grT_st {X : Nat → Nat → Int} (hi : i < n) (hj : j < n) : altT p (n + 1) (stT (flP T (grT n T X) i j 0) i j n (X i j)) = altT p (n + 1) (flP T (grT n T X) i (j + 1) 0) := by
  refine altT_q (fun a b c h1 h2 h3 => ?_)
  unfold stT
  by_cases e : a = i ∧ b = j ∧ c = n
  · obtain ⟨rfl, rfl, rfl⟩ := e
    rw [if_pos ⟨rfl, rfl, rfl⟩]
    unfold flP
    rw [if_pos (by unfold bfr; omega)]
    exact (if_pos ⟨rfl, hi, hj⟩).symm
  · rw [if_neg e]
    unfold flP
    by_cases e2 : bfr i j 0 a b c
    · rw [if_pos e2, if_pos (by unfold bfr at e2 ⊢; omega)]
    · rw [if_neg e2]
      by_cases e3 : bfr i (j + 1) 0 a b c
      · rw [if_pos e3]
        unfold grT
        rw [if_neg (fun x => e (by unfold bfr at e2 e3; omega))]
      · rw [if_neg e3]
theorem grT_row {X : Nat → Nat → Int} (hi : i < n) : altT p (n + 1) (flP T (grT n T X) i n 0) = altT p (n + 1) (flP T (grT n T X) (i + 1) 0 0) := by
  refine flP_e (fun a b c h1 h2 h3 => ?_)
  by_cases e : b = n
  · exact Or.inr (if_neg (fun x => by omega))
  · exact Or.inl (by unfold bfr; omega)
theorem grT_next {X : Nat → Nat → Int} : altT p (n + 1) (flP T (grT n T X) i 0 0) = altT p (n + 1) (flP T (grT n T X) i (i + 1) 0) := flP_q (fun a b c h1 h2 h3 => by unfold bfr; omega)
theorem grT_end {X : Nat → Nat → Int} : altT p (n + 1) (flP T (grT n T X) n 0 0) = altT p (n + 1) (grT n T X) := (flP_e (i' := n + 1) (j' := 0) (k' := 0) (fun a b c h1 h2 h3 => Or.inl (by unfold bfr; omega))).trans flP_1
def wgr (S : St) (t : Int) : Wd := (sp S, sn S + 1, altT (sp S) (sn S + 1) (grT (sn S) (sT S) (frm (sn S) (trV S t))))
noncomputable def a_grow (S : St) (t : Int) : St × Int := if (sn S : Int) = gst (sp S) then (stU S 0 7, -1) else if wnS S t (cps (sn S)) 0 (sp S - 1) = 0 then (@ite _ (ClF (sp S) (sn S) (sT S) (frm (sn S) (trV S t))) (Classical.propDecidable _) (stU (stW S (wgr S t)) 0 0, (sn S : Int) + 1) (stU S 0 9, -1)) else (stU S 0 (wnS S t (cps (sn S)) 0 (sp S - 1)), -1)
theorem frm_lt {V : Nat → Int} (hn5 : n ≤ 5) (hV : ∀ i, i < cps n → 0 ≤ V i ∧ V i ≤ p - 1) (hij : i < j) (hj : j < n) : frm n V i j = V (cpl n i j) ∧ 0 ≤ frm n V i j ∧ frm n V i j < p := by
  have e : frm n V i j = V (cpl n i j) := by
    unfold frm
    rw [if_neg (by omega), if_pos hij]
  have h2 := (cpl_lt n hn5 i j hij hj).2
  have h3 := hV (cpl n i j) (by rw [← cps_eq hn5] at h2; omega)
  rw [e]
  exact ⟨rfl, h3.1, by omega⟩
theorem c_grow {f : Int32 → JM Mem τ} {Q : τ → Mem → NM → Prop} (hR : CR M N c S) (hO : StOk S) (ht : zR t) (h : cPost M N c (a_grow S t).1 (f (zI (a_grow S t).2)) Q) : GN M N (jb (jcall 0 c (f_X0_grow c (zI t))) f) Q := by
  have hpb := hR.w.pb
  have hn5 : sn S ≤ 5 := hR.w.n5
  have hcl := cps_le hn5
  have hg := gst_le (p := sp S)
  have hOg : (sn S : Int) ≤ gst (sp S) := hO.1.1
  refine w_Cc hR.cl ?_
  unfold f_X0_grow
  refine w_Cf hR.cl rfl (w_Wp hR.cl.w6 ?_)
  refine w_Cf hR.cl rfl (w_Wp hR.cl.w6 ?_)
  rw [hR.w.ne, hR.w.pe]
  refine w_widest hR.w.pr ?_
  unfold a_grow at h
  refine w_eq ⟨by omega, by omega⟩ ⟨by omega, by omega⟩ (fun e => ?_) (fun e => ?_)
  · rw [if_pos e] at h
    rw [show (7 : Int32) = zI 7 from rfl]
    exact w_none hR.cl (w_jp (c_fin0 hR h))
  rw [if_neg e] at h
  refine c_couples hR ?_
  refine w_Cf hR.cl rfl (w_Wp hR.cl.w6 ?_)
  rw [hR.w.pe, z_0, z_1, zI_sub]
  refine c_wrongNumbers hR ht (by omega) ⟨by omega, by omega⟩ ⟨by omega, by omega⟩ ?_
  have hr := wnS_r (S := S) (t := t) (many := cps (sn S)) (least := 0) (great := sp S - 1)
  by_cases e0 : wnS S t (cps (sn S)) 0 (sp S - 1) = 0
  case neg =>
    rw [if_neg e0] at h
    exact w_le ⟨by omega, by omega⟩ ⟨by omega, by omega⟩ (fun x => absurd x (by omega)) (fun _ => w_none hR.cl (w_jp (c_fin0 hR h)))
  rw [if_pos e0] at h
  obtain ⟨ht4, r, e1, e2, e3, e4⟩ := wnS_0 e0
  have e0' := e0
  rw [e0]
  refine w_le ⟨by omega, by omega⟩ ⟨by omega, by omega⟩ (fun _ => ?_) (fun x => absurd x (by decide))
  refine c_closed hR e0' (fun N1 v hv g1 f1 => ?_)
  have hF1 : CFr c N N1 := CFr.of (fun b hb => f1 b (by omega))
  rcases hv with ⟨rfl, hv⟩ | ⟨rfl, hv⟩
  rotate_left
  · rw [if_neg hv] at h
    rw [show (9 : Int32) = zI 9 from rfl]
    exact w_eq ⟨by omega, by omega⟩ ⟨by omega, by omega⟩ (fun _ => w_none hR.cl (w_jp (c_fin hR (Bg.rf hR.cl) hF1 h))) (fun x => absurd rfl x)
  rw [if_pos hv] at h
  refine w_eq ⟨by omega, by omega⟩ ⟨by omega, by omega⟩ (fun x => absurd x (by decide)) (fun _ => ?_)
  have hR1 := hR.sc (Bg.rf hR.cl) hF1
  refine w_Cf hR.cl rfl (w_Wp hR.cl.w6 ?_)
  refine w_Cf hR.cl rfl (w_Wp hR.cl.w6 ?_)
  rw [hR1.w.ne, zI_add]
  refine w_putI hR.cl.w6.1 ?_
  have eo : ∀ b, b ≠ c + 6 → up2 N1 (c + 6) 2 ((sn S : Int) + 1) b = N1 b := fun b hb => upb hb
  have hD2 : WD (up2 N1 (c + 6) 2 ((sn S : Int) + 1)) (c + 6) (sp S) (sn S + 1) (sT S) := ⟨by rw [upk (by omega)]; exact hR1.w.pe, by rw [upv]; omega, fun i j k hi hj hk => by rw [eo _ (by omega)]; exact hR1.w.t hi hj hk, hR.w.ok.more (by omega)⟩
  have g2 : ∀ i j, i < sn S → j < sn S → up2 N1 (c + 6) 2 ((sn S : Int) + 1) (c + 217 + 1 + i) j = frm (sn S) (trV S t) i j % sp S := fun i j hi hj => by rw [eo _ (by omega)]; exact g1 i j hi hj
  have f2 : ∀ b, b < c + 6 ∨ c + 38 ≤ b → up2 N1 (c + 6) 2 ((sn S : Int) + 1) b = N1 b := fun b hb => eo b (by omega)
  generalize up2 N1 (c + 6) 2 ((sn S : Int) + 1) = N2 at hD2 g2 f2
  have hok := hD2.ok
  have hJ0 : WD N2 (c + 6) (sp S) (sn S + 1) (altT (sp S) (sn S + 1) (flP (sT S) (grT (sn S) (sT S) (frm (sn S) (trV S t))) 0 0 0)) := by
    rw [flP_0, altT_self hok]
    exact hD2
  refine w_up (sn S) (fun i N3 => WD N3 (c + 6) (sp S) (sn S + 1) (altT (sp S) (sn S + 1) (flP (sT S) (grT (sn S) (sT S) (frm (sn S) (trV S t))) i 0 0)) ∧ (∀ b, b < c + 6 ∨ c + 38 ≤ b → N3 b = N2 b)) 0 rfl (by omega) ⟨hJ0, fun _ _ => rfl⟩ ?_
  rintro i N3 hi ⟨d3, f3⟩
  unfold X0_grow_L100
  refine w_le ⟨by omega, by omega⟩ ⟨by omega, by omega⟩ (fun hc => ?_) (fun hc => ?_)
  · obtain rfl : i = sn S := by omega
    refine w_jinl ?_
    unfold X0_grow_b152
    refine w_Cf hR.cl rfl (w_Wp hR.cl.w6 ?_)
    rw [d3.ne, Int.natCast_add]
    rw [grT_end] at d3
    refine w_gives hR.cl (w_jp (c_finW (y := wgr S t) hR (Bg.rf hR.cl) (hF1.tw.tr (CFw.of (fun b hb => by rw [f3 b (by omega), f2 b (by omega)]))) d3 h))
  rw [z_1, zI_add]
  refine w_jlet ?_
  refine w_up (sn S) (fun j N4 => i < j ∧ WD N4 (c + 6) (sp S) (sn S + 1) (altT (sp S) (sn S + 1) (flP (sT S) (grT (sn S) (sT S) (frm (sn S) (trV S t))) i j 0)) ∧ (∀ b, b < c + 6 ∨ c + 38 ≤ b → N4 b = N2 b)) (i + 1) (by rfl) (by omega) ⟨by omega, by rw [← grT_next]; exact d3, f3⟩ ?_
  rintro j N4 hj ⟨hij, d4, f4⟩
  unfold X0_grow_L112
  refine w_le ⟨by omega, by omega⟩ ⟨by omega, by omega⟩ (fun hd => ?_) (fun hd => ?_)
  · obtain rfl : j = sn S := by omega
    unfold X0_grow_b146
    rw [z_1, zI_add]
    exact w_jinl (w_jcont ⟨by omega, rfl, by rw [← grT_row hij]; exact d4, f4⟩)
  have hjn : j < sn S := by omega
  have hfr := frm_lt (p := sp S) (V := trV S t) hn5 (fun q hq => by rw [e2]; exact e4 q hq) hij hjn
  refine w_Cf hR.cl rfl ?_
  refine w_Cf hR.cl rfl ?_
  refine w_R1 (hR.cl.ka (o := 217) (d := (5, 5)) rfl) hR.cl.gr (by omega) (by omega) ?_
  refine w_ald (hR.cl.gr i (by omega)).2 (by omega) (by omega) ?_
  rw [show ((j : Int).toNat) = j from rfl, f4 _ (by omega), g2 i j (by omega) hjn, Int.emod_eq_of_lt hfr.2.1 hfr.2.2]
  refine w_cset hR.cl.w6 d4 hij (by omega) (by omega) (by omega) (fun N5 d5 f5 => ?_)
  rw [z_1, zI_add]
  exact w_jcont ⟨hjn, rfl, by omega, by rw [← grT_st (by omega) hjn]; exact d5, fun b hb => by rw [f5 b (by omega), f4 b hb]⟩
theorem m_grow {f : Int32 → JM Mem τ} {Q : τ → Mem → NM → Prop} (hR : MR M N m S) (hO : StOk S) (ht : zR t) (h : mPost M N m (a_grow S t).1 (f (zI (a_grow S t).2)) Q) : GN M N (jb (jcall 7 m (f_X8_grow m (zI t))) f) Q := by
  refine w_Mc hR.ml ?_
  unfold f_X8_grow
  refine m_beg hR (fun M1 N1 hS hM hA => ?_)
  have hR1 := hR.be hS
  have hpb := hA.pb
  have hn5 := hA.n5
  have hg := gst_le (p := sp S)
  have hOg : (sn S : Int) ≤ gst (sp S) := hO.1.1
  have hr := wnS_r (S := S) (t := t) (many := cps (sn S)) (least := 0) (great := sp S - 1)
  refine w_MI hM (w_MI hM ?_)
  rw [hA.ne, hA.pe]
  refine w_greatest ⟨by omega, by omega⟩ ?_
  unfold a_grow at h
  refine w_eq ⟨by omega, by omega⟩ ⟨by omega, by omega⟩ (fun e => ?_) (fun e => ?_)
  · rw [if_pos e] at h
    rw [show (7 : Int32) = zI 7 from rfl]
    exact w_refuse hM (w_jp (m_fin hR hS MFr.rf h))
  rw [if_neg e] at h
  have hno : ∀ why : Int, why ≠ 0 → wnS S t (cps (sn S)) 0 (sp S - 1) = why → GN M1 N1 (jb (jcall 7 m (f_X8_refuse m (zI why))) fun v => jp v) (fun v M1 N1 => GN M1 N1 (f v) Q) := fun why h0 e => by
    rw [e, if_neg h0] at h
    exact w_refuse hM (w_jp (m_fin hR hS MFr.rf h))
  refine m_tray (S := stU S 0 0) hR1 ht (fun e => ?_) (fun e e2 => ?_) (fun e4 r e2 hT => ?_)
  · rw [z_1]
    exact hno 1 (by decide) (if_neg e)
  · rw [z_3]
    refine hno 3 (by decide) ?_
    unfold wnS
    rw [if_pos e, show S.2.2.1 t.toNat = none from e2]
    rfl
  have e2 : S.2.2.1 t.toNat = some r := e2
  refine m_wform (S := S) hM hA e4 e2 hT ?_
  rw [z_0]
  by_cases e0 : wnS S t (cps (sn S)) 0 (sp S - 1) = 0
  case neg => exact w_le ⟨by omega, by omega⟩ ⟨by omega, by omega⟩ (fun x => absurd x (by omega)) (fun _ => hno _ e0 rfl)
  rw [if_pos e0] at h
  obtain ⟨_, r', e1', e2', e3', e4'⟩ := wnS_0 e0
  rw [e2] at e1'
  obtain rfl := Option.some.inj e1'
  rw [e0]
  refine w_le ⟨by omega, by omega⟩ ⟨by omega, by omega⟩ (fun _ => ?_) (fun x => absurd x (by decide))
  obtain ⟨t, rfl⟩ : ∃ d : Nat, t = d := ⟨t.toNat, by omega⟩
  rw [show ((t : Int).toNat) = t from rfl] at hT
  refine w_misClosed hM hA hT (by rw [← cps_eq hn5]; omega) (fun i _ hi => by have := e4' i (by rw [← cps_eq hn5] at hi; omega); exact ⟨this.1, by omega⟩) (fun v hv => ?_)
  rcases hv with ⟨rfl, hv⟩ | ⟨rfl, hv⟩
  rotate_left
  · rw [e2', if_neg hv] at h
    rw [show (9 : Int32) = zI 9 from rfl]
    exact w_eq ⟨by omega, by omega⟩ ⟨by omega, by omega⟩ (fun _ => w_refuse hM (w_jp (m_fin hR hS MFr.rf h))) (fun x => absurd rfl x)
  rw [e2', if_pos hv] at h
  have e2s : wgr S t = (sp S, sn S + 1, altT (sp S) (sn S + 1) (grT (sn S) (sT S) (frm (sn S) r.2.2))) := by
    unfold wgr
    rw [e2']
  rw [e2s] at h
  refine w_eq ⟨by omega, by omega⟩ ⟨by omega, by omega⟩ (fun x => absurd x (by decide)) (fun _ => ?_)
  refine w_MI hM ?_
  rw [hA.ne]
  have h5 := hM.ka (o := 5) (d := (0, 3440)) rfl
  have hok := hA.ok.more (n2 := 1) (by omega)
  have hJ0 : WC N1 (m + 5) 0 (sp S) (sn S) (altT (sp S) (sn S + 1) (flP (sT S) (grT (sn S) (sT S) (frm (sn S) r.2.2)) 0 0 0)) := by
    rw [flP_0, altT_self hok]
    exact hR1.wm
  refine w_up (sn S) (fun i N3 => WC N3 (m + 5) 0 (sp S) (sn S) (altT (sp S) (sn S + 1) (flP (sT S) (grT (sn S) (sT S) (frm (sn S) r.2.2)) i 0 0)) ∧ (∀ b, b ≠ m + 5 → N3 b = N1 b) ∧ ∀ l, 127 ≤ l → N3 (m + 5) l = N1 (m + 5) l) 0 rfl (by omega) ⟨hJ0, fun _ _ => rfl, fun _ _ => rfl⟩ ?_
  rintro i N3 hi ⟨d3, f3, l3⟩
  unfold X8_grow_L103
  refine w_le ⟨by omega, by omega⟩ ⟨by omega, by omega⟩ (fun hc => ?_) (fun hc => ?_)
  · obtain rfl : i = sn S := by omega
    refine w_jinl ?_
    unfold X8_grow_b160
    refine w_Mf hM rfl ?_
    rw [z_1, zI_add]
    refine w_ast h5 (by omega) (by omega) (w_jp ?_)
    rw [grT_end] at d3
    obtain ⟨c1, c2, c3⟩ := d3
    refine m_finW hR hS (MFw.of (fun b h1 _ => by rw [upb h1, f3 b h1]) (fun l hl => by rw [upk (show l ≠ (1 : Int).toNat by have : (1 : Int).toNat = 1 := rfl; omega), l3 l hl])) ⟨⟨?_, ?_, fun a b d h1 h2 h3 => ?_⟩, altT_ok hA.pr ⟨show 1 ≤ sn S + 1 by omega, show sn S + 1 ≤ 5 by omega⟩⟩ h
    · rw [upk (show 0 ≠ (1 : Int).toNat by decide)]; exact c1
    · show up2 N3 (m + 5) 1 ((sn S : Int) + 1) (m + 5) 1 = ((sn S + 1 : Nat) : Int)
      rw [upv]; omega
    · rw [upk (show 0 + 2 + 25 * a + 5 * b + d ≠ (1 : Int).toNat by have : (1 : Int).toNat = 1 := rfl; omega)]
      exact c3 a b d h1 h2 h3
  rw [z_1, zI_add]
  refine w_jlet ?_
  refine w_up (sn S) (fun j N4 => i < j ∧ WC N4 (m + 5) 0 (sp S) (sn S) (altT (sp S) (sn S + 1) (flP (sT S) (grT (sn S) (sT S) (frm (sn S) r.2.2)) i j 0)) ∧ (∀ b, b ≠ m + 5 → N4 b = N1 b) ∧ ∀ l, 127 ≤ l → N4 (m + 5) l = N1 (m + 5) l) (i + 1) (by rfl) (by omega) ⟨by omega, by rw [← grT_next]; exact d3, f3, l3⟩ ?_
  rintro j N4 hj ⟨hij, d4, f4, l4⟩
  unfold X8_grow_L115
  refine w_le ⟨by omega, by omega⟩ ⟨by omega, by omega⟩ (fun hd => ?_) (fun hd => ?_)
  · obtain rfl : j = sn S := by omega
    unfold X8_grow_b154
    rw [z_1, zI_add]
    exact w_jinl (w_jcont ⟨by omega, rfl, by rw [← grT_row hij]; exact d4, f4, l4⟩)
  have hjn : j < sn S := by omega
  have hfr := frm_lt (p := sp S) (V := r.2.2) hn5 e4' hij hjn
  have hcp := (cpl_lt (sn S) hn5 i j hij hjn).2
  rw [← cps_eq hn5] at hcp
  refine w_Mf hM rfl ?_
  refine w_coupleOf hM (by rw [f4 m (by omega)]; exact hA.ne) hn5 hij hjn ?_
  have hT4 : TrM M1 N4 m t r.2.1 r.2.2 := ⟨hT.1, hT.2.1, by rw [f4 _ (by omega)]; exact hT.2.2.1, hT.2.2.2⟩
  refine w_number hM hT4 (z := (cpl (sn S) i j : Nat)) (by omega) ?_
  rw [zI_long, show (((cpl (sn S) i j : Nat) : Int).toNat) = cpl (sn S) i j from rfl, ← hfr.1, z_0]
  refine w_mset (n := sn S + 1) (B := 0) h5 (by omega) d4 hA.pr (by omega) hij (by omega) (by omega) (by omega) (fun N5 d5 f5 l5 => ?_)
  rw [z_1, zI_add]
  exact w_jcont ⟨hjn, rfl, by omega, by rw [← grT_st (by omega) hjn]; exact d5, fun b hb => by rw [f5 b hb, f4 b hb], fun l hl => by rw [l5 l (by omega), l4 l hl]⟩
end OPS12
