/-! OPS, fourteenth part: spans of trays. -/
set_option maxRecDepth 100000
section OPS14
variable {α τ : Type} {M M' M1 M2 : Mem} {N N' N1 : NM} {c m i j k : Nat} {u v w s t z : Int} {S S' : St} {p : Int} {n many : Nat} {T F G : Nat → Nat → Nat → Int} {y : Wd} {V : Nat → Int} {good : Prop}
noncomputable def wrS (S : St) (t z : Int) (good : Prop) : Int := if 0 ≤ t ∧ t < 4 then (match S.2.2.1 t.toNat with | none => 3 | some r => @ite _ good (Classical.propDecidable _) (wrV (sp S) (sn S) z.toNat (some r.2)) 5) else 1
theorem wrS_r : 0 ≤ wrS S t z good ∧ wrS S t z good ≤ 5 := by
  unfold wrS
  by_cases e : 0 ≤ t ∧ t < 4
  · rw [if_pos e]
    cases e2 : S.2.2.1 t.toNat with
    | none => exact ⟨by show (0 : Int) ≤ 3; decide, by show (3 : Int) ≤ 5; decide⟩
    | some r =>
      show 0 ≤ @ite Int good (Classical.propDecidable _) (wrV (sp S) (sn S) z.toNat (some r.2)) 5 ∧ @ite Int good (Classical.propDecidable _) (wrV (sp S) (sn S) z.toNat (some r.2)) 5 ≤ 5
      by_cases g : good
      · rw [if_pos g]
        show 0 ≤ (if r.2.1 < z.toNat then (4 : Int) else @ite _ (∀ i, i < z.toNat → 0 ≤ r.2.2 i ∧ r.2.2 i < sp S ^ sn S) (Classical.propDecidable _) 0 5) ∧ (if r.2.1 < z.toNat then (4 : Int) else @ite _ (∀ i, i < z.toNat → 0 ≤ r.2.2 i ∧ r.2.2 i < sp S ^ sn S) (Classical.propDecidable _) 0 5) ≤ 5
        by_cases c1 : r.2.1 < z.toNat
        · rw [if_pos c1]; exact ⟨by decide, by decide⟩
        rw [if_neg c1]
        by_cases c2 : ∀ i, i < z.toNat → 0 ≤ r.2.2 i ∧ r.2.2 i < sp S ^ sn S
        · rw [if_pos c2]; exact ⟨by decide, by decide⟩
        · rw [if_neg c2]; exact ⟨by decide, by decide⟩
      · rw [if_neg g]; exact ⟨by decide, by decide⟩
  · rw [if_neg e]; exact ⟨by decide, by decide⟩
theorem wrS_0 (h : wrS S t z good = 0) : (0 ≤ t ∧ t < 4) ∧ good ∧ ∃ r, S.2.2.1 t.toNat = some r ∧ trV S t = r.2.2 ∧ z.toNat ≤ r.2.1 ∧ ∀ i, i < z.toNat → 0 ≤ r.2.2 i ∧ r.2.2 i < sp S ^ sn S := by
  unfold wrS at h
  by_cases e : 0 ≤ t ∧ t < 4
  · rw [if_pos e] at h
    refine ⟨e, ?_⟩
    unfold trV
    cases e2 : S.2.2.1 t.toNat with
    | none => rw [e2] at h; exact absurd h (by show ¬ (3 : Int) = 0; decide)
    | some r =>
      rw [e2] at h
      have h : @ite Int good (Classical.propDecidable _) (if r.2.1 < z.toNat then (4 : Int) else @ite _ (∀ i, i < z.toNat → 0 ≤ r.2.2 i ∧ r.2.2 i < sp S ^ sn S) (Classical.propDecidable _) 0 5) 5 = 0 := h
      by_cases g : good
      · rw [if_pos g] at h
        by_cases c1 : r.2.1 < z.toNat
        · rw [if_pos c1] at h; exact absurd h (by decide)
        rw [if_neg c1] at h
        by_cases c2 : ∀ i, i < z.toNat → 0 ≤ r.2.2 i ∧ r.2.2 i < sp S ^ sn S
        · exact ⟨g, r, rfl, rfl, by omega, c2⟩
        · rw [if_neg c2] at h; exact absurd h (by decide)
      · rw [if_neg g] at h; exact absurd h (by decide)
  · rw [if_neg e] at h; exact absurd h (by decide)
theorem c_wrongRow {f : Int32 → JM Mem τ} {Q : τ → Mem → NM → Prop} {ok : Int} (hR : CR M N c S) (ht : zR t) (hok : ok = 1 ∧ good ∨ ok = 0 ∧ ¬ good) (hz : good → 0 ≤ z ∧ z ≤ 1000)
    (h : GN M N (f (zI (wrS S t z good))) Q) : GN M N (jb (jcall 0 c (f_X0_wrongRow c (zI t) (zI z) (zI ok))) f) Q := by
  unfold wrS at h
  by_cases e : 0 ≤ t ∧ t < 4
  case neg =>
    rw [if_neg e] at h
    refine w_Cc hR.cl ?_
    unfold f_X0_wrongRow
    refine w_isTray ht ?_
    rw [if_neg e, z_0, z_1]
    exact w_eq ⟨by omega, by omega⟩ ⟨by omega, by omega⟩ (fun _ => w_jp h) (fun x => absurd rfl x)
  rw [if_pos e] at h
  obtain ⟨t, rfl⟩ : ∃ d : Nat, t = d := ⟨t.toNat, by omega⟩
  rw [show ((t : Int).toNat) = t from rfl] at h
  rcases hok with ⟨rfl, g⟩ | ⟨rfl, g⟩
  · have hz := hz g
    obtain ⟨z, rfl⟩ : ∃ d : Nat, z = d := ⟨z.toNat, by omega⟩
    refine w_wrongRow hR.cl (by omega) hR.w (hR.2.2.2.1.1 t (by omega)).tro (by omega) (Or.inr rfl) ?_
    cases e2 : S.2.2.1 t with
    | none =>
      rw [e2] at h
      exact h
    | some r =>
      rw [e2] at h
      have h : GN M N (f (zI (@ite Int good (Classical.propDecidable _) (wrV (sp S) (sn S) z (some r.2)) 5))) Q := h
      rw [if_pos g] at h
      rw [if_neg (show ¬ (trO (some r) = none) from fun x => nomatch x), if_neg (by decide)]
      exact h
  · refine w_Cc hR.cl ?_
    unfold f_X0_wrongRow
    refine w_isTray ht ?_
    rw [if_pos e, z_0]
    refine w_eq ⟨by omega, by omega⟩ ⟨by omega, by omega⟩ (fun x => absurd x (by decide)) (fun _ => ?_)
    refine w_Cf hR.cl rfl ?_
    obtain ⟨r1, r2⟩ := hR.cl.tr (show t < 4 by omega)
    refine w_aldA (hR.cl.ka (o := 1) (d := (9, 4)) rfl) (by omega) (by omega) r1 ?_
    refine w_getO r2 ?_
    have hty := hR.2.2.2.1.1 t (by omega)
    cases e2 : S.2.2.1 t with
    | none =>
      rw [e2] at h hty
      rw [show mR M (c + 258 + t) 0 = none from hty.1, if_pos rfl, z_3]
      exact w_jp h
    | some r =>
      rw [e2] at h hty
      have h : GN M N (f (zI (@ite Int good (Classical.propDecidable _) (wrV (sp S) (sn S) z.toNat (some r.2)) 5))) Q := h
      rw [if_neg g] at h
      obtain ⟨a, ha, _⟩ := hty.2.2.2.1
      rw [ha, if_neg (fun x => nomatch x), z_5]
      exact w_eq ⟨by omega, by omega⟩ ⟨by omega, by omega⟩ (fun _ => w_jp h) (fun x => absurd rfl x)
noncomputable def a_span (S : St) (t z what : Int) : Int × Int := if wrS S t z ((0 ≤ z ∧ z ≤ 20) ∧ 0 ≤ what ∧ what ≤ 2) = 0 then ((dm (sp S) (sn S) (Mdv (sp S) (sn S) (sT S) what.toNat (Vsp (sp S) (sn S) z.toNat (trV S t))) : Nat), 0) else (-1, wrS S t z ((0 ≤ z ∧ z ≤ 20) ∧ 0 ≤ what ∧ what ≤ 2))
theorem c_span {f : Int32 → JM Mem τ} {Q : τ → Mem → NM → Prop} {what : Int} (hR : CR M N c S) (ht : zR t) (hz : zR z) (hw : zR what) (h : cPost M N c (stU S 0 (a_span S t z what).2) (f (zI (a_span S t z what).1)) Q) : GN M N (jb (jcall 0 c (f_X0_span c (zI t) (zI z) (zI what))) f) Q := by
  have hn5 : sn S ≤ 5 := hR.w.n5
  refine w_Cc hR.cl ?_
  unfold f_X0_span
  have key : ∀ ok : Int, (ok = 1 ∧ ((0 ≤ z ∧ z ≤ 20) ∧ 0 ≤ what ∧ what ≤ 2) ∨ ok = 0 ∧ ¬ ((0 ≤ z ∧ z ≤ 20) ∧ 0 ≤ what ∧ what ≤ 2)) → GN M N (X0_span_b29 c (zI t) (zI z) (zI what) c (zI t) (zI z) (zI ok)) (fun v M1 N1 => GN M1 N1 (f v) Q) := fun ok hok => by
    unfold X0_span_b29
    refine c_wrongRow hR ht hok (fun g => by omega) ?_
    have hr := wrS_r (S := S) (t := t) (z := z) (good := (0 ≤ z ∧ z ≤ 20) ∧ 0 ≤ what ∧ what ≤ 2)
    rw [z_0]
    unfold a_span at h
    by_cases e : wrS S t z ((0 ≤ z ∧ z ≤ 20) ∧ 0 ≤ what ∧ what ≤ 2) = 0
    case neg =>
      rw [if_neg e] at h
      exact w_le ⟨by omega, by omega⟩ ⟨by omega, by omega⟩ (fun x => absurd x (by omega)) (fun _ => w_none hR.cl (w_jp (c_fin0 hR h)))
    rw [if_pos e] at h
    rw [e]
    refine w_le ⟨by omega, by omega⟩ ⟨by omega, by omega⟩ (fun _ => ?_) (fun x => absurd x (by decide))
    obtain ⟨ht4, g, r, e1, e2, e3, e4⟩ := wrS_0 e
    obtain ⟨hTr, hra⟩ := hR.tr ht4 e1
    rw [e2] at h
    obtain ⟨t, rfl⟩ : ∃ d : Nat, t = d := ⟨t.toNat, by omega⟩
    obtain ⟨z, rfl⟩ : ∃ d : Nat, z = d := ⟨z.toNat, by omega⟩
    obtain ⟨what, rfl⟩ : ∃ d : Nat, what = d := ⟨what.toNat, by omega⟩
    rw [show ((z : Int).toNat) = z from rfl] at h e3 e4
    rw [show ((what : Int).toNat) = what from rfl] at h
    refine w_Cf hR.cl rfl ?_
    refine w_spans hR.cl (by omega) hR.w hR.cl.s77 (by omega) hTr hra e3 e4 (fun N1 m1 R1 ld1 s1 f1 => ?_)
    have hF1 : CFr c N N1 := CFr.of (fun b hb => f1 b (by omega) (by omega))
    have hR1 := hR.sc (Bg.rf hR.cl) hF1
    have hend : ∀ (N2 : NM) m2 R2 ld2, CFr c N N2 → SpD N2 (c + 77) (sp S) (sn S) m2 R2 ld2 (Mdv (sp S) (sn S) (sT S) what (Vsp (sp S) (sn S) z r.2.2)) → GN M N2 (X0_span_b82 c) (fun v M1 N1 => GN M1 N1 (f v) Q) := fun N2 m2 R2 ld2 hF2 s2 => by
      unfold X0_span_b82
      rw [s2.dm hR.w.pr] at h
      refine w_Cf hR.cl rfl ?_
      refine w_getI hR.cl.s77.1 ?_
      rw [s2.me]
      exact w_gives hR.cl (w_jp (c_fin hR (Bg.rf hR.cl) hF2 h))
    refine w_le ⟨by omega, by omega⟩ ⟨by omega, by omega⟩ (fun e5 => ?_) (fun e5 => ?_)
    · refine hend N1 m1 R1 ld1 hF1 ?_
      rw [show Mdv (sp S) (sn S) (sT S) what (Vsp (sp S) (sn S) z r.2.2) = Vsp (sp S) (sn S) z r.2.2 from if_pos (by omega)]
      exact s1
    · have hcl : ∀ wa : Int, (wa = 0 ∨ wa = 1) → ((wa = 1) = (what = 2)) → GN M N1 (X0_span_b79 c c (c + 6) (c + 77) (zI wa)) (fun v M1 N1 => GN M1 N1 (f v) Q) := fun wa hwa hwe => by
        unfold X0_span_b79
        refine w_closes hR.cl hR.cl.w6 hR1.w (by omega) hR.cl.s77 s1 hwa (by omega) (fun N2 m2 R2 ld2 s2 f2 => ?_)
        refine hend N2 m2 R2 ld2 (hF1.tr (CFr.of (fun b hb => f2 b (by omega) (by omega) (by omega)))) ?_
        rw [show Mdv (sp S) (sn S) (sT S) what (Vsp (sp S) (sn S) z r.2.2) = Cl (sp S) (sn S) (sT S) (what = 2) (Vsp (sp S) (sn S) z r.2.2) from if_neg (by omega), ← hwe]
        exact s2
      refine w_Cf hR.cl rfl (w_Cf hR.cl rfl ?_)
      rw [z_2, z_1]
      refine w_eq ⟨by omega, by omega⟩ ⟨by omega, by omega⟩ (fun e6 => ?_) (fun e6 => ?_)
      · exact hcl 1 (Or.inr rfl) (propext ⟨fun _ => by omega, fun _ => rfl⟩)
      · exact hcl 0 (Or.inl rfl) (propext ⟨fun x => absurd x (by decide), fun x => absurd x (by omega)⟩)
  rw [zL_int hz, show (0 : Int64) = zL 0 from rfl, show (20 : Int64) = zL 20 from rfl]
  refine w_isFrom (zRL_of hz) ⟨by omega, by omega⟩ ⟨by omega, by omega⟩ ?_
  unfold X0_span_b28
  rw [z_0, z_1, z_2]
  by_cases e : 0 ≤ z ∧ z ≤ 20
  · rw [if_pos e]
    refine w_eq ⟨by omega, by omega⟩ ⟨by omega, by omega⟩ (fun x => absurd x (by decide)) (fun _ => ?_)
    refine w_lt hw ⟨by omega, by omega⟩ (fun e1 => key 0 (Or.inr ⟨rfl, fun x => by omega⟩)) (fun e1 => ?_)
    exact w_lt ⟨by omega, by omega⟩ hw (fun e2 => key 0 (Or.inr ⟨rfl, fun x => by omega⟩)) (fun e2 => key 1 (Or.inl ⟨rfl, e, by omega, by omega⟩))
  · rw [if_neg e]
    exact w_eq ⟨by omega, by omega⟩ ⟨by omega, by omega⟩ (fun _ => key 0 (Or.inr ⟨rfl, fun x => e x.1⟩)) (fun x => absurd rfl x)
theorem m_span {f : Int32 → JM Mem τ} {Q : τ → Mem → NM → Prop} {what : Int} (hR : MR M N m S) (ht : zR t) (hz : zR z) (hw : zR what) (h : mPost M N m (stU S 0 (a_span S t z what).2) (f (zI (a_span S t z what).1)) Q) : GN M N (jb (jcall 7 m (f_X8_span m (zI t) (zI z) (zI what))) f) Q := by
  refine w_Mc hR.ml ?_
  unfold f_X8_span
  refine m_beg hR (fun M1 N1 hS hM hA => ?_)
  have hR1 := hR.be hS
  have hr := wrS_r (S := S) (t := t) (z := z) (good := (0 ≤ z ∧ z ≤ 20) ∧ 0 ≤ what ∧ what ≤ 2)
  unfold a_span at h
  have hno : ∀ why : Int, why ≠ 0 → wrS S t z ((0 ≤ z ∧ z ≤ 20) ∧ 0 ≤ what ∧ what ≤ 2) = why → GN M1 N1 (jb (jcall 7 m (f_X8_refuse m (zI why))) fun v => jp v) (fun v M1 N1 => GN M1 N1 (f v) Q) := fun why h0 e => by
    rw [e, if_neg h0] at h
    exact w_refuse hM (w_jp (m_fin hR hS MFr.rf h))
  refine m_tray (S := stU S 0 0) hR1 ht (fun e => ?_) (fun e e2 => ?_) (fun e4 r e2 hT => ?_)
  · rw [z_1]
    exact hno 1 (by decide) (if_neg e)
  · rw [z_3]
    refine hno 3 (by decide) ?_
    unfold wrS
    rw [if_pos e, show S.2.2.1 t.toNat = none from e2]
  have e2 : S.2.2.1 t.toNat = some r := e2
  have ew : wrS S t z ((0 ≤ z ∧ z ≤ 20) ∧ 0 ≤ what ∧ what ≤ 2) = @ite Int ((0 ≤ z ∧ z ≤ 20) ∧ 0 ≤ what ∧ what ≤ 2) (Classical.propDecidable _) (wrV (sp S) (sn S) z.toNat (some r.2)) 5 := by
    unfold wrS
    rw [if_pos e4, e2]
  have h5 : ¬ ((0 ≤ z ∧ z ≤ 20) ∧ 0 ≤ what ∧ what ≤ 2) → GN M1 N1 (X8_span_b67 m) (fun v M1 N1 => GN M1 N1 (f v) Q) := fun x => by
    unfold X8_span_b67
    rw [z_5]
    exact hno 5 (by decide) (by rw [ew, if_neg x])
  rw [zL_int hz, zL_int hw, show (0 : Int64) = zL 0 from rfl, show (20 : Int64) = zL 20 from rfl, show (2 : Int64) = zL 2 from rfl]
  refine w_isIn (zRL_of hz) ⟨by omega, by omega⟩ ⟨by omega, by omega⟩ ?_
  rw [z_0]
  by_cases g1 : 0 ≤ z ∧ z ≤ 20
  case neg =>
    rw [if_neg g1]
    exact w_eq ⟨by omega, by omega⟩ ⟨by omega, by omega⟩ (fun _ => h5 (fun x => g1 x.1)) (fun x => absurd rfl x)
  rw [if_pos g1]
  refine w_eq ⟨by omega, by omega⟩ ⟨by omega, by omega⟩ (fun x => absurd x (by decide)) (fun _ => ?_)
  refine w_isIn (zRL_of hw) ⟨by omega, by omega⟩ ⟨by omega, by omega⟩ ?_
  by_cases g2 : 0 ≤ what ∧ what ≤ 2
  case neg =>
    rw [if_neg g2]
    exact w_eq ⟨by omega, by omega⟩ ⟨by omega, by omega⟩ (fun _ => h5 (fun x => g2 x.2)) (fun x => absurd rfl x)
  rw [if_pos g2]
  refine w_eq ⟨by omega, by omega⟩ ⟨by omega, by omega⟩ (fun x => absurd x (by decide)) (fun _ => ?_)
  rw [if_pos ⟨g1, g2⟩] at ew
  obtain ⟨t, rfl⟩ : ∃ d : Nat, t = d := ⟨t.toNat, by omega⟩
  obtain ⟨z, rfl⟩ : ∃ d : Nat, z = d := ⟨z.toNat, by omega⟩
  obtain ⟨what, rfl⟩ : ∃ d : Nat, what = d := ⟨what.toNat, by omega⟩
  rw [show ((t : Int).toNat) = t from rfl] at hT
  refine w_wrongVectors hM hA hT (by omega) ?_
  rw [show wrV (sp S) (sn S) z (some (r.2.1, r.2.2)) = wrS S t z ((0 ≤ (z : Int) ∧ (z : Int) ≤ 20) ∧ 0 ≤ (what : Int) ∧ (what : Int) ≤ 2) from ew.symm]
  by_cases e0 : wrS S t z ((0 ≤ (z : Int) ∧ (z : Int) ≤ 20) ∧ 0 ≤ (what : Int) ∧ (what : Int) ≤ 2) = 0
  case neg => exact w_le ⟨by omega, by omega⟩ ⟨by omega, by omega⟩ (fun x => absurd x (by omega)) (fun _ => hno _ e0 rfl)
  rw [if_pos e0] at h
  rw [e0]
  refine w_le ⟨by omega, by omega⟩ ⟨by omega, by omega⟩ (fun _ => ?_) (fun x => absurd x (by decide))
  obtain ⟨_, _, r', e1', e2', e3', e4'⟩ := wrS_0 e0
  have e1' : S.2.2.1 t = some r' := e1'
  have e2 : S.2.2.1 t = some r := e2
  rw [e2] at e1'
  obtain rfl := Option.some.inj e1'
  rw [e2', show ((z : Int).toNat) = z from rfl, show ((what : Int).toNat) = what from rfl] at h
  refine w_made hM hA hT e3' e4' (by omega) (fun N2 q R ld s2 f2 => ?_)
  rw [s2.ech.dm hA.pr] at h
  exact w_jp (m_fin0 hR hS (MFr.of (fun b hb => f2 b (by omega) (by omega) (by omega))) h)
end OPS14
