/-! OPS, fourth part: derivations, parts, maps. -/
set_option maxRecDepth 100000
section OPS4
variable {α τ : Type} {M M' M1 M2 : Mem} {N N' N1 : NM} {c m i : Nat} {u v w k s : Int} {S S' : St} {p : Int} {n : Nat} {T F : Nat → Nat → Nat → Int}
noncomputable def n_der (S : St) : Int := (sn S * sn S : Nat) - (dm (sp S) (sn S * sn S) (DeS (sp S) (sn S) (sT S)) : Nat)
noncomputable def a_der (S : St) (v : Int) : Int × Int := if 0 ≤ v ∧ v ≤ 2 then (if v = 0 then n_der S else if v = 1 then sn S - a_centre S else n_der S - (sn S - a_centre S), 0) else (-1, 5)
theorem CR.sc2 {M2 : Mem} (h : CR M N c S) (hB : Bg c M M2) (hF : CFr c N N') : CR M2 N' c S := h.sc hB hF
theorem c_derivations {f : Int32 → JM Mem τ} {Q : τ → Mem → NM → Prop} (hR : CR M N c S) (hv : zR v) (h : cPost M N c (stU S 0 (a_der S v).2) (f (zI (a_der S v).1)) Q) : GN M N (jb (jcall 0 c (f_X0_derivations c (zI v))) f) Q := by
  refine w_Cc hR.cl ?_
  unfold f_X0_derivations
  have hbad : ¬ (0 ≤ v ∧ v ≤ 2) → GN M N (X0_derivations_b9 c) (fun v M1 N1 => GN M1 N1 (f v) Q) := fun e => by
    unfold X0_derivations_b9
    rw [z_5]
    exact c_bad (f := fun v => jp v) hR (fun M' N' a b => w_jp (h M' N' a b)) (if_neg e)
  rw [z_0, z_2]
  refine w_lt hv ⟨by omega, by omega⟩ (fun e => hbad (by omega)) (fun e0 => ?_)
  refine w_le hv ⟨by omega, by omega⟩ (fun e1 => ?_) (fun e => hbad (by omega))
  rw [show a_der S v = _ from if_pos ⟨e0, e1⟩] at h
  refine w_Cf hR.cl rfl ?_
  refine w_Wp hR.cl.w6 ?_
  rw [hR.w.ne]
  refine w_Cf hR.cl rfl ?_
  refine c_centreOf hR (fun M1 N1 hB g => ?_)
  rw [zI_sub]
  refine w_jlet ?_
  have hR1 := hR.sc hB g
  rw [z_1]
  refine w_eq hv ⟨by omega, by omega⟩ (fun e => ?_) (fun e => ?_)
  · subst e
    unfold X0_derivations_b61
    exact w_gives hR1.cl (w_jp (c_fin hR hB g h))
  refine w_Cf hR1.cl rfl ?_
  refine w_derivationsOf hR1.cl hR1.cl.w6 hR1.w (by omega) (fun M2 N2 hB2 g2 => ?_)
  refine w_eq hv ⟨by omega, by omega⟩ (fun e2 => ?_) (fun e2 => ?_)
  · subst e2
    unfold X0_derivations_b60 X0_derivations_b61
    rw [zI_sub]
    exact w_gives (hR1.cl.bg hB2) (w_jp (c_fin hR (hB.tr hB2) (g.tr (CFr.rw g2)) h))
  · obtain rfl : v = 0 := by omega
    unfold X0_derivations_b60 X0_derivations_b61
    rw [zI_sub, Int.sub_zero]
    exact w_gives (hR1.cl.bg hB2) (w_jp (c_fin hR (hB.tr hB2) (g.tr (CFr.rw g2)) h))
theorem m_derivations {f : Int32 → JM Mem τ} {Q : τ → Mem → NM → Prop} (hR : MR M N m S) (hv : zR v) (h : mPost M N m (stU S 0 (a_der S v).2) (f (zI (a_der S v).1)) Q) : GN M N (jb (jcall 7 m (f_X8_derivations m (zI v))) f) Q := by
  refine w_Mc hR.ml ?_
  unfold f_X8_derivations
  refine m_beg hR (fun M1 N1 hS hM hA => ?_)
  rw [zL_int hv, show (0 : Int64) = zL 0 from rfl, show (2 : Int64) = zL 2 from rfl]
  refine w_isIn (zRL_of hv) ⟨by omega, by omega⟩ ⟨by omega, by omega⟩ ?_
  rw [z_0]
  by_cases e : 0 ≤ v ∧ v ≤ 2
  case neg =>
    rw [if_neg e]
    refine w_eq ⟨by omega, by omega⟩ ⟨by omega, by omega⟩ (fun _ => ?_) (fun x => absurd rfl x)
    rw [z_5]
    exact m_bad (f := fun v => jp v) hR hS MFr.rf (fun M' N' a b => w_jp (h M' N' a b)) (if_neg e)
  rw [if_pos e]
  refine w_eq ⟨by omega, by omega⟩ ⟨by omega, by omega⟩ (fun x => absurd x (by omega)) (fun _ => ?_)
  rw [show a_der S v = _ from if_pos e] at h
  refine w_derivationSize hM hA (fun N2 g2 => ?_)
  have hA2 := g2.ma hA
  refine w_MI hM ?_
  rw [hA2.ne]
  refine w_centreSize hM hA2 (fun N3 g3 g3' => ?_)
  have hF : MFr m N1 N3 := g2.mf.tr ⟨fun b hb => g3 b (by omega) (by omega) (by omega), fun k hk => g3' k (by omega)⟩
  have h := m_fin0 hR hS hF h
  rw [zI_sub, z_1]
  refine w_jlet ?_
  refine w_eq hv ⟨by omega, by omega⟩ (fun e => ?_) (fun e => ?_)
  · subst e
    exact w_jp h
  refine w_eq hv ⟨by omega, by omega⟩ (fun e2 => ?_) (fun e2 => ?_)
  · subst e2
    exact w_jp h
  · obtain rfl : v = 2 := by omega
    rw [zI_sub]
    exact w_jp h
noncomputable def a_parts (S : St) (u v : Int) : Int × Int := if (0 ≤ u ∧ u ≤ sn S) ∧ 0 ≤ v ∧ v ≤ 3 then (CSn (sp S) (sn S) (sT S) u.toNat v.toNat, 0) else (-1, 5)
theorem c_parts {f : Int32 → JM Mem τ} {Q : τ → Mem → NM → Prop} (hR : CR M N c S) (hu : zR u) (hv : zR v) (h : cPost M N c (stU S 0 (a_parts S u v).2) (f (zI (a_parts S u v).1)) Q) : GN M N (jb (jcall 0 c (f_X0_parts c (zI u) (zI v))) f) Q := by
  have hn5 : sn S ≤ 5 := hR.w.n5
  refine w_Cc hR.cl ?_
  unfold f_X0_parts
  have hbad : ¬ ((0 ≤ u ∧ u ≤ sn S) ∧ 0 ≤ v ∧ v ≤ 3) → GN M N (X0_parts_b43 c) (fun v M1 N1 => GN M1 N1 (f v) Q) := fun e => by
    unfold X0_parts_b43
    rw [z_5]
    exact c_bad (f := fun v => jp v) hR (fun M' N' a b => w_jp (h M' N' a b)) (if_neg e)
  refine w_Cf hR.cl rfl ?_
  refine w_Wp hR.cl.w6 ?_
  rw [hR.w.ne, zL_int hu, zL_int ⟨by omega, by omega⟩, show (0 : Int64) = zL 0 from rfl]
  refine w_isFrom (zRL_of hu) ⟨by omega, by omega⟩ ⟨by omega, by omega⟩ ?_
  rw [z_0]
  by_cases e : 0 ≤ u ∧ u ≤ sn S
  case neg =>
    rw [if_neg e]
    exact w_eq ⟨by omega, by omega⟩ ⟨by omega, by omega⟩ (fun _ => hbad (fun x => e x.1)) (fun x => absurd rfl x)
  rw [if_pos e]
  refine w_eq ⟨by omega, by omega⟩ ⟨by omega, by omega⟩ (fun x => absurd x (by omega)) (fun _ => ?_)
  refine w_lt hv ⟨by omega, by omega⟩ (fun e0 => hbad (by omega)) (fun e0 => ?_)
  rw [z_3]
  refine w_lt ⟨by omega, by omega⟩ hv (fun e1 => hbad (by omega)) (fun e1 => ?_)
  rw [show a_parts S u v = _ from if_pos ⟨e, e0, e1⟩] at h
  obtain ⟨a, rfl⟩ : ∃ d : Nat, u = d := ⟨u.toNat, by omega⟩
  obtain ⟨b, rfl⟩ : ∃ d : Nat, v = d := ⟨v.toNat, by omega⟩
  refine w_Cf hR.cl rfl ?_
  exact w_count hR.cl hR.cl.w6 hR.w (by omega) (by omega) (by omega) (fun M1 N1 hB g => w_gives (hR.cl.bg hB) (w_jp (c_fin hR hB (CFr.rows g) h)))
theorem m_parts {f : Int32 → JM Mem τ} {Q : τ → Mem → NM → Prop} (hR : MR M N m S) (hu : zR u) (hv : zR v) (h : mPost M N m (stU S 0 (a_parts S u v).2) (f (zI (a_parts S u v).1)) Q) : GN M N (jb (jcall 7 m (f_X8_parts m (zI u) (zI v))) f) Q := by
  refine w_Mc hR.ml ?_
  unfold f_X8_parts
  refine m_beg hR (fun M1 N1 hS hM hA => ?_)
  have hn5 := hA.n5
  have hbad : ¬ ((0 ≤ u ∧ u ≤ sn S) ∧ 0 ≤ v ∧ v ≤ 3) → GN M1 N1 (X8_parts_b49 m) (fun v M1 N1 => GN M1 N1 (f v) Q) := fun e => by
    unfold X8_parts_b49
    rw [z_5]
    exact m_bad (f := fun v => jp v) hR hS MFr.rf (fun M' N' a b => w_jp (h M' N' a b)) (if_neg e)
  refine w_MI hM ?_
  rw [hA.ne, zL_int hu, zL_int ⟨by omega, by omega⟩, zL_int hv, show (0 : Int64) = zL 0 from rfl, show (3 : Int64) = zL 3 from rfl]
  refine w_isIn (zRL_of hu) ⟨by omega, by omega⟩ ⟨by omega, by omega⟩ ?_
  rw [z_0]
  by_cases e : 0 ≤ u ∧ u ≤ sn S
  case neg =>
    rw [if_neg e]
    exact w_eq ⟨by omega, by omega⟩ ⟨by omega, by omega⟩ (fun _ => hbad (fun x => e x.1)) (fun x => absurd rfl x)
  rw [if_pos e]
  refine w_eq ⟨by omega, by omega⟩ ⟨by omega, by omega⟩ (fun x => absurd x (by omega)) (fun _ => ?_)
  refine w_isIn (zRL_of hv) ⟨by omega, by omega⟩ ⟨by omega, by omega⟩ ?_
  by_cases e2 : 0 ≤ v ∧ v ≤ 3
  case neg =>
    rw [if_neg e2]
    exact w_eq ⟨by omega, by omega⟩ ⟨by omega, by omega⟩ (fun _ => hbad (fun x => e2 x.2)) (fun x => absurd rfl x)
  rw [if_pos e2]
  refine w_eq ⟨by omega, by omega⟩ ⟨by omega, by omega⟩ (fun x => absurd x (by omega)) (fun _ => ?_)
  rw [show a_parts S u v = _ from if_pos ⟨e, e2⟩] at h
  obtain ⟨a, rfl⟩ : ∃ d : Nat, u = d := ⟨u.toNat, by omega⟩
  refine w_countSpans hM hA (by omega) (by omega) (fun N2 g => ?_)
  rw [show wkd v = v.toNat from if_neg (by omega)]
  exact w_jp (m_fin0 hR hS g.mf h)
-- maps
theorem stU_c {x y : Int} : stU (stU (stU S 0 u) 5 x) 0 y = stU (stU S 5 x) 0 y := by
  unfold stU
  congr
  funext k
  show (if k = 0 then y else if k = 5 then x else if k = 0 then u else S.2.2.2.2 k) = (if k = 0 then y else if k = 5 then x else S.2.2.2.2 k)
  split
  · rfl
  · split <;> rfl
theorem MR.bg (h : MR M N m S) (hB : BgM m M M') : MR M' N m S := h.ag (h.1.bg hB) (fun _ _ _ => rfl) rfl (fun _ _ => rfl) ⟨by rw [hB.l], by rw [hB.l], hB.l⟩
theorem FmF.mf (h : FmF N m N') : MFr m N N' := ⟨fun b hb => h.1 b (by omega) (by omega) (by omega) (by omega) (by omega) (by omega) (by omega), fun k hk => h.2 k (by omega) (by omega) (by omega) (by omega) (by omega)⟩
theorem MpF.cf (h : MpF N c N') : CFr c N N' := ⟨fun b hb => h.1 b (by omega) (by omega) (by omega) (by omega) (by omega), fun k a1 a2 a3 _ _ _ => h.2 k a1 a2 a3⟩
/-- what maps were found: the answer, the status -/
noncomputable def a_mp (st : Sk) (one : Prop) : Int × Int := @ite _ (st.2.2 = 0 ∨ one ∧ st.2.1 = 1) (Classical.propDecidable _) ((st.2.1 : Int), 0) (-1, 9)
end OPS4
