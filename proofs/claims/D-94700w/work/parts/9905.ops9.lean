/-! OPS, ninth part: trays that are read; sum, cocycle. -/
set_option maxRecDepth 100000
section OPS9
variable {α τ : Type} {M M' M1 M2 : Mem} {N N' N1 : NM} {c m i : Nat} {u v w k s t : Int} {S S' : St} {p : Int} {n many : Nat} {T F : Nat → Nat → Nat → Int} {y : Wd}
def trO (x : Option Try) : Option (Nat × (Nat → Int)) := x.map (fun r => r.2)
theorem TyC.tro {e t : Nat} {x : Option Try} (h : TyC M N e t x) : TrO M N t (trO x) := by
  cases x with
  | none => exact h.1
  | some r => exact h.2.2.2.1
noncomputable def wnS (S : St) (t : Int) (many : Nat) (least great : Int) : Int := if 0 ≤ t ∧ t < 4 then wnN many least great (trO (S.2.2.1 t.toNat)) else 1
def trV (S : St) (t : Int) : Nat → Int := match S.2.2.1 t.toNat with | some r => r.2.2 | none => fun _ => 0
theorem c_wrongNumbers {f : Int32 → JM Mem τ} {Q : τ → Mem → NM → Prop} {least great : Int} (hR : CR M N c S) (ht : zR t) (hm : many ≤ 1000) (hl : zR least) (hg : zR great)
    (h : GN M N (f (zI (wnS S t many least great))) Q) : GN M N (jb (jcall 0 c (f_X0_wrongNumbers c (zI t) (zI many) (zI least) (zI great))) f) Q := by
  unfold wnS at h
  by_cases e : 0 ≤ t ∧ t < 4
  · rw [if_pos e] at h
    obtain ⟨t, rfl⟩ : ∃ d : Nat, t = d := ⟨t.toNat, by omega⟩
    exact w_wrongNumbers hR.cl (by omega) (hR.2.2.2.1.1 t (by omega)).tro hm hl hg h
  · rw [if_neg e] at h
    refine w_Cc hR.cl ?_
    unfold f_X0_wrongNumbers
    refine w_isTray ht ?_
    rw [if_neg e, z_0, z_1]
    exact w_eq ⟨by omega, by omega⟩ ⟨by omega, by omega⟩ (fun _ => w_jp h) (fun x => absurd rfl x)
theorem wnN_r {least great : Int} {o : Option (Nat × (Nat → Int))} : 0 ≤ wnN many least great o ∧ wnN many least great o ≤ 5 := by
  cases o with
  | none => exact ⟨by show (0 : Int) ≤ 3; decide, by show (3 : Int) ≤ 5; decide⟩
  | some r =>
    have e : wnN many least great (some r) = (if r.1 < many then (4 : Int) else @ite _ (∀ i, i < many → least ≤ r.2 i ∧ r.2 i ≤ great) (Classical.propDecidable _) 0 5) := rfl
    rw [e]
    by_cases c1 : r.1 < many
    · rw [if_pos c1]; exact ⟨by decide, by decide⟩
    rw [if_neg c1]
    by_cases c2 : ∀ i, i < many → least ≤ r.2 i ∧ r.2 i ≤ great
    · rw [if_pos c2]; exact ⟨by decide, by decide⟩
    · rw [if_neg c2]; exact ⟨by decide, by decide⟩
theorem wnS_r {least great : Int} : 0 ≤ wnS S t many least great ∧ wnS S t many least great ≤ 5 := by
  unfold wnS
  split
  · exact wnN_r
  · exact ⟨by decide, by decide⟩
/-- a tray whose numbers are right -/
theorem wnS_0 {least great : Int} (h : wnS S t many least great = 0) : (0 ≤ t ∧ t < 4) ∧ ∃ r, S.2.2.1 t.toNat = some r ∧ trV S t = r.2.2 ∧ many ≤ r.2.1 ∧ ∀ i, i < many → least ≤ r.2.2 i ∧ r.2.2 i ≤ great := by
  unfold wnS at h
  by_cases e : 0 ≤ t ∧ t < 4
  · rw [if_pos e] at h
    refine ⟨e, ?_⟩
    unfold trV
    cases e2 : S.2.2.1 t.toNat with
    | none =>
      rw [e2] at h
      exact absurd h (by show ¬ ((3 : Int) = 0); decide)
    | some r =>
      rw [e2] at h
      have h : (if r.2.1 < many then (4 : Int) else @ite _ (∀ i, i < many → least ≤ r.2.2 i ∧ r.2.2 i ≤ great) (Classical.propDecidable _) 0 5) = 0 := h
      by_cases c1 : r.2.1 < many
      · rw [if_pos c1] at h; exact absurd h (by decide)
      rw [if_neg c1] at h
      by_cases c2 : ∀ i, i < many → least ≤ r.2.2 i ∧ r.2.2 i ≤ great
      · exact ⟨r, rfl, rfl, by omega, c2⟩
      · rw [if_neg c2] at h; exact absurd h (by decide)
  · rw [if_neg e] at h
    exact absurd h (by decide)
theorem CR.tr (hR : CR M N c S) (ht : 0 ≤ t ∧ t < 4) {r : Try} (e : S.2.2.1 t.toNat = some r) : TrR M N (c + 258 + t.toNat) r.2.1 r.2.2 ∧ ∀ a, mR M (c + 258 + t.toNat) 0 = some a → a < c ∨ c + 1567 ≤ a := by
  have := hR.2.2.2.1.1 t.toNat (by omega)
  rw [e] at this
  exact ⟨this.2.2.2.1, fun a ha => Or.inr (by have := this.2.2.2.2 a ha; omega)⟩
theorem c_couples {f : Int32 → JM Mem τ} {Q : τ → Mem → NM → Prop} (hR : CR M N c S) (h : GN M N (f (zI (cps (sn S)))) Q) : GN M N (jb (jcall 0 c (f_X0_couples c)) f) Q := by
  have hn5 : sn S ≤ 5 := hR.w.n5
  have hn1 : 1 ≤ sn S := hR.w.n1
  refine w_Cc hR.cl ?_
  unfold f_X0_couples
  refine w_Cf hR.cl rfl (w_Wp hR.cl.w6 ?_)
  refine w_Cf hR.cl rfl (w_Wp hR.cl.w6 ?_)
  rw [hR.w.ne, z_1, z_2, zI_sub, zI_mul]
  have hb := mul_bd (x := (sn S : Int)) (y := (sn S : Int) - 1) (a := 5) (b := 5) (by omega) (by omega)
  refine w_divP ⟨hb.1, by omega, by omega⟩ ⟨by omega, by omega, by omega⟩ ?_
  rw [cps_eq hn5] at h
  exact w_jp h
/-- the model looks at a tray -/
theorem m_tray {α : Type} {bad1 bad3 good : JM Mem α} {Q : α → Mem → NM → Prop} (hR : MR M N m S) (ht : zR t) (h1 : ¬ (0 ≤ t ∧ t < 4) → GN M N bad1 Q) (h3 : 0 ≤ t ∧ t < 4 → S.2.2.1 t.toNat = none → GN M N bad3 Q)
    (h : 0 ≤ t ∧ t < 4 → ∀ r, S.2.2.1 t.toNat = some r → TrM M N m t.toNat r.2.1 r.2.2 → GN M N good Q) :
    GN M N (jb (jcall 7 m (f_X8_isTray m (zI t))) fun v1 => if v1 = 0 then bad1 else jb (jgetA 7 5 m) fun v2 => jb (jald mI 0 v2 (zI t)) fun v3 => if 0 ≤ v3 then good else bad3) Q := by
  refine w_Mc hR.ml ?_
  unfold f_X8_isTray
  rw [zL_int ht, show (0 : Int64) = zL 0 from rfl, show (3 : Int64) = zL 3 from rfl]
  refine w_isIn (zRL_of ht) ⟨by omega, by omega⟩ ⟨by omega, by omega⟩ ?_
  rw [z_0]
  by_cases e : 0 ≤ t ∧ t < 4
  case neg =>
    rw [if_neg (show ¬ (0 ≤ t ∧ t ≤ 3) by omega)]
    exact w_rze (Or.inl rfl) (w_eq ⟨by omega, by omega⟩ ⟨by omega, by omega⟩ (fun _ => h1 e) (fun x => absurd rfl x))
  rw [if_pos (show 0 ≤ t ∧ t ≤ 3 by omega)]
  refine w_rze (Or.inr rfl) (w_eq ⟨by omega, by omega⟩ ⟨by omega, by omega⟩ (fun x => absurd x (by decide)) (fun _ => ?_))
  refine w_Mf hR.ml rfl ?_
  refine w_ald (hR.ml.ka (o := 2) (d := (0, 4)) rfl) (by omega) (by omega) ?_
  have hty := hR.2.2.2.1 t.toNat (by omega)
  cases e2 : S.2.2.1 t.toNat with
  | none =>
    rw [e2] at hty
    rw [show N (m + 2) t.toNat = -1 from hty]
    exact w_le ⟨by omega, by omega⟩ ⟨by omega, by omega⟩ (fun x => absurd x (by decide)) (fun _ => h3 e e2)
  | some r =>
    rw [e2] at hty
    have hl := hty.2.2.1
    rw [hty.2.2.2.1]
    exact w_le ⟨by omega, by omega⟩ ⟨by omega, by omega⟩ (fun _ => h e r e2 hty.2) (fun x => absurd x (by omega))
noncomputable def a_cocycle (S : St) (t : Int) : Int × Int := if wnS S t (cps (sn S)) 0 (sp S - 1) = 0 then (@ite _ (ClF (sp S) (sn S) (sT S) (frm (sn S) (trV S t))) (Classical.propDecidable _) 1 0, 0) else (-1, wnS S t (cps (sn S)) 0 (sp S - 1))
theorem cps_le (hn : n ≤ 5) : cps n ≤ 10 := by
  have := cps_eq hn
  have := mul_bd (x := (n : Int)) (y := (n : Int)) (a := 5) (b := 5) (by omega) (by omega)
  unfold cps
  rcases (show n = 0 ∨ n = 1 ∨ n = 2 ∨ n = 3 ∨ n = 4 ∨ n = 5 by omega) with rfl | rfl | rfl | rfl | rfl | rfl <;> decide
/-- a form is read and looked at -/
theorem c_closed {f : Int32 → JM Mem τ} {Q : τ → Mem → NM → Prop} (hR : CR M N c S) (h0 : wnS S t (cps (sn S)) 0 (sp S - 1) = 0)
    (h : ∀ N' v, (v = 1 ∧ ClF (sp S) (sn S) (sT S) (frm (sn S) (trV S t)) ∨ v = 0 ∧ ¬ ClF (sp S) (sn S) (sT S) (frm (sn S) (trV S t))) → (∀ i j, i < sn S → j < sn S → N' (c + 217 + 1 + i) j = frm (sn S) (trV S t) i j % sp S) → (∀ b, b < c + 218 ∨ c + 223 ≤ b → N' b = N b) → GN M N' (f (zI v)) Q) :
    GN M N (jb (jcall 0 c (f_X0_reads c (zI t))) fun _ => jb (jcall 0 c (f_X0_isClosed c)) f) Q := by
  obtain ⟨ht, r, e1, e2, e3, e4⟩ := wnS_0 h0
  have hpb := hR.w.pb
  have hn5 : sn S ≤ 5 := hR.w.n5
  obtain ⟨hTr, hra⟩ := hR.tr ht e1
  obtain ⟨t, rfl⟩ : ∃ d : Nat, t = d := ⟨t.toNat, by omega⟩
  rw [e2] at h
  refine w_reads hR.cl (by omega) hR.w hTr hra (by rw [← cps_eq hn5]; omega) (fun i _ hi => by have := e4 i (by rw [← cps_eq hn5] at hi; omega); exact ⟨this.1, by omega⟩) (fun N1 g1 g2 => ?_)
  have hD1 : WD N1 (c + 6) (sp S) (sn S) (sT S) := hR.w.fr (fun b h1 h2 => g2 b (by omega))
  refine w_isClosed (G := fun i j => frm (sn S) r.2.2 i j % sp S) hR.cl hD1 g1 (fun i j => ⟨Int.emod_nonneg _ (by omega), Int.emod_lt_of_pos _ (by omega)⟩) (fun v hv => h N1 v ?_ g1 g2)
  rcases hv with ⟨rfl, hv⟩ | ⟨rfl, hv⟩
  · exact Or.inl ⟨rfl, ClF_q (fun i j _ _ => Cg.mod _ _) hv⟩
  · exact Or.inr ⟨rfl, fun x => hv (ClF_q (fun i j _ _ => (Cg.mod _ _).sy) x)⟩
theorem c_cocycle {f : Int32 → JM Mem τ} {Q : τ → Mem → NM → Prop} (hR : CR M N c S) (ht : zR t) (h : cPost M N c (stU S 0 (a_cocycle S t).2) (f (zI (a_cocycle S t).1)) Q) : GN M N (jb (jcall 0 c (f_X0_cocycle c (zI t))) f) Q := by
  have hpb := hR.w.pb
  have hn5 : sn S ≤ 5 := hR.w.n5
  have hcl := cps_le hn5
  refine w_Cc hR.cl ?_
  unfold f_X0_cocycle
  refine c_couples hR ?_
  refine w_Cf hR.cl rfl (w_Wp hR.cl.w6 ?_)
  rw [hR.w.pe, z_0, z_1, zI_sub]
  refine c_wrongNumbers hR ht (by omega) ⟨by omega, by omega⟩ ⟨by omega, by omega⟩ ?_
  have hr := wnS_r (S := S) (t := t) (many := cps (sn S)) (least := 0) (great := sp S - 1)
  unfold a_cocycle at h
  by_cases e : wnS S t (cps (sn S)) 0 (sp S - 1) = 0
  · rw [if_pos e] at h
    rw [e]
    refine w_le ⟨by omega, by omega⟩ ⟨by omega, by omega⟩ (fun _ => ?_) (fun x => absurd x (by decide))
    refine c_closed hR e (fun N1 v hv _ g => ?_)
    unfold X0_cocycle_b48
    have hF : CFr c N N1 := CFr.of (fun b hb => g b (by omega))
    rcases hv with ⟨rfl, hv⟩ | ⟨rfl, hv⟩
    · rw [if_pos hv] at h
      exact w_eq ⟨by omega, by omega⟩ ⟨by omega, by omega⟩ (fun x => absurd x (by decide)) (fun _ => w_gives hR.cl (w_jp (c_fin hR (Bg.rf hR.cl) hF h)))
    · rw [if_neg hv] at h
      exact w_eq ⟨by omega, by omega⟩ ⟨by omega, by omega⟩ (fun _ => w_gives hR.cl (w_jp (c_fin hR (Bg.rf hR.cl) hF h))) (fun x => absurd rfl x)
  · rw [if_neg e] at h
    exact w_le ⟨by omega, by omega⟩ ⟨by omega, by omega⟩ (fun x => absurd x (by omega)) (fun _ => w_none hR.cl (w_jp (c_fin0 hR h)))
/-- the model's look at a form -/
theorem m_wform {f : Int32 → JM Mem τ} {Q : τ → Mem → NM → Prop} {r : Try} (hM : ML M m) (hA : MA M N m (m + 5) 0 p n T) (ht : 0 ≤ t ∧ t < 4) (e : S.2.2.1 t.toNat = some r) (hT : TrM M N m t.toNat r.2.1 r.2.2) (h : GN M N (f (zI (wnS S t (cps n) 0 (p - 1)))) Q) : GN M N (jb (jcall 7 m (f_X8_wrongForm m (zI t))) f) Q := by
  unfold wnS at h
  rw [if_pos ht, e] at h
  obtain ⟨t, rfl⟩ : ∃ d : Nat, t = d := ⟨t.toNat, by omega⟩
  exact w_wrongForm hM hA hT h
theorem m_cocycle {f : Int32 → JM Mem τ} {Q : τ → Mem → NM → Prop} (hR : MR M N m S) (ht : zR t) (h : mPost M N m (stU S 0 (a_cocycle S t).2) (f (zI (a_cocycle S t).1)) Q) : GN M N (jb (jcall 7 m (f_X8_cocycle m (zI t))) f) Q := by
  refine w_Mc hR.ml ?_
  unfold f_X8_cocycle
  refine m_beg hR (fun M1 N1 hS hM hA => ?_)
  have hpb := hA.pb
  have hn5 := hA.n5
  have hr := wnS_r (S := S) (t := t) (many := cps (sn S)) (least := 0) (great := sp S - 1)
  refine m_tray (S := stU S 0 0) (hR.be hS) ht (fun e => ?_) (fun e e2 => ?_) (fun e r e2 hT => ?_)
  · rw [z_1]
    refine m_bad (f := fun v => jp v) hR hS MFr.rf (fun M' N' a b => w_jp (h M' N' a b)) ?_
    have : wnS S t (cps (sn S)) 0 (sp S - 1) = 1 := if_neg e
    unfold a_cocycle
    rw [this, if_neg (by decide)]
  · rw [z_3]
    refine m_bad (f := fun v => jp v) hR hS MFr.rf (fun M' N' a b => w_jp (h M' N' a b)) ?_
    have e2 : S.2.2.1 t.toNat = none := e2
    have : wnS S t (cps (sn S)) 0 (sp S - 1) = 3 := by
      unfold wnS
      rw [if_pos e, e2]
      rfl
    unfold a_cocycle
    rw [this, if_neg (by decide)]
  · have e2 : S.2.2.1 t.toNat = some r := e2
    refine m_wform (S := S) hM hA e e2 hT ?_
    rw [z_0]
    unfold a_cocycle at h
    by_cases e0 : wnS S t (cps (sn S)) 0 (sp S - 1) = 0
    · rw [if_pos e0] at h
      rw [e0]
      obtain ⟨_, r', e1', e2', e3', e4'⟩ := wnS_0 e0
      rw [e2] at e1'
      obtain rfl := Option.some.inj e1'
      refine w_le ⟨by omega, by omega⟩ ⟨by omega, by omega⟩ (fun _ => ?_) (fun x => absurd x (by decide))
      obtain ⟨t, rfl⟩ : ∃ d : Nat, t = d := ⟨t.toNat, by omega⟩
      refine w_misClosed hM hA hT (by rw [← cps_eq hn5]; omega) (fun i _ hi => by have := e4' i (by rw [← cps_eq hn5] at hi; omega); exact ⟨this.1, by omega⟩) (fun v hv => ?_)
      rw [e2'] at h
      rw [z_1]
      rcases hv with ⟨rfl, hv⟩ | ⟨rfl, hv⟩
      · rw [if_pos hv] at h
        exact w_eq ⟨by omega, by omega⟩ ⟨by omega, by omega⟩ (fun x => absurd x (by decide)) (fun _ => w_jp (m_fin0 hR hS MFr.rf h))
      · rw [if_neg hv] at h
        exact w_eq ⟨by omega, by omega⟩ ⟨by omega, by omega⟩ (fun _ => w_jp (m_fin0 hR hS MFr.rf h)) (fun x => absurd rfl x)
    · refine w_le ⟨by omega, by omega⟩ ⟨by omega, by omega⟩ (fun x => absurd x (by omega)) (fun _ => ?_)
      rw [if_neg e0] at h
      exact w_refuse hM (w_jp (m_fin hR hS MFr.rf h))
end OPS9
