/-! OPS, second part: the world now is asked. -/
set_option maxRecDepth 100000
section OPS2
variable {α τ : Type} {M M' M1 : Mem} {N N' N1 : NM} {c m i : Nat} {u v w k : Int} {S S' : St}
theorem FrC.mf {N' : NM} (g : FrC N m N') : MFr m N N' := ⟨fun b hb => g.1 b (by omega) (by omega) (by omega) (by omega) (by omega) (by omega), fun k hk => g.2 k (by omega) (by omega) (by omega)⟩
theorem CFr.rows (g : ∀ b, b < c + 72 ∨ c + 192 ≤ b → N' b = N b) : CFr c N N' := CFr.of (fun b hb => g b (by omega))
theorem CFr.rw (g : ∀ b, b < c + 118 ∨ c + 182 ≤ b → N' b = N b) : CFr c N N' := CFr.of (fun b hb => g b (by omega))
noncomputable def a_centre (S : St) : Int := sn S - (dm (sp S) (sn S) (Gn (sp S) (sn S) (fun g => ∃ j k, j < sn S ∧ k < sn S ∧ g = fun i => sT S i j k)) : Nat)
theorem c_centreOf {f : Int32 → JM Mem τ} {Q : τ → Mem → NM → Prop} (hR : CR M N c S)
    (h : ∀ M' N', Bg c M M' → CFr c N N' → GN M' N' (f (zI (a_centre S))) Q) : GN M N (jb (jcall 0 c (f_X0_centreOf c (c + 6))) f) Q := by
  refine w_centreOf hR.cl hR.cl.w6 hR.wd (by omega) (fun M1 N1 hB g => ?_)
  rw [centre_eq hR.wd.pr hR.wd.n1]
  exact h M1 N1 hB (CFr.rw g)
theorem c_centre {f : Int32 → JM Mem τ} {Q : τ → Mem → NM → Prop} (hR : CR M N c S) (h : cPost M N c (stU S 0 0) (f (zI (a_centre S))) Q) : GN M N (jb (jcall 0 c (f_X0_centre c)) f) Q := by
  refine w_Cc hR.cl ?_
  unfold f_X0_centre
  refine w_Cf hR.cl rfl ?_
  exact c_centreOf hR (fun M1 N1 hB g => w_gives (hR.cl.bg hB) (w_jp (c_fin hR hB g h)))
theorem m_centre {f : Int32 → JM Mem τ} {Q : τ → Mem → NM → Prop} (hR : MR M N m S) (h : mPost M N m (stU S 0 0) (f (zI (a_centre S))) Q) : GN M N (jb (jcall 7 m (f_X8_centre m)) f) Q := by
  refine w_Mc hR.ml ?_
  unfold f_X8_centre
  refine m_beg hR (fun M1 N1 hS hM hA => ?_)
  refine w_centreSize hM hA (fun N2 g g2 => w_jp (m_fin0 hR hS ⟨fun b hb => g b (by omega) (by omega) (by omega), fun k hk => g2 k (by omega)⟩ h))
noncomputable def a_form (S : St) : Int := (dm (sp S) (sn S) (Rs (sp S) (sn S) (sn S) (FoA (sp S) (sn S) (sT S))) : Nat)
theorem c_form {f : Int32 → JM Mem τ} {Q : τ → Mem → NM → Prop} (hR : CR M N c S) (h : cPost M N c (stU S 0 0) (f (zI (a_form S))) Q) : GN M N (jb (jcall 0 c (f_X0_form c)) f) Q := by
  refine w_Cc hR.cl ?_
  unfold f_X0_form
  refine w_Cf hR.cl rfl ?_
  exact w_formOf hR.cl hR.cl.w6 hR.wd (by omega) (fun M1 N1 hB g => w_gives (hR.cl.bg hB) (w_jp (c_fin hR hB (CFr.rw g) h)))
theorem m_form {f : Int32 → JM Mem τ} {Q : τ → Mem → NM → Prop} (hR : MR M N m S) (h : mPost M N m (stU S 0 0) (f (zI (a_form S))) Q) : GN M N (jb (jcall 7 m (f_X8_form m)) f) Q := by
  refine w_Mc hR.ml ?_
  unfold f_X8_form
  refine m_beg hR (fun M1 N1 hS hM hA => ?_)
  exact w_formRank hM hA (fun N2 g => w_jp (m_fin0 hR hS g.mf h))
theorem c_commuting {f : Int32 → JM Mem τ} {Q : τ → Mem → NM → Prop} (hR : CR M N c S) (h : cPost M N c (stU S 0 0) (f (zI (Com (sp S) (sn S) (sT S)))) Q) : GN M N (jb (jcall 0 c (f_X0_commuting c)) f) Q := by
  refine w_Cc hR.cl ?_
  unfold f_X0_commuting
  refine w_Cf hR.cl rfl ?_
  exact w_commutingOf hR.cl hR.cl.w6 hR.wd (by omega) (fun M1 N1 hB g => w_gives (hR.cl.bg hB) (w_jp (c_fin hR hB (CFr.of (fun b hb => g b (by omega))) h)))
theorem m_commuting {f : Int32 → JM Mem τ} {Q : τ → Mem → NM → Prop} (hR : MR M N m S) (h : mPost M N m (stU S 0 0) (f (zI (Com (sp S) (sn S) (sT S)))) Q) : GN M N (jb (jcall 7 m (f_X8_commuting m)) f) Q := by
  refine w_Mc hR.ml ?_
  unfold f_X8_commuting
  refine m_beg hR (fun M1 N1 hS hM hA => ?_)
  exact w_commutingMany hM hA (fun N2 g => w_jp (m_fin0 hR hS g.mf h))
-- answers that may be refused: a number and a status
theorem c_bad {f : Int32 → JM Mem τ} {Q : τ → Mem → NM → Prop} {x : Int × Int} (hR : CR M N c S) (h : cPost M N c (stU S 0 x.2) (f (zI x.1)) Q) (e : x = (-1, v)) : GN M N (jb (jcall 0 c (f_X0_none c (zI v))) f) Q := by
  subst e
  exact w_none hR.cl (c_fin0 hR h)
theorem m_bad {f : Int32 → JM Mem τ} {Q : τ → Mem → NM → Prop} {x : Int × Int} (hR : MR M N m S) (hS : MSt M N m (sp S) (sn S) (sT S) M1 N1) (hF : MFr m N1 N') (h : mPost M N m (stU S 0 x.2) (f (zI x.1)) Q) (e : x = (-1, v)) : GN M1 N' (jb (jcall 7 m (f_X8_refuse m (zI v))) f) Q := by
  subst e
  exact w_refuse (hR.ml.bg hS.1) (m_fin hR hS hF h)
noncomputable def a_ser (S : St) (d k : Int) : Int × Int := if 0 ≤ k ∧ k ≤ 9 then ((dm (sp S) (sn S) (Ser (sp S) (sn S) (sT S) Al (1 - d) k.toNat) : Nat), 0) else (-1, 5)
theorem c_derived {f : Int32 → JM Mem τ} {Q : τ → Mem → NM → Prop} (hR : CR M N c S) (hk : zR k) (h : cPost M N c (stU S 0 (a_ser S 0 k).2) (f (zI (a_ser S 0 k).1)) Q) : GN M N (jb (jcall 0 c (f_X0_derived c (zI k))) f) Q := by
  refine w_Cc hR.cl ?_
  unfold f_X0_derived
  rw [zL_int hk, show (0 : Int64) = zL 0 from rfl, show (9 : Int64) = zL 9 from rfl]
  refine w_isFrom (zRL_of hk) ⟨by omega, by omega⟩ ⟨by omega, by omega⟩ ?_
  rw [z_0]
  by_cases e : 0 ≤ k ∧ k ≤ 9
  · rw [if_pos e]
    refine w_eq ⟨by omega, by omega⟩ ⟨by omega, by omega⟩ (fun x => absurd x (by omega)) (fun _ => ?_)
    obtain ⟨k, rfl⟩ : ∃ j : Nat, k = j := ⟨k.toNat, by omega⟩
    unfold a_ser at h
    rw [if_pos e, show ((k : Int).toNat) = k from rfl, Ser.d (show (1 : Int) - 0 ≠ 0 by omega)] at h
    refine w_Cf hR.cl rfl ?_
    exact w_derivedOf hR.cl hR.cl.w6 hR.wd (by omega) (by omega) (fun N1 g => w_gives hR.cl (w_jp (c_fin hR (Bg.rf hR.cl) (CFr.of (fun b hb => g b (by omega))) h)))
  · rw [if_neg e]
    refine w_eq ⟨by omega, by omega⟩ ⟨by omega, by omega⟩ (fun _ => ?_) (fun x => absurd rfl x)
    rw [z_5]
    have h : GN M (up2 N c 8 (a_ser S 0 k).2) (f (zI (a_ser S 0 k).1)) Q := c_fin0 hR h
    rw [show a_ser S 0 k = (-1, 5) from if_neg e] at h
    exact w_none hR.cl (w_jp h)
theorem c_lower {f : Int32 → JM Mem τ} {Q : τ → Mem → NM → Prop} (hR : CR M N c S) (hk : zR k) (h : cPost M N c (stU S 0 (a_ser S 1 k).2) (f (zI (a_ser S 1 k).1)) Q) : GN M N (jb (jcall 0 c (f_X0_lower c (zI k))) f) Q := by
  refine w_Cc hR.cl ?_
  unfold f_X0_lower
  rw [zL_int hk, show (0 : Int64) = zL 0 from rfl, show (9 : Int64) = zL 9 from rfl]
  refine w_isFrom (zRL_of hk) ⟨by omega, by omega⟩ ⟨by omega, by omega⟩ ?_
  rw [z_0]
  by_cases e : 0 ≤ k ∧ k ≤ 9
  · rw [if_pos e]
    refine w_eq ⟨by omega, by omega⟩ ⟨by omega, by omega⟩ (fun x => absurd x (by omega)) (fun _ => ?_)
    obtain ⟨k, rfl⟩ : ∃ j : Nat, k = j := ⟨k.toNat, by omega⟩
    unfold a_ser at h
    rw [if_pos e, show ((k : Int).toNat) = k from rfl, Ser.l (show (1 : Int) - 1 = 0 by omega)] at h
    refine w_Cf hR.cl rfl ?_
    exact w_lowerOf hR.cl hR.cl.w6 hR.wd (by omega) (by omega) (fun N1 g => w_gives hR.cl (w_jp (c_fin hR (Bg.rf hR.cl) (CFr.of (fun b hb => g b (by omega))) h)))
  · rw [if_neg e]
    refine w_eq ⟨by omega, by omega⟩ ⟨by omega, by omega⟩ (fun _ => ?_) (fun x => absurd rfl x)
    rw [z_5]
    have h : GN M (up2 N c 8 (a_ser S 1 k).2) (f (zI (a_ser S 1 k).1)) Q := c_fin0 hR h
    rw [show a_ser S 1 k = (-1, 5) from if_neg e] at h
    exact w_none hR.cl (w_jp h)
theorem m_ser {f : Int32 → JM Mem τ} {Q : τ → Mem → NM → Prop} {d : Int} (hd : d = 0 ∨ d = 1) (hR : MR M N m S) (hk : zR k) (h : mPost M N m (stU S 0 (a_ser S d k).2) (f (zI (a_ser S d k).1)) Q) :
    ∀ M1 N1, MSt M N m (sp S) (sn S) (sT S) M1 N1 → GN M1 N1 (jb ((f_X8_isIn ((zI k).toInt64) 0 9)) fun v1 => if v1 = 0 then jb (jcall 7 m (f_X8_refuse m 5)) f else jb (jcall 7 m (f_X8_seriesOf m (zI k) (zI d))) f) Q := by
  intro M1 N1 hS
  have hM := hR.ml.bg hS.1
  rw [zL_int hk, show (0 : Int64) = zL 0 from rfl, show (9 : Int64) = zL 9 from rfl]
  refine w_isIn (zRL_of hk) ⟨by omega, by omega⟩ ⟨by omega, by omega⟩ ?_
  rw [z_0]
  by_cases e : 0 ≤ k ∧ k ≤ 9
  · rw [if_pos e]
    refine w_eq ⟨by omega, by omega⟩ ⟨by omega, by omega⟩ (fun x => absurd x (by omega)) (fun _ => ?_)
    obtain ⟨k, rfl⟩ : ∃ j : Nat, k = j := ⟨k.toNat, by omega⟩
    unfold a_ser at h
    rw [if_pos e, show ((k : Int).toNat) = k from rfl] at h
    exact w_seriesOf hM hS.2.2.1 (by omega) hd (fun N2 g => m_fin0 hR hS ((FrC.ser g).mf) h)
  · rw [if_neg e]
    refine w_eq ⟨by omega, by omega⟩ ⟨by omega, by omega⟩ (fun _ => ?_) (fun x => absurd rfl x)
    rw [z_5]
    exact m_bad hR hS MFr.rf h (if_neg e)
theorem m_derived {f : Int32 → JM Mem τ} {Q : τ → Mem → NM → Prop} (hR : MR M N m S) (hk : zR k) (h : mPost M N m (stU S 0 (a_ser S 0 k).2) (f (zI (a_ser S 0 k).1)) Q) : GN M N (jb (jcall 7 m (f_X8_derived m (zI k))) f) Q := by
  refine w_Mc hR.ml ?_
  unfold f_X8_derived
  refine m_beg hR (fun M1 N1 hS hM hA => ?_)
  exact m_ser (f := fun v => jp v) (Q := fun v M1 N1 => GN M1 N1 (f v) Q) (Or.inl rfl) hR hk (fun M2 N2 a b => w_jp (h M2 N2 a b)) M1 N1 hS
theorem m_lower {f : Int32 → JM Mem τ} {Q : τ → Mem → NM → Prop} (hR : MR M N m S) (hk : zR k) (h : mPost M N m (stU S 0 (a_ser S 1 k).2) (f (zI (a_ser S 1 k).1)) Q) : GN M N (jb (jcall 7 m (f_X8_lower m (zI k))) f) Q := by
  refine w_Mc hR.ml ?_
  unfold f_X8_lower
  refine m_beg hR (fun M1 N1 hS hM hA => ?_)
  exact m_ser (f := fun v => jp v) (Q := fun v M1 N1 => GN M1 N1 (f v) Q) (Or.inr rfl) hR hk (fun M2 N2 a b => w_jp (h M2 N2 a b)) M1 N1 hS
-- vectors
noncomputable def a_vec (S : St) (v : Int) (r : Int) : Int × Int := if 0 ≤ v ∧ v < sp S ^ sn S then (r, 0) else (-1, 2)
theorem c_vec {α : Type} {f : α → JM Mem τ} {g : Int32 → JM Mem α} {bad : JM Mem α} {Q : τ → Mem → NM → Prop} (hR : CR M N c S) (hv : zR v)
    (h1 : ¬ (0 ≤ v ∧ v < sp S ^ sn S) → GN M N bad (fun v M1 N1 => GN M1 N1 (f v) Q)) (h2 : 0 ≤ v ∧ v < sp S ^ sn S → v < 1000000 → GN M N (g (zI 1)) (fun v M1 N1 => GN M1 N1 (f v) Q)) :
    GN M N (jb (jcall 0 c (f_X0_isVector c ((zI v).toInt64))) fun x => if x = 0 then bad else g x) (fun v M1 N1 => GN M1 N1 (f v) Q) := by
  have hpw : 1 ≤ sp S ^ sn S ∧ sp S ^ sn S ≤ 16807 := pow_bd hR.wd.pb _ hR.wd.n5
  rw [zL_int hv]
  refine w_isVector hR.cl hR.wd (zRL_of hv) ?_
  rw [z_0]
  by_cases e : 0 ≤ v ∧ v < sp S ^ sn S
  · rw [if_pos e]
    exact w_eq ⟨by omega, by omega⟩ ⟨by omega, by omega⟩ (fun x => absurd x (by omega)) (fun _ => h2 e (by omega))
  · rw [if_neg e]
    exact w_eq ⟨by omega, by omega⟩ ⟨by omega, by omega⟩ (fun _ => h1 e) (fun x => absurd rfl x)
theorem m_vec {α : Type} {f : α → JM Mem τ} {g : Int32 → JM Mem α} {bad : JM Mem α} {Q : τ → Mem → NM → Prop} {p : Int} {n : Nat} {T : Nat → Nat → Nat → Int} (hM : ML M1 m) (hA : MA M1 N1 m (m + 5) 0 p n T) (hv : zR v)
    (h1 : ¬ (0 ≤ v ∧ v < p ^ n) → GN M1 N1 bad (fun v M1 N1 => GN M1 N1 (f v) Q)) (h2 : 0 ≤ v ∧ v < p ^ n → v < 1000000 → GN M1 N1 (g (zI 1)) (fun v M1 N1 => GN M1 N1 (f v) Q)) :
    GN M1 N1 (jb (jcall 7 m (f_X8_isVector m ((zI v).toInt64))) fun x => if x = 0 then bad else g x) (fun v M1 N1 => GN M1 N1 (f v) Q) := by
  have hpw := pow_bd hA.pb _ hA.n5
  rw [zL_int hv]
  refine w_misVector hM hA (zRL_of hv) ?_
  rw [z_0]
  by_cases e : 0 ≤ v ∧ v < p ^ n
  · rw [if_pos e]
    exact w_eq ⟨by omega, by omega⟩ ⟨by omega, by omega⟩ (fun x => absurd x (by omega)) (fun _ => h2 e (by omega))
  · rw [if_neg e]
    exact w_eq ⟨by omega, by omega⟩ ⟨by omega, by omega⟩ (fun _ => h1 e) (fun x => absurd rfl x)
noncomputable def a_rank (S : St) (v : Int) : Int × Int := a_vec S v (rkv (sp S) (sn S) (sT S) v : Nat)
noncomputable def a_cent (S : St) (v : Int) : Int × Int := a_vec S v (sn S - (rkv (sp S) (sn S) (sT S) v : Nat))
theorem c_rank {f : Int32 → JM Mem τ} {Q : τ → Mem → NM → Prop} (hR : CR M N c S) (hv : zR v) (h : cPost M N c (stU S 0 (a_rank S v).2) (f (zI (a_rank S v).1)) Q) : GN M N (jb (jcall 0 c (f_X0_rank c (zI v))) f) Q := by
  refine w_Cc hR.cl ?_
  unfold f_X0_rank
  refine c_vec hR hv (fun e => ?_) (fun e e2 => ?_)
  · rw [z_2]
    exact c_bad (f := fun v => jp v) hR (fun M' N' a b => w_jp (h M' N' a b)) (if_neg e)
  · rw [show a_rank S v = (((rkv (sp S) (sn S) (sT S) v : Nat) : Int), 0) from if_pos e] at h
    refine w_Cf hR.cl rfl ?_
    exact w_rankOf hR.cl hR.cl.w6 hR.wd (by omega) ⟨e.1, e2⟩ (fun M1 N1 hB g => w_gives (hR.cl.bg hB) (w_jp (c_fin hR hB (CFr.of (fun b hb => g b (by omega))) h)))
theorem m_rank {f : Int32 → JM Mem τ} {Q : τ → Mem → NM → Prop} (hR : MR M N m S) (hv : zR v) (h : mPost M N m (stU S 0 (a_rank S v).2) (f (zI (a_rank S v).1)) Q) : GN M N (jb (jcall 7 m (f_X8_rank m (zI v))) f) Q := by
  refine w_Mc hR.ml ?_
  unfold f_X8_rank
  refine m_beg hR (fun M1 N1 hS hM hA => ?_)
  refine m_vec hM hA hv (fun e => ?_) (fun e e2 => ?_)
  · rw [z_2]
    exact m_bad (f := fun v => jp v) hR hS MFr.rf (fun M' N' a b => w_jp (h M' N' a b)) (if_neg e)
  · rw [show a_rank S v = (((rkv (sp S) (sn S) (sT S) v : Nat) : Int), 0) from if_pos e] at h
    exact w_mrankOf hM hA ⟨e.1, e2⟩ (fun N2 g => w_jp (m_fin0 hR hS (MFr.of (fun b hb => g b (by omega) (by omega) (by omega) (by omega) (by omega))) h))
theorem c_centralizer {f : Int32 → JM Mem τ} {Q : τ → Mem → NM → Prop} (hR : CR M N c S) (hv : zR v) (h : cPost M N c (stU S 0 (a_cent S v).2) (f (zI (a_cent S v).1)) Q) : GN M N (jb (jcall 0 c (f_X0_centralizer c (zI v))) f) Q := by
  refine w_Cc hR.cl ?_
  unfold f_X0_centralizer
  refine c_vec hR hv (fun e => ?_) (fun e e2 => ?_)
  · rw [z_2]
    exact c_bad (f := fun v => jp v) hR (fun M' N' a b => w_jp (h M' N' a b)) (if_neg e)
  · rw [show a_cent S v = ((sn S : Int) - (rkv (sp S) (sn S) (sT S) v : Nat), 0) from if_pos e] at h
    refine w_Cf hR.cl rfl ?_
    refine w_Wp hR.cl.w6 ?_
    refine w_Cf hR.cl rfl ?_
    refine w_rankOf hR.cl hR.cl.w6 hR.wd (by omega) ⟨e.1, e2⟩ (fun M1 N1 hB g => ?_)
    rw [hR.wd.ne, zI_sub]
    exact w_gives (hR.cl.bg hB) (w_jp (c_fin hR hB (CFr.of (fun b hb => g b (by omega))) h))
theorem m_centralizer {f : Int32 → JM Mem τ} {Q : τ → Mem → NM → Prop} (hR : MR M N m S) (hv : zR v) (h : mPost M N m (stU S 0 (a_cent S v).2) (f (zI (a_cent S v).1)) Q) : GN M N (jb (jcall 7 m (f_X8_centralizer m (zI v))) f) Q := by
  refine w_Mc hR.ml ?_
  unfold f_X8_centralizer
  refine m_beg hR (fun M1 N1 hS hM hA => ?_)
  refine m_vec hM hA hv (fun e => ?_) (fun e e2 => ?_)
  · rw [z_2]
    exact m_bad (f := fun v => jp v) hR hS MFr.rf (fun M' N' a b => w_jp (h M' N' a b)) (if_neg e)
  · rw [show a_cent S v = ((sn S : Int) - (rkv (sp S) (sn S) (sT S) v : Nat), 0) from if_pos e] at h
    refine w_MI hM ?_
    refine w_mrankOf hM hA ⟨e.1, e2⟩ (fun N2 g => ?_)
    rw [hA.ne, zI_sub]
    exact w_jp (m_fin0 hR hS (MFr.of (fun b hb => g b (by omega) (by omega) (by omega) (by omega) (by omega))) h)
noncomputable def a_power (S : St) (v : Int) : Int × Int := if 0 ≤ v ∧ v < sp S ^ sn S then (pwa (pwz (sp S) (sn S) (sT S) (dgv (sp S) (sn S) v) (sn S) 1), pws (pwz (sp S) (sn S) (sT S) (dgv (sp S) (sn S) v) (sn S) 1)) else (-1, 2)
theorem c_power {f : Int32 → JM Mem τ} {Q : τ → Mem → NM → Prop} (hR : CR M N c S) (hv : zR v) (h : cPost M N c (stU S 0 (a_power S v).2) (f (zI (a_power S v).1)) Q) : GN M N (jb (jcall 0 c (f_X0_power c (zI v))) f) Q := by
  refine w_power hR.cl hR.wd hv (fun e => ?_) (fun e N1 g => ?_)
  · rw [show a_power S v = (-1, 2) from if_neg e] at h
    exact c_fin0 hR h
  · rw [show a_power S v = _ from if_pos e] at h
    exact c_fin hR (Bg.rf hR.cl) (CFr.of (fun b hb => g b (by omega) (by omega) (by omega) (by omega))) h
theorem m_power {f : Int32 → JM Mem τ} {Q : τ → Mem → NM → Prop} (hR : MR M N m S) (hv : zR v) (h : mPost M N m (stU S 0 (a_power S v).2) (f (zI (a_power S v).1)) Q) : GN M N (jb (jcall 7 m (f_X8_power m (zI v))) f) Q := by
  refine w_mpower hR.ml hR.wm hR.ok hv (fun M1 N1 N2 hS hF => ?_)
  by_cases e : 0 ≤ v ∧ v < sp S ^ sn S
  · rw [show a_power S v = _ from if_pos e] at h
    rw [if_pos e, if_pos e]
    cases e2 : pwz (sp S) (sn S) (sT S) (dgv (sp S) (sn S) v) (sn S) 1 with
    | none =>
      rw [e2] at h
      rw [if_pos rfl]
      exact m_fin hR hS hF h
    | some k =>
      rw [e2] at h
      rw [if_neg (fun x => nomatch x)]
      exact m_fin0 hR hS hF h
  · rw [show a_power S v = (-1, 2) from if_neg e] at h
    rw [if_neg e, if_neg e]
    exact m_fin hR hS hF h
noncomputable def a_radical (S : St) (v : Int) : Int × Int := if v = 0 ∨ v = 1 then ((rdv (sp S) (sn S) (sT S) (if v = 0 then 4 else 5) (sn S) : Nat), 0) else (-1, 5)
theorem c_radical {f : Int32 → JM Mem τ} {Q : τ → Mem → NM → Prop} (hR : CR M N c S) (hv : zR v) (h : cPost M N c (stU S 0 (a_radical S v).2) (f (zI (a_radical S v).1)) Q) : GN M N (jb (jcall 0 c (f_X0_radical c (zI v))) f) Q := by
  refine w_radical hR.cl hR.wd hv (fun e => ?_) (fun e M1 N1 hB g => ?_)
  · rw [show a_radical S v = (-1, 5) from if_neg e] at h
    exact c_fin0 hR h
  · rw [show a_radical S v = _ from if_pos e] at h
    exact c_fin hR hB (CFr.rows g) h
theorem m_radical {f : Int32 → JM Mem τ} {Q : τ → Mem → NM → Prop} (hR : MR M N m S) (hv : zR v) (h : mPost M N m (stU S 0 (a_radical S v).2) (f (zI (a_radical S v).1)) Q) : GN M N (jb (jcall 7 m (f_X8_radical m (zI v))) f) Q := by
  refine w_mradical hR.ml hR.wm hR.ok hv (fun M1 N1 N2 hS hF => ?_)
  by_cases e : v = 0 ∨ v = 1
  · rw [show a_radical S v = _ from if_pos e] at h
    rw [if_pos e, if_pos e]
    exact m_fin0 hR hS hF h
  · rw [show a_radical S v = (-1, 5) from if_neg e] at h
    rw [if_neg e, if_neg e]
    exact m_fin hR hS hF h
end OPS2
