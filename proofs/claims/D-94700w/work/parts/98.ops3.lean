/-! OPS, third part: lawful, classes, derivations, parts, maps. -/
set_option maxRecDepth 100000
section OPS3
variable {α τ : Type} {M M' M1 M2 : Mem} {N N' N1 : NM} {c m i : Nat} {u v w k s : Int} {S S' : St} {p : Int} {n : Nat} {T F : Nat → Nat → Nat → Int}
theorem JcF.fm (h : JcF m N N') : MFr m N N' := MFr.of (fun b hb => h b (by omega) (by omega) (by omega) (by omega) (by omega))
noncomputable def a_lawful (S : St) : Int := @ite _ (Lw (sp S) (sn S) (sT S)) (Classical.propDecidable _) 1 0
theorem three_fr (i j k : Int) : CFr c N (up2 (up2 (up2 N (c + 76) 0 i) (c + 76) 1 j) (c + 76) 2 k) := CFr.of (fun b hb => by rw [upb (by omega), upb (by omega), upb (by omega)])
theorem F3.not {i j k : Nat} (h : F3 p n T i j k) : ¬ Lw p n T := fun x => h.2.2.2.1 (x i j k h.1 h.2.1 h.2.2.1)
theorem c_lawful {f : Int32 → JM Mem τ} {Q : τ → Mem → NM → Prop} (hR : CR M N c S) (h : cPost M N c (stU S 0 0) (f (zI (a_lawful S))) Q) : GN M N (jb (jcall 0 c (f_X0_lawful c)) f) Q := by
  refine w_Cc hR.cl ?_
  unfold f_X0_lawful
  refine w_Cf hR.cl rfl ?_
  refine w_isLawful hR.cl hR.cl.w6 hR.w (by omega) (fun e => ?_) (fun i j k e => ?_)
  · rw [z_0]
    refine w_eq ⟨by omega, by omega⟩ ⟨by omega, by omega⟩ (fun x => absurd x (by decide)) (fun _ => ?_)
    unfold X0_lawful_b17
    rw [show a_lawful S = 1 from if_pos e] at h
    rw [z_1]
    exact w_gives hR.cl (w_jp (c_fin0 hR h))
  · rw [z_0]
    refine w_eq ⟨by omega, by omega⟩ ⟨by omega, by omega⟩ (fun _ => ?_) (fun x => absurd rfl x)
    unfold X0_lawful_b17
    rw [show a_lawful S = 0 from if_neg e.not] at h
    exact w_gives hR.cl (w_jp (c_fin hR (Bg.rf hR.cl) (three_fr _ _ _) h))
theorem m_lawful {f : Int32 → JM Mem τ} {Q : τ → Mem → NM → Prop} (hR : MR M N m S) (h : mPost M N m (stU S 0 0) (f (zI (a_lawful S))) Q) : GN M N (jb (jcall 7 m (f_X8_lawful m)) f) Q := by
  refine w_Mc hR.ml ?_
  unfold f_X8_lawful
  refine m_beg hR (fun M1 N1 hS hM hA => ?_)
  refine w_misLawful hM hA (fun N2 v hv g => ?_)
  rw [z_0, z_1]
  rcases hv with ⟨rfl, e⟩ | ⟨rfl, e⟩
  · rw [show a_lawful S = 1 from if_pos e] at h
    exact w_eq ⟨by omega, by omega⟩ ⟨by omega, by omega⟩ (fun x => absurd x (by decide)) (fun _ => w_jp (m_fin0 hR hS g.fm h))
  · rw [show a_lawful S = 0 from if_neg e] at h
    exact w_eq ⟨by omega, by omega⟩ ⟨by omega, by omega⟩ (fun _ => w_jp (m_fin0 hR hS g.fm h)) (fun x => absurd rfl x)
theorem F3.uni {i j k i' j' k' : Nat} (h : F3 p n T i j k) (h' : F3 p n T i' j' k') : i = i' ∧ j = j' ∧ k = k' := by
  obtain ⟨a1, a2, a3, a4, a5⟩ := h
  obtain ⟨b1, b2, b3, b4, b5⟩ := h'
  have x1 : ¬ (i' < i ∨ i' = i ∧ (j' < j ∨ j' = j ∧ k' < k)) := fun x => b4 (a5 i' j' k' b1 b2 b3 x)
  have x2 : ¬ (i < i' ∨ i = i' ∧ (j < j' ∨ j = j' ∧ k < k')) := fun x => a4 (b5 i j k a1 a2 a3 x)
  omega
noncomputable def f3v (p : Int) (n : Nat) (T : Nat → Nat → Nat → Int) : Nat × Nat × Nat := @Classical.epsilon _ ⟨(0, 0, 0)⟩ (fun x => F3 p n T x.1 x.2.1 x.2.2)
theorem F3.eq {i j k : Nat} (h : F3 p n T i j k) : f3v p n T = (i, j, k) := by
  have := @Classical.epsilon_spec _ (fun x : Nat × Nat × Nat => F3 p n T x.1 x.2.1 x.2.2) ⟨(i, j, k), h⟩
  obtain ⟨a, b, d⟩ := F3.uni h this
  unfold f3v
  exact Prod.ext a.symm (Prod.ext b.symm d.symm)
noncomputable def a_failing (S : St) (v : Int) : Int × Int := if 0 ≤ v ∧ v ≤ 2 then (@ite _ (Lw (sp S) (sn S) (sT S)) (Classical.propDecidable _) (-1, 8) ((if v = 0 then ((f3v (sp S) (sn S) (sT S)).1 : Int) else if v = 1 then ((f3v (sp S) (sn S) (sT S)).2.1 : Int) else ((f3v (sp S) (sn S) (sT S)).2.2 : Int)), 0)) else (-1, 5)
theorem c_failing {f : Int32 → JM Mem τ} {Q : τ → Mem → NM → Prop} (hR : CR M N c S) (hv : zR v) (h : cPost M N c (stU S 0 (a_failing S v).2) (f (zI (a_failing S v).1)) Q) : GN M N (jb (jcall 0 c (f_X0_failing c (zI v))) f) Q := by
  refine w_Cc hR.cl ?_
  unfold f_X0_failing
  have hbad : ¬ (0 ≤ v ∧ v ≤ 2) → GN M N (X0_failing_b9 c) (fun v M1 N1 => GN M1 N1 (f v) Q) := fun e => by
    unfold X0_failing_b9
    rw [z_5]
    exact c_bad (f := fun v => jp v) hR (fun M' N' a b => w_jp (h M' N' a b)) (if_neg e)
  rw [z_0, z_2]
  refine w_lt hv ⟨by omega, by omega⟩ (fun e => hbad (by omega)) (fun e0 => ?_)
  refine w_le hv ⟨by omega, by omega⟩ (fun e1 => ?_) (fun e => hbad (by omega))
  have e : 0 ≤ v ∧ v ≤ 2 := ⟨e0, e1⟩
  unfold a_failing at h
  rw [if_pos e] at h
  refine w_Cf hR.cl rfl ?_
  refine w_isLawful hR.cl hR.cl.w6 hR.w (by omega) (fun eL => ?_) (fun i j k eL => ?_)
  · refine w_eq ⟨by omega, by omega⟩ ⟨by omega, by omega⟩ (fun x => absurd x (by decide)) (fun _ => ?_)
    rw [if_pos eL] at h
    rw [show (8 : Int32) = zI 8 from rfl]
    exact w_none hR.cl (w_jp (c_fin0 hR h))
  · refine w_eq ⟨by omega, by omega⟩ ⟨by omega, by omega⟩ (fun _ => ?_) (fun x => absurd rfl x)
    rw [if_neg eL.not, eL.eq] at h
    refine w_Cf hR.cl rfl ?_
    have h76 := hR.cl.ka (o := 76) (d := (0, 3)) rfl
    refine w_ald h76 (by omega) (by omega) ?_
    rw [show up2 (up2 (up2 N (c + 76) 0 (i : Int)) (c + 76) 1 (j : Int)) (c + 76) 2 (k : Int) (c + 76) v.toNat = (if v = 0 then (i : Int) else if v = 1 then (j : Int) else (k : Int)) by
      show (if c + 76 = c + 76 ∧ v.toNat = 2 then (k : Int) else if c + 76 = c + 76 ∧ v.toNat = 1 then (j : Int) else if c + 76 = c + 76 ∧ v.toNat = 0 then (i : Int) else N (c + 76) v.toNat) = _
      rcases (show v = 0 ∨ v = 1 ∨ v = 2 by omega) with rfl | rfl | rfl
      · rw [if_neg (by omega), if_neg (by omega), if_pos ⟨rfl, rfl⟩, if_pos rfl]
      · rw [if_neg (by omega), if_pos ⟨rfl, rfl⟩, if_neg (by omega), if_pos rfl]
      · rw [if_pos ⟨rfl, rfl⟩, if_neg (by omega), if_neg (by omega)]]
    exact w_gives hR.cl (w_jp (c_fin hR (Bg.rf hR.cl) (three_fr _ _ _) h))
theorem m_failing {f : Int32 → JM Mem τ} {Q : τ → Mem → NM → Prop} (hR : MR M N m S) (hv : zR v) (h : mPost M N m (stU S 0 (a_failing S v).2) (f (zI (a_failing S v).1)) Q) : GN M N (jb (jcall 7 m (f_X8_failing m (zI v))) f) Q := by
  refine w_Mc hR.ml ?_
  unfold f_X8_failing
  refine m_beg hR (fun M1 N1 hS hM hA => ?_)
  have hn5 := hA.n5
  rw [zL_int hv, show (0 : Int64) = zL 0 from rfl, show (2 : Int64) = zL 2 from rfl]
  refine w_isIn (zRL_of hv) ⟨by omega, by omega⟩ ⟨by omega, by omega⟩ ?_
  rw [z_0]
  by_cases e : 0 ≤ v ∧ v ≤ 2
  case neg =>
    rw [if_neg e]
    refine w_eq ⟨by omega, by omega⟩ ⟨by omega, by omega⟩ (fun _ => ?_) (fun x => absurd rfl x)
    rw [z_5]
    exact m_bad (f := fun v => jp v) hR hS MFr.rf (fun M' N' a b => w_jp (h M' N' a b)) (if_neg e)
  rw [if_pos e]
  refine w_eq ⟨by omega, by omega⟩ ⟨by omega, by omega⟩ (fun x => absurd x (by omega)) (fun _ => ?_)
  unfold a_failing at h
  rw [if_pos e] at h
  refine w_up (sn S) (fun i N2 => JcF m N1 N2 ∧ ∀ a b c, a < i → a < b → b < c → c < sn S → Kl (sp S) (sn S) (sT S) a b c) 0 rfl (by omega) ⟨fun _ _ _ _ _ _ => rfl, fun a b c h => absurd h (by omega)⟩ ?_
  rintro i N2 hi ⟨f1, g1⟩
  unfold X8_failing_L34
  refine w_MI hM ?_
  rw [(f1.ma hA).ne]
  refine w_le ⟨by omega, by omega⟩ ⟨by omega, by omega⟩ (fun hc => ?_) (fun hc => ?_)
  · unfold X8_failing_b117
    have eL : Lw (sp S) (sn S) (sT S) := fun a b c h1 h2 h3 => g1 a b c (by omega) h1 h2 h3
    rw [if_pos eL] at h
    rw [show (8 : Int32) = zI 8 from rfl]
    exact w_jinl (w_refuse hM (w_jp (m_fin hR hS f1.fm h)))
  rw [z_1, zI_add]
  refine w_jlet ?_
  refine w_up (sn S) (fun j N3 => i < j ∧ JcF m N1 N3 ∧ ∀ a b c, a < i ∨ a = i ∧ b < j → a < b → b < c → c < sn S → Kl (sp S) (sn S) (sT S) a b c) (i + 1) (by rfl) (by omega) ⟨by omega, f1, fun a b c h h1 h2 h3 => g1 a b c (by omega) h1 h2 h3⟩ ?_
  rintro j N3 hj ⟨hij, f2, g2⟩
  unfold X8_failing_L46
  refine w_MI hM ?_
  rw [(f2.ma hA).ne]
  refine w_le ⟨by omega, by omega⟩ ⟨by omega, by omega⟩ (fun hd => ?_) (fun hd => ?_)
  · unfold X8_failing_b111
    rw [z_1, zI_add]
    exact w_jinl (w_jcont ⟨by omega, rfl, f2, fun a b c h h1 h2 h3 => g2 a b c (by omega) h1 h2 h3⟩)
  rw [z_1, zI_add]
  refine w_jlet ?_
  refine w_up (sn S) (fun k N4 => j < k ∧ JcF m N1 N4 ∧ ∀ a b c, a < i ∨ a = i ∧ (b < j ∨ b = j ∧ c < k) → a < b → b < c → c < sn S → Kl (sp S) (sn S) (sT S) a b c) (j + 1) (by rfl) (by omega) ⟨by omega, f2, fun a b c h h1 h2 h3 => g2 a b c (by omega) h1 h2 h3⟩ ?_
  rintro k N4 hk ⟨hjk, f3, g3⟩
  unfold X8_failing_L59
  refine w_MI hM ?_
  rw [(f3.ma hA).ne]
  refine w_le ⟨by omega, by omega⟩ ⟨by omega, by omega⟩ (fun he => ?_) (fun he => ?_)
  · unfold X8_failing_b105
    rw [z_1, zI_add]
    exact w_jinl (w_jcont ⟨by omega, rfl, by omega, f3, fun a b c h h1 h2 h3 => g3 a b c (by omega) h1 h2 h3⟩)
  refine w_breaks hM (f3.ma hA) (by omega) (by omega) (by omega) (fun N5 u hu f4 => ?_)
  have f4' := f3.tr f4
  rw [z_0]
  rcases hu with ⟨rfl, hu⟩ | ⟨rfl, hu⟩
  · refine w_eq ⟨by omega, by omega⟩ ⟨by omega, by omega⟩ (fun _ => ?_) (fun x => absurd rfl x)
    rw [z_1, zI_add]
    refine w_jcont ⟨by omega, rfl, by omega, f4', fun a b c h h1 h2 h3 => ?_⟩
    by_cases e : a = i ∧ b = j ∧ c = k
    · rw [e.1, e.2.1, e.2.2]; exact hu
    · exact g3 a b c (by omega) h1 h2 h3
  · refine w_eq ⟨by omega, by omega⟩ ⟨by omega, by omega⟩ (fun x => absurd x (by decide)) (fun _ => ?_)
    refine w_jinl (w_jinl (w_jinl ?_))
    have eF : F3 (sp S) (sn S) (sT S) i j k := ⟨hij, hjk, by omega, hu, fun a b c h1 h2 h3 h4 => g3 a b c h4 h1 h2 h3⟩
    rw [if_neg eF.not, eF.eq] at h
    have hh := m_fin0 hR hS f4'.fm h
    unfold X8_failing_b79
    rw [z_0, z_1]
    refine w_eq hv ⟨by omega, by omega⟩ (fun e0 => ?_) (fun e0 => ?_)
    · rw [if_pos e0] at hh
      exact w_jp hh
    · rw [if_neg e0] at hh
      refine w_eq hv ⟨by omega, by omega⟩ (fun e1 => ?_) (fun e1 => ?_)
      · rw [if_pos e1] at hh
        exact w_jp hh
      · rw [if_neg e1] at hh
        exact w_jp hh
noncomputable def a_classes (S : St) (v : Int) : Int × Int := if 0 ≤ v ∧ v ≤ sn S then (@ite _ (Lw (sp S) (sn S) (sT S)) (Classical.propDecidable _) (Cls (sp S) (sn S) (sT S) v.toNat, 0) (-1, 9)) else (-1, 5)
theorem c_classes {f : Int32 → JM Mem τ} {Q : τ → Mem → NM → Prop} (hR : CR M N c S) (hv : zR v) (h : cPost M N c (stU S 0 (a_classes S v).2) (f (zI (a_classes S v).1)) Q) : GN M N (jb (jcall 0 c (f_X0_classes c (zI v))) f) Q := by
  have hn5 : sn S ≤ 5 := hR.w.n5
  refine w_Cc hR.cl ?_
  unfold f_X0_classes
  refine w_Cf hR.cl rfl ?_
  refine w_Wp hR.cl.w6 ?_
  rw [hR.w.ne, zL_int hv, zL_int ⟨by omega, by omega⟩, show (0 : Int64) = zL 0 from rfl]
  refine w_isFrom (zRL_of hv) ⟨by omega, by omega⟩ ⟨by omega, by omega⟩ ?_
  rw [z_0]
  by_cases e : 0 ≤ v ∧ v ≤ sn S
  case neg =>
    rw [if_neg e]
    refine w_eq ⟨by omega, by omega⟩ ⟨by omega, by omega⟩ (fun _ => ?_) (fun x => absurd rfl x)
    rw [z_5]
    exact c_bad (f := fun v => jp v) hR (fun M' N' a b => w_jp (h M' N' a b)) (if_neg e)
  rw [if_pos e]
  refine w_eq ⟨by omega, by omega⟩ ⟨by omega, by omega⟩ (fun x => absurd x (by omega)) (fun _ => ?_)
  unfold a_classes at h
  rw [if_pos e] at h
  obtain ⟨d, rfl⟩ : ∃ d : Nat, v = d := ⟨v.toNat, by omega⟩
  refine w_Cf hR.cl rfl ?_
  refine w_isLawful hR.cl hR.cl.w6 hR.w (by omega) (fun eL => ?_) (fun i j k eL => ?_)
  · refine w_eq ⟨by omega, by omega⟩ ⟨by omega, by omega⟩ (fun x => absurd x (by decide)) (fun _ => ?_)
    rw [if_pos eL] at h
    refine w_Cf hR.cl rfl ?_
    exact w_classesOf hR.cl hR.cl.w6 hR.w (by omega) (by omega) (fun M1 N1 hB g => w_gives (hR.cl.bg hB) (w_jp (c_fin hR hB (CFr.rw g) h)))
  · refine w_eq ⟨by omega, by omega⟩ ⟨by omega, by omega⟩ (fun _ => ?_) (fun x => absurd rfl x)
    rw [if_neg eL.not] at h
    rw [show (9 : Int32) = zI 9 from rfl]
    exact w_none hR.cl (w_jp (c_fin hR (Bg.rf hR.cl) (three_fr _ _ _) h))
theorem m_classes {f : Int32 → JM Mem τ} {Q : τ → Mem → NM → Prop} (hR : MR M N m S) (hv : zR v) (h : mPost M N m (stU S 0 (a_classes S v).2) (f (zI (a_classes S v).1)) Q) : GN M N (jb (jcall 7 m (f_X8_classes m (zI v))) f) Q := by
  refine w_Mc hR.ml ?_
  unfold f_X8_classes
  refine m_beg hR (fun M1 N1 hS hM hA => ?_)
  have hn5 := hA.n5
  refine w_MI hM ?_
  rw [hA.ne, zL_int hv, zL_int ⟨by omega, by omega⟩, show (0 : Int64) = zL 0 from rfl]
  refine w_isIn (zRL_of hv) ⟨by omega, by omega⟩ ⟨by omega, by omega⟩ ?_
  rw [z_0]
  by_cases e : 0 ≤ v ∧ v ≤ sn S
  case neg =>
    rw [if_neg e]
    refine w_eq ⟨by omega, by omega⟩ ⟨by omega, by omega⟩ (fun _ => ?_) (fun x => absurd rfl x)
    rw [z_5]
    exact m_bad (f := fun v => jp v) hR hS MFr.rf (fun M' N' a b => w_jp (h M' N' a b)) (if_neg e)
  rw [if_pos e]
  refine w_eq ⟨by omega, by omega⟩ ⟨by omega, by omega⟩ (fun x => absurd x (by omega)) (fun _ => ?_)
  unfold a_classes at h
  rw [if_pos e] at h
  obtain ⟨d, rfl⟩ : ∃ d : Nat, v = d := ⟨v.toNat, by omega⟩
  refine w_misLawful hM hA (fun N2 u hu g => ?_)
  rcases hu with ⟨rfl, eL⟩ | ⟨rfl, eL⟩
  · refine w_eq ⟨by omega, by omega⟩ ⟨by omega, by omega⟩ (fun x => absurd x (by decide)) (fun _ => ?_)
    rw [if_pos eL] at h
    exact w_classSize hM (g.ma hA) (by omega) (fun N3 g3 => w_jp (m_fin0 hR hS (g.fm.tr g3.mf) h))
  · refine w_eq ⟨by omega, by omega⟩ ⟨by omega, by omega⟩ (fun _ => ?_) (fun x => absurd rfl x)
    rw [if_neg eL] at h
    rw [show (9 : Int32) = zI 9 from rfl]
    exact w_refuse hM (w_jp (m_fin hR hS g.fm h))
end OPS3
