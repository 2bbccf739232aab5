/-! OPS, fifth part: maps, shelves. -/
set_option maxRecDepth 100000
section OPS5
variable {α τ : Type} {M M' M1 M2 : Mem} {N N' N1 : NM} {c m i : Nat} {u v w k s : Int} {S S' : St} {p : Int} {n : Nat} {T F : Nat → Nat → Nat → Int}
noncomputable def a_maps (S : St) : Sk := mpS (sp S) (sn S) (sT S) (sT S) ((0 : Int) = 1)
theorem c_maps {f : Int32 → JM Mem τ} {Q : τ → Mem → NM → Prop} (hR : CR M N c S) (h : cPost M N c (stU (stU S 5 (a_maps S).1) 0 (a_mp (a_maps S) False).2) (f (zI (a_mp (a_maps S) False).1)) Q) : GN M N (jb (jcall 0 c (f_X0_maps c)) f) Q := by
  refine w_Cc hR.cl ?_
  unfold f_X0_maps
  refine w_Cf hR.cl rfl (w_Cf hR.cl rfl ?_)
  rw [z_0]
  refine w_maps2 hR.cl hR.cl.w6 hR.cl.w6 (by omega) (by omega) (by omega) (Or.inl rfl) hR.w hR.w (fun N1 st hst hb e hF => ?_)
  rw [if_pos ⟨rfl, rfl⟩] at e
  have e : st = a_maps S := e
  subst e
  generalize a_maps S = st at *
  have hR1 := hR.sc (Bg.rf hR.cl) hF.cf
  have hFm := CFm.of (Bg.rf hR.cl) hF.cf
  refine w_CI hR.cl ?_
  refine w_Cput hR.cl ?_
  refine w_CI hR.cl ?_
  rw [hst.1, upk (by omega), hst.2.2]
  obtain ⟨b1, b2, b3⟩ := hb
  refine w_eq ⟨by omega, by omega⟩ ⟨by omega, by omega⟩ (fun e0 => ?_) (fun e0 => ?_)
  · rw [show a_mp st False = ((st.2.1 : Int), 0) from if_pos (Or.inl (by omega))] at h
    exact w_gives hR.cl (w_jp (h M _ ((hR1.tri _).st 0) ((hFm.st _).st _)))
  · rw [show a_mp st False = (-1, 9) from if_neg (fun x => by rcases x with x | x; omega; exact x.1)] at h
    rw [show (9 : Int32) = zI 9 from rfl]
    exact w_none hR.cl (w_jp (h M _ ((hR1.tri _).st 9) ((hFm.st _).st _)))
theorem m_maps {f : Int32 → JM Mem τ} {Q : τ → Mem → NM → Prop} (hR : MR M N m S) (h : mPost M N m (stU (stU S 5 (a_maps S).1) 0 (a_mp (a_maps S) False).2) (f (zI (a_mp (a_maps S) False).1)) Q) : GN M N (jb (jcall 7 m (f_X8_maps m)) f) Q := by
  refine w_Mc hR.ml ?_
  unfold f_X8_maps
  refine m_beg hR (fun M1 N1 hS hM hA => ?_)
  refine w_Mf hM rfl ?_
  rw [z_0]
  have hR1 := hR.be hS
  refine w_findMaps (D := 0) (Or.inl rfl) hM hA hR1.wm (by omega) hR1.ok (fun M2 N2 hB h24 hst hb hF => ?_)
  have hM2 := hM.bg hB
  have hR2 := (hR1.bg hB).sc hF.mf
  have hFm : MFm m M N M2 N2 := (MFm.bg hS.1 (fun b hb => hS.2.2.2.1 b (by omega))).tr (MFm.bg hB (fun b hb => hF.mf.1 b (by omega)))
  have hst : SkM N2 m (a_maps S) := hst
  have hb : SkB (a_maps S) := hb
  generalize a_maps S = st at *
  obtain ⟨b1, b2, b3⟩ := hb
  refine w_MI hM2 ?_
  refine w_Mput hM2 ?_
  refine w_MI hM2 ?_
  rw [hst.1, upk (by omega), hst.2.2]
  have hR3 := hR2.tri (st.1 : Nat)
  refine w_eq ⟨by omega, by omega⟩ ⟨by omega, by omega⟩ (fun e0 => ?_) (fun e0 => ?_)
  · rw [show a_mp st False = ((st.2.1 : Int), 0) from if_pos (Or.inl (by omega))] at h
    refine w_MI hM2 ?_
    rw [upk (by omega), hst.2.1]
    refine w_jp (h M2 _ ?_ hFm.up)
    have e : stU (stU (stU S 0 0) 5 (st.1 : Nat)) 0 0 = stU (stU S 0 0) 5 (st.1 : Nat) := stU_self rfl
    rw [← stU_c (u := 0), e]
    exact hR3
  · rw [show a_mp st False = (-1, 9) from if_neg (fun x => by rcases x with x | x; omega; exact x.1)] at h
    rw [show (9 : Int32) = zI 9 from rfl]
    refine w_refuse hM2 (w_jp (h M2 _ ?_ hFm.up.up))
    rw [← stU_c (u := 0)]
    exact hR3.st 9
/-- of maps that stop at the first at most one is found -/
theorem skL_first (d : Nat) : ∀ (im : Nat → Nat → Int) (st : Sk), st.2.1 = 0 → (skL p n F T True d im st).2.1 ≤ 1 := by
  induction d with
  | zero => exact fun im st h => by show st.2.1 + 1 ≤ 1; omega
  | succ d ih =>
    intro im st h
    show (skR p n F T True (skL p n F T True d) (n - (d + 1)) im st ((p ^ n).toNat - 1)).2.1 ≤ 1
    generalize (p ^ n).toNat - 1 = k
    induction k with
    | zero => show st.2.1 ≤ 1; omega
    | succ k ih2 =>
      show (skS p n F T True (skL p n F T True d) (n - (d + 1)) im (k + 1) (skR p n F T True (skL p n F T True d) (n - (d + 1)) im st k)).2.1 ≤ 1
      generalize skR p n F T True (skL p n F T True d) (n - (d + 1)) im st k = s2 at ih2
      unfold skS
      by_cases c : s2.2.2 = 1 ∨ True ∧ 0 < s2.2.1
      · rw [if_pos c]; exact ih2
      · have h0 : s2.2.1 = 0 := by
          by_cases e : s2.2.1 = 0
          · exact e
          · exact absurd (Or.inr ⟨trivial, by omega⟩) c
        rw [if_neg c]
        by_cases c2 : s2.1 = 200000
        · rw [if_pos c2]; exact ih2
        · rw [if_neg c2]
          by_cases c3 : SkOk p n F T (n - (d + 1)) im (k + 1)
          · rw [if_pos c3]; exact ih _ _ h0
          · rw [if_neg c3]; exact ih2
-- shelves
def a_shelf (S : St) (s : Int) : Int := if 0 ≤ s ∧ s < 4 then (match S.1.2.1 s.toNat with | none => 8 | some _ => 0) else 2
theorem c_isShelf {f : Int32 → JM Mem τ} {Q : τ → Mem → NM → Prop} (hs : zR s) (h : GN M N (f (zI (if 0 ≤ s ∧ s < 4 then 1 else 0))) Q) : GN M N (jb (f_X0_isShelf (zI s)) f) Q := by
  refine w_jb ?_
  unfold f_X0_isShelf
  rw [z_0, z_1, z_4]
  refine w_lt hs ⟨by omega, by omega⟩ (fun e => ?_) (fun e => ?_)
  · rw [if_neg (show ¬ (0 ≤ s ∧ s < 4) by omega)] at h
    exact w_jp h
  · refine w_le ⟨by omega, by omega⟩ hs (fun e2 => ?_) (fun e2 => ?_)
    · rw [if_neg (show ¬ (0 ≤ s ∧ s < 4) by omega)] at h
      exact w_jp h
    · rw [if_pos (show (0 ≤ s ∧ s < 4) by omega)] at h
      exact w_jp h
theorem m_isShelf {f : Int32 → JM Mem τ} {Q : τ → Mem → NM → Prop} (hs : zR s) (h : GN M N (f (zI (if 0 ≤ s ∧ s < 4 then 1 else 0))) Q) : GN M N (jb (f_X8_isShelf (zI s)) f) Q := by
  refine w_jb ?_
  unfold f_X8_isShelf
  rw [zL_int hs, show (0 : Int64) = zL 0 from rfl, show (3 : Int64) = zL 3 from rfl]
  refine w_isIn (zRL_of hs) ⟨by omega, by omega⟩ ⟨by omega, by omega⟩ ?_
  by_cases e : 0 ≤ s ∧ s < 4
  · rw [if_pos (show 0 ≤ s ∧ s ≤ 3 by omega)]
    rw [if_pos e] at h
    exact w_rze (Or.inr rfl) h
  · rw [if_neg (show ¬ (0 ≤ s ∧ s ≤ 3) by omega)]
    rw [if_neg e] at h
    exact w_rze (Or.inl rfl) h
theorem c_noShelf {f : Int32 → JM Mem τ} {Q : τ → Mem → NM → Prop} (hR : CR M N c S) (hs : zR s) (h : GN M N (f (zI (a_shelf S s))) Q) : GN M N (jb (jcall 0 c (f_X0_noShelf c (zI s))) f) Q := by
  refine w_Cc hR.cl ?_
  unfold f_X0_noShelf
  refine c_isShelf hs ?_
  unfold a_shelf at h
  rw [z_0]
  by_cases e : 0 ≤ s ∧ s < 4
  · rw [if_pos e] at h ⊢
    refine w_eq ⟨by omega, by omega⟩ ⟨by omega, by omega⟩ (fun x => absurd x (by decide)) (fun _ => ?_)
    refine w_Cf hR.cl rfl ?_
    refine w_ald (hR.cl.ka (o := 71) (d := (4, 4)) rfl) (by omega) (by omega) ?_
    have hsh := hR.2.1.2.1 s.toNat (by omega)
    cases e2 : S.1.2.1 s.toNat with
    | none =>
      rw [e2] at hsh h
      rw [show N (c + 71) s.toNat = 0 from hsh]
      rw [show (8 : Int32) = zI 8 from rfl]
      exact w_eq ⟨by omega, by omega⟩ ⟨by omega, by omega⟩ (fun _ => w_jp h) (fun x => absurd rfl x)
    | some y =>
      rw [e2] at hsh h
      rw [show N (c + 71) s.toNat = 1 from hsh.1]
      exact w_eq ⟨by omega, by omega⟩ ⟨by omega, by omega⟩ (fun x => absurd x (by decide)) (fun _ => w_jp h)
  · rw [if_neg e] at h ⊢
    rw [z_2]
    exact w_eq ⟨by omega, by omega⟩ ⟨by omega, by omega⟩ (fun _ => w_jp h) (fun x => absurd rfl x)
theorem m_isEmpty {f : Int32 → JM Mem τ} {Q : τ → Mem → NM → Prop} (hR : MR M N m S) (hs : 0 ≤ s ∧ s < 4) (h : GN M N (f (zI (if S.1.2.1 s.toNat = none then 1 else 0))) Q) : GN M N (jb (jcall 7 m (f_X8_isEmpty m (zI s))) f) Q := by
  refine w_Mc hR.ml ?_
  unfold f_X8_isEmpty
  refine w_Mf hR.ml rfl ?_
  rw [z_0, z_1, show (127 : Int32) = zI 127 from rfl, zI_add, zI_mul]
  refine w_ald (hR.ml.ka (o := 5) (d := (0, 3440)) rfl) (by omega) (by omega) ?_
  have hsh := hR.2.1.2.1 s.toNat (by omega)
  rw [show (127 * (s + 1)).toNat = 0 + 127 * (s.toNat + 1) by omega]
  cases e2 : S.1.2.1 s.toNat with
  | none =>
    rw [e2] at hsh
    rw [if_pos e2] at h
    rw [show N (m + 5) (0 + 127 * (s.toNat + 1)) = 0 from hsh]
    exact w_eq ⟨by omega, by omega⟩ ⟨by omega, by omega⟩ (fun _ => w_jp h) (fun x => absurd rfl x)
  | some y =>
    rw [e2] at hsh
    rw [if_neg (by rw [e2]; exact fun x => nomatch x)] at h
    have hp := hsh.2.1.pos
    have hp7 := hsh.2.1.le7
    rw [show N (m + 5) (0 + 127 * (s.toNat + 1)) = y.1 from hsh.1.1]
    exact w_eq ⟨by omega, by omega⟩ ⟨by omega, by omega⟩ (fun x => absurd x (by omega)) (fun _ => w_jp h)
theorem m_isUnlike {f : Int32 → JM Mem τ} {Q : τ → Mem → NM → Prop} {B n2 : Nat} {p2 : Int} {U : Nat → Nat → Nat → Int} (hR : MR M N m S) (hB : B + 127 ≤ 3440) (hC : WC N (m + 5) B p2 n2 U) (hU : WOk p2 n2 U) (h : GN M N (f (zI (if sp S = p2 ∧ sn S = n2 then 0 else 1))) Q) : GN M N (jb (jcall 7 m (f_X8_isUnlike m (m + 5) (zI B))) f) Q := by
  have h5 := hR.ml.ka (o := 5) (d := (0, 3440)) rfl
  obtain ⟨c1, c2, c3⟩ := hC
  obtain ⟨d1, d2, d3⟩ := hR.wm
  have hp := hR.ok.1.pos
  have hp7 := hR.ok.1.le7
  have hn5 := hR.ok.2.2.1
  have hq := hU.1.pos
  have hq7 := hU.1.le7
  have hm5 := hU.2.2.1
  refine w_Mc hR.ml ?_
  unfold f_X8_isUnlike
  refine w_ald h5 (by omega) (by omega) ?_
  refine w_Mf hR.ml rfl ?_
  rw [z_0, z_1]
  refine w_ald h5 (by omega) (by omega) ?_
  rw [show (B : Int).toNat = B from rfl, show (0 : Int).toNat = 0 from rfl, c1, d1]
  refine w_eq ⟨by omega, by omega⟩ ⟨by omega, by omega⟩ (fun e => ?_) (fun e => ?_)
  · rw [zI_add]
    refine w_ald h5 (by omega) (by omega) ?_
    refine w_Mf hR.ml rfl ?_
    refine w_ald h5 (by omega) (by omega) ?_
    rw [show ((B : Int) + 1).toNat = B + 1 by omega, show (1 : Int).toNat = 0 + 1 from rfl, c2, d2]
    refine w_eq ⟨by omega, by omega⟩ ⟨by omega, by omega⟩ (fun e2 => ?_) (fun e2 => ?_)
    · rw [if_pos ⟨e.symm, by show S.1.1.2.1 = n2; omega⟩] at h
      exact w_jp h
    · unfold X8_isUnlike_b26
      rw [if_neg (fun x => e2 (by have : S.1.1.2.1 = n2 := x.2; omega))] at h
      rw [z_1]
      exact w_jp h
  · unfold X8_isUnlike_b26
    rw [if_neg (fun x => e x.1.symm)] at h
    rw [z_1]
    exact w_jp h
/-- maps of the world now to another, the first alone -/
noncomputable def mpq (S : St) (y : Wd) : Sk := if sp S = y.1 ∧ sn S = y.2.1 then mpS (sp S) (sn S) (sT S) y.2.2 ((1 : Int) = 1) else (0, 0, 0)
theorem mpq_1 {y : Wd} : (mpq S y).2.1 ≤ 1 := by
  unfold mpq
  split
  · unfold mpS
    rw [show ((1 : Int) = 1) = True from eq_self _]
    exact skL_first _ _ _ rfl
  · exact Nat.zero_le _
theorem m_same2 {f : Int32 → JM Mem τ} {Q : τ → Mem → NM → Prop} {s : Nat} {y : Wd} (hR : MR M N m S) (hs : s < 4) (hy : S.1.2.1 s = some y)
    (h : ∀ M' N' v, MR M' N' m S → MFm m M N M' N' → (∀ k, 50 ≤ k → k ≤ 53 → N' m k = N m k) → N' m 43 = ((mpq S y).1 : Nat) → SkB (mpq S y) → (v = 1 ∧ (mpq S y).2.1 = 1 ∨ v = 0 ∧ (mpq S y).2.1 = 0 ∧ (mpq S y).2.2 = 0 ∨ v = 9 ∧ (mpq S y).2.1 = 0 ∧ (mpq S y).2.2 = 1) → GN M' N' (f (zI v)) Q) :
    GN M N (jb (jcall 7 m (f_X8_same m (zI s))) f) Q := by
  have hsh := hR.2.1.2.1 s hs
  rw [hy] at hsh
  obtain ⟨hC, hU⟩ := hsh
  rw [show 0 + 127 * (s + 1) = 127 * (s + 1) by omega] at hC
  refine w_Mc hR.ml ?_
  unfold f_X8_same
  rw [z_0]
  refine w_Mput hR.ml ?_
  have hF0 : MFr m N (up2 N m 43 0) := ⟨fun b hb => upb (by omega), fun k hk => upk (by omega)⟩
  have hR0 := hR.sc hF0
  have hC0 : WC (up2 N m 43 0) (m + 5) (127 * (s + 1)) y.1 y.2.1 y.2.2 := hC.fr (upb (by omega))
  have h43 : up2 N m 43 0 m 43 = 0 := upv
  have hm0 : MFm m M N M (up2 N m 43 0) := MFm.rf.up
  have hk0 : ∀ k, 50 ≤ k → k ≤ 53 → up2 N m 43 0 m k = N m k := fun k a b => upk (by omega)
  generalize up2 N m 43 0 = N1 at hR0 hC0 h43 hm0 hk0
  refine w_Mf hR0.ml rfl ?_
  rw [z_1, show (127 : Int32) = zI 127 from rfl, zI_add, zI_mul, show 127 * ((s : Int) + 1) = ((127 * (s + 1) : Nat) : Int) by omega]
  refine m_isUnlike hR0 (by omega) hC0 hU ?_
  by_cases e : sp S = y.1 ∧ sn S = y.2.1
  case neg =>
    rw [if_neg e]
    have hz : mpq S y = (0, 0, 0) := if_neg e
    have := h M N1 0 hR0 hm0 hk0 (by rw [hz]; exact h43) (by rw [hz]; exact ⟨by decide, by decide, by decide⟩) (Or.inr (Or.inl ⟨rfl, by rw [hz], by rw [hz]⟩))
    exact w_eq ⟨by omega, by omega⟩ ⟨by omega, by omega⟩ (fun x => absurd x (by decide)) (fun _ => w_jp this)
  rw [if_pos e]
  refine w_eq ⟨by omega, by omega⟩ ⟨by omega, by omega⟩ (fun _ => ?_) (fun x => absurd rfl x)
  have hq : mpq S y = mpS (sp S) (sn S) (sT S) y.2.2 ((1 : Int) = 1) := if_pos e
  have h5 := hR.ml.ka (o := 5) (d := (0, 3440)) rfl
  refine w_Mf hR0.ml rfl ?_
  rw [← e.1, ← e.2] at hC0 hU
  refine w_ask (W := m + 5) (B := 127 * (s + 1)) hR0.ml (Or.inl rfl) h5 (by omega) hC0 hU (fun M2 N2 hB _ hA2 g2 g2' => ?_)
  have hR2 := (hR0.bg hB).sc (N' := N2) ⟨fun b hb => g2 b (by omega), fun k hk => g2' k (by omega) (by omega) (by omega)⟩
  have hm2 : MFm m M N M2 N2 := hm0.tr (MFm.bg hB (fun b hb => g2 b (by omega)))
  refine w_Mf hR2.ml rfl ?_
  refine w_findMaps (D := 0) (Or.inr rfl) hR2.ml hA2 hR2.wm (by omega) hR2.ok (fun M3 N3 hB3 h24 hst hb hF => ?_)
  rw [← hq] at hst hb
  have hR3 := (hR2.bg hB3).sc hF.mf
  have hm3 : MFm m M N M3 N3 := hm2.tr (MFm.bg hB3 (fun b hb => hF.mf.1 b (by omega)))
  have h1 : (mpq S y).2.1 ≤ 1 := mpq_1
  refine w_askNow hR3.ml hR3.wm hR3.ok (fun M4 N4 hB4 _ hA4 g4 g4' => ?_)
  have hR4 := (hR3.bg hB4).sc (N' := N4) ⟨fun b hb => g4 b (by omega), fun k hk => g4' k (by omega) (by omega) (by omega)⟩
  have hm4 : MFm m M N M4 N4 := hm3.tr (MFm.bg hB4 (fun b hb => g4 b (by omega)))
  have h := fun v => h M4 N4 v hR4 hm4 (fun k a b => by rw [g4' k (by omega) (by omega) (by omega), hF.2 k (by omega) (by omega) (by omega) (by omega) (by omega), g2' k (by omega) (by omega) (by omega), hk0 k a b]) (by rw [g4' 43 (by omega) (by omega) (by omega)]; exact hst.1) hb
  generalize mpq S y = st at *
  obtain ⟨b1, b2, b3⟩ := hb
  refine w_MI hR4.ml ?_
  rw [g4' 45 (by omega) (by omega) (by omega), hst.2.1]
  refine w_le ⟨by omega, by omega⟩ ⟨by omega, by omega⟩ (fun e1 => ?_) (fun e1 => ?_)
  · refine w_MI hR4.ml ?_
    rw [g4' 46 (by omega) (by omega) (by omega), hst.2.2]
    refine w_eq ⟨by omega, by omega⟩ ⟨by omega, by omega⟩ (fun e2 => ?_) (fun e2 => ?_)
    · exact w_jp (h 0 (Or.inr (Or.inl ⟨rfl, by omega, by omega⟩)))
    · rw [show (9 : Int32) = zI 9 from rfl]
      exact w_jp (h 9 (Or.inr (Or.inr ⟨rfl, by omega, by omega⟩)))
  · exact w_jp (h 1 (Or.inl ⟨rfl, by omega⟩))
theorem m_same {f : Int32 → JM Mem τ} {Q : τ → Mem → NM → Prop} {s : Nat} {y : Wd} (hR : MR M N m S) (hs : s < 4) (hy : S.1.2.1 s = some y)
    (h : ∀ M' N' v, MR M' N' m S → MFm m M N M' N' → N' m 43 = ((mpq S y).1 : Nat) → SkB (mpq S y) → (v = 1 ∧ (mpq S y).2.1 = 1 ∨ v = 0 ∧ (mpq S y).2.1 = 0 ∧ (mpq S y).2.2 = 0 ∨ v = 9 ∧ (mpq S y).2.1 = 0 ∧ (mpq S y).2.2 = 1) → GN M' N' (f (zI v)) Q) :
    GN M N (jb (jcall 7 m (f_X8_same m (zI s))) f) Q :=
  m_same2 hR hs hy (fun M' N' v a b _ d e g => h M' N' v a b d e g)
end OPS5
