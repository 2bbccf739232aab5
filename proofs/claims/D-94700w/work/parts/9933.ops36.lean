/-! RUN: the model's walk. -/
set_option maxRecDepth 100000
section OPS36
variable {α τ ρ σ : Type} {M M' M1 M2 : Mem} {N N' N1 : NM} {c m i j q n A : Nat} {u v z b d e t k : Int} {S S' : St} {H : Hs} {a : Nat → Int} {p : Int} {T : Nat → Nat → Nat → Int} {W B : Nat} {s : Scr}
theorem w_unroll {b : σ → JM Mem (ρ ⊕ σ)} {t : σ} {Q : ρ → Mem → NM → Prop} (h : GN M N (b t) (LQ Q (fun t1 M1 N1 => GN M1 N1 (jloop b t1) Q))) : GN M N (jloop b t) Q := by
  obtain ⟨r, M1, e, B, N1, rfl, q⟩ := h
  cases r with
  | inl v => exact ⟨v, _, jloop_inl e, B, N1, rfl, q⟩
  | inr t1 =>
    obtain ⟨v, M2, e2, q2⟩ := q
    exact ⟨v, M2, (jloop_inr e).trans e2, q2⟩
/-- a run's memory, the model's -/
def RkM (M : Mem) (N : NM) (m : Nat) (S : St) (s : Scr) (R : RS) : Prop := R.1.2.2 = some s ∧ MR M N m (stH S R.1) ∧ RsM N m R ∧ R.2.1 ≤ 300 ∧ R.2.2.2.2 ≤ 1
theorem RkM.fld {R R' : RS} {k : Nat} {v : Int} (h : RkM M N m S s R) (hk : 50 ≤ k ∧ k ≤ 53) (e : R'.1 = R.1) (e1 : RsM (up2 N m k v) m R') (e2 : R'.2.1 ≤ 300 ∧ R'.2.2.2.2 ≤ 1) : RkM M (up2 N m k v) m S s R' :=
  ⟨by rw [e]; exact h.1, by rw [e]; exact h.2.1.fld hk v, e1, e2.1, e2.2⟩
def OneM (m : Nat) (S : St) (s : Scr) (one : Nat → RS → RS) (g : Nat → Int32 → JM Mem Unit) (P : Nat → Prop) : Prop := ∀ i, i < s.1 → P i → ∀ (R : RS) (M : Mem) (N : NM), RkM M N m S s R → R.2.2.2.2 = 0 → GN M N (g m (zI i)) (fun _ M' N' => RkM M' N' m S s (one i R) ∧ MFm m M N M' N')
theorem RkM.over {R : RS} (h : RkM M N m S s R) : N m 50 = R.2.2.2.2 := h.2.2.1.2.2.2
theorem m_doAll {one : Nat → RS → RS} {g : Nat → Int32 → JM Mem Unit} {P : Nat → Prop} {to : Nat} (hO : ScOk s) (h1 : OneM m S s one g P) (hto : to ≤ s.1) : ∀ f i, to < i + f → i ≤ s.1 → (∀ j, i ≤ j → j < to → P j) → ∀ (R : RS) (M : Mem) (N : NM), RkM M N m S s R → GN M N (jloop (fun t => X8_doAll_L2 g m (zI to) t) (zI i)) (fun _ M' N' => RkM M' N' m S s (rAll one (nxt s.2) to f i R) ∧ MFm m M N M' N') := by
  have h30 := hO.1
  intro f
  induction f with
  | zero =>
    intro i hf hi hP R M N hR
    refine w_unroll ?_
    unfold X8_doAll_L2
    exact w_le ⟨by omega, by omega⟩ ⟨by omega, by omega⟩ (fun _ => w_jinl (w_jp ⟨hR, MFm.rf⟩)) (fun x => absurd x (by omega))
  | succ f ih =>
    intro i hf hi hP R M N hR
    have hov := hR.over
    have hov1 := hR.2.2.2.2
    have eR : rAll one (nxt s.2) to (f + 1) i R = if to ≤ i ∨ R.2.2.2.2 ≠ 0 then R else rAll one (nxt s.2) to f (nxt s.2 i) (one i R) := rfl
    rw [eR]
    refine w_unroll ?_
    unfold X8_doAll_L2
    refine w_le ⟨by omega, by omega⟩ ⟨by omega, by omega⟩ (fun e => ?_) (fun e => ?_)
    · rw [if_pos (Or.inl (by omega))]
      exact w_jinl (w_jp ⟨hR, MFm.rf⟩)
    refine w_MI hR.2.1.ml ?_
    rw [hov, z_0]
    refine w_eq ⟨by omega, by omega⟩ ⟨by omega, by omega⟩ (fun e2 => ?_) (fun e2 => ?_)
    rotate_left
    · rw [if_pos (Or.inr (by omega))]
      exact w_jinl (w_jp ⟨hR, MFm.rf⟩)
    rw [if_neg (by omega)]
    have his : i < s.1 := by omega
    refine w_Mc hR.2.1.ml (gn_mono (h1 i his (hP i (Nat.le_refl _) (by omega)) R M N hR (by omega)) (fun _ M1 N1 q => ?_))
    obtain ⟨hR1, hF1⟩ := q
    have hl := hO.lt his
    rw [show (637 : Int32) = zI 637 from rfl, show (7 : Int32) = zI 7 from rfl, z_6, zI_mul, zI_add, zI_add, show (637 + 7 * (i : Int) + 6) = ((637 + 7 * i + 6 : Nat) : Int) by omega]
    refine m_stp hR1.2.1 hR1.1 hO his (by omega) ?_
    have e6 : s.2 i 6 = (nxt s.2 i : Nat) := by
      have := hO.2 i his
      unfold nxt
      omega
    rw [e6]
    refine w_jcontB ?_
    exact gn_mono (ih (nxt s.2 i) (by omega) hl.2 (fun j h2 h3 => hP j (by omega) h3) _ M1 N1 hR1) (fun _ M2 N2 q2 => ⟨q2.1, hF1.tr q2.2⟩)
/-- rounds of a loop -/
theorem m_rounds {body : RS → RS} {rd : Nat → Int32 → Int32 → JM Mem Unit} {C : Nat} (hO : ScOk s) (hi : i < s.1) (hC : s.2 i 1 = C) (hC99 : C ≤ 99) (hb : ∀ (R : RS) (M : Mem) (N : NM), RkM M N m S s R → R.2.2.2.2 = 0 → GN M N (rd m (zI ((i + 1 : Nat) : Int)) (zI (nxt s.2 i : Nat))) (fun _ M' N' => RkM M' N' m S s (body R) ∧ MFm m M N M' N')) :
    ∀ d k, k + d = C → ∀ (R : RS) (M : Mem) (N : NM), RkM M N m S s R → GN M N (jloop (fun t => X8_doOne_L95 rd m (zI i) (zI ((637 + 7 * i : Nat) : Int)) t) (zI k)) (fun _ M' N' => RkM M' N' m S s (rLoop body d R) ∧ MFm m M N M' N') := by
  have h30 := hO.1
  intro d
  induction d with
  | zero =>
    intro k hk R M N hR
    refine w_unroll ?_
    unfold X8_doOne_L95
    rw [show (1 : Int32) = zI ((1 : Nat) : Int) from rfl]
    refine m_stq hR.2.1 hR.1 hO hi (by omega) ?_
    rw [hC]
    exact w_le ⟨by omega, by omega⟩ ⟨by omega, by omega⟩ (fun _ => w_jinl (w_jp ⟨hR, MFm.rf⟩)) (fun x => absurd x (by omega))
  | succ d ih =>
    intro k hk R M N hR
    have hov := hR.over
    have hov1 := hR.2.2.2.2
    have eR : rLoop body (d + 1) R = if R.2.2.2.2 ≠ 0 then R else rLoop body d (body R) := rfl
    rw [eR]
    have step : GN M N (X8_doOne_L95 rd m (zI i) (zI ((637 + 7 * i : Nat) : Int)) (zI k)) (LQ (fun _ M' N' => R.2.2.2.2 ≠ 0 ∧ M' = M ∧ N' = N) (fun t M1 N1 => R.2.2.2.2 = 0 ∧ t = zI ((k + 1 : Nat) : Int) ∧ RkM M1 N1 m S s (body R) ∧ MFm m M N M1 N1)) := by
      unfold X8_doOne_L95
      rw [show (1 : Int32) = zI ((1 : Nat) : Int) from rfl]
      refine m_stq hR.2.1 hR.1 hO hi (by omega) ?_
      rw [hC]
      refine w_le ⟨by omega, by omega⟩ ⟨by omega, by omega⟩ (fun x => absurd x (by omega)) (fun _ => ?_)
      refine w_MI hR.2.1.ml ?_
      rw [hov, z_0]
      refine w_eq ⟨by omega, by omega⟩ ⟨by omega, by omega⟩ (fun e2 => ?_) (fun e2 => ?_)
      rotate_left
      · exact w_jinl (w_jp ⟨by omega, rfl, rfl⟩)
      rw [z_6]
      rw [show (zI 6 : Int32) = zI ((6 : Nat) : Int) from rfl]
      refine m_stq hR.2.1 hR.1 hO hi (by omega) ?_
      have e6 : s.2 i 6 = (nxt s.2 i : Nat) := by
        have := hO.2 i hi
        unfold nxt
        omega
      rw [e6, zI_add, zI_add, show ((i : Int) + (1 : Nat)) = ((i + 1 : Nat) : Int) by omega, show ((k : Int) + (1 : Nat)) = ((k + 1 : Nat) : Int) by omega]
      refine w_Mc hR.2.1.ml (gn_mono (hb R M N hR (by omega)) (fun _ M1 N1 q => ?_))
      exact w_jcontB ⟨by omega, rfl, q.1, q.2⟩
    refine w_unroll (gn_mono step (fun r B N' q => ?_))
    cases r with
    | inl v =>
      obtain ⟨q1, rfl, rfl⟩ := q
      show RkM B N' m S s _ ∧ _
      rw [if_pos q1]
      exact ⟨hR, MFm.rf⟩
    | inr t1 =>
      obtain ⟨q1, rfl, hR1, hF1⟩ := q
      rw [if_neg (by omega)]
      exact gn_mono (ih (k + 1) (by omega) _ B N' hR1) (fun _ M2 N2 q2 => ⟨q2.1, hF1.tr q2.2⟩)
theorem plH_sc {H : Hs} {a : Nat → Int} : (plH H a).2.2 = H.2.2 := by
  unfold plH
  split
  · rfl
  · split
    · rfl
    · split
      · rfl
      · split <;> rfl
theorem RkM.up1 {R : RS} (h : RkM M N m S s R) (h3 : R.2.1 < 300) : RkM M (up2 N m 51 (R.2.1 + 1 : Nat)) m S s (up1 R) := by
  obtain ⟨h1, h2, ⟨a1, a2, a3, a4⟩, h4, h5⟩ := h
  exact ⟨h1, h2.fld (by omega) _, ⟨upv, by rw [upk (by omega)]; exact a2, by rw [upk (by omega)]; exact a3, by rw [upk (by omega)]; exact a4⟩, by show R.2.1 + 1 ≤ 300; omega, h5⟩
theorem MFm.up0 {k : Nat} {v : Int} : MFm m M N M (up2 N m k v) := MFm.rf.up
theorem m_one (hO : ScOk s) : ∀ d, OneM m S s (rOne s d) (f_X8_doOne d) (fun i => 8 ≤ d + dpt s i) := by
  have h30 := hO.1
  intro d
  induction d with
  | zero =>
    intro i hi hP
    have := dpt_3 hO hi
    have hP : 8 ≤ 0 + dpt s i := hP
    omega
  | succ d ih =>
    intro i hi hP R M N hR hov0
    have hk0 := hO.2 i hi
    have hl := hO.lt hi
    have eR : rOne s (d + 1) i R = if R.2.1 = 300 then (R.1, R.2.1, R.2.2.1, 1, 1)
      else if s.2 i 0 = 6 then @ite _ (tst R.1 (s.2 i)) (Classical.propDecidable _) (rAll (rOne s d) (nxt s.2) (nxt s.2 i) 31 (i + 1) (up1 R)) (up1 R)
      else if s.2 i 0 = 7 then rLoop (rAll (rOne s d) (nxt s.2) (nxt s.2 i) 31 (i + 1)) (s.2 i 1).toNat (up1 R)
      else if s.2 i 0 = 8 then (R.1, R.2.1 + 1, R.2.2.1, R.2.2.2.1, 1)
      else rPl R.1 (up1 R) (s.2 i) := rfl
    rw [eR]
    show GN M N (e_X8_doOne (e_X8_doAll (f_X8_doOne d)) m (zI i)) _
    unfold e_X8_doOne
    obtain ⟨a1, a2, a3, a4⟩ := hR.2.2.1
    have hM := hR.2.1.ml
    have hdn := hR.2.2.2.1
    refine w_MI hM ?_
    rw [a1, show (300 : Int32) = zI 300 from rfl, z_1, z_0]
    refine w_eq ⟨by omega, by omega⟩ ⟨by omega, by omega⟩ (fun e => ?_) (fun e => ?_)
    · rw [if_pos (by omega)]
      refine w_Mput hM (w_MputZ hM (Or.inr rfl) (w_jp ⟨?_, MFm.up0.up⟩))
      exact ⟨hR.1, (hR.2.1.fld (by omega) 1).fld (by omega) 1, ⟨by rw [upk (by omega), upk (by omega)]; exact a1, by rw [upk (by omega), upk (by omega)]; exact a2, by rw [upk (by omega), upv]; rfl, by rw [upv]; rfl⟩, hdn, by show 1 ≤ 1; omega⟩
    rw [if_neg (show ¬ R.2.1 = 300 by omega)]
    refine w_MI hM ?_
    rw [a1, zI_add, show ((R.2.1 : Int) + 1) = ((R.2.1 + 1 : Nat) : Int) by omega]
    refine w_Mput hM ?_
    have hR1 := hR.up1 (by omega)
    have hF1 : MFm m M N M (up2 N m 51 (R.2.1 + 1 : Nat)) := MFm.up0
    generalize up2 N m 51 (R.2.1 + 1 : Nat) = N1 at hR1 hF1
    refine w_jlet ?_
    rw [show (637 : Int32) = zI 637 from rfl, show (7 : Int32) = zI 7 from rfl, zI_mul, zI_add, show (637 + 7 * (i : Int)) = ((637 + 7 * i : Nat) : Int) by omega]
    have hw := hR1.2.1.wm
    have hok := hR1.2.1.ok
    refine w_askNow hM hw hok (fun M2 N2 hB2 _ hA2 g2 g2' => ?_)
    have hR2 : RkM M2 N2 m S s (up1 R) := ⟨hR1.1, (hR1.2.1.bg hB2).sc ⟨fun b hb => g2 b (by omega), fun k hk => g2' k (by omega) (by omega) (by omega)⟩, hR1.2.2.1.fr (fun k x y => g2' k (by omega) (by omega) (by omega)), hR1.2.2.2⟩
    have hF2 : MFm m M N M2 N2 := hF1.tr (MFm.bg hB2 (fun b hb => g2 b (by omega)))
    have hM2 := hR2.2.1.ml
    have hov2 : (up1 R).2.2.2.2 = 0 := hov0
    have hbody : ∀ (R : RS) (M : Mem) (N : NM), isBl s.2 i → RkM M N m S s R → GN M N (e_X8_doAll (f_X8_doOne d) m (zI ((i + 1 : Nat) : Int)) (zI (nxt s.2 i : Nat))) (fun _ M' N' => RkM M' N' m S s (rAll (rOne s d) (nxt s.2) (nxt s.2 i) 31 (i + 1) R) ∧ MFm m M N M' N') := fun R M N _ hR => by
      unfold e_X8_doAll
      refine m_doAll hO ih hl.2 31 (i + 1) (by omega) (by omega) (fun j h1 h2 => ?_) R M N hR
      have := dpt_in hO hi (show i < j by omega) h2
      have hP : 8 ≤ d + 1 + dpt s i := hP
      show 8 ≤ d + dpt s j
      omega
    refine m_st0 hR2.2.1 hR2.1 hO hi ?_
    rw [z_6]
    refine w_eq ⟨by omega, by omega⟩ ⟨by omega, by omega⟩ (fun e6 => ?_) (fun e6 => ?_)
    · rw [if_pos e6]
      refine m_isSoNow hR2.2.1 hA2 hR2.1 hO hi e6 (fun M3 N3 v hv hR3 hF3 hk3 => ?_)
      have hRk3 : RkM M3 N3 m S s (up1 R) := ⟨hR2.1, hR3, hR2.2.2.1.fr hk3, hR2.2.2.2⟩
      rcases hv with ⟨rfl, ht⟩ | ⟨rfl, ht⟩
      · have ht : tst R.1 (s.2 i) := ht
        rw [if_pos ht]
        refine w_eq ⟨by omega, by omega⟩ ⟨by omega, by omega⟩ (fun x => absurd x (by decide)) (fun _ => ?_)
        rw [show (zI 6 : Int32) = zI ((6 : Nat) : Int) from rfl, show (zI 1 : Int32) = zI ((1 : Nat) : Int) from rfl]
        refine m_stq hR3 hRk3.1 hO hi (by omega) ?_
        have e6 : s.2 i 6 = (nxt s.2 i : Nat) := by unfold nxt; omega
        rw [e6, zI_add, show ((i : Int) + (1 : Nat)) = ((i + 1 : Nat) : Int) by omega]
        exact w_Mc hR3.ml (gn_mono (hbody _ M3 N3 (Or.inl (by assumption)) hRk3) (fun _ M4 N4 q => w_jp ⟨q.1, (hF2.tr hF3).tr q.2⟩))
      · have ht : ¬ tst R.1 (s.2 i) := ht
        rw [if_neg ht]
        exact w_eq ⟨by omega, by omega⟩ ⟨by omega, by omega⟩ (fun _ => w_jp ⟨hRk3, hF2.tr hF3⟩) (fun x => absurd rfl x)
    rw [if_neg e6]
    refine m_st0 hR2.2.1 hR2.1 hO hi ?_
    refine w_eq ⟨by omega, by omega⟩ ⟨by omega, by omega⟩ (fun e7 => ?_) (fun e7 => ?_)
    · rw [if_pos e7]
      have h7 := (hO.arg hi).2.2.2.2.2 e7
      refine gn_mono (m_rounds (C := (s.2 i 1).toNat) hO hi (by omega) (by omega) (fun R M N hR _ => hbody R M N (Or.inr e7) hR) (s.2 i 1).toNat 0 (by omega) (up1 R) M2 N2 hR2) (fun _ M3 N3 q => ⟨q.1, hF2.tr q.2⟩)
    rw [if_neg e7]
    refine m_st0 hR2.2.1 hR2.1 hO hi ?_
    refine w_le ⟨by omega, by omega⟩ ⟨by omega, by omega⟩ (fun e8 => ?_) (fun e8 => ?_)
    · rw [if_neg (show ¬ s.2 i 0 = 8 by omega)]
      refine m_doPlain hR2.2.1 hA2 hR2.1 hO hi (by omega) (fun N3 v hv hF3 hk3 => ?_)
      unfold rPl
      rcases hv with ⟨rfl, ht, hR3⟩ | ⟨rfl, ht, hR3⟩
      · have ht : plOk R.1 (s.2 i) := ht
        rw [if_pos ht]
        exact w_eq ⟨by omega, by omega⟩ ⟨by omega, by omega⟩ (fun x => absurd x (by decide)) (fun _ => w_jp ⟨⟨plH_sc.trans hR2.1, hR3, hR2.2.2.1.fr hk3, hR2.2.2.2⟩, hF2.tr hF3⟩)
      · have ht : ¬ plOk R.1 (s.2 i) := ht
        rw [if_neg ht]
        have hRk3 : RkM M2 N3 m S s (up1 R) := ⟨hR2.1, hR3, hR2.2.2.1.fr hk3, hR2.2.2.2⟩
        refine w_eq ⟨by omega, by omega⟩ ⟨by omega, by omega⟩ (fun _ => ?_) (fun x => absurd rfl x)
        refine w_MI hR3.ml ?_
        obtain ⟨c1, c2, c3, c4⟩ := hRk3.2.2.1
        rw [c2, zI_add]
        refine w_Mput hR3.ml (w_jp ⟨⟨hRk3.1, hR3.fld (by omega) _, ⟨by rw [upk (by omega)]; exact c1, by rw [upv]; rfl, by rw [upk (by omega)]; exact c3, by rw [upk (by omega)]; exact c4⟩, hRk3.2.2.2⟩, (hF2.tr hF3).up⟩)
    · rw [if_pos (show s.2 i 0 = 8 by omega)]
      obtain ⟨c1, c2, c3, c4⟩ := hR2.2.2.1
      refine w_MputZ hM2 (Or.inr rfl) (w_jp ⟨⟨hR2.1, hR2.2.1.fld (by omega) _, ⟨by rw [upk (by omega)]; exact c1, by rw [upk (by omega)]; exact c2, by rw [upk (by omega)]; exact c3, by rw [upv]; rfl⟩, hR2.2.2.2.1, by show 1 ≤ 1; omega⟩, hF2.up⟩)
end OPS36
