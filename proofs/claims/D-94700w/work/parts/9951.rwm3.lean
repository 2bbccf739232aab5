/-! TEXTS: the model reads a world; the op. -/
set_option maxRecDepth 100000
section RWM3
variable {α τ : Type} {M M' M0 : Mem} {N N' N0 : NM} {m a k e e0 b d i j f : Nat} {z lo hi kd p : Int} {t : Tx} {tk tk' : Tk} {Q : τ → Mem → NM → Prop} {st : Except Er Tk} {S : Tbl} {D : Nat → Nat → Bool}
theorem lsT_fr {u : Tk} (h : TkOk t u) : u.1 ≤ (lsT t u).1 ∧ TkOk t (lsT t u) := by
  unfold lsT
  by_cases c : kw t u 4
  · rw [if_pos c]
    have := kw_lt h c
    have := nx_ok h
    exact ⟨by omega, this.1⟩
  · rw [if_neg c]
    exact ⟨Nat.le_refl _, h⟩
theorem nx_fr {u : Tk} (h : TkOk t u) : u.1 ≤ (nx t u).1 ∧ TkOk t (nx t u) := by
  have h1 := nx_ok h
  refine ⟨?_, h1.1⟩
  by_cases q : u.2.2.1 = 0
  · have := h.2.2.2.1 q; omega
  · have := h.2.2.2.2.1 q; omega
theorem nx_lt {u : Tk} (h : TkOk t u) (h0 : u.2.2.1 ≠ 0) : u.1 < (nx t u).1 := by
  have h1 := nx_ok h
  have := h.2.2.2.2.1 h0
  omega
theorem pTerms_fr {n : Nat} : ∀ f (u : Tk) (S : Tbl) (h : Nat → Bool) (y : Tk × Tbl), TkOk t u → pTerms t p n i j f u S h = .ok y → u.1 ≤ y.1.1 ∧ TkOk t y.1 := by
  intro f
  induction f with
  | zero => intro u S h y _ e; cases e
  | succ f ih =>
    intro u S h y hu e
    have e1 : pTerms t p n i j (f + 1) u S h = pbd (pPas t 1 (p - 1) (lsT t u)) fun x => pbd (pWord t 5 x.2) fun u2 => pbd (pNum 0 ((n : Int) - 1) u2) fun k =>
      if h k.toNat = true then .error (flt u2 5) else @ite _ (mrT t (nx t u2)) (Classical.propDecidable _) (pTerms t p n i j f (nx t u2) (stT S i j k.toNat (lsV t u x.1)) (setB h k.toNat)) (.ok (nx t u2, stT S i j k.toNat (lsV t u x.1))) := rfl
    rw [e1] at e
    obtain ⟨l1, l2⟩ := lsT_fr hu
    generalize lsT t u = w at *
    rcases pPas_c (t := t) (u := w) (lo := 1) (hi := p - 1) with ⟨_, _, _, _, a5⟩ | ⟨er, _, a5⟩
    rotate_left
    · rw [a5] at e; cases e
    rw [a5, pbd_ok] at e
    obtain ⟨l3, l4⟩ := nx_fr l2
    have e : pbd (pWord t 5 (nx t w)) _ = _ := e
    generalize nx t w = w1 at *
    rcases pWord_c (t := t) (u := w1) (k := 5) with ⟨_, c2⟩ | ⟨_, c2⟩
    rotate_left
    · rw [c2] at e; cases e
    rw [c2, pbd_ok] at e
    obtain ⟨l5, l6⟩ := nx_fr l4
    generalize nx t w1 = u2 at *
    rcases pPas_c (t := t) (u := u2) (lo := 0) (hi := (n : Int) - 1) with ⟨_, _, _, a4, _⟩ | ⟨er, a4, _⟩
    rotate_left
    · rw [a4] at e; cases e
    rw [a4, pbd_ok] at e
    obtain ⟨l7, l8⟩ := nx_fr l6
    split at e
    · cases e
    · by_cases c : mrT t (nx t u2)
      · rw [if_pos c] at e
        obtain ⟨l9, l10⟩ := ih _ _ _ _ l8 e
        exact ⟨by omega, l10⟩
      · rw [if_neg c] at e
        have e := Except.ok.inj e
        rw [← e]
        exact ⟨by show u.1 ≤ (nx t u2).1; omega, l8⟩
theorem pBr1_fr {n : Nat} {u : Tk} {y : (Tk × Tbl) × Nat × Nat} (hu : TkOk t u) (h0 : u.2.2.1 ≠ 0) (e : pBr1 t p n u S D = .ok y) : u.1 < y.1.1.1 ∧ TkOk t y.1.1 := by
  unfold pBr1 at e
  have l1 := nx_lt hu h0
  have l2 := (nx_fr hu).2
  generalize nx t u = u1 at *
  rcases pPas_c (t := t) (u := u1) (lo := 0) (hi := (n : Int) - 1) with ⟨_, _, _, _, a5⟩ | ⟨er, _, a5⟩
  rotate_left
  · rw [a5] at e; cases e
  rw [a5, pbd_ok] at e
  obtain ⟨l3, l4⟩ := nx_fr l2
  have e : pbd (pNum (u1.2.2.2 + 1) ((n : Int) - 1) (nx t u1)) _ = _ := e
  generalize nx t u1 = u2 at *
  rcases pPas_c (t := t) (u := u2) (lo := u1.2.2.2 + 1) (hi := (n : Int) - 1) with ⟨_, _, _, a4, _⟩ | ⟨er, a4, _⟩
  rotate_left
  · rw [a4] at e; cases e
  rw [a4, pbd_ok] at e
  obtain ⟨l5, l6⟩ := nx_fr l4
  split at e
  · cases e
  have e : pbd (pWord t 3 (nx t u2)) _ = _ := e
  generalize nx t u2 = u3 at *
  rcases pWord_c (t := t) (u := u3) (k := 3) with ⟨_, c2⟩ | ⟨_, c2⟩
  rotate_left
  · rw [c2] at e; cases e
  rw [c2, pbd_ok] at e
  obtain ⟨l7, l8⟩ := nx_fr l6
  cases eT : pTerms t p n u1.2.2.2.toNat u2.2.2.2.toNat (t.1 + 1) (nx t u3) S (fun _ => false) with
  | error er =>
    have e : pbd (pTerms t p n u1.2.2.2.toNat u2.2.2.2.toNat (t.1 + 1) (nx t u3) S (fun _ => false)) _ = _ := e
    rw [eT] at e
    cases e
  | ok y1 =>
    have e : pbd (pTerms t p n u1.2.2.2.toNat u2.2.2.2.toNat (t.1 + 1) (nx t u3) S (fun _ => false)) _ = _ := e
    rw [eT] at e
    have e := Except.ok.inj e
    obtain ⟨l9, l10⟩ := pTerms_fr _ _ _ _ _ l8 eT
    rw [← e]
    exact ⟨by show u.1 < y1.1.1; omega, l10⟩
theorem pBrs_1 {n : Nat} {u : Tk} (h0 : u.2.2.1 ≠ 0) (hk : kw t u 2) : pBrs t p n (f + 1) u S D = pbd (pBr1 t p n u S D) fun y => pbd (pSgn t y.1.1) fun u4 => pBrs t p n f u4 y.1.2 (setD D y.2.1 y.2.2) := by
  have e1 : pBrs t p n (f + 1) u S D = if u.2.2.1 = 0 then .ok S else pbd (pWord t 2 u) fun u1 => pbd (pPas t 0 ((n : Int) - 1) u1) fun x => pbd (pNum (x.1 + 1) ((n : Int) - 1) x.2) fun j =>
      if D x.1.toNat j.toNat = true then .error (flt x.2 5) else pbd (pWord t 3 (nx t x.2)) fun u3 => pbd (pTerms t p n x.1.toNat j.toNat (t.1 + 1) u3 S (fun _ => false)) fun y => pbd (pSgn t y.1) fun u4 => pBrs t p n f u4 y.2 (setD D x.1.toNat j.toNat) := rfl
  rw [e1, if_neg h0, show pWord t 2 u = .ok (nx t u) from if_pos hk, pbd_ok]
  unfold pBr1
  cases pPas t 0 ((n : Int) - 1) (nx t u) with
  | error er => rfl
  | ok x =>
    rw [pbd_ok, pbd_ok]
    cases pNum (x.1 + 1) ((n : Int) - 1) x.2 with
    | error er => rfl
    | ok jj =>
      rw [pbd_ok, pbd_ok]
      by_cases c : D x.1.toNat jj.toNat = true
      · rw [if_pos c, if_pos c]; rfl
      · rw [if_neg c, if_neg c]
        cases pWord t 3 (nx t x.2) with
        | error er => rfl
        | ok u3 =>
          rw [pbd_ok, pbd_ok]
          cases pTerms t p n x.1.toNat jj.toNat (t.1 + 1) u3 S (fun _ => false) with
          | error er => rfl
          | ok y => rfl
def RlM (M : Mem) (N : NM) (m : Nat) (t : Tx) (p : Int) (n : Nat) (r : Except Er Tbl) : Prop := match r with
  | .ok S => (∃ u, PSM M N m t (.ok u)) ∧ ∃ D, WCd N (m + 6) p n (altT p n S) D
  | .error er => PSM M N m t (.error er)
theorem m_brs {n : Nat} {Q : Int32 → Mem → NM → Prop} (hn : 1 ≤ n ∧ n ≤ 5) (hp : Pr p) :
    ∀ f (st : Except Er Tk) (S : Tbl) (D : Nat → Nat → Bool) (M : Mem) (N : NM), (∀ u, st = .ok u → t.1 < f + u.1 ∧ WCd N (m + 6) p n (altT p n S) D) → ML M m → PSM M N m t st →
      (∀ M' N', NzM m M N M' N' → RlM M' N' m t p n (pbd st (fun u => pBrs t p n f u S D)) → GN M' N' (X8_world_b167 m (zI n)) Q) → GN M N (jloop (fun _ => X8_world_L122 m (zI n)) ()) Q := by
  intro f
  induction f with
  | zero =>
    intro st S D M N hf hM hP k1
    cases st with
    | ok u =>
      have := (hf u rfl).1
      have := hP.at.2.1.1
      omega
    | error er =>
      refine w_unroll ?_
      unfold X8_world_L122
      rw [z_0]
      refine m_badV hM hP (fun v v1 v2 _ => ?_)
      exact w_eq ⟨by omega, by omega⟩ ⟨by omega, by omega⟩ (fun x => absurd x (by omega)) (fun _ => w_jinl (k1 M N NzM.rf hP))
  | succ f ih =>
    intro st S D M N hf hM hP k1
    cases st with
    | error er =>
      refine w_unroll ?_
      unfold X8_world_L122
      rw [z_0]
      refine m_badV hM hP (fun v v1 v2 _ => ?_)
      exact w_eq ⟨by omega, by omega⟩ ⟨by omega, by omega⟩ (fun x => absurd x (by omega)) (fun _ => w_jinl (k1 M N NzM.rf hP))
    | ok u =>
      obtain ⟨hf, hD⟩ := hf u rfl
      rw [pbd_ok] at k1
      have hx := hP.at
      have hso := hx.2.1.2.2.1
      have hmb := mso_b hx.2.1
      refine w_unroll ?_
      unfold X8_world_L122
      rw [z_0]
      refine m_good hM hP ?_
      refine w_eq ⟨by omega, by omega⟩ ⟨by omega, by omega⟩ (fun _ => ?_) (fun x => absurd rfl x)
      refine w_MI hM ?_
      rw [hx.2.2.1]
      refine w_eq ⟨by omega, by omega⟩ ⟨by omega, by omega⟩ (fun q => ?_) (fun q => ?_)
      · have q0 : u.2.2.1 = 0 := mso_inj hso (by omega) (q.trans rfl)
        have e1 : pBrs t p n (f + 1) u S D = .ok S := if_pos q0
        rw [e1] at k1
        exact w_jinl (k1 M N NzM.rf ⟨⟨u, hP⟩, D, hD⟩)
      have q0 : u.2.2.1 ≠ 0 := fun e => q (by rw [e]; rfl)
      have hend : ∀ (st1 : Except Er Tk) (M1 : Mem) (N1 : NM), NzM m M N M1 N1 → PSM M1 N1 m t st1 → (∀ M2 N2, NzM m M1 N1 M2 N2 → (N2 (m + 6) = N1 (m + 6)) → PSM M2 N2 m t (pbd st1 (pSgn t)) → GN M2 N2 (jloop (fun _ => X8_world_L122 m (zI n)) ()) Q) → GN M1 N1 (X8_world_b154 m (zI n)) (LQ Q (fun t1 M1 N1 => GN M1 N1 (jloop (fun _ => X8_world_L122 m (zI n)) t1) Q)) := fun st1 M1 N1 hF1 hP1 hg => by
        unfold X8_world_b154
        rw [show (59 : Int32) = zI 59 from rfl]
        exact m_mustSg (hF1.ml hM) hP1 (fun M2 N2 g2 hP2 => w_jcontB (hg M2 N2 g2.nz (g2.1 _ (by omega)) hP2))
      refine m_isBracket hM hx (fun v hv => ?_)
      rcases hv with ⟨rfl, hk⟩ | ⟨rfl, hk⟩
      · refine w_eq ⟨by omega, by omega⟩ ⟨by omega, by omega⟩ (fun x => absurd x (by decide)) (fun _ => ?_)
        rw [pBrs_1 q0 hk] at k1
        refine m_readBracket hM hn hp hP hD (fun M1 N1 hF1 hr1 => ?_)
        cases eB : pBr1 t p n u S D with
        | error er =>
          rw [eB] at hr1 k1
          have hr1 : PSM M1 N1 m t (.error er) := hr1
          refine hend (.error er) M1 N1 hF1 hr1 (fun M2 N2 hF2 _ hP2 => ih (.error er) S D M2 N2 (fun u e => nomatch e) ((hF1.tr hF2).ml hM) hP2 (fun M3 N3 hF3 hr3 => k1 M3 N3 ((hF1.tr hF2).tr hF3) hr3))
        | ok y =>
          rw [eB] at hr1 k1
          obtain ⟨hP1, hD1⟩ := hr1
          obtain ⟨l1, l2⟩ := pBr1_fr hx.2.1 q0 eB
          refine hend (.ok y.1.1) M1 N1 hF1 hP1 (fun M2 N2 hF2 e6 hP2 => ?_)
          have hD2 : WCd N2 (m + 6) p n (altT p n y.1.2) (setD D y.2.1 y.2.2) := hD1.fr e6
          have l3 := nx_fr l2
          rw [pbd_ok] at hP2 k1
          refine ih (pSgn t y.1.1) y.1.2 (setD D y.2.1 y.2.2) M2 N2 (fun u4 e => ⟨?_, hD2⟩) ((hF1.tr hF2).ml hM) hP2 (fun M3 N3 hF3 hr3 => k1 M3 N3 ((hF1.tr hF2).tr hF3) hr3)
          rcases pSgn_c (t := t) (u := y.1.1) with ⟨_, c2⟩ | ⟨_, c2⟩
          · rw [c2] at e
            have e := Except.ok.inj e
            rw [← e]
            omega
          · rw [c2] at e; cases e
      · refine w_eq ⟨by omega, by omega⟩ ⟨by omega, by omega⟩ (fun _ => ?_) (fun x => absurd rfl x)
        have e1 : pBrs t p n (f + 1) u S D = .error (flt u 2) := by
          show (if u.2.2.1 = 0 then _ else pbd (pWord t 2 u) _) = _
          rw [if_neg q0, show pWord t 2 u = .error (flt u 2) from if_neg hk]
          rfl
        rw [e1] at k1
        obtain ⟨tk0, hx0, rfl, h12⟩ := hP
        refine m_wrong hM hx0 h12 (fun N1 g1 hP1 => ?_)
        exact hend (.error (flt u 2)) M N1 g1.nz hP1 (fun M2 N2 hF2 _ hP2 => ih (.error (flt u 2)) S D M2 N2 (fun u e => nomatch e) ((g1.nz.tr hF2).ml hM) hP2 (fun M3 N3 hF3 hr3 => k1 M3 N3 ((g1.nz.tr hF2).tr hF3) hr3))
end RWM3
