/-! TEXTS: the model reads terms, brackets. -/
set_option maxRecDepth 100000
section RWM
variable {α τ : Type} {M M' M0 : Mem} {N N' N0 : NM} {m a k e e0 b d i j n : Nat} {z lo hi kd p : Int} {t : Tx} {tk tk' : Tk} {Q : τ → Mem → NM → Prop} {st : Except Er Tk} {S : Tbl} {D : Nat → Nat → Bool}
/-- what a reading comes to -/
def RdM (M : Mem) (N : NM) (m : Nat) (t : Tx) (p : Int) (n : Nat) (D : Nat → Nat → Bool) (r : Except Er (Tk × Tbl)) : Prop := match r with
  | .ok y => PSM M N m t (.ok y.1) ∧ WCd N (m + 6) p n (altT p n y.2) D
  | .error er => PSM M N m t (.error er)
theorem m_badV {f : Int32 → JM Mem τ} {er : Er} (hM : ML M m) (hp : PSM M N m t (.error er)) (h : ∀ v : Int, 1 ≤ v → v ≤ 7 → v = er.1 → GN M N (f (zI v)) Q) : GN M N (jb (jgetI 7 12 m) f) Q := by
  obtain ⟨tk, _, e1, e2, e3, _⟩ := hp
  refine w_MI hM ?_
  rw [e3]
  exact h er.1 e1 e2 rfl
theorem m_good {f : Int32 → JM Mem τ} {u : Tk} (hM : ML M m) (hp : PSM M N m t (.ok u)) (h : GN M N (f (zI 0)) Q) : GN M N (jb (jgetI 7 12 m) f) Q := by
  obtain ⟨tk, _, _, e2⟩ := hp
  refine w_MI hM ?_
  rw [e2]
  exact h
theorem PSM.at (h : PSM M N m t (.ok tk)) : MRd M N m t tk := by
  obtain ⟨u, hx, rfl, _⟩ := h
  exact hx
theorem m_terms {Q : Unit → Mem → NM → Prop} (hij : i < j) (hj : j < n) (hn5 : n ≤ 5) (hp : Pr p) :
    ∀ f (u : Tk) (S : Tbl) (h : Nat → Bool) (x5 : Int32) (M : Mem) (N : NM), t.1 < f + u.1 → ML M m → PSM M N m t (.ok u) → WCd N (m + 6) p n (altT p n S) D → (∀ q, q < 5 → btI x5 q = h q) →
      (∀ M' N', NzM m M N M' N' → RdM M' N' m t p n D (pTerms t p n i j f u S h) → Q () M' N') →
      GN M N (jloop (fun (t : Int32 × Int32) => X8_readBracket_L103 m (zI n) (zI i) (zI j) t.1 t.2) (x5, zI 1)) Q := by
  have hp1 := hp.pos
  have hp7 := hp.le7
  intro f
  induction f with
  | zero =>
    intro u S h x5 M N hf _ hP
    have := hP.at.2.1.1
    omega
  | succ f ih =>
    intro u S h x5 M N hf hM hP hD hm k1
    have e1 : pTerms t p n i j (f + 1) u S h = pbd (pPas t 1 (p - 1) (lsT t u)) fun x => pbd (pWord t 5 x.2) fun u2 => pbd (pNum 0 ((n : Int) - 1) u2) fun k =>
      if h k.toNat = true then .error (flt u2 5) else @ite _ (mrT t (nx t u2)) (Classical.propDecidable _) (pTerms t p n i j f (nx t u2) (stT S i j k.toNat (lsV t u x.1)) (setB h k.toNat)) (.ok (nx t u2, stT S i j k.toNat (lsV t u x.1))) := rfl
    rw [e1] at k1
    have h6 : ∀ M, ML M m → mK M (m + 6) = some (.inr (0, 127)) := fun M hM => hM.ka (o := 6) (d := (0, 127)) rfl
    refine w_unroll ?_
    show GN M N (X8_readBracket_L103 m (zI n) (zI i) (zI j) x5 (zI 1)) _
    unfold X8_readBracket_L103
    rw [z_0]
    refine w_eq ⟨by omega, by omega⟩ ⟨by omega, by omega⟩ (fun x => absurd x (by decide)) (fun _ => ?_)
    refine m_good hM hP ?_
    refine w_eq ⟨by omega, by omega⟩ ⟨by omega, by omega⟩ (fun _ => ?_) (fun x => absurd rfl x)
    -- when it went wrong
    have hbadq : ∀ (er : Er) (M1 : Mem) (N1 : NM), NzM m M N M1 N1 → PSM M1 N1 m t (.error er) → (pbd (pPas t 1 (p - 1) (lsT t u)) fun x => pbd (pWord t 5 x.2) fun u2 => pbd (pNum 0 ((n : Int) - 1) u2) fun k =>
      if h k.toNat = true then .error (flt u2 5) else @ite _ (mrT t (nx t u2)) (Classical.propDecidable _) (pTerms t p n i j f (nx t u2) (stT S i j k.toNat (lsV t u x.1)) (setB h k.toNat)) (.ok (nx t u2, stT S i j k.toNat (lsV t u x.1)))) = .error er → Q () M1 N1 := fun er M1 N1 hF hP1 he => by
      rw [he] at k1
      exact k1 M1 N1 hF hP1
    have rest : ∀ (w : Tk) (s0 : Int) (M1 : Mem) (N1 : NM), NzM m M N M1 N1 → PSM M1 N1 m t (.ok w) → WCd N1 (m + 6) p n (altT p n S) D → w = lsT t u → u.1 ≤ w.1 → (s0 = 0 ∧ ¬ kw t u 4 ∨ s0 = 1 ∧ kw t u 4) → GN M1 N1 (X8_readBracket_b130 m (zI n) (zI i) (zI j) x5 (zI s0)) (LQ Q (fun t1 M1 N1 => GN M1 N1 (jloop (fun (t : Int32 × Int32) => X8_readBracket_L103 m (zI n) (zI i) (zI j) t.1 t.2) t1) Q)) := by
      intro w s0 M1 N1 hF1 hP1 hD1 ew hle hs0
      rw [← ew] at k1 hbadq
      have hM1 := hF1.ml hM
      have hs0b : zR s0 := by rcases hs0 with ⟨rfl, _⟩ | ⟨rfl, _⟩ <;> exact ⟨by decide, by decide⟩
      -- the ways out when it went wrong
      have tailC : ∀ (er : Er) (M3 : Mem) (N3 : NM) (y8 y10 : Int32), NzM m M N M3 N3 → PSM M3 N3 m t (.error er) → (pbd (pPas t 1 (p - 1) w) fun x => pbd (pWord t 5 x.2) fun u2 => pbd (pNum 0 ((n : Int) - 1) u2) fun k => if h k.toNat = true then .error (flt u2 5) else @ite _ (mrT t (nx t u2)) (Classical.propDecidable _) (pTerms t p n i j f (nx t u2) (stT S i j k.toNat (lsV t u x.1)) (setB h k.toNat)) (.ok (nx t u2, stT S i j k.toNat (lsV t u x.1)))) = .error er → GN M3 N3 (X8_readBracket_b194 m (zI n) (zI i) (zI j) x5 (zI s0) y8 y10) (LQ Q (fun t1 M1 N1 => GN M1 N1 (jloop (fun (t : Int32 × Int32) => X8_readBracket_L103 m (zI n) (zI i) (zI j) t.1 t.2) t1) Q)) := fun er M3 N3 y8 y10 hF3 hP3 he => by
        unfold X8_readBracket_b194
        rw [z_0]
        refine m_badV (hF3.ml hM) hP3 (fun v v1 v2 _ => ?_)
        exact w_le ⟨by omega, by omega⟩ ⟨by omega, by omega⟩ (fun x => absurd x (by omega)) (fun _ => w_jinl (w_jp (hbadq er M3 N3 hF3 hP3 he)))
      have tailB : ∀ (er : Er) (M3 : Mem) (N3 : NM) (y8 : Int32), NzM m M N M3 N3 → PSM M3 N3 m t (.error er) → (pbd (pPas t 1 (p - 1) w) fun x => pbd (pWord t 5 x.2) fun u2 => pbd (pNum 0 ((n : Int) - 1) u2) fun k => if h k.toNat = true then .error (flt u2 5) else @ite _ (mrT t (nx t u2)) (Classical.propDecidable _) (pTerms t p n i j f (nx t u2) (stT S i j k.toNat (lsV t u x.1)) (setB h k.toNat)) (.ok (nx t u2, stT S i j k.toNat (lsV t u x.1)))) = .error er → GN M3 N3 (jb (jgetI 7 15 m) fun v17 => jb (jcall 7 m (f_X8_count m (zI 0) (zI n - zI 1))) fun v18 => jb (jgetI 7 12 m) fun v19 => if v19 = zI 0 then (if (x5 >>> (v18 &&& 31)) &&& zI 1 = zI 1 then jb (jcall 7 m (f_X8_fail m 5 v17)) fun _ => X8_readBracket_b194 m (zI n) (zI i) (zI j) x5 (zI s0) y8 v18 else X8_readBracket_b194 m (zI n) (zI i) (zI j) x5 (zI s0) y8 v18) else X8_readBracket_b194 m (zI n) (zI i) (zI j) x5 (zI s0) y8 v18) (LQ Q (fun t1 M1 N1 => GN M1 N1 (jloop (fun (t : Int32 × Int32) => X8_readBracket_L103 m (zI n) (zI i) (zI j) t.1 t.2) t1) Q)) := fun er M3 N3 y8 hF3 hP3 he => by
        refine w_MI (hF3.ml hM) ?_
        rw [zI_sub]
        refine m_count (st := .error er) (hF3.ml hM) hP3 ⟨by omega, by omega⟩ ⟨by omega, by omega⟩ (fun M4 N4 g4 hP4 => ?_)
        have hF4 := hF3.tr g4.nz
        refine m_badV (hF4.ml hM) hP4 (fun v v1 v2 _ => ?_)
        exact w_eq ⟨by omega, by omega⟩ ⟨by omega, by omega⟩ (fun x => absurd x (by omega)) (fun _ => tailC er M4 N4 _ _ hF4 hP4 he)
      unfold X8_readBracket_b130
      rw [z_0, z_1]
      refine w_Mf hM1 rfl (w_ald (h6 M1 hM1) (by omega) (by omega) ?_)
      rw [show ((0 : Int).toNat) = 0 from rfl, hD1.1, zI_sub]
      refine m_count (st := .ok w) hM1 hP1 ⟨by omega, by omega⟩ ⟨by omega, by omega⟩ (fun M2 N2 g2 hP2 => ?_)
      have hF2 := hF1.tr g2.nz
      have hM2 := hF2.ml hM
      have hD2 : WCd N2 (m + 6) p n (altT p n S) D := hD1.fr (g2.1 _ (by omega))
      rw [pbd_ok] at hP2 ⊢
      cases eA : pPas t 1 (p - 1) w with
      | error er =>
        rw [eA] at hP2 hbadq tailB tailC
        refine m_must_isOf hM2 hP2 (fun M3 N3 g3 hP3 => ?_)
        exact tailB er M3 N3 _ (hF2.tr g3.nz) hP3 rfl
      | ok y =>
        obtain ⟨v, w1⟩ := y
        rw [eA] at hP2 hbadq tailB tailC k1
        have hvb : 1 ≤ v ∧ v ≤ p - 1 ∧ w.2.2.1 = 3 ∧ w1 = nx t w := by
          unfold pPas pNum at eA
          by_cases c1 : w.2.2.1 = 3
          · rw [if_pos c1] at eA
            by_cases c2 : 1 ≤ w.2.2.2 ∧ w.2.2.2 ≤ p - 1
            · rw [if_pos c2, pbd_ok] at eA
              have := Except.ok.inj eA
              have e1 := congrArg Prod.fst this
              have e2 := congrArg Prod.snd this
              exact ⟨by show 1 ≤ v; rw [← show w.2.2.2 = v from e1]; exact c2.1, by rw [← show w.2.2.2 = v from e1]; exact c2.2, c1, e2.symm⟩
            · rw [if_neg c2, pbd_er] at eA
              cases eA
          · rw [if_neg c1, pbd_er] at eA
            cases eA
        obtain ⟨vb1, vb2, wb3, rfl⟩ := hvb
        have hok1 := hP1.at.2.1
        have q1 := hok1.2.2.2.2.1 (by omega)
        have q2 := (nx_ok hok1).2
        refine m_must_isOf hM2 hP2 (fun M3 N3 g3 hP3 => ?_)
        have hF3 := hF2.tr g3.nz
        have hM3 := hF3.ml hM
        have hD3 : WCd N3 (m + 6) p n (altT p n S) D := hD2.fr (g3.1 _ (by omega))
        have hok2 : TkOk t (nx t w) := (nx_ok hok1).1
        generalize nx t w = w1 at *
        have k1' := k1
        rw [pbd_ok] at k1
        have eB : pbd (Except.ok w1) (pWord t 5) = pWord t 5 w1 := rfl
        show GN M3 N3 _ _
        have hP3 : PSM M3 N3 m t (pWord t 5 w1) := hP3
        unfold pWord at hP3
        by_cases c5 : kw t w1 5
        case neg =>
          rw [if_neg c5] at hP3
          have ee : pWord t 5 w1 = .error (flt w1 2) := if_neg c5
          exact tailB (flt w1 2) M3 N3 _ hF3 hP3 (by rw [pbd_ok]; show pbd (pWord t 5 w1) _ = _; rw [ee]; rfl)
        rw [if_pos c5] at hP3
        have ee : pWord t 5 w1 = .ok (nx t w1) := if_pos c5
        have q3 := kw_lt hok2 c5
        have q4 := (nx_ok hok2).2
        have hok3 := (nx_ok hok2).1
        have k2 : ∀ M' N', NzM m M N M' N' → RdM M' N' m t p n D (pbd (pNum 0 ((n : Int) - 1) (nx t w1)) fun k => if h k.toNat = true then .error (flt (nx t w1) 5) else @ite _ (mrT t (nx t (nx t w1))) (Classical.propDecidable _) (pTerms t p n i j f (nx t (nx t w1)) (stT S i j k.toNat (lsV t u v)) (setB h k.toNat)) (.ok (nx t (nx t w1), stT S i j k.toNat (lsV t u v)))) → Q () M' N' := fun M' N' a b => k1 M' N' a (by
          show RdM M' N' m t p n D (pbd (pWord t 5 w1) _)
          rw [ee]
          exact b)
        have tailC2 : ∀ (er : Er) (M3 : Mem) (N3 : NM) (y8 y10 : Int32), NzM m M N M3 N3 → PSM M3 N3 m t (.error er) → (pbd (pNum 0 ((n : Int) - 1) (nx t w1)) fun k => if h k.toNat = true then .error (flt (nx t w1) 5) else @ite _ (mrT t (nx t (nx t w1))) (Classical.propDecidable _) (pTerms t p n i j f (nx t (nx t w1)) (stT S i j k.toNat (lsV t u v)) (setB h k.toNat)) (.ok (nx t (nx t w1), stT S i j k.toNat (lsV t u v)))) = .error er → GN M3 N3 (X8_readBracket_b194 m (zI n) (zI i) (zI j) x5 (zI s0) y8 y10) (LQ Q (fun t1 M1 N1 => GN M1 N1 (jloop (fun (t : Int32 × Int32) => X8_readBracket_L103 m (zI n) (zI i) (zI j) t.1 t.2) t1) Q)) := fun er M3 N3 y8 y10 a b e => tailC er M3 N3 y8 y10 a b (by
          rw [pbd_ok]
          show pbd (pWord t 5 w1) _ = _
          rw [ee]
          exact e)
        clear tailB tailC hbadq k1 k1'
        generalize nx t w1 = u2 at *
        refine w_MI hM3 ?_
        rw [hP3.at.2.2.2.1, zI_sub]
        refine m_count (st := .ok u2) hM3 hP3 ⟨by omega, by omega⟩ ⟨by omega, by omega⟩ (fun M4 N4 g4 hP4 => ?_)
        have hF4 := hF3.tr g4.nz
        have hM4 := hF4.ml hM
        have hD4 : WCd N4 (m + 6) p n (altT p n S) D := hD3.fr (g4.1 _ (by omega))
        rw [pbd_ok] at hP4 ⊢
        unfold pPas at hP4 ⊢
        by_cases c6 : u2.2.2.1 = 3 ∧ 0 ≤ u2.2.2.2 ∧ u2.2.2.2 ≤ (n : Int) - 1
        case neg =>
          have e6 : ∃ er, pNum 0 ((n : Int) - 1) u2 = .error er := by
            unfold pNum
            by_cases c7 : u2.2.2.1 = 3
            · rw [if_pos c7, if_neg (fun x => c6 ⟨c7, x⟩)]; exact ⟨_, rfl⟩
            · rw [if_neg c7]; exact ⟨_, rfl⟩
          obtain ⟨er, e6⟩ := e6
          rw [e6] at hP4 ⊢ tailC2
          refine m_badV hM4 hP4 (fun v v1 v2 _ => ?_)
          exact w_eq ⟨by omega, by omega⟩ ⟨by omega, by omega⟩ (fun x => absurd x (by omega)) (fun _ => tailC2 er M4 N4 _ _ hF4 hP4 rfl)
        obtain ⟨c61, c62, c63⟩ := c6
        have e6 : pNum 0 ((n : Int) - 1) u2 = .ok u2.2.2.2 := by
          unfold pNum
          rw [if_pos c61, if_pos ⟨c62, c63⟩]
        rw [e6] at hP4 ⊢ tailC2 k2
        obtain ⟨k, hk⟩ : ∃ k : Nat, u2.2.2.2 = k := ⟨u2.2.2.2.toNat, by omega⟩
        rw [hk] at hP4 ⊢ tailC2 k2
        have hP4 : PSM M4 N4 m t (.ok (nx t u2)) := hP4
        show GN M4 N4 (jb (jgetI 7 12 m) fun v19 => if v19 = zI 0 then (if (x5 >>> (zI k &&& 31)) &&& zI 1 = zI 1 then jb (jcall 7 m (f_X8_fail m 5 (zI u2.1))) fun _ => X8_readBracket_b194 m (zI n) (zI i) (zI j) x5 (zI s0) (zI v) (zI k) else X8_readBracket_b194 m (zI n) (zI i) (zI j) x5 (zI s0) (zI v) (zI k)) else X8_readBracket_b194 m (zI n) (zI i) (zI j) x5 (zI s0) (zI v) (zI k)) _
        rw [pbd_ok, show ((k : Int).toNat) = k from rfl] at k2 tailC2
        have q5 := hok3.2.2.2.2.1 (by omega)
        have q6 := (nx_ok hok3).2
        have hok4 := (nx_ok hok3).1
        refine m_good hM4 hP4 ?_
        refine w_eq ⟨by omega, by omega⟩ ⟨by omega, by omega⟩ (fun _ => ?_) (fun x => absurd rfl x)
        have hbit := bit_is (x := x5) (k := k) (by omega)
        rw [hm k (by omega), z_1] at hbit
        refine w_ite (fun q => ?_) (fun q => ?_)
        · rw [if_pos (hbit.mp q)] at tailC2
          rw [show (5 : Int32) = zI 5 from rfl]
          obtain ⟨tk4, hx4, rfl, h12⟩ := hP4
          refine m_failK hM4 h12 (tailC2 (flt u2 5) M4 _ _ _ (hF4.tr ((NyM.rf.up (k := 12) (by omega)).up (k := 13) (by omega)).nz) ⟨nx t u2, (hx4.up (Or.inl rfl)).up (Or.inr (Or.inl rfl)), (flt_b 5 (by omega)).1, (flt_b 5 (by omega)).2, ?_, by rw [upv]; rfl⟩ rfl)
          rw [upk (by omega), upv]
          exact (if_neg (by omega)).symm
        rw [if_neg (fun x => q (hbit.mpr x))] at k2
        clear tailC2
        unfold X8_readBracket_b194
        rw [z_0]
        refine m_good hM4 hP4 ?_
        refine w_le ⟨by omega, by omega⟩ ⟨by omega, by omega⟩ (fun _ => ?_) (fun x => absurd x (by decide))
        refine w_jlet ?_
        have hm' : ∀ q, q < 5 → btI (x5 ||| ((1 : Int32) <<< (zI k &&& 31))) q = setB h k q := fun q hq => by
          rw [bit_or (by omega) (by omega), hm q hq]
          rfl
        generalize x5 ||| ((1 : Int32) <<< (zI k &&& 31)) = x5' at hm' ⊢
        refine w_Mf hM4 rfl ?_
        have hend : ∀ y : Int, y = lsV t u v → GN M4 N4 (X8_readBracket_b234 m (zI n) (zI i) (zI j) x5' (m + 6) (zI 0) (zI i) (zI j) (zI k) (zI y)) (LQ Q (fun t1 M1 N1 => GN M1 N1 (jloop (fun (t : Int32 × Int32) => X8_readBracket_L103 m (zI n) (zI i) (zI j) t.1 t.2) t1) Q)) := by
          intro y hy
          have hyb : -7 ≤ y ∧ y ≤ 7 := by
            rw [hy]
            unfold lsV
            split <;> omega
          unfold X8_readBracket_b234
          refine w_msetD (h6 M4 hM4) (by omega) hD4 hp hn5 hij hj (by omega) (by omega) (fun N5 hD5 g5 => ?_)
          rw [hy] at hD5
          have hP5 : PSM M4 N5 m t (.ok (nx t u2)) := hP4.o g5
          have hF5 : NzM m M N M4 N5 := hF4.tr (NzM.of g5)
          have hx5 := hP5.at
          have hmore : mrT t (nx t u2) → GN M4 N5 (X8_readBracket_b252 m (zI n) (zI i) (zI j) x5') (LQ Q (fun t1 M1 N1 => GN M1 N1 (jloop (fun (t : Int32 × Int32) => X8_readBracket_L103 m (zI n) (zI i) (zI j) t.1 t.2) t1) Q)) := fun hmr => by
            rw [if_pos hmr] at k2
            unfold X8_readBracket_b252 X8_readBracket_b257
            exact w_jcontB (ih (nx t u2) _ _ x5' M4 N5 (by omega) hM4 hP5 hD5 hm' (fun M' N' a b => k2 M' N' (hF5.tr a) b))
          refine m_isLess hM4 hx5 (fun v6 hv6 => ?_)
          rw [z_0]
          have hso := mso_b hx5.2.1
          have hsl := hx5.2.1.2.2.1
          rcases hv6 with ⟨rfl, hk4⟩ | ⟨rfl, hk4⟩
          · exact w_eq ⟨by omega, by omega⟩ ⟨by omega, by omega⟩ (fun x => absurd x (by decide)) (fun _ => hmore (Or.inr hk4))
          · refine w_eq ⟨by omega, by omega⟩ ⟨by omega, by omega⟩ (fun _ => ?_) (fun x => absurd rfl x)
            refine w_MI hM4 ?_
            rw [hx5.2.2.1, z_2]
            refine w_eq ⟨by omega, by omega⟩ ⟨by omega, by omega⟩ (fun q7 => hmore (Or.inl (mso_inj hsl (by omega) (q7.trans rfl)))) (fun q7 => ?_)
            rw [if_neg (show ¬ mrT t (nx t u2) from fun x => by rcases x with x | x; exact q7 (by rw [x]; rfl); exact hk4 x)] at k2
            unfold X8_readBracket_b257
            refine w_jcontB (w_unroll ?_)
            show GN M4 N5 (X8_readBracket_L103 m (zI n) (zI i) (zI j) x5' (zI 0)) _
            unfold X8_readBracket_L103
            rw [z_0]
            exact w_eq ⟨by omega, by omega⟩ ⟨by omega, by omega⟩ (fun _ => w_jinl (w_jp (k2 M4 N5 hF5 ⟨hP5, hD5⟩))) (fun x => absurd rfl x)
        rcases hs0 with ⟨rfl, hn4⟩ | ⟨rfl, hn4⟩
        · exact w_eq ⟨by omega, by omega⟩ ⟨by omega, by omega⟩ (fun _ => hend v (if_neg hn4).symm) (fun x => absurd rfl x)
        · refine w_eq ⟨by omega, by omega⟩ ⟨by omega, by omega⟩ (fun x => absurd x (by decide)) (fun _ => ?_)
          rw [zI_neg]
          exact hend (-v) (if_pos hn4).symm
    refine m_isLess hM hP.at (fun v hv => ?_)
    rcases hv with ⟨rfl, hk4⟩ | ⟨rfl, hk4⟩
    · refine w_eq ⟨by omega, by omega⟩ ⟨by omega, by omega⟩ (fun x => absurd x (by decide)) (fun _ => ?_)
      obtain ⟨tk0, hx, rfl, h12⟩ := hP
      have q1 := kw_lt hx.2.1 hk4
      have q2 := (nx_ok hx.2.1).2
      exact m_next hM hx.1 hx.2.2.2.2.1 hx.2.1.2.1 (fun M1 N1 g1 hx1 => rest (nx t u) 1 M1 N1 g1.ny.nz ⟨nx t u, hx1, rfl, (g1.2.1 12 (by omega)).trans h12⟩ (hD.fr (g1.1 _ (by omega))) (if_pos hk4).symm (by omega) (Or.inr ⟨rfl, hk4⟩))
    · refine w_eq ⟨by omega, by omega⟩ ⟨by omega, by omega⟩ (fun _ => ?_) (fun x => absurd rfl x)
      exact rest u 0 M N NzM.rf hP hD (if_neg hk4).symm (Nat.le_refl _) (Or.inl ⟨rfl, hk4⟩)
end RWM
