/-! TEXTS: a world is read, the model's op. -/
set_option maxRecDepth 100000
section OPWM
variable {α τ : Type} {M M' M0 : Mem} {N N' N0 N1 : NM} {m k i j : Nat} {z n most p : Int} {t : Tx} {Q : τ → Mem → NM → Prop} {st : Except Er Tk} {S S' : St}
theorem stU_comm {i j : Nat} {u v : Int} (h : i ≠ j) : stU (stU S i u) j v = stU (stU S j v) i u := by
  unfold stU
  congr
  funext k
  show (if k = j then v else if k = i then u else S.2.2.2.2 k) = (if k = i then u else if k = j then v else S.2.2.2.2 k)
  by_cases h1 : k = j
  · rw [if_pos h1, if_neg (by omega), if_pos h1]
  · rw [if_neg h1, if_neg h1]
theorem MR.nz (h : MR M N m S) (hF : NzM m M N M' N') : MR M' N' m S := by
  obtain ⟨f1, f2, L', rfl, f3⟩ := hF
  exact h.ag (h.ml.ag (fun _ _ _ => ⟨rfl, rfl⟩)) (fun b x y => f1 b (by omega) (by omega)) (f1 _ (by omega) (by omega)) (fun k hk => f2 k (by omega)) ⟨f3 _ _ (by omega), f3 _ _ (by omega), funext fun k => f3 _ _ (by omega)⟩
theorem NzM.mf (hF : NzM m M N M' N') : MFm m M N M' N' := by
  obtain ⟨f1, f2, L', rfl, f3⟩ := hF
  exact ⟨fun b hb => f1 b (by omega) (by omega), mR M, L', rfl, fun b hb => ⟨rfl, funext fun k => f3 b k (by omega)⟩⟩
theorem MR.fl1 (h : MR M N m S) (v : Int) : MR M (up2 N m 10 v) m (stU S 1 v) := by
  obtain ⟨m0, mt, m1, m2, m3, m4, m5, m6, m7, m8⟩ := h.2.2.2.2.2
  have eo : up2 N m 10 v (m + 23) = N (m + 23) := funext fun j => if_neg (fun e => by omega)
  exact h.mi (by omega) (by omega) ⟨by rw [upk (by omega)]; exact m0, by rw [upk (by omega)]; exact mt, upv, by rw [upk (by omega)]; exact m2, m3, m4, by rw [upk (by omega)]; exact m5, by rw [upk (by omega)]; exact m6, by rw [eo]; exact m7, by rw [eo]; exact m8⟩
theorem MR.fl2 (h : MR M N m S) (v : Int) : MR M (up2 N m 11 v) m (stU S 2 v) := by
  obtain ⟨m0, mt, m1, m2, m3, m4, m5, m6, m7, m8⟩ := h.2.2.2.2.2
  have eo : up2 N m 11 v (m + 23) = N (m + 23) := funext fun j => if_neg (fun e => by omega)
  exact h.mi (by omega) (by omega) ⟨by rw [upk (by omega)]; exact m0, by rw [upk (by omega)]; exact mt, by rw [upk (by omega)]; exact m1, upv, m3, m4, by rw [upk (by omega)]; exact m5, by rw [upk (by omega)]; exact m6, by rw [eo]; exact m7, by rw [eo]; exact m8⟩
/-- the model opens a text -/
theorem m_opens {f : Int32 → JM Mem τ} (hR : MR M N m S) (hn : zR n) (hm : zR most) (h0 : ¬ tkOk S n most → GN M (up2 N m 0 5) (f (zI 0)) Q) (h1 : tkOk S n most → ∀ M' N', MR M' N' m (stP S (0, S.2.2.2.1.2)) → MFm m M N M' N' → PSM M' N' m (tpX S.2.2.2.1 n.toNat) (.ok (tok (tpX S.2.2.2.1 n.toNat) 0)) → GN M' N' (f (zI 1)) Q) : GN M N (jb (jcall 7 m (f_X8_opens m (zI n) (zI most))) f) Q := by
  have hM := hR.ml
  obtain ⟨t1, t2, t3⟩ := hR.2.2.2.2.1
  refine w_Mc hM ?_
  unfold f_X8_opens
  rw [z_0, z_1]
  have hbad : ¬ tkOk S n most → GN M N (X8_opens_b17 m) (fun v M1 N1 => GN M1 N1 (f v) Q) := fun x => by
    unfold X8_opens_b17
    rw [z_5]
    exact w_no hM (w_rze (Or.inl rfl) (h0 x))
  refine w_lt hn ⟨by omega, by omega⟩ (fun q => hbad (fun x => by have := x.1; omega)) (fun q => ?_)
  refine w_MI hM ?_
  rw [t1]
  refine w_lt ⟨by omega, by omega⟩ hn (fun q2 => hbad (fun x => by have := x.2.1; omega)) (fun q2 => ?_)
  refine w_le hn hm (fun q3 => ?_) (fun q3 => hbad (fun x => by have := x.2.2; omega))
  refine w_Mput hM (w_Mput hM (w_Mput hM (w_Mput hM ?_)))
  generalize hN1 : up2 (up2 (up2 (up2 N m 9 n) m 8 0) m 16 0) m 12 0 = N1
  have eb : ∀ b, b ≠ m → N1 b = N b := fun b hb => by rw [← hN1, upb hb, upb hb, upb hb, upb hb]
  have ek : ∀ k, k ≠ 9 → k ≠ 8 → k ≠ 16 → k ≠ 12 → N1 m k = N m k := fun k a1 a2 a3 a4 => by rw [← hN1, upk a4, upk a3, upk a2, upk a1]
  have hx : TxM N1 m (tpX S.2.2.2.1 n.toNat) := ⟨by rw [← hN1, upk (by omega), upk (by omega), upk (by omega), upv]; show n = (n.toNat : Nat); omega, by show n.toNat ≤ 600; omega, fun i hi => by
    have hi : i < n.toNat := hi
    obtain ⟨e1, e2, e3⟩ := t3 i (by omega)
    rw [eb (m + 4) (by omega), e1]
    exact ⟨e2, e3, rfl⟩⟩
  have hR1 : MR M N1 m (stP S (0, S.2.2.2.1.2)) := hR.setT (fun b h1 _ => eb b h1) (fun k hk => ek k (by omega) (by omega) (by omega) (by omega)) ⟨by rw [← hN1, upk (by omega), upk (by omega), upv]; rfl, by show 0 ≤ 600; omega, fun i hi => absurd hi (by show ¬ i < 0; omega)⟩
  refine m_next hM hx (e := 0) (by rw [← hN1, upk (by omega), upv]; rfl) (by omega) (fun M2 N2 g2 hx2 => w_jp (h1 ⟨q, q2, q3⟩ M2 N2 (hR1.nz g2.ny.nz) ?_ ⟨_, hx2, rfl, ?_⟩))
  · exact MFm.tr ⟨fun b hb => eb b (by omega), mR M, mL M, rfl, fun _ _ => ⟨rfl, rfl⟩⟩ g2.ny.nz.mf
  · rw [g2.2.1 12 (by omega), ← hN1, upv]
theorem m_isWell {f : Int32 → JM Mem τ} (hM : ML M m) (hp : PSM M N m t st) (h0 : ∀ u, st = .ok u → GN M (up2 (up2 N m 10 0) m 11 (-1)) (f (zI 1)) Q) (h1 : ∀ er, st = .error er → GN M (up2 (up2 (up2 N m 10 er.1) m 11 er.2) m 0 10) (f (zI 0)) Q) : GN M N (jb (jcall 7 m (f_X8_isWell m)) f) Q := by
  obtain ⟨tk, hx, hs⟩ := hp
  refine w_Mc hM ?_
  unfold f_X8_isWell X8_isWell_b24 X8_isWell_b43
  refine w_MI hM ?_
  rw [z_m1, z_0]
  cases st with
  | ok u =>
    obtain ⟨rfl, e2⟩ := hs
    rw [e2]
    refine w_Mput hM (w_MI hM ?_)
    rw [upk (by omega), e2]
    refine w_eq ⟨by omega, by omega⟩ ⟨by omega, by omega⟩ (fun _ => ?_) (fun x => absurd rfl x)
    refine w_Mput hM (w_MI hM ?_)
    rw [upk (by omega), upk (by omega), e2]
    exact w_eq ⟨by omega, by omega⟩ ⟨by omega, by omega⟩ (fun _ => w_jp (h0 _ rfl)) (fun x => absurd rfl x)
  | error er =>
    obtain ⟨e1, e2, e3, e4⟩ := hs
    rw [e3]
    refine w_Mput hM (w_MI hM ?_)
    rw [upk (by omega), e3]
    refine w_eq ⟨by omega, by omega⟩ ⟨by omega, by omega⟩ (fun x => absurd x (by omega)) (fun _ => ?_)
    refine w_MI hM ?_
    rw [upk (by omega), e4]
    refine w_Mput hM (w_MI hM ?_)
    rw [upk (by omega), upk (by omega), e3]
    refine w_eq ⟨by omega, by omega⟩ ⟨by omega, by omega⟩ (fun x => absurd x (by omega)) (fun _ => ?_)
    rw [show (10 : Int32) = zI 10 from rfl]
    refine w_no hM ?_
    exact w_eq ⟨by omega, by omega⟩ ⟨by omega, by omega⟩ (fun _ => w_jp (h1 er rfl)) (fun x => absurd rfl x)
theorem m_primeN {f : Int32 → JM Mem τ} (hM : ML M m) (hz : zR z) (h : GN M N (f (zI (if PrI z then 1 else 0))) Q) : GN M N (jb (jcall 7 m (f_X8_isPrimeNumber m (zI z))) f) Q := by
  refine w_Mc hM ?_
  unfold f_X8_isPrimeNumber X8_isPrimeNumber_b21
  rw [z_2, z_3, z_5, z_7, z_0, z_1]
  refine w_eq hz ⟨by omega, by omega⟩ (fun q => ?_) (fun q => ?_)
  · rw [if_pos (by omega)] at h; exact w_jp h
  refine w_eq hz ⟨by omega, by omega⟩ (fun q => ?_) (fun q => ?_)
  · rw [if_pos (by omega)] at h; exact w_jp h
  refine w_eq hz ⟨by omega, by omega⟩ (fun q => ?_) (fun q => ?_)
  · rw [if_pos (by omega)] at h; exact w_jp h
  refine w_eq hz ⟨by omega, by omega⟩ (fun q => ?_) (fun q => ?_)
  · rw [if_pos (by omega)] at h; exact w_jp h
  · rw [if_neg (by omega)] at h; exact w_jp h
theorem m_greatestI {f : Int32 → JM Mem τ} (hz : zR z) (h : GN M N (f (zI (gst z))) Q) : GN M N (jb (f_X8_greatest (zI z)) f) Q := by
  refine w_jb ?_
  unfold f_X8_greatest
  unfold gst at h
  rw [show (7 : Int32) = zI 7 from rfl, z_5, z_4, z_3]
  refine w_eq hz ⟨by omega, by omega⟩ (fun q => ?_) (fun q => ?_)
  · rw [if_pos q] at h; exact w_jp h
  rw [if_neg q] at h
  refine w_eq hz ⟨by omega, by omega⟩ (fun q => ?_) (fun q => ?_)
  · rw [if_pos q] at h; exact w_jp h
  · rw [if_neg q] at h; exact w_jp h
/-- the first number that is no prime -/
def pChk (u : Tk) : Except Er Tk := if u.2.2.1 = 3 ∧ ¬ PrI u.2.2.2 then .error (flt u 4) else .ok u
theorem pChk_e {u : Tk} : pbd (pChk u) (pPas t 2 7) = pbd (pNum 2 7 u) fun p => if PrI p then .ok (p, nx t u) else .error (flt u 4) := by
  unfold pChk pPas pNum
  by_cases c1 : u.2.2.1 = 3
  · by_cases c2 : PrI u.2.2.2
    · rw [if_neg (fun x => x.2 c2), pbd_ok, if_pos c1, if_pos (by omega), pbd_ok, pbd_ok, if_pos c2]
    · rw [if_pos ⟨c1, c2⟩, pbd_er, if_pos c1]
      by_cases c3 : 2 ≤ u.2.2.2 ∧ u.2.2.2 ≤ 7
      · rw [if_pos c3, pbd_ok, if_neg c2]
      · rw [if_neg c3, pbd_er]
  · rw [if_neg (fun x => c1 x.1), pbd_ok, if_neg c1, pbd_er, pbd_er]
theorem pcV_b {x : Except Er (Int × Tk)} (h : ∀ v u, x = .ok (v, u) → -100000 ≤ v ∧ v ≤ 100000) : -100000 ≤ pcV x ∧ pcV x ≤ 100000 := by
  cases x with
  | ok y => exact h y.1 y.2 rfl
  | error er => exact ⟨by show (-100000 : Int) ≤ 0; decide, by show (0 : Int) ≤ 100000; decide⟩
theorem pPas_b {lo hi : Int} (hlo : -100000 ≤ lo) (hhi : hi ≤ 100000) {st : Except Er Tk} {v : Int} {u : Tk} (e : pbd st (pPas t lo hi) = .ok (v, u)) : lo ≤ v ∧ v ≤ hi := by
  cases st with
  | error er => cases e
  | ok w =>
    have e : pPas t lo hi w = .ok (v, u) := e
    rcases pPas_c (t := t) (u := w) (lo := lo) (hi := hi) with ⟨_, a2, a3, _, a5⟩ | ⟨er, _, a5⟩
    · rw [a5] at e
      have := Except.ok.inj e
      have e1 : w.2.2.2 = v := congrArg Prod.fst this
      omega
    · rw [a5] at e; cases e
/-- the head of a text of a world: where it leads, and the two numbers -/
noncomputable def pH2 (t : Tx) : Except Er (Int × Tk) := pbd (pbd (pWord t 0 (tok t 0)) pChk) (pPas t 2 7)
noncomputable def pH5 (t : Tx) (p : Int) : Except Er (Int × Tk) := pbd (pbd (pbd (pcS (pH2 t)) (pSgn t)) (pWord t 1)) (pPas t 1 (gst p))
noncomputable def pH6 (t : Tx) : Except Er Tk := pbd (pcS (pH5 t (pcV (pH2 t)))) (pSgn t)
theorem pWorld_h (t : Tx) : (∃ er, pH6 t = .error er ∧ pWorld t = .error er) ∨ ∃ (p : Int) (n : Nat) (u : Tk), pH6 t = .ok u ∧ pcV (pH2 t) = p ∧ pcV (pH5 t p) = n ∧ PrI p ∧ 1 ≤ n ∧ (n : Int) ≤ gst p ∧ pWorld t = pbd (pBrs t p n (t.1 + 1) u (fun _ _ _ => 0) (fun _ _ => false)) fun S => .ok (p, n, altT p n S) := by
  unfold pWorld pH6 pH5 pH2
  rcases pWord_c (t := t) (u := tok t 0) (k := 0) with ⟨_, c1⟩ | ⟨_, c1⟩
  rotate_left
  · rw [c1]; exact Or.inl ⟨_, rfl, rfl⟩
  rw [c1, pbd_ok, pbd_ok, pChk_e]
  generalize nx t (tok t 0) = u1
  rcases pPas_c (t := t) (u := u1) (lo := 2) (hi := 7) with ⟨a1, a2, a3, a4, _⟩ | ⟨er, a4, _⟩
  rotate_left
  · rw [a4]; exact Or.inl ⟨_, rfl, rfl⟩
  rw [a4, pbd_ok, pbd_ok]
  generalize u1.2.2.2 = p at *
  by_cases cp : PrI p
  rotate_left
  · rw [if_neg cp, if_neg cp]; exact Or.inl ⟨_, rfl, rfl⟩
  rw [if_pos cp, if_pos cp]
  unfold pWorld2
  show (∃ er, pbd (pcS (pbd (pbd (pSgn t (nx t u1)) (pWord t 1)) (pPas t 1 (gst p)))) (pSgn t) = .error er ∧ _) ∨ ∃ (p' : Int) (n : Nat) (u : Tk), pbd (pcS (pbd (pbd (pSgn t (nx t u1)) (pWord t 1)) (pPas t 1 (gst p)))) (pSgn t) = .ok u ∧ p = p' ∧ pcV (pbd (pbd (pSgn t (nx t u1)) (pWord t 1)) (pPas t 1 (gst p'))) = n ∧ _
  rcases pSgn_c (t := t) (u := nx t u1) with ⟨_, c2⟩ | ⟨_, c2⟩
  rotate_left
  · rw [c2]; exact Or.inl ⟨_, rfl, rfl⟩
  rw [c2, pbd_ok, pbd_ok]
  generalize nx t (nx t u1) = u2
  rcases pWord_c (t := t) (u := u2) (k := 1) with ⟨_, c3⟩ | ⟨_, c3⟩
  rotate_left
  · rw [c3]; exact Or.inl ⟨_, rfl, rfl⟩
  rw [c3, pbd_ok, pbd_ok]
  generalize nx t u2 = u3
  rcases pPas_c (t := t) (u := u3) (lo := 1) (hi := gst p) with ⟨b1, b2, b3, _, b5⟩ | ⟨er, _, b5⟩
  rotate_left
  · rw [b5]; exact Or.inl ⟨_, rfl, rfl⟩
  rw [b5, pbd_ok]
  generalize hv : u3.2.2.2 = v at *
  obtain ⟨n, rfl⟩ : ∃ n : Nat, v = n := ⟨v.toNat, by omega⟩
  rcases pSgn_c (t := t) (u := nx t u3) with ⟨_, c4⟩ | ⟨_, c4⟩
  · refine Or.inr ⟨p, n, nx t (nx t u3), c4, rfl, ?_, cp, by omega, b3, ?_⟩
    · show pcV (pPas t 1 (gst p) u3) = n
      rw [b5]
      rfl
    · show pbd (pSgn t (nx t u3)) _ = _
      rw [c4]
      rfl
  · refine Or.inl ⟨_, c4, ?_⟩
    show pbd (pSgn t (nx t u3)) _ = _
    rw [c4]
    rfl
theorem stE1 {P : St} {x y v : Int} : stU (stU (stU (stU P 0 0) 1 x) 2 y) 0 v = stU (stU (stU (stU (stU P 1 0) 2 (-1)) 1 x) 2 y) 0 v := by
  unfold stU
  congr
  funext k
  show (if k = 0 then v else if k = 2 then y else if k = 1 then x else if k = 0 then 0 else P.2.2.2.2 k) = (if k = 0 then v else if k = 2 then y else if k = 1 then x else if k = 2 then -1 else if k = 1 then 0 else P.2.2.2.2 k)
  by_cases h0 : k = 0
  · rw [if_pos h0, if_pos h0]
  · by_cases h2 : k = 2
    · simp only [if_neg h0, if_pos h2]
    · by_cases h1 : k = 1
      · simp only [if_neg h0, if_neg h2, if_pos h1]
      · simp only [if_neg h0, if_neg h2, if_neg h1]
theorem m_chk {g : JM Mem Int32} {Q : Int32 → Mem → NM → Prop} (hM : ML M m) (hp : PSM M N m t st) (h : ∀ M' N', NyM m M N M' N' → PSM M' N' m t (pbd st pChk) → GN M' N' g Q) : GN M N (jb (jgetI 7 12 m) fun v3 => if v3 = zI 0 then (jb (jgetI 7 14 m) fun v20 => if v20 = zI 2 then (jb (jgetI 7 17 m) fun v21 => jb (jcall 7 m (f_X8_isPrimeNumber m v21)) fun v22 => if v22 = zI 0 then (jb (jgetI 7 15 m) fun v23 => jb (jcall 7 m (f_X8_fail m (zI 4) v23)) fun _ => g) else g) else g) else g) Q := by
  cases st with
  | error er =>
    refine m_badV hM hp (fun v v1 v2 _ => ?_)
    exact w_eq ⟨by omega, by omega⟩ ⟨by omega, by omega⟩ (fun x => absurd x (by omega)) (fun _ => h M N NyM.rf hp)
  | ok u =>
    rw [pbd_ok] at h
    have hx := hp.at
    have hb := mso_b hx.2.1
    have hso := hx.2.1.2.2.1
    refine m_good hM hp ?_
    refine w_eq ⟨by omega, by omega⟩ ⟨by omega, by omega⟩ (fun _ => ?_) (fun x => absurd rfl x)
    refine w_MI hM ?_
    rw [hx.2.2.1]
    unfold pChk at h
    refine w_eq ⟨by omega, by omega⟩ ⟨by omega, by omega⟩ (fun q => ?_) (fun q => ?_)
    · have e3 : u.2.2.1 = 3 := mso_inj hso (by omega) (q.trans rfl)
      have hv := hx.2.1.2.2.2.2.2.2.1 e3
      refine w_MI hM ?_
      rw [hx.2.2.2.2.2.1 (Or.inl e3)]
      refine m_primeN hM ⟨by omega, by omega⟩ ?_
      by_cases cp : PrI u.2.2.2
      · rw [if_pos cp]
        rw [if_neg (fun x => x.2 cp)] at h
        exact w_eq ⟨by omega, by omega⟩ ⟨by omega, by omega⟩ (fun x => absurd x (by decide)) (fun _ => h M N NyM.rf hp)
      · rw [if_neg cp]
        rw [if_pos ⟨e3, cp⟩] at h
        refine w_eq ⟨by omega, by omega⟩ ⟨by omega, by omega⟩ (fun _ => ?_) (fun x => absurd rfl x)
        exact m_failP hM hp (by omega) (by omega) (fun N' a b => h M N' a b)
    · rw [if_neg (fun x => q (by rw [x.1]; rfl))] at h
      exact h M N NyM.rf hp
theorem m_world {f : Int32 → JM Mem τ} (hR : MR M N m S) (hn : zR n) (h : mPost M N m (a_world S n).1 (f (zI (a_world S n).2)) Q) : GN M N (jb (jcall 7 m (f_X8_world m (zI n))) f) Q := by
  have hM := hR.ml
  refine w_Mc hM ?_
  unfold f_X8_world
  refine m_beg0 hR (fun N1 hR1 hF1 => ?_)
  unfold a_world at h
  rw [show (600 : Int32) = zI 600 from rfl, z_m1, z_0, z_2, z_4]
  refine m_opens (S := stU S 0 0) hR1 hn ⟨by omega, by omega⟩ (fun q => ?_) (fun q M2 N2 hR2 hF2 hP2 => ?_)
  · rw [if_neg (show ¬ tkOk S n 600 from q)] at h
    refine w_eq ⟨by omega, by omega⟩ ⟨by omega, by omega⟩ (fun _ => w_jp (h M _ ?_ hF1.up)) (fun x => absurd rfl x)
    have := hR1.st 5
    rw [stU_2] at this
    exact this
  rw [if_pos (show tkOk S n 600 from q)] at h
  refine w_eq ⟨by omega, by omega⟩ ⟨by omega, by omega⟩ (fun x => absurd x (by decide)) (fun _ => ?_)
  obtain ⟨q1, q2, q3⟩ := q
  obtain ⟨n, rfl⟩ : ∃ k : Nat, n = k := ⟨n.toNat, by omega⟩
  rw [show ((n : Int).toNat) = n from rfl] at h hP2
  have hP2 : PSM M2 N2 m (tpX S.2.2.2.1 n) (.ok (tok (tpX S.2.2.2.1 n) 0)) := hP2
  generalize tpX S.2.2.2.1 n = t at *
  replace hF2 := hF1.tr hF2
  have hM2 := hR2.ml
  refine m_must_isPrime hM2 hP2 (fun M3 N3 g3 hP3 => ?_)
  have hM3 := g3.ml hM2
  refine m_chk hM3 hP3 (fun M4 N4 g4 hP4 => ?_)
  have hM4 := g4.ml hM3
  rw [pbd_ok] at hP4
  unfold X8_world_b66
  rw [z_2, z_7, show (59 : Int32) = zI 59 from rfl, z_1, z_0]
  refine m_count hM4 hP4 ⟨by omega, by omega⟩ ⟨by omega, by omega⟩ (fun M5 N5 g5 hP5 => ?_)
  have hM5 := g5.ml hM4
  have hpv := pcV_b (x := pH2 t) (fun v u e => by have := pPas_b (by omega) (by omega) e; omega)
  show GN M5 N5 (jb (jcall 7 m (f_X8_isSign m (zI 59))) fun v5 => jb (jcall 7 m (f_X8_must m v5)) fun _ => jb (jcall 7 m (f_X8_isSizeWord m)) fun v6 => jb (jcall 7 m (f_X8_must m v6)) fun _ => jb (f_X8_greatest (zI (pcV (pH2 t)))) fun v7 => jb (jcall 7 m (f_X8_count m (zI 1) v7)) fun v8 => jb (jcall 7 m (f_X8_isSign m (zI 59))) fun v9 => jb (jcall 7 m (f_X8_must m v9)) fun _ => jb (jgetA 7 20 m) fun v10 => jb (f_X8_clear v10 (zI 0) (zI (pcV (pH2 t))) v8) fun _ => jloop (fun (_ : Unit) => X8_world_L122 m v8) ()) _
  refine m_mustSg hM5 hP5 (fun M6 N6 g6 hP6 => ?_)
  have hM6 := g6.ml hM5
  refine m_must_isSizeWord hM6 hP6 (fun M7 N7 g7 hP7 => ?_)
  have hM7 := g7.ml hM6
  refine m_greatestI ⟨by omega, by omega⟩ ?_
  have hg := gst_le (p := pcV (pH2 t))
  refine m_count hM7 hP7 ⟨by omega, by omega⟩ ⟨by omega, by omega⟩ (fun M8 N8 g8 hP8 => ?_)
  have hM8 := g8.ml hM7
  have hsv : 0 ≤ pcV (pH5 t (pcV (pH2 t))) ∧ pcV (pH5 t (pcV (pH2 t))) ≤ 5 := by
    cases e : pH5 t (pcV (pH2 t)) with
    | error er => exact ⟨by show (0 : Int) ≤ 0; decide, by show (0 : Int) ≤ 5; decide⟩
    | ok y =>
      obtain ⟨v, u⟩ := y
      have := pPas_b (by omega) (by omega) e
      show 0 ≤ v ∧ v ≤ 5
      omega
  show GN M8 N8 (jb (jcall 7 m (f_X8_isSign m (zI 59))) fun v9 => jb (jcall 7 m (f_X8_must m v9)) fun _ => jb (jgetA 7 20 m) fun v10 => jb (f_X8_clear v10 (zI 0) (zI (pcV (pH2 t))) (zI (pcV (pH5 t (pcV (pH2 t)))))) fun _ => jloop (fun (_ : Unit) => X8_world_L122 m (zI (pcV (pH5 t (pcV (pH2 t)))))) ()) _
  refine m_mustSg hM8 hP8 (fun M9 N9 g9 hP9 => ?_)
  have hM9 := g9.ml hM8
  have hF9 : NzM m M2 N2 M9 N9 := (g3.tr (g4.tr (g5.tr (g6.tr (g7.tr (g8.tr g9)))))).nz
  have hP9' : PSM M9 N9 m t (pH6 t) := hP9
  clear hP9
  clear g3 g4 g5 g6 g7 g8 g9 hP3 hP4 hP5 hP6 hP7 hP8 hM3 hM4 hM5 hM6 hM7 hM8
  have h6 : ∀ M, ML M m → mK M (m + 6) = some (.inr (0, 127)) := fun M hM => hM.ka (o := 6) (d := (0, 127)) rfl
  have hwh := pWorld_h t
  generalize hsz : pcV (pH5 t (pcV (pH2 t))) = sz at *
  generalize hpz : pcV (pH2 t) = pv at *
  obtain ⟨sz, rfl⟩ : ∃ k : Nat, sz = k := ⟨sz.toNat, by omega⟩
  refine w_Mf hM9 rfl ?_
  refine w_mclear (B := 0) (h6 M9 hM9) (by omega) (fun N10 hW10 f10 l10 => ?_)
  have hF10 : NzM m M2 N2 M9 N10 := hF9.tr (NzM.of (fun b hb => f10 b hb))
  have hP10 : PSM M9 N10 m t (pH6 t) := hP9'.o (fun b hb => f10 b hb)
  have hbad : ∀ (er : Er) (M' : Mem) (N' : NM), pWorld t = .error er → NzM m M2 N2 M' N' → PSM M' N' m t (.error er) → GN M' N' (X8_world_b167 m (zI sz)) (fun v M1 N1 => GN M1 N1 (f v) Q) := fun er M' N' he hF' hP' => by
    rw [he] at h
    have h : mPost M N m (stU (stU (stU (tkS S) 1 er.1) 2 er.2) 0 10) (f (zI (-1))) Q := h
    unfold X8_world_b167
    rw [z_0]
    refine m_isWell (hF'.ml hM2) hP' (fun u e => nomatch e) (fun er' e => ?_)
    have e := Except.error.inj e
    subst e
    rw [z_m1]
    refine w_eq ⟨by omega, by omega⟩ ⟨by omega, by omega⟩ (fun _ => w_jp (h M' _ ?_ ((hF2.tr hF'.mf).up.up.up))) (fun x => absurd rfl x)
    have := (((hR2.nz hF').fl1 er.1).fl2 er.2).st 10
    have e5 : stU (stU (stU (stP (stU S 0 0) (0, S.2.2.2.1.2)) 1 er.1) 2 er.2) 0 10 = stU (stU (stU (tkS S) 1 er.1) 2 er.2) 0 10 := stE1 (P := stP S (0, S.2.2.2.1.2))
    rw [← e5]
    exact this
  rcases hwh with ⟨er, e6, e7⟩ | ⟨p, n', u, e6, e7, e8, cp, n1, ng, e9⟩
  · rw [e6] at hP10
    refine w_unroll ?_
    unfold X8_world_L122
    rw [z_0]
    refine m_badV hM9 hP10 (fun v v1 v2 _ => ?_)
    exact w_eq ⟨by omega, by omega⟩ ⟨by omega, by omega⟩ (fun x => absurd x (by omega)) (fun _ => w_jinl (hbad er M9 N10 e7 hF10 hP10))
  · subst e7
    rw [hsz] at e8
    obtain rfl : sz = n' := by omega
    rw [e6] at hP10
    have hD10 : WCd N10 (m + 6) pv sz (altT pv sz (fun _ _ _ => 0)) (fun _ _ => false) := by
      obtain ⟨w1, w2, w3⟩ := hW10
      refine ⟨w1, w2, fun i j k hi hj hk _ => ?_, fun i j hi hj => ?_⟩
      · rw [altT_z]
        have := w3 i j k hi hj hk
        rw [show 0 + 2 + 25 * i + 5 * j + k = 2 + 25 * i + 5 * j + k by omega] at this
        exact this
      · have := w3 j j i hj hj hi
        rw [show 0 + 2 + 25 * j + 5 * j + i = 2 + 25 * j + 5 * j + i by omega] at this
        exact this
    refine m_brs (show 1 ≤ sz ∧ sz ≤ 5 by omega) (Pr_I cp) (t.1 + 1) (.ok u) (fun _ _ _ => 0) (fun _ _ => false) M9 N10 (fun u' e => ⟨by omega, hD10⟩) hM9 hP10 (fun M11 N11 g11 hr11 => ?_)
    rw [pbd_ok] at hr11
    have hF11 := hF10.tr g11
    have hM11 := hF11.ml hM2
    cases eB : pBrs t pv sz (t.1 + 1) u (fun _ _ _ => 0) (fun _ _ => false) with
    | error er =>
      rw [eB] at hr11 e9
      exact hbad er M11 N11 e9 hF11 hr11
    | ok T =>
      rw [eB] at hr11 e9
      obtain ⟨⟨u', hP11⟩, D, hD11⟩ := hr11
      rw [e9] at h
      have h : mPost M N m (stU (stW (tkS S) (pv, sz, altT pv sz T)) 0 0) (f (zI (sz : Int))) Q := h
      unfold X8_world_b167
      rw [z_0]
      refine m_isWell hM11 hP11 (fun _ _ => ?_) (fun er e => nomatch e)
      refine w_eq ⟨by omega, by omega⟩ ⟨by omega, by omega⟩ (fun x => absurd x (by decide)) (fun _ => ?_)
      have hR12 := ((hR2.nz hF11).fl1 0).fl2 (-1)
      have hF12 : MFm m M N M11 (up2 (up2 N11 m 10 0) m 11 (-1)) := (hF2.tr hF11.mf).up.up
      have hD12 : WCd (up2 (up2 N11 m 10 0) m 11 (-1)) (m + 6) pv sz (altT pv sz T) D := hD11.fr (by rw [upb (by omega), upb (by omega)])
      generalize up2 (up2 N11 m 10 0) m 11 (-1) = N12 at *
      -- the diagonal is cleared
      refine w_up 5 (fun i N' => (∀ b, b ≠ m + 6 → N' b = N12 b) ∧ (N' (m + 6) 0 = pv ∧ N' (m + 6) 1 = sz) ∧ (∀ x y z, x < 5 → y < 5 → z < 5 → x ≠ y ∨ x < i → N' (m + 6) (2 + 25 * x + 5 * y + z) = altT pv sz T x y z)) 0 rfl (by omega) ⟨fun _ _ => rfl, ⟨hD12.1, hD12.2.1⟩, fun x y z hx hy hz hxy => hD12.2.2.1 x y z hx hy hz (by omega)⟩ ?_
      rintro i N' hi ⟨j1, j2, j3⟩
      unfold X8_world_L179
      rw [z_5]
      refine w_le ⟨by omega, by omega⟩ ⟨by omega, by omega⟩ (fun hd => ?_) (fun hd => ?_)
      · refine w_jinl ?_
        unfold X8_world_b221
        have h5 := hM11.ka (o := 5) (d := (0, 3440)) rfl
        refine w_Mf hM11 rfl (w_Mf hM11 rfl ?_)
        rw [z_0]
        refine w_mmove (B := 0) (D := 0) hM11 (h6 M11 hM11) (by omega) h5 (by omega) (Or.inl (by omega)) (fun N13 e13 f13 l13 => w_jp ?_)
        have hW : WC N' (m + 6) 0 pv sz (altT pv sz T) := ⟨j2.1, j2.2, fun x y z hx hy hz => by
          rw [show 0 + 2 + 25 * x + 5 * y + z = 2 + 25 * x + 5 * y + z by omega]
          exact j3 x y z hx hy hz (by omega)⟩
        have hFw : MFw m N12 N13 := MFw.of (fun b h1 h2 => (f13 b h1).trans (j1 b (by omega))) (fun l hl => (l13 l (by omega)).trans (by rw [j1 (m + 5) (by omega)]))
        refine h M11 N13 ?_ (hF12.tr ⟨fun b hb => hFw.1 b (by omega), mR M11, mL M11, rfl, fun _ _ => ⟨rfl, rfl⟩⟩)
        have := hR12.setW (y := (pv, sz, altT pv sz T)) hFw ⟨WC.mv hW e13, altT_ok (Pr_I cp) (show 1 ≤ sz ∧ sz ≤ 5 by omega)⟩
        have e5 : stW (stU (stU (stP (stU S 0 0) (0, S.2.2.2.1.2)) 1 0) 2 (-1)) (pv, sz, altT pv sz T) = stU (stW (tkS S) (pv, sz, altT pv sz T)) 0 0 := by
          have e6 : stU (stU (stU (stP S (0, S.2.2.2.1.2)) 0 0) 1 0) 2 (-1) = stU (tkS S) 0 0 := by
            rw [stU_comm (i := 0) (j := 1) (by omega), stU_comm (i := 0) (j := 2) (by omega)]
            rfl
          show stW (stU (stU (stU (stP S (0, S.2.2.2.1.2)) 0 0) 1 0) 2 (-1)) _ = _
          rw [e6]
          rfl
        rw [← e5]
        exact this
      · refine w_up 5 (fun k N2 => (∀ b, b ≠ m + 6 → N2 b = N12 b) ∧ (N2 (m + 6) 0 = pv ∧ N2 (m + 6) 1 = sz) ∧ (∀ x y z, x < 5 → y < 5 → z < 5 → x ≠ y ∨ x < i ∨ x = i ∧ z < k → N2 (m + 6) (2 + 25 * x + 5 * y + z) = altT pv sz T x y z)) 0 rfl (by omega) ⟨j1, j2, fun x y z hx hy hz hxy => j3 x y z hx hy hz (by omega)⟩ ?_
        rintro k N2' hk ⟨y1, y2, y3⟩
        unfold X8_world_L188
        rw [z_5]
        refine w_le ⟨by omega, by omega⟩ ⟨by omega, by omega⟩ (fun he => ?_) (fun he => ?_)
        · unfold X8_world_b215
          rw [z_1, zI_add]
          exact w_jinl (w_jcont ⟨by omega, rfl, y1, y2, fun x y z hx hy hz hxy => y3 x y z hx hy hz (by omega)⟩)
        · refine w_Mf hM11 rfl ?_
          unfold f_X8_cell
          rw [z_2, z_25, z_5, zI_mul, zI_mul, zI_add, zI_add, zI_add]
          refine w_jb (w_jp ?_)
          rw [z_0, z_1, zI_add]
          refine w_ast (h6 M11 hM11) (by omega) (by omega) ?_
          rw [show ((2 + 25 * (i : Int) + 5 * (i : Int) + (k : Int)).toNat) = 2 + 25 * i + 5 * i + k by omega]
          refine w_jcont ⟨by omega, rfl, fun b hb => (upb hb).trans (y1 b hb), ⟨by rw [upk (by omega)]; exact y2.1, by rw [upk (by omega)]; exact y2.2⟩, fun x y z hx hy hz hxy => ?_⟩
          by_cases q : x = i ∧ y = i ∧ z = k
          · obtain ⟨rfl, rfl, rfl⟩ := q
            rw [upv]
            unfold altT
            split
            · rw [if_neg (by omega), if_neg (by omega)]
            · rfl
          · rw [upk (by omega)]
            exact y3 x y z hx hy hz (by omega)
end OPWM
