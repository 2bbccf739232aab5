/-! TEXTS: a script is read, the model's op. -/
set_option maxRecDepth 100000
section OPSM
variable {α τ : Type} {M M' M0 : Mem} {N N' N0 N1 : NM} {m k i j cnt : Nat} {z n most p : Int} {t : Tx} {Q : τ → Mem → NM → Prop} {st : Except Er Tk} {S S' : St} {s : Scr}
theorem m_opens8 {f : Int32 → JM Mem τ} (hR : MR M N m S) (hn : zR n) (hm : zR most) (h0 : ¬ tkOk S n most → GN M (up2 N m 0 5) (f (zI 0)) Q) (h1 : tkOk S n most → ∀ M' N', MR M' N' m (stP S (0, S.2.2.2.1.2)) → MFm m M N M' N' → N' (m + 8) = N (m + 8) → PSM M' N' m (tpX S.2.2.2.1 n.toNat) (.ok (tok (tpX S.2.2.2.1 n.toNat) 0)) → GN M' N' (f (zI 1)) Q) : GN M N (jb (jcall 7 m (f_X8_opens m (zI n) (zI most))) f) Q := by
  have hM := hR.ml
  obtain ⟨t1, t2, t3⟩ := hR.2.2.2.2.1
  refine w_Mc hM ?_
  unfold f_X8_opens
  rw [z_0, z_1]
  have hbad : ¬ tkOk S n most → GN M N (X8_opens_b17 m) (fun v M1 N1 => GN M1 N1 (f v) Q) := fun x => by
    unfold X8_opens_b17
    rw [z_5]
    exact w_no hM (w_rze (Or.inl rfl) (h0 x))
  refine w_lt hn ⟨by omega, by omega⟩ (fun q => hbad (fun x => by have := x.1; omega)) (fun q => ?_)
  refine w_MI hM ?_
  rw [t1]
  refine w_lt ⟨by omega, by omega⟩ hn (fun q2 => hbad (fun x => by have := x.2.1; omega)) (fun q2 => ?_)
  refine w_le hn hm (fun q3 => ?_) (fun q3 => hbad (fun x => by have := x.2.2; omega))
  refine w_Mput hM (w_Mput hM (w_Mput hM (w_Mput hM ?_)))
  generalize hN1 : up2 (up2 (up2 (up2 N m 9 n) m 8 0) m 16 0) m 12 0 = N1
  have eb : ∀ b, b ≠ m → N1 b = N b := fun b hb => by rw [← hN1, upb hb, upb hb, upb hb, upb hb]
  have ek : ∀ k, k ≠ 9 → k ≠ 8 → k ≠ 16 → k ≠ 12 → N1 m k = N m k := fun k a1 a2 a3 a4 => by rw [← hN1, upk a4, upk a3, upk a2, upk a1]
  have hx : TxM N1 m (tpX S.2.2.2.1 n.toNat) := ⟨by rw [← hN1, upk (by omega), upk (by omega), upk (by omega), upv]; show n = (n.toNat : Nat); omega, by show n.toNat ≤ 600; omega, fun i hi => by
    have hi : i < n.toNat := hi
    obtain ⟨e1, e2, e3⟩ := t3 i (by omega)
    rw [eb (m + 4) (by omega), e1]
    exact ⟨e2, e3, rfl⟩⟩
  have hR1 : MR M N1 m (stP S (0, S.2.2.2.1.2)) := hR.setT (fun b h1 _ => eb b h1) (fun k hk => ek k (by omega) (by omega) (by omega) (by omega)) ⟨by rw [← hN1, upk (by omega), upk (by omega), upv]; rfl, by show 0 ≤ 600; omega, fun i hi => absurd hi (by show ¬ i < 0; omega)⟩
  refine m_next hM hx (e := 0) (by rw [← hN1, upk (by omega), upv]; rfl) (by omega) (fun M2 N2 g2 hx2 => w_jp (h1 ⟨q, q2, q3⟩ M2 N2 (hR1.nz g2.ny.nz) ?_ ((g2.1 _ (by omega)).trans (eb _ (by omega))) ⟨_, hx2, rfl, ?_⟩))
  · exact MFm.tr ⟨fun b hb => eb b (by omega), mR M, mL M, rfl, fun _ _ => ⟨rfl, rfl⟩⟩ g2.ny.nz.mf
  · rw [g2.2.1 12 (by omega), ← hN1, upv]
theorem MR.nt (h : MR M N m S) (hF : NtM m M N M' N') : MR M' N' m S := by
  obtain ⟨f1, f2, L', rfl, f3⟩ := hF
  exact h.ag (h.ml.ag (fun _ _ _ => ⟨rfl, rfl⟩)) (fun b x y => f1 b (by omega) (by omega)) (f1 _ (by omega) (by omega)) (fun k hk => f2 k (by omega) (by omega)) ⟨f3 _ _ (by omega), f3 _ _ (by omega), funext fun k => f3 _ _ (by omega)⟩
theorem NtM.mf (hF : NtM m M N M' N') : MFm m M N M' N' := by
  obtain ⟨f1, f2, L', rfl, f3⟩ := hF
  exact ⟨fun b hb => f1 b (by omega) (by omega), mR M, L', rfl, fun b hb => ⟨rfl, funext fun k => f3 b k (by omega)⟩⟩
theorem MR.setSc (h : MR M N m S) (f1 : ∀ b, b ≠ m + 5 → N' b = N b) (f2 : ∀ l, l < 635 ∨ 860 ≤ l → N' (m + 5) l = N (m + 5) l) (hs : ScM N' (m + 5) 0 (some s)) : MR M N' m (stH S (S.1.1, S.1.2.1, some s)) := by
  obtain ⟨g1, g2, ⟨g3, g3b, g3c⟩, g4, ⟨g5, g5b, g5c⟩, ⟨m0, mt, m1, m2, m3, m4, m5, m6, m7, m8⟩⟩ := h
  have ec : N' m = N m := f1 m (by omega)
  refine ⟨g1, ⟨⟨g2.1.1.ag (fun l a b => f2 l (by omega)), g2.1.2⟩, fun j hj => (g2.2.1 j hj).ag2 (fun l a b => f2 l (by omega)), hs⟩, ⟨by rw [ec]; exact g3, g3b, fun k hk => (g3c k hk).ag2 (fun l a => f2 l (by omega))⟩, fun t ht => (g4 t ht).ag (f1 _ (by omega)) (f1 _ (by omega)) rfl, ⟨by rw [ec]; exact g5, g5b, by rw [f1 (m + 4) (by omega)]; exact g5c⟩, ⟨by rw [ec]; exact m0, by rw [ec]; exact mt, by rw [ec]; exact m1, by rw [ec]; exact m2, m3, m4, by rw [ec]; exact m5, by rw [ec]; exact m6, by rw [f1 (m + 23) (by omega)]; exact m7, by rw [f1 (m + 23) (by omega)]; exact m8⟩⟩
theorem m_topS {Q : Int32 → Mem → NM → Prop} : ∀ f M N (s : Except Er Rd3), ML M m → StM M N m t s → (∀ x, s = .ok x → x.2.1 ≤ 30 ∧ t.1 < f + x.1.1) → (∀ M' N', NtM m M N M' N' → StM M' N' m t (pbd s (pTop t f)) → GN M' N' (X8_script_b50 m) Q) → GN M N (jloop (fun _ => X8_script_L28 m) ()) Q := by
  have err : ∀ (er : Er) M N f, ML M m → StM M N m t (.error er) → (∀ M' N', NtM m M N M' N' → StM M' N' m t (pbd (.error er) (pTop t f)) → GN M' N' (X8_script_b50 m) Q) → GN M N (jloop (fun _ => X8_script_L28 m) ()) Q := fun er M N f hM hs h => by
    refine w_unroll ?_
    unfold X8_script_L28
    rw [z_0]
    refine m_badV hM hs.1 (fun v v1 v2 _ => ?_)
    exact w_eq ⟨by omega, by omega⟩ ⟨by omega, by omega⟩ (fun x => absurd x (by omega)) (fun _ => w_jinl (h M N NtM.rf hs))
  intro f
  induction f with
  | zero =>
    intro M N s hM hs hf h
    cases s with
    | error er => exact err er M N 0 hM hs h
    | ok x =>
      have h2 := (hf x rfl).2
      have h3 := (PSM.at hs.1).2.1.1
      have h3 : x.1.1 ≤ t.1 := h3
      omega
  | succ f ih =>
    intro M N s hM hs hf h
    cases s with
    | error er => exact err er M N (f + 1) hM hs h
    | ok x =>
      have hx : MRd M N m t x.1 := PSM.at hs.1
      have hb := mso_b hx.2.1
      have hso := hx.2.1.2.2.1
      obtain ⟨f1, f2⟩ := hf x rfl
      refine w_unroll ?_
      unfold X8_script_L28
      rw [z_0]
      refine m_good hM hs.1 (w_eq ⟨by omega, by omega⟩ ⟨by omega, by omega⟩ (fun _ => ?_) (fun x => absurd rfl x))
      have e1 : pTop t (f + 1) x = if x.1.2.2.1 = 0 then .ok x else pbd (pStep t 8 0 x) (pTop t f) := rfl
      rw [pbd_ok, e1] at h
      refine w_MI hM ?_
      rw [hx.2.2.1]
      have emso : mso x.1.2.2.1 = 0 ↔ x.1.2.2.1 = 0 := by
        unfold mso
        split
        · rename_i q; exact ⟨fun _ => q, fun _ => rfl⟩
        · split
          · exact ⟨fun y => by omega, fun y => by omega⟩
          · exact ⟨fun y => by omega, fun y => by omega⟩
      by_cases c1 : x.1.2.2.1 = 0
      · rw [if_pos c1] at h
        exact w_eq ⟨by omega, by omega⟩ ⟨by omega, by omega⟩ (fun _ => w_jinl (h M N NtM.rf hs)) (fun y => absurd (emso.mpr c1) y)
      · rw [if_neg c1] at h
        refine w_eq ⟨by omega, by omega⟩ ⟨by omega, by omega⟩ (fun y => absurd (emso.mp y) c1) (fun _ => ?_)
        refine m_readStep 8 0 M N x (by omega) (by omega) hM hs f1 (fun M1 N1 n1 hs1 => w_jcontB ?_)
        refine ih M1 N1 (pStep t 8 0 x) (n1.ml hM) hs1 (fun y hy => ?_) (fun M2 N2 n2 hs2 => h M2 N2 (n1.tr n2) hs2)
        obtain ⟨k1, _, k2⟩ := pStep_f 8 0 x y (by omega) hx.2.1 f1 hy
        exact ⟨k1.2.2.1.2.1, by omega⟩
theorem m_script {f : Int32 → JM Mem τ} (hR : MR M N m S) (hn : zR n) (h : mPost M N m (a_script S (fun i k => N (m + 8) (7 * i + k)) n).1 (f (zI (a_script S (fun i k => N (m + 8) (7 * i + k)) n).2)) Q) : GN M N (jb (jcall 7 m (f_X8_script m (zI n))) f) Q := by
  have hM := hR.ml
  refine w_Mc hM ?_
  unfold f_X8_script
  unfold a_script at h
  rw [show (300 : Int32) = zI 300 from rfl, z_m1, z_0]
  refine w_Mput hM (w_Mput hM ?_)
  rw [hR.thr]
  have hR1 := hR.st 0
  have hF1 : MFm m M N M (up2 N m 0 0) := MFm.rf.up
  have h81 : up2 N m 0 0 (m + 8) = N (m + 8) := upb (by omega)
  generalize up2 N m 0 0 = N1 at *
  refine m_opens8 (S := stU S 0 0) hR1 hn ⟨by omega, by omega⟩ (fun q => ?_) (fun q M2 N2 hR2 hF2 h82 hP2 => ?_)
  · rw [if_neg (show ¬ tkOk S n 300 from q)] at h
    refine w_eq ⟨by omega, by omega⟩ ⟨by omega, by omega⟩ (fun _ => w_jp (h M _ ?_ hF1.up)) (fun x => absurd rfl x)
    have := hR1.st 5
    rw [stU_2] at this
    exact this
  rw [if_pos (show tkOk S n 300 from q)] at h
  refine w_eq ⟨by omega, by omega⟩ ⟨by omega, by omega⟩ (fun x => absurd x (by decide)) (fun _ => ?_)
  obtain ⟨q1, q2, q3⟩ := q
  obtain ⟨n, rfl⟩ : ∃ k : Nat, n = k := ⟨n.toNat, by omega⟩
  rw [show ((n : Int).toNat) = n from rfl] at h hP2
  have hP2 : PSM M2 N2 m (tpX S.2.2.2.1 n) (.ok (tok (tpX S.2.2.2.1 n) 0)) := hP2
  generalize tpX S.2.2.2.1 n = t at *
  replace hF2 := hF1.tr hF2
  replace h82 : N2 (m + 8) = N (m + 8) := h82.trans h81
  have hM2 := hR2.ml
  generalize hg : (fun i k => N (m + 8) (7 * i + k) : Arr) = g at *
  refine w_Mput hM2 ?_
  have hs3 : StM M2 (up2 N2 m 70 0) m t (.ok (tok t 0, 0, g)) := ⟨PSM.fr (N := N2) hP2 (fun k k1 k2 => upk (by omega)) (upb (by omega)) rfl, fun y hy => by
    have hy := Except.ok.inj hy
    rw [← hy]
    exact ⟨upv, fun i k _ => by rw [upb (show m + 8 ≠ m by omega), h82, ← hg]⟩⟩
  have n3 : NtM m M2 N2 M2 (up2 N2 m 70 0) := NtM.rf.u70
  generalize up2 N2 m 70 0 = N3 at *
  refine m_topS (t.1 + 1) M2 N3 _ hM2 hs3 (fun x hx => ?_) (fun M4 N4 n4 hs4 => ?_)
  · have hx := Except.ok.inj hx
    rw [← hx]
    exact ⟨Nat.zero_le _, by show t.1 < t.1 + 1 + (tok t 0).1; omega⟩
  have n4 := n3.tr n4
  have hR4 := hR2.nt n4
  have hF4 := hF2.tr n4.mf
  have hM4 := hR4.ml
  have hs4 : StM M4 N4 m t (pScript t g) := hs4
  unfold X8_script_b50
  rw [z_0, z_m1, z_1, show (635 : Int32) = zI 635 from rfl, show (636 : Int32) = zI 636 from rfl]
  cases eB : pScript t g with
  | error er =>
    rw [eB] at hs4 h
    have h : mPost M N m (stU (stU (stU (tkS S) 1 er.1) 2 er.2) 0 10) (f (zI (-1))) Q := h
    refine m_isWell hM4 hs4.1 (fun u e => nomatch e) (fun er' e => ?_)
    have e : er = er' := Except.error.inj e
    subst e
    refine w_eq ⟨by omega, by omega⟩ ⟨by omega, by omega⟩ (fun _ => w_jp (h M4 _ ?_ hF4.up.up.up)) (fun x => absurd rfl x)
    have := ((hR4.fl1 er.1).fl2 er.2).st 10
    have e5 : stU (stU (stU (stP (stU S 0 0) (0, S.2.2.2.1.2)) 1 er.1) 2 er.2) 0 10 = stU (stU (stU (tkS S) 1 er.1) 2 er.2) 0 10 := stE1 (P := stP S (0, S.2.2.2.1.2))
    rw [← e5]
    exact this
  | ok x =>
    rw [eB] at hs4 h
    obtain ⟨xu, xc, xa⟩ := x
    have h : mPost M N m (stU (stH (tkS S) (S.1.1, S.1.2.1, some (xc, xa))) 0 0) (f (zI (xc : Int))) Q := h
    have hx4 : MRd M4 N4 m t xu := PSM.at hs4.1
    have hc30 : xc ≤ 30 := (pTop_f (t.1 + 1) (tok t 0, 0, g) (xu, xc, xa) hP2.at.2.1 (by show 0 ≤ 30; omega) eB).2.2.1.2.1
    obtain ⟨c4, a4⟩ := hs4.2 _ rfl
    have c4 : N4 m 70 = (xc : Nat) := c4
    have a4 : ∀ i k, k < 7 → N4 (m + 8) (7 * i + k) = xa i k := a4
    refine m_isWell hM4 hs4.1 (fun _ _ => ?_) (fun er e => nomatch e)
    refine w_eq ⟨by omega, by omega⟩ ⟨by omega, by omega⟩ (fun x => absurd x (by decide)) (fun _ => ?_)
    have hR5 := (hR4.fl1 0).fl2 (-1)
    have hF5 : MFm m M N M4 (up2 (up2 N4 m 10 0) m 11 (-1)) := hF4.up.up
    have c5 : up2 (up2 N4 m 10 0) m 11 (-1) m 70 = (xc : Nat) := by rw [upk (by omega), upk (by omega)]; exact c4
    have a5 : ∀ i k, k < 7 → up2 (up2 N4 m 10 0) m 11 (-1) (m + 8) (7 * i + k) = xa i k := fun i k hk => by rw [upb (by omega), upb (by omega)]; exact a4 i k hk
    generalize up2 (up2 N4 m 10 0) m 11 (-1) = N5 at *
    have k5 := hM4.ka (o := 5) (d := (0, 3440)) rfl
    have k8 := hM4.ka (o := 8) (d := (0, 300)) rfl
    refine w_Mf hM4 rfl (w_ast k5 (by omega) (by omega) ?_)
    refine w_Mf hM4 rfl (w_MI hM4 ?_)
    rw [upb (show m ≠ m + 5 by omega), c5]
    refine w_ast k5 (by omega) (by omega) ?_
    rw [show ((635 : Int).toNat) = 635 from rfl, show ((636 : Int).toNat) = 636 from rfl]
    refine w_up (7 * xc) (fun i N' => (∀ b, b ≠ m + 5 → N' b = N5 b) ∧ (∀ l, l < 635 ∨ 860 ≤ l → N' (m + 5) l = N5 (m + 5) l) ∧ N' (m + 5) 635 = 1 ∧ N' (m + 5) 636 = (xc : Nat) ∧ ∀ l, l < i → N' (m + 5) (637 + l) = N5 (m + 8) l) 0 rfl (by omega) ⟨fun b hb => by rw [upb hb, upb hb], fun l hl => by rw [upk (by omega), upk (by omega)], by rw [upk (by omega), upv], upv, fun l hl => by omega⟩ ?_
    rintro i N6 hi ⟨y1, y2, y3, y4, y5⟩
    unfold X8_script_L82
    rw [z_7, show (637 : Int32) = zI 637 from rfl, z_1]
    refine w_MI hM4 ?_
    rw [y1 m (by omega), c5, zI_mul]
    refine w_le ⟨by omega, by omega⟩ ⟨by omega, by omega⟩ (fun hd => w_jinl ?_) (fun hd => ?_)
    · unfold X8_script_b115
      refine w_MI hM4 ?_
      rw [y1 m (by omega), c5]
      refine w_jp (h M4 N6 ?_ (hF5.tr ⟨fun b hb => y1 b (by omega), mR M4, mL M4, rfl, fun _ _ => ⟨rfl, rfl⟩⟩))
      have := hR5.setSc (s := (xc, xa)) y1 y2 ⟨y3, y4, fun i' k hi' hk => ?_⟩
      · have e5 : stH (stU (stU (stU (stP S (0, S.2.2.2.1.2)) 0 0) 1 0) 2 (-1)) (S.1.1, S.1.2.1, some (xc, xa)) = stU (stH (tkS S) (S.1.1, S.1.2.1, some (xc, xa))) 0 0 := by
          have e6 : stU (stU (stU (stP S (0, S.2.2.2.1.2)) 0 0) 1 0) 2 (-1) = stU (tkS S) 0 0 := by
            rw [stU_comm (i := 0) (j := 1) (by omega), stU_comm (i := 0) (j := 2) (by omega)]
            rfl
          rw [e6]
          rfl
        rw [← e5]
        exact this
      · have hi' : i' < xc := hi'
        have := y5 (7 * i' + k) (by omega)
        rw [show 0 + 637 + 7 * i' + k = 637 + (7 * i' + k) by omega, this]
        exact a5 i' k hk
    · refine w_Mf hM4 rfl (w_Mf hM4 rfl (w_ald k8 (by omega) (by omega) ?_))
      rw [zI_add]
      refine w_ast k5 (by omega) (by omega) ?_
      rw [zI_add, show ((637 + (i : Int)).toNat) = 637 + i by omega, show ((i : Int).toNat) = i from rfl, y1 (m + 8) (by omega)]
      refine w_jcont ⟨by omega, rfl, fun b hb => (upb hb).trans (y1 b hb), fun l hl => (upk (by omega)).trans (y2 l hl), (upk (by omega)).trans y3, (upk (by omega)).trans y4, fun l hl => ?_⟩
      by_cases e : l = i
      · rw [e, upv]
      · rw [upk (by omega)]
        exact y5 l (by omega)
end OPSM
