/-! OPS, nineteenth part: barred, ran, constant, put, bracket. -/
set_option maxRecDepth 100000
section OPS19
variable {α τ : Type} {M M' M1 M2 : Mem} {N N' N1 : NM} {c m i j k q w W B : Nat} {u v s t z a b d e : Int} {S S' : St} {p p2 : Int} {n n2 many : Nat} {T F G T2 : Nat → Nat → Nat → Int} {y : Wd}
noncomputable def brd (S : St) (y : Wd) : Int := if invY y 5 < invS S 5 then 1 else if invS S 1 < invY y 1 then 2 else if invY y 4 < invS S 4 then 3 else 0
noncomputable def a_barred (S : St) (s : Int) : Int × Int := if 0 ≤ s ∧ s < 4 then (match S.1.2.1 s.toNat with | none => (-1, 8) | some y => if sp S = y.1 ∧ sn S = y.2.1 then (brd S y, 0) else (-1, 5)) else (-1, 2)
theorem c_barred {f : Int32 → JM Mem τ} {Q : τ → Mem → NM → Prop} (hR : CR M N c S) (hs : zR s) (h : cPost M N c (stU S 0 (a_barred S s).2) (f (zI (a_barred S s).1)) Q) : GN M N (jb (jcall 0 c (f_X0_barred c (zI s))) f) Q := by
  have hp := hR.w.pr
  have hn5 : sn S ≤ 5 := hR.w.n5
  refine w_Cc hR.cl ?_
  unfold f_X0_barred
  refine c_noShelf hR hs ?_
  unfold a_shelf
  unfold a_barred at h
  rw [z_0]
  have hbad : ∀ v : Int, zR v → 0 < v → cPost M N c (stU S 0 v) (f (zI (-1))) Q → GN M N (X0_barred_b28 c (zI s) (zI v)) (fun v M1 N1 => GN M1 N1 (f v) Q) := fun v h1 h2 hh => by
    unfold X0_barred_b28
    rw [z_0]
    exact w_le h1 ⟨by omega, by omega⟩ (fun x => absurd x (by omega)) (fun _ => w_none hR.cl (w_jp (c_fin0 hR hh)))
  by_cases e : 0 ≤ s ∧ s < 4
  case neg =>
    rw [if_neg e] at h ⊢
    exact w_eq ⟨by omega, by omega⟩ ⟨by omega, by omega⟩ (fun x => absurd x (by decide)) (fun _ => hbad 2 ⟨by omega, by omega⟩ (by omega) h)
  rw [if_pos e] at h ⊢
  obtain ⟨s, rfl⟩ : ∃ d : Nat, s = d := ⟨s.toNat, by omega⟩
  rw [show ((s : Int).toNat) = s from rfl] at h ⊢
  cases e2 : S.1.2.1 s with
  | none =>
    rw [e2] at h
    have h : cPost M N c (stU S 0 8) (f (zI (-1))) Q := h
    show GN M N (if zI 8 = zI 0 then _ else _) _
    exact w_eq ⟨by omega, by omega⟩ ⟨by omega, by omega⟩ (fun x => absurd x (by decide)) (fun _ => hbad 8 ⟨by omega, by omega⟩ (by omega) h)
  | some y =>
    rw [e2] at h
    have h : cPost M N c (stU S 0 (if sp S = y.1 ∧ sn S = y.2.1 then (brd S y, (0 : Int)) else (-1, 5)).2) (f (zI (if sp S = y.1 ∧ sn S = y.2.1 then (brd S y, (0 : Int)) else (-1, 5)).1)) Q := h
    show GN M N (if zI 0 = zI 0 then _ else _) _
    refine w_eq ⟨by omega, by omega⟩ ⟨by omega, by omega⟩ (fun _ => ?_) (fun x => absurd rfl x)
    obtain ⟨hE, hV⟩ := hR.shw (show s < 4 by omega) e2
    refine w_Cf hR.cl rfl ?_
    refine w_shelf hR.cl (by omega) ?_
    refine w_isLike hR.cl.w6 hV hR.w hE ?_
    by_cases eu : sp S = y.1 ∧ sn S = y.2.1
    case neg =>
      rw [if_neg eu] at h ⊢
      rw [z_5]
      exact w_eq ⟨by omega, by omega⟩ ⟨by omega, by omega⟩ (fun _ => hbad 5 ⟨by omega, by omega⟩ (by omega) h) (fun x => absurd rfl x)
    rw [if_pos eu] at h ⊢
    have h : cPost M N c (stU S 0 0) (f (zI (brd S y))) Q := h
    refine w_eq ⟨by omega, by omega⟩ ⟨by omega, by omega⟩ (fun x => absurd x (by decide)) (fun _ => ?_)
    unfold X0_barred_b28
    rw [z_0]
    show GN M N (if zI 0 ≤ zI 0 then _ else _) _
    refine w_le ⟨by omega, by omega⟩ ⟨by omega, by omega⟩ (fun _ => ?_) (fun x => absurd x (by decide))
    have hfin : ∀ (M1 : Mem) (N1 : NM) (v : Int), Bg c M M1 → CFr c N N1 → v = brd S y → GN M1 N1 (jb (jcall 0 c (f_X0_gives c (zI v))) fun v => jp v) (fun v M1 N1 => GN M1 N1 (f v) Q) := fun M1 N1 v hB hF ev => by
      subst ev
      exact w_gives (hR.cl.bg hB) (w_jp (c_fin hR hB hF h))
    unfold brd at hfin
    refine w_shelf hR.cl (by omega) ?_
    refine w_derivationsOf hR.cl hV hE (by omega) (fun M1 N1 hB1 g1 => ?_)
    have hR1 := hR.sc hB1 (CFr.rw g1)
    refine w_Cf hR1.cl rfl ?_
    refine w_derivationsOf hR1.cl hR1.cl.w6 hR1.w (by omega) (fun M2 N2 hB2 g2 => ?_)
    have hR2 := hR1.sc hB2 (CFr.rw g2)
    have hB2' := hB1.tr hB2
    have hF2' := (CFr.rw g1).tr (CFr.rw g2)
    obtain ⟨hE2, hV2⟩ := hR2.shw (show s < 4 by omega) e2
    refine w_le (inv_r hp hn5 5) (inv_r hE.pr hE.n5 5) (fun (e5 : invS S 5 ≤ invY y 5) => ?_) (fun (e5 : invY y 5 < invS S 5) => ?_)
    rotate_left
    · rw [z_1]
      exact hfin M2 N2 1 hB2' hF2' (by rw [if_pos]; exact e5)
    rw [show (1 : Int32) = zI ((1 : Nat) : Int) from rfl]
    refine w_derivedOf (k := 1) hR2.cl hV2 hE2 (by omega) (by omega) (fun N3 g3 => ?_)
    have hF3 : CFr c N2 N3 := CFr.of (fun b hb => g3 b (by omega))
    have hR3 := hR2.sc (Bg.rf hR2.cl) hF3
    refine w_Cf hR3.cl rfl ?_
    refine w_derivedOf (k := 1) hR3.cl hR3.cl.w6 hR3.w (by omega) (by omega) (fun N4 g4 => ?_)
    have hF4 : CFr c N3 N4 := CFr.of (fun b hb => g4 b (by omega))
    have hR4 := hR3.sc (Bg.rf hR3.cl) hF4
    have hF4' := (hF2'.tr hF3).tr hF4
    refine w_le (inv_r hE.pr hE.n5 1) (inv_r hp hn5 1) (fun (e1 : invY y 1 ≤ invS S 1) => ?_) (fun (e1 : invS S 1 < invY y 1) => ?_)
    rotate_left
    · rw [z_2]
      exact hfin M2 N4 2 hB2' hF4' (by rw [if_neg (Int.not_lt.mpr e5), if_pos]; exact e1)
    obtain ⟨hE4, hV4⟩ := hR4.shw (show s < 4 by omega) e2
    refine w_centreOf hR4.cl hV4 hE4 (by omega) (fun M5 N5 hB5 g5 => ?_)
    rw [centre_eq hE.pr hE.n1]
    have hR5 := hR4.sc hB5 (CFr.rw g5)
    refine w_Cf hR5.cl rfl ?_
    refine w_centreOf hR5.cl hR5.cl.w6 hR5.w (by omega) (fun M6 N6 hB6 g6 => ?_)
    rw [centre_eq hp hR.w.n1]
    have hB' := (hB2'.tr hB5).tr hB6
    have hF' := (hF4'.tr (CFr.rw g5)).tr (CFr.rw g6)
    unfold X0_barred_b113
    refine w_le (inv_r hp hn5 4) (inv_r hE.pr hE.n5 4) (fun (e4 : invS S 4 ≤ invY y 4) => ?_) (fun (e4 : invY y 4 < invS S 4) => ?_)
    · exact hfin M6 N6 0 hB' hF' (by rw [if_neg (Int.not_lt.mpr e5), if_neg (Int.not_lt.mpr e1), if_neg]; exact Int.not_lt.mpr e4)
    · rw [z_3]
      exact hfin M6 N6 3 hB' hF' (by rw [if_neg (Int.not_lt.mpr e5), if_neg (Int.not_lt.mpr e1), if_pos]; exact e4)
theorem m_barred {f : Int32 → JM Mem τ} {Q : τ → Mem → NM → Prop} (hR : MR M N m S) (hs : zR s) (h : mPost M N m (stU S 0 (a_barred S s).2) (f (zI (a_barred S s).1)) Q) : GN M N (jb (jcall 7 m (f_X8_barred m (zI s))) f) Q := by
  refine w_Mc hR.ml ?_
  unfold f_X8_barred
  refine m_beg0 hR (fun N1 hR1 hF1 => ?_)
  refine m_isShelf hs ?_
  unfold a_barred at h
  rw [z_0]
  have hno : ∀ (M2 : Mem) (N2 : NM) (v : Int), MR M2 N2 m (stU S 0 0) → MFm m M N M2 N2 → mPost M N m (stU S 0 v) (f (zI (-1))) Q → GN M2 N2 (jb (jcall 7 m (f_X8_refuse m (zI v))) fun x => jp x) (fun v M1 N1 => GN M1 N1 (f v) Q) := fun M2 N2 v hR2 hF2 hh => by
    refine w_refuse hR2.ml (w_jp (hh M2 _ ?_ hF2.up))
    have := hR2.st v
    rw [stU_2] at this
    exact this
  by_cases e : 0 ≤ s ∧ s < 4
  case neg =>
    rw [if_neg e] at h ⊢
    rw [z_2]
    exact w_eq ⟨by omega, by omega⟩ ⟨by omega, by omega⟩ (fun _ => hno M N1 2 hR1 hF1 h) (fun x => absurd rfl x)
  rw [if_pos e] at h ⊢
  refine w_eq ⟨by omega, by omega⟩ ⟨by omega, by omega⟩ (fun x => absurd x (by decide)) (fun _ => ?_)
  refine m_isEmpty hR1 e ?_
  obtain ⟨s, rfl⟩ : ∃ d : Nat, s = d := ⟨s.toNat, by omega⟩
  rw [show ((s : Int).toNat) = s from rfl] at h ⊢
  rw [show (stU S 0 0).1.2.1 s = S.1.2.1 s from rfl]
  cases e2 : S.1.2.1 s with
  | none =>
    rw [e2] at h
    have h : mPost M N m (stU S 0 8) (f (zI (-1))) Q := h
    rw [if_pos rfl, show (8 : Int32) = zI 8 from rfl]
    exact w_eq ⟨by omega, by omega⟩ ⟨by omega, by omega⟩ (fun x => absurd x (by decide)) (fun _ => hno M N1 8 hR1 hF1 h)
  | some y =>
    rw [e2] at h
    have h : mPost M N m (stU S 0 (if sp S = y.1 ∧ sn S = y.2.1 then (brd S y, (0 : Int)) else (-1, 5)).2) (f (zI (if sp S = y.1 ∧ sn S = y.2.1 then (brd S y, (0 : Int)) else (-1, 5)).1)) Q := h
    rw [if_neg (show ¬ (some y = none) from fun x => nomatch x)]
    refine w_eq ⟨by omega, by omega⟩ ⟨by omega, by omega⟩ (fun _ => ?_) (fun x => absurd rfl x)
    have hsh := hR1.2.1.2.1 s (by omega)
    rw [show (stU S 0 0).1.2.1 s = S.1.2.1 s from rfl, e2, Nat.zero_add] at hsh
    refine w_Mf hR1.ml rfl ?_
    rw [z_1, show (127 : Int32) = zI 127 from rfl, zI_add, zI_mul, show 127 * ((s : Int) + 1) = ((127 * (s + 1) : Nat) : Int) by omega]
    refine m_isUnlike hR1 (by omega) hsh.1 hsh.2 ?_
    by_cases eu : sp S = y.1 ∧ sn S = y.2.1
    case neg =>
      rw [if_neg eu] at h
      rw [if_neg (show ¬ (sp (stU S 0 0) = y.1 ∧ sn (stU S 0 0) = y.2.1) from eu), z_5]
      exact w_eq ⟨by omega, by omega⟩ ⟨by omega, by omega⟩ (fun x => absurd x (by decide)) (fun _ => hno M N1 5 hR1 hF1 h)
    rw [if_pos eu] at h
    have h : mPost M N m (stU S 0 0) (f (zI (brd S y))) Q := h
    rw [if_pos (show sp (stU S 0 0) = y.1 ∧ sn (stU S 0 0) = y.2.1 from eu)]
    refine w_eq ⟨by omega, by omega⟩ ⟨by omega, by omega⟩ (fun _ => ?_) (fun x => absurd rfl x)
    have iy := fun k => inv_r (T := y.2.2) hsh.2.1 hsh.2.2.2.1 k
    have ix := fun k => inv_r (T := sT S) hR.ok.1 hR.ok.2.2.1 k
    refine w_upB 4 (fun k M1 N1 => 1 ≤ k ∧ MR M1 N1 m (stU S 0 0) ∧ MFm m M N M1 N1 ∧ (1 < k → ¬ invY y 5 < invS S 5) ∧ (2 < k → ¬ invS S 1 < invY y 1) ∧ (3 < k → ¬ invY y 4 < invS S 4)) 1 rfl (by omega) ⟨by omega, hR1, hF1, fun x => absurd x (by omega), fun x => absurd x (by omega), fun x => absurd x (by omega)⟩ ?_
    rintro k M2 N2 hk ⟨hk1, hR2, hF2, k1, k2, k3⟩
    unfold X8_barred_L63
    rw [z_4, z_1, z_2, z_5]
    refine w_le ⟨by omega, by omega⟩ ⟨by omega, by omega⟩ (fun hc => ?_) (fun hc => ?_)
    · have e0 : brd S y = 0 := by
        unfold brd
        rw [if_neg (k1 (by omega)), if_neg (k2 (by omega)), if_neg (k3 (by omega))]
      rw [e0] at h
      rw [z_0]
      exact w_jinl (w_jp (h M2 N2 hR2 hF2))
    have body : ∀ wh : Nat, 1 ≤ wh ∧ wh ≤ 8 → (k = 1 ∧ wh = 5 ∨ k = 2 ∧ wh = 1 ∨ k = 3 ∧ wh = 4) → GN M2 N2 (X8_barred_b87 m (zI (s : Nat)) (zI k) (zI wh)) (LQ (fun v M1 N1 => GN M1 N1 (f v) Q) fun t M1 N1 => k < 4 ∧ t = zI ((k : Int) + 1) ∧ 1 ≤ k + 1 ∧ MR M1 N1 m (stU S 0 0) ∧ MFm m M N M1 N1 ∧ (1 < k + 1 → ¬ invY y 5 < invS S 5) ∧ (2 < k + 1 → ¬ invS S 1 < invY y 1) ∧ (3 < k + 1 → ¬ invY y 4 < invS S 4)) := fun wh hwh hkk => by
      unfold X8_barred_b87 X8_barred_b144
      rw [z_1, z_2, show (127 : Int32) = zI 127 from rfl, zI_add, zI_mul, show 127 * ((s : Int) + 1) = ((127 * (s + 1) : Nat) : Int) by omega]
      refine m_marks2 hR2 (by omega) e2 hwh (fun M3 N3 hR3 hF3 => ?_)
      rw [show invS (stU S 0 0) wh = invS S wh from rfl, zI_add]
      have hF' := hF2.tr hF3
      refine w_eq ⟨by omega, by omega⟩ ⟨by omega, by omega⟩ (fun e3 => ?_) (fun e3 => ?_)
      · obtain rfl : k = 2 := by omega
        obtain rfl : wh = 1 := by omega
        refine w_le (iy 1) (ix 1) (fun e4 => ?_) (fun e4 => ?_)
        · exact w_jcontB ⟨by omega, rfl, by omega, hR3, hF', fun _ => k1 (by omega), fun _ => Int.not_lt.mpr e4, fun x => absurd x (by omega)⟩
        · have e0 : brd S y = 2 := by
            unfold brd
            rw [if_neg (k1 (by omega)), if_pos]
            exact e4
          rw [e0] at h
          exact w_jinl (w_jp (h M3 N3 hR3 hF'))
      · refine w_le (ix wh) (iy wh) (fun e4 => ?_) (fun e4 => ?_)
        · rcases hkk with ⟨rfl, rfl⟩ | ⟨rfl, rfl⟩ | ⟨rfl, rfl⟩
          · exact w_jcontB ⟨by omega, rfl, by omega, hR3, hF', fun _ => Int.not_lt.mpr e4, fun x => absurd x (by omega), fun x => absurd x (by omega)⟩
          · exact absurd rfl e3
          · exact w_jcontB ⟨by omega, rfl, by omega, hR3, hF', fun _ => k1 (by omega), fun _ => k2 (by omega), fun _ => Int.not_lt.mpr e4⟩
        · rcases hkk with ⟨rfl, rfl⟩ | ⟨rfl, rfl⟩ | ⟨rfl, rfl⟩
          · have e0 : brd S y = 1 := by
              unfold brd
              rw [if_pos]
              exact e4
            rw [e0] at h
            exact w_jinl (w_jp (h M3 N3 hR3 hF'))
          · exact absurd rfl e3
          · have e0 : brd S y = 3 := by
              unfold brd
              rw [if_neg (k1 (by omega)), if_neg (k2 (by omega)), if_pos]
              exact e4
            rw [e0] at h
            exact w_jinl (w_jp (h M3 N3 hR3 hF'))
    refine w_eq ⟨by omega, by omega⟩ ⟨by omega, by omega⟩ (fun e1 => ?_) (fun e1 => ?_)
    · exact body 5 (by omega) (Or.inl ⟨by omega, rfl⟩)
    refine w_eq ⟨by omega, by omega⟩ ⟨by omega, by omega⟩ (fun e2 => ?_) (fun e2 => ?_)
    · exact body 1 (by omega) (Or.inr (Or.inl ⟨by omega, rfl⟩))
    · exact body 4 (by omega) (Or.inr (Or.inr ⟨by omega, rfl⟩))
def a_ran (S : St) (v : Int) : Int × Int := if 0 ≤ v ∧ v ≤ 1 then (if S.2.2.2.2 6 = 0 then (-1, 8) else (if v = 0 then S.2.2.2.2 7 else S.2.2.2.2 8, 0)) else (-1, 5)
theorem c_ran {f : Int32 → JM Mem τ} {Q : τ → Mem → NM → Prop} (hR : CR M N c S) (hO : StOk S) (hv : zR v) (h : cPost M N c (stU S 0 (a_ran S v).2) (f (zI (a_ran S v).1)) Q) : GN M N (jb (jcall 0 c (f_X0_ran c (zI v))) f) Q := by
  have hm := hR.2.2.2.2.2.1
  have h6 := hO.2.2.2.2
  refine w_Cc hR.cl ?_
  unfold f_X0_ran
  have hbad : ¬ (0 ≤ v ∧ v ≤ 1) → GN M N (X0_ran_b9 c) (fun v M1 N1 => GN M1 N1 (f v) Q) := fun e => by
    unfold X0_ran_b9
    rw [z_5]
    exact c_bad (f := fun v => jp v) hR (fun M' N' a b => w_jp (h M' N' a b)) (if_neg e)
  rw [z_0, z_1]
  refine w_lt hv ⟨by omega, by omega⟩ (fun e => hbad (by omega)) (fun e0 => ?_)
  refine w_le hv ⟨by omega, by omega⟩ (fun e1 => ?_) (fun e => hbad (by omega))
  unfold a_ran at h
  rw [if_pos ⟨e0, e1⟩] at h
  refine w_CI hR.cl ?_
  rw [hm.2.2.2.2.2.2.1]
  refine w_eq ⟨by omega, by omega⟩ ⟨by omega, by omega⟩ (fun e => ?_) (fun e => ?_)
  · rw [if_pos e] at h
    rw [show (8 : Int32) = zI 8 from rfl]
    exact w_none hR.cl (w_jp (c_fin0 hR h))
  rw [if_neg e] at h
  unfold X0_ran_b38
  refine w_eq hv ⟨by omega, by omega⟩ (fun e => ?_) (fun e => ?_)
  · rw [if_pos e] at h
    refine w_CI hR.cl ?_
    rw [hm.2.2.2.2.2.2.2.1]
    exact w_gives hR.cl (w_jp (c_fin0 hR h))
  · rw [if_neg e] at h
    refine w_CI hR.cl ?_
    rw [hm.2.2.2.2.2.2.2.2]
    exact w_gives hR.cl (w_jp (c_fin0 hR h))
theorem m_ran {f : Int32 → JM Mem τ} {Q : τ → Mem → NM → Prop} (hR : MR M N m S) (hO : StOk S) (hv : zR v) (h : mPost M N m (stU S 0 (a_ran S v).2) (f (zI (a_ran S v).1)) Q) : GN M N (jb (jcall 7 m (f_X8_ran m (zI v))) f) Q := by
  have h6 := hO.2.2.2.2
  refine w_Mc hR.ml ?_
  unfold f_X8_ran
  refine m_beg0 hR (fun N1 hR1 hF1 => ?_)
  have hm := hR1.2.2.2.2.2
  rw [zL_int hv, show (0 : Int64) = zL 0 from rfl, show (1 : Int64) = zL 1 from rfl]
  refine w_isIn (zRL_of hv) ⟨by omega, by omega⟩ ⟨by omega, by omega⟩ ?_
  unfold a_ran at h
  rw [z_0]
  have hno : ∀ v : Int, mPost M N m (stU S 0 v) (f (zI (-1))) Q → GN M N1 (jb (jcall 7 m (f_X8_refuse m (zI v))) fun x => jp x) (fun v M1 N1 => GN M1 N1 (f v) Q) := fun v hh => by
    refine w_refuse hR1.ml (w_jp (hh M _ ?_ hF1.up))
    have := hR1.st v
    rw [stU_2] at this
    exact this
  by_cases e : 0 ≤ v ∧ v ≤ 1
  case neg =>
    rw [if_neg e] at h ⊢
    rw [z_5]
    exact w_eq ⟨by omega, by omega⟩ ⟨by omega, by omega⟩ (fun _ => hno 5 h) (fun x => absurd rfl x)
  rw [if_pos e] at h ⊢
  refine w_eq ⟨by omega, by omega⟩ ⟨by omega, by omega⟩ (fun x => absurd x (by decide)) (fun _ => ?_)
  refine w_MI hR.ml ?_
  rw [hm.2.2.2.2.2.2.2.1, show (stU S 0 0).2.2.2.2 6 = S.2.2.2.2 6 from rfl]
  refine w_eq ⟨by omega, by omega⟩ ⟨by omega, by omega⟩ (fun e => ?_) (fun e => ?_)
  · rw [if_pos e] at h
    rw [show (8 : Int32) = zI 8 from rfl]
    exact hno 8 h
  rw [if_neg e] at h
  refine w_Mf hR.ml rfl ?_
  refine w_ald (hR.ml.ka (o := 23) (d := (0, 2)) rfl) (by omega) (by omega) ?_
  have := h M N1 hR1 hF1
  rcases (show v = 0 ∨ v = 1 by omega) with rfl | rfl
  · rw [show (0 : Int).toNat = 0 from rfl, hm.2.2.2.2.2.2.2.2.1]
    exact w_jp this
  · rw [show (1 : Int).toNat = 1 from rfl, hm.2.2.2.2.2.2.2.2.2]
    exact w_jp this
end OPS19
