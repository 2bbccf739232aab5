/-! OPS, eighteenth part: invariants; parted, barred. -/
set_option maxRecDepth 100000
section OPS18
variable {α τ : Type} {M M' M1 M2 : Mem} {N N' N1 : NM} {c m i j k q w W B : Nat} {u v s t z : Int} {S S' : St} {p p2 : Int} {n n2 many : Nat} {T F G T2 : Nat → Nat → Nat → Int} {y : Wd}
noncomputable def inv (p : Int) (n : Nat) (T : Nat → Nat → Nat → Int) (k : Nat) : Int := match k with
  | 0 => 10 * p + n
  | 1 => (dm p n (DSr p n T Al 1) : Nat)
  | 2 => (dm p n (DSr p n T Al 2) : Nat)
  | 3 => (dm p n (LSr p n T Al 2) : Nat)
  | 4 => n - (dm p n (Gn p n (fun g => ∃ j k, j < n ∧ k < n ∧ g = fun i => T i j k)) : Nat)
  | 5 => (n * n : Nat) - (dm p (n * n) (DeS p n T) : Nat)
  | 6 => (dm p n (Rs p n n (FoA p n T)) : Nat)
  | 7 => Cls p n T 2
  | _ => Com p n T
theorem inv_r (hp : Pr p) (hn : n ≤ 5) (k : Nat) : zR (inv p n T k) := by
  have h2 := hp.pos
  have h7 := hp.le7
  have hnn := nn_le hn
  have d1 := dm_le (p := p) (n := n) (S := DSr p n T Al 1)
  have d2 := dm_le (p := p) (n := n) (S := DSr p n T Al 2)
  have d3 := dm_le (p := p) (n := n) (S := LSr p n T Al 2)
  have d4 := dm_le (p := p) (n := n) (S := Gn p n (fun g => ∃ j k, j < n ∧ k < n ∧ g = fun i => T i j k))
  have d5 := dm_le (p := p) (n := n * n) (S := DeS p n T)
  have d6 := dm_le (p := p) (n := n) (S := Rs p n n (FoA p n T))
  have s1 := ses_le n (by omega) 1 (by omega)
  have s2 := ses_le n (by omega) 2 (by omega)
  have r1 := DrR_le (p := p) (n := n) (T := T) (d := 1)
  have r2 := DrR_le (p := p) (n := n) (T := T) (d := 2)
  have hpw := pow_bd ⟨by omega, h7⟩ n hn
  have cb := com_bd (T := T) ⟨by omega, h7⟩ hn (p ^ n).toNat (by omega)
  unfold inv
  split
  · exact ⟨by omega, by omega⟩
  · exact ⟨by omega, by omega⟩
  · exact ⟨by omega, by omega⟩
  · exact ⟨by omega, by omega⟩
  · exact ⟨by omega, by omega⟩
  · exact ⟨by omega, by omega⟩
  · exact ⟨by omega, by omega⟩
  · unfold Cls
    rw [if_neg (by omega), show 2 - 1 = 1 from rfl]
    exact ⟨by omega, by omega⟩
  · unfold Com
    exact ⟨by omega, by omega⟩
theorem inv_0 (hp : Pr p) (hn : n ≤ 5) (hp2 : Pr p2) (hn2 : n2 ≤ 5) : inv p n T 0 = inv p2 n2 T2 0 ↔ p = p2 ∧ n = n2 := by
  show 10 * p + n = 10 * p2 + n2 ↔ _
  rcases hp with rfl | rfl | rfl | rfl <;> rcases hp2 with rfl | rfl | rfl | rfl <;> omega
theorem w_markBy {f : Int32 → JM Mem τ} {Q : τ → Mem → NM → Prop} (hM : ML M m) (hA : MA M N m W B p n T) (hk : 1 ≤ k ∧ k ≤ 8)
    (h : ∀ N', FrC N m N' → GN M N' (f (zI (inv p n T k))) Q) : GN M N (jb (jcall 7 m (f_X8_markBy m (zI k))) f) Q := by
  refine w_Mc hM ?_
  unfold f_X8_markBy
  refine w_swz ⟨by omega, by omega⟩ (fun e => absurd e (by omega)) (fun q hq => ?_)
  obtain rfl : k = q + 1 := by omega
  rcases (show q = 0 ∨ q = 1 ∨ q = 2 ∨ q = 3 ∨ q = 4 ∨ q = 5 ∨ q = 6 ∨ q = 7 by omega) with rfl | rfl | rfl | rfl | rfl | rfl | rfl | rfl
  · show GN M N (jb (jcall 7 m (f_X8_seriesOf m 1 0)) _) _
    rw [show (1 : Int32) = zI ((1 : Nat) : Int) from rfl, z_0]
    refine w_seriesOf (k := 1) (d := 0) hM hA (by omega) (Or.inl rfl) (fun N1 g => ?_)
    rw [Ser.d (show (1 : Int) - 0 ≠ 0 by decide)]
    exact w_jp (h N1 (FrC.ser g))
  · show GN M N (jb (jcall 7 m (f_X8_seriesOf m 2 0)) _) _
    rw [show (2 : Int32) = zI ((2 : Nat) : Int) from rfl, z_0]
    refine w_seriesOf (k := 2) (d := 0) hM hA (by omega) (Or.inl rfl) (fun N1 g => ?_)
    rw [Ser.d (show (1 : Int) - 0 ≠ 0 by decide)]
    exact w_jp (h N1 (FrC.ser g))
  · show GN M N (jb (jcall 7 m (f_X8_seriesOf m 2 1)) _) _
    rw [show (2 : Int32) = zI ((2 : Nat) : Int) from rfl, z_1]
    refine w_seriesOf (k := 2) (d := 1) hM hA (by omega) (Or.inr rfl) (fun N1 g => ?_)
    rw [Ser.l (show (1 : Int) - 1 = 0 by decide)]
    exact w_jp (h N1 (FrC.ser g))
  · exact w_centreSize hM hA (fun N1 g g2 => w_jp (h N1 ⟨fun x a b c _ _ _ => g x b (by omega) (by omega), fun k a _ _ => g2 k a⟩))
  · exact w_derivationSize hM hA (fun N1 g => w_jp (h N1 g))
  · exact w_formRank hM hA (fun N1 g => w_jp (h N1 g))
  · show GN M N (jb (jcall 7 m (f_X8_classSize m 2)) _) _
    rw [show (2 : Int32) = zI ((2 : Nat) : Int) from rfl]
    exact w_classSize (d := 2) hM hA (by omega) (fun N1 g => w_jp (h N1 g))
  · exact w_commutingMany hM hA (fun N1 g => w_jp (h N1 g))
theorem w_invariant {f : Int32 → JM Mem τ} {Q : τ → Mem → NM → Prop} (hC : CL M c) (hW : WL M w) (hD : WD N w p n T) (hw : w + 32 ≤ c + 72 ∨ c + 212 ≤ w) (hk : k ≤ 8)
    (h : ∀ M' N', Bg c M M' → CFr c N N' → GN M' N' (f (zI (inv p n T k))) Q) : GN M N (jb (jcall 0 c (f_X0_invariant c w (zI k))) f) Q := by
  have hp := hD.pr
  have hn5 := hD.n5
  refine w_Cc hC ?_
  unfold f_X0_invariant
  have hs : ∀ N1 : NM, (∀ x, x < c + 72 ∨ c + 117 ≤ x → N1 x = N x) → CFr c N N1 := fun N1 g => CFr.of (fun b hb => g b (by omega))
  refine w_sw (by omega) ?_
  rcases (show k = 0 ∨ k = 1 ∨ k = 2 ∨ k = 3 ∨ k = 4 ∨ k = 5 ∨ k = 6 ∨ k = 7 ∨ k = 8 by omega) with rfl | rfl | rfl | rfl | rfl | rfl | rfl | rfl | rfl
  · show GN M N (jb (jgetI 3 1 w) _) _
    refine w_Wp hW (w_Wp hW ?_)
    rw [hD.pe, hD.ne, show (10 : Int32) = zI 10 from rfl, zI_mul, zI_add]
    exact w_jp (h M N (Bg.rf hC) CFr.rf)
  · show GN M N (jb (jcall 0 c (f_X0_derivedOf c w 1)) _) _
    rw [show (1 : Int32) = zI ((1 : Nat) : Int) from rfl]
    exact w_derivedOf (k := 1) hC hW hD hw (by omega) (fun N1 g => w_jp (h M N1 (Bg.rf hC) (hs N1 g)))
  · show GN M N (jb (jcall 0 c (f_X0_derivedOf c w 2)) _) _
    rw [show (2 : Int32) = zI ((2 : Nat) : Int) from rfl]
    exact w_derivedOf (k := 2) hC hW hD hw (by omega) (fun N1 g => w_jp (h M N1 (Bg.rf hC) (hs N1 g)))
  · show GN M N (jb (jcall 0 c (f_X0_lowerOf c w 2)) _) _
    rw [show (2 : Int32) = zI ((2 : Nat) : Int) from rfl]
    exact w_lowerOf (k := 2) hC hW hD hw (by omega) (fun N1 g => w_jp (h M N1 (Bg.rf hC) (hs N1 g)))
  · refine w_centreOf hC hW hD hw (fun M1 N1 hB g => ?_)
    rw [centre_eq hp hD.n1]
    exact w_jp (h M1 N1 hB (CFr.rw g))
  · exact w_derivationsOf hC hW hD hw (fun M1 N1 hB g => w_jp (h M1 N1 hB (CFr.rw g)))
  · exact w_formOf hC hW hD hw (fun M1 N1 hB g => w_jp (h M1 N1 hB (CFr.rw g)))
  · show GN M N (jb (jcall 0 c (f_X0_classesOf c w 2)) _) _
    rw [show (2 : Int32) = zI ((2 : Nat) : Int) from rfl]
    exact w_classesOf (d := 2) hC hW hD hw (by omega) (fun M1 N1 hB g => w_jp (h M1 N1 hB (CFr.rw g)))
  · exact w_commutingOf hC hW hD hw (fun M1 N1 hB g => w_jp (h M1 N1 hB (CFr.of (fun b hb => g b (by omega)))))
/-- invariants of the world now and of another -/
noncomputable def invS (S : St) (k : Nat) : Int := inv (sp S) (sn S) (sT S) k
noncomputable def invY (y : Wd) (k : Nat) : Int := inv y.1 y.2.1 y.2.2 k
/-- by which they are parted, from k on; d are left -/
noncomputable def ptd (S : St) (y : Wd) : Nat → Nat → Int × Int
  | 0, _ => (-1, 8)
  | d + 1, k => if invS S k = invY y k then ptd S y d (k + 1) else ((k : Int), 0)
noncomputable def a_parted (S : St) (s : Int) : Int × Int := if 0 ≤ s ∧ s < 4 then (match S.1.2.1 s.toNat with | none => (-1, 8) | some y => ptd S y 9 0) else (-1, 2)
theorem c_parted {f : Int32 → JM Mem τ} {Q : τ → Mem → NM → Prop} (hR : CR M N c S) (hs : zR s) (h : cPost M N c (stU S 0 (a_parted S s).2) (f (zI (a_parted S s).1)) Q) : GN M N (jb (jcall 0 c (f_X0_parted c (zI s))) f) Q := by
  have hp := hR.w.pr
  have hn5 : sn S ≤ 5 := hR.w.n5
  refine w_Cc hR.cl ?_
  unfold f_X0_parted
  refine c_noShelf hR hs ?_
  unfold a_shelf
  unfold a_parted at h
  rw [z_0]
  by_cases e : 0 ≤ s ∧ s < 4
  case neg =>
    rw [if_neg e] at h ⊢
    exact w_le ⟨by omega, by omega⟩ ⟨by omega, by omega⟩ (fun x => absurd x (by omega)) (fun _ => w_none hR.cl (w_jp (c_fin0 hR h)))
  rw [if_pos e] at h ⊢
  obtain ⟨s, rfl⟩ : ∃ d : Nat, s = d := ⟨s.toNat, by omega⟩
  rw [show ((s : Int).toNat) = s from rfl] at h ⊢
  cases e2 : S.1.2.1 s with
  | none =>
    rw [e2] at h
    have h : cPost M N c (stU S 0 8) (f (zI (-1))) Q := h
    show GN M N (if zI 8 ≤ zI 0 then _ else _) _
    exact w_le ⟨by omega, by omega⟩ ⟨by omega, by omega⟩ (fun x => absurd x (by decide)) (fun _ => w_none hR.cl (w_jp (c_fin0 hR h)))
  | some y =>
    rw [e2] at h
    have h : cPost M N c (stU S 0 (ptd S y 9 0).2) (f (zI (ptd S y 9 0).1)) Q := h
    show GN M N (if zI 0 ≤ zI 0 then _ else _) _
    refine w_le ⟨by omega, by omega⟩ ⟨by omega, by omega⟩ (fun _ => ?_) (fun x => absurd x (by decide))
    refine w_upB 9 (fun k M1 N1 => Bg c M M1 ∧ CFr c N N1 ∧ ptd S y 9 0 = ptd S y (9 - k) k) 0 rfl (by omega) ⟨Bg.rf hR.cl, CFr.rf, rfl⟩ ?_
    rintro k M1 N1 hk ⟨hB, hF, he⟩
    have hR1 := hR.sc hB hF
    unfold X0_parted_L18
    rw [show (9 : Int32) = zI 9 from rfl]
    refine w_le ⟨by omega, by omega⟩ ⟨by omega, by omega⟩ (fun hc => ?_) (fun hc => ?_)
    · unfold X0_parted_b59
      rw [he, show 9 - k = 0 by omega] at h
      rw [show (8 : Int32) = zI 8 from rfl]
      exact w_jinl (w_none hR1.cl (w_jp (c_fin hR hB hF h)))
    refine w_Cf hR1.cl rfl ?_
    refine w_invariant hR1.cl hR1.cl.w6 hR1.w (by omega) (by omega) (fun M2 N2 hB2 hF2 => ?_)
    have hR2 := hR1.sc hB2 hF2
    obtain ⟨hE2, hV2⟩ := hR2.shw (show s < 4 by omega) e2
    refine w_shelf hR2.cl (by omega) ?_
    refine w_invariant hR2.cl hV2 hE2 (by omega) (by omega) (fun M3 N3 hB3 hF3 => ?_)
    have hB' := (hB.tr hB2).tr hB3
    have hF' := (hF.tr hF2).tr hF3
    refine w_eq (inv_r hp hn5 k) (inv_r hE2.pr hE2.n5 k) (fun e5 => ?_) (fun e5 => ?_)
    · rw [z_1, zI_add]
      refine w_jcontB ⟨by omega, rfl, hB', hF', ?_⟩
      rw [he, show 9 - k = (9 - (k + 1)) + 1 by omega]
      exact if_pos e5
    · unfold X0_parted_b47
      rw [he, show 9 - k = (9 - (k + 1)) + 1 by omega, show ptd S y (9 - (k + 1) + 1) k = ((k : Int), 0) from if_neg e5] at h
      exact w_jinl (w_gives (hR.cl.bg hB') (w_jp (c_fin hR hB' hF' h)))
/-- the model asks the world now, then a shelf's, by an invariant -/
theorem m_marks2 {α : Type} {g : Int32 → Int32 → JM Mem α} {Q : α → Mem → NM → Prop} {s : Nat} (hR : MR M N m S) (hs : s < 4) (hy : S.1.2.1 s = some y) (hk : 1 ≤ k ∧ k ≤ 8)
    (h : ∀ M' N', MR M' N' m S → MFm m M N M' N' → GN M' N' (g (zI (invS S k)) (zI (invY y k))) Q) :
    GN M N (jb (jcall 7 m (f_X8_askNow m)) fun _ => jb (jcall 7 m (f_X8_markBy m (zI k))) fun v6 => jb (jgetA 7 19 m) fun v7 => jb (jcall 7 m (f_X8_ask m v7 (zI ((127 * (s + 1) : Nat) : Int)))) fun _ => jb (jcall 7 m (f_X8_markBy m (zI k))) fun v8 => g v6 v8) Q := by
  refine w_askNow hR.ml hR.wm hR.ok (fun M1 N1 hB1 _ hA1 g1 g1' => ?_)
  have hR1 := (hR.bg hB1).sc (N' := N1) ⟨fun b hb => g1 b (by omega), fun k hk => g1' k (by omega) (by omega) (by omega)⟩
  have hF1 : MFm m M N M1 N1 := MFm.bg hB1 (fun b hb => g1 b (by omega))
  refine w_markBy hR1.ml hA1 hk (fun N2 f2 => ?_)
  have hR2 := hR1.sc f2.mf
  have hF2 : MFm m M N M1 N2 := hF1.tr (MFm.bg BgM.rf (fun b hb => f2.mf.1 b (by omega)))
  have hsh := hR2.2.1.2.1 s hs
  rw [hy, Nat.zero_add] at hsh
  refine w_Mf hR2.ml rfl ?_
  refine w_ask (W := m + 5) (B := 127 * (s + 1)) hR2.ml (Or.inl rfl) (hR2.ml.ka (o := 5) (d := (0, 3440)) rfl) (by omega) hsh.1 hsh.2 (fun M3 N3 hB3 _ hA3 g3 g3' => ?_)
  have hR3 := (hR2.bg hB3).sc (N' := N3) ⟨fun b hb => g3 b (by omega), fun k hk => g3' k (by omega) (by omega) (by omega)⟩
  have hF3 : MFm m M N M3 N3 := hF2.tr (MFm.bg hB3 (fun b hb => g3 b (by omega)))
  refine w_markBy hR3.ml hA3 hk (fun N4 f4 => ?_)
  exact h M3 N4 (hR3.sc f4.mf) (hF3.tr (MFm.bg BgM.rf (fun b hb => f4.mf.1 b (by omega))))
theorem m_parted {f : Int32 → JM Mem τ} {Q : τ → Mem → NM → Prop} (hR : MR M N m S) (hs : zR s) (h : mPost M N m (stU S 0 (a_parted S s).2) (f (zI (a_parted S s).1)) Q) : GN M N (jb (jcall 7 m (f_X8_parted m (zI s))) f) Q := by
  refine w_Mc hR.ml ?_
  unfold f_X8_parted
  refine m_beg0 hR (fun N1 hR1 hF1 => ?_)
  refine m_isShelf hs ?_
  unfold a_parted at h
  rw [z_0]
  have hno : ∀ (M2 : Mem) (N2 : NM) (v : Int), MR M2 N2 m (stU S 0 0) → MFm m M N M2 N2 → mPost M N m (stU S 0 v) (f (zI (-1))) Q → GN M2 N2 (jb (jcall 7 m (f_X8_refuse m (zI v))) fun x => jp x) (fun v M1 N1 => GN M1 N1 (f v) Q) := fun M2 N2 v hR2 hF2 hh => by
    refine w_refuse hR2.ml (w_jp (hh M2 _ ?_ hF2.up))
    have := hR2.st v
    rw [stU_2] at this
    exact this
  by_cases e : 0 ≤ s ∧ s < 4
  case neg =>
    rw [if_neg e] at h ⊢
    rw [z_2]
    exact w_eq ⟨by omega, by omega⟩ ⟨by omega, by omega⟩ (fun _ => hno M N1 2 hR1 hF1 h) (fun x => absurd rfl x)
  rw [if_pos e] at h ⊢
  refine w_eq ⟨by omega, by omega⟩ ⟨by omega, by omega⟩ (fun x => absurd x (by decide)) (fun _ => ?_)
  refine m_isEmpty hR1 e ?_
  obtain ⟨s, rfl⟩ : ∃ d : Nat, s = d := ⟨s.toNat, by omega⟩
  rw [show ((s : Int).toNat) = s from rfl] at h ⊢
  rw [show (stU S 0 0).1.2.1 s = S.1.2.1 s from rfl]
  cases e2 : S.1.2.1 s with
  | none =>
    rw [e2] at h
    have h : mPost M N m (stU S 0 8) (f (zI (-1))) Q := h
    rw [if_pos rfl, show (8 : Int32) = zI 8 from rfl]
    exact w_eq ⟨by omega, by omega⟩ ⟨by omega, by omega⟩ (fun x => absurd x (by decide)) (fun _ => hno M N1 8 hR1 hF1 h)
  | some y =>
    rw [e2] at h
    have h : mPost M N m (stU S 0 (ptd S y 9 0).2) (f (zI (ptd S y 9 0).1)) Q := h
    rw [if_neg (show ¬ (some y = none) from fun x => nomatch x)]
    refine w_eq ⟨by omega, by omega⟩ ⟨by omega, by omega⟩ (fun _ => ?_) (fun x => absurd rfl x)
    have hsh := hR1.2.1.2.1 s (by omega)
    rw [show (stU S 0 0).1.2.1 s = S.1.2.1 s from rfl, e2, Nat.zero_add] at hsh
    have i0 := inv_0 (T := sT S) (T2 := y.2.2) hR.ok.1 hR.ok.2.2.1 hsh.2.1 hsh.2.2.2.1
    refine w_Mf hR1.ml rfl ?_
    rw [z_1, show (127 : Int32) = zI 127 from rfl, zI_add, zI_mul, show 127 * ((s : Int) + 1) = ((127 * (s + 1) : Nat) : Int) by omega]
    refine m_isUnlike hR1 (by omega) hsh.1 hsh.2 ?_
    by_cases eu : sp S = y.1 ∧ sn S = y.2.1
    case neg =>
      rw [show ptd S y 9 0 = ((0 : Int), 0) from if_neg (fun x => eu (i0.mp x))] at h
      rw [if_neg (show ¬ (sp (stU S 0 0) = y.1 ∧ sn (stU S 0 0) = y.2.1) from eu)]
      exact w_eq ⟨by omega, by omega⟩ ⟨by omega, by omega⟩ (fun x => absurd x (by decide)) (fun _ => w_jp (h M N1 hR1 hF1))
    rw [show ptd S y 9 0 = ptd S y 8 1 from if_pos (i0.mpr eu)] at h
    rw [if_pos (show sp (stU S 0 0) = y.1 ∧ sn (stU S 0 0) = y.2.1 from eu)]
    refine w_eq ⟨by omega, by omega⟩ ⟨by omega, by omega⟩ (fun _ => ?_) (fun x => absurd rfl x)
    refine w_upB 9 (fun k M1 N1 => 1 ≤ k ∧ MR M1 N1 m (stU S 0 0) ∧ MFm m M N M1 N1 ∧ ptd S y 8 1 = ptd S y (9 - k) k) 1 rfl (by omega) ⟨by omega, hR1, hF1, rfl⟩ ?_
    rintro k M2 N2 hk ⟨hk1, hR2, hF2, he⟩
    unfold X8_parted_L59
    rw [show (9 : Int32) = zI 9 from rfl]
    refine w_le ⟨by omega, by omega⟩ ⟨by omega, by omega⟩ (fun hc => ?_) (fun hc => ?_)
    · unfold X8_parted_b106
      rw [he, show 9 - k = 0 by omega] at h
      rw [show (8 : Int32) = zI 8 from rfl]
      exact w_jinl (hno M2 N2 8 hR2 hF2 h)
    rw [z_1, show (127 : Int32) = zI 127 from rfl, zI_add, zI_mul, show 127 * ((s : Int) + 1) = ((127 * (s + 1) : Nat) : Int) by omega]
    refine m_marks2 hR2 (by omega) e2 (by omega) (fun M3 N3 hR3 hF3 => ?_)
    refine w_eq (inv_r hsh.2.1 hsh.2.2.2.1 k) (inv_r hR.ok.1 hR.ok.2.2.1 k) (fun e5 => ?_) (fun e5 => ?_)
    · rw [zI_add]
      refine w_jcontB ⟨by omega, rfl, by omega, hR3, hF2.tr hF3, ?_⟩
      rw [he, show 9 - k = (9 - (k + 1)) + 1 by omega]
      exact if_pos e5.symm
    · rw [he, show 9 - k = (9 - (k + 1)) + 1 by omega, show ptd S y (9 - (k + 1) + 1) k = ((k : Int), 0) from if_neg (fun x => e5 x.symm)] at h
      exact w_jinl (w_jp (h M3 N3 hR3 (hF2.tr hF3)))
end OPS18
