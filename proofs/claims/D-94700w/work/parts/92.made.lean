/-! THE MODEL: what vectors of a tray make. -/
set_option maxRecDepth 100000
section MADE
variable {α τ : Type} {M M' : Mem} {N N' : NM} {m t len W B : Nat} {p : Int} {n : Nat} {T : Nat → Nat → Nat → Int} {V : Nat → Int} {S S0 : VS}
/-- a span, a part, an ideal made by a span -/
def Mdv (p : Int) (n : Nat) (T : Nat → Nat → Nat → Int) (what : Nat) (S : VS) : VS := if what = 0 then S else Cl p n T (what = 2) S
/-- the brackets of a span's rows with the rows of another, or of its own, lie in it -/
def MdE (p : Int) (n : Nat) (T : Nat → Nat → Nat → Int) (what : Nat) (was : Int) (S : VS) : Prop :=
  was = -1 ∨ ∃ (q0 : Nat) (R0 : Nat → Nat → Int) (ld0 : Nat → Nat) (S1 : VS), was = q0 ∧ Ech p n q0 R0 ld0 S1 ∧ (∀ v, S1 v → S v) ∧ (what = 1 → ∀ i j, i < q0 → j < q0 → S (bk n T (R0 i) (R0 j))) ∧ (what ≠ 1 → ∀ i j, i < q0 → j < n → S (bk n T (R0 i) (un j)))
theorem MdE.end {what : Nat} {was : Int} (hT : WOk p n T) (hw : what = 1 ∨ what = 2) (hS : Sbp p n S) (h : MdE p n T what was S) (e : was = (dm p n S : Nat)) : Clo n T (what = 2) S := by
  have hp := hT.1
  rcases h with h | ⟨q0, R0, ld0, S1, rfl, hE, hle, h1, h2⟩
  · omega
  have : S1 = S := dm_eq hp hE.sb hS hle (by rw [hE.dm hp]; omega)
  subst this
  rcases hw with rfl | rfl
  · have := (clo_part hT hE).mpr (fun a b hb ha => h1 rfl a b ha (by omega))
    exact fun a b ha hb => this a b ha (hb.imp (fun x => absurd x (by decide)) id)
  · have := (clo_ideal hp hE).mpr (fun a i ha hi => h2 (by decide) a i ha hi)
    exact fun a b ha hb => this a b ha (Or.inl trivial)
theorem w_made {f : Int32 → JM Mem τ} {Q : τ → Mem → NM → Prop} {many what : Nat} (hM : ML M m) (hA : MA M N m W B p n T) (hT : TrM M N m t len V) (hm : many ≤ len) (hV : ∀ i, i < many → 0 ≤ V i ∧ V i < p ^ n) (hw : what ≤ 2)
    (h : ∀ N' q R ld, SpM N' (m + 11) p n q R ld (Mdv p n T what (Vsp p n many V)) → (∀ b, b < m + 11 ∨ m + 14 < b → b ≠ m + 17 → b ≠ m + 24 → N' b = N b) → GN M N' (f (zI (q : Nat))) Q) : GN M N (jb (jcall 7 m (f_X8_made m (zI t) (zI many) (zI what))) f) Q := by
  have hpb := hA.pb
  have hp := hA.pr
  have hn5 := hA.n5
  have hWe := hA.We
  have hpw := pow_bd hpb n hn5
  have hlen := hT.2.1
  have hTok := hA.ok
  have h14 := hM.ka (o := 14) (d := (0, 5)) rfl
  have h17 := hM.ka (o := 17) (d := (0, 5)) rfl
  have h11 := hM.ka (o := 11) (d := (0, 25)) rfl
  have h12 := hM.ka (o := 12) (d := (0, 25)) rfl
  have h13 := hM.ka (o := 13) (d := (0, 25)) rfl
  have fra : ∀ N1 : NM, (∀ b, b < m + 11 ∨ m + 14 < b → b ≠ m + 17 → b ≠ m + 24 → N1 b = N b) → MA M N1 m W B p n T := fun N1 g => hA.fr (g m (by omega) (by omega) (by omega)) (g W (by omega) (by omega) (by omega))
  refine w_Mc hM ?_
  unfold f_X8_made
  rw [z_0]
  refine w_up2 many (fun k x N1 => ∃ (q : Nat) (R : Nat → Nat → Int) (ld : Nat → Nat), x = (q : Nat) ∧ SpM N1 (m + 11) p n q R ld (Vsp p n k V) ∧ ∀ b, b < m + 11 ∨ m + 14 < b → b ≠ m + 17 → b ≠ m + 24 → N1 b = N b) 0 0 rfl (by omega)
    ⟨0, _, _, rfl, by
      have : Vsp p n 0 V = Zs p n := vs_anti (fun v hv => Rs.le Zs.sb (fun r hr => absurd hr (by omega)) hv) (fun v hv => Rs.sb.zv hv)
      rw [this]
      exact SpM.nil hp, fun _ _ _ _ => rfl⟩ ?_
  rintro k x N1 hk ⟨q, R, ld, rfl, hs, hfr⟩
  have hqn := hs.qn hp
  show GN M N1 (X8_made_L6 m (zI _) (zI _) (zI _) (zI _) (zI _)) _
  have hA1 := fra N1 hfr
  unfold X8_made_L6
  refine w_le ⟨by omega, by omega⟩ ⟨by omega, by omega⟩ (fun hc => ?_) (fun hc => ?_)
  rotate_left
  · have hkm : k < many := by omega
    have hVk := hV k hkm
    have hT1 : TrM M N1 m t len V := ⟨hT.1, hT.2.1, by rw [hfr _ (by omega) (by omega) (by omega)]; exact hT.2.2.1, hT.2.2.2⟩
    refine w_number hM hT1 (z := (k : Int)) (by omega) ?_
    refine w_Mf hM rfl ?_
    rw [show ((k : Int).toNat) = k from rfl, zI_long, z_0]
    refine w_parts2 (o := 0) hM hA1 (by omega) h14 (by omega) (by omega) ?_
    refine w_Mf hM rfl (w_Mf hM rfl ?_)
    have v1 : VM (wro N1 (m + 14) 0 n (dg p (V k))) (m + 14) 0 p n (dgv p n (V k)) := ⟨fun j hj => by rw [wro_at hj]; exact (if_pos hj).symm, fun j => dgv_bd (by omega) j⟩
    refine w_join (o := 0) hM (hA1.fr (wro_ne (by omega)) (wro_ne (by omega))) h11 (by omega) (hs.fr (wro_ne (by omega))) h14 (by omega) v1 (by omega) (by omega) (by omega) (by omega) (fun N3 q3 R3 ld3 hs3 _ hfr3 => ?_)
    rw [z_1, zI_add]
    refine w_jcont ⟨hkm, _, rfl, q3, R3, ld3, rfl, ?_, fun b h1 h2 h3 => by rw [hfr3 b (by omega) h3, wro_ne (by omega), hfr b h1 h2 h3]⟩
    rw [show Ad (Vsp p n k V) (dgv p n (V k)) = Vsp p n (k + 1) V from Rs.succ (B := fun r => dgv p n (V r))] at hs3
    exact hs3
  obtain rfl : k = many := by omega
  refine w_jinl ?_
  unfold X8_made_b52
  rw [z_m1]
  by_cases hw0 : what = 0
  · subst hw0
    refine w_loop (fun d t N2 => t = (zI q, zI (-1)) ∧ N2 = N1) 0 _ ⟨rfl, rfl⟩ ?_
    rintro d t N2 ⟨rfl, rfl⟩
    show GN M N2 (X8_made_L55 m (zI _) (zI _) (zI _)) _
    unfold X8_made_L55
    rw [z_0]
    exact w_le ⟨by omega, by omega⟩ ⟨by omega, by omega⟩ (fun _ => w_jinl (w_jp (h N2 q R ld hs hfr))) (fun x => absurd x (by decide))
  have hw12 : what = 1 ∨ what = 2 := by omega
  have hMd : Mdv p n T what (Vsp p n k V) = Cl p n T (what = 2) (Vsp p n k V) := if_neg hw0
  rw [hMd] at h
  refine w_loop (fun d t N2 => ∃ (q : Nat) (was : Int) (R : Nat → Nat → Int) (ld : Nat → Nat) (S : VS), t = (zI q, zI was) ∧ -1 ≤ was ∧ was ≤ q ∧ d = (n - was).toNat ∧ SpM N2 (m + 11) p n q R ld S ∧ (∀ v, Vsp p n k V v → S v) ∧ (∀ v, S v → Cl p n T (what = 2) (Vsp p n k V) v) ∧ MdE p n T what was S ∧ ∀ b, b < m + 11 ∨ m + 14 < b → b ≠ m + 17 → b ≠ m + 24 → N2 b = N b) _ _ ⟨q, -1, R, ld, _, rfl, by omega, by omega, rfl, hs, fun v hv => hv, fun v hv => Cl.le hv, Or.inl rfl, hfr⟩ ?_
  clear hs hfr hqn
  rintro d t N2 ⟨q, was, R, ld, S, rfl, hw1, hwq, rfl, hs, hle, hin, hE, hfr⟩
  have hqn := hs.qn hp
  have hA2 := fra N2 hfr
  show GN M N2 (X8_made_L55 m (zI _) (zI _) (zI _)) _
  unfold X8_made_L55
  rw [z_0]
  refine w_le ⟨by omega, by omega⟩ ⟨by omega, by omega⟩ (fun hd => absurd hd (by omega)) (fun _ => ?_)
  refine w_eq ⟨by omega, by omega⟩ ⟨by omega, by omega⟩ (fun hd => ?_) (fun hd => ?_)
  · have hcl := hE.end hTok hw12 hs.ech.sb (by rw [hs.ech.dm hp]; exact hd)
    have e := Cl.uni hs.ech.sb hle hcl hin
    rw [e] at hs
    exact w_jinl (w_jp (h N2 q R ld hs hfr))
  refine w_Mf hM rfl (w_Mf hM rfl ?_)
  refine w_copySpan hM h11 h12 (by omega) (by omega) (fun N3 c3 f3 => ?_)
  have d3 : SpM N3 (m + 12) p n q R ld S := hs.cp hp hn5 c3
  have s3 : SpM N3 (m + 11) p n q R ld S := hs.fr (f3 _ (by omega))
  have g3 : ∀ b, b < m + 11 ∨ m + 14 < b → b ≠ m + 17 → b ≠ m + 24 → N3 b = N b := fun b a1 a2 a3 => by rw [f3 b (by omega), hfr b a1 a2 a3]
  have body : ∀ (N4 : NM) (o : Nat) (RE : Nat → Nat → Int) (le : Nat → Nat) (SE : VS), SpM N4 (m + 12) p n q R ld S → SpM N4 (m + 11) p n q R ld S → SpM N4 (m + 13) p n o RE le SE → (what = 1 → o = q ∧ RE = R) → (what ≠ 1 → o = n ∧ RE = fun r k => if k < n then un r k else 0) → (∀ b, b < m + 11 ∨ m + 14 < b → b ≠ m + 17 → b ≠ m + 24 → N4 b = N b) →
      GN M N4 (X8_made_b119 m (zI what) (zI q) (zI q) (zI o)) (LQ (fun v M1 N1 => GN M1 N1 (f v) Q) (KF M (fun t1 N2 => ∃ m_1, m_1 < (n - was).toNat ∧ ∃ (q : Nat) (was : Int) (R : Nat → Nat → Int) (ld : Nat → Nat) (S : VS), t1 = (zI q, zI was) ∧ -1 ≤ was ∧ was ≤ q ∧ m_1 = (n - was).toNat ∧ SpM N2 (m + 11) p n q R ld S ∧ (∀ v, Vsp p n k V v → S v) ∧ (∀ v, S v → Cl p n T (what = 2) (Vsp p n k V) v) ∧ MdE p n T what was S ∧ ∀ b, b < m + 11 ∨ m + 14 < b → b ≠ m + 17 → b ≠ m + 24 → N2 b = N b))) := by
    intro N4 o RE le SE d4 s4 e4 ho1 ho2 g4
    have hon := e4.qn hp
    -- each bracket lies in what is closed
    have hcl : ∀ i j, i < q → j < o → Cl p n T (what = 2) (Vsp p n k V) (bk n T (R i) (RE j)) := fun i j hi hj => by
      rcases hw12 with e | e
      · obtain ⟨rfl, rfl⟩ := ho1 e
        exact Cl.clo _ _ (hin _ (hs.ech.row hi)) (Or.inr (hin _ (hs.ech.row hj)))
      · exact Cl.clo _ _ (hin _ (hs.ech.row hi)) (Or.inl e)
    unfold X8_made_b119
    rw [z_0]
    refine w_up2 q (fun i x N5 => ∃ (q' : Nat) (R' : Nat → Nat → Int) (ld' : Nat → Nat) (S' : VS), x = (q' : Nat) ∧ SpM N5 (m + 11) p n q' R' ld' S' ∧ (∀ x, S x → S' x) ∧ (∀ x, S' x → Cl p n T (what = 2) (Vsp p n k V) x) ∧ (∀ r s, r < i → s < o → S' (bk n T (R r) (RE s))) ∧ SpM N5 (m + 12) p n q R ld S ∧ SpM N5 (m + 13) p n o RE le SE ∧ ∀ b, b < m + 11 ∨ m + 14 < b → b ≠ m + 17 → b ≠ m + 24 → N5 b = N b) 0 q rfl (by omega)
      ⟨q, R, ld, S, rfl, s4, fun _ hx => hx, hin, fun r s hr => absurd hr (by omega), d4, e4, g4⟩ ?_
    rintro i x N5 hi ⟨q', R', ld', S', rfl, s5, l5, c5, b5, d5, e5, g5⟩
    have hq' := s5.qn hp
    show GN M N5 (X8_made_L122 m (zI _) (zI _) (zI _) (zI _) (zI _)) _
    unfold X8_made_L122
    refine w_le ⟨by omega, by omega⟩ ⟨by omega, by omega⟩ (fun hf => ?_) (fun hf => ?_)
    · obtain rfl : i = q := by omega
      have hqq : i ≤ q' := by
        have := dm_mono (p := p) (n := n) l5
        rw [hs.ech.dm hp, s5.ech.dm hp] at this
        exact this
      refine w_jinl (w_jcont ⟨(n - (i : Int)).toNat, by omega, q', (i : Int), R', ld', S', rfl, by omega, by omega, rfl, s5, fun v hv => l5 v (hle v hv), c5, Or.inr ⟨i, R, ld, S, rfl, hs.ech, l5, fun e r s hr hs2 => ?_, fun e r s hr hs2 => ?_⟩, g5⟩)
      · obtain ⟨rfl, rfl⟩ := ho1 e
        exact b5 r s hr hs2
      · obtain ⟨rfl, rfl⟩ := ho2 e
        exact s5.ech.sb.q (b5 r s hr hs2) (fun k _ => bk_q (Vq.rf) (Vq.of (fun j hj => if_pos hj)) k)
    rw [z_0]
    refine w_up2 o (fun j x N6 => ∃ (q' : Nat) (R' : Nat → Nat → Int) (ld' : Nat → Nat) (S' : VS), x = (q' : Nat) ∧ SpM N6 (m + 11) p n q' R' ld' S' ∧ (∀ x, S x → S' x) ∧ (∀ x, S' x → Cl p n T (what = 2) (Vsp p n k V) x) ∧ (∀ r s, r < i ∨ r = i ∧ s < j → s < o → S' (bk n T (R r) (RE s))) ∧ SpM N6 (m + 12) p n q R ld S ∧ SpM N6 (m + 13) p n o RE le SE ∧ ∀ b, b < m + 11 ∨ m + 14 < b → b ≠ m + 17 → b ≠ m + 24 → N6 b = N b) 0 _ rfl (by omega)
      ⟨q', R', ld', S', rfl, s5, l5, c5, fun r s hr hs2 => b5 r s (by omega) hs2, d5, e5, g5⟩ ?_
    clear s5 l5 c5 b5 d5 e5 g5 hq'
    rintro j x N6 hj ⟨q', R', ld', S', rfl, s6, l6, c6, b6, d6, e6, g6⟩
    have hq' := s6.qn hp
    show GN M N6 (X8_made_L132 m (zI _) (zI _) (zI _) (zI _) (zI _) (zI _)) _
    unfold X8_made_L132
    refine w_le ⟨by omega, by omega⟩ ⟨by omega, by omega⟩ (fun hg => ?_) (fun hg => ?_)
    · unfold X8_made_b186
      rw [z_1, zI_add]
      exact w_jinl (w_jcont ⟨by omega, _, rfl, q', R', ld', S', rfl, s6, l6, c6, fun r s hr hs2 => b6 r s (by omega) hs2, d6, e6, g6⟩)
    have hiq : i < q := by omega
    have hjo : j < o := by omega
    have hA6 := fra N6 g6
    refine w_Mf hM rfl (w_Mf hM rfl (w_Mf hM rfl ?_))
    rw [z_5, zI_mul, zI_mul, show (5 * (i : Int)) = ((5 * i : Nat) : Int) by omega, show (5 * (j : Int)) = ((5 * j : Nat) : Int) by omega]
    refine w_bracketOf hM hA6 h12 (by omega) h13 (by omega) h17 (by omega) (d6.vm hiq) (e6.vm hjo) (by omega) (by omega) (by omega) (by omega) ?_
    refine w_Mf hM rfl (w_Mf hM rfl ?_)
    rw [z_0]
    have hv4 : VM (wro N6 (m + 17) 0 n (fun k => bk n T (R i) (RE j) k % p)) (m + 17) 0 p n (bkm p n T (R i) (RE j)) := ⟨fun k hk => wro_at hk, bkm_bd hTok⟩
    refine w_join (o := 0) hM (hA6.fr (wro_ne (by omega)) (wro_ne (by omega))) h11 (by omega) (s6.fr (wro_ne (by omega))) h17 (by omega) hv4 (by omega) (by omega) (by omega) (by omega) (fun N7 q7 R7 ld7 s7 _ f7 => ?_)
    rw [z_1, zI_add]
    have hmem : Ad S' (bkm p n T (R i) (RE j)) (bk n T (R i) (RE j)) := (Ad.sb s6.ech.sb).q (Ad.me s6.ech.sb) bkm_q
    refine w_jcont ⟨hjo, _, rfl, q7, R7, ld7, _, rfl, s7, fun x hx => Ad.le s6.ech.sb (l6 x hx), fun x hx => Ad.min Cl.sb c6 (Cl.sb.q (hcl i j hiq hjo) bkm_q.sy) hx, fun r s hr hs2 => ?_, d6.fr (by rw [f7 _ (by omega) (by omega), wro_ne (by omega)]), e6.fr (by rw [f7 _ (by omega) (by omega), wro_ne (by omega)]), fun b a1 a2 a3 => by rw [f7 b (by omega) a3, wro_ne a2, g6 b a1 a2 a3]⟩
    by_cases e : r = i ∧ s = j
    · rw [e.1, e.2]; exact hmem
    · exact Ad.le s6.ech.sb (b6 r s (by omega) hs2)
  rw [z_1]
  refine w_eq ⟨by omega, by omega⟩ ⟨by omega, by omega⟩ (fun e => ?_) (fun e => ?_)
  · unfold X8_made_b100
    rw [z_1]
    refine w_eq ⟨by omega, by omega⟩ ⟨by omega, by omega⟩ (fun _ => ?_) (fun x => absurd e x)
    refine w_Mf hM rfl (w_Mf hM rfl ?_)
    refine w_copySpan hM h11 h13 (by omega) (by omega) (fun N4 c4 f4 => ?_)
    exact body N4 q R ld S (d3.fr (f4 _ (by omega))) (s3.fr (f4 _ (by omega))) (s3.cp hp hn5 c4) (fun _ => ⟨rfl, rfl⟩) (fun x => absurd (show what = 1 by omega) x) (fun b a1 a2 a3 => by rw [f4 b (by omega), g3 b a1 a2 a3])
  · refine w_Mf hM rfl ?_
    refine w_wholeSpan hM (fra N3 g3) h13 (by omega) (by omega) (fun N4 c4 f4 => ?_)
    unfold X8_made_b100
    rw [z_1]
    refine w_eq ⟨by omega, by omega⟩ ⟨by omega, by omega⟩ (fun x => absurd x e) (fun _ => ?_)
    exact body N4 n _ _ Al (d3.fr (f4 _ (by omega))) (s3.fr (f4 _ (by omega))) (SpM.al hp c4) (fun x => absurd x (by omega)) (fun _ => ⟨rfl, rfl⟩) (fun b a1 a2 a3 => by rw [f4 b (by omega), g3 b a1 a2 a3])
end MADE
