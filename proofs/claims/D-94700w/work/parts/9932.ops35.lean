/-! RUN: the model's plain steps. -/
set_option maxRecDepth 100000
section OPS35
variable {α τ ρ : Type} {M M' M1 M2 : Mem} {N N' N1 : NM} {c m i j q n A : Nat} {u v z b d e t k : Int} {S S' : St} {H : Hs} {a : Nat → Int} {p : Int} {T : Nat → Nat → Nat → Int} {W B : Nat} {s : Scr}
theorem m_st0 {f : Int32 → JM Mem τ} {Q : τ → Mem → NM → Prop} (hR : MR M N m S) (hs : S.1.2.2 = some s) (hO : ScOk s) (hi : i < s.1) (h : GN M N (f (zI (s.2 i 0))) Q) : GN M N (jb (jgetA 7 19 m) fun v => jb (jald mI 0 v (zI ((637 + 7 * i : Nat) : Int))) f) Q :=
  m_stp (k := 0) hR hs hO hi (by omega) h
theorem plB_in {r k : Nat} (hr : r < sn S) (hk : k < sn S) : plB S.1 a r k = elB (sp S) (a 0) (a 1).toNat (a 2).toNat (if a 0 = 1 then a 2 else a 3) r k := trB_in hr hk
theorem m_linear {f : Int32 → JM Mem τ} {Q : τ → Mem → NM → Prop} (hR : MR M N m S) (hA : MA M N m (m + 5) 0 (sp S) (sn S) (sT S)) (hs : S.1.2.2 = some s) (hO : ScOk s) (hi : i < s.1) (h3 : s.2 i 0 < 3)
    (h : ∀ N' v, (v = 1 ∧ plOk S.1 (s.2 i) ∧ MR M N' m (stH S (plH S.1 (s.2 i))) ∨ v = 0 ∧ ¬ plOk S.1 (s.2 i) ∧ MR M N' m S) → MFm m M N M N' → (∀ k, 50 ≤ k → k ≤ 53 → N' m k = N m k) → GN M N' (f (zI v)) Q) : GN M N (jb (jcall 7 m (f_X8_linear m (zI ((637 + 7 * i : Nat) : Int)))) f) Q := by
  have hk0 := hO.2 i hi
  obtain ⟨r0, r1, r2, _⟩ := hO.arg hi
  have hM := hR.ml
  have hn5 := hA.n5
  have hpb := hA.pb
  have hp := hA.pr
  have hp1 := hp.pos
  have hpp : 0 < sp S := by omega
  have hb1 : 0 ≤ s.2 i 1 ∧ s.2 i 1 ≤ 4 ∧ 0 ≤ s.2 i 2 ∧ s.2 i 2 ≤ 6 := by omega
  have hno : ¬ plOk S.1 (s.2 i) → GN M N (f (zI 0)) Q := fun x => h N 0 (Or.inr ⟨rfl, x, hR⟩) MFm.rf (fun _ _ _ => rfl)
  refine w_Mc hM ?_
  unfold f_X8_linear X8_linear_b54 X8_linear_b71
  refine m_st0 hR hs hO hi ?_
  rw [show (1 : Int32) = zI ((1 : Nat) : Int) from rfl, show (2 : Int32) = zI ((2 : Nat) : Int) from rfl, show (3 : Int32) = zI ((3 : Nat) : Int) from rfl]
  refine m_stq hR hs hO hi (by omega) ?_
  refine m_stq hR hs hO hi (by omega) ?_
  refine m_isBase hM hA.ne hn5 ⟨by omega, by omega⟩ ?_
  rw [z_0, show (zI ((1 : Nat) : Int)) = zI 1 from rfl]
  have kd : plOk S.1 (s.2 i) ↔ (if s.2 i 0 = 1 then s.2 i 1 < sn S ∧ s.2 i 2 % sp S ≠ 0 else s.2 i 1 < sn S ∧ s.2 i 2 < sn S ∧ s.2 i 1 ≠ s.2 i 2) := by
    unfold plOk
    by_cases e : s.2 i 0 = 1
    · rw [if_pos e, if_pos e]; exact Iff.rfl
    · rw [if_neg e, if_pos h3, if_neg e]; exact Iff.rfl
  by_cases e1 : s.2 i 1 < sn S
  case neg =>
    rw [if_neg (show ¬ (0 ≤ s.2 i 1 ∧ s.2 i 1 < (sn S : Int)) by omega)]
    refine w_eq ⟨by omega, by omega⟩ ⟨by omega, by omega⟩ (fun _ => w_jp (hno (fun x => ?_))) (fun x => absurd rfl x)
    rw [kd] at x
    split at x
    · exact e1 x.1
    · exact e1 x.1
  rw [if_pos (show 0 ≤ s.2 i 1 ∧ s.2 i 1 < (sn S : Int) by omega)]
  refine w_eq ⟨by omega, by omega⟩ ⟨by omega, by omega⟩ (fun x => absurd x (by decide)) (fun _ => ?_)
  obtain ⟨I, hI⟩ : ∃ I : Nat, s.2 i 1 = I := ⟨(s.2 i 1).toNat, by omega⟩
  obtain ⟨J, hJ⟩ : ∃ J : Nat, s.2 i 2 = J := ⟨(s.2 i 2).toNat, by omega⟩
  -- what is left to do once it is known that it can be done
  have hfin : plOk S.1 (s.2 i) → ∀ N1, (∀ r k, r < sn S → k < sn S → N1 (m + 32) (5 * r + k) = plB S.1 (s.2 i) r k) → (∀ b, b ≠ m + 32 → N1 b = N b) → GN M N1 (X8_linear_b147 m) (fun v M1 N1 => GN M1 N1 (f v) Q) := fun ok N1 g1 g2 => by
    have hA1 : MA M N1 m (m + 5) 0 (sp S) (sn S) (sT S) := hA.fr (g2 _ (by omega)) (g2 _ (by omega))
    have hgj : gjB (sp S) (sn S) (plB S.1 (s.2 i)) := by
      have hk := kd.mp ok
      refine elB_gj hp (show (s.2 i 1).toNat < sn S by omega) (fun hne => ?_) (fun h1 => ?_)
      · rw [if_neg hne] at hk
        exact ⟨show (s.2 i 2).toNat < sn S by omega, by omega⟩
      · rw [if_pos h1] at hk
        rw [if_pos h1]
        exact hk.2
    unfold X8_linear_b147
    refine w_changeInto (Bm := plB S.1 (s.2 i)) hM hA1 (fun r k hr hk => g1 r k hr hk) (fun r k => trB_bd hp1 (elB_bd hp1)) (fun N2 v hv g3 => ?_)
    have eN : ∀ b, b ≠ m + 32 → b ≠ m + 29 → b ≠ m + 33 → b ≠ m + 17 → b ≠ m + 7 → N2 b = N b := fun b a1 a2 a3 a4 a5 => (g3 b a2 a3 a4 a5).trans (g2 b a1)
    rcases hv with ⟨rfl, _, hW⟩ | ⟨rfl, hx⟩
    · refine m_takeOther hM hW (altT_ok hp ⟨hA.n1, hn5⟩) (fun N3 hF hW3 => ?_)
      have hF2 : MFw m N N3 := MFw.tr (MFw.of (fun b h1 h2 => eN b (by omega) (by omega) (by omega) (by omega) (by omega)) (fun l _ => by rw [eN (m + 5) (by omega) (by omega) (by omega) (by omega) (by omega)])) hF
      have hR3 := hR.setW (y := wch S (plB S.1 (s.2 i))) hF2 hW3
      have ep : plH S.1 (s.2 i) = (wch (wH S.1) (plB S.1 (s.2 i)), S.1.2) := if_pos h3
      rw [z_1]
      refine w_jp (h N3 1 (Or.inl ⟨rfl, ok, by rw [ep]; exact hR3⟩) ⟨fun b hb => hF2.1 b (by omega), mR M, mL M, rfl, fun _ _ => ⟨rfl, rfl⟩⟩ (fun k x y => hF2.2.1 k (by omega)))
    · exact absurd hgj hx
  have h32 := hM.ka (o := 32) (d := (0, 25)) rfl
  have hwhole : ∀ g : JM Mem Int32, (∀ N1, (∀ r k, r < sn S → k < sn S → N1 (m + 32) (5 * r + k) = un r k) → (∀ b, b ≠ m + 32 → N1 b = N b) → GN M N1 g (fun v M1 N1 => GN M1 N1 (f v) Q)) → GN M N (jb (jgetA 7 66 m) fun v8 => jb (jcall 7 m (f_X8_wholeSpan m v8)) fun v9 => g) (fun v M1 N1 => GN M1 N1 (f v) Q) := fun g hg => by
    refine w_Mf hM rfl ?_
    exact w_wholeSpan hM hA h32 (by omega) (by omega) (fun N1 g1 g2 => hg N1 g1 g2)
  have eun : ∀ r k, un r k = if r = k then (1 : Int) else 0 := fun r k => by unfold un; simp only [eq_comm]
  refine w_eq ⟨by omega, by omega⟩ ⟨by omega, by omega⟩ (fun k1 => ?_) (fun k1 => ?_)
  · -- made so many of
    refine w_eq ⟨by omega, by omega⟩ ⟨by omega, by omega⟩ (fun _ => ?_) (fun x => absurd k1 x)
    refine w_MI hM ?_
    rw [hA.pe]
    refine w_remP ⟨by omega, by omega, by omega⟩ ⟨by omega, by omega, by omega⟩ ?_
    have hm1 := Int.emod_nonneg (s.2 i 2) (show sp S ≠ 0 by omega)
    have hm2 := Int.emod_lt_of_pos (s.2 i 2) hpp
    refine w_eq ⟨by omega, by omega⟩ ⟨by omega, by omega⟩ (fun e2 => w_jp (hno (fun x => ?_))) (fun e2 => ?_)
    · have := kd.mp x
      rw [if_pos k1] at this
      exact this.2 e2
    have ok : plOk S.1 (s.2 i) := kd.mpr (by rw [if_pos k1]; exact ⟨e1, e2⟩)
    refine hwhole _ (fun N1 g1 g2 => ?_)
    have hA1 : MA M N1 m (m + 5) 0 (sp S) (sn S) (sT S) := hA.fr (g2 _ (by omega)) (g2 _ (by omega))
    refine w_eq ⟨by omega, by omega⟩ ⟨by omega, by omega⟩ (fun x => absurd x (by omega)) (fun _ => ?_)
    refine w_eq ⟨by omega, by omega⟩ ⟨by omega, by omega⟩ (fun _ => ?_) (fun x => absurd k1 x)
    refine w_Mf hM rfl (w_MI hM ?_)
    rw [hA1.pe]
    refine w_remP ⟨by omega, by omega, by omega⟩ ⟨by omega, by omega, by omega⟩ ?_
    rw [z_5, hI, zI_mul, zI_add]
    refine w_ast h32 (by omega) (by omega) ?_
    refine hfin ok _ (fun r k hr hk => ?_) (fun b hb => (upb hb).trans (g2 b hb))
    show (if m + 32 = m + 32 ∧ 5 * r + k = (5 * (I : Int) + I).toNat then s.2 i 2 % sp S else N1 (m + 32) (5 * r + k)) = _
    rw [plB_in hr hk, g1 r k hr hk, eun]
    unfold elB
    rw [if_neg (show ¬ s.2 i 0 = 0 by omega), if_pos k1, if_pos k1, hI]
    show _ = if r = I ∧ k = I then s.2 i 2 % sp S else if r = k then 1 else 0
    by_cases e3 : r = I ∧ k = I
    · rw [if_pos (by omega), if_pos e3]
    · rw [if_neg (by omega), if_neg e3]
  · -- two of them
    refine m_isBase hM hA.ne hn5 ⟨by omega, by omega⟩ ?_
    by_cases e2 : s.2 i 2 < sn S
    case neg =>
      rw [if_neg (show ¬ (0 ≤ s.2 i 2 ∧ s.2 i 2 < (sn S : Int)) by omega)]
      refine w_eq ⟨by omega, by omega⟩ ⟨by omega, by omega⟩ (fun _ => w_jp (hno (fun x => ?_))) (fun x => absurd rfl x)
      have := kd.mp x
      rw [if_neg k1] at this
      exact e2 this.2.1
    rw [if_pos (show 0 ≤ s.2 i 2 ∧ s.2 i 2 < (sn S : Int) by omega)]
    refine w_eq ⟨by omega, by omega⟩ ⟨by omega, by omega⟩ (fun x => absurd x (by decide)) (fun _ => ?_)
    refine w_eq ⟨by omega, by omega⟩ ⟨by omega, by omega⟩ (fun e3 => w_jp (hno (fun x => ?_))) (fun e3 => ?_)
    · have := kd.mp x
      rw [if_neg k1] at this
      exact this.2.2 e3
    have ok : plOk S.1 (s.2 i) := kd.mpr (by rw [if_neg k1]; exact ⟨e1, e2, e3⟩)
    refine w_eq ⟨by omega, by omega⟩ ⟨by omega, by omega⟩ (fun x => absurd x k1) (fun _ => ?_)
    refine hwhole _ (fun N1 g1 g2 => ?_)
    have hA1 : MA M N1 m (m + 5) 0 (sp S) (sn S) (sT S) := hA.fr (g2 _ (by omega)) (g2 _ (by omega))
    refine w_eq ⟨by omega, by omega⟩ ⟨by omega, by omega⟩ (fun k0 => ?_) (fun k0 => ?_)
    · refine w_Mf hM rfl ?_
      rw [hI, hJ]
      refine w_exchange hM hA1 h32 (by omega) (by omega) (by omega) (show I < sn S by omega) (show J < sn S by omega) (fun N2 g3 g4 => ?_)
      refine hfin ok N2 (fun r k hr hk => ?_) (fun b hb => (g4 b hb).trans (g2 b hb))
      rw [g3 r k hr hk, g1 _ k (by split; omega; split; omega; exact hr) hk, eun]
      rw [plB_in hr hk]
      unfold elB
      rw [if_pos k0, hI, hJ]
      show (if (if r = J then I else if r = I then J else r) = k then (1 : Int) else 0) = if r = I then (if k = J then 1 else 0) else if r = J then (if k = I then 1 else 0) else if r = k then 1 else 0
      by_cases c1 : r = I
      · rw [if_pos c1, if_neg (show ¬ r = J by omega), if_pos c1]; simp only [eq_comm]
      · rw [if_neg c1]
        by_cases c2 : r = J
        · rw [if_pos c2, if_neg c1, if_pos c2]; simp only [eq_comm]
        · rw [if_neg c2, if_neg c2, if_neg c1]
    · refine w_eq ⟨by omega, by omega⟩ ⟨by omega, by omega⟩ (fun x => absurd x k1) (fun _ => ?_)
      obtain ⟨_, _, _, _, y1, y2⟩ := r2 (by omega)
      refine w_Mf hM rfl ?_
      have hR1 : MR M N1 m S := hR.sc (MFr.of (fun b hb => g2 b (by omega)))
      refine m_stq hR1 hs hO hi (by omega) ?_
      refine w_MI hM ?_
      rw [hA1.pe]
      refine w_remP ⟨by omega, by omega, by omega⟩ ⟨by omega, by omega, by omega⟩ ?_
      rw [z_5, hI, hJ, zI_mul, zI_add]
      refine w_ast h32 (by omega) (by omega) ?_
      refine hfin ok _ (fun r k hr hk => ?_) (fun b hb => (upb hb).trans (g2 b hb))
      show (if m + 32 = m + 32 ∧ 5 * r + k = (5 * (J : Int) + I).toNat then s.2 i 3 % sp S else N1 (m + 32) (5 * r + k)) = _
      rw [plB_in hr hk, g1 r k hr hk, eun]
      unfold elB
      rw [if_neg k0, if_neg k1, if_neg k1, hI, hJ]
      show _ = if r = J ∧ k = I then s.2 i 3 % sp S else if r = k then 1 else 0
      by_cases e3 : r = J ∧ k = I
      · rw [if_pos (by omega), if_pos e3]
      · rw [if_neg (by omega), if_neg e3]
theorem m_doPlain {f : Int32 → JM Mem τ} {Q : τ → Mem → NM → Prop} (hR : MR M N m S) (hA : MA M N m (m + 5) 0 (sp S) (sn S) (sT S)) (hs : S.1.2.2 = some s) (hO : ScOk s) (hi : i < s.1) (h6 : s.2 i 0 < 6)
    (h : ∀ N' v, (v = 1 ∧ plOk S.1 (s.2 i) ∧ MR M N' m (stH S (plH S.1 (s.2 i))) ∨ v = 0 ∧ ¬ plOk S.1 (s.2 i) ∧ MR M N' m S) → MFm m M N M N' → (∀ k, 50 ≤ k → k ≤ 53 → N' m k = N m k) → GN M N' (f (zI v)) Q) : GN M N (jb (jcall 7 m (f_X8_doPlain m (zI ((637 + 7 * i : Nat) : Int)))) f) Q := by
  have hk0 := hO.2 i hi
  have hM := hR.ml
  refine w_Mc hM ?_
  unfold f_X8_doPlain
  refine m_st0 hR hs hO hi ?_
  rw [z_3]
  have h01 : ∀ {v : Int} {P Q : Prop}, (v = 1 ∧ P ∨ v = 0 ∧ Q) → v = 0 ∨ v = 1 := fun h => by rcases h with ⟨e, _⟩ | ⟨e, _⟩ <;> omega
  refine w_le ⟨by omega, by omega⟩ ⟨by omega, by omega⟩ (fun e3 => ?_) (fun e3 => ?_)
  rotate_left
  · exact m_linear hR hA hs hO hi (by omega) (fun N1 v hv hF hk => w_rze (h01 hv) (h N1 v hv hF hk))
  obtain ⟨y1, y2⟩ := (hO.arg hi).2.2.2.1 (by omega)
  rw [show (1 : Int32) = zI ((1 : Nat) : Int) from rfl, z_0, z_5]
  refine m_stq hR hs hO hi (by omega) ?_
  obtain ⟨k, hk⟩ : ∃ I : Nat, s.2 i 1 = I := ⟨(s.2 i 1).toNat, by omega⟩
  have h5 := hM.ka (o := 5) (d := (0, 3440)) rfl
  have ep : plH S.1 (s.2 i) = if s.2 i 0 = 3 then (S.1.1, (fun j => if j = k then some S.1.1 else S.1.2.1 j), S.1.2.2) else match S.1.2.1 k with | none => S.1 | some y => if s.2 i 0 = 4 then (y, S.1.2) else (wsum (wH S.1) y, S.1.2) := by
    unfold plH
    rw [if_neg (by omega), hk]
    rfl
  have eo : plOk S.1 (s.2 i) ↔ (if s.2 i 0 = 3 then True else if s.2 i 0 = 4 then S.1.2.1 k ≠ none else a_wsum S k = 0) := by
    unfold plOk
    rw [if_neg (by omega), if_neg (by omega), hk]
    exact Iff.rfl
  refine w_eq ⟨by omega, by omega⟩ ⟨by omega, by omega⟩ (fun e => ?_) (fun e => ?_)
  · refine w_Mf hM rfl (w_Mf hM rfl ?_)
    rw [show (zI ((1 : Nat) : Int)) = zI 1 from rfl, hk, show (127 : Int32) = zI 127 from rfl, zI_add, zI_mul, show 127 * ((k : Int) + 1) = ((127 * (k + 1) : Nat) : Int) by omega]
    refine w_mmove (B := 0) (D := 127 * (k + 1)) hM h5 (by omega) h5 (by omega) (Or.inr (Or.inl (by omega))) (fun N2 e2 g2 l2 => w_jp ?_)
    have hW : WC N2 (m + 5) (127 * (k + 1)) (sp S) (sn S) (sT S) := WC.mv (hR.wm) e2
    refine h N2 1 (Or.inl ⟨rfl, eo.mpr (by rw [if_pos e]; trivial), ?_⟩) ⟨fun b hb => g2 b (by omega), mR M, mL M, rfl, fun _ _ => ⟨rfl, rfl⟩⟩ (fun q _ _ => by rw [g2 m (by omega)])
    rw [ep, if_pos e]
    exact hR.setS (by omega) g2 l2 ⟨hW, hR.ok⟩
  rw [if_neg e] at ep eo
  rw [hk]
  refine m_isEmpty hR (by omega) ?_
  rw [show ((k : Int).toNat) = k from rfl]
  cases e2 : S.1.2.1 k with
  | none =>
    rw [if_pos rfl]
    refine w_eq ⟨by omega, by omega⟩ ⟨by omega, by omega⟩ (fun x => absurd x (by decide)) (fun _ => ?_)
    refine w_jp (h N 0 (Or.inr ⟨rfl, fun x => ?_, hR⟩) MFm.rf (fun _ _ _ => rfl))
    have := eo.mp x
    split at this
    · exact this e2
    · obtain ⟨_, y, e5, _⟩ := a_wsum_0 this
      rw [show ((k : Int).toNat) = k from rfl, e2] at e5
      cases e5
  | some y =>
    rw [if_neg (show ¬ (some y = none) from fun x => nomatch x)]
    rw [e2] at ep
    have ep : plH S.1 (s.2 i) = if s.2 i 0 = 4 then (y, S.1.2) else (wsum (wH S.1) y, S.1.2) := ep
    refine w_eq ⟨by omega, by omega⟩ ⟨by omega, by omega⟩ (fun _ => ?_) (fun x => absurd rfl x)
    refine w_eq ⟨by omega, by omega⟩ ⟨by omega, by omega⟩ (fun e5 => ?_) (fun e5 => ?_)
    · rw [if_neg (by omega)] at ep eo
      have hr := a_wsum_r (S := S) (s := k)
      refine m_sumWith hR hA (by omega) e2 (fun N1 hv hF => ?_)
      have f1 : MFm m M N M N1 := ⟨fun b hb => hF.1 b (by omega), mR M, mL M, rfl, fun _ _ => ⟨rfl, rfl⟩⟩
      have f2 : ∀ q, 50 ≤ q → q ≤ 53 → N1 m q = N m q := fun q x y => hF.2.1 q (by omega)
      rcases hv with ⟨h1, rfl⟩ | ⟨h1, hW⟩
      · exact w_eq ⟨by omega, by omega⟩ ⟨by omega, by omega⟩ (fun x => absurd x h1) (fun _ => w_jp (h N1 0 (Or.inr ⟨rfl, fun x => h1 (eo.mp x), hR⟩) f1 f2))
      · refine w_eq ⟨by omega, by omega⟩ ⟨by omega, by omega⟩ (fun _ => w_jp (h N1 1 (Or.inl ⟨rfl, eo.mpr h1, ?_⟩) f1 f2)) (fun x => absurd h1 x)
        rw [ep]
        exact hR.setW hF hW
    · have e4 : s.2 i 0 = 4 := by omega
      rw [if_pos e4] at ep eo
      have hsh := hR.2.1.2.1 k (by omega)
      rw [e2, Nat.zero_add] at hsh
      refine w_Mf hM rfl (w_Mf hM rfl ?_)
      rw [show (zI ((1 : Nat) : Int)) = zI 1 from rfl, show (127 : Int32) = zI 127 from rfl, zI_add, zI_mul, show 127 * ((k : Int) + 1) = ((127 * (k + 1) : Nat) : Int) by omega]
      refine w_mmove (B := 127 * (k + 1)) (D := 0) hM h5 (by omega) h5 (by omega) (Or.inr (Or.inr (by omega))) (fun N2 e3 g2 l2 => w_jp ?_)
      refine h N2 1 (Or.inl ⟨rfl, eo.mpr (by rw [e2]; exact fun x => nomatch x), ?_⟩) ⟨fun b hb => g2 b (by omega), mR M, mL M, rfl, fun _ _ => ⟨rfl, rfl⟩⟩ (fun q _ _ => by rw [g2 m (by omega)])
      rw [ep]
      exact hR.setW (MFw.of (fun b h1 _ => g2 b h1) (fun l hl => l2 l (by omega))) ⟨WC.mv hsh.1 e3, hsh.2⟩
end OPS35
