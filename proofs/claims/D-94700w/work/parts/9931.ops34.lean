/-! RUN: the model's tests and plain steps. -/
set_option maxRecDepth 100000
section OPS34
variable {α τ ρ : Type} {M M' M1 M2 : Mem} {N N' N1 : NM} {c m i j q n A : Nat} {u v z b d e t k : Int} {S S' : St} {H : Hs} {a : Nat → Int} {p : Int} {T : Nat → Nat → Nat → Int} {W B : Nat} {s : Scr}
/-- numbers of a step read one by one -/
theorem m_stq {f : Int32 → JM Mem τ} {Q : τ → Mem → NM → Prop} {k : Nat} (hR : MR M N m S) (hs : S.1.2.2 = some s) (hO : ScOk s) (hi : i < s.1) (hk : k < 7) (h : GN M N (f (zI (s.2 i k))) Q) : GN M N (jb (jgetA 7 19 m) fun v => jb (jald mI 0 v (zI ((637 + 7 * i : Nat) : Int) + zI (k : Int))) f) Q := by
  rw [zI_add, ← Int.natCast_add]
  exact m_stp hR hs hO hi hk h
theorem m_isSoNow {f : Int32 → JM Mem τ} {Q : τ → Mem → NM → Prop} (hR : MR M N m S) (hA : MA M N m (m + 5) 0 (sp S) (sn S) (sT S)) (hs : S.1.2.2 = some s) (hO : ScOk s) (hi : i < s.1) (h6 : s.2 i 0 = 6)
    (h : ∀ M' N' v, (v = 1 ∧ tst S.1 (s.2 i) ∨ v = 0 ∧ ¬ tst S.1 (s.2 i)) → MR M' N' m S → MFm m M N M' N' → (∀ k, 50 ≤ k → k ≤ 53 → N' m k = N m k) → GN M' N' (f (zI v)) Q) : GN M N (jb (jcall 7 m (f_X8_isSoNow m (zI ((637 + 7 * i : Nat) : Int)))) f) Q := by
  obtain ⟨a1, a2, a3, a4, a5⟩ := (hO.arg hi).2.2.2.2.1 h6
  have hM := hR.ml
  have h01 : ∀ {v : Int} {P : Prop}, (v = 1 ∧ P ∨ v = 0 ∧ ¬ P) → v = 0 ∨ v = 1 := fun h => by rcases h with ⟨e, _⟩ | ⟨e, _⟩ <;> omega
  have fr : ∀ N1, MFr m N N1 → MR M N1 m S ∧ MFm m M N M N1 ∧ ∀ k, 50 ≤ k → k ≤ 53 → N1 m k = N m k := fun N1 hF => ⟨hR.sc hF, ⟨fun b hb => hF.1 b (by omega), mR M, mL M, rfl, fun _ _ => ⟨rfl, rfl⟩⟩, fun k x y => hF.2 k (by omega)⟩
  refine w_Mc hM ?_
  unfold f_X8_isSoNow
  rw [show (1 : Int32) = zI ((1 : Nat) : Int) from rfl, show (2 : Int32) = zI ((2 : Nat) : Int) from rfl, z_0, z_4, z_5]
  refine m_stq hR hs hO hi (by omega) ?_
  unfold tst at h
  refine w_eq ⟨by omega, by omega⟩ ⟨by omega, by omega⟩ (fun e => ?_) (fun e => ?_)
  · rw [if_pos e] at h
    refine w_misLawful hM hA (fun N1 v hv g => ?_)
    obtain ⟨x, y, z⟩ := fr N1 g.mf
    exact w_rze (h01 hv) (h M N1 v hv x y z)
  rw [if_neg e] at h
  refine w_le ⟨by omega, by omega⟩ ⟨by omega, by omega⟩ (fun e2 => ?_) (fun e2 => ?_)
  rotate_left
  · rw [if_pos (by omega)] at h
    rw [show (zI ((1 : Nat) : Int)) = zI 1 from rfl, zI_sub, show s.2 i 1 - 1 = ((s.2 i 1 - 1).toNat : Int) by omega]
    refine w_misSo hM hA (by omega) (fun N1 v hv g => ?_)
    obtain ⟨x, y, z⟩ := fr N1 ⟨fun b hb => g.1 b (by omega) (by omega) (by omega) (by omega) (by omega) (by omega), fun k hk => g.2 k (by omega) (by omega) (by omega)⟩
    refine w_rze (h01 hv) (h M N1 v ?_ x y z)
    exact hv
  rw [if_neg (by omega)] at h
  refine w_eq ⟨by omega, by omega⟩ ⟨by omega, by omega⟩ (fun e3 => ?_) (fun e3 => ?_)
  · rw [if_pos e3] at h
    obtain ⟨b1, b2⟩ := a3 e3
    obtain ⟨b3, b4, b5⟩ := a5 (Or.inl e3)
    refine m_stq hR hs hO hi (by omega) ?_
    obtain ⟨kk, hkk⟩ : ∃ kk : Nat, s.2 i 2 = kk := ⟨(s.2 i 2).toNat, by omega⟩
    rw [hkk]
    refine w_seriesOf hM hA (by omega) (Or.inl rfl) (fun N1 g => ?_)
    obtain ⟨x, y, z⟩ := fr N1 (MFr.of (fun b hb => g b (by omega) (by omega) (by omega)))
    have hd : dm (sp S) (sn S) (Ser (sp S) (sn S) (sT S) Al (1 - 0) kk) ≤ 5 := Nat.le_trans (dm_le) hA.n5
    refine m_compares x hs hO hi ⟨by omega, by omega⟩ ⟨by omega, by omega⟩ ⟨by omega, by omega⟩ (fun v hv => ?_)
    refine w_rze (h01 hv) (h M N1 v ?_ x y z)
    rw [hkk]
    exact hv
  rw [if_neg e3] at h
  refine w_eq ⟨by omega, by omega⟩ ⟨by omega, by omega⟩ (fun e4 => ?_) (fun e4 => ?_)
  · rw [if_pos e4] at h
    obtain ⟨b3, b4, b5⟩ := a5 (Or.inr e4)
    have hn5 := hA.n5
    refine w_MI hM ?_
    rw [hA.ne]
    refine m_compares hR hs hO hi ⟨by omega, by omega⟩ ⟨by omega, by omega⟩ ⟨by omega, by omega⟩ (fun v hv => ?_)
    obtain ⟨x, y, z⟩ := fr N MFr.rf
    exact w_rze (h01 hv) (h M N v hv x y z)
  · rw [if_neg e4] at h
    obtain ⟨b1, b2⟩ := a4 (by omega)
    obtain ⟨x, y, z⟩ := fr N MFr.rf
    refine m_stq hR hs hO hi (by omega) ?_
    refine m_isEmpty hR (by omega) ?_
    obtain ⟨kk, hkk⟩ : ∃ kk : Nat, s.2 i 2 = kk := ⟨(s.2 i 2).toNat, by omega⟩
    rw [hkk, show ((kk : Int).toNat) = kk from rfl]
    rw [hkk, show ((kk : Int).toNat) = kk from rfl] at h
    cases e2 : S.1.2.1 kk with
    | none =>
      rw [if_pos rfl]
      refine w_eq ⟨by omega, by omega⟩ ⟨by omega, by omega⟩ (fun x => absurd x (by decide)) (fun _ => ?_)
      refine w_jp (h M N 0 (Or.inr ⟨rfl, fun ⟨y, e5, _⟩ => ?_⟩) x y z)
      rw [e2] at e5
      cases e5
    | some w =>
      rw [if_neg (show ¬ (some w = none) from fun x => nomatch x)]
      refine w_eq ⟨by omega, by omega⟩ ⟨by omega, by omega⟩ (fun _ => ?_) (fun x => absurd rfl x)
      refine m_stq hR hs hO hi (by omega) ?_
      rw [hkk]
      refine m_same2 hR (by omega) e2 (fun M1 N1 v hR1 hF1 g1 _ _ hv => ?_)
      rw [show (zI ((1 : Nat) : Int)) = zI 1 from rfl]
      rcases hv with ⟨rfl, e5⟩ | ⟨rfl, e5, _⟩ | ⟨rfl, e5, _⟩
      · exact w_eq ⟨by omega, by omega⟩ ⟨by omega, by omega⟩ (fun _ => w_jp (h M1 N1 1 (Or.inl ⟨rfl, w, e2, e5⟩) hR1 hF1 g1)) (fun x => absurd rfl x)
      · refine w_eq ⟨by omega, by omega⟩ ⟨by omega, by omega⟩ (fun x => absurd x (by decide)) (fun _ => w_jp (h M1 N1 0 (Or.inr ⟨rfl, fun ⟨y, e6, e7⟩ => ?_⟩) hR1 hF1 g1))
        rw [e2] at e6
        cases e6
        have e5 : (mpq (wH S.1) w).2.1 = 0 := e5
        omega
      · refine w_eq ⟨by omega, by omega⟩ ⟨by omega, by omega⟩ (fun x => absurd x (by decide)) (fun _ => w_jp (h M1 N1 0 (Or.inr ⟨rfl, fun ⟨y, e6, e7⟩ => ?_⟩) hR1 hF1 g1))
        rw [e2] at e6
        cases e6
        have e5 : (mpq (wH S.1) w).2.1 = 0 := e5
        omega
end OPS34
