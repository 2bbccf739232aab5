/-! RUN: the component's steps. -/
set_option maxRecDepth 100000
section OPS37
variable {α τ ρ σ : Type} {M M' M1 M2 : Mem} {N N' N1 : NM} {c m i j q n A : Nat} {u v z b d e t k : Int} {S S' : St} {H : Hs} {a : Nat → Int} {p : Int} {T : Nat → Nat → Nat → Int} {W B : Nat} {s : Scr}
/-- a step as the component has it -/
def StC (M : Mem) (N : NM) (q : Nat) (a : Nat → Int) : Prop := mK M q = some (.inl 8) ∧ N q 0 = a 0 + 6 ∧ ArgOf (N q) a
theorem ArgOf.cg {f g : Nat → Int} (h : ArgOf f a) (e : ∀ k, k < 7 → g k = f k) : ArgOf g a := by
  unfold ArgOf at *
  rw [e 1 (by omega), e 2 (by omega), e 3 (by omega), e 4 (by omega), e 5 (by omega)]
  exact h
theorem w_lsc {z k : Int} {A d : JM Mem α} {r : List (Int × JM Mem α)} {Q : α → Mem → NM → Prop} (hz : zR z) (h1 : z = k → GN M N A Q) (h2 : z ≠ k → GN M N (jlsw (zI z) r d) Q) : GN M N (jlsw (zI z) ((k, A) :: r) d) Q := by
  show GN M N (if (zI z).toInt = k then A else jlsw (zI z) r d) Q
  rw [zI_to hz]
  exact w_ite h1 h2
theorem c_compares {f : Int32 → JM Mem τ} {Q : τ → Mem → NM → Prop} {x o y : Int} (hC : CL M c) (hK : mK M q = some (.inl 8)) (e4 : N q 4 = o) (e3 : N q 3 = y) (hx : zR x) (ho : zR o) (hy : zR y) (h : ∀ v, (v = 1 ∧ cmpP o x y ∨ v = 0 ∧ ¬ cmpP o x y) → GN M N (f (zI v)) Q) : GN M N (jb (jcall 0 c (f_X0_compares c q (zI x))) f) Q := by
  refine w_Cc hC ?_
  unfold f_X0_compares
  rw [z_60, z_62, z_0, z_1]
  unfold cmpP at h
  refine w_getI hK ?_
  rw [e4]
  refine w_eq ho ⟨by omega, by omega⟩ (fun e => ?_) (fun e => ?_)
  · rw [if_pos e] at h
    refine w_getI hK ?_
    rw [e3]
    exact w_le hy hx (fun e2 => w_jp (h 0 (Or.inr ⟨rfl, by omega⟩))) (fun e2 => w_jp (h 1 (Or.inl ⟨rfl, by omega⟩)))
  rw [if_neg e] at h
  refine w_getI hK ?_
  rw [e4]
  refine w_eq ho ⟨by omega, by omega⟩ (fun e2 => ?_) (fun e2 => ?_)
  · rw [if_pos e2] at h
    refine w_getI hK ?_
    rw [e3]
    exact w_le hx hy (fun e5 => w_jp (h 0 (Or.inr ⟨rfl, by omega⟩))) (fun e5 => w_jp (h 1 (Or.inl ⟨rfl, by omega⟩)))
  rw [if_neg e2] at h
  refine w_getI hK ?_
  rw [e3]
  exact w_eq hx hy (fun e5 => w_jp (h 1 (Or.inl ⟨rfl, e5⟩))) (fun e5 => w_jp (h 0 (Or.inr ⟨rfl, e5⟩)))
/-- what a run's inner work leaves -/
def CQ (c : Nat) (M : Mem) (N : NM) (M' : Mem) (N' : NM) : Prop := Bg c M M' ∧ (∀ b, b < c ∨ c + 1567 ≤ b → N' b = N b) ∧ ∀ k, 40 ≤ k → k ≤ 42 → N' c k = N c k
theorem CQ.rf (h : CL M c) : CQ c M N M N := ⟨Bg.rf h, fun _ _ => rfl, fun _ _ _ => rfl⟩
theorem c_holds {f : Int32 → JM Mem τ} {Q : τ → Mem → NM → Prop} (hR : CR M N c S) (hq : StC M N q a) (hq2 : c + 1603 ≤ q) (hA : ArgR a) (h6 : a 0 = 6)
    (h : ∀ N' v, (v = 1 ∧ tst S.1 a ∨ v = 0 ∧ ¬ tst S.1 a) → CR M N' c S → CQ c M N M N' → GN M N' (f (zI v)) Q) : GN M N (jb (jcall 0 c (f_X0_holds c q)) f) Q := by
  obtain ⟨a1, a2, a3, a4, a5⟩ := hA.2.2.2.2.1 h6
  obtain ⟨_, _, b3, b4, b5, b6⟩ := hq.2.2.2.2.2.2.1 h6
  have hC := hR.cl
  have hn5 : sn S ≤ 5 := hR.w.n5
  have h01 : ∀ {v : Int} {P : Prop}, (v = 1 ∧ P ∨ v = 0 ∧ ¬ P) → v = 0 ∨ v = 1 := fun h => by rcases h with ⟨e, _⟩ | ⟨e, _⟩ <;> omega
  have fr : ∀ N1, CFr c N N1 → (∀ b, b < c ∨ c + 1567 ≤ b → N1 b = N b) → (∀ k, 40 ≤ k → k ≤ 42 → N1 c k = N c k) → CR M N1 c S ∧ CQ c M N M N1 := fun N1 hF g1 g2 => ⟨hR.sc (Bg.rf hC) hF, Bg.rf hC, g1, g2⟩
  have frd : ∀ N1 : NM, (∀ x, x < c + 72 ∨ c + 117 ≤ x → N1 x = N x) → CR M N1 c S ∧ CQ c M N M N1 := fun N1 g => fr N1 (CFr.of (fun b hb => g b (by omega))) (fun b hb => g b (by omega)) (fun k _ _ => by rw [g c (by omega)])
  refine w_Cc hC ?_
  unfold f_X0_holds
  refine w_getI hq.1 ?_
  rw [b3]
  have hz : zR (if a 1 = 5 then (1 : Int) else if a 1 = 6 then 23 else a 1 + 18) := by split; exact ⟨by omega, by omega⟩; split; exact ⟨by omega, by omega⟩; exact ⟨by omega, by omega⟩
  generalize hk : (if a 1 = 5 then (1 : Int) else if a 1 = 6 then 23 else a 1 + 18) = kd at hz
  have hdd : ∀ (x : Nat) (N1 : NM) (w : Nat), x ≤ 100 → (x = 0 ↔ isS (sp S) (sn S) (sT S) w) → a 1 = w + 1 → w < 3 → (∀ x, x < c + 72 ∨ c + 117 ≤ x → N1 x = N x) → GN M N1 (if zI (x : Nat) = zI 0 then jp (zI 1) else jp (zI 0)) (fun v M1 N1 => GN M1 N1 (f v) Q) := fun x N1 w hx he hw hw3 g => by
    obtain ⟨y1, y2⟩ := frd N1 g
    have et : tst S.1 a ↔ isS (sp S) (sn S) (sT S) w := by
      unfold tst
      rw [if_neg (by omega), if_pos (by omega), show (a 1 - 1).toNat = w by omega]
      exact Iff.rfl
    refine w_eq ⟨by omega, by omega⟩ ⟨by omega, by omega⟩ (fun e => ?_) (fun e => ?_)
    · exact w_jp (h N1 1 (Or.inl ⟨rfl, et.mpr (he.mp (by omega))⟩) y1 y2)
    · exact w_jp (h N1 0 (Or.inr ⟨rfl, fun q => e (by rw [he.mpr (et.mp q)]; rfl)⟩) y1 y2)
  have hcm : ∀ (N1 : NM) (x : Nat), x ≤ 100 → (a 1 = 4 ∨ a 1 = 5) → (tst S.1 a ↔ cmpP (a 4) x (a 5)) → (∀ x, x < c + 72 ∨ c + 117 ≤ x → N1 x = N x) → GN M N1 (jb (jcall 0 c (f_X0_compares c q (zI (x : Nat)))) fun v => jrz v) (fun v M1 N1 => GN M1 N1 (f v) Q) := fun N1 x hx h45 et g => by
    obtain ⟨y1, y2⟩ := frd N1 g
    obtain ⟨d1, d2, d3, d4, d5⟩ := b6 h45
    refine c_compares (o := a 4) (y := a 5) hC hq.1 (by rw [g q (by omega)]; exact d1) (by rw [g q (by omega)]; exact d2) ⟨by omega, by omega⟩ ⟨by omega, by omega⟩ ⟨by omega, by omega⟩ (fun v hv => ?_)
    exact w_rze (h01 hv) (h N1 v (by rw [et]; exact hv) y1 y2)
  refine w_lsc hz (fun e => ?_) (fun n1 => ?_)
  · -- the size
    have h15 : a 1 = 5 := by split at hk; assumption; split at hk <;> omega
    refine w_Cf hC rfl (w_Wp hC.w6 ?_)
    rw [hR.w.ne]
    refine hcm N (sn S) (by omega) (Or.inr h15) ?_ (fun _ _ => rfl)
    unfold tst
    rw [if_neg (by omega), if_neg (by omega), if_neg (by omega), if_pos h15]
    exact Iff.rfl
  have n5 : a 1 ≠ 5 := fun x => n1 (by rw [← hk, if_pos x])
  rw [if_neg n5] at hk
  refine w_lsc hz (fun e => ?_) (fun n18 => ?_)
  · have h0 : a 1 = 0 := by split at hk <;> omega
    refine w_Cf hC rfl ?_
    have et : tst S.1 a ↔ Lw (sp S) (sn S) (sT S) := by
      unfold tst
      rw [if_pos h0]
      exact Iff.rfl
    refine w_isLawful hC hC.w6 hR.w (by omega) (fun e => ?_) (fun i j k e => ?_)
    · obtain ⟨y1, y2⟩ := frd N (fun _ _ => rfl)
      exact w_rze (Or.inr rfl) (h N 1 (Or.inl ⟨rfl, et.mpr e⟩) y1 y2)
    · obtain ⟨y1, y2⟩ := frd (up2 (up2 (up2 N (c + 76) 0 i) (c + 76) 1 j) (c + 76) 2 k) (fun b hb => by rw [upb (by omega), upb (by omega), upb (by omega)])
      exact w_rze (Or.inl rfl) (h _ 0 (Or.inr ⟨rfl, fun x => e.not (et.mp x)⟩) y1 y2)
  refine w_lsc hz (fun e => ?_) (fun n19 => ?_)
  · have h0 : a 1 = 1 := by split at hk <;> omega
    refine w_Cf hC rfl ?_
    rw [show (1 : Int32) = zI ((1 : Nat) : Int) from rfl, z_0]
    exact w_derivedOf (k := 1) hC hC.w6 hR.w (by omega) (by omega) (fun N1 g => hdd _ N1 0 (Nat.le_trans dm_le (by omega)) Iff.rfl (by omega) (by omega) g)
  refine w_lsc hz (fun e => ?_) (fun n20 => ?_)
  · have h0 : a 1 = 2 := by split at hk <;> omega
    refine w_Cf hC rfl ?_
    rw [show (5 : Int32) = zI ((5 : Nat) : Int) from rfl, z_0, z_1]
    exact w_lowerOf (k := 5) hC hC.w6 hR.w (by omega) (by omega) (fun N1 g => hdd _ N1 1 (Nat.le_trans dm_le (by omega)) Iff.rfl (by omega) (by omega) g)
  refine w_lsc hz (fun e => ?_) (fun n21 => ?_)
  · have h0 : a 1 = 3 := by split at hk <;> omega
    refine w_Cf hC rfl ?_
    rw [show (5 : Int32) = zI ((5 : Nat) : Int) from rfl, z_0, z_1]
    exact w_derivedOf (k := 5) hC hC.w6 hR.w (by omega) (by omega) (fun N1 g => hdd _ N1 2 (Nat.le_trans dm_le (by omega)) Iff.rfl (by omega) (by omega) g)
  refine w_lsc hz (fun e => ?_) (fun n22 => ?_)
  · have h0 : a 1 = 4 := by split at hk <;> omega
    obtain ⟨d1, d2, d3⟩ := b4 h0
    refine w_Cf hC rfl (w_getI hq.1 ?_)
    obtain ⟨kk, hkk⟩ : ∃ kk : Nat, a 2 = kk := ⟨(a 2).toNat, by omega⟩
    rw [d1, hkk]
    refine w_derivedOf (k := kk) hC hC.w6 hR.w (by omega) (by omega) (fun N1 g => ?_)
    refine hcm N1 _ (Nat.le_trans dm_le (by omega)) (Or.inl h0) ?_ g
    unfold tst
    rw [if_neg (by omega), if_neg (by omega), if_pos h0, hkk]
    exact Iff.rfl
  · have h0 : a 1 = 6 := by split at hk <;> omega
    obtain ⟨d1, d2, d3⟩ := b5 h0
    obtain ⟨kk, hkk⟩ : ∃ kk : Nat, a 2 = kk := ⟨(a 2).toNat, by omega⟩
    have et : tst S.1 a ↔ ∃ y, S.1.2.1 kk = some y ∧ (mpq S y).2.1 = 1 := by
      unfold tst
      rw [if_neg (by omega), if_neg (by omega), if_neg (by omega), if_neg (by omega), hkk]
      exact Iff.rfl
    obtain ⟨y1, y2⟩ := frd N (fun _ _ => rfl)
    show GN M N (jb (jgetA 0 5 c) _) _
    refine w_Cf hC rfl (w_getI hq.1 ?_)
    rw [d1, hkk, z_0, z_1]
    refine w_ald (hC.ka (o := 71) (d := (4, 4)) rfl) (by omega) (by omega) ?_
    rw [show ((kk : Int).toNat) = kk from rfl]
    have hsh := hR.2.1.2.1 kk (by omega)
    cases e2 : S.1.2.1 kk with
    | none =>
      rw [e2] at hsh
      rw [show N (c + 71) kk = 0 from hsh]
      refine w_eq ⟨by omega, by omega⟩ ⟨by omega, by omega⟩ (fun _ => w_jp (h N 0 (Or.inr ⟨rfl, fun x => ?_⟩) y1 y2)) (fun x => absurd rfl x)
      obtain ⟨y, e3, _⟩ := et.mp x
      rw [e2] at e3
      cases e3
    | some y =>
      rw [e2] at hsh
      rw [hsh.1]
      refine w_eq ⟨by omega, by omega⟩ ⟨by omega, by omega⟩ (fun x => absurd x (by decide)) (fun _ => ?_)
      obtain ⟨hE, hV⟩ := hR.shw (show kk < 4 by omega) e2
      refine w_Cf hC rfl (w_Cf hC rfl (w_getI hq.1 ?_))
      rw [d1, hkk]
      refine w_aldA (hC.ka (o := 70) (d := (7, 4)) rfl) (by omega) (by omega) (hC.sh (k := kk) (by omega)).1 ?_
      refine w_maps2 hC hC.w6 hV (by omega) (by omega) (by omega) (Or.inr rfl) hR.w hE (fun N1 st hst hb es hF => ?_)
      have es : st = mpq S y := es
      have h1 : (mpq S y).2.1 ≤ 1 := mpq_1
      subst es
      obtain ⟨x1, x2⟩ := fr N1 hF.cf (fun b hb => hF.1 b (by omega) (by omega) (by omega) (by omega) (by omega)) (fun k _ _ => hF.2 k (by omega) (by omega) (by omega))
      refine w_le ⟨by omega, by omega⟩ ⟨by omega, by omega⟩ (fun e3 => ?_) (fun e3 => ?_)
      · refine w_jp (h N1 0 (Or.inr ⟨rfl, fun x => ?_⟩) x1 x2)
        obtain ⟨y', e5, e6⟩ := et.mp x
        rw [e2] at e5
        cases e5
        omega
      · exact w_jp (h N1 1 (Or.inl ⟨rfl, et.mpr ⟨y, e2, by omega⟩⟩) x1 x2)
end OPS37
