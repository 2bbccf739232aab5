/-! RUN: the component does a step. -/
set_option maxRecDepth 100000
section OPS38
variable {α τ ρ σ : Type} {M M' M1 M2 : Mem} {N N' N1 : NM} {c m i j q n A : Nat} {u v z b d e t k : Int} {S S' : St} {H : Hs} {a : Nat → Int} {p : Int} {T : Nat → Nat → Nat → Int} {W B : Nat} {s : Scr}
/-- a number of the base is put, where two numbers of a step say -/
theorem c_bset {f : Unit → JM Mem τ} {Q : τ → Mem → NM → Prop} {x y I J : Nat} {v : Int} (hC : CL M c) (hq : mK M q = some (.inl 8)) (e1 : N q x = (I : Nat)) (e2 : N q y = (J : Nat)) (hI : I < 5) (hJ : J < 5) (h : GN M (up2 N (c + 199 + 1 + I) J v) (f ()) Q) :
    GN M N (jb (jgetA 0 33 c) fun v1 => jb (jgetI 8 x q) fun v2 => jb (jaldA 5 v1 v2) fun v3 => jb (jgetI 8 y q) fun v4 => jb (jast_i v3 v4 (zI v)) f) Q := by
  refine w_Cf hC rfl (w_getI hq ?_)
  rw [e1]
  refine w_R1 (hC.ka (o := 199) (d := (5, 5)) rfl) hC.ba hI (by omega) ?_
  refine w_getI hq ?_
  rw [e2]
  exact w_ast (hC.ba I hI).2 (by omega) (by omega) h
/-- the number of a step, by the prime -/
theorem c_bsetp {f : Unit → JM Mem τ} {Q : τ → Mem → NM → Prop} {x y I J : Nat} {v : Int} (hC : CL M c) (hq : mK M q = some (.inl 8)) (e1 : N q x = (I : Nat)) (e2 : N q y = (J : Nat)) (e3 : N q 3 = v) (hv : 0 ≤ v ∧ v ≤ 100) (ep : N (c + 6) 1 = p) (hp : 0 < p ∧ p ≤ 7) (hI : I < 5) (hJ : J < 5) (h : GN M (up2 N (c + 199 + 1 + I) J (v % p)) (f ()) Q) :
    GN M N (jb (jgetA 0 33 c) fun v1 => jb (jgetI 8 x q) fun v2 => jb (jaldA 5 v1 v2) fun v3 => jb (jgetI 8 y q) fun v4 => jb (jgetI 8 3 q) fun v5 => jb (jgetA 0 2 c) fun v6 => jb (jgetI 3 1 v6) fun v7 => jb (jrem v5 v7) fun v8 => jb (jast_i v3 v4 v8) f) Q := by
  refine w_Cf hC rfl (w_getI hq ?_)
  rw [e1]
  refine w_R1 (hC.ka (o := 199) (d := (5, 5)) rfl) hC.ba hI (by omega) ?_
  refine w_getI hq ?_
  rw [e2]
  refine w_getI hq ?_
  rw [e3]
  refine w_Cf hC rfl (w_Wp hC.w6 ?_)
  rw [ep]
  refine w_remP ⟨by omega, by omega, by omega⟩ ⟨by omega, by omega, by omega⟩ ?_
  exact w_ast (hC.ba I hI).2 (by omega) (by omega) h
theorem CR.ofw (h : CR M N c S) (hB : Bg c M M') (hF : ∀ b, b < c + 6 ∨ c + 1567 ≤ b → N' b = N b) (hs : ∀ b, c + 38 ≤ b ∧ b < c + 1567 → N' b = N b) (hW : WdC N' (c + 6) S.1.1) : CR M' N' c S := by
  have := h.setW (y := S.1.1) hB (CFw.of (fun b hb => by
    by_cases e : b < c + 6 ∨ c + 1567 ≤ b
    · exact hF b e
    · exact hs b (by omega))) hW
  exact this
theorem c_does {f : Int32 → JM Mem τ} {Q : τ → Mem → NM → Prop} (hR : CR M N c S) (hq : StC M N q a) (hq2 : c + 1603 ≤ q) (hA : ArgR a) (ha : 0 ≤ a 0 ∧ a 0 ≤ 8)
    (h : ∀ M' N' v, (a 0 < 6 ∧ v = 1 ∧ plOk S.1 a ∧ CR M' N' c (stH S (plH S.1 a)) ∨ a 0 < 6 ∧ v = 0 ∧ ¬ plOk S.1 a ∧ CR M' N' c S ∨ 6 ≤ a 0 ∧ v = 1 ∧ CR M' N' c S) → CQ c M N M' N' → GN M' N' (f (zI v)) Q) : GN M N (jb (jcall 0 c (f_X0_does c q)) f) Q := by
  have hC := hR.cl
  have hn5 : sn S ≤ 5 := hR.w.n5
  have hpb := hR.w.pb
  have hp := hR.w.pr
  have hp1 := hp.pos
  have hp7 := hp.le7
  obtain ⟨r0, r1, r2, r3, _⟩ := hA
  obtain ⟨f0, f1, f2, f3, _⟩ := hq.2.2
  have hK := hq.1
  refine w_Cc hC ?_
  unfold f_X0_does
  refine w_getI hK ?_
  rw [hq.2.1]
  refine w_swz ⟨by omega, by omega⟩ (fun x => absurd x (by omega)) (fun k hk => ?_)
  have hk0 : a 0 = k := by omega
  by_cases e : 6 ≤ k
  · rw [List.getElem?_eq_none (by show 6 ≤ k; omega)]
    exact w_jp (h M N 1 (Or.inr (Or.inr ⟨by omega, rfl, hR⟩)) (CQ.rf hC))
  have hno : ¬ plOk S.1 a → GN M N (f (zI 0)) Q := fun x => h M N 0 (Or.inr (Or.inl ⟨by omega, rfl, x, hR⟩)) (CQ.rf hC)
  have eun : ∀ r k, dl1 r k = if r = k then (1 : Int) else 0 := fun _ _ => rfl
  -- what is left to do once the base stands
  have hfin : a 0 < 3 → plOk S.1 a → ∀ N1, (∀ r k, r < sn S → k < 5 → N1 (c + 199 + 1 + r) k = plB S.1 a r k) → (∀ b, b < c + 200 ∨ c + 205 ≤ b → N1 b = N b) → GN M N1 (jb (jgetA 0 2 c) fun v => jb (jcall 0 c (f_X0_changes c v)) fun w => jrz w) (fun v M1 N1 => GN M1 N1 (f v) Q) := fun h3 ok N1 g1 g2 => by
    have kd : (if a 0 = 1 then a 1 < sn S ∧ a 2 % sp S ≠ 0 else a 1 < sn S ∧ a 2 < sn S ∧ a 1 ≠ a 2) := by
      unfold plOk at ok
      by_cases e : a 0 = 1
      · rw [if_pos e] at ok ⊢; exact ok
      · rw [if_neg e, if_pos h3] at ok; rw [if_neg e]; exact ok
    have b1 : 0 ≤ a 1 := by omega
    have b2 : 0 ≤ a 2 := by omega
    have hi : (a 1).toNat < sn S := by split at kd <;> omega
    have hgj : gjB (sp S) (sn S) (plB S.1 a) := by
      refine elB_gj hp hi (fun hne => ?_) (fun h1 => ?_)
      · rw [if_neg hne] at kd
        exact ⟨by omega, by omega⟩
      · rw [if_pos h1] at kd
        rw [if_pos h1]
        exact kd.2
    have hbB : ∀ r k, 0 ≤ plB S.1 a r k ∧ plB S.1 a r k < sp S ∧ (sn S ≤ k → plB S.1 a r k = 0) := fun r k => trB_bd hp1 (elB_bd hp1)
    refine w_Cf hC rfl ?_
    refine w_changes (Bm := plB S.1 a) hC hC.w6 (hR.w.fr (fun b h1 h2 => g2 b (by omega))) (by omega) (by omega) (fun r hr => ⟨fun k hk => g1 r k hr hk, fun k => hbB r k⟩) (fun r k => ⟨(hbB r k).1, (hbB r k).2.1⟩) (fun M3 N3 v hB hv hF => ?_)
    have eN : ∀ b, b < c + 6 ∨ c + 38 ≤ b → b < c + 38 ∨ c + 70 ≤ b → b ≠ c + 74 → b < c + 200 ∨ c + 217 ≤ b → N3 b = N b := fun b a1 a2 a3 a4 => by rw [hF b (by omega) (by omega) (by omega) (by omega), g2 b (by omega)]
    have hFw : CFw c N N3 := CFw.of (fun b hb => eN b (by omega) (by omega) (by omega) (by omega))
    have hQ : CQ c M N M3 N3 := ⟨hB, fun b hb => eN b (by omega) (by omega) (by omega) (by omega), fun k _ _ => by rw [eN c (by omega) (by omega) (by omega) (by omega)]⟩
    rcases hv with ⟨rfl, _, hW⟩ | ⟨rfl, hg, _⟩
    · refine w_rze (Or.inr rfl) (h M3 N3 1 (Or.inl ⟨by omega, rfl, ok, ?_⟩) hQ)
      have := hR.setW (y := wch S (plB S.1 a)) hB hFw hW
      rw [show plH S.1 a = (wch (wH S.1) (plB S.1 a), S.1.2) from if_pos h3]
      exact this
    · exact absurd hgj hg
  rcases (show k = 0 ∨ k = 1 ∨ k = 2 ∨ k = 3 ∨ k = 4 ∨ k = 5 by omega) with rfl | rfl | rfl | rfl | rfl | rfl
  · -- two are exchanged
    obtain ⟨e1, e2, b1, b2, b3, b4⟩ := f0 (by omega)
    obtain ⟨I, hI⟩ : ∃ I : Nat, a 1 = I := ⟨(a 1).toNat, by omega⟩
    obtain ⟨J, hJ⟩ : ∃ J : Nat, a 2 = J := ⟨(a 2).toNat, by omega⟩
    have kd : plOk S.1 a ↔ a 1 < sn S ∧ a 2 < sn S ∧ a 1 ≠ a 2 := by
      unfold plOk
      rw [if_neg (by omega), if_pos (by omega)]
      exact Iff.rfl
    show GN M N (jb (jgetI 8 1 q) _) _
    refine w_getI hK ?_
    rw [e1, z_0]
    refine c_isBase hR ⟨by omega, by omega⟩ ?_
    by_cases c1 : a 1 < sn S
    case neg =>
      rw [if_neg (show ¬ (0 ≤ a 1 ∧ a 1 < (sn S : Int)) by omega)]
      exact w_eq ⟨by omega, by omega⟩ ⟨by omega, by omega⟩ (fun _ => w_jp (hno (fun x => c1 (kd.mp x).1))) (fun x => absurd rfl x)
    rw [if_pos (show 0 ≤ a 1 ∧ a 1 < (sn S : Int) from ⟨by omega, c1⟩)]
    refine w_eq ⟨by omega, by omega⟩ ⟨by omega, by omega⟩ (fun x => absurd x (by decide)) (fun _ => ?_)
    refine w_getI hK ?_
    rw [e2]
    refine c_isBase hR ⟨by omega, by omega⟩ ?_
    by_cases c2 : a 2 < sn S
    case neg =>
      rw [if_neg (show ¬ (0 ≤ a 2 ∧ a 2 < (sn S : Int)) by omega)]
      exact w_eq ⟨by omega, by omega⟩ ⟨by omega, by omega⟩ (fun _ => w_jp (hno (fun x => c2 (kd.mp x).2.1))) (fun x => absurd rfl x)
    rw [if_pos (show 0 ≤ a 2 ∧ a 2 < (sn S : Int) from ⟨by omega, c2⟩)]
    refine w_eq ⟨by omega, by omega⟩ ⟨by omega, by omega⟩ (fun x => absurd x (by decide)) (fun _ => ?_)
    refine w_getI hK (w_getI hK ?_)
    rw [e1, e2]
    refine w_eq ⟨by omega, by omega⟩ ⟨by omega, by omega⟩ (fun c3 => w_jp (hno (fun x => (kd.mp x).2.2 c3))) (fun c3 => ?_)
    refine w_same hC (fun N1 g1 g2 => ?_)
    have eq1 : N1 q 1 = (I : Nat) := by rw [g2 q (by omega), e1, hI]
    have eq2 : N1 q 2 = (J : Nat) := by rw [g2 q (by omega), e2, hJ]
    rw [z_1]
    refine c_bset (I := I) (J := I) hC hK eq1 eq1 (by omega) (by omega) ?_
    refine c_bset (I := J) (J := J) hC hK (by rw [upb (by omega)]; exact eq2) (by rw [upb (by omega)]; exact eq2) (by omega) (by omega) ?_
    refine c_bset (I := I) (J := J) hC hK (by rw [upb (by omega), upb (by omega)]; exact eq1) (by rw [upb (by omega), upb (by omega)]; exact eq2) (by omega) (by omega) ?_
    refine c_bset (I := J) (J := I) hC hK (by rw [upb (by omega), upb (by omega), upb (by omega)]; exact eq2) (by rw [upb (by omega), upb (by omega), upb (by omega)]; exact eq1) (by omega) (by omega) ?_
    refine hfin (by omega) (kd.mpr ⟨c1, c2, c3⟩) _ (fun r k hr hk => ?_) (fun b hb => by rw [upb (by omega), upb (by omega), upb (by omega), upb (by omega)]; exact g2 b hb)
    show (if c + 199 + 1 + r = c + 199 + 1 + J ∧ k = I then (1 : Int) else if c + 199 + 1 + r = c + 199 + 1 + I ∧ k = J then 1 else if c + 199 + 1 + r = c + 199 + 1 + J ∧ k = J then 0 else if c + 199 + 1 + r = c + 199 + 1 + I ∧ k = I then 0 else N1 (c + 199 + 1 + r) k) = _
    rw [g1 r k (by omega) hk]
    unfold plB trB elB
    rw [if_pos (show a 0 = 0 by omega), hI, hJ]
    show _ = if r < sn S ∧ k < sn S then (if r = I then (if k = J then (1 : Int) else 0) else if r = J then (if k = I then 1 else 0) else if r = k then 1 else 0) else 0
    clear h hno hfin r0 r1 r2 r3 f0 f1 f2 f3 kd
    repeat' split
    all_goals omega
  · -- one is made so many of it
    obtain ⟨e1, e2, b1, b2, b3, b4⟩ := f1 (by omega)
    obtain ⟨I, hI⟩ : ∃ I : Nat, a 1 = I := ⟨(a 1).toNat, by omega⟩
    have kd : plOk S.1 a ↔ a 1 < sn S ∧ a 2 % sp S ≠ 0 := by
      unfold plOk
      rw [if_pos (by omega)]
      exact Iff.rfl
    show GN M N (jb (jgetI 8 1 q) _) _
    refine w_getI hK ?_
    rw [e1, z_0]
    refine c_isBase hR ⟨by omega, by omega⟩ ?_
    by_cases c1 : a 1 < sn S
    case neg =>
      rw [if_neg (show ¬ (0 ≤ a 1 ∧ a 1 < (sn S : Int)) by omega)]
      exact w_eq ⟨by omega, by omega⟩ ⟨by omega, by omega⟩ (fun _ => w_jp (hno (fun x => c1 (kd.mp x).1))) (fun x => absurd rfl x)
    rw [if_pos (show 0 ≤ a 1 ∧ a 1 < (sn S : Int) from ⟨by omega, c1⟩)]
    refine w_eq ⟨by omega, by omega⟩ ⟨by omega, by omega⟩ (fun x => absurd x (by decide)) (fun _ => ?_)
    have hm1 := Int.emod_nonneg (a 2) (show sp S ≠ 0 by omega)
    have hm2 := Int.emod_lt_of_pos (a 2) (show 0 < sp S by omega)
    refine w_getI hK (w_Cf hC rfl (w_Wp hC.w6 ?_))
    rw [e2, hR.w.pe]
    refine w_remP ⟨by omega, by omega, by omega⟩ ⟨by omega, by omega, by omega⟩ ?_
    refine w_eq ⟨by omega, by omega⟩ ⟨by omega, by omega⟩ (fun c2 => w_jp (hno (fun x => (kd.mp x).2 c2))) (fun c2 => ?_)
    refine w_same hC (fun N1 g1 g2 => ?_)
    have eq1 : N1 q 1 = (I : Nat) := by rw [g2 q (by omega), e1, hI]
    refine c_bsetp (I := I) (J := I) (p := sp S) (v := a 2) hC hK eq1 eq1 (by rw [g2 q (by omega)]; exact e2) (by omega) (by rw [g2 _ (by omega)]; exact hR.w.pe) (by omega) (by omega) (by omega) ?_
    refine hfin (by omega) (kd.mpr ⟨c1, c2⟩) _ (fun r k hr hk => ?_) (fun b hb => by rw [upb (by omega)]; exact g2 b hb)
    show (if c + 199 + 1 + r = c + 199 + 1 + I ∧ k = I then a 2 % sp S else N1 (c + 199 + 1 + r) k) = _
    rw [g1 r k (by omega) hk]
    unfold plB trB elB
    rw [if_neg (show ¬ a 0 = 0 by omega), if_pos (show a 0 = 1 by omega), if_pos (show a 0 = 1 by omega), hI]
    show _ = if r < sn S ∧ k < sn S then (if r = I ∧ k = I then a 2 % sp S else if r = k then 1 else 0) else 0
    clear h hno hfin r0 r1 r2 r3 f0 f1 f2 f3 kd
    repeat' split
    all_goals omega
  · -- so many of one are put to another
    obtain ⟨e1, e2, e3, b1, b2, b3, b4, b5, b6⟩ := f2 (by omega)
    obtain ⟨I, hI⟩ : ∃ I : Nat, a 1 = I := ⟨(a 1).toNat, by omega⟩
    obtain ⟨J, hJ⟩ : ∃ J : Nat, a 2 = J := ⟨(a 2).toNat, by omega⟩
    have kd : plOk S.1 a ↔ a 1 < sn S ∧ a 2 < sn S ∧ a 1 ≠ a 2 := by
      unfold plOk
      rw [if_neg (by omega), if_pos (by omega)]
      exact Iff.rfl
    show GN M N (jb (jgetI 8 1 q) _) _
    refine w_getI hK ?_
    rw [e1, z_0]
    refine c_isBase hR ⟨by omega, by omega⟩ ?_
    by_cases c1 : a 1 < sn S
    case neg =>
      rw [if_neg (show ¬ (0 ≤ a 1 ∧ a 1 < (sn S : Int)) by omega)]
      exact w_eq ⟨by omega, by omega⟩ ⟨by omega, by omega⟩ (fun _ => w_jp (hno (fun x => c1 (kd.mp x).1))) (fun x => absurd rfl x)
    rw [if_pos (show 0 ≤ a 1 ∧ a 1 < (sn S : Int) from ⟨by omega, c1⟩)]
    refine w_eq ⟨by omega, by omega⟩ ⟨by omega, by omega⟩ (fun x => absurd x (by decide)) (fun _ => ?_)
    refine w_getI hK ?_
    rw [e2]
    refine c_isBase hR ⟨by omega, by omega⟩ ?_
    by_cases c2 : a 2 < sn S
    case neg =>
      rw [if_neg (show ¬ (0 ≤ a 2 ∧ a 2 < (sn S : Int)) by omega)]
      exact w_eq ⟨by omega, by omega⟩ ⟨by omega, by omega⟩ (fun _ => w_jp (hno (fun x => c2 (kd.mp x).2.1))) (fun x => absurd rfl x)
    rw [if_pos (show 0 ≤ a 2 ∧ a 2 < (sn S : Int) from ⟨by omega, c2⟩)]
    refine w_eq ⟨by omega, by omega⟩ ⟨by omega, by omega⟩ (fun x => absurd x (by decide)) (fun _ => ?_)
    refine w_getI hK (w_getI hK ?_)
    rw [e1, e2]
    refine w_eq ⟨by omega, by omega⟩ ⟨by omega, by omega⟩ (fun c3 => w_jp (hno (fun x => (kd.mp x).2.2 c3))) (fun c3 => ?_)
    refine w_same hC (fun N1 g1 g2 => ?_)
    refine c_bsetp (I := J) (J := I) (p := sp S) (v := a 3) hC hK (by rw [g2 q (by omega), e2, hJ]) (by rw [g2 q (by omega), e1, hI]) (by rw [g2 q (by omega)]; exact e3) (by omega) (by rw [g2 _ (by omega)]; exact hR.w.pe) (by omega) (by omega) (by omega) ?_
    have hm1 := Int.emod_nonneg (a 3) (show sp S ≠ 0 by omega)
    refine hfin (by omega) (kd.mpr ⟨c1, c2, c3⟩) _ (fun r k hr hk => ?_) (fun b hb => by rw [upb (by omega)]; exact g2 b hb)
    show (if c + 199 + 1 + r = c + 199 + 1 + J ∧ k = I then a 3 % sp S else N1 (c + 199 + 1 + r) k) = _
    rw [g1 r k (by omega) hk]
    unfold plB trB elB
    rw [if_neg (show ¬ a 0 = 0 by omega), if_neg (show ¬ a 0 = 1 by omega), if_neg (show ¬ a 0 = 1 by omega), hI, hJ]
    show _ = if r < sn S ∧ k < sn S then (if r = J ∧ k = I then a 3 % sp S else if r = k then 1 else 0) else 0
    clear h hno hfin r0 r1 r2 r3 f0 f1 f2 f3 kd
    repeat' split
    all_goals omega
  · -- the world is kept
    obtain ⟨e1, b1, b2⟩ := f3 (by omega)
    obtain ⟨I, hI⟩ : ∃ I : Nat, a 1 = I := ⟨(a 1).toNat, by omega⟩
    have hok : plOk S.1 a := by
      unfold plOk
      rw [if_neg (by omega), if_neg (by omega), if_pos (by omega)]
      trivial
    show GN M N (jb (jgetI 8 1 q) _) _
    refine w_getI hK ?_
    rw [e1, hI]
    have hV := (hC.sh (show I < 4 by omega)).2
    have h71 := hC.ka (o := 71) (d := (4, 4)) rfl
    refine w_Cc hC ?_
    unfold f_X0_keeps
    refine w_shelf hC (by omega) ?_
    refine w_Cf hC rfl ?_
    refine w_wcopy hV hC.w6 (by omega) (fun N1 t1 t2 t3 g1 => ?_)
    refine w_Cf hC rfl ?_
    rw [z_1]
    refine w_astZ h71 (by omega) (by omega) (Or.inr rfl) (w_jp ?_)
    rw [show ((I : Int).toNat) = I from rfl]
    have hR1 : CR M (up2 N1 (c + 71) I 1) c (shU S I S.1.1) := by
      refine hR.setS (by omega) (fun b h1 h2 => by rw [upb h1, g1 b (by omega)]) (fun k => ?_) ?_
      · show (if c + 71 = c + 71 ∧ k = I then (1 : Int) else N1 (c + 71) k) = _
        by_cases e : k = I
        · rw [if_pos ⟨rfl, e⟩, if_pos e]
        · rw [if_neg (fun x => e x.2), if_neg e, g1 _ (by omega)]
      · have hD := hR.w
        have eo : ∀ b, b ≠ c + 71 → up2 N1 (c + 71) I 1 b = N1 b := fun b hb => upb hb
        exact ⟨by rw [eo _ (by omega), t2]; exact hD.pe, by rw [eo _ (by omega), t3]; exact hD.ne, fun i j k hi hj hk => by rw [eo _ (by omega), t1 i j k hi hj hk]; exact hD.t hi hj hk, hD.ok⟩
    refine w_jp (h M _ 1 (Or.inl ⟨by omega, rfl, hok, ?_⟩) ⟨Bg.rf hC, fun b hb => by rw [upb (by omega)]; exact g1 b (by omega), fun k _ _ => by rw [upb (by omega), g1 c (by omega)]⟩)
    have ep : plH S.1 a = (S.1.1, (fun j => if j = I then some S.1.1 else S.1.2.1 j), S.1.2.2) := by
      unfold plH
      rw [if_neg (by omega), if_pos (by omega), hI]
      rfl
    rw [ep]
    exact hR1
  · -- a kept one is taken
    obtain ⟨e1, b1, b2⟩ := f3 (by omega)
    obtain ⟨I, hI⟩ : ∃ I : Nat, a 1 = I := ⟨(a 1).toNat, by omega⟩
    have kd : plOk S.1 a ↔ S.1.2.1 I ≠ none := by
      unfold plOk
      rw [if_neg (by omega), if_neg (by omega), if_neg (by omega), if_pos (by omega), hI]
      exact Iff.rfl
    show GN M N (jb (jgetA 0 5 c) _) _
    refine w_Cf hC rfl (w_getI hK ?_)
    rw [e1, hI, z_0, z_1]
    refine w_ald (hC.ka (o := 71) (d := (4, 4)) rfl) (by omega) (by omega) ?_
    rw [show ((I : Int).toNat) = I from rfl]
    have hsh := hR.2.1.2.1 I (by omega)
    cases e2 : S.1.2.1 I with
    | none =>
      rw [e2] at hsh
      rw [show N (c + 71) I = 0 from hsh]
      exact w_eq ⟨by omega, by omega⟩ ⟨by omega, by omega⟩ (fun _ => w_jp (hno (fun x => kd.mp x e2))) (fun x => absurd rfl x)
    | some y =>
      rw [e2] at hsh
      rw [hsh.1]
      refine w_eq ⟨by omega, by omega⟩ ⟨by omega, by omega⟩ (fun x => absurd x (by decide)) (fun _ => ?_)
      obtain ⟨hE, hV⟩ := hR.shw (show I < 4 by omega) e2
      refine w_Cf hC rfl (w_Cf hC rfl (w_getI hK ?_))
      rw [e1, hI]
      refine w_aldA (hC.ka (o := 70) (d := (7, 4)) rfl) (by omega) (by omega) (hC.sh (k := I) (by omega)).1 ?_
      refine w_wcopy hC.w6 hV (by omega) (fun N1 t1 t2 t3 g1 => ?_)
      refine w_jp (h M N1 1 (Or.inl ⟨by omega, rfl, kd.mpr (by rw [e2]; exact fun x => nomatch x), ?_⟩) ⟨Bg.rf hC, fun b hb => g1 b (by omega), fun k _ _ => by rw [g1 c (by omega)]⟩)
      have ep : plH S.1 a = (y, S.1.2) := by
        unfold plH
        rw [if_neg (by omega), if_neg (by omega), hI, show ((I : Int).toNat) = I from rfl, e2]
        exact if_pos (by omega)
      rw [ep]
      exact hR.setW (y := y) (Bg.rf hC) (CFw.of (fun b hb => g1 b (by omega))) ⟨by rw [t2]; exact hE.pe, by rw [t3]; exact hE.ne, fun i j k hi hj hk => by rw [t1 i j k hi hj hk]; exact hE.t hi hj hk, hE.ok⟩
  · -- the sum with a kept one
    obtain ⟨e1, b1, b2⟩ := f3 (by omega)
    obtain ⟨I, hI⟩ : ∃ I : Nat, a 1 = I := ⟨(a 1).toNat, by omega⟩
    have kd : plOk S.1 a ↔ a_wsum S I = 0 := by
      unfold plOk
      rw [if_neg (by omega), if_neg (by omega), if_neg (by omega), if_neg (by omega), hI]
      exact Iff.rfl
    have hr := a_wsum_r (S := S) (s := I)
    show GN M N (jb (jgetI 8 1 q) _) _
    refine w_getI hK ?_
    rw [e1, hI]
    refine c_wrongSum hR ⟨by omega, by omega⟩ ?_
    rw [z_0, z_1]
    refine w_le ⟨by omega, by omega⟩ ⟨by omega, by omega⟩ (fun e2 => ?_) (fun e2 => w_jp (hno (fun x => absurd (kd.mp x) (by omega))))
    have e0 : a_wsum S I = 0 := by omega
    obtain ⟨_, y, ey, e3, e4⟩ := a_wsum_0 e0
    have ey : S.1.2.1 I = some y := ey
    have hg := gst_le (p := sp S)
    obtain ⟨hE, hV⟩ := hR.shw (show I < 4 by omega) ey
    rw [e3] at hE
    refine w_Cf hC rfl (w_getI hK ?_)
    rw [e1, hI]
    refine w_aldA (hC.ka (o := 70) (d := (7, 4)) rfl) (by omega) (by omega) (hC.sh (k := I) (by omega)).1 ?_
    refine w_sums hC hR.w hV hE (by omega) (by omega) (fun N1 g1 g2 => ?_)
    refine w_jp (h M N1 1 (Or.inl ⟨by omega, rfl, kd.mpr e0, ?_⟩) ⟨Bg.rf hC, fun b hb => g2 b (by omega), fun k _ _ => by rw [g2 c (by omega)]⟩)
    have ep : plH S.1 a = (wsum (wH S.1) y, S.1.2) := by
      unfold plH
      rw [if_neg (by omega), if_neg (by omega), hI, show ((I : Int).toNat) = I from rfl, ey]
      exact if_neg (by omega)
    rw [ep]
    exact hR.setW (y := wsum S y) (Bg.rf hC) (CFw.of (fun b hb => g2 b (by omega))) g1
end OPS38
