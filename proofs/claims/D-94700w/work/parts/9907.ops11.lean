/-! OPS, eleventh part: tables filled; change. -/
set_option maxRecDepth 100000
section OPS11
variable {α τ : Type} {M M' M1 M2 : Mem} {N N' N1 : NM} {c m i j k i' j' k' : Nat} {u v w s t : Int} {S S' : St} {p : Int} {n many : Nat} {T F G : Nat → Nat → Nat → Int} {y : Wd}
/-- a table that is filled in order -/
def flP (T G : Nat → Nat → Nat → Int) (i j k : Nat) : Nat → Nat → Nat → Int := fun a b c => if bfr i j k a b c then G a b c else T a b c
theorem flP_q (h : ∀ a b c, a < b → b < n → c < n → (bfr i j k a b c ↔ bfr i' j' k' a b c)) : altT p n (flP T G i j k) = altT p n (flP T G i' j' k') := by
  refine altT_q (fun a b c h1 h2 h3 => ?_)
  unfold flP
  have hh := h a b c h1 h2 h3
  by_cases e2 : bfr i j k a b c
  · rw [if_pos e2, if_pos (hh.mp e2)]
  · rw [if_neg e2, if_neg (fun x => e2 (hh.mpr x))]
theorem flP_0 : altT p n (flP T G 0 0 0) = altT p n T := by
  refine altT_q (fun a b c _ _ _ => ?_)
  unfold flP
  rw [if_neg (fun x => by unfold bfr at x; omega)]
theorem flP_1 : altT p n (flP T G n 0 0) = altT p n G := by
  refine altT_q (fun a b c h1 h2 h3 => ?_)
  unfold flP
  rw [if_pos (by unfold bfr; omega)]
theorem flP_st : altT p n (stT (flP T G i j k) i j k (G i j k)) = altT p n (flP T G i j (k + 1)) := by
  refine altT_q (fun a b c h1 h2 h3 => ?_)
  unfold stT
  by_cases e : a = i ∧ b = j ∧ c = k
  · obtain ⟨rfl, rfl, rfl⟩ := e
    rw [if_pos ⟨rfl, rfl, rfl⟩]
    unfold flP
    rw [if_pos (by unfold bfr; omega)]
  · rw [if_neg e]
    unfold flP
    by_cases e2 : bfr i j k a b c
    · rw [if_pos e2, if_pos (by unfold bfr at e2 ⊢; omega)]
    · rw [if_neg e2, if_neg (fun x => e2 (by unfold bfr at x ⊢; omega))]
theorem flP_no (h : G i j k = T i j k) : altT p n (flP T G i j k) = altT p n (flP T G i j (k + 1)) := by
  refine altT_q (fun a b c h1 h2 h3 => ?_)
  unfold flP
  by_cases e : a = i ∧ b = j ∧ c = k
  · obtain ⟨rfl, rfl, rfl⟩ := e
    rw [if_neg (by unfold bfr; omega), if_pos (by unfold bfr; omega)]
    exact h.symm
  · by_cases e2 : bfr i j k a b c
    · rw [if_pos e2, if_pos (by unfold bfr at e2 ⊢; omega)]
    · rw [if_neg e2, if_neg (fun x => e2 (by unfold bfr at x ⊢; omega))]
/-- the other world is taken -/
theorem m_takeOther {f : Unit → JM Mem τ} {Q : τ → Mem → NM → Prop} (hM : ML M m) (hC : WC N (m + 7) 0 p n T) (hT : WOk p n T) (h : ∀ N', MFw m N N' → WdM N' (m + 5) 0 (p, n, T) → GN M N' (f ()) Q) : GN M N (jb (jcall 7 m (f_X8_takeOther m)) f) Q := by
  have h5 := hM.ka (o := 5) (d := (0, 3440)) rfl
  have h7 := hM.ka (o := 7) (d := (0, 127)) rfl
  refine w_Mc hM ?_
  unfold f_X8_takeOther
  refine w_Mf hM rfl (w_Mf hM rfl ?_)
  rw [z_0]
  refine w_mmove (B := 0) (D := 0) hM h7 (by omega) h5 (by omega) (Or.inl (by omega)) (fun N1 e1 f1 l1 => w_jp (h N1 (MFw.of (fun b h1 _ => f1 b h1) (fun l hl => l1 l (by omega))) ⟨WC.mv hC e1, hT⟩))
def dl1 (a b : Nat) : Int := if a = b then 1 else 0
/-- rows of a base that stand in a tray -/
def bsT (n : Nat) (V : Nat → Int) : Nat → Nat → Int := fun i k => if i < n ∧ k < n then V (n * i + k) else 0
theorem nik {n i k : Nat} (hi : i < n) (hk : k < n) (hn : n ≤ 5) : n * i + k < n * n := by
  have : n * i + n ≤ n * n := by
    have := Nat.mul_le_mul_left n (show i + 1 ≤ n by omega)
    rw [Nat.mul_add, Nat.mul_one] at this
    exact this
  omega
theorem CFm.bg2 {M3 : Mem} {N3 : NM} (h : CFm c M' N' M3 N3) (hB : Bg c M M') (hF : ∀ b, b < c ∨ c + 1567 ≤ b ∧ b < c + 1603 → N' b = N b) : CFm c M N M3 N3 := by
  obtain ⟨b1, b2⟩ := h
  have q := CFm.sc hB hF
  exact ⟨fun x hx => ⟨(b1 x hx).1.trans (q.1 x hx).1, (b1 x hx).2.1.trans (q.1 x hx).2.1, (b1 x hx).2.2.1.trans (q.1 x hx).2.2.1, (b1 x hx).2.2.2.trans (q.1 x hx).2.2.2⟩, b2.1.trans q.2.1, by have := hB.z; omega, by have := hB.z; omega⟩
noncomputable def wch (S : St) (B : Nat → Nat → Int) : Wd := (sp S, sn S, altT (sp S) (sn S) (gjT (sp S) (sn S) B (sT S)))
noncomputable def a_change (S : St) (t : Int) : St × Int := if wnS S t (sn S * sn S) 0 (sp S - 1) = 0 then (@ite _ (gjB (sp S) (sn S) (bsT (sn S) (trV S t))) (Classical.propDecidable _) (stU (stW S (wch S (bsT (sn S) (trV S t)))) 0 0, 1) (stU S 0 9, 0)) else (stU S 0 (wnS S t (sn S * sn S) 0 (sp S - 1)), 0)
theorem nn_le (hn : n ≤ 5) : n * n ≤ 25 := Nat.le_trans (Nat.mul_le_mul hn hn) (by decide)
theorem c_change {f : Int32 → JM Mem τ} {Q : τ → Mem → NM → Prop} (hR : CR M N c S) (ht : zR t) (h : cPost M N c (a_change S t).1 (f (zI (a_change S t).2)) Q) : GN M N (jb (jcall 0 c (f_X0_change c (zI t))) f) Q := by
  have hpb := hR.w.pb
  have hn5 : sn S ≤ 5 := hR.w.n5
  have hnn := nn_le hn5
  refine w_Cc hR.cl ?_
  unfold f_X0_change
  refine w_Cf hR.cl rfl (w_Wp hR.cl.w6 ?_)
  refine w_Cf hR.cl rfl (w_Wp hR.cl.w6 ?_)
  rw [hR.w.ne, hR.w.pe, z_0, z_1, zI_sub, zI_mul, ← Int.natCast_mul]
  refine c_wrongNumbers hR ht (by omega) ⟨by omega, by omega⟩ ⟨by omega, by omega⟩ ?_
  have hr := wnS_r (S := S) (t := t) (many := sn S * sn S) (least := 0) (great := sp S - 1)
  unfold a_change at h
  by_cases e : wnS S t (sn S * sn S) 0 (sp S - 1) = 0
  case neg =>
    rw [if_neg e] at h
    exact w_le ⟨by omega, by omega⟩ ⟨by omega, by omega⟩ (fun x => absurd x (by omega)) (fun _ => c_is0 hR h ⟨by omega, by omega⟩ e rfl)
  rw [if_pos e] at h
  rw [e]
  refine w_le ⟨by omega, by omega⟩ ⟨by omega, by omega⟩ (fun _ => ?_) (fun x => absurd x (by decide))
  obtain ⟨ht4, r, e1, e2, e3, e4⟩ := wnS_0 e
  obtain ⟨hTr, hra⟩ := hR.tr ht4 e1
  rw [e2] at h
  obtain ⟨t, rfl⟩ : ∃ d : Nat, t = d := ⟨t.toNat, by omega⟩
  rw [show ((t : Int).toNat) = t from rfl] at hTr hra
  have hk258 := (hR.cl.tr (show t < 4 by omega)).2
  refine w_same hR.cl (fun N1 g1 f1 => ?_)
  have hbB : ∀ i k, 0 ≤ bsT (sn S) r.2.2 i k ∧ bsT (sn S) r.2.2 i k < sp S := fun i k => by
    unfold bsT
    by_cases c : i < sn S ∧ k < sn S
    · rw [if_pos c]
      have := e4 _ (nik c.1 c.2 hn5)
      exact ⟨this.1, by omega⟩
    · rw [if_neg c]; exact ⟨by omega, by omega⟩
  have hfin : ∀ N2 : NM, (∀ i k, i < sn S → k < 5 → N2 (c + 199 + 1 + i) k = bsT (sn S) r.2.2 i k) → (∀ b, b < c + 200 ∨ c + 205 ≤ b → N2 b = N b) → GN M N2 (X0_change_b98 c) (fun v M1 N1 => GN M1 N1 (f v) Q) := fun N2 g2 f2 => by
    unfold X0_change_b98
    refine w_Cf hR.cl rfl ?_
    refine w_changes (Bm := bsT (sn S) r.2.2) hR.cl hR.cl.w6 (hR.w.fr (fun b h1 h2 => f2 b (by omega))) (by omega) (by omega) (fun i hi => ⟨fun k hk => g2 i k hi hk, fun k => ⟨(hbB i k).1, (hbB i k).2, fun hk => if_neg (fun x => by omega)⟩⟩) hbB (fun M3 N3 v hB hv hF => ?_)
    have hFw : CFw c N N3 := CFw.of (fun b hb => by rw [hF b (by omega) (by omega) (by omega) (by omega), f2 b (by omega)])
    rw [z_0]
    unfold X0_change_b116
    rcases hv with ⟨rfl, hg, hW⟩ | ⟨rfl, hg, hW⟩
    · rw [if_pos hg] at h
      exact w_eq ⟨by omega, by omega⟩ ⟨by omega, by omega⟩ (fun x => absurd x (by decide)) (fun _ => c_is00 (hR.cl.bg hB) (c_finW (y := wch S (bsT (sn S) r.2.2)) hR hB hFw hW h))
    · rw [if_neg hg] at h
      refine w_eq ⟨by omega, by omega⟩ ⟨by omega, by omega⟩ (fun _ => ?_) (fun x => absurd rfl x)
      rw [show (9 : Int32) = zI 9 from rfl]
      have hR3 := hR.setW (y := S.1.1) hB hFw hW
      have e3 : stW S S.1.1 = S := rfl
      rw [e3] at hR3
      exact c_is0 (v := 9) (S := S) (x := (stU S 0 9, 0)) hR3 (fun M' N' a b => h M' N' a (b.bg2 hB (fun x hx => hFw.1 x (by omega)))) ⟨by omega, by omega⟩ (by omega) rfl
  refine w_up (sn S) (fun i N2 => (∀ a k, a < sn S → k < 5 → N2 (c + 199 + 1 + a) k = if a < i then bsT (sn S) r.2.2 a k else dl1 a k) ∧ ∀ b, b < c + 200 ∨ c + 205 ≤ b → N2 b = N b) 0 rfl (by omega) ⟨fun a k ha hk => by rw [if_neg (by omega)]; exact g1 a k (by omega) hk, f1⟩ ?_
  rintro i N2 hi ⟨g2, f2⟩
  unfold X0_change_L44
  refine w_le ⟨by omega, by omega⟩ ⟨by omega, by omega⟩ (fun hc => ?_) (fun hc => ?_)
  · exact w_jinl (hfin N2 (fun a k ha hk => by rw [g2 a k ha hk, if_pos (by omega)]) f2)
  have hin : i < sn S := by omega
  refine w_up (sn S) (fun k N3 => (∀ a b, a < sn S → b < 5 → N3 (c + 199 + 1 + a) b = if a < i ∨ a = i ∧ b < k then bsT (sn S) r.2.2 a b else dl1 a b) ∧ ∀ b, b < c + 200 ∨ c + 205 ≤ b → N3 b = N b) 0 rfl (by omega) ⟨fun a b ha hb => by
    rw [g2 a b ha hb]
    by_cases x : a < i
    · rw [if_pos x, if_pos (Or.inl x)]
    · rw [if_neg x, if_neg (by omega)], f2⟩ ?_
  rintro k N3 hk ⟨g3, f3⟩
  unfold X0_change_L53
  refine w_le ⟨by omega, by omega⟩ ⟨by omega, by omega⟩ (fun hd => ?_) (fun hd => ?_)
  · unfold X0_change_b92
    rw [z_1, zI_add]
    refine w_jinl (w_jcont ⟨hin, rfl, fun a b ha hb => ?_, f3⟩)
    rw [g3 a b ha hb]
    by_cases x : a < i
    · rw [if_pos (Or.inl x), if_pos (by omega)]
    · by_cases x2 : a = i
      · by_cases x3 : b < k
        · rw [if_pos (Or.inr ⟨x2, x3⟩), if_pos (by omega)]
        · rw [if_neg (by omega), if_pos (show a < i + 1 by omega)]
          unfold dl1 bsT
          rw [if_neg (show ¬ a = b by omega), if_neg (show ¬ (a < sn S ∧ b < sn S) by omega)]
      · rw [if_neg (by omega), if_neg (by omega)]
  have hkn : k < sn S := by omega
  have hnk := nik hin hkn hn5
  have hT3 : TrR M N3 (c + 258 + t) r.2.1 r.2.2 := hTr.fr (f3 _ (by omega)) (fun a ha => f3 a (by have := hra a ha; omega))
  refine w_Cf hR.cl rfl ?_
  refine w_R1 (hR.cl.ka (o := 199) (d := (5, 5)) rfl) hR.cl.ba (by omega) (by omega) ?_
  refine w_Cf hR.cl rfl ?_
  refine w_aldA (hR.cl.ka (o := 1) (d := (9, 4)) rfl) (by omega) (by omega) (hR.cl.tr (show t < 4 by omega)).1 ?_
  rw [zI_mul, zI_add, ← Int.natCast_mul, ← Int.natCast_add]
  refine w_get hk258 hT3 (by omega) ?_
  rw [zI_long, show (((sn S * i + k : Nat) : Int).toNat) = sn S * i + k from rfl]
  refine w_ast (hR.cl.ba i (by omega)).2 (by omega) (by omega) ?_
  rw [z_1, zI_add, show ((k : Int).toNat) = k from rfl]
  refine w_jcont ⟨hkn, rfl, fun a b ha hb => ?_, fun b hb => ?_⟩
  · show (if c + 199 + 1 + a = c + 199 + 1 + i ∧ b = k then r.2.2 (sn S * i + k) else N3 (c + 199 + 1 + a) b) = _
    by_cases x : a = i ∧ b = k
    · rw [if_pos (by omega), if_pos (by omega), x.1, x.2]
      exact (if_pos ⟨hin, hkn⟩).symm
    · rw [if_neg (by omega), g3 a b ha hb]
      by_cases x2 : a < i ∨ a = i ∧ b < k
      · rw [if_pos x2, if_pos (by omega)]
      · rw [if_neg x2, if_neg (by omega)]
  · funext q
    show (if b = c + 199 + 1 + i ∧ _ then _ else N3 b q) = _
    rw [if_neg (by omega), f3 b hb]
theorem m_change {f : Int32 → JM Mem τ} {Q : τ → Mem → NM → Prop} (hR : MR M N m S) (ht : zR t) (h : mPost M N m (a_change S t).1 (f (zI (a_change S t).2)) Q) : GN M N (jb (jcall 7 m (f_X8_change m (zI t))) f) Q := by
  refine w_Mc hR.ml ?_
  unfold f_X8_change
  refine m_beg hR (fun M1 N1 hS hM hA => ?_)
  have hR1 := hR.be hS
  have hFm : MFm m M N M1 N1 := MFm.stw hS MFr.rf.tw
  have hpb := hA.pb
  have hn5 := hA.n5
  have hnn := nn_le hn5
  unfold a_change at h
  have hno : ∀ why : Int, why ≠ 0 → wnS S t (sn S * sn S) 0 (sp S - 1) = why → GN M1 N1 (jb (jcall 7 m (f_X8_no m (zI why))) fun x => jrz x) (fun v M1 N1 => GN M1 N1 (f v) Q) := fun why h0 e => by
    rw [e, if_neg h0] at h
    exact m_no (x := (stU S 0 why, 0)) hM hR1 hFm h (by rw [stU_2])
  refine m_tray (S := stU S 0 0) hR1 ht (fun e => ?_) (fun e e2 => ?_) (fun e r e2 hT => ?_)
  · rw [z_1]
    exact hno 1 (by decide) (if_neg e)
  · rw [z_3]
    refine hno 3 (by decide) ?_
    unfold wnS
    rw [if_pos e, show S.2.2.1 t.toNat = none from e2]
    rfl
  have e2 : S.2.2.1 t.toNat = some r := e2
  have hlen := hT.2.1
  have ew : wnS S t (sn S * sn S) 0 (sp S - 1) = if r.2.1 < sn S * sn S then 4 else @ite _ (∀ i, i < sn S * sn S → 0 ≤ r.2.2 i ∧ r.2.2 i ≤ sp S - 1) (Classical.propDecidable _) 0 5 := by
    unfold wnS
    rw [if_pos e, e2]
    rfl
  have eV : trV S t = r.2.2 := by
    unfold trV
    rw [e2]
  obtain ⟨t, rfl⟩ : ∃ d : Nat, t = d := ⟨t.toNat, by omega⟩
  rw [show ((t : Int).toNat) = t from rfl] at hT
  refine w_Mf hM rfl ?_
  refine w_ald (hM.ka (o := 2) (d := (0, 4)) rfl) (by omega) (by omega) ?_
  rw [show ((t : Int).toNat) = t from rfl, hT.2.2.1]
  refine w_MI hM (w_MI hM ?_)
  rw [hA.ne, zI_mul, ← Int.natCast_mul]
  refine w_le ⟨by omega, by omega⟩ ⟨by omega, by omega⟩ (fun hc => ?_) (fun hc => ?_)
  rotate_left
  · rw [z_4]
    refine hno 4 (by decide) ?_
    rw [ew, if_pos (by omega)]
  rw [if_neg (by omega)] at ew
  have hfin : (∀ i, i < sn S * sn S → 0 ≤ r.2.2 i ∧ r.2.2 i ≤ sp S - 1) → GN M1 N1 (X8_change_b114 m (zI t)) (fun v M1 N1 => GN M1 N1 (f v) Q) := fun hV => by
    rw [if_pos hV] at ew
    rw [if_pos ew, eV] at h
    have hbB : ∀ i k, 0 ≤ bsT (sn S) r.2.2 i k ∧ bsT (sn S) r.2.2 i k < sp S ∧ (sn S ≤ k → bsT (sn S) r.2.2 i k = 0) := fun i k => by
      unfold bsT
      by_cases c : i < sn S ∧ k < sn S
      · rw [if_pos c]
        have := hV _ (nik c.1 c.2 hn5)
        exact ⟨this.1, by omega, fun x => by omega⟩
      · rw [if_neg c]; exact ⟨by omega, by omega, fun _ => rfl⟩
    unfold X8_change_b114
    rw [z_0]
    refine w_up (sn S * sn S) (fun q N2 => (∀ i k, i < sn S → k < sn S → sn S * i + k < q → N2 (m + 32) (5 * i + k) = bsT (sn S) r.2.2 i k) ∧ ∀ b, b ≠ m + 32 → N2 b = N1 b) 0 rfl (by omega) ⟨fun i k _ _ x => absurd x (by omega), fun _ _ => rfl⟩ ?_
    rintro q N2 hq ⟨g2, f2⟩
    have hA2 : MA M1 N2 m (m + 5) 0 (sp S) (sn S) (sT S) := hA.fr (f2 _ (by omega)) (f2 _ (by omega))
    unfold X8_change_L116
    refine w_MI hM (w_MI hM ?_)
    rw [hA2.ne, zI_mul, ← Int.natCast_mul]
    refine w_le ⟨by omega, by omega⟩ ⟨by omega, by omega⟩ (fun hd => ?_) (fun hd => ?_)
    · refine w_jinl ?_
      unfold X8_change_b162
      refine w_changeInto hM hA2 (fun i k hi hk => g2 i k hi hk (by have := nik hi hk hn5; omega)) hbB (fun N3 v hv f3 => ?_)
      rw [z_0]
      have hF3 : MFr m N1 N3 := MFr.of (fun b hb => by rw [f3 b (by omega) (by omega) (by omega) (by omega), f2 b (by omega)])
      rcases hv with ⟨rfl, hg, hW⟩ | ⟨rfl, hg⟩
      · rw [if_pos hg] at h
        refine w_eq ⟨by omega, by omega⟩ ⟨by omega, by omega⟩ (fun x => absurd x (by decide)) (fun _ => ?_)
        exact m_takeOther hM hW (altT_ok hA.pr ⟨hA.n1, hn5⟩) (fun N4 hF4 hW4 => w_jp (m_finW (y := wch S (bsT (sn S) r.2.2)) hR hS (hF3.tw.tr hF4) hW4 h))
      · rw [if_neg hg] at h
        rw [show (9 : Int32) = zI 9 from rfl]
        exact w_eq ⟨by omega, by omega⟩ ⟨by omega, by omega⟩ (fun _ => m_no (S := stU S 0 0) (x := (stU S 0 9, 0)) hM (hR1.sc hF3) (MFm.st hS hF3) h (by rw [stU_2])) (fun x => absurd rfl x)
    have hqn : q < sn S * sn S := by omega
    have hn1 := hA.n1
    have hdv : q / sn S < sn S := Nat.div_lt_of_lt_mul hqn
    have hmd : q % sn S < sn S := Nat.mod_lt _ (by omega)
    have hdm : sn S * (q / sn S) + q % sn S = q := Nat.div_add_mod q (sn S)
    have hVq := hV q hqn
    refine w_Mf hM rfl (w_MI hM ?_)
    rw [hA2.ne]
    refine w_divP ⟨by omega, by omega, by omega⟩ ⟨by omega, by omega, by omega⟩ ?_
    refine w_MI hM ?_
    rw [hA2.ne]
    refine w_remP ⟨by omega, by omega, by omega⟩ ⟨by omega, by omega, by omega⟩ ?_
    have hT2 : TrM M1 N2 m t r.2.1 r.2.2 := ⟨hT.1, hT.2.1, by rw [f2 _ (by omega)]; exact hT.2.2.1, hT.2.2.2⟩
    refine w_number hM hT2 (z := (q : Int)) (by omega) ?_
    rw [zI_long, show ((q : Int).toNat) = q from rfl, z_5, zI_mul, zI_add, show (5 * ((q : Int) / (sn S : Int)) + (q : Int) % (sn S : Int)) = ((5 * (q / sn S) + q % sn S : Nat) : Int) by omega]
    refine w_ast (hM.ka (o := 32) (d := (0, 25)) rfl) (by omega) (by omega) ?_
    rw [z_1, zI_add]
    refine w_jcont ⟨hqn, rfl, fun i k hi hk hx => ?_, fun b hb => ?_⟩
    · show (if m + 32 = m + 32 ∧ 5 * i + k = 5 * (q / sn S) + q % sn S then r.2.2 q else N2 (m + 32) (5 * i + k)) = _
      by_cases x : sn S * i + k = q
      · have hi' : i = q / sn S := by
          rw [← x, Nat.mul_add_div (by omega), Nat.div_eq_of_lt hk, Nat.add_zero]
        have hk' : k = q % sn S := by
          rw [← x, Nat.mul_add_mod, Nat.mod_eq_of_lt hk]
        rw [if_pos ⟨rfl, by rw [← hi', ← hk']⟩]
        unfold bsT
        rw [if_pos ⟨hi, hk⟩, x]
      · rw [if_neg (fun y => x (by have h1 : i = q / sn S := by omega
                                   have h2 : k = q % sn S := by omega
                                   rw [h1, h2]; exact hdm))]
        exact g2 i k hi hk (by omega)
    · funext z
      show (if b = m + 32 ∧ _ then _ else N2 b z) = _
      rw [if_neg (fun e => hb e.1), f2 b hb]
  rw [z_0]
  refine w_up (sn S * sn S) (fun q N2 => N2 = N1 ∧ ∀ i, i < q → 0 ≤ r.2.2 i ∧ r.2.2 i ≤ sp S - 1) 0 rfl (by omega) ⟨rfl, fun i hi => absurd hi (by omega)⟩ ?_
  rintro q N2 hq ⟨rfl, hV⟩
  unfold X8_change_L69
  refine w_MI hM (w_MI hM ?_)
  rw [hA.ne, zI_mul, ← Int.natCast_mul]
  refine w_le ⟨by omega, by omega⟩ ⟨by omega, by omega⟩ (fun hd => ?_) (fun hd => ?_)
  · exact w_jinl (hfin (fun i hi => hV i (by omega)))
  have hqn : q < sn S * sn S := by omega
  refine w_number hM hT (z := (q : Int)) (by omega) ?_
  refine w_MI hM ?_
  rw [hA.pe, z_1, zI_sub, zL_int ⟨by omega, by omega⟩, show (0 : Int64) = zL 0 from rfl, show ((q : Int).toNat) = q from rfl]
  refine w_isIn (hT.2.2.2 q (by omega)).2 ⟨by omega, by omega⟩ ⟨by omega, by omega⟩ ?_
  rw [z_0]
  by_cases x : 0 ≤ r.2.2 q ∧ r.2.2 q ≤ sp S - 1
  · rw [if_pos x]
    refine w_eq ⟨by omega, by omega⟩ ⟨by omega, by omega⟩ (fun x => absurd x (by decide)) (fun _ => ?_)
    rw [zI_add]
    refine w_jcont ⟨hqn, rfl, rfl, fun i hi => ?_⟩
    by_cases y : i = q
    · rw [y]; exact x
    · exact hV i (by omega)
  · rw [if_neg x]
    refine w_eq ⟨by omega, by omega⟩ ⟨by omega, by omega⟩ (fun _ => ?_) (fun x => absurd rfl x)
    unfold X8_change_b102
    rw [z_5]
    refine w_jinl (hno 5 (by decide) ?_)
    rw [ew, if_neg (fun y => x (y q hqn))]
end OPS11
