/-! TEXTS: the component reads a step, an end. -/
set_option maxRecDepth 100000
section RSC4
variable {α β τ : Type} {M M' M0 M1 : Mem} {N N' N0 N1 : NM} {c k e b d n i j q E0 A L o cnt wi : Nat} {z lo hi kd p s : Int} {t : Tx} {tk u u' : Tk} {E : Nat → Mem → NM → Prop} {Q : Nat → Mem → NM → Prop} {r r' : Nat → Int} {ad ad' op : Nat → Nat} {F F' : Nat → Nat → Int}
/-- a step but for where it leads -/
noncomputable def pSt (t : Tx) (j : Nat) (u : Tk) (r : Nat → Int) : Except Er (Tk × (Nat → Int)) := pbd (pRest t j (nx t u) r) fun y => pbd (pSgn t y.1) fun u2 => Except.ok (u2, y.2)
theorem SS.cl (hS : SS c E0 M0 N0 M N t u cnt A ad L o op F) : CL M c := hS.1.2.2.2.2.2.2
theorem SS.tt (hS : SS c E0 M0 N0 M N t u cnt A ad L o op F) (hT : TwoT M0) : TwoT M := by
  have e := hS.1.2.2.2.2.2.1
  unfold TwoT at hT ⊢
  rw [e]
  exact hT
/-- a step is begun: its word is known -/
theorem g_begin {B : Int → Int → JM Mem Unit} (hS : SS c E0 M0 N0 M N t u cnt A ad L o op F) (hT : TwoT M0) (h0 : u.2.2.1 ≠ 0)
    (h : ∀ v : Int, (v = -1 ∧ (∀ n, n < 24 → ¬ kw t u n) ∨ ∃ n : Nat, n < 24 ∧ v = n ∧ kw t u n) → GE (sB M 1 8) N (X2_step_b22 (c + 2) (zI v) (if v = 12 ∨ v = 13 then 1 else 0)) (fun _ B N' => GE (sB B (mC M - 1) (mS M - 8)) N' (hdS c) Q E) (fun w B N' => E w (sB B (mC M - 1) (mS M - 8)) N')) : GE M N (hdS c) Q E := by
  refine g_head hS h0 ?_
  unfold f_X2_step X2_step_b17
  refine gk_key (M := sB M 1 8) hS.cl (hS.tt hT) hS.2.1 (fun v hv => ?_)
  have hvb : zR v := by
    rcases hv with ⟨rfl, _⟩ | ⟨n, h1, rfl, _⟩
    · exact ⟨by decide, by decide⟩
    · exact ⟨by omega, by omega⟩
  have h := h v hv
  rw [z_12, z_13]
  refine ge_eq hvb ⟨by omega, by omega⟩ (fun e => ?_) (fun e => ?_)
  · rw [if_pos (Or.inl e)] at h; exact h
  refine ge_eq hvb ⟨by omega, by omega⟩ (fun e2 => ?_) (fun e2 => ?_)
  · rw [if_pos (Or.inr e2)] at h; exact h
  · rw [if_neg (by omega)] at h; exact h
/-- what is no step here -/
theorem g_none (hc : c + 1603 ≤ E0) (hS : SS c E0 M0 N0 M N t u cnt A ad L o op F) (hT : TwoT M0) (h0 : u.2.2.1 ≠ 0) (hn : ∀ j, j < 9 → ¬ kw t u (kwstepWord j)) (h15 : kw t u 15 → o = 0) (hE : ThX c E0 M0 N0 (flt u 2) E) : GE M N (hdS c) Q E := by
  refine g_begin (B := fun _ _ => jp ()) hS hT h0 (fun v hv => ?_)
  have hvb : -1 ≤ v ∧ v ≤ 23 := by
    rcases hv with ⟨rfl, _⟩ | ⟨n, h1, rfl, _⟩ <;> omega
  have hv2 : v < 6 ∨ 14 < v := by
    rcases hv with ⟨rfl, _⟩ | ⟨n, h1, rfl, hk⟩
    · omega
    · refine Classical.byContradiction fun x => hn (n - 6) (by omega) ?_
      rw [show kwstepWord (n - 6) = n by unfold kwstepWord; omega]
      exact hk
  have hr := hS.cl.rd.1
  obtain ⟨f10, f11, f12, _⟩ := hS.2.2.1
  obtain ⟨r3, r4, r5⟩ := hS.2.2.2.2.2.2.2
  have bad : ∀ s0 : Int32, GE (sB M 1 8) N (X2_step_b53 (c + 2) (zI v) s0 (c + 2)) (fun _ B N' => GE (sB B (mC M - 1) (mS M - 8)) N' (hdS c) Q E) (fun w B N' => E w (sB B (mC M - 1) (mS M - 8)) N') := fun s0 => by
    unfold X2_step_b53 X2_step_b54
    rw [z_0]
    exact gk_need0 (M := sB M 1 8) hS.cl hS.2.1 (fun N' h => (show E (c + 3) (sB (sB M 1 8) (mC M - 1) (mS M - 8)) N' from hE.th (M := sB (sB M 1 8) (mC M - 1) (mS M - 8)) (N := N) hS.1 hc h))
  have b36 : ∀ s0 : Int32, GE (sB M 1 8) N (X2_step_b36 (c + 2) (zI v) s0 (c + 2)) (fun _ B N' => GE (sB B (mC M - 1) (mS M - 8)) N' (hdS c) Q E) (fun w B N' => E w (sB B (mC M - 1) (mS M - 8)) N') := fun s0 => by
    unfold X2_step_b36
    rw [z_15, z_0]
    refine ge_eq ⟨by omega, by omega⟩ ⟨by omega, by omega⟩ (fun e => ?_) (fun e => bad s0)
    have ho : o = 0 := h15 (by
      rcases hv with ⟨rfl, _⟩ | ⟨n, h1, rfl, hk⟩
      · omega
      · obtain rfl : n = 15 := by omega
        exact hk)
    refine ge_p (w_getI (M := sB M 1 8) hr (w_jp ?_))
    rw [f12]
    exact ge_le ⟨by omega, by omega⟩ ⟨by omega, by omega⟩ (fun _ => bad s0) (fun x => absurd x (by omega))
  unfold X2_step_b22
  rw [z_6, z_14]
  refine ge_lt ⟨by omega, by omega⟩ ⟨by omega, by omega⟩ (fun _ => b36 _) (fun e => ?_)
  exact ge_le ⟨by omega, by omega⟩ ⟨by omega, by omega⟩ (fun e2 => absurd e2 (by omega)) (fun _ => b36 _)
/-- too many, too deep -/
theorem g_many (hc : c + 1603 ≤ E0) (hS : SS c E0 M0 N0 M N t u cnt A ad L o op F) (hT : TwoT M0) (hj : j < 9) (hk : kw t u (kwstepWord j)) (h : cnt = 30 ∧ ThX c E0 M0 N0 (flt u 6) E ∨ cnt ≠ 30 ∧ (j = 6 ∨ j = 7) ∧ o = 3 ∧ ThX c E0 M0 N0 (flt u 7) E) : GE M N (hdS c) Q E := by
  refine g_begin (B := fun _ _ => jp ()) hS hT (by rw [hk.1]; omega) (fun v hv => ?_)
  have ev : v = (j + 6 : Nat) := by
    rcases hv with ⟨rfl, hn⟩ | ⟨n, h1, rfl, hk2⟩
    · exact absurd hk (hn _ (by unfold kwstepWord; omega))
    · have := kw_uni h1 (by unfold kwstepWord; omega) hk2 hk
      unfold kwstepWord at this
      omega
  clear hv
  have hr := hS.cl.rd.1
  obtain ⟨f10, f11, f12, _⟩ := hS.2.2.1
  obtain ⟨r3, r4, r5⟩ := hS.2.2.2.2.2.2.2
  have hx : CRd N c t u := hS.2.1
  unfold X2_step_b22 X2_step_b49 X2_step_b54
  rw [z_6, z_14, z_15, z_1, z_30]
  refine ge_lt ⟨by omega, by omega⟩ ⟨by omega, by omega⟩ (fun x => absurd x (by omega)) (fun _ => ?_)
  refine ge_le ⟨by omega, by omega⟩ ⟨by omega, by omega⟩ (fun _ => ?_) (fun x => absurd x (by omega))
  refine gk_need1 (M := sB M 1 8) hS.cl ?_
  refine ge_eq ⟨by omega, by omega⟩ ⟨by omega, by omega⟩ (fun x => absurd x (by omega)) (fun _ => ?_)
  refine ge_p (w_getI (M := sB M 1 8) hr (w_jp ?_))
  rw [f11]
  have thr : ∀ (k9 : Int), ThX c E0 M0 N0 (flt u k9) E → GE (sB M 1 8) N (jb (jcall 1 (c + 2) (jkeep (f_X1_fail (c + 2) (zI k9)))) fun v => (jthrow v : JM Mem Unit)) (fun _ B N' => GE (sB B (mC M - 1) (mS M - 8)) N' (hdS c) Q E) (fun w B N' => E w (sB B (mC M - 1) (mS M - 8)) N') := fun k9 hE =>
    gk_fail (M := sB M 1 8) hS.cl hx (fun N' h => ge_thr (show E (c + 3) (sB (sB M 1 8) (mC M - 1) (mS M - 8)) N' from hE.th (M := sB (sB M 1 8) (mC M - 1) (mS M - 8)) (N := N) hS.1 hc h))
  rcases h with ⟨h1, h2⟩ | ⟨h1, h2, h3, h4⟩
  · refine ge_eq ⟨by omega, by omega⟩ ⟨by omega, by omega⟩ (fun _ => ?_) (fun x => absurd (by omega) x)
    exact thr 6 h2
  · refine ge_eq ⟨by omega, by omega⟩ ⟨by omega, by omega⟩ (fun x => absurd x (by omega)) (fun _ => ?_)
    unfold X2_step_b79
    rw [if_pos (show v = 12 ∨ v = 13 by omega), if_neg (by decide)]
    refine ge_p (w_getI (M := sB M 1 8) hr (w_jp ?_))
    rw [f12, show (3 : Int32) = zI 3 from rfl]
    refine ge_eq ⟨by omega, by omega⟩ ⟨by omega, by omega⟩ (fun _ => ?_) (fun x => absurd (by omega) x)
    rw [z_7]
    exact thr 7 h4
theorem g_newstep (hc : c + 1603 ≤ E0) (hS : SS c E0 M0 N0 M N t u cnt A ad L o op F) (hT : TwoT M0) (hj : j < 9) (hk : kw t u (kwstepWord j)) (h30 : cnt ≠ 30) (h3 : (j = 6 ∨ j = 7) → o ≠ 3) (hr0 : r 0 = j)
    (k1 : ∀ M' N' u2 r' q F', pSt t j u r = .ok (u2, r') → SS c E0 M0 N0 M' N' t u2 (cnt + 1) A (fun i => if i = L then q else ad i) (L + 1) (if j = 6 ∨ j = 7 then o + 1 else o) (fun k => if k = o then L else op k) F' → (∀ i, i < L → ∀ k, k < 7 → F' i k = F i k) → F' L 0 = j + 6 → ArgOf (F' L) r' → GE M' N' (hdS c) Q E)
    (hE : ∀ er, pSt t j u r = .error er → ThX c E0 M0 N0 er E) : GE M N (hdS c) Q E := by
  refine g_begin (B := fun _ _ => jp ()) hS hT (by rw [hk.1]; omega) (fun v hv => ?_)
  have ev : v = (j : Int) + 6 := by
    rcases hv with ⟨rfl, hn⟩ | ⟨n, h1, rfl, hk2⟩
    · exact absurd hk (hn _ (by unfold kwstepWord; omega))
    · have := kw_uni h1 (by unfold kwstepWord; omega) hk2 hk
      unfold kwstepWord at this
      omega
  clear hv
  subst ev
  have hr := hS.cl.rd.1
  obtain ⟨f10, f11, f12, f5⟩ := hS.2.2.1
  obtain ⟨r3, r4, r5⟩ := hS.2.2.2.2.2.2.2
  have hx : CRd N c t u := hS.2.1
  have hL : L < 60 := by omega
  generalize hs0 : (if (j : Int) + 6 = 12 ∨ (j : Int) + 6 = 13 then (1 : Int32) else 0) = s0
  have hs0' : (s0 = zI 1 ∧ (j = 6 ∨ j = 7)) ∨ (s0 = zI 0 ∧ ¬ (j = 6 ∨ j = 7)) := by
    by_cases q : j = 6 ∨ j = 7
    · rw [if_pos (by omega)] at hs0
      exact Or.inl ⟨hs0.symm, q⟩
    · rw [if_neg (by omega)] at hs0
      exact Or.inr ⟨hs0.symm, q⟩
  unfold X2_step_b22 X2_step_b49 X2_step_b54
  rw [z_6, z_14, z_15, z_1, z_30]
  refine ge_lt ⟨by omega, by omega⟩ ⟨by omega, by omega⟩ (fun x => absurd x (by omega)) (fun _ => ?_)
  refine ge_le ⟨by omega, by omega⟩ ⟨by omega, by omega⟩ (fun _ => ?_) (fun x => absurd x (by omega))
  refine gk_need1 (M := sB M 1 8) hS.cl ?_
  refine ge_eq ⟨by omega, by omega⟩ ⟨by omega, by omega⟩ (fun x => absurd x (by omega)) (fun _ => ?_)
  refine ge_p (w_getI (M := sB M 1 8) hr (w_jp ?_))
  rw [f11]
  refine ge_eq ⟨by omega, by omega⟩ ⟨by omega, by omega⟩ (fun x => absurd x (by omega)) (fun _ => ?_)
  -- the new step
  have hZ := hS.1.1
  obtain ⟨nS, nK, nO⟩ := hS.1.nw hc
  have hnew : GE (sB M 1 8) N (X2_step_b98 (c + 2) (zI ((j : Int) + 6)) s0) (fun _ B N' => GE (sB B (mC M - 1) (mS M - 8)) N' (hdS c) Q E) (fun w B N' => E w (sB B (mC M - 1) (mS M - 8)) N') := by
    unfold X2_step_b98
    refine ge_p (w_new8 (M := sB M 1 8) ⟨by show 1 ≤ 1; omega, by show 8 ≤ 8; omega⟩ (w_jp ?_))
    show GE (nwM M) (upZ N (mZ M)) (jb (jkeep (f_X9_init (mZ M) (zI ((j : Int) + 6)))) fun _ => _) _ _
    refine ge_p (w_jb (w_keep ?_))
    unfold f_X9_init
    refine w_putI nK (w_jp (w_jp ?_))
    show GE (nwM M) (up2 (upZ N (mZ M)) (mZ M) 0 ((j : Int) + 6)) _ _ _
    have hCL : CL (nwM M) c := nS.2.2.2.2.2.2
    have hTT : TwoT (nwM M) := hS.tt hT
    have hq4 : c + 4 < mZ M := by omega
    have hx1 : CRd (up2 (upZ N (mZ M)) (mZ M) 0 ((j : Int) + 6)) c t u := hx.o (fun b hb => by rw [upb (by omega)]; exact funext fun j => if_neg (by omega))
    have q1 : up2 (upZ N (mZ M)) (mZ M) 0 ((j : Int) + 6) (mZ M) 0 = (j : Int) + 6 := upv
    have fr1 : ∀ b, b ≠ mZ M → up2 (upZ N (mZ M)) (mZ M) 0 ((j : Int) + 6) b = N b := fun b hb => by rw [upb hb]; exact funext fun j => if_neg hb
    have nS1 : SF c E0 M0 N0 (nwM M) (up2 (upZ N (mZ M)) (mZ M) 0 ((j : Int) + 6)) := nS.fs (FrS.qq (by omega)) hZ hc
    generalize up2 (upZ N (mZ M)) (mZ M) 0 ((j : Int) + 6) = N1 at *
    refine gk_next hCL hTT hx1 (fun N2 n2 hx2 => ?_)
    have hthr : ∀ (N3 N' : NM) (er : Er), FrS c (mZ M) N1 N3 → pSt t j u r = .error er → ThC c er N3 N' → E (c + 3) (sB (nwM M) (mC M - 1) (mS M - 8)) N' := fun N3 N' er g1 g2 g3 => (hE er g2).th (M := sB (nwM M) (mC M - 1) (mS M - 8)) (N := N3) (nS1.fs g1 hZ hc) hc g3
    show GE (nwM M) N2 (jsw (zI ((j : Int) + 6)) 6 _ _) _ _
    refine g_rest (N0 := N1) (r := r) (u := nx t u) (g := fun y => pbd (pSgn t y.1) fun u2 => Except.ok (u2, y.2)) (res := pSt t j u r) (E := fun w B N' => E w (sB B (mC M - 1) (mS M - 8)) N') hCL hTT nK hq4 hj hx2 n2.s hthr (by rw [n2.1 _ (by omega)]; exact q1) hr0 rfl (fun N3 y g1 hx3 g2 g3 hres => ?_)
    unfold X2_step_b343
    refine gk_closes hCL hTT hx3 (g := fun u2 => Except.ok (u2, y.2)) (res := pSt t j u r) hres (fun N4 n4 hx4 _ hres4 => ?_) (fun N' er a b => hthr N3 N' er g1 a b)
    have g4 : FrS c (mZ M) N1 N4 := g1.tr n4.s
    have q4 : ∀ k, N4 (mZ M) k = N3 (mZ M) k := fun k => by rw [n4.1 _ (by omega)]
    have nS4 : SF c E0 M0 N0 (nwM M) N4 := nS1.fs g4 hZ hc
    have adne : ∀ i, i < L → ad i ≠ mZ M ∧ ad i ≠ c + 2 ∧ ad i ≠ c + 5 := fun i hi => by
      obtain ⟨k1, k2, k3, _⟩ := hS.2.2.2.2.1 i hi
      refine ⟨fun e => ?_, by omega, by omega⟩
      have := hS.1.2.1 (mZ M) (Nat.le_refl _)
      rw [e, this] at k3
      cases k3
    have hb4 : ∀ b, b ≠ c + 2 → b ≠ mZ M → N4 b = N b := fun b b1 b2 => (g4.1 b b1 b2).trans (fr1 b b2)
    have hk4 : ∀ k, 5 < k → N4 (c + 2) k = N (c + 2) k := fun k hk => by rw [g4.2 k (Or.inr hk), fr1 _ (by omega)]
    rcases hs0' with ⟨rfl, hbl⟩ | ⟨rfl, hbl⟩
    · rw [if_pos hbl] at k1
      rw [z_0]
      refine ge_eq ⟨by omega, by omega⟩ ⟨by omega, by omega⟩ (fun x => absurd x (by decide)) (fun _ => ?_)
      have hr' := hCL.rd.1
      have ho3 := h3 hbl
      refine ge_p (w_getA hr' hCL.rd.2.2.2.2.1 (w_jp ?_))
      refine ge_p (w_getI hr' (w_jp ?_))
      refine ge_p (w_getI hr' (w_jp ?_))
      rw [hk4 12 (by omega), f12, hk4 10 (by omega), f10]
      refine ge_p (w_ast (hCL.ka (o := 5) (d := (0, 3)) rfl) (by omega) (by omega) (w_jp ?_))
      refine ge_p (w_getI hr' (w_jp ?_))
      rw [show ((o : Int).toNat) = o from rfl, upb (show c + 2 ≠ c + 5 by omega), hk4 12 (by omega), f12, z_1, zI_add, show ((o : Int) + 1) = ((o + 1 : Nat) : Int) by omega]
      refine ge_p (w_putI hr' (w_jp ?_))
      refine g_b374 (s := 1) (kz := (j : Int) + 6) (q := mZ M) (o' := o + 1) (op' := fun k => if k = o then L else op k) (F' := fun i k => if i = L then N4 (mZ M) k else F i k) hc hS hL rfl ?_ ((hx4.bb (by omega) (by omega)).kk (by omega)) ⟨by omega, by omega⟩ (Or.inr ⟨by omega, rfl⟩) ?_ ?_ upv (fun k hk => ?_) (fun i hi k hk => ?_) (fun k hk => ?_) ?_ (fun M' N' hS' => k1 _ _ (nx t y.1) y.2 (mZ M) _ hres4.symm hS' (fun i hi k hk => if_neg (by omega)) ?_ ?_)
      · obtain ⟨s1, s2, s3, s4, s5, s6, s7⟩ := nS4
        exact ⟨s1, s2, s3, fun b b1 b2 b3 b4 => by rw [upb b2, upb b4]; exact s4 b b1 b2 b3 b4, by rw [upk (by omega), upb (show c + 2 ≠ c + 5 by omega)]; exact s5, s6, s7⟩
      · rw [upk (by omega), upb (show c + 2 ≠ c + 5 by omega), hk4 10 (by omega)]; exact f10
      · rw [upk (by omega), upb (show c + 2 ≠ c + 5 by omega), hk4 11 (by omega)]; exact f11
      · rw [upb (show c + 5 ≠ c + 2 by omega)]
        show up2 N4 (c + 5) o L (c + 5) k = ((if k = o then L else op k : Nat) : Int)
        by_cases e : k = o
        · rw [if_pos e, e, upv]
        · rw [if_neg e, upk e, hb4 _ (by omega) (by omega)]
          exact f5 k (by omega)
      · obtain ⟨a1, a2, a3⟩ := adne i hi
        show _ = if i = L then N4 (mZ M) k else F i k
        rw [if_neg (by omega), upb a2, upb a3, hb4 _ a2 a1]
        exact (hS.2.2.2.2.1 i hi).2.2.2 k hk
      · rw [upb (by omega), upb (by omega)]
        exact (if_pos rfl).symm
      · show L + 1 + (o + 1) ≤ 2 * (cnt + (1 : Int).toNat) ∧ cnt + (1 : Int).toNat ≤ 30 ∧ o + 1 ≤ 3
        have : (1 : Int).toNat = 1 := rfl
        omega
      · show (if L = L then N4 (mZ M) 0 else F L 0) = _
        rw [if_pos rfl, q4]
        exact g2
      · show ArgOf (fun k => if L = L then N4 (mZ M) k else F L k) y.2
        exact g3.cg (fun k _ => by rw [if_pos rfl, q4])
    · rw [if_neg hbl] at k1
      rw [z_0]
      refine ge_eq ⟨by omega, by omega⟩ ⟨by omega, by omega⟩ (fun _ => ?_) (fun x => absurd rfl x)
      refine g_b374 (s := 1) (kz := (j : Int) + 6) (q := mZ M) (o' := o) (op' := fun k => if k = o then L else op k) (F' := fun i k => if i = L then N4 (mZ M) k else F i k) hc hS hL rfl nS4 hx4 ⟨by omega, by omega⟩ (Or.inr ⟨by omega, rfl⟩) (by rw [hk4 10 (by omega)]; exact f10) (by rw [hk4 11 (by omega)]; exact f11) (by rw [hk4 12 (by omega)]; exact f12) (fun k hk => ?_) (fun i hi k hk => ?_) (fun k hk => (if_pos rfl).symm) ?_ (fun M' N' hS' => k1 _ _ (nx t y.1) y.2 (mZ M) _ hres4.symm hS' (fun i hi k hk => if_neg (by omega)) ?_ ?_)
      · show N4 (c + 5) k = ((if k = o then L else op k : Nat) : Int)
        rw [if_neg (by omega), hb4 _ (by omega) (by omega)]
        exact f5 k hk
      · obtain ⟨a1, a2, a3⟩ := adne i hi
        show _ = if i = L then N4 (mZ M) k else F i k
        rw [if_neg (by omega), hb4 _ a2 a1]
        exact (hS.2.2.2.2.1 i hi).2.2.2 k hk
      · show L + 1 + o ≤ 2 * (cnt + (1 : Int).toNat) ∧ cnt + (1 : Int).toNat ≤ 30 ∧ o ≤ 3
        have : (1 : Int).toNat = 1 := rfl
        omega
      · show (if L = L then N4 (mZ M) 0 else F L 0) = _
        rw [if_pos rfl, q4]
        exact g2
      · show ArgOf (fun k => if L = L then N4 (mZ M) k else F L k) y.2
        exact g3.cg (fun k _ => by rw [if_pos rfl, q4])
  unfold X2_step_b79
  rcases hs0' with ⟨e, hbl⟩ | ⟨e, hbl⟩
  · rw [e] at hnew ⊢
    rw [z_0]
    refine ge_eq ⟨by omega, by omega⟩ ⟨by omega, by omega⟩ (fun x => absurd x (by decide)) (fun _ => ?_)
    refine ge_p (w_getI (M := sB M 1 8) hr (w_jp ?_))
    rw [f12, show (3 : Int32) = zI 3 from rfl]
    exact ge_eq ⟨by omega, by omega⟩ ⟨by omega, by omega⟩ (fun x => absurd (by omega) (h3 hbl)) (fun _ => hnew)
  · rw [e] at hnew ⊢
    rw [z_0]
    exact ge_eq ⟨by omega, by omega⟩ ⟨by omega, by omega⟩ (fun _ => hnew) (fun x => absurd rfl x)
end RSC4
