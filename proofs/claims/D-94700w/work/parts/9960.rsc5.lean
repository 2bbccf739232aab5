/-! TEXTS: the component reads an end. -/
set_option maxRecDepth 100000
section RSC5
variable {α β τ : Type} {M M' M0 M1 : Mem} {N N' N0 N1 : NM} {c k e b d n i j q E0 A L o o1 cnt wi : Nat} {z lo hi kd p s : Int} {t : Tx} {tk u u' : Tk} {E : Nat → Mem → NM → Prop} {Q : Nat → Mem → NM → Prop} {r r' : Nat → Int} {ad ad' op : Nat → Nat} {F F' : Nat → Nat → Int}
theorem SF.o2 {v : Int} {a : Nat} (h : SF c E0 M0 N0 M N) (ha : E0 ≤ a) (hc : c + 1603 ≤ E0) : SF c E0 M0 N0 M (up2 N a k v) := by
  obtain ⟨h1, h2, h3, h4, h5, h6, h7⟩ := h
  exact ⟨h1, h2, h3, fun b b1 b2 b3 b4 => by rw [upb (by omega)]; exact h4 b b1 b2 b3 b4, by rw [upb (by omega)]; exact h5, h6, h7⟩
theorem SF.c2 {v : Int} (h : SF c E0 M0 N0 M N) (hk : k ≠ 9) (hc : c + 1603 ≤ E0) : SF c E0 M0 N0 M (up2 N (c + 2) k v) := by
  obtain ⟨h1, h2, h3, h4, h5, h6, h7⟩ := h
  exact ⟨h1, h2, h3, fun b b1 b2 b3 b4 => by rw [upb (by omega)]; exact h4 b b1 b2 b3 b4, by rw [upk (by omega)]; exact h5, h6, h7⟩
theorem g_close (hc : c + 1603 ≤ E0) (hS : SS c E0 M0 N0 M N t u cnt A ad L (o1 + 1) op F) (hT : TwoT M0) (hk : kw t u 15) (hp : op o1 < L)
    (k1 : ∀ M' N' u2 q F', pSgn t (nx t u) = .ok u2 → SS c E0 M0 N0 M' N' t u2 cnt A (fun i => if i = L then q else ad i) (L + 1) o1 op F' → (∀ i, i < L → ∀ k, k < 7 → ¬ (i = op o1 ∧ k = 6) → F' i k = F i k) → F' (op o1) 6 = L → F' L 0 = 15 → F' L 6 = op o1 → GE M' N' (hdS c) Q E)
    (hE : ∀ er, pSgn t (nx t u) = .error er → ThX c E0 M0 N0 er E) : GE M N (hdS c) Q E := by
  refine g_begin (B := fun _ _ => jp ()) hS hT (by rw [hk.1]; omega) (fun v hv => ?_)
  have ev : v = 15 := by
    rcases hv with ⟨rfl, hn⟩ | ⟨n, h1, rfl, hk2⟩
    · exact absurd hk (hn _ (by omega))
    · have := kw_uni h1 (by omega) hk2 hk
      omega
  clear hv
  subst ev
  rw [if_neg (by decide)]
  have hr := hS.cl.rd.1
  obtain ⟨f10, f11, f12, f5⟩ := hS.2.2.1
  obtain ⟨r3, r4, r5⟩ := hS.2.2.2.2.2.2.2
  obtain ⟨hA1, hA2, hA3⟩ := hS.2.2.2.1
  have hx : CRd N c t u := hS.2.1
  have hL : L < 60 := by omega
  have hZ := hS.1.1
  obtain ⟨nS, nK, nO⟩ := hS.1.nw hc
  have hz0 := hS.1.2.1 (mZ M) (Nat.le_refl _)
  obtain ⟨d1, d2, d3, d4⟩ := hS.2.2.2.2.1 (op o1) hp
  have hAz : A ≠ mZ M := fun e => by rw [e, hz0] at hA2; cases hA2
  have hdz : ad (op o1) ≠ mZ M := fun e => by rw [e, hz0] at d3; cases d3
  have hnew : GE (sB M 1 8) N (X2_step_b98 (c + 2) (zI 15) 0) (fun _ B N' => GE (sB B (mC M - 1) (mS M - 8)) N' (hdS c) Q E) (fun w B N' => E w (sB B (mC M - 1) (mS M - 8)) N') := by
    unfold X2_step_b98
    refine ge_p (w_new8 (M := sB M 1 8) ⟨by show 1 ≤ 1; omega, by show 8 ≤ 8; omega⟩ (w_jp ?_))
    show GE (nwM M) (upZ N (mZ M)) (jb (jkeep (f_X9_init (mZ M) (zI 15))) fun _ => _) _ _
    refine ge_p (w_jb (w_keep ?_))
    unfold f_X9_init
    refine w_putI nK (w_jp (w_jp ?_))
    show GE (nwM M) (up2 (upZ N (mZ M)) (mZ M) 0 15) _ _ _
    have hCL : CL (nwM M) c := nS.2.2.2.2.2.2
    have hTT : TwoT (nwM M) := hS.tt hT
    have hr' := hCL.rd.1
    have hq4 : c + 4 < mZ M := by omega
    have hx1 : CRd (up2 (upZ N (mZ M)) (mZ M) 0 15) c t u := hx.o (fun b hb => by rw [upb (by omega)]; exact funext fun j => if_neg (by omega))
    have q1 : up2 (upZ N (mZ M)) (mZ M) 0 15 (mZ M) 0 = 15 := upv
    have fr1 : ∀ b, b ≠ mZ M → up2 (upZ N (mZ M)) (mZ M) 0 15 b = N b := fun b hb => by rw [upb hb]; exact funext fun j => if_neg hb
    have nS1 : SF c E0 M0 N0 (nwM M) (up2 (upZ N (mZ M)) (mZ M) 0 15) := nS.o2 hZ hc
    generalize up2 (upZ N (mZ M)) (mZ M) 0 15 = N1 at *
    refine gk_next hCL hTT hx1 (fun N2 n2 hx2 => ?_)
    have nS2 : SF c E0 M0 N0 (nwM M) N2 := nS1.fs (n2.s (q := mZ M)) hZ hc
    have b2 : ∀ b, b ≠ c + 2 → b ≠ mZ M → N2 b = N b := fun b b1 b3 => (n2.1 b b1).trans (fr1 b b3)
    have k2 : ∀ k, 5 < k → N2 (c + 2) k = N (c + 2) k := fun k hk => by rw [n2.2 k (Or.inr hk), fr1 _ (by omega)]
    have q2 : N2 (mZ M) 0 = 15 := by rw [n2.1 _ (by omega)]; exact q1
    refine ge_swz (k := 9) ⟨by omega, by omega⟩ (by omega) ?_
    show GE (nwM M) N2 (jb (jgetI 1 12 (c + 2)) _) _ _
    rw [show mZ (sB M 1 8) = mZ M from rfl]
    refine ge_p (w_getI hr' (w_jp ?_))
    rw [k2 12 (by omega), f12, z_1, zI_sub, show ((o1 + 1 : Nat) : Int) - 1 = (o1 : Int) by omega]
    refine ge_p (w_putI hr' (w_jp ?_))
    refine ge_p (w_getA hr' hCL.rd.2.2.2.2.1 (w_jp ?_))
    refine ge_p (w_getI hr' (w_jp ?_))
    rw [upv]
    refine ge_p (w_ald (hCL.ka (o := 5) (d := (0, 3)) rfl) ⟨by omega, by omega⟩ (by omega) (w_jp ?_))
    rw [show ((o1 : Int).toNat) = o1 from rfl, upb (show c + 5 ≠ c + 2 by omega), b2 _ (by omega) (by omega), f5 o1 (by omega)]
    refine ge_p (w_putI nK (w_jp ?_))
    refine ge_p (w_getA hr' (b := A) (by rw [(nO (c + 2) (by omega)).2]; exact hA1) (w_jp ?_))
    refine ge_p (w_getI nK (w_jp ?_))
    rw [upv]
    refine ge_p (w_aldA (b := ad (op o1)) ((nO A hAz).1.trans hA2) ⟨by omega, by omega⟩ (by omega) (by rw [(nO A hAz).2, show ((op o1 : Int).toNat) = op o1 from rfl]; exact d1) (w_jp ?_))
    refine ge_p (w_getI hr' (w_jp ?_))
    rw [upb (show c + 2 ≠ mZ M by omega), upk (show (10 : Nat) ≠ 12 by omega), k2 10 (by omega), f10]
    refine ge_p (w_putI ((nO _ hdz).1.trans d3) (w_jp ?_))
    generalize e5 : up2 (up2 (up2 N2 (c + 2) 12 (o1 : Int)) (mZ M) 6 (op o1 : Int)) (ad (op o1)) 6 (L : Int) = N5
    have nS5 : SF c E0 M0 N0 (nwM M) N5 := by rw [← e5]; exact ((nS2.c2 (by omega) hc).o2 hZ hc).o2 d2 hc
    have hx5 : CRd N5 c t (nx t u) := by rw [← e5]; exact ((hx2.kk (by omega)).bb (by omega) (by omega)).bb (by omega) (by omega)
    have b5 : ∀ b, b ≠ c + 2 → b ≠ mZ M → b ≠ ad (op o1) → N5 b = N b := fun b g1 g2 g3 => by rw [← e5, upb g3, upb g2, upb g1]; exact b2 b g1 g2
    have k5 : ∀ k, 5 < k → k ≠ 12 → N5 (c + 2) k = N (c + 2) k := fun k hk h12 => by rw [← e5, upb (by omega), upb (by omega), upk h12]; exact k2 k hk
    have k512 : N5 (c + 2) 12 = o1 := by rw [← e5, upb (by omega), upb (by omega), upv]
    have q50 : N5 (mZ M) 0 = 15 := by rw [← e5, upb (fun x => hdz x.symm), upk (by omega), upb (by omega)]; exact q2
    have q56 : N5 (mZ M) 6 = op o1 := by rw [← e5, upb (fun x => hdz x.symm), upv]
    have d50 : ∀ k, k ≠ 6 → N5 (ad (op o1)) k = N (ad (op o1)) k := fun k hk => by rw [← e5, upk hk, upb hdz, upb (by omega), b2 _ (by omega) hdz]
    have d56 : N5 (ad (op o1)) 6 = L := by rw [← e5, upv]
    clear e5
    unfold X2_step_b343
    refine gk_closes hCL hTT hx5 (g := fun u2 => Except.ok u2) (res := pSgn t (nx t u)) (by cases pSgn t (nx t u) <;> rfl) (fun N6 n6 hx6 _ hres => ?_) (fun N' er a b => (hE er a).th (M := sB (nwM M) (mC M - 1) (mS M - 8)) (N := N5) nS5 hc b)
    have nS6 : SF c E0 M0 N0 (nwM M) N6 := nS5.fs (n6.s (q := mZ M)) hZ hc
    rw [if_pos rfl]
    refine g_b374 (s := 0) (kz := 15) (q := mZ M) (o' := o1) (op' := op) (F' := fun i k => if i = L then N6 (mZ M) k else if i = op o1 ∧ k = 6 then L else F i k) hc hS hL rfl nS6 hx6 ⟨by omega, by omega⟩ (Or.inl ⟨rfl, rfl⟩) (by rw [n6.2 10 (Or.inr (by omega)), k5 10 (by omega) (by omega)]; exact f10) (by rw [n6.2 11 (Or.inr (by omega)), k5 11 (by omega) (by omega)]; exact f11) (by rw [n6.2 12 (Or.inr (by omega))]; exact k512) (fun k hk => ?_) (fun i hi k hk => ?_) (fun k hk => (if_pos rfl).symm) ?_ (fun M' N' hS' => k1 _ _ (nx t (nx t u)) (mZ M) _ hres.symm hS' (fun i hi k hk hn => ?_) ?_ ?_ ?_)
    · rw [n6.1 _ (by omega), b5 _ (by omega) (by omega) (by omega)]
      exact f5 k (by omega)
    · obtain ⟨g1, g2, g3, g4⟩ := hS.2.2.2.2.1 i hi
      have gz : ad i ≠ mZ M := fun e => by rw [e, hz0] at g3; cases g3
      show _ = if i = L then N6 (mZ M) k else if i = op o1 ∧ k = 6 then (L : Int) else F i k
      rw [if_neg (by omega), n6.1 _ (by omega)]
      by_cases e1 : i = op o1
      · by_cases e2 : k = 6
        · rw [if_pos ⟨e1, e2⟩, e1, e2]
          exact d56
        · rw [if_neg (fun x => e2 x.2), e1, d50 k e2, ← e1]
          exact g4 k hk
      · rw [if_neg (fun x => e1 x.1), b5 _ (by omega) gz (fun x => e1 (hS.2.2.2.2.2.1 _ _ hi hp x))]
        exact g4 k hk
    · show L + 1 + o1 ≤ 2 * (cnt + (0 : Int).toNat) ∧ cnt + (0 : Int).toNat ≤ 30 ∧ o1 ≤ 3
      have : (0 : Int).toNat = 0 := rfl
      omega
    · show (if i = L then N6 (mZ M) k else if i = op o1 ∧ k = 6 then (L : Int) else F i k) = F i k
      rw [if_neg (by omega), if_neg hn]
    · show (if op o1 = L then N6 (mZ M) 6 else if op o1 = op o1 ∧ 6 = 6 then (L : Int) else F (op o1) 6) = L
      rw [if_neg (by omega), if_pos ⟨rfl, rfl⟩]
    · show (if L = L then N6 (mZ M) 0 else _) = (15 : Int)
      rw [if_pos rfl, n6.1 _ (by omega)]
      exact q50
    · show (if L = L then N6 (mZ M) 6 else _) = (op o1 : Int)
      rw [if_pos rfl, n6.1 _ (by omega)]
      exact q56
  unfold X2_step_b22 X2_step_b36 X2_step_b49 X2_step_b54
  rw [z_6, z_14, z_15, z_1, z_0]
  refine ge_lt ⟨by omega, by omega⟩ ⟨by omega, by omega⟩ (fun x => absurd x (by omega)) (fun _ => ?_)
  refine ge_le ⟨by omega, by omega⟩ ⟨by omega, by omega⟩ (fun x => absurd x (by omega)) (fun _ => ?_)
  refine ge_eq ⟨by omega, by omega⟩ ⟨by omega, by omega⟩ (fun _ => ?_) (fun x => absurd rfl x)
  refine ge_p (w_getI (M := sB M 1 8) hr (w_jp ?_))
  rw [f12]
  refine ge_le ⟨by omega, by omega⟩ ⟨by omega, by omega⟩ (fun x => absurd x (by omega)) (fun _ => ?_)
  refine gk_need1 (M := sB M 1 8) hS.cl ?_
  refine ge_eq ⟨by omega, by omega⟩ ⟨by omega, by omega⟩ (fun _ => ?_) (fun x => absurd rfl x)
  unfold X2_step_b79
  rw [z_0]
  exact ge_eq ⟨by omega, by omega⟩ ⟨by omega, by omega⟩ (fun _ => hnew) (fun x => absurd rfl x)
end RSC5
