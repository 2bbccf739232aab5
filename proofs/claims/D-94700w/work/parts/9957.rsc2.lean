/-! TEXTS: the component reads what stands in a step. -/
set_option maxRecDepth 100000
section RSC2
variable {α β τ : Type} {M M' : Mem} {N N' N0 N1 : NM} {c k e b d n i j q : Nat} {z lo hi kd p s : Int} {t : Tx} {tk u : Tk} {Q : τ → Mem → NM → Prop} {E : Nat → Mem → NM → Prop} {res : Except Er β} {r a f0 : Nat → Int}
theorem ArgOf_0 (h : a 0 = 0) (g : f0 1 = a 1 ∧ f0 2 = a 2 ∧ 0 ≤ a 1 ∧ a 1 ≤ 4 ∧ 0 ≤ a 2 ∧ a 2 ≤ 4) : ArgOf f0 a := ⟨fun _ => g, fun x => absurd x (by omega), fun x => absurd x (by omega), fun x => absurd x (by omega), fun x => absurd x (by omega), fun x => absurd x (by omega)⟩
theorem ArgOf_1 (h : a 0 = 1) (g : f0 1 = a 1 ∧ f0 3 = a 2 ∧ 0 ≤ a 1 ∧ a 1 ≤ 4 ∧ 1 ≤ a 2 ∧ a 2 ≤ 6) : ArgOf f0 a := ⟨fun x => absurd x (by omega), fun _ => g, fun x => absurd x (by omega), fun x => absurd x (by omega), fun x => absurd x (by omega), fun x => absurd x (by omega)⟩
theorem ArgOf_2 (h : a 0 = 2) (g : f0 1 = a 1 ∧ f0 2 = a 2 ∧ f0 3 = a 3 ∧ 0 ≤ a 1 ∧ a 1 ≤ 4 ∧ 0 ≤ a 2 ∧ a 2 ≤ 4 ∧ 0 ≤ a 3 ∧ a 3 ≤ 6) : ArgOf f0 a := ⟨fun x => absurd x (by omega), fun x => absurd x (by omega), fun _ => g, fun x => absurd x (by omega), fun x => absurd x (by omega), fun x => absurd x (by omega)⟩
theorem ArgOf_3 (h : a 0 = 3 ∨ a 0 = 4 ∨ a 0 = 5) (g : f0 1 = a 1 ∧ 0 ≤ a 1 ∧ a 1 ≤ 3) : ArgOf f0 a := ⟨fun x => absurd x (by omega), fun x => absurd x (by omega), fun x => absurd x (by omega), fun _ => g, fun x => absurd x (by omega), fun x => absurd x (by omega)⟩
theorem ArgOf_6 (h : a 0 = 6) (g : TstF f0 a) (hR : ArgR a) : ArgOf f0 a := by
  obtain ⟨r1, r2, r3, r4, r5⟩ := hR.2.2.2.2.1 h
  obtain ⟨g1, g2, g3, g4⟩ := g
  exact ⟨fun x => absurd x (by omega), fun x => absurd x (by omega), fun x => absurd x (by omega), fun x => absurd x (by omega), fun _ => ⟨r1, r2, g1, fun x => ⟨g2 x, r3 x⟩, fun x => ⟨g3 x, r4 x⟩, fun x => ⟨(g4 x).1, (g4 x).2, r5 x⟩⟩, fun x => absurd x (by omega)⟩
theorem ArgOf_7 (h : a 0 = 7) (g : f0 3 = a 1 ∧ 1 ≤ a 1 ∧ a 1 ≤ 99) : ArgOf f0 a := ⟨fun x => absurd x (by omega), fun x => absurd x (by omega), fun x => absurd x (by omega), fun x => absurd x (by omega), fun x => absurd x (by omega), fun _ => g⟩
theorem ArgOf_8 (h : a 0 = 8) : ArgOf f0 a := ⟨fun x => absurd x (by omega), fun x => absurd x (by omega), fun x => absurd x (by omega), fun x => absurd x (by omega), fun x => absurd x (by omega), fun x => absurd x (by omega)⟩
theorem ge_swz {ks : List (JM Mem α)} {d : JM Mem α} {Q : α → Mem → NM → Prop} {lo : Int} {k : Nat} (hz : zR z) (e : z = lo + k) (h : GE M N (ks[k]?.getD d) Q E) : GE M N (jsw (zI z) lo ks d) Q E := by
  unfold jsw
  rw [zI_to hz, if_neg (by omega), show (z - lo).toNat = k by omega]
  cases e2 : ks[k]? with
  | none => rw [e2] at h; exact h
  | some g => rw [e2] at h; exact h
theorem w_new8 {dd : Kd} {f : Nat → JM Mem τ} (hr : 1 ≤ mC M ∧ n ≤ mS M) (h : GN (jnewM M dd n) (upZ N (mZ M)) (f (mZ M)) Q) : GN M N (jb (jnew dd n) f) Q := by
  refine go_jb ⟨mZ M, sN (jnewM M dd n) (upZ N (mZ M)), ?_, h⟩
  unfold jnew
  rw [if_pos (show 1 ≤ mC (sN M N) ∧ n ≤ mS (sN M N) from hr)]
  have e : jnewM (sN M N) dd n = sN (jnewM M dd n) (upZ N (mZ M)) := by
    have eI : upA (mI (sN M N)) (mZ M) (fun _ => 0) = fun a k => zI (upZ N (mZ M) a k) := by
      funext a k
      show (if a = mZ M then (0 : Int32) else zI (N a k)) = zI (if a = mZ M then 0 else N a k)
      by_cases q : a = mZ M
      · rw [if_pos q, if_pos q]; rfl
      · rw [if_neg q, if_neg q]
    show (_, upA (mI (sN M N)) (mZ M) (fun _ => 0), _, _, _, _, _, _) = _
    rw [eI]
    rfl
  rw [e]
  rfl
/-- what is old when something is made -/
theorem CL.new {dd : Kd} (h : CL M c) (hz : c + 1567 ≤ mZ M) : CL (jnewM M dd n) c := h.ag (fun b x y => ⟨if_neg (show ¬ b = mZ M by omega), funext fun j => (show (if b = mZ M then none else mR M b j) = mR M b j from if_neg (by omega))⟩) rfl
theorem g_rest {s0 : Int32} {g : Tk × (Nat → Int) → Except Er β} (hC : CL M c) (hT : TwoT M) (hK : mK M q = some (.inl 8)) (hq : c + 4 < q) (hj : j < 9) (hx : CRd N c t u) (hF : FrS c q N0 N) (hE : ThS c q N0 M res E) (h0 : N q 0 = j + 6) (hr0 : r 0 = j) {B9 : JM Mem Unit} {Q : Unit → Mem → NM → Prop}
    (hres : pbd (pRest t j u r) g = res) (k1 : ∀ N' x, FrS c q N0 N' → CRd N' c t x.1 → N' q 0 = j + 6 → ArgOf (N' q) x.2 → g x = res → GE M N' (X2_step_b343 (c + 2) (zI ((j : Int) + 6)) s0 q) Q E) :
    GE M N (jsw (zI ((j : Int) + 6)) 6 [
      (jb (jcall 1 (c + 2) (jkeep (f_X1_passed (c + 2) (zI 0) (zI 4)))) fun v11 => jb (jputI 8 1 q v11) fun _ => jb (jcall 1 (c + 2) (jkeep (f_X1_passed (c + 2) (zI 0) (zI 4)))) fun v12 => jb (jputI 8 2 q v12) fun _ => X2_step_b343 (c + 2) (zI ((j : Int) + 6)) s0 q),
      (jb (jcall 1 (c + 2) (jkeep (f_X1_passed (c + 2) (zI 0) (zI 4)))) fun v13 => jb (jputI 8 1 q v13) fun _ => jb (jcall 1 (c + 2) (jkeep (f_X2_word (c + 2) (zI (16 : Nat))))) fun _ => jb (jcall 1 (c + 2) (jkeep (f_X1_passed (c + 2) (zI 1) (zI 6)))) fun v14 => jb (jputI 8 3 q v14) fun _ => X2_step_b343 (c + 2) (zI ((j : Int) + 6)) s0 q),
      (jb (jcall 1 (c + 2) (jkeep (f_X1_passed (c + 2) (zI 0) (zI 6)))) fun v15 => jb (jputI 8 3 q v15) fun _ => jb (jcall 1 (c + 2) (jkeep (f_X2_word (c + 2) (zI (5 : Nat))))) fun _ => jb (jcall 1 (c + 2) (jkeep (f_X1_passed (c + 2) (zI 0) (zI 4)))) fun v16 => jb (jputI 8 1 q v16) fun _ => jb (jcall 1 (c + 2) (jkeep (f_X2_word (c + 2) (zI (17 : Nat))))) fun _ => jb (jcall 1 (c + 2) (jkeep (f_X1_passed (c + 2) (zI 0) (zI 4)))) fun v17 => jb (jputI 8 2 q v17) fun _ => X2_step_b343 (c + 2) (zI ((j : Int) + 6)) s0 q),
      (jb (jcall 1 (c + 2) (jkeep (f_X1_passed (c + 2) (zI 0) (zI 3)))) fun v18 => jb (jputI 8 1 q v18) fun _ => X2_step_b343 (c + 2) (zI ((j : Int) + 6)) s0 q),
      (jb (jcall 1 (c + 2) (jkeep (f_X1_passed (c + 2) (zI 0) (zI 3)))) fun v19 => jb (jputI 8 1 q v19) fun _ => X2_step_b343 (c + 2) (zI ((j : Int) + 6)) s0 q),
      (jb (jcall 1 (c + 2) (jkeep (f_X1_passed (c + 2) (zI 0) (zI 3)))) fun v20 => jb (jputI 8 1 q v20) fun _ => X2_step_b343 (c + 2) (zI ((j : Int) + 6)) s0 q),
      (jb (jcall 1 (c + 2) (jkeep (f_X2_test (c + 2) q))) fun _ => X2_step_b343 (c + 2) (zI ((j : Int) + 6)) s0 q),
      (jb (jcall 1 (c + 2) (jkeep (f_X1_passed (c + 2) (zI 1) (zI 99)))) fun v21 => jb (jputI 8 3 q v21) fun _ => X2_step_b343 (c + 2) (zI ((j : Int) + 6)) s0 q),
      X2_step_b343 (c + 2) (zI ((j : Int) + 6)) s0 q, B9] (X2_step_b343 (c + 2) (zI ((j : Int) + 6)) s0 q)) Q E := by
  refine ge_swz (k := j) ⟨by omega, by omega⟩ (by omega) ?_
  have hcc : q ≠ c + 2 := by omega
  unfold pRest at hres
  rcases (show j = 0 ∨ j = 1 ∨ j = 2 ∨ j = 3 ∨ j = 4 ∨ j = 5 ∨ j = 6 ∨ j = 7 ∨ j = 8 by omega) with rfl | rfl | rfl | rfl | rfl | rfl | rfl | rfl | rfl
  · rw [if_pos rfl] at hres
    show GE M N (jb (jcall 1 (c + 2) (jkeep (f_X1_passed (c + 2) (zI 0) (zI 4)))) _) Q E
    have hres2 : pbd (pPas t 0 4 u) (fun x => pbd (pbd (pPas t 0 4 x.2) fun y => .ok (y.2, upR (upR r 1 x.1) 2 y.1)) g) = res := by rw [← hres]; cases pPas t 0 4 u <;> rfl
    refine gk_passed hC hT hx ⟨by omega, by omega⟩ ⟨by omega, by omega⟩ hres2 (fun N2 n2 hx2 l1 l2 hres3 => ?_) (hE.th hF)
    refine ge_p (w_putI hK (w_jp ?_))
    have hF2 : FrS c q N0 (up2 N2 q 1 u.2.2.2) := (hF.tr n2.s).tr (FrS.qq hcc)
    have hres4 : pbd (pPas t 0 4 (nx t u)) (fun y => g (y.2, upR (upR r 1 u.2.2.2) 2 y.1)) = res := by
      rw [← hres3]
      show _ = pbd (pbd (pPas t 0 4 (nx t u)) _) g
      cases pPas t 0 4 (nx t u) <;> rfl
    refine gk_passed hC hT (hx2.qq hq) ⟨by omega, by omega⟩ ⟨by omega, by omega⟩ hres4 (fun N3 n3 hx3 l3 l4 hres5 => ?_) (hE.th hF2)
    refine ge_p (w_putI hK (w_jp ?_))
    have g0 : up2 N3 q 2 (nx t u).2.2.2 q 0 = N q 0 := by rw [upk (by omega), n3.1 q hcc, upk (by omega), n2.1 q hcc]
    have g1 : up2 N3 q 2 (nx t u).2.2.2 q 1 = u.2.2.2 := by rw [upk (by omega), n3.1 q hcc, upv]
    have a0 : upR (upR r 1 u.2.2.2) 2 (nx t u).2.2.2 0 = r 0 := by rw [upR_n (by omega), upR_n (by omega)]
    have a1 : upR (upR r 1 u.2.2.2) 2 (nx t u).2.2.2 1 = u.2.2.2 := by rw [upR_n (by omega), upR_v]
    have a2 : upR (upR r 1 u.2.2.2) 2 (nx t u).2.2.2 2 = (nx t u).2.2.2 := upR_v
    refine k1 _ (nx t (nx t u), upR (upR r 1 u.2.2.2) 2 (nx t u).2.2.2) ((hF2.tr n3.s).tr (FrS.qq hcc)) (hx3.qq hq) (g0.trans h0) (ArgOf_0 (a0.trans hr0) ⟨g1.trans a1.symm, upv.trans a2.symm, ?_⟩) hres5
    show 0 ≤ upR (upR r 1 u.2.2.2) 2 (nx t u).2.2.2 1 ∧ upR (upR r 1 u.2.2.2) 2 (nx t u).2.2.2 1 ≤ 4 ∧ 0 ≤ upR (upR r 1 u.2.2.2) 2 (nx t u).2.2.2 2 ∧ upR (upR r 1 u.2.2.2) 2 (nx t u).2.2.2 2 ≤ 4
    omega
  · rw [if_neg (by omega), if_pos rfl] at hres
    show GE M N (jb (jcall 1 (c + 2) (jkeep (f_X1_passed (c + 2) (zI 0) (zI 4)))) _) Q E
    have hres2 : pbd (pPas t 0 4 u) (fun x => pbd (pbd (pWord t 16 x.2) fun w => pbd (pPas t 1 6 w) fun y => .ok (y.2, upR (upR r 1 x.1) 2 y.1)) g) = res := by rw [← hres]; cases pPas t 0 4 u <;> rfl
    refine gk_passed hC hT hx ⟨by omega, by omega⟩ ⟨by omega, by omega⟩ hres2 (fun N2 n2 hx2 l1 l2 hres3 => ?_) (hE.th hF)
    refine ge_p (w_putI hK (w_jp ?_))
    have hF2 : FrS c q N0 (up2 N2 q 1 u.2.2.2) := (hF.tr n2.s).tr (FrS.qq hcc)
    have hres4 : pbd (pWord t 16 (nx t u)) (fun w => pbd (pbd (pPas t 1 6 w) fun y => .ok (y.2, upR (upR r 1 u.2.2.2) 2 y.1)) g) = res := by
      rw [← hres3]
      show _ = pbd (pbd (pWord t 16 (nx t u)) _) g
      cases pWord t 16 (nx t u) <;> rfl
    refine gk_word hC hT (hx2.qq hq) (by omega) hres4 (fun N3 n3 hx3 _ hres5 => ?_) (hE.th hF2)
    have hF3 := hF2.tr n3.s
    have hres6 : pbd (pPas t 1 6 (nx t (nx t u))) (fun y => g (y.2, upR (upR r 1 u.2.2.2) 2 y.1)) = res := by rw [← hres5]; cases pPas t 1 6 (nx t (nx t u)) <;> rfl
    refine gk_passed hC hT hx3 ⟨by omega, by omega⟩ ⟨by omega, by omega⟩ hres6 (fun N4 n4 hx4 l3 l4 hres7 => ?_) (hE.th hF3)
    generalize nx t (nx t u) = w at *
    refine ge_p (w_putI hK (w_jp ?_))
    have g0 : up2 N4 q 3 w.2.2.2 q 0 = N q 0 := by rw [upk (by omega), n4.1 q hcc, n3.1 q hcc, upk (by omega), n2.1 q hcc]
    have g1 : up2 N4 q 3 w.2.2.2 q 1 = u.2.2.2 := by rw [upk (by omega), n4.1 q hcc, n3.1 q hcc, upv]
    have a0 : upR (upR r 1 u.2.2.2) 2 w.2.2.2 0 = r 0 := by rw [upR_n (by omega), upR_n (by omega)]
    have a1 : upR (upR r 1 u.2.2.2) 2 w.2.2.2 1 = u.2.2.2 := by rw [upR_n (by omega), upR_v]
    have a2 : upR (upR r 1 u.2.2.2) 2 w.2.2.2 2 = w.2.2.2 := upR_v
    refine k1 _ (nx t w, upR (upR r 1 u.2.2.2) 2 w.2.2.2) ((hF3.tr n4.s).tr (FrS.qq hcc)) (hx4.qq hq) (g0.trans h0) (ArgOf_1 (a0.trans hr0) ⟨g1.trans a1.symm, upv.trans a2.symm, ?_⟩) hres7
    show 0 ≤ upR (upR r 1 u.2.2.2) 2 w.2.2.2 1 ∧ upR (upR r 1 u.2.2.2) 2 w.2.2.2 1 ≤ 4 ∧ 1 ≤ upR (upR r 1 u.2.2.2) 2 w.2.2.2 2 ∧ upR (upR r 1 u.2.2.2) 2 w.2.2.2 2 ≤ 6
    omega
  · rw [if_neg (by omega), if_neg (by omega), if_pos rfl] at hres
    show GE M N (jb (jcall 1 (c + 2) (jkeep (f_X1_passed (c + 2) (zI 0) (zI 6)))) _) Q E
    have hres2 : pbd (pPas t 0 6 u) (fun x => pbd (pbd (pWord t 5 x.2) fun w => pbd (pPas t 0 4 w) fun y => pbd (pWord t 17 y.2) fun w2 => pbd (pPas t 0 4 w2) fun z => .ok (z.2, upR (upR (upR r 3 x.1) 1 y.1) 2 z.1)) g) = res := by rw [← hres]; cases pPas t 0 6 u <;> rfl
    refine gk_passed hC hT hx ⟨by omega, by omega⟩ ⟨by omega, by omega⟩ hres2 (fun N2 n2 hx2 l1 l2 hres3 => ?_) (hE.th hF)
    refine ge_p (w_putI hK (w_jp ?_))
    have hF2 : FrS c q N0 (up2 N2 q 3 u.2.2.2) := (hF.tr n2.s).tr (FrS.qq hcc)
    have hres4 : pbd (pWord t 5 (nx t u)) (fun w => pbd (pbd (pPas t 0 4 w) fun y => pbd (pWord t 17 y.2) fun w2 => pbd (pPas t 0 4 w2) fun z => .ok (z.2, upR (upR (upR r 3 u.2.2.2) 1 y.1) 2 z.1)) g) = res := by
      rw [← hres3]
      show _ = pbd (pbd (pWord t 5 (nx t u)) _) g
      cases pWord t 5 (nx t u) <;> rfl
    refine gk_word hC hT (hx2.qq hq) (by omega) hres4 (fun N3 n3 hx3 _ hres5 => ?_) (hE.th hF2)
    have hF3 := hF2.tr n3.s
    generalize nx t (nx t u) = w at *
    have hres6 : pbd (pPas t 0 4 w) (fun y => pbd (pbd (pWord t 17 y.2) fun w2 => pbd (pPas t 0 4 w2) fun z => .ok (z.2, upR (upR (upR r 3 u.2.2.2) 1 y.1) 2 z.1)) g) = res := by rw [← hres5]; cases pPas t 0 4 w <;> rfl
    refine gk_passed hC hT hx3 ⟨by omega, by omega⟩ ⟨by omega, by omega⟩ hres6 (fun N4 n4 hx4 l3 l4 hres7 => ?_) (hE.th hF3)
    refine ge_p (w_putI hK (w_jp ?_))
    have hF4 : FrS c q N0 (up2 N4 q 1 w.2.2.2) := (hF3.tr n4.s).tr (FrS.qq hcc)
    have hres8 : pbd (pWord t 17 (nx t w)) (fun w2 => pbd (pbd (pPas t 0 4 w2) fun z => .ok (z.2, upR (upR (upR r 3 u.2.2.2) 1 w.2.2.2) 2 z.1)) g) = res := by
      rw [← hres7]
      show _ = pbd (pbd (pWord t 17 (nx t w)) _) g
      cases pWord t 17 (nx t w) <;> rfl
    refine gk_word hC hT (hx4.qq hq) (by omega) hres8 (fun N5 n5 hx5 _ hres9 => ?_) (hE.th hF4)
    have hF5 := hF4.tr n5.s
    generalize nx t (nx t w) = w2 at *
    have hres10 : pbd (pPas t 0 4 w2) (fun z => g (z.2, upR (upR (upR r 3 u.2.2.2) 1 w.2.2.2) 2 z.1)) = res := by rw [← hres9]; cases pPas t 0 4 w2 <;> rfl
    refine gk_passed hC hT hx5 ⟨by omega, by omega⟩ ⟨by omega, by omega⟩ hres10 (fun N6 n6 hx6 l5 l6 hres11 => ?_) (hE.th hF5)
    refine ge_p (w_putI hK (w_jp ?_))
    have g0 : up2 N6 q 2 w2.2.2.2 q 0 = N q 0 := by rw [upk (by omega), n6.1 q hcc, n5.1 q hcc, upk (by omega), n4.1 q hcc, n3.1 q hcc, upk (by omega), n2.1 q hcc]
    have g1 : up2 N6 q 2 w2.2.2.2 q 1 = w.2.2.2 := by rw [upk (by omega), n6.1 q hcc, n5.1 q hcc, upv]
    have g3 : up2 N6 q 2 w2.2.2.2 q 3 = u.2.2.2 := by rw [upk (by omega), n6.1 q hcc, n5.1 q hcc, upk (by omega), n4.1 q hcc, n3.1 q hcc, upv]
    have a0 : upR (upR (upR r 3 u.2.2.2) 1 w.2.2.2) 2 w2.2.2.2 0 = r 0 := by rw [upR_n (by omega), upR_n (by omega), upR_n (by omega)]
    have a1 : upR (upR (upR r 3 u.2.2.2) 1 w.2.2.2) 2 w2.2.2.2 1 = w.2.2.2 := by rw [upR_n (by omega), upR_v]
    have a2 : upR (upR (upR r 3 u.2.2.2) 1 w.2.2.2) 2 w2.2.2.2 2 = w2.2.2.2 := upR_v
    have a3 : upR (upR (upR r 3 u.2.2.2) 1 w.2.2.2) 2 w2.2.2.2 3 = u.2.2.2 := by rw [upR_n (by omega), upR_n (by omega), upR_v]
    refine k1 _ (nx t w2, upR (upR (upR r 3 u.2.2.2) 1 w.2.2.2) 2 w2.2.2.2) ((hF5.tr n6.s).tr (FrS.qq hcc)) (hx6.qq hq) (g0.trans h0) (ArgOf_2 (a0.trans hr0) ⟨g1.trans a1.symm, upv.trans a2.symm, g3.trans a3.symm, ?_⟩) hres11
    show 0 ≤ upR (upR (upR r 3 u.2.2.2) 1 w.2.2.2) 2 w2.2.2.2 1 ∧ upR (upR (upR r 3 u.2.2.2) 1 w.2.2.2) 2 w2.2.2.2 1 ≤ 4 ∧ 0 ≤ upR (upR (upR r 3 u.2.2.2) 1 w.2.2.2) 2 w2.2.2.2 2 ∧ upR (upR (upR r 3 u.2.2.2) 1 w.2.2.2) 2 w2.2.2.2 2 ≤ 4 ∧ 0 ≤ upR (upR (upR r 3 u.2.2.2) 1 w.2.2.2) 2 w2.2.2.2 3 ∧ upR (upR (upR r 3 u.2.2.2) 1 w.2.2.2) 2 w2.2.2.2 3 ≤ 6
    omega
  · rw [if_neg (by omega), if_neg (by omega), if_neg (by omega), if_pos (by omega)] at hres
    show GE M N (jb (jcall 1 (c + 2) (jkeep (f_X1_passed (c + 2) (zI 0) (zI 3)))) _) Q E
    have hres2 : pbd (pPas t 0 3 u) (fun x => g (x.2, upR r 1 x.1)) = res := by rw [← hres]; cases pPas t 0 3 u <;> rfl
    refine gk_passed hC hT hx ⟨by omega, by omega⟩ ⟨by omega, by omega⟩ hres2 (fun N2 n2 hx2 l1 l2 hres3 => ?_) (hE.th hF)
    refine ge_p (w_putI hK (w_jp ?_))
    have g0 : up2 N2 q 1 u.2.2.2 q 0 = N q 0 := by rw [upk (by omega), n2.1 q hcc]
    have a0 : upR r 1 u.2.2.2 0 = r 0 := by rw [upR_n (by omega)]
    have a1 : upR r 1 u.2.2.2 1 = u.2.2.2 := upR_v
    refine k1 _ (nx t u, upR r 1 u.2.2.2) ((hF.tr n2.s).tr (FrS.qq hcc)) (hx2.qq hq) (g0.trans h0) (ArgOf_3 (by show upR r 1 u.2.2.2 0 = 3 ∨ upR r 1 u.2.2.2 0 = 4 ∨ upR r 1 u.2.2.2 0 = 5; rw [a0, hr0]; omega) ⟨upv.trans a1.symm, ?_⟩) hres3
    show 0 ≤ upR r 1 u.2.2.2 1 ∧ upR r 1 u.2.2.2 1 ≤ 3
    omega
  · rw [if_neg (by omega), if_neg (by omega), if_neg (by omega), if_pos (by omega)] at hres
    show GE M N (jb (jcall 1 (c + 2) (jkeep (f_X1_passed (c + 2) (zI 0) (zI 3)))) _) Q E
    have hres2 : pbd (pPas t 0 3 u) (fun x => g (x.2, upR r 1 x.1)) = res := by rw [← hres]; cases pPas t 0 3 u <;> rfl
    refine gk_passed hC hT hx ⟨by omega, by omega⟩ ⟨by omega, by omega⟩ hres2 (fun N2 n2 hx2 l1 l2 hres3 => ?_) (hE.th hF)
    refine ge_p (w_putI hK (w_jp ?_))
    have g0 : up2 N2 q 1 u.2.2.2 q 0 = N q 0 := by rw [upk (by omega), n2.1 q hcc]
    have a0 : upR r 1 u.2.2.2 0 = r 0 := by rw [upR_n (by omega)]
    have a1 : upR r 1 u.2.2.2 1 = u.2.2.2 := upR_v
    refine k1 _ (nx t u, upR r 1 u.2.2.2) ((hF.tr n2.s).tr (FrS.qq hcc)) (hx2.qq hq) (g0.trans h0) (ArgOf_3 (by show upR r 1 u.2.2.2 0 = 3 ∨ upR r 1 u.2.2.2 0 = 4 ∨ upR r 1 u.2.2.2 0 = 5; rw [a0, hr0]; omega) ⟨upv.trans a1.symm, ?_⟩) hres3
    show 0 ≤ upR r 1 u.2.2.2 1 ∧ upR r 1 u.2.2.2 1 ≤ 3
    omega
  · rw [if_neg (by omega), if_neg (by omega), if_neg (by omega), if_pos (by omega)] at hres
    show GE M N (jb (jcall 1 (c + 2) (jkeep (f_X1_passed (c + 2) (zI 0) (zI 3)))) _) Q E
    have hres2 : pbd (pPas t 0 3 u) (fun x => g (x.2, upR r 1 x.1)) = res := by rw [← hres]; cases pPas t 0 3 u <;> rfl
    refine gk_passed hC hT hx ⟨by omega, by omega⟩ ⟨by omega, by omega⟩ hres2 (fun N2 n2 hx2 l1 l2 hres3 => ?_) (hE.th hF)
    refine ge_p (w_putI hK (w_jp ?_))
    have g0 : up2 N2 q 1 u.2.2.2 q 0 = N q 0 := by rw [upk (by omega), n2.1 q hcc]
    have a0 : upR r 1 u.2.2.2 0 = r 0 := by rw [upR_n (by omega)]
    have a1 : upR r 1 u.2.2.2 1 = u.2.2.2 := upR_v
    refine k1 _ (nx t u, upR r 1 u.2.2.2) ((hF.tr n2.s).tr (FrS.qq hcc)) (hx2.qq hq) (g0.trans h0) (ArgOf_3 (by show upR r 1 u.2.2.2 0 = 3 ∨ upR r 1 u.2.2.2 0 = 4 ∨ upR r 1 u.2.2.2 0 = 5; rw [a0, hr0]; omega) ⟨upv.trans a1.symm, ?_⟩) hres3
    show 0 ≤ upR r 1 u.2.2.2 1 ∧ upR r 1 u.2.2.2 1 ≤ 3
    omega
  · rw [if_neg (by omega), if_neg (by omega), if_neg (by omega), if_neg (by omega), if_pos rfl] at hres
    show GE M N (jb (jcall 1 (c + 2) (jkeep (f_X2_test (c + 2) q))) _) Q E
    refine ge_kp (g_test (r := r) (g := fun x => .ok x) (res := pTest t u r) hC hT hx hK hq hF (fun N1 N' er a b d => ⟨rfl, hE N1 N' er a (by rw [← hres, b]; rfl) d⟩) (by cases pTest t u r <;> rfl) (fun N2 x a1 a2 a3 a4 a5 => ge_jp ⟨rfl, ?_⟩))
    rw [← a5] at hres
    obtain ⟨f1, f2, f3, f4⟩ := pRest_f (t := t) (j := 6) (r := r) (x := x) hx.2.1 (by omega) hr0 (by
      unfold pRest
      rw [if_neg (by omega), if_neg (by omega), if_neg (by omega), if_neg (by omega), if_pos rfl]
      exact a5.symm)
    exact k1 N2 x a1 a2 ((a4 0 (Or.inl rfl)).trans h0) (ArgOf_6 f3 a3 f4) hres
  · rw [if_neg (by omega), if_neg (by omega), if_neg (by omega), if_neg (by omega), if_neg (by omega), if_pos rfl] at hres
    show GE M N (jb (jcall 1 (c + 2) (jkeep (f_X1_passed (c + 2) (zI 1) (zI 99)))) _) Q E
    have hres2 : pbd (pPas t 1 99 u) (fun x => g (x.2, upR r 1 x.1)) = res := by rw [← hres]; cases pPas t 1 99 u <;> rfl
    refine gk_passed hC hT hx ⟨by omega, by omega⟩ ⟨by omega, by omega⟩ hres2 (fun N2 n2 hx2 l1 l2 hres3 => ?_) (hE.th hF)
    refine ge_p (w_putI hK (w_jp ?_))
    have g0 : up2 N2 q 3 u.2.2.2 q 0 = N q 0 := by rw [upk (by omega), n2.1 q hcc]
    have a0 : upR r 1 u.2.2.2 0 = r 0 := by rw [upR_n (by omega)]
    have a1 : upR r 1 u.2.2.2 1 = u.2.2.2 := upR_v
    refine k1 _ (nx t u, upR r 1 u.2.2.2) ((hF.tr n2.s).tr (FrS.qq hcc)) (hx2.qq hq) (g0.trans h0) (ArgOf_7 (a0.trans hr0) ⟨upv.trans a1.symm, ?_⟩) hres3
    show 1 ≤ upR r 1 u.2.2.2 1 ∧ upR r 1 u.2.2.2 1 ≤ 99
    omega
  · rw [if_neg (by omega), if_neg (by omega), if_neg (by omega), if_neg (by omega), if_neg (by omega), if_neg (by omega)] at hres
    exact k1 N (u, r) hF hx h0 (ArgOf_8 hr0) hres
end RSC2
