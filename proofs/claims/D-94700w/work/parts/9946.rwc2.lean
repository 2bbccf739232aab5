/-! TEXTS: the component reads a world; the op. -/
set_option maxRecDepth 100000
section RWC2
variable {α β τ : Type} {M M' : Mem} {N N' N0 : NM} {c k e e0 b d n i j : Nat} {z lo hi kd p : Int} {t : Tx} {tk : Tk} {Q : τ → Mem → NM → Prop} {E : Nat → Mem → NM → Prop} {res : Except Er β} {S S' : St}
theorem ge_ret {f : JM Mem α} {Q : α → Mem → NM → Prop} (h : GE M N f (fun v M1 N1 => GE M1 N1 (jp v) Q E) E) : GE M N f Q E := by
  rcases h with ⟨v, M', e, B, N', rfl, h2⟩ | h
  · rcases h2 with ⟨v2, M2, e2, B', N'', e3, q⟩ | ⟨q, M2, e2, _⟩
    · have e2 : some (Except.ok v, sN B N') = some (Except.ok v2, M2) := e2
      cases e2
      exact Or.inl ⟨v, _, e, B', N'', e3, q⟩
    · cases e2
  · exact Or.inr h
theorem Pr_I (h : PrI p) : Pr p := h
theorem g_brs {fK : Unit → JM Mem τ} {g : Tbl → Except Er β} (hC : CL M c) (hT : TwoT M) (hE : ThE c N0 M res E) :
    ∀ f (u : Tk) (S : Tbl) (D : Nat → Nat → Bool) (x3 : Int32) (N : NM), t.1 < f + u.1 → FrW c N0 N → CRd N c t u → WD N (c + 38) p n (altT p n S) → (∀ i j, i < 5 → j < 5 → btI x3 (5 * i + j) = D i j) → pbd (pBrs t p n f u S D) g = res →
      (∀ N' S', FrW c N0 N' → WD N' (c + 38) p n (altT p n S') → g S' = res → GE M N' (fK ()) Q E) →
      GE M N (jloop (fun t => X2_world_L76 (c + 2) (c + 38) t) x3) (fun v M1 N1 => GE M1 N1 (fK v) Q E) E := by
  have hr := hC.rd.1
  have hW := hC.w38
  intro f
  induction f with
  | zero =>
    intro u S D x3 N hf _ hx
    have := hx.2.1.1
    omega
  | succ f ih =>
    intro u S D x3 N hf hF hx hD hm hres k1
    have hn5 := hD.n5
    have hn1 := hD.n1
    have hs := hx.2.1.2.2.1
    have e1 : pBrs t p n (f + 1) u S D = if u.2.2.1 = 0 then .ok S else pbd (pWord t 2 u) fun u1 => pbd (pPas t 0 ((n : Int) - 1) u1) fun x => pbd (pNum (x.1 + 1) ((n : Int) - 1) x.2) fun j =>
      if D x.1.toNat j.toNat = true then .error (flt x.2 5) else pbd (pWord t 3 (nx t x.2)) fun u3 => pbd (pTerms t p n x.1.toNat j.toNat (t.1 + 1) u3 S (fun _ => false)) fun y => pbd (pSgn t y.1) fun u4 => pBrs t p n f u4 y.2 (setD D x.1.toNat j.toNat) := rfl
    rw [e1] at hres
    refine ge_unroll ?_
    unfold X2_world_L76
    refine ge_p (w_getI hr (w_jp ?_))
    rw [hx.2.2.1, z_0]
    refine ge_eq ⟨by omega, by omega⟩ ⟨by omega, by omega⟩ (fun q => ?_) (fun q => ?_)
    · rw [if_pos (by omega)] at hres
      exact ge_inl (ge_jp (k1 N S hF hD hres))
    rw [if_neg (by omega)] at hres
    rw [show (2 : Int32) = zI ((2 : Nat) : Int) from rfl, show (3 : Int32) = zI ((3 : Nat) : Int) from rfl]
    have hres2 : pbd (pWord t 2 u) (fun u1 => pbd (pbd (pPas t 0 ((n : Int) - 1) u1) fun x => pbd (pNum (x.1 + 1) ((n : Int) - 1) x.2) fun j => if D x.1.toNat j.toNat = true then .error (flt x.2 5) else pbd (pWord t 3 (nx t x.2)) fun u3 => pbd (pTerms t p n x.1.toNat j.toNat (t.1 + 1) u3 S (fun _ => false)) fun y => pbd (pSgn t y.1) fun u4 => pBrs t p n f u4 y.2 (setD D x.1.toNat j.toNat)) g) = res := by
      rw [← hres]
      cases pWord t 2 u <;> rfl
    refine g_word hC hT hx (by omega) hres2 (fun N1 n1 hx1 w1 hres3 => ?_) (hE.th hF)
    have hF1 := hF.tr n1.w
    have hD1 : WD N1 (c + 38) p n (altT p n S) := hD.fr (fun b h1 h2 => n1.1 b (by omega))
    have q1 := kw_lt hx.2.1 w1
    have q2 := (nx_ok hx.2.1).2
    generalize nx t u = u1 at *
    refine ge_p (w_Wp hW (w_jp ?_))
    rw [hD1.ne, z_1, zI_sub]
    have hres4 : pbd (pPas t 0 ((n : Int) - 1) u1) (fun x => pbd (pbd (pNum (x.1 + 1) ((n : Int) - 1) x.2) fun j => if D x.1.toNat j.toNat = true then .error (flt x.2 5) else pbd (pWord t 3 (nx t x.2)) fun u3 => pbd (pTerms t p n x.1.toNat j.toNat (t.1 + 1) u3 S (fun _ => false)) fun y => pbd (pSgn t y.1) fun u4 => pBrs t p n f u4 y.2 (setD D x.1.toNat j.toNat)) g) = res := by
      rw [← hres3]
      cases pPas t 0 ((n : Int) - 1) u1 <;> rfl
    refine g_passed hC hT hx1 ⟨by omega, by omega⟩ ⟨by omega, by omega⟩ hres4 (fun N2 n2 hx2 w3 l1 l2 hres5 => ?_) (hE.th hF1)
    have hF2 := hF1.tr n2.w
    have hD2 : WD N2 (c + 38) p n (altT p n S) := hD1.fr (fun b h1 h2 => n2.1 b (by omega))
    have q3 := hx1.2.1.2.2.2.2.1 (by omega)
    have q4 := (nx_ok hx1.2.1).2
    obtain ⟨i, hi⟩ : ∃ i : Nat, u1.2.2.2 = i := ⟨u1.2.2.2.toNat, by omega⟩
    rw [hi] at hres5 ⊢
    generalize nx t u1 = u2 at *
    refine ge_p (w_Wp hW (w_jp ?_))
    rw [hD2.ne, zI_add, zI_sub]
    have hres6 : pbd (pNum ((i : Int) + 1) ((n : Int) - 1) u2) (fun j => pbd (if D i j.toNat = true then .error (flt u2 5) else pbd (pWord t 3 (nx t u2)) fun u3 => pbd (pTerms t p n i j.toNat (t.1 + 1) u3 S (fun _ => false)) fun y => pbd (pSgn t y.1) fun u4 => pBrs t p n f u4 y.2 (setD D i j.toNat)) g) = res := by
      rw [← hres5]
      show _ = pbd (pbd (pNum ((i : Int) + 1) ((n : Int) - 1) u2) _) g
      cases pNum ((i : Int) + 1) ((n : Int) - 1) u2 <;> rfl
    refine g_number hC hx2 ⟨by omega, by omega⟩ ⟨by omega, by omega⟩ hres6 (fun w4 l3 l4 hres7 => ?_) (hE.th hF2)
    have q5 := hx2.2.1.2.2.2.2.1 (by omega)
    have q6 := (nx_ok hx2.2.1).2
    obtain ⟨j, hj⟩ : ∃ j : Nat, u2.2.2.2 = j := ⟨u2.2.2.2.toNat, by omega⟩
    rw [hj] at hres7 ⊢
    rw [show ((j : Int).toNat) = j from rfl] at hres7
    rw [show (5 : Int32) = zI 5 from rfl, zI_mul, zI_add, show (5 * (i : Int) + j) = ((5 * i + j : Nat) : Int) by omega]
    have hbit := bit_is (x := x3) (k := 5 * i + j) (by omega)
    rw [hm i j (by omega) (by omega), z_1] at hbit
    refine ge_ite (fun q => ?_) (fun q => ?_)
    · rw [if_pos (hbit.mp q), pbd_er] at hres7
      unfold X2_world_b132
      rw [show (5 : Int32) = zI 5 from rfl]
      exact ge_inl (g_fail hC hx2 (fun N' hT' => ge_thr (hE.th hF2 N' _ hres7.symm hT')))
    rw [if_neg (fun x => q (hbit.mpr x))] at hres7
    refine ge_let ?_
    have hm' : ∀ a b, a < 5 → b < 5 → btI (x3 ||| ((1 : Int32) <<< (zI (5 * i + j : Nat) &&& 31))) (5 * a + b) = setD D i j a b := fun a b ha hb => by
      rw [bit_or (by omega) (by omega), hm a b ha hb]
      unfold setD
      by_cases q : a = i ∧ b = j
      · rw [decide_eq_true q, decide_eq_true (show 5 * a + b = 5 * i + j by omega)]
      · rw [decide_eq_false q, decide_eq_false (show ¬ 5 * a + b = 5 * i + j by omega)]
    rw [z_1] at hm'
    generalize x3 ||| (zI 1 <<< (zI (5 * i + j : Nat) &&& 31)) = x3' at hm' ⊢
    refine g_next hC hT hx2 (fun N3 n3 hx3 => ?_)
    have hF3 := hF2.tr n3.w
    have hD3 : WD N3 (c + 38) p n (altT p n S) := hD2.fr (fun b h1 h2 => n3.1 b (by omega))
    have hres8 : pbd (pWord t 3 (nx t u2)) (fun u3 => pbd (pbd (pTerms t p n i j (t.1 + 1) u3 S (fun _ => false)) fun y => pbd (pSgn t y.1) fun u4 => pBrs t p n f u4 y.2 (setD D i j)) g) = res := by
      rw [← hres7]
      cases pWord t 3 (nx t u2) <;> rfl
    refine g_word hC hT hx3 (by omega) hres8 (fun N4 n4 hx4 w5 hres9 => ?_) (hE.th hF3)
    have hF4 := hF3.tr n4.w
    have hD4 : WD N4 (c + 38) p n (altT p n S) := hD3.fr (fun b h1 h2 => n4.1 b (by omega))
    have q7 := (nx_ok hx3.2.1).2
    have q8 := kw_lt hx3.2.1 w5
    generalize nx t (nx t u2) = u3 at *
    have hres10 : pbd (pTerms t p n i j (t.1 + 1) u3 S (fun _ => false)) (fun y => pbd (pbd (pSgn t y.1) fun u4 => pBrs t p n f u4 y.2 (setD D i j)) g) = res := by
      rw [← hres9]
      cases pTerms t p n i j (t.1 + 1) u3 S (fun _ => false) <;> rfl
    refine ge_call hr ?_
    unfold f_X2_terms
    refine g_terms (g := fun y => pbd (pbd (pSgn t y.1) fun u4 => pBrs t p n f u4 y.2 (setD D i j)) g) hC hT (show i < j by omega) (show j < n by omega) hE (t.1 + 1) u3 S (fun _ => false) 0 N4 (by omega) hF4 hx4 hD4 (fun q _ => btI_0 q) hres10 (fun N5 u5 S5 hF5 hx5 q9 hD5 hres11 => ?_)
    have hres12 : pbd (pSgn t u5) (fun u4 => pbd (pBrs t p n f u4 S5 (setD D i j)) g) = res := by
      rw [← hres11]
      show _ = pbd (pbd (pSgn t u5) _) g
      cases pSgn t u5 <;> rfl
    refine g_closes hC hT hx5 hres12 (fun N6 n6 hx6 _ hres13 => ?_) (hE.th hF5)
    have q10 := (nx_ok hx5.2.1).2
    have q11 : u5.1 ≤ u5.2.1 := by
      by_cases q : u5.2.2.1 = 0
      · have := hx5.2.1.2.2.2.1 q; omega
      · have := hx5.2.1.2.2.2.2.1 q; omega
    exact ge_cont (ih (nx t u5) S5 (setD D i j) x3' N6 (by omega) (hF5.tr n6.w) hx6 (hD5.fr (fun b h1 h2 => n6.1 b (by omega))) hm' hres13 k1)
theorem c_isPrime {f : Int32 → JM Mem τ} (hz : zR z) (h : GN M N (f (zI (if PrI z then 1 else 0))) Q) : GN M N (jb (f_X0_isPrime (zI z)) f) Q := by
  refine w_jb ?_
  unfold f_X0_isPrime X0_isPrime_b21
  rw [z_2, z_3, z_5, z_7, z_0, z_1]
  refine w_eq hz ⟨by omega, by omega⟩ (fun q => ?_) (fun q => ?_)
  · rw [if_pos (by omega)] at h; exact w_jp h
  refine w_eq hz ⟨by omega, by omega⟩ (fun q => ?_) (fun q => ?_)
  · rw [if_pos (by omega)] at h; exact w_jp h
  refine w_eq hz ⟨by omega, by omega⟩ (fun q => ?_) (fun q => ?_)
  · rw [if_pos (by omega)] at h; exact w_jp h
  refine w_eq hz ⟨by omega, by omega⟩ (fun q => ?_) (fun q => ?_)
  · rw [if_pos (by omega)] at h; exact w_jp h
  · rw [if_neg (by omega)] at h; exact w_jp h
/-- the text of a tape, so long -/
def tpX (x : Nat × (Nat → Int)) (n : Nat) : Tx := (n, fun i => x.2 i % 256)
theorem g_world (hC : CL M c) (hT : TwoT M) (h6 : n ≤ 600) (ht1 : t.1 = n) (htp : ∀ i, i < n → -128 ≤ N0 (c + 4) i ∧ N0 (c + 4) i ≤ 127 ∧ t.2 i = N0 (c + 4) i % 256) {Q : Unit → Mem → NM → Prop}
    (hQ : ∀ N' x, pWorld t = .ok x → (∀ b, b ≠ c + 2 → b ≠ c + 3 → b < c + 38 ∨ c + 70 ≤ b → N' b = N0 b) → (∀ k, k < 1 ∨ 5 < k → N' (c + 2) k = N0 (c + 2) k) → WdC N' (c + 38) x → Q () M N')
    (hE : ∀ N' er, pWorld t = .error er → (∀ b, b ≠ c + 2 → b ≠ c + 3 → b < c + 38 ∨ c + 70 ≤ b → N' b = N0 b) → (∀ k, k < 1 ∨ 5 < k → N' (c + 2) k = N0 (c + 2) k) → N' (c + 3) 6 = er.1 → N' (c + 3) 7 = er.2 → E (c + 3) M N') : GE M N0 (f_X2_world (c + 2) (zI n) (c + 38)) Q E := by
  have hr := hC.rd.1
  have hW := hC.w38
  obtain ⟨res, hres⟩ : ∃ res, pWorld t = res := ⟨_, rfl⟩
  rw [hres] at hQ hE
  unfold pWorld at hres
  unfold f_X2_world
  rw [z_0, z_1, z_2, z_4, z_7]
  refine ge_call hr ?_
  unfold f_X1_begin
  rw [z_0]
  refine ge_p (w_putI hr (w_jp ?_))
  refine ge_p (w_putI hr (w_jp ?_))
  generalize hN1 : up2 (up2 N0 (c + 2) 1 n) (c + 2) 4 0 = N1
  have eb : ∀ b, b ≠ c + 2 → N1 b = N0 b := fun b hb => by rw [← hN1, upb hb, upb hb]
  have ek : ∀ k, k ≠ 1 → k ≠ 4 → N1 (c + 2) k = N0 (c + 2) k := fun k h1 h2 => by rw [← hN1, upk h2, upk h1]
  have hx1 : TxC N1 c t := ⟨by rw [← hN1, upk (by omega), upv, ht1], by omega, fun i hi => by
    rw [eb (c + 4) (by omega)]
    exact htp i (by omega)⟩
  have hE1 : ThE c N1 M res E := fun N' er e1 e2 e3 e4 => hE N' er e1 (fun b b1 b2 b3 => (e4.1 b b1 b2 b3).trans (eb b b1)) (fun k hk => (e4.2 k (by omega)).trans (ek k (by omega) (by omega))) e2 e3
  refine ge_p (c_next hC hT hx1 (e := 0) (by rw [← hN1, upv]; rfl) (by omega) (fun N2 n2 hx2 => w_jp (ge_jp ?_)))
  have hF2 : FrW c N1 N2 := n2.w
  refine ge_p (w_clear hW (fun N3 z3 g3 => w_jp ?_))
  have hF3 : FrW c N1 N3 := hF2.tr (FrW.of (fun b hb => g3 b (by omega)))
  have hx3 : CRd N3 c t (tok t 0) := hx2.o (fun b hb => g3 b (by omega))
  refine g_word (k := 0) hC hT hx3 (by omega) hres (fun N4 n4 hx4 w4 hres4 => ?_) (hE1.th hF3)
  have hF4 := hF3.tr n4.w
  have z4 : ∀ i j k, i < 5 → j < 5 → k < 5 → N4 (c + 38 + 3 + 6 * i + j) k = 0 := fun i j k hi hj hk => by rw [n4.1 _ (by omega)]; exact z3 i j k hi hj hk
  generalize nx t (tok t 0) = u1 at *
  refine g_number hC hx4 ⟨by omega, by omega⟩ ⟨by omega, by omega⟩ hres4 (fun w5 l1 l2 hres5 => ?_) (hE1.th hF4)
  generalize hp : u1.2.2.2 = p at *
  refine ge_p (w_putI hW.1 (w_jp ?_))
  have hF5 : FrW c N1 (up2 N4 (c + 38) 1 p) := hF4.tr (FrW.of (fun b hb => upb (by omega)))
  have hx5 : CRd (up2 N4 (c + 38) 1 p) c t u1 := hx4.o (fun b hb => upb (by omega))
  have z5 : ∀ i j k, i < 5 → j < 5 → k < 5 → up2 N4 (c + 38) 1 p (c + 38 + 3 + 6 * i + j) k = 0 := fun i j k hi hj hk => by rw [upb (by omega)]; exact z4 i j k hi hj hk
  have p5 : up2 N4 (c + 38) 1 p (c + 38) 1 = p := upv
  generalize up2 N4 (c + 38) 1 p = N5 at *
  refine ge_p (w_Wp hW (w_jp ?_))
  rw [p5]
  refine ge_p (c_isPrime ⟨by omega, by omega⟩ (w_jp ?_))
  by_cases hq : PrI p
  case neg =>
    rw [if_neg hq] at hres5
    rw [if_neg hq]
    refine ge_eq ⟨by omega, by omega⟩ ⟨by omega, by omega⟩ (fun _ => ?_) (fun x => absurd rfl x)
    exact g_fail hC hx5 (fun N' hT' => ge_thr (hE1.th hF5 N' _ hres5.symm hT'))
  rw [if_pos hq] at hres5
  rw [if_pos hq]
  refine ge_eq ⟨by omega, by omega⟩ ⟨by omega, by omega⟩ (fun x => absurd x (by decide)) (fun _ => ?_)
  unfold pWorld2 at hres5
  refine g_next hC hT hx5 (fun N6 n6 hx6 => ?_)
  have hF6 := hF5.tr n6.w
  refine g_closes hC hT hx6 hres5 (fun N7 n7 hx7 _ hres7 => ?_) (hE1.th hF6)
  have hF7 := hF6.tr n7.w
  generalize nx t (nx t u1) = u2 at *
  refine g_word (k := 1) hC hT hx7 (by omega) hres7 (fun N8 n8 hx8 w8 hres8 => ?_) (hE1.th hF7)
  have hF8 := hF7.tr n8.w
  generalize nx t u2 = u3 at *
  have f8 : ∀ b, b ≠ c + 2 → N8 b = N5 b := fun b hb => (n8.1 b hb).trans ((n7.1 b hb).trans (n6.1 b hb))
  refine ge_p (w_Wp hW (w_jp ?_))
  rw [f8 _ (by omega), p5]
  refine ge_p (w_widest (Pr_I hq) (w_jp ?_))
  have hg := gst_le (p := p)
  refine g_passed hC hT hx8 ⟨by omega, by omega⟩ ⟨by omega, by omega⟩ hres8 (fun N9 n9 hx9 w9 l3 l4 hres9 => ?_) (hE1.th hF8)
  have hF9 := hF8.tr n9.w
  obtain ⟨sz, hsz⟩ : ∃ sz : Nat, u3.2.2.2 = sz := ⟨u3.2.2.2.toNat, by omega⟩
  rw [hsz] at hres9 l3 l4 ⊢
  generalize nx t u3 = u4 at *
  refine ge_p (w_putI hW.1 (w_jp ?_))
  have hF10 : FrW c N1 (up2 N9 (c + 38) 2 sz) := hF9.tr (FrW.of (fun b hb => upb (by omega)))
  have hx10 : CRd (up2 N9 (c + 38) 2 sz) c t u4 := hx9.o (fun b hb => upb (by omega))
  have hD10 : WD (up2 N9 (c + 38) 2 sz) (c + 38) p sz (altT p sz (fun _ _ _ => 0)) := by
    refine ⟨by rw [upk (by omega), n9.1 _ (by omega), f8 _ (by omega)]; exact p5, upv, fun i j k hi hj hk => ?_, altT_ok (Pr_I hq) ⟨by omega, by omega⟩⟩
    rw [upb (by omega), n9.1 _ (by omega), f8 _ (by omega), altT_z]
    exact z5 i j k hi hj hk
  generalize up2 N9 (c + 38) 2 sz = N10 at *
  refine g_closes hC hT hx10 hres9 (fun N11 n11 hx11 _ hres11 => ?_) (hE1.th hF10)
  have hF11 := hF10.tr n11.w
  have e0 : (zI 0 : Int32) = 0 := rfl
  rw [e0]
  have hfin := g_brs (fK := fun _ => jp ()) (Q := Q) (g := fun S => .ok (p, sz, altT p sz S)) hC hT hE1 (t.1 + 1) (nx t u4) (fun _ _ _ => 0) (fun _ _ => false) 0 N11 (by omega) hF11 hx11 (hD10.fr (fun b h1 h2 => n11.1 b (by omega))) (fun i j _ _ => btI_0 _) hres11 (fun N12 S12 hF12 hD12 hres12 => ge_jp (hQ N12 _ hres12.symm (fun b b1 b2 b3 => (hF12.1 b b1 b2 b3).trans (eb b b1)) (fun k hk => (hF12.2 k (by omega)).trans (ek k (by omega) (by omega))) hD12))
  exact ge_ret hfin
end RWC2
