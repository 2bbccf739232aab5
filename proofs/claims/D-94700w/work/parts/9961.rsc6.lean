/-! TEXTS: the component reads the steps of a script. -/
set_option maxRecDepth 100000
section RSC6
variable {α β τ : Type} {M M' M0 M1 : Mem} {N N' N0 N1 : NM} {c k e b n i j q E0 A L o o1 cnt wi : Nat} {z lo hi kd p s : Int} {t : Tx} {tk u u' : Tk} {E : Nat → Mem → NM → Prop} {Q : Nat → Mem → NM → Prop} {r r' : Nat → Int} {ad ad' op : Nat → Nat} {F F' : Nat → Nat → Int} {x y w : Rd3} {r0 : Arr}
theorem ArgOf.u6 {f : Nat → Int} {v : Int} (h : ArgOf f r) : ArgOf f (upR r 6 v) := by
  have n0 : upR r 6 v 0 = r 0 := upR_n (by omega)
  have n1 : upR r 6 v 1 = r 1 := upR_n (by omega)
  have n2 : upR r 6 v 2 = r 2 := upR_n (by omega)
  have n3 : upR r 6 v 3 = r 3 := upR_n (by omega)
  have n4 : upR r 6 v 4 = r 4 := upR_n (by omega)
  have n5 : upR r 6 v 5 = r 5 := upR_n (by omega)
  unfold ArgOf
  rw [n0, n1, n2, n3, n4, n5]
  exact h
theorem ArgOf.c6 {f f' : Nat → Int} (h : ArgOf f r) (e : ∀ k, k < 6 → f' k = f k) : ArgOf f' r := by
  unfold ArgOf
  rw [e 1 (by omega), e 2 (by omega), e 3 (by omega), e 4 (by omega), e 5 (by omega)]
  exact h
/-- the text ends within blocks -/
theorem g_head0 (hS : SS c E0 M0 N0 M N t u cnt A ad L o op F) (h0 : u.2.2.1 = 0) (h : GE M N (X2_script_b43 (c + 2)) Q E) : GE M N (hdS c) Q E := by
  have hr := hS.1.2.2.2.2.2.2.rd.1
  have e2 := hS.2.1.2.2.1
  refine ge_unroll ?_
  unfold X2_script_L29
  refine ge_p (w_getI hr (w_jp ?_))
  rw [e2, z_0]
  exact ge_eq ⟨by omega, by omega⟩ ⟨by omega, by omega⟩ (fun _ => ge_inl h) (fun q => absurd (by omega) q)
theorem g_eof (hc : c + 1603 ≤ E0) (hS : SS c E0 M0 N0 M N t u cnt A ad L o op F) (h0 : u.2.2.1 = 0) (ho : o ≠ 0) (hE : ThX c E0 M0 N0 (flt u 2) E) : GE M N (hdS c) Q E := by
  refine g_head0 hS h0 ?_
  have hr := hS.1.2.2.2.2.2.2.rd.1
  obtain ⟨f10, f11, f12, _⟩ := hS.2.2.1
  obtain ⟨r3, r4, r5⟩ := hS.2.2.2.2.2.2.2
  unfold X2_script_b43 X2_script_b56
  refine ge_p (w_getI hr (w_jp ?_))
  rw [f12, z_0]
  refine ge_eq ⟨by omega, by omega⟩ ⟨by omega, by omega⟩ (fun x => absurd x (by omega)) (fun _ => ?_)
  exact gk_need0 hS.cl hS.2.1 (fun N' h => hE.th hS.1 hc h)
/-- what reading some steps does -/
def RdK (t : Tx) (c E0 : Nat) (M0 : Mem) (N0 : NM) (A L wi cnt : Nat) (op : Nat → Nat) (F : Nat → Nat → Int) (Q : Nat → Mem → NM → Prop) (E : Nat → Mem → NM → Prop) (res : Except Er Rd3) : Prop :=
  (∀ M' N' y ad' op' F', res = .ok y → SS c E0 M0 N0 M' N' t y.1 y.2.1 A ad' (L + lnS y.2.2 cnt y.2.1) wi op' F' → (∀ k, k < wi → op' k = op k) → (∀ i, i < L → ∀ k, k < 7 → F' i k = F i k) → FlS y.2.2 F' cnt y.2.1 L → GE M' N' (hdS c) Q E) ∧ ∀ er, res = .error er → ThX c E0 M0 N0 er E
def RdG (t : Tx) (c E0 : Nat) (M0 : Mem) (N0 : NM) (A wi : Nat) (Q : Nat → Mem → NM → Prop) (E : Nat → Mem → NM → Prop) (one : Rd3 → Except Er Rd3) (P : Tk → Prop) : Prop :=
  ∀ M N (x : Rd3) ad L op F, SS c E0 M0 N0 M N t x.1 x.2.1 A ad L wi op F → P x.1 → RdK t c E0 M0 N0 A L wi x.2.1 op F Q E (one x) → GE M N (hdS c) Q E
/-- some steps, and more behind them -/
theorem RdK.cat {one f : Rd3 → Except Er Rd3} (h : RdK t c E0 M0 N0 A L wi x.2.1 op F Q E (pbd (one x) f)) (h1 : one x = .ok y) (hx : RdOk t wi x y) (hy : ∀ w, f y = .ok w → RdOk t wi y w) {ad' op' : Nat → Nat}
    (ho : ∀ k, k < wi → op' k = op k) (hF : ∀ i, i < L → ∀ k, k < 7 → F' i k = F i k) (hL : FlS y.2.2 F' x.2.1 y.2.1 L) : RdK t c E0 M0 N0 A (L + lnS y.2.2 x.2.1 y.2.1) wi y.2.1 op' F' Q E (f y) := by
  rw [h1] at h
  have h : RdK t c E0 M0 N0 A L wi x.2.1 op F Q E (f y) := h
  refine ⟨fun M2 N2 w ad2 op2 F2 e hS g1 g2 g3 => ?_, h.2⟩
  have hw := hy w e
  obtain ⟨_, _, s1, _⟩ := hx
  obtain ⟨_, _, s2, s3⟩ := hw
  have ag : ∀ i, x.2.1 ≤ i → i < y.2.1 → w.2.2 i = y.2.2 i := fun i _ hi => s3 i hi
  have s1' : SegOk w.2.2 x.2.1 y.2.1 wi := s1.cg ag
  have el : lnS w.2.2 x.2.1 y.2.1 = lnS y.2.2 x.2.1 y.2.1 := lnS_cg ag
  have ec : lnS w.2.2 x.2.1 w.2.1 = lnS y.2.2 x.2.1 y.2.1 + lnS w.2.2 y.2.1 w.2.1 := by rw [lnS_cat s1.1 s2.1, el]
  refine h.1 M2 N2 w ad2 op2 F2 e (by rw [ec, ← Nat.add_assoc]; exact hS) (fun k hk => (g1 k hk).trans (ho k hk)) (fun i hi k hk => (g2 i (by omega) k hk).trans (hF i hi k hk)) ?_
  refine FlS.cat s1' s2 ((hL.fr (fun q k _ h2 hk => g2 q h2 k hk)).cgA s1 ag) ?_
  rw [el]
  exact g3
theorem RdK.nil (h : RdK t c E0 M0 N0 A L wi cnt op F Q E (.ok (u, cnt, r0))) (hS : SS c E0 M0 N0 M N t u cnt A ad L wi op F) : GE M N (hdS c) Q E :=
  h.1 M N _ ad op F rfl (by show SS c E0 M0 N0 M N t u cnt A ad (L + lnS r0 cnt cnt) wi op F; rw [lnS_nil]; exact hS) (fun _ _ => rfl) (fun _ _ _ _ => rfl) FlS.nil
theorem g_seq {one : Rd3 → Except Er Rd3} (hone : RdG t c E0 M0 N0 A wi Q E one (fun u => ¬ kw t u 15)) (h1 : ∀ x y, TkOk t x.1 → x.2.1 ≤ 30 → one x = .ok y → RdOk t wi x y ∧ x.1.1 < y.1.1) : ∀ f M N (x : Rd3) ad L op F, t.1 < f + x.1.1 → SS c E0 M0 N0 M N t x.1 x.2.1 A ad L wi op F → RdK t c E0 M0 N0 A L wi x.2.1 op F Q E (pSeq one t f x) → GE M N (hdS c) Q E := by
  intro f
  induction f with
  | zero =>
    intro M N x ad L op F hf hS _
    have := hS.2.1.2.1.1
    omega
  | succ f ih =>
    intro M N x ad L op F hf hS hK
    have e1 : pSeq one t (f + 1) x = @ite _ (kw t x.1 15) (Classical.propDecidable _) (.ok x) (pbd (one x) (pSeq one t f)) := rfl
    rw [e1] at hK
    by_cases q : kw t x.1 15
    · rw [if_pos q] at hK
      obtain ⟨xu, xc, xa⟩ := x
      exact hK.nil hS
    · rw [if_neg q] at hK
      have hx30 := hS.2.2.2.2.2.2.2.2.1
      refine hone M N x ad L op F hS q ⟨fun M' N' y ad' op' F' e hS' g1 g2 g3 => ?_, fun er e => hK.2 er (by rw [e]; rfl)⟩
      obtain ⟨k1, k2⟩ := h1 x y hS.2.1.2.1 hx30 e
      exact ih M' N' y ad' _ op' F' (by omega) hS' (hK.cat (ad' := ad') e k1 (fun w e2 => (pSeq_f (fun x y a b e => (h1 x y a b e).1) f y w k1.1 k1.2.2.1.2.1 e2).1) g1 g2 g3)
theorem pSt_e {one : Nat → Rd3 → Except Er Rd3} : pStep2 t one wi j x = pbd (pSt t j x.1 (upR (x.2.2 x.2.1) 0 j)) fun y => if j = 6 ∨ j = 7 then pbd (pSeq (one (wi + 1)) t (t.1 + 1) (y.1, x.2.1 + 1, upW x.2.2 x.2.1 y.2)) fun z => pbd (pWord t 15 z.1) fun u4 => pbd (pSgn t u4) fun u5 => .ok (u5, z.2.1, upW z.2.2 x.2.1 (upR (z.2.2 x.2.1) 6 (z.2.1 : Nat)))
    else .ok (y.1, x.2.1 + 1, upW x.2.2 x.2.1 (upR y.2 6 ((x.2.1 + 1 : Nat) : Int))) := by
  unfold pStep2 pSt
  cases pRest t j (nx t x.1) (upR (x.2.2 x.2.1) 0 j) with
  | error er => rfl
  | ok z =>
    show pbd (pSgn t z.1) _ = pbd (pbd (pSgn t z.1) _) _
    cases pSgn t z.1 with
    | error er => rfl
    | ok u2 => rfl
theorem g_step (hc : c + 1603 ≤ E0) (hT : TwoT M0) : ∀ d wi, 4 ≤ d + wi → wi ≤ 3 → RdG t c E0 M0 N0 A wi Q E (pStep t d wi) (fun u => (u.2.2.1 = 0 → wi ≠ 0) ∧ (kw t u 15 → wi = 0)) := by
  intro d
  induction d with
  | zero => intro wi h1 h2; omega
  | succ d ih =>
    intro wi hd hw M N x ad L op F hS hP hK
    have e1 : pStep t (d + 1) wi x = match stepNo t x.1 with
      | none => .error (flt x.1 2)
      | some j => if x.2.1 = 30 then .error (flt x.1 6) else if (j = 6 ∨ j = 7) ∧ wi = 3 then .error (flt x.1 7) else pStep2 t (pStep t d) wi j x := rfl
    rw [e1] at hK
    have hx0 := hS.2.1.2.1
    rcases stepNo_c (t := t) (u := x.1) with ⟨j, hj, hk, ej⟩ | ⟨hn, ej⟩
    rotate_left
    · rw [ej] at hK
      have hE := hK.2 _ rfl
      by_cases q : x.1.2.2.1 = 0
      · exact g_eof hc hS q (hP.1 q) hE
      · exact g_none hc hS hT q hn hP.2 hE
    rw [ej] at hK
    have hK : RdK t c E0 M0 N0 A L wi x.2.1 op F Q E (if x.2.1 = 30 then .error (flt x.1 6) else if (j = 6 ∨ j = 7) ∧ wi = 3 then .error (flt x.1 7) else pStep2 t (pStep t d) wi j x) := hK
    by_cases c1 : x.2.1 = 30
    · rw [if_pos c1] at hK
      exact g_many hc hS hT hj hk (Or.inl ⟨c1, hK.2 _ rfl⟩)
    rw [if_neg c1] at hK
    by_cases c2 : (j = 6 ∨ j = 7) ∧ wi = 3
    · rw [if_pos c2] at hK
      exact g_many hc hS hT hj hk (Or.inr ⟨c1, c2.1, c2.2, hK.2 _ rfl⟩)
    rw [if_neg c2, pSt_e] at hK
    obtain ⟨xu, xc, xa⟩ := x
    have hS : SS c E0 M0 N0 M N t xu xc A ad L wi op F := hS
    have c1 : xc ≠ 30 := c1
    have hx30 : xc ≤ 30 := hS.2.2.2.2.2.2.2.2.1
    have hx0 : TkOk t xu := hx0
    have hk : kw t xu (kwstepWord j) := hk
    refine g_newstep (r := upR (xa xc) 0 j) hc hS hT hj hk c1 (fun a b => c2 ⟨a, b⟩) upR_v (fun M1 N1 u2 r' q F1 e2 hS1 a1 a2 a3 => ?_) (fun er e => hK.2 er (by show pbd (pSt t j xu (upR (xa xc) 0 j)) _ = _; rw [e]; rfl))
    -- what the new step is
    have hst : ∃ v, pRest t j (nx t xu) (upR (xa xc) 0 j) = .ok v ∧ pSgn t v.1 = .ok u2 ∧ v.2 = r' := by
      unfold pSt at e2
      obtain ⟨v, e3, e4⟩ := pbd_f e2
      obtain ⟨u3, e5, e6⟩ := pbd_f e4
      have e6 := Except.ok.inj e6
      have e7 : u3 = u2 := congrArg Prod.fst e6
      have e8 : v.2 = r' := congrArg Prod.snd e6
      rw [e7] at e5
      exact ⟨v, e3, e5, e8⟩
    obtain ⟨v, e3, e5, e8⟩ := hst
    have l1 := kw_lt hx0 hk
    have l2 := nx_ok hx0
    obtain ⟨g1, g2, g3, g4⟩ := pRest_f l2.1 hj upR_v e3
    rw [e8] at g3 g4
    obtain ⟨f1, f2⟩ := pSgn_f g1 e5
    have hK : RdK t c E0 M0 N0 A L wi xc op F Q E (pbd (pSt t j xu (upR (xa xc) 0 j)) fun y => if j = 6 ∨ j = 7 then pbd (pSeq (pStep t d (wi + 1)) t (t.1 + 1) (y.1, xc + 1, upW xa xc y.2)) fun z => pbd (pWord t 15 z.1) fun u4 => pbd (pSgn t u4) fun u5 => .ok (u5, z.2.1, upW z.2.2 xc (upR (z.2.2 xc) 6 (z.2.1 : Nat)))
      else .ok (y.1, xc + 1, upW xa xc (upR y.2 6 ((xc + 1 : Nat) : Int)))) := hK
    rw [e2, pbd_ok] at hK
    by_cases cb : j = 6 ∨ j = 7
    rotate_left
    · rw [if_neg cb] at hK hS1
      have hb : ¬ isBl (upW xa xc (upR r' 6 ((xc + 1 : Nat) : Int))) xc := by
        unfold isBl
        rw [upW_v, upR_n (by omega), g3]
        omega
      have hl := lnS_one hb
      refine hK.1 M1 N1 _ _ _ F1 rfl (by show SS c E0 M0 N0 M1 N1 t u2 (xc + 1) A _ (L + lnS (upW xa xc (upR r' 6 ((xc + 1 : Nat) : Int))) xc (xc + 1)) wi _ F1; rw [hl]; exact hS1) (fun k hk => ?_) a1 (FlS.one hb ?_ ?_)
      · show (if k = wi then L else op k) = op k
        rw [if_neg (by omega)]
      · show F1 L 0 = upW xa xc (upR r' 6 ((xc + 1 : Nat) : Int)) xc 0 + 6
        rw [upW_v, upR_n (by omega), g3]
        exact a2
      · show ArgOf (F1 L) (upW xa xc (upR r' 6 ((xc + 1 : Nat) : Int)) xc)
        rw [upW_v]
        exact a3.u6
    rw [if_pos cb] at hK hS1
    have hK : RdK t c E0 M0 N0 A L wi xc op F Q E (pbd (pSeq (pStep t d (wi + 1)) t (t.1 + 1) (u2, xc + 1, upW xa xc r')) fun z => pbd (pWord t 15 z.1) fun u4 => pbd (pSgn t u4) fun u5 => .ok (u5, z.2.1, upW z.2.2 xc (upR (z.2.2 xc) 6 (z.2.1 : Nat)))) := hK
    have hw3 : wi + 1 ≤ 3 := by
      have : wi ≠ 3 := fun x => c2 ⟨cb, x⟩
      omega
    refine g_seq (wi := wi + 1) (one := pStep t d (wi + 1)) (fun M N x ad L op F hS hn hK => ih (wi + 1) (by omega) hw3 M N x ad L op F hS ⟨fun _ => by omega, fun y => absurd y hn⟩ hK) (fun x y a b e => by
      obtain ⟨k1, _, k3⟩ := pStep_f d (wi + 1) x y hw3 a b e
      exact ⟨k1, k3⟩) (t.1 + 1) M1 N1 (u2, xc + 1, upW xa xc r') _ (L + 1) _ F1 (by show t.1 < t.1 + 1 + u2.1; omega) hS1 ⟨fun M2 N2 z ad2 op2 F2 e9 hS2 b1 b2 b3 => ?_, fun er e => hK.2 er (by rw [e]; rfl)⟩
    rw [e9, pbd_ok] at hK
    obtain ⟨h1, h2⟩ := pSeq_f (wi := wi + 1) (fun x y a b e => (pStep_f d (wi + 1) x y hw3 a b e).1) _ _ _ f1 (show xc + 1 ≤ 30 by omega) e9
    obtain ⟨h3, h4, h5, h6⟩ := h1
    have h5 : SegOk z.2.2 (xc + 1) z.2.1 (wi + 1) := h5
    have hzc : z.2.2 xc = r' := (h6 xc (by show xc < xc + 1; omega)).trans upW_v
    have ew : pWord t 15 z.1 = .ok (nx t z.1) := by
      rcases pWord_c (t := t) (u := z.1) (k := 15) with ⟨_, c3⟩ | ⟨c3, _⟩
      · exact c3
      · exact absurd h2 c3
    rw [ew, pbd_ok] at hK
    have o1 : op2 wi = L := (b1 wi (by omega)).trans (if_pos rfl)
    have hS2 : SS c E0 M0 N0 M2 N2 t z.1 z.2.1 A ad2 (L + 1 + lnS z.2.2 (xc + 1) z.2.1) (wi + 1) op2 F2 := hS2
    have b3 : FlS z.2.2 F2 (xc + 1) z.2.1 (L + 1) := b3
    refine g_close hc hS2 hT h2 (by omega) (fun M3 N3 u5 q3 F3 e10 hS3 d1 d2 d3 d4 => ?_) (fun er e => hK.2 er (by rw [e]; rfl))
    rw [e10, pbd_ok] at hK
    generalize ea : upW z.2.2 xc (upR (z.2.2 xc) 6 (z.2.1 : Nat)) = a4 at hK
    have av : a4 xc = upR r' 6 (z.2.1 : Nat) := by rw [← ea, upW_v, hzc]
    have ao : ∀ i, xc + 1 ≤ i → i < z.2.1 → a4 i = z.2.2 i := fun i k1 k2 => by rw [← ea, upW_n (by omega)]
    have hb : isBl a4 xc := by
      unfold isBl
      rw [av, upR_n (by omega), g3]
      omega
    have hln : lnS a4 (xc + 1) z.2.1 = lnS z.2.2 (xc + 1) z.2.1 := lnS_cg ao
    have hl := lnS_blk (a := a4) (c3 := z.2.1) hb (show xc < z.2.1 by have := h5.1; omega)
    rw [hln] at hl
    have a60 : F2 L 0 = F1 L 0 := b2 L (by omega) 0 (by omega)
    refine hK.1 M3 N3 (u5, z.2.1, a4) _ op2 F3 rfl (by show SS c E0 M0 N0 M3 N3 t u5 z.2.1 A _ (L + lnS a4 xc z.2.1) wi op2 F3; rw [hl, show L + (lnS z.2.2 (xc + 1) z.2.1 + 2) = L + 1 + lnS z.2.2 (xc + 1) z.2.1 + 1 by omega]; exact hS3) (fun k hk => ?_) (fun i hi k hk => ?_) ?_
    · rw [b1 k (by omega)]
      show (if k = wi then L else op k) = op k
      rw [if_neg (by omega)]
    · rw [d1 i (by omega) k hk (fun x => by omega), b2 i (by omega) k hk]
      exact a1 i hi k hk
    · show FlS a4 F3 xc z.2.1 L
      refine FlS.blk (wi := wi + 1) (h5.cg ao) hb (by rw [av, upR_v]) ((b3.fr (fun q k k1 k2 k3 => d1 q k2 k k3 (fun x => by omega))).cgA h5 ao) ?_ ?_ ?_ ?_ ?_
      · rw [d1 L (by omega) 0 (by omega) (fun x => by omega), a60, a2, av, upR_n (by omega), g3]
      · rw [av]
        exact (a3.c6 (fun k hk => by rw [d1 L (by omega) k (by omega) (fun x => by omega), b2 L (by omega) k (by omega)])).u6
      · rw [hln]
        rw [o1] at d2
        exact d2
      · rw [hln]; exact d3
      · rw [hln, d4, o1]
theorem g_top (hc : c + 1603 ≤ E0) (hT : TwoT M0) : ∀ f M N (x : Rd3) ad L op F, t.1 < f + x.1.1 → SS c E0 M0 N0 M N t x.1 x.2.1 A ad L 0 op F → RdK t c E0 M0 N0 A L 0 x.2.1 op F Q E (pTop t f x) → GE M N (hdS c) Q E := by
  intro f
  induction f with
  | zero =>
    intro M N x ad L op F hf hS _
    have := hS.2.1.2.1.1
    omega
  | succ f ih =>
    intro M N x ad L op F hf hS hK
    have e1 : pTop t (f + 1) x = if x.1.2.2.1 = 0 then .ok x else pbd (pStep t 8 0 x) (pTop t f) := rfl
    rw [e1] at hK
    by_cases q : x.1.2.2.1 = 0
    · rw [if_pos q] at hK
      obtain ⟨xu, xc, xa⟩ := x
      exact hK.nil hS
    · rw [if_neg q] at hK
      have hx30 := hS.2.2.2.2.2.2.2.2.1
      refine g_step hc hT 8 0 (by omega) (by omega) M N x ad L op F hS ⟨fun x => absurd x q, fun _ => rfl⟩ ⟨fun M' N' y ad' op' F' e hS' g1 g2 g3 => ?_, fun er e => hK.2 er (by rw [e]; rfl)⟩
      obtain ⟨k1, _, k2⟩ := pStep_f 8 0 x y (by omega) hS.2.1.2.1 hx30 e
      exact ih M' N' y ad' _ op' F' (by omega) hS' (hK.cat (ad' := ad') e k1 (fun w e2 => pTop_f f y w k1.1 k1.2.2.1.2.1 e2) g1 g2 g3)
end RSC6
