/-! TEXTS: the component reads a world. -/
set_option maxRecDepth 100000
section RWC
variable {α β τ : Type} {M M' : Mem} {N N' N0 : NM} {c k e e0 b d n i j : Nat} {z lo hi kd p : Int} {t : Tx} {tk : Tk} {Q : τ → Mem → NM → Prop} {E : Nat → Mem → NM → Prop} {res : Except Er β} {S : St}
/-- what reading a world writes -/
def FrW (c : Nat) (N N' : NM) : Prop := (∀ b, b ≠ c + 2 → b ≠ c + 3 → b < c + 38 ∨ c + 70 ≤ b → N' b = N b) ∧ ∀ k, k < 2 ∨ 5 < k → N' (c + 2) k = N (c + 2) k
theorem FrW.rf : FrW c N N := ⟨fun _ _ _ _ => rfl, fun _ _ => rfl⟩
theorem FrW.tr {N2 : NM} (h : FrW c N N') (h2 : FrW c N' N2) : FrW c N N2 := ⟨fun b a1 a2 a3 => (h2.1 b a1 a2 a3).trans (h.1 b a1 a2 a3), fun k hk => (h2.2 k hk).trans (h.2 k hk)⟩
theorem NxF.w (h : NxF c N N') : FrW c N N' := ⟨fun b a1 _ _ => h.1 b a1, h.2⟩
theorem ThC.w {er : Er} (h : ThC c er N N') : FrW c N N' := ⟨fun b _ a2 _ => h.2.2 b a2, fun k _ => by rw [h.2.2 (c + 2) (by omega)]⟩
theorem FrW.of (h : ∀ b, b < c + 38 ∨ c + 70 ≤ b → N' b = N b) : FrW c N N' := ⟨fun b _ _ a3 => h b a3, fun k _ => by rw [h (c + 2) (by omega)]⟩
theorem CRd.o (h : CRd N c t tk) (e : ∀ b, b ≤ c + 4 → N' b = N b) : CRd N' c t tk := by
  obtain ⟨⟨a1, a2, a3⟩, b2, b3, b4, b5, b6⟩ := h
  exact ⟨⟨by rw [e _ (by omega)]; exact a1, a2, fun i hi => by rw [e (c + 4) (by omega)]; exact a3 i hi⟩, b2, by rw [e _ (by omega)]; exact b3, by rw [e _ (by omega)]; exact b4, by rw [e _ (by omega)]; exact b5, fun x => by rw [e _ (by omega)]; exact b6 x⟩
/-- where all that is thrown ends -/
def ThE (c : Nat) (N0 : NM) (M : Mem) (res : Except Er β) (E : Nat → Mem → NM → Prop) : Prop := ∀ N' er, res = .error er → N' (c + 3) 6 = er.1 → N' (c + 3) 7 = er.2 → FrW c N0 N' → E (c + 3) M N'
theorem ThE.th (h : ThE c N0 M res E) (hF : FrW c N0 N) : ∀ N' er, res = .error er → ThC c er N N' → E (c + 3) M N' := fun N' er e hT => h N' er e hT.1 hT.2.1 (hF.tr hT.w)
theorem g_keyIs {A B : JM Mem τ} (hC : CL M c) (hT : TwoT M) (hx : CRd N c t tk) (hk : k < 24) (h1 : kw t tk k → GE M N A Q E) (h2 : ¬ kw t tk k → GE M N B Q E) : GE M N (jb (jcall 1 (c + 2) (f_X1_key (c + 2))) fun v => if v = zI (k : Nat) then A else B) Q E := by
  refine ge_p (c_key hC hT hx (fun v hv => w_jp ?_))
  have hv' : zR v := by
    rcases hv with ⟨rfl, _⟩ | ⟨n, h1, rfl, _⟩
    · exact ⟨by decide, by decide⟩
    · exact ⟨by omega, by omega⟩
  refine ge_eq hv' ⟨by omega, by omega⟩ (fun e => h1 ?_) (fun e => h2 (fun hw => ?_))
  · rcases hv with ⟨rfl, _⟩ | ⟨n, _, rfl, hw⟩
    · omega
    · obtain rfl : n = k := by omega
      exact hw
  · rcases hv with ⟨rfl, hn⟩ | ⟨n, hn, rfl, hw2⟩
    · exact hn k hk hw
    · exact e (by rw [kw_uni hn hk hw2 hw])
theorem kw_lt (h : TkOk t tk) (hk : kw t tk k) : tk.1 < tk.2.1 := h.2.2.2.2.1 (by rw [hk.1]; omega)
theorem g_terms {fK : Unit → JM Mem τ} {g : Tk × Tbl → Except Er β} (hC : CL M c) (hT : TwoT M) (hij : i < j) (hj : j < n) (hE : ThE c N0 M res E) :
    ∀ f (u : Tk) (S : Tbl) (h : Nat → Bool) (x4 : Int32) (N : NM), t.1 < f + u.1 → FrW c N0 N → CRd N c t u → WD N (c + 38) p n (altT p n S) → (∀ q, q < 5 → btI x4 q = h q) → pbd (pTerms t p n i j f u S h) g = res →
      (∀ N' u' S', FrW c N0 N' → CRd N' c t u' → u.1 < u'.1 → WD N' (c + 38) p n (altT p n S') → g (u', S') = res → GE M N' (fK ()) Q E) →
      GE M N (jloop (fun t => X2_terms_L3 (c + 2) (c + 38) (zI i) (zI j) t) x4) (fun v M1 N1 => GE M1 N1 (fK v) Q E) E := by
  have hr := hC.rd.1
  have hW := hC.w38
  intro f
  induction f with
  | zero =>
    intro u S h x4 N hf _ hx
    have := hx.2.1.1
    omega
  | succ f ih =>
    intro u S h x4 N hf hF hx hD hm hres k1
    have hn5 := hD.n5
    have hpb := hD.pb
    have e1 : pTerms t p n i j (f + 1) u S h = pbd (pPas t 1 (p - 1) (lsT t u)) fun x => pbd (pWord t 5 x.2) fun u2 => pbd (pNum 0 ((n : Int) - 1) u2) fun k =>
      if h k.toNat = true then .error (flt u2 5) else @ite _ (mrT t (nx t u2)) (Classical.propDecidable _) (pTerms t p n i j f (nx t u2) (stT S i j k.toNat (lsV t u x.1)) (setB h k.toNat)) (.ok (nx t u2, stT S i j k.toNat (lsV t u x.1))) := rfl
    rw [e1] at hres
    refine ge_unroll ?_
    unfold X2_terms_L3
    -- behind the sign, if there is one
    have rest : ∀ (w : Tk) (N1 : NM) (s0 : Int), FrW c N0 N1 → CRd N1 c t w → WD N1 (c + 38) p n (altT p n S) → w = lsT t u → u.1 ≤ w.1 → (s0 = 0 ∧ ¬ kw t u 4 ∨ s0 = 1 ∧ kw t u 4) → GE M N1 (X2_terms_b27 (c + 2) (c + 38) (zI i) (zI j) x4 (zI s0)) (LQ (fun v M1 N1 => GE M1 N1 (fK v) Q E) (fun t1 M1 N1 => GE M1 N1 (jloop (fun t => X2_terms_L3 (c + 2) (c + 38) (zI i) (zI j) t) t1) (fun v M1 N1 => GE M1 N1 (fK v) Q E) E)) E := by
      intro w N1 s0 hF1 hx1 hD1 ew hle hs0
      rw [← ew] at hres
      unfold X2_terms_b27
      refine ge_p (w_Wp hW (w_jp ?_))
      rw [hD1.pe, z_1, z_0, show (5 : Int32) = zI ((5 : Nat) : Int) from rfl, zI_sub]
      have hres2 : pbd (pPas t 1 (p - 1) w) (fun x => pbd (pbd (pWord t 5 x.2) fun u2 => pbd (pNum 0 ((n : Int) - 1) u2) fun k => if h k.toNat = true then .error (flt u2 5) else @ite _ (mrT t (nx t u2)) (Classical.propDecidable _) (pTerms t p n i j f (nx t u2) (stT S i j k.toNat (lsV t u x.1)) (setB h k.toNat)) (.ok (nx t u2, stT S i j k.toNat (lsV t u x.1)))) g) = res := by
        rw [← hres]
        cases pPas t 1 (p - 1) w <;> rfl
      refine g_passed hC hT hx1 ⟨by omega, by omega⟩ ⟨by omega, by omega⟩ hres2 (fun N2 n2 hx2 w3 v1 v2 hres3 => ?_) (hE.th hF1)
      have hF2 := hF1.tr n2.w
      have hD2 : WD N2 (c + 38) p n (altT p n S) := hD1.fr (fun b h1 h2 => n2.1 b (by omega))
      have w1 := hx1.2.1.2.2.2.2.1 (by omega)
      have w2 := (nx_ok hx1.2.1).2
      generalize hv : w.2.2.2 = v at *
      have hres4 : pbd (pWord t 5 (nx t w)) (fun u2 => pbd (pbd (pNum 0 ((n : Int) - 1) u2) fun k => if h k.toNat = true then .error (flt u2 5) else @ite _ (mrT t (nx t u2)) (Classical.propDecidable _) (pTerms t p n i j f (nx t u2) (stT S i j k.toNat (lsV t u v)) (setB h k.toNat)) (.ok (nx t u2, stT S i j k.toNat (lsV t u v)))) g) = res := by
        rw [← hres3]
        show _ = pbd (pbd (pWord t 5 (nx t w)) _) g
        cases pWord t 5 (nx t w) <;> rfl
      refine g_word hC hT hx2 (by omega) hres4 (fun N3 n3 hx3 w4 hres5 => ?_) (hE.th hF2)
      have hF3 := hF2.tr n3.w
      have hD3 : WD N3 (c + 38) p n (altT p n S) := hD2.fr (fun b h1 h2 => n3.1 b (by omega))
      have w5 := kw_lt hx2.2.1 w4
      have w6 := (nx_ok hx2.2.1).2
      generalize nx t (nx t w) = u2 at *
      refine ge_p (w_Wp hW (w_jp ?_))
      rw [hD3.ne, zI_sub]
      have hres6 : pbd (pNum 0 ((n : Int) - 1) u2) (fun k => pbd (if h k.toNat = true then .error (flt u2 5) else @ite _ (mrT t (nx t u2)) (Classical.propDecidable _) (pTerms t p n i j f (nx t u2) (stT S i j k.toNat (lsV t u v)) (setB h k.toNat)) (.ok (nx t u2, stT S i j k.toNat (lsV t u v)))) g) = res := by
        rw [← hres5]
        cases pNum 0 ((n : Int) - 1) u2 <;> rfl
      refine g_number hC hx3 ⟨by omega, by omega⟩ ⟨by omega, by omega⟩ hres6 (fun w7 l1 l2 hres7 => ?_) (hE.th hF3)
      have w8 := hx3.2.1.2.2.2.2.1 (by omega)
      have w9 := (nx_ok hx3.2.1).2
      obtain ⟨k, hk⟩ : ∃ k : Nat, u2.2.2.2 = k := ⟨u2.2.2.2.toNat, by omega⟩
      rw [hk] at hres7 ⊢
      rw [show ((k : Int).toNat) = k from rfl] at hres7
      have hbit := bit_is (x := x4) (k := k) (by omega)
      rw [hm k (by omega)] at hbit
      refine ge_ite (fun q => ?_) (fun q => ?_)
      · rw [if_pos (hbit.mp q), pbd_er] at hres7
        unfold X2_terms_b69
        rw [show (5 : Int32) = zI 5 from rfl]
        exact ge_inl (g_fail hC hx3 (fun N' hT' => ge_thr (hE.th hF3 N' _ hres7.symm hT')))
      · rw [if_neg (fun x => q (hbit.mpr x))] at hres7
        refine ge_let ?_
        have hm' : ∀ q, q < 5 → btI (x4 ||| ((1 : Int32) <<< (zI k &&& 31))) q = setB h k q := fun q hq => by
          rw [bit_or (by omega) (by omega), hm q hq]
          rfl
        have hend : ∀ y : Int, y = lsV t u v → GE M N3 (X2_terms_b102 (c + 2) (c + 38) (zI i) (zI j) (x4 ||| ((1 : Int32) <<< (zI k &&& 31))) (c + 38) (zI i) (zI j) (zI k) (zI y)) (LQ (fun v M1 N1 => GE M1 N1 (fK v) Q E) (fun t1 M1 N1 => GE M1 N1 (jloop (fun t => X2_terms_L3 (c + 2) (c + 38) (zI i) (zI j) t) t1) (fun v M1 N1 => GE M1 N1 (fK v) Q E) E)) E := by
          intro y hy
          have hyb : -7 ≤ y ∧ y ≤ 7 := by
            rw [hy]
            unfold lsV
            split <;> omega
          unfold X2_terms_b102
          refine ge_p (w_cset hW hD3 hij hj (by omega) (by omega) (fun N4 hD4 g4 => w_jp ?_))
          have hF4 : FrW c N0 N4 := hF3.tr (FrW.of (fun b hb => g4 b (by omega)))
          have hx4 : CRd N4 c t u2 := hx3.o (fun b hb => g4 b (by omega))
          refine g_next hC hT hx4 (fun N5 n5 hx5 => ?_)
          have hF5 := hF4.tr n5.w
          have hD5 : WD N5 (c + 38) p n (altT p n (stT S i j k y)) := hD4.fr (fun b h1 h2 => n5.1 b (by omega))
          rw [hy] at hD5
          have hs5 := hx5.2.1.2.2.1
          refine ge_p (w_getI hr (w_jp ?_))
          rw [hx5.2.2.1, show (3 : Int32) = zI 3 from rfl]
          refine ge_eq ⟨by omega, by omega⟩ ⟨by omega, by omega⟩ (fun q3 => ?_) (fun q3 => ?_)
          · rw [if_pos (show mrT t (nx t u2) from Or.inl (by omega))] at hres7
            exact ge_cont (ih (nx t u2) _ _ _ N5 (by omega) hF5 hx5 hD5 hm' hres7 (fun N' u' S' a1 a2 a3 a4 a5 => k1 N' u' S' a1 a2 (by omega) a4 a5))
          · rw [show (4 : Int32) = zI ((4 : Nat) : Int) from rfl]
            refine g_keyIs hC hT hx5 (by omega) (fun q4 => ?_) (fun q4 => ?_)
            · rw [if_pos (show mrT t (nx t u2) from Or.inr q4)] at hres7
              exact ge_cont (ih (nx t u2) _ _ _ N5 (by omega) hF5 hx5 hD5 hm' hres7 (fun N' u' S' a1 a2 a3 a4 a5 => k1 N' u' S' a1 a2 (by omega) a4 a5))
            · rw [if_neg (show ¬ mrT t (nx t u2) from fun x => by rcases x with x | x; exact q3 (by omega); exact q4 x), pbd_ok] at hres7
              exact ge_inl (ge_jp (k1 N5 _ _ hF5 hx5 (by omega) hD5 hres7))
        rcases hs0 with ⟨rfl, hn4⟩ | ⟨rfl, hn4⟩
        · refine ge_eq ⟨by omega, by omega⟩ ⟨by omega, by omega⟩ (fun _ => hend v (if_neg hn4).symm) (fun x => absurd rfl x)
        · refine ge_eq ⟨by omega, by omega⟩ ⟨by omega, by omega⟩ (fun x => absurd x (by decide)) (fun _ => ?_)
          rw [zI_neg]
          exact hend (-v) (if_pos hn4).symm
    rw [show (4 : Int32) = zI ((4 : Nat) : Int) from rfl]
    unfold X2_terms_b16
    rw [z_0, z_1]
    refine g_keyIs hC hT hx (by omega) (fun q => ?_) (fun q => ?_)
    · refine ge_eq ⟨by omega, by omega⟩ ⟨by omega, by omega⟩ (fun x => absurd x (by decide)) (fun _ => ?_)
      have q1 := kw_lt hx.2.1 q
      have q2 := (nx_ok hx.2.1).2
      exact g_next hC hT hx (fun N1 n1 hx1 => rest (nx t u) N1 1 (hF.tr n1.w) hx1 (hD.fr (fun b h1 h2 => n1.1 b (by omega))) (if_pos q).symm (by omega) (Or.inr ⟨rfl, q⟩))
    · refine ge_eq ⟨by omega, by omega⟩ ⟨by omega, by omega⟩ (fun _ => ?_) (fun x => absurd rfl x)
      exact rest u N 0 hF hx hD (if_neg q).symm (Nat.le_refl _) (Or.inl ⟨rfl, q⟩)
end RWC
