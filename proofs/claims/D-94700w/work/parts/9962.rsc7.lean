/-! TEXTS: the component reads a script. -/
set_option maxRecDepth 100000
section RSC7
variable {α β τ : Type} {M M' M0 M1 : Mem} {N N' N0 N1 : NM} {c k e b n i j q E0 A L o cnt wi : Nat} {z lo hi kd p s : Int} {t : Tx} {tk u u' : Tk} {E : Nat → Mem → NM → Prop} {Q : Nat → Mem → NM → Prop} {r r' : Nat → Int} {ad ad' op : Nat → Nat} {F F' : Nat → Nat → Int} {x y w : Rd3} {g : Arr}
theorem CL.agX (h : CL M c) (gK : ∀ b, c ≤ b → b < c + 1567 → mK M' b = mK M b) (gR : ∀ b, c ≤ b → b < c + 1567 → b ≠ c + 2 → mR M' b = mR M b) (g2 : ∀ k, k ≠ 13 → mR M' (c + 2) k = mR M (c + 2) k) (ht : mT M' = mT M) : CL M' c := by
  obtain ⟨h1, h2, h3, h4, h5, h6, h7, h8, h9, ⟨i1, i2, i3, i4⟩, h10, h11, h12, h13⟩ := h
  have g : ∀ b, c ≤ b → b < c + 1567 → b ≠ c + 2 → mK M' b = mK M b ∧ mR M' b = mR M b := fun b x y z => ⟨gK b x y, gR b x y z⟩
  refine ⟨by rw [gK c (by omega) (by omega)]; exact h1, fun k o e => by rw [gR c (by omega) (by omega) (by omega)]; exact h2 k o e, fun o d e => by have := CLk_lt e; rw [gK _ (by omega) (by omega)]; exact h3 o d e, fun o e => (h4 o e).ag ?_, fun o e => (h5 o e).ag ?_, fun k hk => ?_, fun k hk => ?_, fun k hk => ?_, fun k hk => ?_, ⟨i1.ag ?_, i2.ag ?_, i3.ag ?_, i4.ag ?_⟩, h10.ag ?_, h11.ag ?_, fun k hk => ?_, ?_⟩
  · have : o = 6 ∨ o = 38 ∨ o = 224 := by simpa [CLw] using e
    exact fun b x y => g b (by omega) (by omega) (by omega)
  · have : o = 77 ∨ o = 85 ∨ o = 93 ∨ o = 101 ∨ o = 109 ∨ o = 182 := by simpa [CLs] using e
    exact fun b x y => g b (by omega) (by omega) (by omega)
  · rw [gR _ (by omega) (by omega) (by omega)]; exact ⟨(h6 k hk).1, (h6 k hk).2.ag (fun b x y => g b (by omega) (by omega) (by omega))⟩
  · rw [gR _ (by omega) (by omega) (by omega)]; exact ⟨(h7 k hk).1, (h7 k hk).2.ag (fun b x y => g b (by omega) (by omega) (by omega))⟩
  · rw [gR _ (by omega) (by omega) (by omega)]; exact ⟨(h8 k hk).1, (h8 k hk).2.ag (fun b x y => g b (by omega) (by omega) (by omega))⟩
  · rw [gR _ (by omega) (by omega) (by omega)]
    obtain ⟨g0, g1, g2, g3, g4, g5, g6, g7, g8⟩ := h9 k hk
    refine ⟨g0, by rw [gK _ (by omega) (by omega)]; exact g1, by rw [gR _ (by omega) (by omega) (by omega)]; exact g2, by rw [gR _ (by omega) (by omega) (by omega)]; exact g3, by rw [gR _ (by omega) (by omega) (by omega)]; exact g4, g5.ag (fun b x y => g b (by omega) (by omega) (by omega)), by rw [gK _ (by omega) (by omega)]; exact g6, by rw [gK _ (by omega) (by omega)]; exact g7, fun j hj => ?_⟩
    rw [gR _ (by omega) (by omega) (by omega)]; exact ⟨(g8 j hj).1, (g8 j hj).2.ag (fun b x y => g b (by omega) (by omega) (by omega))⟩
  all_goals first | exact fun b x y => g b (by omega) (by omega) (by omega) | skip
  · rw [gK _ (by omega) (by omega), gR _ (by omega) (by omega) (by omega)]; exact h12 k hk
  · rw [gK _ (by omega) (by omega), gK (c + 3) (by omega) (by omega), g2 0 (by omega), g2 8 (by omega), g2 14 (by omega), g2 6 (by omega), g2 7 (by omega), ht]; exact h13
theorem pTop_0 : ∀ f (x y : Rd3), pTop t f x = .ok y → y.1.2.2.1 = 0 := by
  intro f
  induction f with
  | zero => intro x y e; cases e
  | succ f ih =>
    intro x y e
    have e1 : pTop t (f + 1) x = if x.1.2.2.1 = 0 then .ok x else pbd (pStep t 8 0 x) (pTop t f) := rfl
    rw [e1] at e
    by_cases q : x.1.2.2.1 = 0
    · rw [if_pos q] at e
      have e := Except.ok.inj e
      rw [← e]; exact q
    · rw [if_neg q] at e
      obtain ⟨z, e2, e3⟩ := pbd_f e
      exact ih z y e3
/-- where a script is put -/
def scM (M : Mem) (c : Nat) : Mem := sR (jnewM (sB M 62 600) (.inr (11, 60)) 60) (up2 (mR (jnewM (sB M 62 600) (.inr (11, 60)) 60)) (c + 2) 13 (some (mZ M)))
theorem scM_SF (hC : CL M c) (hZ : c + 1603 ≤ mZ M ∧ ∀ b, mZ M ≤ b → mK M b = none) (hN : ∀ b, b ≠ c + 2 → b ≠ mZ M → N b = N0 b) (h9 : N (c + 2) 9 = N0 (c + 2) 9) : SF c (mZ M) M N0 (scM M c) N ∧ mK (scM M c) (mZ M) = some (.inr (11, 60)) ∧ mR (scM M c) (c + 2) 13 = some (mZ M) := by
  have hK : ∀ b, b ≠ mZ M → mK (scM M c) b = mK M b := fun b hb => if_neg hb
  have hL : ∀ b, b ≠ mZ M → mL (scM M c) b = mL M b := fun b hb => funext fun j => if_neg hb
  have hR1 : ∀ b, b ≠ mZ M → mR (jnewM (sB M 62 600) (.inr (11, 60)) 60) b = mR M b := fun b hb => funext fun j => if_neg hb
  have hR : ∀ b, b ≠ mZ M → b ≠ c + 2 → mR (scM M c) b = mR M b := fun b hb h2 => (upb' h2).trans (hR1 b hb)
  refine ⟨⟨by show mZ M ≤ mZ M + 1; omega, fun b hb => ?_, fun b hb => ⟨hK b (by omega), hL b (by omega), hR b (by omega)⟩, fun b h1 h2 h3 h4 => hN b h2 (by omega), h9, rfl, ?_⟩, if_pos rfl, if_pos ⟨rfl, rfl⟩⟩
  · have hb : mZ M + 1 ≤ b := hb
    rw [hK b (by omega)]
    exact hZ.2 b (by omega)
  · refine hC.agX (fun b _ h => hK b (by omega)) (fun b _ h h2 => hR b (by omega) h2) (fun k hk => ?_) rfl
    have e : mR (scM M c) (c + 2) k = mR (jnewM (sB M 62 600) (.inr (11, 60)) 60) (c + 2) k := if_neg (fun x => hk x.2)
    rw [e, hR1 _ (by omega)]
theorem g_script (hC : CL M c) (hT : TwoT M) (hZ : c + 1603 ≤ mZ M ∧ ∀ b, mZ M ≤ b → mK M b = none) (h6 : n ≤ 600) (ht1 : t.1 = n) (htp : ∀ i, i < n → -128 ≤ N0 (c + 4) i ∧ N0 (c + 4) i ≤ 127 ∧ t.2 i = N0 (c + 4) i % 256) (hrm : 62 ≤ mC M ∧ 600 ≤ mS M)
    (hQ : ∀ M' N' u cnt a A ad op F, pScript t g = .ok (u, cnt, a) → SegOk a 0 cnt 0 → SS c (mZ M) M N0 M' N' t u cnt A ad (lnS a 0 cnt) 0 op F → FlS a F 0 cnt 0 → Q A (sB M' (mC M - 62) (mS M - 600)) N')
    (hE : ∀ er, pScript t g = .error er → ThX c (mZ M) M N0 er (fun w B N' => E w (sB B (mC M - 62) (mS M - 600)) N')) : GE M N0 (jpay 62 600 (f_X2_script (c + 2) (zI n))) Q E := by
  refine ge_pay hrm ?_
  unfold f_X2_script
  rw [z_0]
  have hr := hC.rd.1
  refine ge_p (w_new8 (M := sB M 62 600) ⟨by show 1 ≤ 62; omega, by show 60 ≤ 600; omega⟩ (w_jp ?_))
  have kK : ∀ b, b ≠ mZ M → mK (jnewM (sB M 62 600) (.inr (11, 60)) 60) b = mK M b := fun b hb => if_neg hb
  refine ge_p (w_putO ((kK (c + 2) (by omega)).trans hr) (w_jp ?_))
  show GE (scM M c) (upZ N0 (mZ M)) _ _ _
  have hr2 : mK (scM M c) (c + 2) = some (.inl 1) := (kK (c + 2) (by omega)).trans hr
  refine ge_p (w_putI hr2 (w_jp ?_))
  refine ge_p (w_putI hr2 (w_jp ?_))
  refine ge_p (w_putI hr2 (w_jp ?_))
  generalize hN1 : up2 (up2 (up2 (upZ N0 (mZ M)) (c + 2) 10 0) (c + 2) 11 0) (c + 2) 12 0 = N1
  have e1 : ∀ b, b ≠ c + 2 → b ≠ mZ M → N1 b = N0 b := fun b h1 h2 => by rw [← hN1, upb h1, upb h1, upb h1]; exact funext fun j => if_neg h2
  have e1k : ∀ k, k < 10 → N1 (c + 2) k = N0 (c + 2) k := fun k hk => by rw [← hN1, upk (by omega), upk (by omega), upk (by omega)]; exact if_neg (by omega)
  have e110 : N1 (c + 2) 10 = 0 := by rw [← hN1, upk (by omega), upk (by omega), upv]
  have e111 : N1 (c + 2) 11 = 0 := by rw [← hN1, upk (by omega), upv]
  have e112 : N1 (c + 2) 12 = 0 := by rw [← hN1, upv]
  clear hN1
  refine ge_kp (ge_call hr2 ?_)
  unfold f_X1_begin
  rw [z_0]
  refine ge_p (w_putI hr2 (w_jp ?_))
  refine ge_p (w_putI hr2 (w_jp ?_))
  generalize hN2 : up2 (up2 N1 (c + 2) 1 n) (c + 2) 4 0 = N2
  have e2 : ∀ b, b ≠ c + 2 → b ≠ mZ M → N2 b = N0 b := fun b h1 h2 => by rw [← hN2, upb h1, upb h1]; exact e1 b h1 h2
  have e2k : ∀ k, k ≠ 1 → k ≠ 4 → N2 (c + 2) k = N1 (c + 2) k := fun k h1 h2 => by rw [← hN2, upk h2, upk h1]
  have hx2 : TxC N2 c t := ⟨by rw [← hN2, upk (by omega), upv, ht1], by omega, fun i hi => by
    rw [e2 (c + 4) (by omega) (by omega)]
    exact htp i (by omega)⟩
  have e24 : N2 (c + 2) 4 = 0 := by rw [← hN2, upv]
  clear hN2
  obtain ⟨sf2, sK, sR'⟩ := scM_SF hC hZ e2 (by rw [e2k 9 (by omega) (by omega)]; exact e1k 9 (by omega))
  have hTT : TwoT (scM M c) := hT
  refine ge_p (c_next sf2.2.2.2.2.2.2 hTT hx2 (e := 0) (by rw [e24]; rfl) (by omega) (fun N3 n3 hx3 => w_jp (ge_jp (ge_jp ⟨rfl, ?_⟩))))
  have sf3 : SF c (mZ M) M N0 (scM M c) N3 := (scM_SF hC hZ (fun b h1 h2 => (n3.1 b h1).trans (e2 b h1 h2)) (by rw [n3.2 9 (Or.inr (by omega)), e2k 9 (by omega) (by omega)]; exact e1k 9 (by omega))).1
  show GE (scM M c) N3 (hdS c) _ _
  have hu := hx3.2.1
  refine g_top (A := mZ M) (N0 := N0) hZ.1 hT (t.1 + 1) (scM M c) N3 (tok t 0, 0, g) (fun _ => 0) 0 (fun _ => 0) (fun _ _ => 0) (by show t.1 < t.1 + 1 + (tok t 0).1; omega) ⟨sf3, hx3, ⟨?_, ?_, ?_, fun k hk => by omega⟩, ⟨sR', sK, Nat.le_refl _⟩, fun i hi => by omega, fun i j hi => by omega, ⟨by show 61 ≤ 62 - 1 + 0; omega, by show 540 ≤ 600 - 60 + 8 * 0; omega⟩, by show 0 + 0 ≤ 2 * 0; omega, by show 0 ≤ 30; omega, by show 0 ≤ 3; omega⟩ ⟨fun M4 N4 y ad4 op4 F4 e4 hS4 _ _ h4 => ?_, fun er e => hE er e⟩
  · rw [n3.2 10 (Or.inr (by omega)), e2k 10 (by omega) (by omega)]; exact e110
  · rw [n3.2 11 (Or.inr (by omega)), e2k 11 (by omega) (by omega)]; exact e111
  · rw [n3.2 12 (Or.inr (by omega)), e2k 12 (by omega) (by omega)]; exact e112
  · have hS4 : SS c (mZ M) M N0 M4 N4 t y.1 y.2.1 (mZ M) ad4 (0 + lnS y.2.2 0 y.2.1) 0 op4 F4 := hS4
    rw [Nat.zero_add] at hS4
    have hq := pTop_f (t.1 + 1) (tok t 0, 0, g) y hu (by show 0 ≤ 30; omega) e4
    refine g_head0 hS4 (pTop_0 _ _ _ e4) ?_
    have hr4 := hS4.cl.rd.1
    obtain ⟨f10, f11, f12, _⟩ := hS4.2.2.1
    unfold X2_script_b43 X2_script_b56
    refine ge_p (w_getI hr4 (w_jp ?_))
    rw [f12, z_0, z_1]
    refine ge_eq ⟨by omega, by omega⟩ ⟨by omega, by omega⟩ (fun _ => ?_) (fun x => absurd rfl x)
    refine gk_need1 hS4.cl ?_
    refine ge_p (w_getA hr4 hS4.2.2.2.1.1 (w_jp (ge_jp ?_)))
    obtain ⟨yu, yc, ya⟩ := y
    exact hQ M4 N4 yu yc ya (mZ M) ad4 op4 F4 e4 hq.2.2.1 hS4 h4
end RSC7
