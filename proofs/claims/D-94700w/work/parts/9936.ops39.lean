/-! RUN: the component's walk. -/
set_option maxRecDepth 100000
section OPS39
variable {α τ ρ σ : Type} {M M' M0 M1 M2 : Mem} {N N' N0 N1 : NM} {c m i j q n A : Nat} {u v z b d e t : Int} {k : Nat} {S S' : St} {H : Hs} {a : Nat → Int} {s : Scr} {ad : Nat → Nat} {Q : Int32 → Mem → NM → Prop}
noncomputable def lnF (s : Scr) : Nat := s.1 + cn s.1 (isBl s.2)
/-- where the steps stand -/
def PgC (M : Mem) (c : Nat) (s : Scr) (A : Nat) (ad : Nat → Nat) : Prop := mR M c 6 = some A ∧ mK M A = some (.inr (11, 60)) ∧ lnF s ≤ 60 ∧ c + 1603 ≤ A ∧
  (∀ i, i < lnF s → mR M A i = some (ad i) ∧ c + 1603 ≤ ad i ∧ mK M (ad i) = some (.inl 8)) ∧ ∀ i j, i < lnF s → j < lnF s → ad i = ad j → i = j
theorem PgC.bg (h : PgC M c s A ad) (hB : Bg c M M') : PgC M' c s A ad := by
  obtain ⟨h1, h2, h3, h4, h5, h6⟩ := h
  refine ⟨by rw [hB.r (by omega) (by omega)]; exact h1, by rw [hB.ke]; exact h2, h3, h4, fun i hi => ?_, h6⟩
  rw [hB.r (by omega) (by omega), hB.ke]
  exact h5 i hi
theorem PgC.of (h : CR M N c S) (hs : S.1.2.2 = some s) : ∃ A ad, PgC M c s A ad := by
  have hsc := h.2.1.2.2
  rw [hs] at hsc
  obtain ⟨A, L, F, g1, g2, ⟨y1, y2, y3, y4, y5⟩, ⟨g4, g6⟩, g5⟩ := hsc
  have hL : lnF s = L := g4.symm
  refine ⟨A, fun i => (mR M A i).getD 0, g1, y2, by omega, y1, fun i hi => ?_, fun i j hi hj e => ?_⟩
  · obtain ⟨q, e1, e2, e3, _⟩ := y4 i (by omega)
    show mR M A i = some ((mR M A i).getD 0) ∧ c + 1603 ≤ (mR M A i).getD 0 ∧ mK M ((mR M A i).getD 0) = some (.inl 8)
    rw [e1]
    exact ⟨rfl, e2, e3⟩
  · obtain ⟨q, e1, _⟩ := y4 i (by omega)
    obtain ⟨q', e1', _⟩ := y4 j (by omega)
    have e : (mR M A i).getD 0 = (mR M A j).getD 0 := e
    rw [e1, e1'] at e
    have e : q = q' := e
    exact y5 i j q (by omega) (by omega) e1 (by rw [e1', e])
/-- what stands there -/
theorem PgC.st (h : PgC M c s A ad) (hR : CR M N c S) (hs : S.1.2.2 = some s) : N c 7 = (lnF s : Nat) ∧ ScOk s ∧ ∀ i, i < s.1 → fpo s.2 i < lnF s ∧ StC M N (ad (fpo s.2 i)) (s.2 i) ∧
    (isBl s.2 i → fcl s i < lnF s ∧ N (ad (fpo s.2 i)) 6 = fcl s i ∧ N (ad (fcl s i)) 0 = 15 ∧ N (ad (fcl s i)) 6 = fpo s.2 i) := by
  have hsc := hR.2.1.2.2
  rw [hs] at hsc
  obtain ⟨A', L, F, g1, g2, ⟨y1, y2, y3, y4, y5⟩, ⟨g4, g6⟩, g5⟩ := hsc
  have hL : lnF s = L := g4.symm
  have eA : A' = A := by
    have := g1.symm.trans h.1
    exact Option.some.inj this
  subst eA
  have key : ∀ i, i < L → mK M (ad i) = some (.inl 8) ∧ ∀ k, k < 7 → N (ad i) k = F i k := fun i hi => by
    obtain ⟨q, e1, e2, e3, e4⟩ := y4 i hi
    have e := e1.symm.trans (h.2.2.2.2.1 i (by omega)).1
    obtain rfl := Option.some.inj e
    exact ⟨e3, e4⟩
  refine ⟨by rw [hL]; exact g2, g5, fun i hi => ?_⟩
  obtain ⟨z1, z2, z3, z4⟩ := g6 i hi
  refine ⟨by omega, ⟨(key _ z1).1, by rw [(key _ z1).2 0 (by omega)]; exact z2, z3.cg (fun k hk => (key _ z1).2 k hk)⟩, fun hb => ?_⟩
  obtain ⟨w1, w2, w3, w4⟩ := z4 hb
  exact ⟨by omega, by rw [(key _ z1).2 6 (by omega)]; exact w2, by rw [(key _ w1).2 0 (by omega)]; exact w3, by rw [(key _ w1).2 6 (by omega)]; exact w4⟩
/-- the rounds of a step are no part of the state -/
theorem CR.rnd (h : CR M N c S) (hK : mK M q = some (.inl 8)) (hq : c + 1603 ≤ q) (v : Int) : CR M (up2 N q 7 v) c S := by
  have lo : ∀ b, b < c + 1603 → up2 N q 7 v b = N b := fun b hb => upb (by omega)
  obtain ⟨h1, h2, ⟨h3, h3b, h3c⟩, ⟨h4, h4b⟩, ⟨h5, h5b, h5c⟩, hm, h6⟩ := h
  have tK : ∀ b d, c + 1603 ≤ b → mK M b = some d → mK M b = some d := fun _ _ _ x => x
  have tR : ∀ b, c + 1603 ≤ b → mK M b ≠ none → mR M b = mR M b := fun _ _ _ => rfl
  have tN : ∀ b, c + 1603 ≤ b → mK M b = some (.inl 8) → ∀ j, j < 7 → up2 N q 7 v b j = N b j := fun b _ _ j hj => if_neg (fun e => by omega)
  refine ⟨h1, h2.ag tK tR tN rfl (by rw [lo c (by omega)]) (lo _ (by omega)) (fun b x y => lo b (by omega)) (fun j hj b x y => lo b (by omega)), ⟨by rw [lo c (by omega)]; exact h3, h3b, fun k hk => ?_⟩, ⟨fun t ht => ?_, h4b⟩, ⟨by rw [lo _ (by omega)]; exact h5, h5b, by rw [lo _ (by omega)]; exact h5c⟩, ?_, h6⟩
  · have := h3c k hk
    unfold kpl at this ⊢
    exact this.ag tK tR tN rfl (by rw [lo _ (by omega)]) (lo _ (by omega)) (fun b x y => lo b (by omega)) (fun j hj b x y => lo b (by omega))
  · have hy := h4 t ht
    cases e3 : S.2.2.1 t with
    | none =>
      rw [e3] at hy
      show mR M (c + 258 + t) 0 = none ∧ up2 N q 7 v (c + 258 + t) 1 = 0
      rw [lo _ (by omega)]
      exact hy
    | some r =>
      rw [e3] at hy
      obtain ⟨y1, y2, y3, y4, y5⟩ := hy
      refine ⟨by rw [lo _ (by omega)]; exact y1, y2, y3, y4.ag (lo _ (by omega)) rfl (fun a ea _ => ⟨upb (fun e => ?_), rfl, rfl⟩), y5⟩
      obtain ⟨a', a1, a2, a3⟩ := y4
      rw [ea] at a1
      obtain rfl := Option.some.inj a1
      rw [e, hK] at a3
      rcases a3 with ⟨_, x, _⟩ | ⟨_, x, _⟩ | ⟨_, x, _⟩ | ⟨_, x, _⟩ <;> exact nomatch x
  · unfold MiC at hm ⊢
    rw [lo c (by omega)]
    exact hm
theorem CR.fld (h : CR M N c S) (hk : 40 ≤ k ∧ k ≤ 42) (v : Int) : CR M (up2 N c k v) c S := by
  obtain ⟨m0, m1, m2, m3, m4, m5, m6, m7, m8⟩ := h.2.2.2.2.2.1
  exact h.mi (by omega) (by omega) ⟨by rw [upk (by omega)]; exact m0, by rw [upk (by omega)]; exact m1, by rw [upk (by omega)]; exact m2, m3, m4, by rw [upk (by omega)]; exact m5, by rw [upk (by omega)]; exact m6, by rw [upk (by omega)]; exact m7, by rw [upk (by omega)]; exact m8⟩
/-- what the component holds of a run -/
def RsC (N : NM) (c : Nat) (R : RS) : Prop := N c 41 = R.2.1 ∧ N c 40 = R.2.2.1 ∧ N c 42 = R.2.2.2.1
def RkC (M0 : Mem) (N0 : NM) (M : Mem) (N : NM) (c : Nat) (S : St) (s : Scr) (R : RS) : Prop := R.1.2.2 = some s ∧ CR M N c (stH S R.1) ∧ RsC N c R ∧ (Bg c M0 M ∧ ∀ b, b < c ∨ c + 1567 ≤ b ∧ b < c + 1603 → N b = N0 b) ∧ R.2.1 ≤ 300 ∧ (R.2.2.2.2 = 0 → R.2.2.2.1 = 0)
/-- how many rounds are left, by where a step stands -/
noncomputable def rd (N : NM) (ad : Nat → Nat) (s : Scr) (j : Nat) : Int := N (ad (fpo s.2 j)) 7
def Hd (M : Mem) (N : NM) (c k : Nat) (Q : Int32 → Mem → NM → Prop) : Prop := GN M N (jloop (fun t => X0_run_L31 c t) (zI k)) Q
def Tl (M : Mem) (N : NM) (c k : Nat) (Q : Int32 → Mem → NM → Prop) : Prop := GN M N (jloop (fun t => X0_behindEnds_L2 c t) (zI k)) (fun v M1 N1 => GN M1 N1 (jloop (fun t => X0_run_L31 c t) v) Q)
theorem tl_of (hC : CL M c) (h : Tl M N c k Q) : GN M N (X0_run_b162 c c (zI k)) (LQ Q (fun t1 M1 N1 => GN M1 N1 (jloop (fun t => X0_run_L31 c t) t1) Q)) := by
  unfold X0_run_b162
  refine w_Cc hC ?_
  unfold f_X0_behindEnds
  exact gn_mono h (fun v M1 N1 q => w_jcontB q)
theorem hd_end (hC : CL M c) (h7 : N c 7 = (k : Nat)) (hk : k ≤ 60) (h : GN M N (X0_run_b169 c) Q) : Hd M N c k Q := by
  refine w_unroll ?_
  unfold X0_run_L31
  refine w_CI hC ?_
  rw [h7]
  exact w_le ⟨by omega, by omega⟩ ⟨by omega, by omega⟩ (fun _ => w_jinl h) (fun x => absurd x (by omega))
theorem tl_end (hC : CL M c) (h7 : N c 7 = (k : Nat)) (hk : k ≤ 60) (h : GN M N (X0_run_b169 c) Q) : Tl M N c k Q := by
  refine w_unroll ?_
  unfold X0_behindEnds_L2
  refine w_CI hC ?_
  rw [h7]
  exact w_le ⟨by omega, by omega⟩ ⟨by omega, by omega⟩ (fun _ => w_jinl (w_jp (hd_end hC h7 hk h))) (fun x => absurd x (by omega))
theorem tl_step (hC : CL M c) (hP : PgC M c s A ad) (h7 : N c 7 = (lnF s : Nat)) (hk : k < lnF s) (h15 : N (ad k) 0 < 15) (h0 : 0 ≤ N (ad k) 0) (h : Hd M N c k Q) : Tl M N c k Q := by
  have h60 := hP.2.2.1
  obtain ⟨p1, p2, p3⟩ := hP.2.2.2.2.1 k hk
  refine w_unroll ?_
  unfold X0_behindEnds_L2
  rw [z_15]
  refine w_CI hC ?_
  rw [h7]
  refine w_le ⟨by omega, by omega⟩ ⟨by omega, by omega⟩ (fun x => absurd x (by omega)) (fun _ => ?_)
  refine w_getA hC.kc hP.1 (w_aldA hP.2.1 (by omega) (by omega) p1 (w_getI p3 ?_))
  exact w_eq ⟨by omega, by omega⟩ ⟨by omega, by omega⟩ (fun x => absurd x (by omega)) (fun _ => w_jinl (w_jp h))
/-- at a block's end -/
theorem tl_close (hC : CL M c) (hP : PgC M c s A ad) (h7 : N c 7 = (lnF s : Nat)) (hk : k < lnF s) (h15 : N (ad k) 0 = 15) (hj : j < lnF s) (h6 : N (ad k) 6 = (j : Nat)) {kd : Int} (hkd : N (ad j) 0 = kd) (hz : zR kd)
    (h1 : kd ≠ 13 → Tl M N c (k + 1) Q) (h2 : kd = 13 → ∀ r : Int, N (ad j) 7 = r → 1 ≤ r → r ≤ 99 → (r = 1 → Tl M (up2 N (ad j) 7 0) c (k + 1) Q) ∧ (1 < r → Tl M (up2 N (ad j) 7 (r - 1)) c (j + 1) Q)) (hr : kd = 13 → 1 ≤ N (ad j) 7 ∧ N (ad j) 7 ≤ 99) : Tl M N c k Q := by
  have h60 := hP.2.2.1
  obtain ⟨p1, p2, p3⟩ := hP.2.2.2.2.1 k hk
  obtain ⟨q1, q2, q3⟩ := hP.2.2.2.2.1 j hj
  refine w_unroll ?_
  unfold X0_behindEnds_L2
  rw [z_15, z_13, z_0, z_1]
  refine w_CI hC ?_
  rw [h7]
  refine w_le ⟨by omega, by omega⟩ ⟨by omega, by omega⟩ (fun x => absurd x (by omega)) (fun _ => ?_)
  refine w_getA hC.kc hP.1 (w_aldA hP.2.1 (by omega) (by omega) p1 (w_getI p3 ?_))
  rw [h15]
  refine w_eq ⟨by omega, by omega⟩ ⟨by omega, by omega⟩ (fun _ => ?_) (fun x => absurd rfl x)
  refine w_getA hC.kc hP.1 (w_getA hC.kc hP.1 (w_aldA hP.2.1 (by omega) (by omega) p1 (w_getI p3 ?_)))
  rw [h6]
  refine w_aldA hP.2.1 (by omega) (by omega) q1 (w_getI q3 ?_)
  rw [hkd]
  refine w_eq hz ⟨by omega, by omega⟩ (fun e => ?_) (fun e => ?_)
  · obtain ⟨r1, r2⟩ := hr e
    obtain ⟨g1, g2⟩ := h2 e _ rfl r1 r2
    generalize hrr : N (ad j) 7 = r at *
    refine w_getI q3 ?_
    rw [hrr, zI_sub]
    refine w_putI q3 (w_getI q3 ?_)
    rw [upv]
    unfold X0_behindEnds_b73 X0_behindEnds_b75 X0_behindEnds_b97
    rw [z_0, z_1]
    refine w_le ⟨by omega, by omega⟩ ⟨by omega, by omega⟩ (fun e2 => ?_) (fun e2 => ?_)
    · obtain rfl : r = 1 := by omega
      refine w_eq ⟨by omega, by omega⟩ ⟨by omega, by omega⟩ (fun _ => ?_) (fun x => absurd rfl x)
      rw [zI_add, show ((k : Int) + 1) = ((k + 1 : Nat) : Int) by omega]
      exact w_jcontB (g1 rfl)
    · refine w_eq ⟨by omega, by omega⟩ ⟨by omega, by omega⟩ (fun x => absurd x (by decide)) (fun _ => ?_)
      refine w_getA hC.kc hP.1 (w_aldA hP.2.1 (by omega) (by omega) p1 (w_getI p3 ?_))
      rw [show up2 N (ad j) 7 (r - 1) (ad k) 6 = (j : Nat) from (if_neg (fun x => by omega)).trans h6, zI_add, show ((j : Int) + 1) = ((j + 1 : Nat) : Int) by omega]
      exact w_jcontB (g2 (by omega))
  · unfold X0_behindEnds_b75 X0_behindEnds_b97
    rw [z_0, z_1]
    refine w_eq ⟨by omega, by omega⟩ ⟨by omega, by omega⟩ (fun _ => ?_) (fun x => absurd rfl x)
    rw [zI_add, show ((k : Int) + 1) = ((k + 1 : Nat) : Int) by omega]
    exact w_jcontB (h1 e)
theorem fpo_lt {A : Nat → Nat → Int} (h : j < i) : fpo A j < fpo A i := by
  unfold fpo
  have h1 := cn_up (P := fun l => isBl A l ∧ nxt A l ≤ j) (k := j) i (by omega)
  have h2 := cn_mono (n := i) (P := fun l => isBl A l ∧ nxt A l ≤ j) (Q := fun l => isBl A l ∧ nxt A l ≤ i) (fun l _ x => ⟨x.1, by omega⟩)
  omega
theorem rAll_over {one : Nat → RS → RS} {nx : Nat → Nat} {to f i : Nat} {R : RS} (h : R.2.2.2.2 ≠ 0) : rAll one nx to f i R = R := by
  cases f with
  | zero => rfl
  | succ f =>
    show (if to ≤ i ∨ R.2.2.2.2 ≠ 0 then R else _) = R
    exact if_pos (Or.inr h)
theorem rAll_end {one : Nat → RS → RS} {nx : Nat → Nat} {to f i : Nat} {R : RS} (h : to ≤ i) : rAll one nx to f i R = R := by
  cases f with
  | zero => rfl
  | succ f =>
    show (if to ≤ i ∨ R.2.2.2.2 ≠ 0 then R else _) = R
    exact if_pos (Or.inl h)
theorem rLoop_over {body : RS → RS} {r : Nat} {R : RS} (h : R.2.2.2.2 ≠ 0) : rLoop body r R = R := by
  cases r with
  | zero => rfl
  | succ r =>
    show (if R.2.2.2.2 ≠ 0 then R else _) = R
    exact if_pos h
def OneC (M0 : Mem) (N0 : NM) (c : Nat) (S : St) (s : Scr) (ad : Nat → Nat) (one : Nat → RS → RS) (P : Nat → Prop) : Prop := ∀ i, i < s.1 → P i → ∀ (R : RS) (M : Mem) (N : NM) (Q : Int32 → Mem → NM → Prop), RkC M0 N0 M N c S s R → R.2.2.2.2 = 0 →
  (∀ M' N', RkC M0 N0 M' N' c S s (one i R) → (one i R).2.2.2.2 = 0 → (∀ j, j < i → rd N' ad s j = rd N ad s j) → Tl M' N' c (aft s i) Q) →
  (∀ M' N', RkC M0 N0 M' N' c S s (one i R) → (one i R).2.2.2.2 ≠ 0 → GN M' N' (X0_run_b169 c) Q) → Hd M N c (fpo s.2 i) Q
/-- a row of steps -/
theorem c_all {one : Nat → RS → RS} {P : Nat → Prop} {b1 to E : Nat} (hO : ScOk s) (hP0 : PgC M0 c s A ad) (h1 : OneC M0 N0 c S s ad one P) (hT : ∀ i, b1 ≤ i → i < to → nxt s.2 i ≤ to) (hE : ∀ i, b1 ≤ i → Dir s b1 i to → nxt s.2 i = to → aft s i = E) :
    ∀ f i, to < i + f → b1 ≤ i → Dir s b1 i to → (∀ j, i ≤ j → j < to → P j) → ∀ (R : RS) (M : Mem) (N : NM) (Q : Int32 → Mem → NM → Prop), RkC M0 N0 M N c S s R → R.2.2.2.2 = 0 →
    (∀ M' N', RkC M0 N0 M' N' c S s (rAll one (nxt s.2) to f i R) → (rAll one (nxt s.2) to f i R).2.2.2.2 = 0 → (∀ j, j < i → rd N' ad s j = rd N ad s j) → Tl M' N' c E Q) →
    (∀ M' N', RkC M0 N0 M' N' c S s (rAll one (nxt s.2) to f i R) → (rAll one (nxt s.2) to f i R).2.2.2.2 ≠ 0 → GN M' N' (X0_run_b169 c) Q) → Hd M N c (fpo s.2 i) Q := by
  intro f
  induction f with
  | zero => intro i hf _ hD; have := hD.1; omega
  | succ f ih =>
    intro i hf hb hD hPj R M N Q hR hov k1 k2
    have hi := hD.s1
    have hl := hO.lt hi
    have hto := hD.1
    have eR : rAll one (nxt s.2) to (f + 1) i R = rAll one (nxt s.2) to f (nxt s.2 i) (one i R) := by
      show (if to ≤ i ∨ R.2.2.2.2 ≠ 0 then R else _) = _
      exact if_neg (by omega)
    rw [eR] at k1 k2
    refine h1 i hi (hPj i (Nat.le_refl _) hto) R M N Q hR hov (fun M' N' hR' hov' hrd => ?_) (fun M' N' hR' hov' => ?_)
    · by_cases e : nxt s.2 i = to
      · rw [rAll_end (by omega)] at k1
        rw [hE i hb hD e]
        exact k1 M' N' hR' hov' hrd
      · have hlt : nxt s.2 i < to := by have := hT i hb hto; omega
        rw [aft_A hO hD hlt]
        have hPg := hP0.bg hR'.2.2.2.1.1
        obtain ⟨s1, _, s3⟩ := hPg.st hR'.2.1 hR'.1
        have hn : nxt s.2 i < s.1 := by have := hD.2.1; omega
        obtain ⟨s4, s5, _⟩ := s3 _ hn
        have hk0 := hO.2 _ hn
        refine tl_step hR'.2.1.cl hPg s1 s4 (by rw [s5.2.1]; omega) (by rw [s5.2.1]; omega) ?_
        exact ih (nxt s.2 i) (by omega) (by omega) (hD.nx hO hlt) (fun j a b => hPj j (by omega) b) _ M' N' Q hR' hov' (fun M2 N2 a b d => k1 M2 N2 a b (fun j hj => (d j (by omega)).trans (hrd j hj))) k2
    · rw [rAll_over hov'] at k2
      exact k2 M' N' hR' hov'
/-- a block's steps -/
theorem c_body {d : Nat} (hO : ScOk s) (hP0 : PgC M0 c s A ad) (h1 : OneC M0 N0 c S s ad (rOne s d) (fun i => 8 ≤ d + dpt s i)) (hi : i < s.1) (hb : isBl s.2 i) (hd : 8 ≤ d + 1 + dpt s i) (R : RS) (M : Mem) (N : NM) (Q : Int32 → Mem → NM → Prop) (hR : RkC M0 N0 M N c S s R) (hov : R.2.2.2.2 = 0)
    (k1 : ∀ M' N', RkC M0 N0 M' N' c S s (rAll (rOne s d) (nxt s.2) (nxt s.2 i) 31 (i + 1) R) → (rAll (rOne s d) (nxt s.2) (nxt s.2 i) 31 (i + 1) R).2.2.2.2 = 0 → (∀ j, j ≤ i → rd N' ad s j = rd N ad s j) → Tl M' N' c (fcl s i) Q)
    (k2 : ∀ M' N', RkC M0 N0 M' N' c S s (rAll (rOne s d) (nxt s.2) (nxt s.2 i) 31 (i + 1) R) → (rAll (rOne s d) (nxt s.2) (nxt s.2 i) 31 (i + 1) R).2.2.2.2 ≠ 0 → GN M' N' (X0_run_b169 c) Q) : Tl M N c (fpo s.2 i + 1) Q := by
  have hl := hO.lt hi
  have h30 := hO.1
  by_cases e : nxt s.2 i = i + 1
  · rw [rAll_end (by omega)] at k1
    rw [← fcl_in hO hi hb e]
    exact k1 M N hR hov (fun _ _ => rfl)
  · have hD := Dir.st hO hi (show i + 1 < nxt s.2 i by omega)
    rw [← fpo_in hO hi hb (by omega)]
    have hPg := hP0.bg hR.2.2.2.1.1
    obtain ⟨s1, _, s3⟩ := hPg.st hR.2.1 hR.1
    have hn : i + 1 < s.1 := by omega
    obtain ⟨s4, s5, _⟩ := s3 _ hn
    have hk0 := hO.2 _ hn
    refine tl_step hR.2.1.cl hPg s1 s4 (by rw [s5.2.1]; omega) (by rw [s5.2.1]; omega) ?_
    refine c_all (E := fcl s i) hO hP0 h1 (fun j a b => hO.nest hi (by omega) b) (fun j a b e2 => aft_B hO hi b (by omega) e2) 31 (i + 1) (by omega) (Nat.le_refl _) hD (fun j a b => ?_) R M N Q hR hov (fun M' N' x y w => k1 M' N' x y (fun j hj => w j (by omega))) k2
    have := dpt_in hO hi (show i < j by omega) b
    show 8 ≤ d + dpt s j
    omega
/-- rounds of a loop -/
theorem c_rounds {d : Nat} (hO : ScOk s) (hP0 : PgC M0 c s A ad) (h1 : OneC M0 N0 c S s ad (rOne s d) (fun i => 8 ≤ d + dpt s i)) (hi : i < s.1) (h7 : s.2 i 0 = 7) (hd : 8 ≤ d + 1 + dpt s i) :
    ∀ r, r < 99 → ∀ (R : RS) (M : Mem) (N : NM) (Q : Int32 → Mem → NM → Prop), RkC M0 N0 M N c S s R → R.2.2.2.2 = 0 → rd N ad s i = (r + 1 : Nat) →
    (∀ M' N', RkC M0 N0 M' N' c S s (rLoop (rAll (rOne s d) (nxt s.2) (nxt s.2 i) 31 (i + 1)) (r + 1) R) → (rLoop (rAll (rOne s d) (nxt s.2) (nxt s.2 i) 31 (i + 1)) (r + 1) R).2.2.2.2 = 0 → (∀ j, j < i → rd N' ad s j = rd N ad s j) → Tl M' N' c (fcl s i + 1) Q) →
    (∀ M' N', RkC M0 N0 M' N' c S s (rLoop (rAll (rOne s d) (nxt s.2) (nxt s.2 i) 31 (i + 1)) (r + 1) R) → (rLoop (rAll (rOne s d) (nxt s.2) (nxt s.2 i) 31 (i + 1)) (r + 1) R).2.2.2.2 ≠ 0 → GN M' N' (X0_run_b169 c) Q) → Tl M N c (fpo s.2 i + 1) Q := by
  have hb : isBl s.2 i := Or.inr h7
  intro r
  induction r with
  | zero =>
    intro hr R M N Q hR hov hrd k1 k2
    have eR : rLoop (rAll (rOne s d) (nxt s.2) (nxt s.2 i) 31 (i + 1)) (0 + 1) R = rAll (rOne s d) (nxt s.2) (nxt s.2 i) 31 (i + 1) R := by
      show (if R.2.2.2.2 ≠ 0 then R else _) = _
      rw [if_neg (by omega)]
      rfl
    rw [eR] at k1 k2
    refine c_body hO hP0 h1 hi hb hd R M N Q hR hov (fun M' N' hR' hov' hf => ?_) k2
    have hPg := hP0.bg hR'.2.2.2.1.1
    obtain ⟨s1, _, s3⟩ := hPg.st hR'.2.1 hR'.1
    obtain ⟨s4, s5, s6⟩ := s3 i hi
    obtain ⟨w1, w2, w3, w4⟩ := s6 hb
    have hrd' : N' (ad (fpo s.2 i)) 7 = 1 := (hf i (Nat.le_refl _)).trans hrd
    obtain ⟨_, p2, p3⟩ := hPg.2.2.2.2.1 _ s4
    refine tl_close hR'.2.1.cl hPg s1 w1 w3 s4 w4 (kd := 13) (by rw [s5.2.1]; omega) ⟨by omega, by omega⟩ (fun x => absurd rfl x) (fun _ r e1 e2 e3 => ⟨fun e4 => ?_, fun e4 => by omega⟩) (fun _ => by omega)
    refine k1 M' _ ?_ hov' (fun j hj => ?_)
    · obtain ⟨x1, x2, ⟨x3, x4, x5⟩, x6, x7⟩ := hR'
      have ec : up2 N' (ad (fpo s.2 i)) 7 0 c = N' c := upb (by omega)
      exact ⟨x1, x2.rnd p3 p2 0, ⟨by rw [ec]; exact x3, by rw [ec]; exact x4, by rw [ec]; exact x5⟩, ⟨x6.1, fun b hb => by rw [upb (by omega)]; exact x6.2 b hb⟩, x7⟩
    · have hj4 := (s3 j (by omega)).1
      have hne : ad (fpo s.2 j) ≠ ad (fpo s.2 i) := fun x => by
        have x := hPg.2.2.2.2.2 _ _ hj4 s4 x
        have y1 : N' (ad (fpo s.2 j)) 0 = N' (ad (fpo s.2 i)) 0 := by rw [x]
        have := fpo_lt (A := s.2) hj
        omega
      show up2 N' (ad (fpo s.2 i)) 7 0 (ad (fpo s.2 j)) 7 = _
      rw [upb hne]
      exact hf j (by omega)
  | succ r ih =>
    intro hr R M N Q hR hov hrd k1 k2
    have eR : rLoop (rAll (rOne s d) (nxt s.2) (nxt s.2 i) 31 (i + 1)) (r + 1 + 1) R = rLoop (rAll (rOne s d) (nxt s.2) (nxt s.2 i) 31 (i + 1)) (r + 1) (rAll (rOne s d) (nxt s.2) (nxt s.2 i) 31 (i + 1) R) := by
      show (if R.2.2.2.2 ≠ 0 then R else _) = _
      rw [if_neg (by omega)]
    rw [eR] at k1 k2
    refine c_body hO hP0 h1 hi hb hd R M N Q hR hov (fun M' N' hR' hov' hf => ?_) (fun M' N' hR' hov' => by
      rw [rLoop_over hov'] at k2
      exact k2 M' N' hR' hov')
    have hPg := hP0.bg hR'.2.2.2.1.1
    obtain ⟨s1, _, s3⟩ := hPg.st hR'.2.1 hR'.1
    obtain ⟨s4, s5, s6⟩ := s3 i hi
    obtain ⟨w1, w2, w3, w4⟩ := s6 hb
    have hrd' : N' (ad (fpo s.2 i)) 7 = (r + 1 + 1 : Nat) := (hf i (Nat.le_refl _)).trans hrd
    obtain ⟨_, p2, p3⟩ := hPg.2.2.2.2.1 _ s4
    refine tl_close hR'.2.1.cl hPg s1 w1 w3 s4 w4 (kd := 13) (by rw [s5.2.1]; omega) ⟨by omega, by omega⟩ (fun x => absurd rfl x) (fun _ r' e1 e2 e3 => ⟨fun e4 => by omega, fun e4 => ?_⟩) (fun _ => by omega)
    have er : r' - 1 = (r + 1 : Nat) := by omega
    rw [er]
    refine ih (by omega) _ M' _ Q ?_ hov' (by unfold rd; rw [upv]) (fun M2 N2 x y w => k1 M2 N2 x y (fun j hj => (w j hj).trans ?_)) k2
    · obtain ⟨x1, x2, ⟨x3, x4, x5⟩, x6, x7⟩ := hR'
      have ec : up2 N' (ad (fpo s.2 i)) 7 (r + 1 : Nat) c = N' c := upb (by omega)
      exact ⟨x1, x2.rnd p3 p2 _, ⟨by rw [ec]; exact x3, by rw [ec]; exact x4, by rw [ec]; exact x5⟩, ⟨x6.1, fun b hb => by rw [upb (by omega)]; exact x6.2 b hb⟩, x7⟩
    · have hj4 := (s3 j (by omega)).1
      have hne : ad (fpo s.2 j) ≠ ad (fpo s.2 i) := fun x => by
        have x := hPg.2.2.2.2.2 _ _ hj4 s4 x
        have := fpo_lt (A := s.2) hj
        omega
      show up2 N' (ad (fpo s.2 i)) 7 _ (ad (fpo s.2 j)) 7 = _
      rw [upb hne]
      exact hf j (by omega)
end OPS39
