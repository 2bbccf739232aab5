/-! World.rank -/
set_option maxRecDepth 100000
section RANKS
variable {τ : Type} {M M' : Mem} {N N' : NM} {c a w n k : Nat} {p : Int} {T : Nat → Nat → Nat → Int} {A : Nat → Nat → Int}
theorem RP.fr (h : RP M a n k) {R' : Nat → Nat → Option Nat} (e : R' a = mR M a) : RP (sR M R') a n k := by
  obtain ⟨h1, σ, h2, h3⟩ := h
  exact ⟨h1, σ, fun r hr => ⟨(h2 r hr).1, by show R' a r = _; rw [e]; exact (h2 r hr).2⟩, h3⟩
/-- what has been worked on so far -/
def RkI (p : Int) (wide many : Nat) (A : Nat → Nat → Int) (rk col : Nat) (B : Nat → Nat → Int) (ld : Nat → Nat) : Prop :=
  (∀ r k, 0 ≤ B r k ∧ B r k < p) ∧ Rs p wide many B = Rs p wide many A ∧ (∀ q, q < rk → Ldv p wide (B q) (ld q) ∧ ld q < col) ∧ (∀ q s, q < s → s < rk → ld q < ld s) ∧ ∀ r, rk ≤ r → r < many → ∀ k, k < col → B r k = 0
theorem RkI.fin {wide many rk col : Nat} {B : Nat → Nat → Int} {ld : Nat → Nat} (hp : Pr p) (h : RkI p wide many A rk col B ld) (hrk : rk ≤ many) (he : col = wide ∨ rk = many) : dm p wide (Rs p wide many A) = rk := by
  obtain ⟨_, h2, h3, h4, h5⟩ := h
  rw [← h2, Rs.cut hrk (fun i h6 h7 k hk => ?_)]
  · exact rank_fw hp (fun r hr => (h3 r hr).1) h4
  · rcases he with e | e
    · exact Cg.of (h5 i h6 h7 k (by omega))
    · omega
theorem RkI.skip {wide many rk col : Nat} {B : Nat → Nat → Int} {ld : Nat → Nat} (h : RkI p wide many A rk col B ld) (hz : ∀ i, rk ≤ i → i < many → B i col = 0) : RkI p wide many A rk (col + 1) B ld := by
  obtain ⟨h1, h2, h3, h4, h5⟩ := h
  refine ⟨h1, h2, fun q hq => ⟨(h3 q hq).1, by have := (h3 q hq).2; omega⟩, h4, fun r h6 h7 k hk => ?_⟩
  by_cases e : k = col
  · rw [e]; exact hz r h6 h7
  · exact h5 r h6 h7 k (by omega)
/-- the new rows -/
def rkU (p : Int) (B : Nat → Nat → Int) (r : Nat) (a : Int) : Nat → Int := fun k => B r k * a % p
def rkS (B : Nat → Nat → Int) (rk r i : Nat) : Nat → Int := if i = r then B rk else B i
def rkV (p : Int) (B : Nat → Nat → Int) (rk r col : Nat) (a : Int) (i : Nat) : Nat → Int := fun k => (rkS B rk r i k - rkS B rk r i col * rkU p B r a k) % p
theorem RkI.step {wide many rk col r : Nat} {B : Nat → Nat → Int} {ld : Nat → Nat} {a : Int} (hp : Pr p) (h : RkI p wide many A rk col B ld) (h1 : rk ≤ r) (h2 : r < many) (hcol : col < wide) (hne : B r col ≠ 0) (ha : Iv p (B r col) a) :
    RkI p wide many A (rk + 1) (col + 1) (fun q => if q < rk then B q else if q = rk then rkU p B r a else rkV p B rk r col a q) (fun q => if q < rk then ld q else col) := by
  obtain ⟨g1, g2, g3, g4, g5⟩ := h
  have hpp := hp.pos
  have hS0 : ∀ i, rk < i → i < many → ∀ k, k < col → rkS B rk r i k = 0 := fun i hi hm k hk => by
    unfold rkS
    split
    · exact g5 rk (Nat.le_refl _) (by omega) k hk
    · exact g5 i (by omega) hm k hk
  have hU0 : ∀ k, k < col → rkU p B r a k = 0 := fun k hk => by
    unfold rkU
    rw [g5 r h1 h2 k hk, Int.zero_mul, Int.zero_emod]
  have hU1 : Cg p (rkU p B r a col) 1 := by
    unfold rkU
    have := ha.2.2
    rw [Int.mul_comm] at this
    exact (Cg.mod p _).tr this
  refine ⟨fun q k => ?_, ?_, fun q hq => ?_, fun q s hqs hs => ?_, fun i hi hm k hk => ?_⟩
  · show 0 ≤ (if q < rk then B q else if q = rk then rkU p B r a else rkV p B rk r col a q) k ∧ (if q < rk then B q else if q = rk then rkU p B r a else rkV p B rk r col a q) k < p
    split
    · exact g1 q k
    · split
      · exact ⟨Int.emod_nonneg _ (by omega), Int.emod_lt_of_pos _ (by omega)⟩
      · exact ⟨Int.emod_nonneg _ (by omega), Int.emod_lt_of_pos _ (by omega)⟩
  · rw [← g2]
    refine (Rs.step (a := a) (rk := rk) (r := r) (col := col) h1 h2 ha.2.2 (fun q hq => if_pos hq) ?_ (fun i hi hm => ?_)).symm
    · rw [if_neg (Nat.lt_irrefl rk), if_pos rfl]
      intro k _
      show Cg p (B r k * a % p) (a * B r k)
      rw [Int.mul_comm a]
      exact Cg.mod p _
    · simp only [if_neg (Nat.lt_irrefl rk), if_neg (show ¬ i < rk by omega), if_neg (show ¬ i = rk by omega), if_true]
      intro k _
      exact Cg.mod p _
  · by_cases c1 : q < rk
    · simp only [if_pos c1]
      exact ⟨(g3 q c1).1, by have := (g3 q c1).2; omega⟩
    · have c2 : q = rk := by omega
      simp only [if_neg c1, if_pos c2]
      exact ⟨⟨hcol, fun e => hp.one (hU1.sy.tr e), fun k hk => Cg.of (hU0 k hk)⟩, by omega⟩
  · by_cases c1 : s < rk
    · simp only [if_pos c1, if_pos (show q < rk by omega)]
      exact g4 q s hqs c1
    · simp only [if_neg c1, if_pos (show q < rk by omega)]
      exact (g3 q (by omega)).2
  · simp only [if_neg (show ¬ i < rk by omega), if_neg (show ¬ i = rk by omega)]
    show (rkS B rk r i k - rkS B rk r i col * rkU p B r a k) % p = 0
    by_cases e : k = col
    · rw [e]
      refine Cg.zero_iff.mp ?_
      have := (Cg.rf (p := p) (a := rkS B rk r i col)).sub (Cg.ml (rkS B rk r i col) hU1)
      refine this.tr (Cg.of (by omega))
    · rw [hS0 i (by omega) hm k (by omega), hU0 k (by omega), Int.mul_zero, Int.sub_zero, Int.zero_emod]
theorem w_rank {f : Int32 → JM Mem τ} {Q : τ → Mem → NM → Prop} {many wide : Nat} (hC : CL M c) (hW : WL M w) (hD : WD N w p n T) (hw : w + 32 ≤ c + 117 ∨ c + 212 ≤ w) (hm : many ≤ 64) (hwd : wide ≤ 32)
    (hA : ∀ r k, r < many → k < wide → N (rpl M (c + 117) r) k = A r k) (hAb : ∀ r k, 0 ≤ A r k ∧ A r k < p)
    (h : ∀ M' N', Bg c M M' → (∀ b, b < c + 118 ∨ c + 182 ≤ b → N' b = N b) → GN M' N' (f (zI (dm p wide (Rs p wide many A) : Nat))) Q) :
    GN M N (jb (jcall 3 w (f_X4_rank w (c + 117) (zI many) (zI wide))) f) Q := by
  have hpb := hD.pb
  have hp := hD.pr
  refine w_call hW.1 ?_
  unfold f_X4_rank
  refine w_loopB (fun d t M1 N1 => ∃ rk col B ld, t = (zI (rk : Nat), zI (col : Nat)) ∧ d = wide - col ∧ col ≤ wide ∧ rk ≤ many ∧ Bg c M M1 ∧ (∀ b, b < c + 118 ∨ c + 182 ≤ b → N1 b = N b) ∧
      (∀ r k, r < many → k < wide → N1 (rpl M1 (c + 117) r) k = B r k) ∧ RkI p wide many A rk col B ld) wide _
    ⟨0, 0, A, fun _ => 0, rfl, rfl, by omega, by omega, Bg.rf hC, fun _ _ => rfl, hA, hAb, rfl, fun q hq => by omega, fun q s _ hs => by omega, fun r _ _ k hk => by omega⟩ ?_
  rintro d t M1 N1 ⟨rk, col, B, ld, rfl, rfl, hcol, hrk, hb, hfr, hB, hI⟩
  show GN M1 N1 (X4_rank_L6 w (c + 117) (zI _) (zI _) (zI _) (zI _)) _
  have hC1 := hC.bg hb
  have hW1 := hW.bg hb (by omega)
  have frw : ∀ N1 : NM, (∀ b, b < c + 118 ∨ c + 182 ≤ b → N1 b = N b) → WD N1 w p n T := fun N1 g => hD.fr (fun b h1 h2 => g b (by omega))
  have hRP := hC1.ro
  unfold X4_rank_L6
  refine w_le ⟨by omega, by omega⟩ ⟨by omega, by omega⟩ (fun hc => ?_) (fun hc => ?_)
  · have := hI.fin hp hrk (Or.inl (by omega))
    rw [← this]
    exact w_jinl (w_jp (h M1 N1 hb hfr))
  refine w_le ⟨by omega, by omega⟩ ⟨by omega, by omega⟩ (fun hc2 => ?_) (fun hc2 => ?_)
  · have := hI.fin hp hrk (Or.inr (by omega))
    rw [← this]
    exact w_jinl (w_jp (h M1 N1 hb hfr))
  refine w_up many (fun r N2 => N2 = N1 ∧ rk ≤ r ∧ ∀ i, rk ≤ i → i < r → B i col = 0) rk rfl hrk ⟨rfl, Nat.le_refl _, fun i h1 h2 => by omega⟩ ?_
  rintro r N2 hr ⟨rfl, hrr, hz⟩
  unfold X4_rank_L22
  refine w_le ⟨by omega, by omega⟩ ⟨by omega, by omega⟩ (fun hd => ?_) (fun hd => ?_)
  · refine w_jinl ?_
    unfold X4_rank_b44
    refine w_eq ⟨by omega, by omega⟩ ⟨by omega, by omega⟩ (fun he => ?_) (fun he => absurd (show (r : Int) = many by omega) he)
    unfold X4_rank_b196
    rw [z_1, zI_add]
    exact w_jcontB ⟨wide - (col + 1), by omega, rk, col + 1, B, ld, rfl, rfl, by omega, hrk, hb, hfr, hB, hI.skip (fun i h1 h2 => hz i h1 (by omega))⟩
  have hrm : r < many := by omega
  refine w_Rp (hC1.ka rfl) hRP (by omega) (by omega) ?_
  refine w_ald (hRP.ra (show r < 64 by omega)).2.2.2 (by omega) (by omega) ?_
  rw [show ((col : Int).toNat) = col from rfl, hB r col hrm (by omega), z_0]
  have hBr := hI.1 r col
  refine w_eq ⟨by omega, by omega⟩ ⟨by omega, by omega⟩ (fun he => ?_) (fun he => ?_)
  · rw [z_1, zI_add]
    refine w_jcont ⟨hrm, rfl, rfl, by omega, fun i h1 h2 => ?_⟩
    by_cases e : i = r
    · rw [e]; exact he
    · exact hz i h1 (by omega)
  refine w_jinl ?_
  unfold X4_rank_b44
  refine w_eq ⟨by omega, by omega⟩ ⟨by omega, by omega⟩ (fun he2 => by omega) (fun he2 => ?_)
  refine w_Rp (hC1.ka rfl) hRP (by omega) (by omega) ?_
  refine w_Rp (hC1.ka rfl) hRP (by omega) (by omega) ?_
  have hka := hC1.ka (o := 117) (d := (5, 64)) rfl
  refine w_astr hka (by omega) (by omega) (hRP.ra (show rk < 64 by omega)).2.2.2 ?_
  refine w_astr (M := sR M1 _) hka (by omega) (by omega) (hRP.ra (show r < 64 by omega)).2.2.2 ?_
  have hsw := RP.swap hRP (r := r) (q := rk) (by omega) (by omega) (fun i hi => by have := (hRP.ra hi).2.1; omega)
  have hb2 : Bg c M1 (sR M1 (up2 (up2 (mR M1) (c + 117) r (some (rpl M1 (c + 117) rk))) (c + 117) rk (some (rpl M1 (c + 117) r)))) := by
    refine ⟨⟨_, rfl, fun b h1 h2 => ?_⟩, hsw.1, hC1.sq.fr ?_⟩
    · funext j
      show (if b = c + 117 ∧ _ then _ else if b = c + 117 ∧ _ then _ else mR M1 b j) = _
      rw [if_neg (by omega), if_neg (by omega)]
    · funext j
      show (if c + 211 = c + 117 ∧ _ then _ else if c + 211 = c + 117 ∧ _ then _ else mR M1 (c + 211) j) = _
      rw [if_neg (by omega), if_neg (by omega)]
  show GN (sR M1 (up2 (up2 (mR M1) (c + 117) r (some (rpl M1 (c + 117) rk))) (c + 117) rk (some (rpl M1 (c + 117) r)))) N2 _ _
  obtain ⟨hRP2, had⟩ := hsw
  generalize sR M1 (up2 (up2 (mR M1) (c + 117) r (some (rpl M1 (c + 117) rk))) (c + 117) rk (some (rpl M1 (c + 117) r))) = M2 at hb2 hRP2 had
  have hC2 := hC1.bg hb2
  have hW2 := hW1.bg hb2 (by omega)
  have hbb := hb.tr hb2
  have hL : rpl M1 (c + 117) r = rpl M2 (c + 117) rk := by rw [had rk (by omega), if_pos rfl]
  rw [hL]
  have hrow : ∀ q k, q < many → k < wide → N2 (rpl M2 (c + 117) q) k = if q = rk then B r k else rkS B rk r q k := by
    intro q k hq hk
    rw [had q (by omega)]
    by_cases c1 : q = rk
    · rw [if_pos c1, if_pos c1]; exact hB r k hrm hk
    · rw [if_neg c1, if_neg c1]
      unfold rkS
      by_cases c2 : q = r
      · rw [if_pos c2, if_pos c2]; exact hB rk k (by omega) hk
      · rw [if_neg c2, if_neg c2]; exact hB q k hq hk
  have hin : ∀ q, q < 64 → c + 117 < rpl M2 (c + 117) q ∧ rpl M2 (c + 117) q ≤ c + 181 ∧ mK M2 (rpl M2 (c + 117) q) = some (.inr (0, 32)) := fun q hq => ⟨(hRP2.ra hq).2.1, by have := (hRP2.ra hq).2.2.1; omega, (hRP2.ra hq).2.2.2⟩
  have hne : ∀ q s, q < 64 → s < 64 → q ≠ s → rpl M2 (c + 117) q ≠ rpl M2 (c + 117) s := fun q s hq hs hqs e => hqs (hRP2.inj hq hs e)
  generalize hadd : rpl M2 (c + 117) = ad at hrow hin hne hL
  have hrk64 : rk < 64 := by omega
  have hLi := hin rk hrk64
  refine w_ald hLi.2.2 (by omega) (by omega) ?_
  rw [show ((col : Int).toNat) = col from rfl, hrow rk col (by omega) (by omega), if_pos rfl]
  refine w_inverse hW2 (by rw [(frw N2 hfr).pe]; exact hp) (by rw [(frw N2 hfr).pe]; omega) (fun a ha => ?_)
  rw [(frw N2 hfr).pe] at ha
  have ha1 := ha.1
  have ha2 := ha.2.1
  have hstep := hI.step hp hrr hrm (by omega) he ha
  have hBb := hI.1
  have hSb : ∀ i k, 0 ≤ rkS B rk r i k ∧ rkS B rk r i k < p := fun i k => by
    unfold rkS
    split
    · exact hBb rk k
    · exact hBb i k
  have hUb : ∀ k, 0 ≤ rkU p B r a k ∧ rkU p B r a k < p := fun k => ⟨Int.emod_nonneg _ (by omega), Int.emod_lt_of_pos _ (by omega)⟩
  have hB0 : ∀ i, rk ≤ i → i < many → ∀ k, k < col → B i k = 0 := hI.2.2.2.2
  have hU0 : ∀ k, k < col → rkU p B r a k = B r k := fun k hk => by
    unfold rkU
    rw [hB0 r hrr hrm k hk, Int.zero_mul, Int.zero_emod]
  have hV0 : ∀ i, rk < i → i < many → ∀ k, k < col → rkV p B rk r col a i k = rkS B rk r i k := fun i h1 h2 k hk => by
    unfold rkV
    have : rkS B rk r i k = 0 := by
      unfold rkS
      split
      · exact hB0 rk (Nat.le_refl _) (by omega) k hk
      · exact hB0 i (by omega) h2 k hk
    rw [this, hU0 k hk, hB0 r hrr hrm k hk, Int.mul_zero, Int.sub_zero, Int.zero_emod]
  -- the leading row is scaled
  refine w_up wide (fun k N3 => (∀ j, j < wide → N3 (ad rk) j = if j < k then rkU p B r a j else B r j) ∧ ∀ b, b ≠ ad rk → N3 b = N2 b) col rfl (by omega)
    ⟨fun j hj => by rw [hrow rk j (by omega) hj, if_pos rfl]; by_cases c1 : j < col; rw [if_pos c1, hU0 j c1]; rw [if_neg c1], fun _ _ => rfl⟩ ?_
  rintro k N3 hk ⟨k1, k2⟩
  have hfr3 : ∀ b, b < c + 118 ∨ c + 182 ≤ b → N3 b = N b := fun b hb9 => (k2 b (by omega)).trans (hfr b hb9)
  unfold X4_rank_L88
  refine w_le ⟨by omega, by omega⟩ ⟨by omega, by omega⟩ (fun hf => ?_) (fun hf => ?_)
  rotate_left
  · refine w_ald hLi.2.2 (by omega) (by omega) ?_
    rw [show ((k : Int).toNat) = k from rfl, k1 k (by omega), if_neg (Nat.lt_irrefl k)]
    refine w_Wp hW2 ?_
    rw [(frw N3 hfr3).pe, zI_mul]
    have hBk := hBb r k
    have hmb := mul_bd (x := B r k) (y := a) (a := 7) (b := 7) (by omega) (by omega)
    refine w_remP ⟨hmb.1, by omega, by omega⟩ ⟨by omega, by omega, by omega⟩ ?_
    refine w_ast hLi.2.2 (by omega) (by omega) ?_
    rw [show ((k : Int).toNat) = k from rfl, z_1, zI_add]
    refine w_jcont ⟨by omega, rfl, fun j hj => ?_, fun b hb9 => ?_⟩
    · show (if ad rk = ad rk ∧ j = k then _ else N3 (ad rk) j) = _
      by_cases e : j = k
      · rw [if_pos ⟨rfl, e⟩, if_pos (by omega), e]; rfl
      · rw [if_neg (fun x => e x.2), k1 j hj]
        by_cases e2 : j < k
        · rw [if_pos e2, if_pos (by omega)]
        · rw [if_neg e2, if_neg (by omega)]
    · funext j
      show (if b = ad rk ∧ _ then _ else N3 b j) = _
      rw [if_neg (fun x => hb9 x.1), k2 b hb9]
  have hkw : k = wide := by omega
  subst hkw
  refine w_jinl ?_
  unfold X4_rank_b118
  rw [z_1, zI_add]
  refine w_jlet ?_
  refine w_up many (fun i N4 => rk < i ∧ (∀ j, j < k → N4 (ad rk) j = rkU p B r a j) ∧ (∀ q j, q < rk → j < k → N4 (ad q) j = B q j) ∧ (∀ q j, rk < q → q < many → j < k → N4 (ad q) j = if q < i then rkV p B rk r col a q j else rkS B rk r q j) ∧
      ∀ b, b < c + 118 ∨ c + 182 ≤ b → N4 b = N b) (rk + 1) (by rfl) (by omega)
    ⟨by omega, fun j hj => by rw [k1 j hj, if_pos hj], fun q j hq hj => ?_, fun q j h1 h2 hj => ?_, hfr3⟩ ?_
  · rw [k2 _ (hne q rk (by omega) hrk64 (by omega)), hrow q j (by omega) hj, if_neg (by omega)]
    unfold rkS
    rw [if_neg (by omega)]
  · rw [k2 _ (hne q rk (by omega) hrk64 (by omega)), hrow q j h2 hj, if_neg (by omega), if_neg (by omega)]
  rintro i N4 hi ⟨hri, l1, l2, l3, l4⟩
  unfold X4_rank_L124
  refine w_le ⟨by omega, by omega⟩ ⟨by omega, by omega⟩ (fun hg => ?_) (fun hg => ?_)
  · refine w_jinl ?_
    unfold X4_rank_b193 X4_rank_b196
    rw [z_1, zI_add, zI_add]
    refine w_jcontB ⟨k - (col + 1), by omega, rk + 1, col + 1, _, _, rfl, rfl, by omega, by omega, hbb, l4, fun q j hq hj => ?_, hstep⟩
    have hadq : rpl M2 (c + 117) q = ad q := by rw [hadd]
    rw [hadq]
    by_cases c1 : q < rk
    · simp only [if_pos c1]; exact l2 q j c1 hj
    · by_cases c2 : q = rk
      · simp only [if_neg c1, if_pos c2]; rw [c2]; exact l1 j hj
      · simp only [if_neg c1, if_neg c2]; rw [l3 q j (by omega) hq hj, if_pos (by omega)]
  have him : i < many := by omega
  have hii := hin i (by omega)
  refine w_Rp (hC2.ka rfl) hRP2 (by omega) (by omega) ?_
  rw [hadd]
  refine w_ald hii.2.2 (by omega) (by omega) ?_
  rw [show ((col : Int).toNat) = col from rfl, l3 i col hri him (by omega), if_neg (Nat.lt_irrefl i)]
  have hSi := hSb i col
  refine w_up k (fun j N5 => (∀ j, j < k → N5 (ad rk) j = rkU p B r a j) ∧ (∀ q j, q < rk → j < k → N5 (ad q) j = B q j) ∧ (∀ q x, rk < q → q < many → x < k → N5 (ad q) x = if q < i ∨ q = i ∧ x < j then rkV p B rk r col a q x else rkS B rk r q x) ∧
      ∀ b, b < c + 118 ∨ c + 182 ≤ b → N5 b = N b) col rfl (by omega) ⟨l1, l2, fun q x h1 h2 hx => ?_, l4⟩ ?_
  · rw [l3 q x h1 h2 hx]
    by_cases c1 : q < i
    · rw [if_pos c1, if_pos (Or.inl c1)]
    · rw [if_neg c1]
      by_cases c2 : q = i ∧ x < col
      · rw [if_pos (Or.inr c2), hV0 q h1 h2 x c2.2]
      · rw [if_neg (by omega)]
  rintro j N5 hj ⟨o1, o2, o3, o4⟩
  have hdone : (∀ x, x < k → N5 (ad i) x = rkV p B rk r col a i x) → GN M2 N5 (jinl (X4_rank_b187 w (c + 117) (zI many) (zI k) (zI rk) (zI col) (ad rk) (zI i))) (LQ (LQ (LQ (fun v M1 N1 => GN M1 N1 (f v) Q) (fun t1 M1 N1 => ∃ m, m < k - col ∧ ∃ rk col B ld, t1 = (zI (rk : Nat), zI (col : Nat)) ∧ m = k - col ∧ col ≤ k ∧ rk ≤ many ∧ Bg c M M1 ∧ (∀ b, b < c + 118 ∨ c + 182 ≤ b → N1 b = N b) ∧
      (∀ r k_1, r < many → k_1 < k → N1 (rpl M1 (c + 117) r) k_1 = B r k_1) ∧ RkI p k many A rk col B ld)) (KF M2 (fun t N1 => i < many ∧ t = zI ((i : Int) + 1) ∧ rk < i + 1 ∧ (∀ j, j < k → N1 (ad rk) j = rkU p B r a j) ∧ (∀ q j, q < rk → j < k → N1 (ad q) j = B q j) ∧ (∀ q j, rk < q → q < many → j < k → N1 (ad q) j = if q < i + 1 then rkV p B rk r col a q j else rkS B rk r q j) ∧
      ∀ b, b < c + 118 ∨ c + 182 ≤ b → N1 b = N b))) (KF M2 (fun t N1 => j < k ∧ t = zI ((j : Int) + 1) ∧ (∀ j, j < k → N1 (ad rk) j = rkU p B r a j) ∧ (∀ q j, q < rk → j < k → N1 (ad q) j = B q j) ∧ (∀ q x, rk < q → q < many → x < k → N1 (ad q) x = if q < i ∨ q = i ∧ x < j + 1 then rkV p B rk r col a q x else rkS B rk r q x) ∧
      ∀ b, b < c + 118 ∨ c + 182 ≤ b → N1 b = N b))) := by
    intro hx9
    unfold X4_rank_b187
    rw [z_1, zI_add]
    refine w_jinl (w_jcont ⟨him, rfl, by omega, o1, o2, fun q x h1 h2 hx => ?_, o4⟩)
    by_cases c1 : q = i
    · rw [c1, if_pos (by omega)]; exact hx9 x hx
    · rw [o3 q x h1 h2 hx]
      by_cases c2 : q < i
      · rw [if_pos (Or.inl c2), if_pos (by omega)]
      · rw [if_neg (by omega), if_neg (by omega)]
  unfold X4_rank_L143
  refine w_le ⟨by omega, by omega⟩ ⟨by omega, by omega⟩ (fun hh => ?_) (fun hh => ?_)
  · refine hdone (fun x hx => ?_)
    rw [o3 i x hri him hx, if_pos (Or.inr ⟨rfl, by omega⟩)]
  rw [z_0]
  refine w_eq ⟨by omega, by omega⟩ ⟨by omega, by omega⟩ (fun hi0 => ?_) (fun hi0 => ?_)
  · refine hdone (fun x hx => ?_)
    rw [o3 i x hri him hx]
    split
    · rfl
    · unfold rkV
      rw [hi0, Int.zero_mul, Int.sub_zero, Int.emod_eq_of_lt (hSb i x).1 (hSb i x).2]
  refine w_Rp (hC2.ka rfl) hRP2 (by omega) (by omega) ?_
  refine w_Rp (hC2.ka rfl) hRP2 (by omega) (by omega) ?_
  rw [hadd]
  refine w_ald hii.2.2 (by omega) (by omega) ?_
  refine w_ald hLi.2.2 (by omega) (by omega) ?_
  rw [show ((j : Int).toNat) = j from rfl, o3 i j hri him (by omega), if_neg (show ¬ (i < i ∨ i = i ∧ j < j) by omega), o1 j (by omega), zI_mul, zI_sub]
  have hSj := hSb i j
  have hUj := hUb j
  have hmb := mul_bd (x := rkS B rk r i col) (y := rkU p B r a j) (a := 7) (b := 7) (by omega) (by omega)
  refine w_by hW2 (by rw [(frw N5 o4).pe]; omega) ⟨by omega, by omega⟩ ?_
  refine w_ast hii.2.2 (by omega) (by omega) ?_
  rw [show ((j : Int).toNat) = j from rfl, (frw N5 o4).pe, z_1, zI_add]
  refine w_jcont ⟨by omega, rfl, fun x hx => ?_, fun q x hq hx => ?_, fun q x h1 h2 hx => ?_, fun b hb9 => ?_⟩
  · show (if ad rk = ad i ∧ _ then _ else N5 (ad rk) x) = _
    rw [if_neg (fun e => hne rk i hrk64 (by omega) (by omega) e.1)]; exact o1 x hx
  · show (if ad q = ad i ∧ _ then _ else N5 (ad q) x) = _
    rw [if_neg (fun e => hne q i (by omega) (by omega) (by omega) e.1)]; exact o2 q x hq hx
  · show (if ad q = ad i ∧ x = j then _ else N5 (ad q) x) = _
    by_cases c1 : q = i
    · subst c1
      by_cases c2 : x = j
      · subst c2
        rw [if_pos ⟨rfl, rfl⟩, if_pos (by omega)]; rfl
      · rw [if_neg (fun e => c2 e.2), o3 q x h1 h2 hx]
        by_cases c3 : x < j
        · rw [if_pos (by omega), if_pos (by omega)]
        · rw [if_neg (by omega), if_neg (by omega)]
    · rw [if_neg (fun e => hne q i (by omega) (by omega) c1 e.1), o3 q x h1 h2 hx]
      by_cases c2 : q < i
      · rw [if_pos (Or.inl c2), if_pos (Or.inl c2)]
      · rw [if_neg (by omega), if_neg (by omega)]
  · funext x
    show (if b = ad i ∧ _ then _ else N5 b x) = _
    rw [if_neg (by omega), o4 b hb9]
end RANKS
