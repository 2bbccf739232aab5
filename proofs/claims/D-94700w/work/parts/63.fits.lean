/-! THE COMPONENT: maps. -/
set_option maxRecDepth 100000
section CMP9
variable {α τ ρ : Type} {M : Mem} {N N' : NM} {c w u : Nat} {p : Int} {n m : Nat} {T F : Nat → Nat → Nat → Int} {im : Nat → Nat → Int} {lev : Nat}
theorem w_fits {f : Int32 → JM Mem τ} {Q : τ → Mem → NM → Prop} (hC : CL M c) (hU : WL M u) (hE : WD N u p n F) (hW : WL M w) (hD : WD N w p n T) (hw : w + 32 ≤ c + 72 ∨ c + 212 ≤ w) (hu : u + 32 ≤ c + 72 ∨ c + 212 ≤ u) (hlev : lev < n)
    (him : ∀ k, k ≤ lev → VD N (c + 192 + 1 + k) p n (im k))
    (h : ∀ N' v, (v = 1 ∧ Fit p n F T lev im ∨ v = 0 ∧ ¬ Fit p n F T lev im) → (∀ b, b ≠ c + 74 → N' b = N b) → GN M N' (f (zI v)) Q) : GN M N (jb (jcall 0 c (f_X0_fits c u w (zI lev))) f) Q := by
  have hpb := hD.pb
  have hn5 := hD.n5
  have hI := hC.im
  have h192 := hC.ka (o := 192) (d := (5, 5)) rfl
  have h74 := hC.ka (o := 74) (d := (0, 5)) rfl
  refine w_Cc hC ?_
  unfold f_X0_fits
  have frw : ∀ N1 : NM, (∀ b, b ≠ c + 74 → N1 b = N b) → WD N1 w p n T := fun N1 g => hD.fr (fun b h1 h2 => g b (by omega))
  have fru : ∀ N1 : NM, (∀ b, b ≠ c + 74 → N1 b = N b) → WD N1 u p n F := fun N1 g => hE.fr (fun b h1 h2 => g b (by omega))
  have fri : ∀ N1 : NM, (∀ b, b ≠ c + 74 → N1 b = N b) → ∀ k, k ≤ lev → VD N1 (c + 192 + 1 + k) p n (im k) := fun N1 g k hk => (him k hk).fr (g _ (by omega))
  rw [z_0]
  refine w_up lev (fun i N1 => (∀ i' j', i' < j' → j' ≤ lev → i' < i → (∀ k, lev < k → k < n → F i' j' k = 0) → ∀ m, m < n → Cg p (sm (lev + 1) (fun k => F i' j' k * im k m)) (bk n T (im i') (im j') m)) ∧ ∀ b, b ≠ c + 74 → N1 b = N b) 0 rfl (by omega) ⟨fun i' j' _ _ h => by omega, fun _ _ => rfl⟩ ?_
  rintro i N1 hi ⟨g1, g2⟩
  unfold X0_fits_L3
  refine w_le ⟨by omega, by omega⟩ ⟨by omega, by omega⟩ (fun hc => ?_) (fun hc => ?_)
  · exact w_jinl (w_jp (h N1 1 (Or.inl ⟨rfl, fun i' j' h1 h2 => g1 i' j' h1 h2 (by omega)⟩) g2))
  rw [z_1, zI_add]
  refine w_jlet ?_
  refine w_up (lev + 1) (fun j N2 => i < j ∧ (∀ i' j', i' < j' → j' ≤ lev → i' < i ∨ i' = i ∧ j' < j → (∀ k, lev < k → k < n → F i' j' k = 0) → ∀ m, m < n → Cg p (sm (lev + 1) (fun k => F i' j' k * im k m)) (bk n T (im i') (im j') m)) ∧ ∀ b, b ≠ c + 74 → N2 b = N b) (i + 1) (by rfl) (by omega)
    ⟨by omega, fun i' j' h1 h2 h3 => g1 i' j' h1 h2 (by omega), g2⟩ ?_
  rintro j N2 hj ⟨hij, k1, k2⟩
  unfold X0_fits_L15
  refine w_lt ⟨by omega, by omega⟩ ⟨by omega, by omega⟩ (fun hd => ?_) (fun hd => ?_)
  · unfold X0_fits_b191
    rw [z_1, zI_add]
    exact w_jinl (w_jcont ⟨by omega, rfl, fun i' j' h1 h2 h3 => k1 i' j' h1 h2 (by omega), k2⟩)
  have hjl : j ≤ lev := by omega
  rw [z_1, zI_add]
  refine w_jlet ?_
  have hnext : ∀ N3 : NM, (∀ b, b ≠ c + 74 → N3 b = N b) → ((∀ k, lev < k → k < n → F i j k = 0) → ∀ m, m < n → Cg p (sm (lev + 1) (fun k => F i j k * im k m)) (bk n T (im i) (im j) m)) → GN M N3 (X0_fits_b185 c u w (zI lev) (zI i) (zI j)) (LQ (LQ (fun v M1 N1 => GN M1 N1 (f v) Q) (KF M (fun t N1 => i < lev ∧ t = zI ((i : Int) + 1) ∧ (∀ i' j', i' < j' → j' ≤ lev → i' < i + 1 → (∀ k, lev < k → k < n → F i' j' k = 0) → ∀ m, m < n → Cg p (sm (lev + 1) (fun k => F i' j' k * im k m)) (bk n T (im i') (im j') m)) ∧ ∀ b, b ≠ c + 74 → N1 b = N b)))
      (KF M (fun t N2 => j < lev + 1 ∧ t = zI ((j : Int) + 1) ∧ i < j + 1 ∧ (∀ i' j', i' < j' → j' ≤ lev → i' < i ∨ i' = i ∧ j' < j + 1 → (∀ k, lev < k → k < n → F i' j' k = 0) → ∀ m, m < n → Cg p (sm (lev + 1) (fun k => F i' j' k * im k m)) (bk n T (im i') (im j') m)) ∧ ∀ b, b ≠ c + 74 → N2 b = N b))) := by
    intro N3 h1 h2
    unfold X0_fits_b185
    rw [z_1, zI_add]
    refine w_jcont ⟨by omega, rfl, by omega, fun i' j' h3 h4 h5 => ?_, h1⟩
    by_cases e : i' = i ∧ j' = j
    · rw [e.1, e.2]; exact h2
    · exact k1 i' j' h3 h4 (by omega)
  refine w_up2 n (fun k x N3 => lev < k ∧ (x = 1 ∧ (∀ k', lev < k' → k' < k → F i j k' = 0) ∨ x = 0 ∧ ∃ k', lev < k' ∧ k' < n ∧ F i j k' ≠ 0) ∧ N3 = N2) (lev + 1) 1 (by rfl) (by omega) ⟨by omega, Or.inl ⟨rfl, fun k' h1 h2 => by omega⟩, rfl⟩ ?_
  rintro k x N3 hk ⟨hlk, hx, rfl⟩
  show GN M N3 (X0_fits_L29 c u w (zI _) (zI _) (zI _) (zI _) (zI _)) _
  have hD3 := frw N3 k2
  have hE3 := fru N3 k2
  have hI3 := fri N3 k2
  have hxb : x = 0 ∨ x = 1 := by
    rcases hx with ⟨e, _⟩ | ⟨e, _⟩
    · exact Or.inr e
    · exact Or.inl e
  unfold X0_fits_L29
  refine w_Wp hU ?_
  rw [hE3.ne]
  refine w_le ⟨by omega, by omega⟩ ⟨by omega, by omega⟩ (fun he => ?_) (fun he => ?_)
  rotate_left
  · rw [z_0]
    unfold X0_fits_b63 X0_fits_b64
    refine w_eq ⟨by omega, by omega⟩ ⟨by omega, by omega⟩ (fun hf => ?_) (fun hf => ?_)
    · rw [z_0, z_1, zI_add]
      refine w_jcont ⟨by omega, _, rfl, by omega, Or.inr ⟨rfl, ?_⟩, rfl⟩
      rcases hx with ⟨e, _⟩ | ⟨_, e⟩
      · omega
      · exact e
    have hx1 : ∀ k', lev < k' → k' < k → F i j k' = 0 := by
      rcases hx with ⟨_, e⟩ | ⟨e, _⟩
      · exact e
      · omega
    refine w_tab hU (by omega) (by omega) ?_
    refine w_Wk hU (by omega) (by omega) (by omega) ?_
    rw [hE3.t (by omega) (by omega) (by omega)]
    have hFb := hE.tb i j k
    refine w_eq ⟨by omega, by omega⟩ ⟨by omega, by omega⟩ (fun hg => ?_) (fun hg => ?_)
    · rw [z_1, zI_add]
      refine w_jcont ⟨by omega, _, rfl, by omega, Or.inl ⟨rfl, fun k' h1 h2 => ?_⟩, rfl⟩
      by_cases e : k' = k
      · rw [e]; exact hg
      · exact hx1 k' h1 (by omega)
    · rw [z_0, z_1, zI_add]
      exact w_jcont ⟨by omega, _, rfl, by omega, Or.inr ⟨rfl, k, hlk, by omega, hg⟩, rfl⟩
  unfold X0_fits_b72
  rw [z_0]
  refine w_jinl ?_
  refine w_eq ⟨by omega, by omega⟩ ⟨by omega, by omega⟩ (fun hf => ?_) (fun hf => ?_)
  · refine hnext N3 k2 (fun hw => ?_)
    rcases hx with ⟨e, _⟩ | ⟨_, k', h1, h2, h3⟩
    · omega
    · exact absurd (hw k' h1 h2) h3
  have hwith : ∀ k', lev < k' → k' < n → F i j k' = 0 := by
    rcases hx with ⟨_, e⟩ | ⟨e, _⟩
    · exact fun k' h1 h2 => e k' h1 (by omega)
    · omega
  have hri := hI i (show i < 5 by omega)
  have hrj := hI j (show j < 5 by omega)
  refine w_Cf hC rfl ?_
  refine w_R1 h192 hI (by omega) (by omega) ?_
  refine w_Cf hC rfl ?_
  refine w_R1 h192 hI (by omega) (by omega) ?_
  refine w_Cf hC rfl ?_
  refine w_wbracket hW hD3 hri.2 (by omega) hrj.2 (by omega) h74 (by omega) (hI3 i (by omega)) (hI3 j hjl) (by omega) (by omega) (by omega) ?_
  have k4 : ∀ b, b ≠ c + 74 → wr5 N3 (c + 74) (fun k => bk n T (im i) (im j) k % p) b = N b := fun b hb => by rw [wr5_ne hb, k2 b hb]
  have e4 : ∀ x, x < 5 → wr5 N3 (c + 74) (fun k => bk n T (im i) (im j) k % p) (c + 74) x = bk n T (im i) (im j) x % p := fun x hx => wr5_at hx
  generalize wr5 N3 (c + 74) (fun k => bk n T (im i) (im j) k % p) = N4 at k4 e4
  refine w_up n (fun m N5 => N5 = N4 ∧ ∀ m', m' < m → Cg p (sm (lev + 1) (fun k => F i j k * im k m')) (bk n T (im i) (im j) m')) 0 rfl (by omega) ⟨rfl, fun m' hm => by omega⟩ ?_
  rintro m1 N5 hm ⟨rfl, hok⟩
  unfold X0_fits_L105
  refine w_Wp hU ?_
  rw [(fru N5 k4).ne]
  refine w_le ⟨by omega, by omega⟩ ⟨by omega, by omega⟩ (fun hg => ?_) (fun hg => ?_)
  · exact w_jinl (hnext N5 k4 (fun _ m' hm' => hok m' (by omega)))
  have hmn : m1 < n := by omega
  have hsum : ∀ l, l ≤ 5 → l ≤ lev + 1 → 0 ≤ sm l (fun k => F i j k * im k m1) ∧ sm l (fun k => F i j k * im k m1) ≤ 245 := fun l hl hl2 => by
    have := sm_bd (n := l) (f := fun k => F i j k * im k m1) (a := 0) (b := 49) (fun k hk => by
      have h1 := hE.tb i j k
      have h2 := (him k (by omega)).2 m1
      exact mul_bd (a := 7) (b := 7) (by omega) (by omega))
    omega
  rw [z_0]
  refine w_up2 (lev + 1) (fun l x N6 => x = sm l (fun k => F i j k * im k m1) ∧ N6 = N5) 0 0 rfl (by omega) ⟨rfl, rfl⟩ ?_
  rintro l x N6 hl ⟨rfl, rfl⟩
  show GN M N6 (X0_fits_L120 c u w (zI _) (zI _) (zI _) (zI _) (zI _) (zI _)) _
  have hsl := hsum l (by omega) hl
  unfold X0_fits_L120
  refine w_lt ⟨by omega, by omega⟩ ⟨by omega, by omega⟩ (fun ho => ?_) (fun ho => ?_)
  · have hll : l = lev + 1 := by omega
    subst hll
    unfold X0_fits_b161
    refine w_jinl ?_
    refine w_by hW (by rw [(frw N6 k4).pe]; omega) ⟨by omega, by omega⟩ ?_
    rw [(frw N6 k4).pe]
    refine w_Cf hC rfl ?_
    refine w_ald h74 (by omega) (by omega) ?_
    rw [show ((m1 : Int).toNat) = m1 from rfl, e4 m1 (by omega)]
    have q1 := Int.emod_nonneg (sm (lev + 1) (fun k => F i j k * im k m1)) (show p ≠ 0 by omega)
    have q2 := Int.emod_lt_of_pos (sm (lev + 1) (fun k => F i j k * im k m1)) (show 0 < p by omega)
    have q3 := Int.emod_nonneg (bk n T (im i) (im j) m1) (show p ≠ 0 by omega)
    have q4 := Int.emod_lt_of_pos (bk n T (im i) (im j) m1) (show 0 < p by omega)
    refine w_eq ⟨by omega, by omega⟩ ⟨by omega, by omega⟩ (fun hq => ?_) (fun hq => ?_)
    · rw [z_1, zI_add]
      refine w_jcont ⟨hmn, rfl, rfl, fun m' hm' => ?_⟩
      by_cases e : m' = m1
      · rw [e]; exact Cg.iff_mod.mpr hq
      · exact hok m' (by omega)
    · refine w_jinl (w_jinl (w_jinl (w_jp (h N6 0 (Or.inr ⟨rfl, fun hfit => hq ?_⟩) k4))))
      exact Cg.iff_mod.mp (hfit i j hij hjl hwith m1 hmn)
  refine w_tab hU (by omega) (by omega) ?_
  refine w_Wk hU (by omega) (by omega) (by omega) ?_
  refine w_Cf hC rfl ?_
  refine w_R1 h192 hI (by omega) (by omega) ?_
  refine w_ald (hI l (show l < 5 by omega)).2 (by omega) (by omega) ?_
  rw [show ((m1 : Int).toNat) = m1 from rfl, (fru N6 k4).t (by omega) (by omega) (by omega), (fri N6 k4 l (by omega)).at (by omega), zI_mul, zI_add, z_1, zI_add]
  exact w_jlet (w_jcont ⟨by omega, _, rfl, rfl, rfl⟩)
end CMP9
