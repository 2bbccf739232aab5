/-! THE MODEL: maps. -/
set_option maxRecDepth 100000
section MOD8
variable {α τ : Type} {M : Mem} {N N' : NM} {m a b o W B U D : Nat} {p : Int} {n q lev : Nat} {T F : Nat → Nat → Nat → Int} {im : Nat → Nat → Int}
/-- the world that maps come from -/
def MSr (M : Mem) (N : NM) (m U D : Nat) (p : Int) (n : Nat) (F : Nat → Nat → Nat → Int) : Prop :=
  mR M m 64 = some U ∧ N m 65 = D ∧ (∃ L, mK M U = some (.inr (0, L)) ∧ D + 127 ≤ L ∧ L ≤ 4000) ∧ WOk p n F ∧ (∀ i j k, i < 5 → j < 5 → k < 5 → N U (D + 2 + 25 * i + 5 * j + k) = F i j k) ∧ U = m + 5
theorem MSr.t (h : MSr M N m U D p n F) {i j k : Nat} (hi : i < 5) (hj : j < 5) (hk : k < 5) : N U (D + 2 + 25 * i + 5 * j + k) = F i j k := h.2.2.2.2.1 i j k hi hj hk
theorem MSr.tb (h : MSr M N m U D p n F) (i j k : Nat) : 0 ≤ F i j k ∧ F i j k < p := h.2.2.2.1.2.2.2.1 i j k
theorem MSr.fr (h : MSr M N m U D p n F) (h1 : N' m 65 = N m 65) (h2 : N' U = N U) : MSr M N' m U D p n F := by
  unfold MSr at h ⊢
  rw [h1, h2]
  exact h
theorem w_source {f : Int32 → JM Mem τ} {Q : τ → Mem → NM → Prop} {i j k : Nat} (hM : ML M m) (hA : MSr M N m U D p n F) (hi : i < 5) (hj : j < 5) (hk : k < 5) (h : GN M N (f (zI (F i j k))) Q) :
    GN M N (jb (jcall 7 m (f_X8_sourceTable m (zI i) (zI j) (zI k))) f) Q := by
  obtain ⟨L, hK, hL, hL4⟩ := hA.2.2.1
  refine w_Mc hM ?_
  unfold f_X8_sourceTable
  refine w_getA hM.km hA.1 ?_
  refine w_MI hM ?_
  rw [hA.2.1]
  unfold f_X8_cell
  rw [z_2, z_25, z_5]
  rw [zI_mul, zI_mul, zI_add, zI_add, zI_add]
  refine w_jb (w_jp ?_)
  rw [zI_add]
  refine w_ald hK (by omega) (by omega) ?_
  rw [show ((D : Int) + (2 + 25 * (i : Int) + 5 * (j : Int) + (k : Int))).toNat = D + 2 + 25 * i + 5 * j + k by omega, hA.t hi hj hk]
  exact w_jp h
theorem w_soFar {f : Int32 → JM Mem τ} {Q : τ → Mem → NM → Prop} (hM : ML M m) (hA : MA M N m W B p n T) (hS : MSr M N m U D p n F) (hlev : lev < n)
    (him : ∀ k, k ≤ lev → VM N (m + 20) (5 * k) p n (im k))
    (h : ∀ N' v, (v = 1 ∧ Fit p n F T lev im ∨ v = 0 ∧ ¬ Fit p n F T lev im) → (∀ b, b ≠ m + 17 → N' b = N b) → GN M N' (f (zI v)) Q) : GN M N (jb (jcall 7 m (f_X8_isMapSoFar m (zI lev))) f) Q := by
  have hpb := hA.pb
  have hn5 := hA.n5
  have h20 := hM.ka (o := 20) (d := (0, 25)) rfl
  have h17 := hM.ka (o := 17) (d := (0, 5)) rfl
  have hU := hS.2.2.2.2.2
  have hWe := hA.We
  refine w_Mc hM ?_
  unfold f_X8_isMapSoFar
  have fra : ∀ N1 : NM, (∀ b, b ≠ m + 17 → N1 b = N b) → MA M N1 m W B p n T := fun N1 g => hA.fr (g m (by omega)) (g W (by omega))
  have frs : ∀ N1 : NM, (∀ b, b ≠ m + 17 → N1 b = N b) → MSr M N1 m U D p n F := fun N1 g => hS.fr (by rw [g m (by omega)]) (g U (by omega))
  have fri : ∀ N1 : NM, (∀ b, b ≠ m + 17 → N1 b = N b) → ∀ k, k ≤ lev → VM N1 (m + 20) (5 * k) p n (im k) := fun N1 g k hk => (him k hk).fr (g _ (by omega))
  rw [z_0]
  refine w_up (lev + 1) (fun i N1 => (∀ i' j', i' < j' → j' ≤ lev → i' < i → (∀ k, lev < k → k < n → F i' j' k = 0) → ∀ m, m < n → Cg p (sm (lev + 1) (fun k => F i' j' k * im k m)) (bk n T (im i') (im j') m)) ∧ ∀ b, b ≠ m + 17 → N1 b = N b) 0 rfl (by omega) ⟨fun i' j' _ _ h => by omega, fun _ _ => rfl⟩ ?_
  rintro i N1 hi ⟨g1, g2⟩
  unfold X8_isMapSoFar_L2
  refine w_lt ⟨by omega, by omega⟩ ⟨by omega, by omega⟩ (fun hc => ?_) (fun hc => ?_)
  · exact w_jinl (w_jp (h N1 1 (Or.inl ⟨rfl, fun i' j' h1 h2 => g1 i' j' h1 h2 (by omega)⟩) g2))
  rw [z_1, zI_add]
  refine w_jlet ?_
  refine w_up (lev + 1) (fun j N2 => i < j ∧ (∀ i' j', i' < j' → j' ≤ lev → i' < i ∨ i' = i ∧ j' < j → (∀ k, lev < k → k < n → F i' j' k = 0) → ∀ m, m < n → Cg p (sm (lev + 1) (fun k => F i' j' k * im k m)) (bk n T (im i') (im j') m)) ∧ ∀ b, b ≠ m + 17 → N2 b = N b) (i + 1) (by rfl) (by omega)
    ⟨by omega, fun i' j' h1 h2 h3 => g1 i' j' h1 h2 (by omega), g2⟩ ?_
  rintro j N2 hj ⟨hij, k1, k2⟩
  unfold X8_isMapSoFar_L11
  refine w_lt ⟨by omega, by omega⟩ ⟨by omega, by omega⟩ (fun hd => ?_) (fun hd => ?_)
  · unfold X8_isMapSoFar_b179
    rw [z_1, zI_add]
    exact w_jinl (w_jcont ⟨by omega, rfl, fun i' j' h1 h2 h3 => k1 i' j' h1 h2 (by omega), k2⟩)
  have hjl : j ≤ lev := by omega
  rw [z_1, zI_add]
  refine w_jlet ?_
  have hnext : ∀ N3 : NM, (∀ b, b ≠ m + 17 → N3 b = N b) → ((∀ k, lev < k → k < n → F i j k = 0) → ∀ m, m < n → Cg p (sm (lev + 1) (fun k => F i j k * im k m)) (bk n T (im i) (im j) m)) → GN M N3 (X8_isMapSoFar_b173 m (zI lev) (zI i) (zI j)) (LQ (LQ (fun v M1 N1 => GN M1 N1 (f v) Q) (KF M (fun t N1 => i < lev + 1 ∧ t = zI ((i : Int) + 1) ∧ (∀ i' j', i' < j' → j' ≤ lev → i' < i + 1 → (∀ k, lev < k → k < n → F i' j' k = 0) → ∀ m, m < n → Cg p (sm (lev + 1) (fun k => F i' j' k * im k m)) (bk n T (im i') (im j') m)) ∧ ∀ b, b ≠ m + 17 → N1 b = N b)))
      (KF M (fun t N2 => j < lev + 1 ∧ t = zI ((j : Int) + 1) ∧ i < j + 1 ∧ (∀ i' j', i' < j' → j' ≤ lev → i' < i ∨ i' = i ∧ j' < j + 1 → (∀ k, lev < k → k < n → F i' j' k = 0) → ∀ m, m < n → Cg p (sm (lev + 1) (fun k => F i' j' k * im k m)) (bk n T (im i') (im j') m)) ∧ ∀ b, b ≠ m + 17 → N2 b = N b))) := by
    intro N3 h1 h2
    unfold X8_isMapSoFar_b173
    rw [z_1, zI_add]
    refine w_jcont ⟨by omega, rfl, by omega, fun i' j' h3 h4 h5 => ?_, h1⟩
    by_cases e : i' = i ∧ j' = j
    · rw [e.1, e.2]; exact h2
    · exact k1 i' j' h3 h4 (by omega)
  refine w_up2 n (fun k x N3 => lev < k ∧ (x = 1 ∧ (∀ k', lev < k' → k' < k → F i j k' = 0) ∨ x = 0 ∧ ∃ k', lev < k' ∧ k' < n ∧ F i j k' ≠ 0) ∧ N3 = N2) (lev + 1) 1 (by rfl) (by omega) ⟨by omega, Or.inl ⟨rfl, fun k' h1 h2 => by omega⟩, rfl⟩ ?_
  rintro k x N3 hk ⟨hlk, hx, rfl⟩
  show GN M N3 (X8_isMapSoFar_L24 m (zI _) (zI _) (zI _) (zI _) (zI _)) _
  have hA3 := fra N3 k2
  have hS3 := frs N3 k2
  have hI3 := fri N3 k2
  have hxb : x = 0 ∨ x = 1 := by
    rcases hx with ⟨e, _⟩ | ⟨e, _⟩
    · exact Or.inr e
    · exact Or.inl e
  unfold X8_isMapSoFar_L24
  refine w_MI hM ?_
  rw [hA3.ne]
  refine w_le ⟨by omega, by omega⟩ ⟨by omega, by omega⟩ (fun he => ?_) (fun he => ?_)
  rotate_left
  · rw [z_0]
    unfold X8_isMapSoFar_b53 X8_isMapSoFar_b54
    refine w_eq ⟨by omega, by omega⟩ ⟨by omega, by omega⟩ (fun hf => ?_) (fun hf => ?_)
    · rw [z_0, z_1, zI_add]
      refine w_jcont ⟨by omega, _, rfl, by omega, Or.inr ⟨rfl, ?_⟩, rfl⟩
      rcases hx with ⟨e, _⟩ | ⟨_, e⟩
      · omega
      · exact e
    have hx1 : ∀ k', lev < k' → k' < k → F i j k' = 0 := by
      rcases hx with ⟨_, e⟩ | ⟨e, _⟩
      · exact e
      · omega
    refine w_source hM hS3 (by omega) (by omega) (by omega) ?_
    have hFb := hS.tb i j k
    refine w_eq ⟨by omega, by omega⟩ ⟨by omega, by omega⟩ (fun hg => ?_) (fun hg => ?_)
    · rw [z_1, zI_add]
      refine w_jcont ⟨by omega, _, rfl, by omega, Or.inl ⟨rfl, fun k' h1 h2 => ?_⟩, rfl⟩
      by_cases e : k' = k
      · rw [e]; exact hg
      · exact hx1 k' h1 (by omega)
    · rw [z_0, z_1, zI_add]
      exact w_jcont ⟨by omega, _, rfl, by omega, Or.inr ⟨rfl, k, hlk, by omega, hg⟩, rfl⟩
  unfold X8_isMapSoFar_b62
  rw [z_0]
  refine w_jinl ?_
  refine w_eq ⟨by omega, by omega⟩ ⟨by omega, by omega⟩ (fun hf => ?_) (fun hf => ?_)
  · refine hnext N3 k2 (fun hw => ?_)
    rcases hx with ⟨e, _⟩ | ⟨_, k', h1, h2, h3⟩
    · omega
    · exact absurd (hw k' h1 h2) h3
  have hwith : ∀ k', lev < k' → k' < n → F i j k' = 0 := by
    rcases hx with ⟨_, e⟩ | ⟨e, _⟩
    · exact fun k' h1 h2 => e k' h1 (by omega)
    · omega
  refine w_Mf hM rfl ?_
  refine w_Mf hM rfl ?_
  refine w_Mf hM rfl ?_
  rw [z_5, zI_mul, zI_mul, show (5 : Int) * (i : Int) = ((5 * i : Nat) : Int) by omega, show (5 : Int) * (j : Int) = ((5 * j : Nat) : Int) by omega]
  refine w_bracketOf hM hA3 h20 (by omega) h20 (by omega) h17 (by omega) (hI3 i (by omega)) (hI3 j hjl) (by omega) (by omega) (by omega) (by omega) ?_
  have k4 : ∀ b, b ≠ m + 17 → wro N3 (m + 17) 0 n (fun k => bk n T (im i) (im j) k % p) b = N b := fun b hb => by rw [wro_ne hb, k2 b hb]
  have e4 : ∀ x, x < n → wro N3 (m + 17) 0 n (fun k => bk n T (im i) (im j) k % p) (m + 17) x = bk n T (im i) (im j) x % p := fun x hx => by
    have := wro_at (N := N3) (a := m + 17) (o := 0) (g := fun k => bk n T (im i) (im j) k % p) hx
    rw [Nat.zero_add] at this
    exact this
  generalize wro N3 (m + 17) 0 n (fun k => bk n T (im i) (im j) k % p) = N4 at k4 e4
  refine w_up n (fun m1 N5 => N5 = N4 ∧ ∀ m', m' < m1 → Cg p (sm (lev + 1) (fun k => F i j k * im k m')) (bk n T (im i) (im j) m')) 0 rfl (by omega) ⟨rfl, fun m' hm => by omega⟩ ?_
  rintro m1 N5 hm ⟨rfl, hok⟩
  unfold X8_isMapSoFar_L95
  refine w_MI hM ?_
  rw [(fra N5 k4).ne]
  refine w_le ⟨by omega, by omega⟩ ⟨by omega, by omega⟩ (fun hg => ?_) (fun hg => ?_)
  · exact w_jinl (hnext N5 k4 (fun _ m' hm' => hok m' (by omega)))
  have hmn : m1 < n := by omega
  have hsum : ∀ l, l ≤ 5 → l ≤ lev + 1 → 0 ≤ sm l (fun k => F i j k * im k m1) ∧ sm l (fun k => F i j k * im k m1) ≤ 245 := fun l hl hl2 => by
    have := sm_bd (n := l) (f := fun k => F i j k * im k m1) (a := 0) (b := 49) (fun k hk => by
      have h1 := hS.tb i j k
      have h2 := (him k (by omega)).2 m1
      exact mul_bd (a := 7) (b := 7) (by omega) (by omega))
    omega
  rw [z_0]
  refine w_up2 (lev + 1) (fun l x N6 => x = sm l (fun k => F i j k * im k m1) ∧ N6 = N5) 0 0 rfl (by omega) ⟨rfl, rfl⟩ ?_
  rintro l x N6 hl ⟨rfl, rfl⟩
  show GN M N6 (X8_isMapSoFar_L110 m (zI _) (zI _) (zI _) (zI _) (zI _) (zI _)) _
  have hsl := hsum l (by omega) hl
  unfold X8_isMapSoFar_L110
  refine w_lt ⟨by omega, by omega⟩ ⟨by omega, by omega⟩ (fun ho => ?_) (fun ho => ?_)
  · have hll : l = lev + 1 := by omega
    subst hll
    unfold X8_isMapSoFar_b148
    refine w_jinl ?_
    refine w_MI hM ?_
    rw [(fra N6 k4).pe]
    refine w_remP ⟨by omega, by omega, by omega⟩ ⟨by omega, by omega, by omega⟩ ?_
    refine w_Mf hM rfl ?_
    refine w_ald h17 (by omega) (by omega) ?_
    rw [show ((m1 : Int).toNat) = m1 from rfl, e4 m1 (by omega)]
    have q1 := Int.emod_nonneg (sm (lev + 1) (fun k => F i j k * im k m1)) (show p ≠ 0 by omega)
    have q2 := Int.emod_lt_of_pos (sm (lev + 1) (fun k => F i j k * im k m1)) (show 0 < p by omega)
    have q3 := Int.emod_nonneg (bk n T (im i) (im j) m1) (show p ≠ 0 by omega)
    have q4 := Int.emod_lt_of_pos (bk n T (im i) (im j) m1) (show 0 < p by omega)
    refine w_eq ⟨by omega, by omega⟩ ⟨by omega, by omega⟩ (fun hq => ?_) (fun hq => ?_)
    · rw [z_1, zI_add]
      refine w_jcont ⟨hmn, rfl, rfl, fun m' hm' => ?_⟩
      by_cases e : m' = m1
      · rw [e]; exact Cg.iff_mod.mpr hq
      · exact hok m' (by omega)
    · refine w_jinl (w_jinl (w_jinl (w_jp (h N6 0 (Or.inr ⟨rfl, fun hfit => hq ?_⟩) k4))))
      exact Cg.iff_mod.mp (hfit i j hij hjl hwith m1 hmn)
  refine w_source hM (frs N6 k4) (by omega) (by omega) (by omega) ?_
  refine w_Mf hM rfl ?_
  rw [z_5, zI_mul, zI_add]
  refine w_ald h20 (by omega) (by omega) ?_
  rw [show ((5 * (l : Int) + (m1 : Int)).toNat) = 5 * l + m1 by omega, (fri N6 k4 l (by omega)).at hmn, zI_mul, zI_add, z_1, zI_add]
  exact w_jlet (w_jcont ⟨by omega, _, rfl, rfl, rfl⟩)
end MOD8
