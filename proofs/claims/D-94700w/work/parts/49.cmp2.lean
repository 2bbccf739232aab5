/-! THE COMPONENT: series, the law, rows. -/
set_option maxRecDepth 100000
section CMP2
variable {α τ ρ : Type} {M : Mem} {N N' : NM} {c w s a b to : Nat} {p : Int} {n m ma mb : Nat} {T : Nat → Nat → Nat → Int} {R Ra Rb : Nat → Nat → Int} {ld la lb : Nat → Nat} {S A B : VS}
theorem Br.zero (h : ∀ v, A v → Vq p n v (fun _ => 0)) : ∀ v, Br p n T A B v → Vq p n v (fun _ => 0) := fun v hv =>
  Br.le (S := Zs p n) Zs.sb (fun a b ha _ k _ => (bk_q (h a ha) Vq.rf k).tr (Cg.of (bk_z1 k))) hv
theorem Br.zero2 (h : ∀ v, B v → Vq p n v (fun _ => 0)) : ∀ v, Br p n T A B v → Vq p n v (fun _ => 0) := fun v hv =>
  Br.le (S := Zs p n) Zs.sb (fun a b _ hb k _ => (bk_q Vq.rf (h b hb) k).tr (Cg.of (bk_z2 k))) hv
/-- the series by its kind -/
def Ser (p : Int) (n : Nat) (T : Nat → Nat → Nat → Int) (S : VS) (d : Int) (k : Nat) : VS := if d = 0 then LSr p n T S k else DSr p n T S k
theorem Ser.zero (hp : Pr p) (hS : Sbp p n S) {d : Int} {i : Nat} (h : dm p n (Ser p n T S d i) = 0) : ∀ k, dm p n (Ser p n T S d (i + k)) = 0 := by
  intro k
  induction k with
  | zero => exact h
  | succ k ih =>
    unfold Ser at ih ⊢
    split
    · rename_i e
      rw [if_pos e] at ih
      exact (dm_zero hp Br.sb).mpr (Br.zero2 ((dm_zero hp (LSr.sb hS _)).mp ih))
    · rename_i e
      rw [if_neg e] at ih
      exact (dm_zero hp Br.sb).mpr (Br.zero ((dm_zero hp (DSr.sb hS _)).mp ih))
theorem w_series {f : Int32 → JM Mem τ} {Q : τ → Mem → NM → Prop} {d : Int} {k : Nat} (hC : CL M c) (hW : WL M w) (hD : WD N w p n T) (hw : w + 32 ≤ c + 72 ∨ c + 212 ≤ w) (hS : SL M s) (hs : SpD N s p n m R ld S) (hd : d = 0 ∨ d = 1) (hk : k ≤ 100)
    (h77 : c + 93 ≤ s) (h : ∀ N', SpD N' s p n m R ld S → (∀ x, x ≠ c + 74 → x < c + 77 ∨ c + 93 ≤ x → N' x = N x) → GN M N' (f (zI (dm p n (Ser p n T S d k) : Nat))) Q) :
    GN M N (jb (jcall 0 c (f_X0_series c w s (zI k) (zI d))) f) Q := by
  have hpb := hD.pb
  have hn5 := hD.n5
  have hp := hD.pr
  refine w_Cc hC ?_
  unfold f_X0_series
  refine w_Cf hC rfl ?_
  refine w_scopy hp hn5 hC.s77 hS hs (by omega) (fun N0 hs0 hfr0 => ?_)
  rw [z_0]
  refine w_up k (fun i N1 => (∃ m1 R1 ld1, SpD N1 (c + 77) p n m1 R1 ld1 (Ser p n T S d i)) ∧ ∀ x, x ≠ c + 74 → x < c + 77 ∨ c + 93 ≤ x → N1 x = N x) 0 rfl (by omega)
    ⟨⟨m, R, ld, by
      have e : Ser p n T S d 0 = S := by unfold Ser; split <;> rfl
      rw [e]; exact hs0⟩, fun x _ hx => hfr0 x (by omega)⟩ ?_
  rintro i N1 hi ⟨⟨m1, R1, ld1, hs1⟩, hfr⟩
  have hmn1 := hs1.mn hp
  have hres : ∀ (N1 : NM) m1 R1 ld1 j, SpD N1 (c + 77) p n m1 R1 ld1 (Ser p n T S d j) → (∀ x, x ≠ c + 74 → x < c + 77 ∨ c + 93 ≤ x → N1 x = N x) → dm p n (Ser p n T S d j) = dm p n (Ser p n T S d k) → GN M N1 (X0_series_b70 c) (fun v M1 N1 => GN M1 N1 (f v) Q) := by
    intro N1 m1 R1 ld1 j hs1 hfr e
    unfold X0_series_b70
    refine w_Cf hC rfl ?_
    refine w_getI hC.s77.1 ?_
    rw [hs1.me, ← hs1.dm hp, e]
    exact w_jp (h N1 (hs.fr (fun b h1 h2 _ => hfr b (by omega) (by omega)) hp hn5) hfr)
  unfold X0_series_L11
  refine w_le ⟨by omega, by omega⟩ ⟨by omega, by omega⟩ (fun hc => ?_) (fun hc => ?_)
  · refine w_jinl (hres N1 m1 R1 ld1 i hs1 hfr ?_)
    rw [show i = k by omega]
  refine w_Cf hC rfl ?_
  refine w_getI hC.s77.1 ?_
  rw [hs1.me, z_0]
  refine w_le ⟨by omega, by omega⟩ ⟨by omega, by omega⟩ (fun hc2 => ?_) (fun hc2 => ?_)
  · refine w_jinl (hres N1 m1 R1 ld1 i hs1 hfr ?_)
    have e0 : dm p n (Ser p n T S d i) = 0 := by rw [hs1.dm hp]; omega
    have e1 := Ser.zero hp hs.ech.sb e0 (k - i)
    rw [show i + (k - i) = k by omega] at e1
    rw [e0, e1]
  have frw : WD N1 w p n T := hD.fr (fun b h1 h2 => hfr b (by omega) (by omega))
  have hss : SpD N1 s p n m R ld S := hs.fr (fun b h1 h2 _ => hfr b (by omega) (by omega)) hp hn5
  have key : ∀ (b : Nat) (mb : Nat) (Rb : Nat → Nat → Int) (lb : Nat → Nat) (B : VS), SL M b → SpD N1 b p n mb Rb lb B → (b = s ∨ b = c + 77) → Br p n T B (Ser p n T S d i) = Ser p n T S d (i + 1) →
      GN M N1 (X0_series_b42 c w s (zI k) (zI d) (zI i) c w b) (LQ (fun v M1 N1 => GN M1 N1 (f v) Q) (KF M (fun t N1 => i < k ∧ t = zI ((i : Int) + 1) ∧ (∃ m1 R1 ld1, SpD N1 (c + 77) p n m1 R1 ld1 (Ser p n T S d (i + 1))) ∧ ∀ x, x ≠ c + 74 → x < c + 77 ∨ c + 93 ≤ x → N1 x = N x))) := by
    intro b mb Rb lb B hSb hsb hbs e
    unfold X0_series_b42
    refine w_Cf hC rfl ?_
    refine w_Cf hC rfl ?_
    refine w_brackets hC hW frw hw hSb hC.s77 hC.s85 hsb hs1 (by omega) (by omega) (by omega) (fun N2 m2 R2 ld2 hs2 hfr2 => ?_)
    refine w_Cf hC rfl ?_
    refine w_Cf hC rfl ?_
    refine w_scopy hp hn5 hC.s77 hC.s85 hs2 (by omega) (fun N3 hs3 hfr3 => ?_)
    rw [z_1, zI_add]
    rw [e] at hs3
    exact w_jcont ⟨by omega, rfl, ⟨m2, R2, ld2, hs3⟩, fun x h1 h2 => by rw [hfr3 x (by omega), hfr2 x h1 (by omega), hfr x h1 h2]⟩
  refine w_eq ⟨by omega, by omega⟩ ⟨by omega, by omega⟩ (fun hd0 => ?_) (fun hd0 => ?_)
  · exact key s m R ld S hS hss (Or.inl rfl) (by unfold Ser; rw [if_pos hd0, if_pos hd0]; rfl)
  · refine w_Cf hC rfl ?_
    exact key (c + 77) m1 R1 ld1 _ hC.s77 hs1 (Or.inr rfl) (by unfold Ser; rw [if_neg hd0, if_neg hd0]; rfl)
theorem w_derivedOf {f : Int32 → JM Mem τ} {Q : τ → Mem → NM → Prop} {k : Nat} (hC : CL M c) (hW : WL M w) (hD : WD N w p n T) (hw : w + 32 ≤ c + 72 ∨ c + 212 ≤ w) (hk : k ≤ 100)
    (h : ∀ N', (∀ x, x < c + 72 ∨ c + 117 ≤ x → N' x = N x) → GN M N' (f (zI (dm p n (DSr p n T Al k) : Nat))) Q) : GN M N (jb (jcall 0 c (f_X0_derivedOf c w (zI k))) f) Q := by
  refine w_Cc hC ?_
  unfold f_X0_derivedOf
  refine w_Cf hC rfl ?_
  refine w_all hC.s109 hW hD (by omega) (fun N0 hall hfr0 => ?_)
  refine w_Cf hC rfl ?_
  rw [z_1]
  refine w_series hC hW (hD.fr (fun b h1 h2 => hfr0 b (by omega))) hw hC.s109 hall (Or.inr rfl) hk (by omega) (fun N1 _ hfr => ?_)
  exact w_jp (h N1 (fun x hx => by rw [hfr x (by omega) (by omega), hfr0 x (by omega)]))
theorem w_lowerOf {f : Int32 → JM Mem τ} {Q : τ → Mem → NM → Prop} {k : Nat} (hC : CL M c) (hW : WL M w) (hD : WD N w p n T) (hw : w + 32 ≤ c + 72 ∨ c + 212 ≤ w) (hk : k ≤ 100)
    (h : ∀ N', (∀ x, x < c + 72 ∨ c + 117 ≤ x → N' x = N x) → GN M N' (f (zI (dm p n (LSr p n T Al k) : Nat))) Q) : GN M N (jb (jcall 0 c (f_X0_lowerOf c w (zI k))) f) Q := by
  refine w_Cc hC ?_
  unfold f_X0_lowerOf
  refine w_Cf hC rfl ?_
  refine w_all hC.s109 hW hD (by omega) (fun N0 hall hfr0 => ?_)
  refine w_Cf hC rfl ?_
  rw [z_0]
  refine w_series hC hW (hD.fr (fun b h1 h2 => hfr0 b (by omega))) hw hC.s109 hall (Or.inl rfl) hk (by omega) (fun N1 _ hfr => ?_)
  exact w_jp (h N1 (fun x hx => by rw [hfr x (by omega) (by omega), hfr0 x (by omega)]))
/-- three base vectors -/
def JS (n : Nat) (T : Nat → Nat → Nat → Int) (i j k m : Nat) : Int := sm n (fun l => T j k l * T i l m + T k i l * T j l m + T i j l * T k l m)
def Kl (p : Int) (n : Nat) (T : Nat → Nat → Nat → Int) (i j k : Nat) : Prop := ∀ m, m < n → Cg p (JS n T i j k m) 0
theorem w_keepsLaw {f : Int32 → JM Mem τ} {Q : τ → Mem → NM → Prop} {i j k : Nat} (hW : WL M w) (hD : WD N w p n T) (hi : i < n) (hj : j < n) (hk : k < n)
    (h : ∀ v, (v = 1 ∧ Kl p n T i j k ∨ v = 0 ∧ ¬ Kl p n T i j k) → GN M N (f (zI v)) Q) : GN M N (jb (f_X0_keepsLaw w (zI i) (zI j) (zI k)) f) Q := by
  have hpb := hD.pb
  have hn5 := hD.n5
  refine w_jb ?_
  unfold f_X0_keepsLaw
  rw [z_0]
  refine w_up n (fun m N1 => N1 = N ∧ ∀ x, x < m → Cg p (JS n T i j k x) 0) 0 rfl (by omega) ⟨rfl, fun x hx => by omega⟩ ?_
  rintro m N1 hm ⟨rfl, hz⟩
  unfold X0_keepsLaw_L3
  refine w_Wp hW ?_
  rw [hD.ne]
  refine w_le ⟨by omega, by omega⟩ ⟨by omega, by omega⟩ (fun hc => ?_) (fun hc => ?_)
  · exact w_jinl (w_jp (h 1 (Or.inl ⟨rfl, fun x hx => hz x (by omega)⟩)))
  have hmb : ∀ a b c d e f, 0 ≤ T a b c * T d e f ∧ T a b c * T d e f ≤ 49 := fun a b c d e f => by
    have h1 := hD.tb a b c
    have h2 := hD.tb d e f
    exact mul_bd (a := 7) (b := 7) (by omega) (by omega)
  have hsum : ∀ l, l ≤ 5 → 0 ≤ sm l (fun l => T j k l * T i l m + T k i l * T j l m + T i j l * T k l m) ∧ sm l (fun l => T j k l * T i l m + T k i l * T j l m + T i j l * T k l m) ≤ 1000 := fun l hl => by
    have := sm_bd (n := l) (f := fun l => T j k l * T i l m + T k i l * T j l m + T i j l * T k l m) (a := 0) (b := 150) (fun l _ => by
      have h1 := hmb j k l i l m
      have h2 := hmb k i l j l m
      have h3 := hmb i j l k l m
      show 0 ≤ T j k l * T i l m + T k i l * T j l m + T i j l * T k l m ∧ _
      omega)
    omega
  rw [z_0]
  refine w_up2 n (fun l x N2 => x = sm l (fun l => T j k l * T i l m + T k i l * T j l m + T i j l * T k l m) ∧ N2 = N1) 0 0 rfl (by omega) ⟨rfl, rfl⟩ ?_
  rintro l x N2 hl ⟨rfl, rfl⟩
  show GN M N2 (X0_keepsLaw_L18 w (zI _) (zI _) (zI _) (zI _) (zI _) (zI _)) _
  unfold X0_keepsLaw_L18
  have hsl := hsum l (by omega)
  refine w_Wp hW ?_
  rw [hD.ne]
  refine w_le ⟨by omega, by omega⟩ ⟨by omega, by omega⟩ (fun hd => ?_) (fun hd => ?_)
  · have : l = n := by omega
    subst this
    unfold X0_keepsLaw_b112
    refine w_jinl ?_
    refine w_by hW (by rw [hD.pe]; omega) ⟨by omega, by omega⟩ ?_
    rw [hD.pe, z_0]
    have hm1 := Int.emod_nonneg (sm l (fun l => T j k l * T i l m + T k i l * T j l m + T i j l * T k l m)) (show p ≠ 0 by omega)
    have hm2 := Int.emod_lt_of_pos (sm l (fun l => T j k l * T i l m + T k i l * T j l m + T i j l * T k l m)) (show 0 < p by omega)
    refine w_eq ⟨by omega, by omega⟩ ⟨by omega, by omega⟩ (fun he => ?_) (fun he => ?_)
    · rw [z_1, zI_add]
      refine w_jcont ⟨by omega, rfl, rfl, fun x hx => ?_⟩
      by_cases e : x = m
      · rw [e]; exact Cg.zero_iff.mpr he
      · exact hz x (by omega)
    · exact w_jinl (w_jp (h 0 (Or.inr ⟨rfl, fun hx => he (Cg.zero_iff.mp (hx m (by omega)))⟩)))
  refine w_tab hW (by omega) (by omega) ?_
  refine w_Wk hW (by omega) (by omega) (by omega) ?_
  refine w_tab hW (by omega) (by omega) ?_
  refine w_Wk hW (by omega) (by omega) (by omega) ?_
  refine w_tab hW (by omega) (by omega) ?_
  refine w_Wk hW (by omega) (by omega) (by omega) ?_
  refine w_tab hW (by omega) (by omega) ?_
  refine w_Wk hW (by omega) (by omega) (by omega) ?_
  refine w_tab hW (by omega) (by omega) ?_
  refine w_Wk hW (by omega) (by omega) (by omega) ?_
  refine w_tab hW (by omega) (by omega) ?_
  refine w_Wk hW (by omega) (by omega) (by omega) ?_
  rw [hD.t (by omega) (by omega) (by omega), hD.t (by omega) (by omega) (by omega), hD.t (by omega) (by omega) (by omega), hD.t (by omega) (by omega) (by omega), hD.t (by omega) (by omega) (by omega), hD.t (by omega) (by omega) (by omega)]
  rw [zI_mul, zI_mul, zI_mul, zI_add, zI_add, zI_add, z_1, zI_add]
  exact w_jlet (w_jcont ⟨by omega, _, rfl, rfl, rfl⟩)
/-- the law holds of all; or the first three of which it doesn't -/
def Lw (p : Int) (n : Nat) (T : Nat → Nat → Nat → Int) : Prop := ∀ i j k, i < j → j < k → k < n → Kl p n T i j k
def F3 (p : Int) (n : Nat) (T : Nat → Nat → Nat → Int) (i j k : Nat) : Prop := i < j ∧ j < k ∧ k < n ∧ ¬ Kl p n T i j k ∧ ∀ i' j' k', i' < j' → j' < k' → k' < n → (i' < i ∨ i' = i ∧ (j' < j ∨ j' = j ∧ k' < k)) → Kl p n T i' j' k'
theorem w_isLawful {f : Int32 → JM Mem τ} {Q : τ → Mem → NM → Prop} (hC : CL M c) (hW : WL M w) (hD : WD N w p n T) (hw : w + 32 ≤ c + 72 ∨ c + 212 ≤ w)
    (h1 : Lw p n T → GN M N (f (zI 1)) Q) (h2 : ∀ i j k, F3 p n T i j k → GN M (up2 (up2 (up2 N (c + 76) 0 i) (c + 76) 1 j) (c + 76) 2 k) (f (zI 0)) Q) : GN M N (jb (jcall 0 c (f_X0_isLawful c w)) f) Q := by
  have hn5 := hD.n5
  refine w_Cc hC ?_
  unfold f_X0_isLawful
  rw [z_0]
  refine w_up n (fun i N1 => N1 = N ∧ ∀ i' j' k', i' < j' → j' < k' → k' < n → i' < i → Kl p n T i' j' k') 0 rfl (by omega) ⟨rfl, fun _ _ _ _ _ _ h => by omega⟩ ?_
  rintro i N1 hi ⟨rfl, hz⟩
  unfold X0_isLawful_L2
  refine w_Wp hW ?_
  rw [hD.ne]
  refine w_le ⟨by omega, by omega⟩ ⟨by omega, by omega⟩ (fun hc => ?_) (fun hc => ?_)
  · exact w_jinl (w_jp (h1 (fun i' j' k' a b c => hz i' j' k' a b c (by omega))))
  rw [z_1, zI_add]
  refine w_jlet ?_
  refine w_up n (fun j N2 => N2 = N1 ∧ i < j ∧ ∀ i' j' k', i' < j' → j' < k' → k' < n → (i' < i ∨ i' = i ∧ j' < j) → Kl p n T i' j' k') (i + 1) (by rfl) (by omega) ⟨rfl, by omega, fun i' j' k' a b c d => hz i' j' k' a b c (by omega)⟩ ?_
  rintro j N2 hj ⟨rfl, hij, hz2⟩
  unfold X0_isLawful_L14
  refine w_Wp hW ?_
  rw [hD.ne]
  refine w_le ⟨by omega, by omega⟩ ⟨by omega, by omega⟩ (fun hd => ?_) (fun hd => ?_)
  · unfold X0_isLawful_b86
    rw [z_1, zI_add]
    exact w_jinl (w_jcont ⟨by omega, rfl, rfl, fun i' j' k' a b c d => hz2 i' j' k' a b c (by omega)⟩)
  rw [z_1, zI_add]
  refine w_jlet ?_
  refine w_up n (fun k N3 => N3 = N2 ∧ j < k ∧ ∀ i' j' k', i' < j' → j' < k' → k' < n → (i' < i ∨ i' = i ∧ (j' < j ∨ j' = j ∧ k' < k)) → Kl p n T i' j' k') (j + 1) (by rfl) (by omega) ⟨rfl, by omega, fun i' j' k' a b c d => hz2 i' j' k' a b c (by omega)⟩ ?_
  rintro k N3 hk ⟨rfl, hjk, hz3⟩
  unfold X0_isLawful_L27
  refine w_Wp hW ?_
  rw [hD.ne]
  refine w_le ⟨by omega, by omega⟩ ⟨by omega, by omega⟩ (fun he => ?_) (fun he => ?_)
  · unfold X0_isLawful_b80
    rw [z_1, zI_add]
    exact w_jinl (w_jcont ⟨by omega, rfl, rfl, by omega, fun i' j' k' a b c d => hz3 i' j' k' a b c (by omega)⟩)
  refine w_keepsLaw hW hD (by omega) (by omega) (by omega) (fun v hv => ?_)
  rw [z_0]
  refine w_eq ⟨by omega, by omega⟩ ⟨by omega, by omega⟩ (fun hf => ?_) (fun hf => ?_)
  · have hnk : ¬ Kl p n T i j k := by
      rcases hv with ⟨e, _⟩ | ⟨_, e⟩
      · omega
      · exact e
    refine w_jinl (w_jinl (w_jinl ?_))
    unfold X0_isLawful_b50
    have h76 := hC.ka (o := 76) (d := (0, 3)) rfl
    refine w_Cf hC rfl ?_
    rw [z_0]
    refine w_ast h76 (by omega) (by omega) ?_
    refine w_Cf hC rfl ?_
    rw [z_1]
    refine w_ast h76 (by omega) (by omega) ?_
    refine w_Cf hC rfl ?_
    rw [z_2]
    refine w_ast h76 (by omega) (by omega) ?_
    exact w_jp (h2 i j k ⟨hij, hjk, by omega, hnk, hz3⟩)
  · have hyk : Kl p n T i j k := by
      rcases hv with ⟨_, e⟩ | ⟨e, _⟩
      · exact e
      · omega
    rw [z_1, zI_add]
    refine w_jcont ⟨by omega, rfl, rfl, by omega, fun i' j' k' a b c d => ?_⟩
    by_cases e : i' = i ∧ j' = j ∧ k' = k
    · rw [e.1, e.2.1, e.2.2]; exact hyk
    · exact hz3 i' j' k' a b c (by omega)
theorem w_clearRows {f : Unit → JM Mem τ} {Q : τ → Mem → NM → Prop} {many wide : Nat} (hC : CL M c) (hm : many ≤ 64) (hwd : wide ≤ 32)
    (h : ∀ N', (∀ r k, r < many → k < wide → N' (rpl M (c + 117) r) k = 0) → (∀ b, b < c + 118 ∨ c + 182 ≤ b → N' b = N b) → GN M N' (f ()) Q) : GN M N (jb (jcall 0 c (f_X0_clearRows c (zI many) (zI wide))) f) Q := by
  refine w_Cc hC ?_
  unfold f_X0_clearRows
  rw [z_0]
  have hRP := hC.ro
  refine w_up many (fun r N1 => (∀ r' k, r' < r → k < wide → N1 (rpl M (c + 117) r') k = 0) ∧ ∀ b, b < c + 118 ∨ c + 182 ≤ b → N1 b = N b) 0 rfl (by omega) ⟨fun r' k hr => by omega, fun _ _ => rfl⟩ ?_
  rintro r N1 hr ⟨g1, g2⟩
  unfold X0_clearRows_L2
  refine w_le ⟨by omega, by omega⟩ ⟨by omega, by omega⟩ (fun hc => ?_) (fun hc => ?_)
  · exact w_jinl (w_jp (h N1 (fun r' k h1 h2 => g1 r' k (by omega) h2) g2))
  rw [z_0]
  refine w_up wide (fun k N2 => (∀ r' k', r' < many → k' < wide → r' < r ∨ r' = r ∧ k' < k → N2 (rpl M (c + 117) r') k' = 0) ∧ ∀ b, b < c + 118 ∨ c + 182 ≤ b → N2 b = N b) 0 rfl (by omega) ⟨fun r' k' _ h2 h3 => g1 r' k' (by omega) h2, g2⟩ ?_
  rintro k N2 hk ⟨k1, k2⟩
  unfold X0_clearRows_L10
  refine w_le ⟨by omega, by omega⟩ ⟨by omega, by omega⟩ (fun hd => ?_) (fun hd => ?_)
  · unfold X0_clearRows_b32
    rw [z_1, zI_add]
    exact w_jinl (w_jcont ⟨by omega, rfl, fun r' k' h1 h2 => k1 r' k' (by omega) h2 (by omega), k2⟩)
  refine w_Cf hC rfl ?_
  refine w_Rp (hC.ka rfl) hRP (by omega) (by omega) ?_
  have hra := hRP.ra (show r < 64 by omega)
  rw [z_0]
  refine w_ast hra.2.2.2 (by omega) (by omega) ?_
  rw [z_1, zI_add]
  refine w_jcont ⟨by omega, rfl, fun r' k' h1 h2 h3 => ?_, fun b hb => ?_⟩
  · show (if rpl M (c + 117) r' = rpl M (c + 117) r ∧ k' = k then (0 : Int) else N2 (rpl M (c + 117) r') k') = 0
    by_cases e : r' = r ∧ k' = k
    · rw [e.1, if_pos ⟨rfl, e.2⟩]
    · rw [if_neg (fun x => e ⟨hRP.inj (by omega) (by omega) x.1, x.2⟩)]
      exact k1 r' k' h1 h2 (by omega)
  · funext x
    show (if b = rpl M (c + 117) r ∧ _ then _ else N2 b x) = N b x
    rw [if_neg (by omega), k2 b hb]
/-- base vectors' brackets with all, one row each -/
def CeA (n : Nat) (T : Nat → Nat → Nat → Int) : Nat → Nat → Int := fun i q => T i (q / n) (q % n)
theorem w_centreOf {f : Int32 → JM Mem τ} {Q : τ → Mem → NM → Prop} (hC : CL M c) (hW : WL M w) (hD : WD N w p n T) (hw : w + 32 ≤ c + 72 ∨ c + 212 ≤ w)
    (h : ∀ M' N', Bg c M M' → (∀ b, b < c + 118 ∨ c + 182 ≤ b → N' b = N b) → GN M' N' (f (zI (n - (dm p (n * n) (Rs p (n * n) n (CeA n T)) : Nat)))) Q) : GN M N (jb (jcall 0 c (f_X0_centreOf c w)) f) Q := by
  have hpb := hD.pb
  have hn5 := hD.n5
  have hnn : n * n ≤ 25 := Nat.mul_le_mul hn5 hn5
  refine w_Cc hC ?_
  unfold f_X0_centreOf
  refine w_Wp hW (w_Wp hW (w_Wp hW ?_))
  rw [hD.ne, zI_mul, show (n : Int) * (n : Int) = ((n * n : Nat) : Int) from (Int.natCast_mul n n).symm]
  refine w_clearRows hC (by omega) (by omega) (fun N0 hz hfr0 => ?_)
  have hRP := hC.ro
  have frw : ∀ N1 : NM, (∀ b, b < c + 118 ∨ c + 182 ≤ b → N1 b = N b) → WD N1 w p n T := fun N1 g => hD.fr (fun b h1 h2 => g b (by omega))
  rw [z_0]
  refine w_up n (fun i N1 => (∀ i' q, i' < i → q < n * n → N1 (rpl M (c + 117) i') q = CeA n T i' q) ∧ ∀ b, b < c + 118 ∨ c + 182 ≤ b → N1 b = N b) 0 rfl (by omega) ⟨fun i' q hi => by omega, hfr0⟩ ?_
  rintro i N1 hi ⟨g1, g2⟩
  unfold X0_centreOf_L19
  refine w_Wp hW ?_
  rw [(frw N1 g2).ne]
  refine w_le ⟨by omega, by omega⟩ ⟨by omega, by omega⟩ (fun hc => ?_) (fun hc => ?_)
  · unfold X0_centreOf_b77
    refine w_jinl ?_
    refine w_Wp hW ?_
    refine w_Cf hC rfl ?_
    refine w_Wp hW (w_Wp hW (w_Wp hW ?_))
    rw [(frw N1 g2).ne, zI_mul, show (n : Int) * (n : Int) = ((n * n : Nat) : Int) from (Int.natCast_mul n n).symm]
    refine w_rank hC hW (frw N1 g2) (by omega) (by omega) (by omega) (fun r k hr hk => g1 r k (by omega) hk) (fun r k => hD.tb _ _ _) (fun M2 N2 hb hfr2 => ?_)
    rw [zI_sub]
    exact w_jp (h M2 N2 hb (fun b hb9 => by rw [hfr2 b hb9, g2 b hb9]))
  rw [z_0]
  refine w_up n (fun j N2 => (∀ i' q, i' < n → q < n * n → i' < i ∨ i' = i ∧ q < n * j → N2 (rpl M (c + 117) i') q = CeA n T i' q) ∧ ∀ b, b < c + 118 ∨ c + 182 ≤ b → N2 b = N b) 0 rfl (by omega) ⟨fun i' q _ h2 h3 => g1 i' q (by omega) h2, g2⟩ ?_
  rintro j N2 hj ⟨k1, k2⟩
  unfold X0_centreOf_L29
  refine w_Wp hW ?_
  rw [(frw N2 k2).ne]
  refine w_le ⟨by omega, by omega⟩ ⟨by omega, by omega⟩ (fun hd => ?_) (fun hd => ?_)
  · have : j = n := by omega
    subst this
    unfold X0_centreOf_b71
    rw [z_1, zI_add]
    exact w_jinl (w_jcont ⟨by omega, rfl, fun i' q h1 h2 => k1 i' q (by omega) h2 (by omega), k2⟩)
  refine w_tab hW (by omega) (by omega) ?_
  refine w_Cf hC rfl ?_
  refine w_Rp (hC.ka rfl) hRP (by omega) (by omega) ?_
  refine w_Wp hW (w_Wp hW ?_)
  have hjn : n * j + n ≤ n * n := by
    have := Nat.mul_le_mul_left n (show j + 1 ≤ n by omega)
    rw [Nat.mul_add, Nat.mul_one] at this
    exact this
  rw [(frw N2 k2).ne, zI_mul, show (j : Int) * (n : Int) = ((n * j : Nat) : Int) by rw [Int.natCast_mul, Int.mul_comm], z_0]
  have hra := hRP.ra (show i < 64 by omega)
  refine w_copy (sp := 0) (dp := n * j) (n := n) (hW.kk (by omega) (by omega)) hra.2.2.2 (by omega) (by omega) ?_
  rw [z_1, zI_add]
  refine w_jcont ⟨by omega, rfl, fun i' q h1 h2 h3 => ?_, fun b hb => ?_⟩
  · show (if rpl M (c + 117) i' = rpl M (c + 117) i ∧ n * j ≤ q ∧ q < n * j + n then N2 (w + 3 + 6 * i + j) (0 + (q - n * j)) else N2 (rpl M (c + 117) i') q) = _
    by_cases e : i' = i ∧ n * j ≤ q ∧ q < n * j + n
    · rw [e.1, if_pos ⟨rfl, e.2⟩, (frw N2 k2).t (by omega) (by omega) (by omega)]
      have e1 : q / n = j := Nat.div_eq_of_lt_le (by rw [Nat.mul_comm]; omega) (by rw [Nat.add_mul, Nat.one_mul, Nat.mul_comm]; omega)
      have e2 : q % n = q - n * j := by
        have := Nat.div_add_mod q n
        rw [e1] at this
        omega
      show T i j (0 + (q - n * j)) = T i (q / n) (q % n)
      rw [e1, e2, Nat.zero_add]
    · rw [if_neg (fun x => e ⟨hRP.inj (by omega) (by omega) x.1, x.2⟩)]
      have e3 : n * (j + 1) = n * j + n := by rw [Nat.mul_add, Nat.mul_one]
      exact k1 i' q h1 h2 (by omega)
  · funext x
    show (if b = rpl M (c + 117) i ∧ _ then _ else N2 b x) = N b x
    rw [if_neg (by omega), k2 b hb]
/-- the component's loop that makes a unit vector -/
theorem w_unity {K : JM Mem ρ} {bd : Int32 → JM Mem (ρ ⊕ Int32)} {Q : ρ → Mem → NM → Prop} {i : Nat} (hC : CL M c) (hi : i ≤ 100)
    (hb : ∀ t, bd t = (if 5 ≤ t then jinl K else jb (jgetA 0 14 c) fun v => if t = zI i then (jb (jast_i v t 1) fun _ => jcont (t + 1)) else (jb (jast_i v t 0) fun _ => jcont (t + 1)))) (h : GN M (wr5 N (c + 73) (un i)) K Q) : GN M N (jloop bd 0) Q := by
  refine w_up 5 (fun k N1 => N1 = wrj N (c + 73) k (un i)) 0 rfl (by omega) wrj_0.symm ?_
  rintro k N1 hk rfl
  rw [hb, z_5]
  refine w_le ⟨by omega, by omega⟩ ⟨by omega, by omega⟩ (fun hc => ?_) (fun hc => ?_)
  · have : k = 5 := by omega
    subst this
    exact w_jinl h
  refine w_Cf hC rfl ?_
  refine w_eq ⟨by omega, by omega⟩ ⟨by omega, by omega⟩ (fun he => ?_) (fun he => ?_)
  · rw [z_1]
    refine w_ast (hC.ka rfl) (by omega) (by omega) ?_
    rw [zI_add, show ((k : Int).toNat) = k from rfl, wrj_up (g := un i) (v := 1) (by rw [un, if_pos (by omega)])]
    exact w_jcont ⟨by omega, rfl, rfl⟩
  · rw [z_0]
    refine w_ast (hC.ka rfl) (by omega) (by omega) ?_
    rw [z_1, zI_add, show ((k : Int).toNat) = k from rfl, wrj_up (g := un i) (v := 0) (by rw [un, if_neg (by omega)])]
    exact w_jcont ⟨by omega, rfl, rfl⟩
theorem un_vd {v i : Nat} (hp : Pr p) (hi : i < n) : VD (wr5 N v (un i)) v p n (un i) := by
  have := hp.pos
  refine ⟨fun k hk => wr5_at hk, fun k => ?_⟩
  unfold un
  refine ⟨?_, ?_, fun hk => if_neg (by omega)⟩
  · split <;> omega
  · split <;> omega
/-- a vector's numbers, none behind n -/
def dgv (p : Int) (n : Nat) (v : Int) : Nat → Int := fun k => if k < n then dg p v k else 0
theorem dgv_bd {v : Int} (hp : 0 < p) (k : Nat) : 0 ≤ dgv p n v k ∧ dgv p n v k < p ∧ (n ≤ k → dgv p n v k = 0) := by
  unfold dgv
  have := dg_bd (v := v) hp k
  refine ⟨?_, ?_, fun hk => if_neg (by omega)⟩
  · split <;> omega
  · split <;> omega
theorem w_rankOf {f : Int32 → JM Mem τ} {Q : τ → Mem → NM → Prop} {v : Int} (hC : CL M c) (hW : WL M w) (hD : WD N w p n T) (hw : w + 32 ≤ c + 72 ∨ c + 212 ≤ w) (hv : 0 ≤ v ∧ v < 1000000)
    (h : ∀ M' N', Bg c M M' → (∀ b, b < c + 72 ∨ c + 182 ≤ b → N' b = N b) → GN M' N' (f (zI (dm p n (Rs p n n (fun j => bkm p n T (dgv p n v) (un j))) : Nat))) Q) : GN M N (jb (jcall 0 c (f_X0_rankOf c w (zI v))) f) Q := by
  have hpb := hD.pb
  have hn5 := hD.n5
  have hp := hD.pr
  refine w_Cc hC ?_
  unfold f_X0_rankOf
  refine w_Cf hC rfl ?_
  refine w_parts hW hD hv (hC.ka rfl) (by omega) (by omega) ?_
  have hRP := hC.ro
  rw [z_0]
  refine w_up n (fun j N1 => (∀ k, k < 5 → N1 (c + 72) k = dgv p n v k) ∧ (∀ j' k, j' < j → k < n → N1 (rpl M (c + 117) j') k = bkm p n T (dgv p n v) (un j') k) ∧ ∀ b, b < c + 72 ∨ c + 182 ≤ b → N1 b = N b) 0 rfl (by omega)
    ⟨fun k hk => wr5_at hk, fun j' k hj => by omega, fun b hb => wr5_ne (by omega)⟩ ?_
  rintro j N1 hj ⟨g0, g1, g2⟩
  have frw : ∀ N1 : NM, (∀ b, b < c + 72 ∨ c + 182 ≤ b → N1 b = N b) → WD N1 w p n T := fun N1 g => hD.fr (fun b h1 h2 => g b (by omega))
  unfold X0_rankOf_L11
  refine w_Wp hW ?_
  rw [(frw N1 g2).ne]
  refine w_le ⟨by omega, by omega⟩ ⟨by omega, by omega⟩ (fun hc => ?_) (fun hc => ?_)
  · unfold X0_rankOf_b76
    refine w_jinl ?_
    refine w_Cf hC rfl ?_
    refine w_Wp hW (w_Wp hW ?_)
    rw [(frw N1 g2).ne]
    refine w_rank hC hW (frw N1 g2) (by omega) (by omega) (by omega) (fun r k hr hk => g1 r k (by omega) hk) (fun r k => ⟨(bkm_bd hD.ok k).1, (bkm_bd hD.ok k).2.1⟩) (fun M2 N2 hb hfr2 => ?_)
    exact w_jp (h M2 N2 hb (fun b hb9 => by rw [hfr2 b (by omega), g2 b hb9]))
  have hjn : j < n := by omega
  refine w_unity hC (i := j) (K := X0_rankOf_b52 c w (zI j)) (by omega) (fun t => rfl) ?_
  unfold X0_rankOf_b52
  refine w_Cf hC rfl ?_
  refine w_Cf hC rfl ?_
  refine w_Cf hC rfl ?_
  refine w_Rp (hC.ka rfl) hRP (by omega) (by omega) ?_
  have hra := hRP.ra (show j < 64 by omega)
  refine w_wbracket hW ((frw N1 g2).fr (fun b h1 h2 => wr5_ne (by omega))) (hC.ka rfl) (by omega) (hC.ka rfl) (by omega) hra.2.2.2 (by omega) (X := dgv p n v) ⟨fun k hk => by rw [wr5_ne (by omega)]; exact g0 k hk, fun k => dgv_bd (by omega) k⟩ (un_vd hp hjn) (by omega) (by omega) (by omega) ?_
  rw [z_1, zI_add]
  refine w_jcont ⟨hjn, rfl, fun k hk => ?_, fun j' k h1 h2 => ?_, fun b hb => ?_⟩
  · rw [wr5_ne (by omega), wr5_ne (by omega)]; exact g0 k hk
  · by_cases e : j' = j
    · rw [e, wr5_at (by omega)]; rfl
    · rw [wr5_ne (fun x => e (hRP.inj (by omega) (by omega) x)), wr5_ne (by have := (hRP.ra (show j' < 64 by omega)).2; omega)]
      exact g1 j' k (by omega) h2
  · rw [wr5_ne (by omega), wr5_ne (by omega), g2 b hb]
end CMP2
