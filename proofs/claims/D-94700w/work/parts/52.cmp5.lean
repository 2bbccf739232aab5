/-! THE COMPONENT: counts, simple, unimodular, the form, commuting couples. -/
set_option maxRecDepth 100000
section CMP5
variable {α τ ρ : Type} {M : Mem} {N N' : NM} {c w s : Nat} {p : Int} {n m : Nat} {T : Nat → Nat → Nat → Int}
theorem two_pow {n : Nat} (hn : n ≤ 5) : 2 ^ n ≤ 32 ∧ 1 ≤ 2 ^ n := by
  have h : n = 0 ∨ n = 1 ∨ n = 2 ∨ n = 3 ∨ n = 4 ∨ n = 5 := by omega
  rcases h with rfl | rfl | rfl | rfl | rfl | rfl <;> decide
theorem CBn_bd (hp : Pr p) (hn : n ≤ 5) {kind set : Nat} (hs : set < 32) : CBn p n T kind set ≤ 117649 := Nat.le_trans cn_le (pnf_bd hp hn hs)
theorem CSp_bd (hp : Pr p) (hn : n ≤ 5) {size kind : Nat} : ∀ s, s ≤ 32 → 0 ≤ sm s (fun set => if bcn set n = size then (CBn p n T kind set : Int) else 0) ∧ sm s (fun set => if bcn set n = size then (CBn p n T kind set : Int) else 0) ≤ 3764768 := fun s hs => by
  have := sm_bd (n := s) (f := fun set => if bcn set n = size then (CBn p n T kind set : Int) else 0) (a := 0) (b := 117649) (fun set h => by
    have := CBn_bd (T := T) hp hn (kind := kind) (show set < 32 by omega)
    show 0 ≤ (if bcn set n = size then (CBn p n T kind set : Int) else 0) ∧ (if bcn set n = size then (CBn p n T kind set : Int) else 0) ≤ 117649
    split <;> omega)
  omega
theorem w_count {f : Int32 → JM Mem τ} {Q : τ → Mem → NM → Prop} {size kind : Nat} (hC : CL M c) (hW : WL M w) (hD : WD N w p n T) (hw : w + 32 ≤ c + 72 ∨ c + 212 ≤ w) (hk : kind ≤ 6) (hs : size ≤ 10)
    (h : ∀ M' N', Bg c M M' → (∀ x, x < c + 72 ∨ c + 192 ≤ x → N' x = N x) → GN M' N' (f (zI (CSn p n T size kind))) Q) : GN M N (jb (jcall 0 c (f_X0_count c w (zI size) (zI kind))) f) Q := by
  have hn5 := hD.n5
  have hp := hD.pr
  have h2 := two_pow hn5
  refine w_Cc hC ?_
  unfold f_X0_count
  rw [z_0]
  refine w_up2B (2 ^ n) (fun set x M1 N1 => x = sm set (fun set => if bcn set n = size then (CBn p n T kind set : Int) else 0) ∧ Bg c M M1 ∧ ∀ x, x < c + 72 ∨ c + 192 ≤ x → N1 x = N x) 0 0 rfl (by omega) ⟨rfl, Bg.rf hC, fun _ _ => rfl⟩ ?_
  rintro set x M1 N1 hset ⟨rfl, hb, hfr⟩
  show GN M1 N1 (X0_count_L6 c w (zI _) (zI _) (zI _) (zI _)) _
  have hC1 := hC.bg hb
  have hW1 := hW.bg hb (by omega)
  have gw : WD N1 w p n T := hD.fr (fun b h1 h2 => hfr b (by omega))
  have hbd := CSp_bd (T := T) hp hn5 (size := size) (kind := kind)
  have hbs := hbd set (by omega)
  unfold X0_count_L6
  refine w_Wp hW1 ?_
  rw [gw.ne, bit_shl n (by omega)]
  refine w_le ⟨by omega, by omega⟩ ⟨by omega, by omega⟩ (fun hc => ?_) (fun hc => ?_)
  · have : set = 2 ^ n := by omega
    subst this
    exact w_jinl (w_jp (h M1 N1 hb hfr))
  refine w_bitCount (by omega) ?_
  rw [bcn_hi n (by omega) set (by omega)]
  have hbn := bcn_le set n
  unfold X0_count_b39
  refine w_eq ⟨by omega, by omega⟩ ⟨by omega, by omega⟩ (fun he => ?_) (fun he => ?_)
  · refine w_countBy hC1 hW1 gw hw (by omega) hk (fun M2 N2 hb2 hfr2 => ?_)
    rw [zI_add, z_1, zI_add]
    refine w_jlet (w_jcontB ⟨by omega, _, rfl, ?_, hb.tr hb2, fun x hx => by rw [hfr2 x hx, hfr x hx]⟩)
    rw [sm_s, if_pos (by omega)]
  · rw [z_1, zI_add]
    refine w_jcontB ⟨by omega, _, rfl, ?_, hb, hfr⟩
    rw [sm_s, if_neg (by omega), Int.add_zero]
/-- simple: some brackets, no ideals between -/
def Smp (p : Int) (n : Nat) (T : Nat → Nat → Nat → Int) : Prop := dm p n (DSr p n T Al 1) ≠ 0 ∧ ∀ size, 1 ≤ size → size < n → CSn p n T size 1 = 0
theorem w_isSimple {f : Int32 → JM Mem τ} {Q : τ → Mem → NM → Prop} (hC : CL M c) (hW : WL M w) (hD : WD N w p n T) (hw : w + 32 ≤ c + 72 ∨ c + 212 ≤ w)
    (h : ∀ M' N' v, (v = 1 ∧ Smp p n T ∨ v = 0 ∧ ¬ Smp p n T) → Bg c M M' → (∀ x, x < c + 72 ∨ c + 192 ≤ x → N' x = N x) → GN M' N' (f (zI v)) Q) : GN M N (jb (jcall 0 c (f_X0_isSimple c w)) f) Q := by
  have hn5 := hD.n5
  have hn1 := hD.n1
  have hp := hD.pr
  refine w_Cc hC ?_
  unfold f_X0_isSimple
  rw [z_1]
  refine w_derivedOf (k := 1) hC hW hD hw (by omega) (fun N0 hfr0 => ?_)
  have hdl := dm_le (p := p) (n := n) (S := DSr p n T Al 1)
  rw [z_0]
  refine w_eq ⟨by omega, by omega⟩ ⟨by omega, by omega⟩ (fun hc => ?_) (fun hc => ?_)
  · exact w_jp (h M N0 0 (Or.inr ⟨rfl, fun q => q.1 (by omega)⟩) (Bg.rf hC) (fun x hx => hfr0 x (by omega)))
  refine w_upB n (fun size M1 N1 => (∀ s, 1 ≤ s → s < size → CSn p n T s 1 = 0) ∧ 1 ≤ size ∧ Bg c M M1 ∧ ∀ x, x < c + 72 ∨ c + 192 ≤ x → N1 x = N x) 1 rfl (by omega) ⟨fun s h1 h2 => by omega, by omega, Bg.rf hC, fun x hx => hfr0 x (by omega)⟩ ?_
  rintro size M1 N1 hsz ⟨g1, g2, hb, hfr⟩
  have hC1 := hC.bg hb
  have hW1 := hW.bg hb (by omega)
  have gw : WD N1 w p n T := hD.fr (fun b h1 h2 => hfr b (by omega))
  unfold X0_isSimple_L13
  refine w_Wp hW1 ?_
  rw [gw.ne]
  refine w_le ⟨by omega, by omega⟩ ⟨by omega, by omega⟩ (fun hd => ?_) (fun hd => ?_)
  · exact w_jinl (w_jp (h M1 N1 1 (Or.inl ⟨rfl, by omega, fun s h1 h2 => g1 s h1 (by omega)⟩) hb hfr))
  rw [z_1]
  refine w_count (kind := 1) hC1 hW1 gw hw (by omega) (by omega) (fun M2 N2 hb2 hfr2 => ?_)
  have hbd := CSp_bd (T := T) hp hn5 (size := size) (kind := 1) (2 ^ n) (two_pow hn5).1
  have hbd : 0 ≤ CSn p n T size 1 ∧ CSn p n T size 1 ≤ 3764768 := hbd
  rw [z_0]
  refine w_le ⟨by omega, by omega⟩ ⟨by omega, by omega⟩ (fun he => ?_) (fun he => ?_)
  · rw [zI_add]
    refine w_jcontB ⟨by omega, rfl, fun s h1 h2 => ?_, by omega, hb.tr hb2, fun x hx => by rw [hfr2 x hx, hfr x hx]⟩
    by_cases e : s = size
    · rw [e]; omega
    · exact g1 s h1 (by omega)
  · refine w_jinl (w_jp (h M2 N2 0 (Or.inr ⟨rfl, fun q => ?_⟩) (hb.tr hb2) (fun x hx => by rw [hfr2 x hx, hfr x hx])))
    have := q.2 size g2 (by omega)
    omega
def Uni (p : Int) (n : Nat) (T : Nat → Nat → Nat → Int) : Prop := ∀ i, i < n → Cg p (sm n (fun k => T i k k)) 0
theorem w_isUnimodular {f : Int32 → JM Mem τ} {Q : τ → Mem → NM → Prop} (hC : CL M c) (hW : WL M w) (hD : WD N w p n T) (h : ∀ v, (v = 1 ∧ Uni p n T ∨ v = 0 ∧ ¬ Uni p n T) → GN M N (f (zI v)) Q) : GN M N (jb (jcall 0 c (f_X0_isUnimodular c w)) f) Q := by
  have hn5 := hD.n5
  have hpb := hD.pb
  refine w_Cc hC ?_
  unfold f_X0_isUnimodular
  rw [z_0]
  refine w_up n (fun i N1 => N1 = N ∧ ∀ x, x < i → Cg p (sm n (fun k => T x k k)) 0) 0 rfl (by omega) ⟨rfl, fun x hx => by omega⟩ ?_
  rintro i N1 hi ⟨rfl, hz⟩
  unfold X0_isUnimodular_L2
  refine w_Wp hW ?_
  rw [hD.ne]
  refine w_le ⟨by omega, by omega⟩ ⟨by omega, by omega⟩ (fun hc => ?_) (fun hc => ?_)
  · exact w_jinl (w_jp (h 1 (Or.inl ⟨rfl, fun x hx => hz x (by omega)⟩)))
  have hsum : ∀ l, l ≤ 5 → 0 ≤ sm l (fun k => T i k k) ∧ sm l (fun k => T i k k) ≤ 35 := fun l hl => by
    have := sm_bd (n := l) (f := fun k => T i k k) (a := 0) (b := 7) (fun k _ => by have := hD.tb i k k; omega)
    omega
  rw [z_0]
  refine w_up2 n (fun l x N2 => x = sm l (fun k => T i k k) ∧ N2 = N1) 0 0 rfl (by omega) ⟨rfl, rfl⟩ ?_
  rintro l x N2 hl ⟨rfl, rfl⟩
  show GN M N2 (X0_isUnimodular_L15 w (zI _) (zI _) (zI _)) _
  unfold X0_isUnimodular_L15
  have hsl := hsum l (by omega)
  refine w_Wp hW ?_
  rw [hD.ne]
  refine w_le ⟨by omega, by omega⟩ ⟨by omega, by omega⟩ (fun hd => ?_) (fun hd => ?_)
  · have : l = n := by omega
    subst this
    unfold X0_isUnimodular_b45
    refine w_jinl ?_
    refine w_by hW (by rw [hD.pe]; omega) ⟨by omega, by omega⟩ ?_
    rw [hD.pe, z_0]
    have hm1 := Int.emod_nonneg (sm l (fun k => T i k k)) (show p ≠ 0 by omega)
    have hm2 := Int.emod_lt_of_pos (sm l (fun k => T i k k)) (show 0 < p by omega)
    refine w_eq ⟨by omega, by omega⟩ ⟨by omega, by omega⟩ (fun he => ?_) (fun he => ?_)
    · rw [z_1, zI_add]
      refine w_jcont ⟨by omega, rfl, rfl, fun x hx => ?_⟩
      by_cases e : x = i
      · rw [e]; exact Cg.zero_iff.mpr he
      · exact hz x (by omega)
    · exact w_jinl (w_jp (h 0 (Or.inr ⟨rfl, fun hx => he (Cg.zero_iff.mp (hx i (by omega)))⟩)))
  refine w_tab hW (by omega) (by omega) ?_
  refine w_Wk hW (by omega) (by omega) (by omega) ?_
  rw [hD.t (by omega) (by omega) (by omega), zI_add, z_1, zI_add]
  exact w_jlet (w_jcont ⟨by omega, _, rfl, rfl, rfl⟩)
/-- the form by traces -/
def FoA (p : Int) (n : Nat) (T : Nat → Nat → Nat → Int) : Nat → Nat → Int := fun i j => sm n (fun k => sm n (fun l => T i l k * T j k l)) % p
theorem w_formOf {f : Int32 → JM Mem τ} {Q : τ → Mem → NM → Prop} (hC : CL M c) (hW : WL M w) (hD : WD N w p n T) (hw : w + 32 ≤ c + 72 ∨ c + 212 ≤ w)
    (h : ∀ M' N', Bg c M M' → (∀ b, b < c + 118 ∨ c + 182 ≤ b → N' b = N b) → GN M' N' (f (zI (dm p n (Rs p n n (FoA p n T)) : Nat))) Q) : GN M N (jb (jcall 0 c (f_X0_formOf c w)) f) Q := by
  have hpb := hD.pb
  have hn5 := hD.n5
  refine w_Cc hC ?_
  unfold f_X0_formOf
  refine w_Wp hW ?_
  rw [hD.ne]
  refine w_clearRows hC (by omega) (by omega) (fun N0 _ hfr0 => ?_)
  have hRP := hC.ro
  have frw : ∀ N1 : NM, (∀ b, b < c + 118 ∨ c + 182 ≤ b → N1 b = N b) → WD N1 w p n T := fun N1 g => hD.fr (fun b h1 h2 => g b (by omega))
  have hterm : ∀ i j k l, 0 ≤ T i l k * T j k l ∧ T i l k * T j k l ≤ 49 := fun i j k l => by
    have h1 := hD.tb i l k
    have h2 := hD.tb j k l
    exact mul_bd (a := 7) (b := 7) (by omega) (by omega)
  have hin : ∀ i j k l, l ≤ 5 → 0 ≤ sm l (fun l => T i l k * T j k l) ∧ sm l (fun l => T i l k * T j k l) ≤ 245 := fun i j k l hl => by
    have := sm_bd (n := l) (f := fun l => T i l k * T j k l) (a := 0) (b := 49) (fun l _ => hterm i j k l)
    omega
  have hout : ∀ i j k, k ≤ 5 → 0 ≤ sm k (fun k => sm n (fun l => T i l k * T j k l)) ∧ sm k (fun k => sm n (fun l => T i l k * T j k l)) ≤ 1225 := fun i j k hk => by
    have := sm_bd (n := k) (f := fun k => sm n (fun l => T i l k * T j k l)) (a := 0) (b := 245) (fun k _ => hin i j k n hn5)
    omega
  rw [z_0]
  refine w_up n (fun i N1 => (∀ i' j', i' < i → j' < n → N1 (rpl M (c + 117) i') j' = FoA p n T i' j') ∧ ∀ b, b < c + 118 ∨ c + 182 ≤ b → N1 b = N b) 0 rfl (by omega) ⟨fun i' j' hi => by omega, hfr0⟩ ?_
  rintro i N1 hi ⟨g1, g2⟩
  unfold X0_formOf_L13
  refine w_le ⟨by omega, by omega⟩ ⟨by omega, by omega⟩ (fun hc => ?_) (fun hc => ?_)
  · unfold X0_formOf_b118
    refine w_jinl ?_
    refine w_Cf hC rfl ?_
    refine w_rank hC hW (frw N1 g2) (by omega) (by omega) (by omega) (fun r k hr hk => g1 r k (by omega) hk) (fun r k => ⟨Int.emod_nonneg _ (by omega), Int.emod_lt_of_pos _ (by omega)⟩) (fun M2 N2 hb hfr2 => ?_)
    exact w_jp (h M2 N2 hb (fun b hb9 => by rw [hfr2 b hb9, g2 b hb9]))
  rw [z_0]
  refine w_up n (fun j N2 => (∀ i' j', i' < n → j' < n → i' < i ∨ i' = i ∧ j' < j → N2 (rpl M (c + 117) i') j' = FoA p n T i' j') ∧ ∀ b, b < c + 118 ∨ c + 182 ≤ b → N2 b = N b) 0 rfl (by omega) ⟨fun i' j' _ h2 h3 => g1 i' j' (by omega) h2, g2⟩ ?_
  rintro j N2 hj ⟨k1, k2⟩
  unfold X0_formOf_L21
  refine w_le ⟨by omega, by omega⟩ ⟨by omega, by omega⟩ (fun hd => ?_) (fun hd => ?_)
  · unfold X0_formOf_b112
    rw [z_1, zI_add]
    exact w_jinl (w_jcont ⟨by omega, rfl, fun i' j' h1 h2 => k1 i' j' (by omega) h2 (by omega), k2⟩)
  rw [z_0]
  refine w_up2 n (fun k x N3 => x = sm k (fun k => sm n (fun l => T i l k * T j k l)) ∧ N3 = N2) 0 0 rfl (by omega) ⟨rfl, rfl⟩ ?_
  rintro k x N3 hk ⟨rfl, rfl⟩
  show GN M N3 (X0_formOf_L33 c w (zI _) (zI _) (zI _) (zI _) (zI _)) _
  have hsk := hout i j k (by omega)
  unfold X0_formOf_L33
  refine w_le ⟨by omega, by omega⟩ ⟨by omega, by omega⟩ (fun he => ?_) (fun he => ?_)
  · have hkn : k = n := by omega
    subst hkn
    unfold X0_formOf_b91
    refine w_jinl ?_
    refine w_Cf hC rfl ?_
    refine w_Rp (hC.ka rfl) hRP (by omega) (by omega) ?_
    refine w_by hW (by rw [(frw N3 k2).pe]; omega) ⟨by omega, by omega⟩ ?_
    have hra := hRP.ra (show i < 64 by omega)
    refine w_ast hra.2.2.2 (by omega) (by omega) ?_
    rw [(frw N3 k2).pe, show ((j : Int).toNat) = j from rfl, z_1, zI_add]
    refine w_jcont ⟨by omega, rfl, fun i' j' h1 h2 h3 => ?_, fun b hb => ?_⟩
    · show (if rpl M (c + 117) i' = rpl M (c + 117) i ∧ j' = j then _ else N3 (rpl M (c + 117) i') j') = _
      by_cases e : i' = i ∧ j' = j
      · rw [e.1, e.2, if_pos ⟨rfl, rfl⟩]; rfl
      · rw [if_neg (fun x => e ⟨hRP.inj (by omega) (by omega) x.1, x.2⟩)]
        exact k1 i' j' h1 h2 (by omega)
    · funext x
      show (if b = rpl M (c + 117) i ∧ _ then _ else N3 b x) = _
      rw [if_neg (by omega), k2 b hb]
  rw [z_0]
  refine w_up2 n (fun l x N4 => x = sm k (fun k => sm n (fun l => T i l k * T j k l)) + sm l (fun l => T i l k * T j k l) ∧ N4 = N3) 0 _ rfl (by omega) ⟨by show _ = _ + (0 : Int); omega, rfl⟩ ?_
  rintro l x N4 hl ⟨rfl, rfl⟩
  show GN M N4 (X0_formOf_L42 c w (zI _) (zI _) (zI _) (zI _) (zI _) (zI _)) _
  have hsl := hin i j k l (by omega)
  unfold X0_formOf_L42
  refine w_le ⟨by omega, by omega⟩ ⟨by omega, by omega⟩ (fun hf => ?_) (fun hf => ?_)
  · have hln : l = n := by omega
    subst hln
    unfold X0_formOf_b85
    rw [z_1, zI_add]
    exact w_jinl (w_jcont ⟨by omega, _, rfl, rfl, rfl⟩)
  refine w_tab hW (by omega) (by omega) ?_
  refine w_Wk hW (by omega) (by omega) (by omega) ?_
  refine w_tab hW (by omega) (by omega) ?_
  refine w_Wk hW (by omega) (by omega) (by omega) ?_
  rw [(frw N4 k2).t (by omega) (by omega) (by omega), (frw N4 k2).t (by omega) (by omega) (by omega), zI_mul, zI_add, z_1, zI_add]
  exact w_jlet (w_jcont ⟨by omega, _, rfl, by rw [sm_s]; omega, rfl⟩)
/-- the rank of a vector's matrix -/
noncomputable def rkv (p : Int) (n : Nat) (T : Nat → Nat → Nat → Int) (v : Int) : Nat := dm p n (Rs p n n (fun j => bkm p n T (dgv p n v) (un j)))
noncomputable def Com (p : Int) (n : Nat) (T : Nat → Nat → Nat → Int) : Int := sm (p ^ n).toNat (fun v => p ^ (n - rkv p n T v))
theorem pow_le_pow {p : Int} (hp : 2 ≤ p ∧ p ≤ 7) {e n : Nat} (he : e ≤ n) : p ^ e ≤ p ^ n := by
  obtain ⟨d, rfl⟩ := Nat.le.dest he
  rw [Int.pow_add]
  have h1 : 0 < p ^ e := Int.pow_pos (by omega)
  have h2 : 0 < p ^ d := Int.pow_pos (by omega)
  have := Int.mul_le_mul_of_nonneg_left (show 1 ≤ p ^ d by omega) (show 0 ≤ p ^ e by omega)
  omega
theorem com_bd (hp : 2 ≤ p ∧ p ≤ 7) (hn : n ≤ 5) : ∀ v : Nat, (v : Int) ≤ p ^ n → 0 ≤ sm v (fun v => p ^ (n - rkv p n T v)) ∧ sm v (fun v => p ^ (n - rkv p n T v)) ≤ 282475249 := fun v hv => by
  have hb := pow_bd hp n hn
  have := sm_bd (n := v) (f := fun v => p ^ (n - rkv p n T v)) (a := 0) (b := p ^ n) (fun k _ => by
    have h1 : 0 < p ^ (n - rkv p n T k) := Int.pow_pos (by omega)
    have h2 := pow_le_pow hp (show n - rkv p n T k ≤ n by omega)
    exact ⟨by show 0 ≤ p ^ (n - rkv p n T k); omega, h2⟩)
  have h3 := Int.mul_le_mul (show (v : Int) ≤ 16807 by omega) (show p ^ n ≤ 16807 by omega) (by omega) (by omega)
  omega
theorem w_commutingOf {f : Int32 → JM Mem τ} {Q : τ → Mem → NM → Prop} (hC : CL M c) (hW : WL M w) (hD : WD N w p n T) (hw : w + 32 ≤ c + 72 ∨ c + 212 ≤ w)
    (h : ∀ M' N', Bg c M M' → (∀ b, b < c + 72 ∨ c + 182 ≤ b → N' b = N b) → GN M' N' (f (zI (Com p n T))) Q) : GN M N (jb (jcall 0 c (f_X0_commutingOf c w)) f) Q := by
  have hpb := hD.pb
  have hn5 := hD.n5
  have hpw := pow_bd hpb n hn5
  have hpe : (((p ^ n).toNat : Nat) : Int) = p ^ n := by omega
  refine w_Cc hC ?_
  unfold f_X0_commutingOf
  rw [z_0]
  refine w_up2B (p ^ n).toNat (fun v x M1 N1 => x = sm v (fun v => p ^ (n - rkv p n T v)) ∧ Bg c M M1 ∧ ∀ x, x < c + 72 ∨ c + 182 ≤ x → N1 x = N x) 0 0 rfl (by omega) ⟨rfl, Bg.rf hC, fun _ _ => rfl⟩ ?_
  rintro v x M1 N1 hv ⟨rfl, hb, hfr⟩
  show GN M1 N1 (X0_commutingOf_L4 c w (zI _) (zI _)) _
  have hC1 := hC.bg hb
  have hW1 := hW.bg hb (by omega)
  have gw : WD N1 w p n T := hD.fr (fun b h1 h2 => hfr b (by omega))
  have hcb := com_bd (T := T) hpb hn5 v (by omega)
  unfold X0_commutingOf_L4
  refine w_vectors hW1 gw ?_
  refine w_le ⟨by omega, by omega⟩ ⟨by omega, by omega⟩ (fun hc => ?_) (fun hc => ?_)
  · have : v = (p ^ n).toNat := by omega
    subst this
    exact w_jinl (w_jp (h M1 N1 hb hfr))
  refine w_vectors hW1 gw ?_
  refine w_rankOf hC1 hW1 gw hw (by omega) (fun M2 N2 hb2 hfr2 => ?_)
  have hW2 := hW1.bg hb2 (by omega)
  have hr : rkv p n T v ≤ n := dm_le
  have gw2 : WD N2 w p n T := gw.fr (fun b h1 h2 => hfr2 b (by omega))
  refine w_loop (fun d t N3 => d ≤ rkv p n T v ∧ t = (zI (p ^ (n - rkv p n T v + d)), zI (d : Nat)) ∧ N3 = N2) (rkv p n T v) _ ⟨Nat.le_refl _, by rw [show n - rkv p n T v + rkv p n T v = n by omega]; rfl, rfl⟩ ?_
  rintro d t N3 ⟨hd, rfl, rfl⟩
  show GN M2 N3 (X0_commutingOf_L26 c w (zI _) (zI _) (zI _) (zI _)) _
  have hpd := pow_bd hpb (n - rkv p n T v + d) (by omega)
  unfold X0_commutingOf_L26
  rw [z_0]
  refine w_le ⟨by omega, by omega⟩ ⟨by omega, by omega⟩ (fun he => ?_) (fun he => ?_)
  · have : d = 0 := by omega
    subst this
    unfold X0_commutingOf_b46
    rw [zI_add, z_1, zI_add]
    refine w_jinl (w_jlet (w_jcontB ⟨by omega, _, rfl, by rw [sm_s]; rfl, hb.tr hb2, fun x hx => by rw [hfr2 x hx, hfr x hx]⟩))
  refine w_Wp hW2 ?_
  rw [gw2.pe]
  refine w_divP ⟨by omega, by omega, by omega⟩ ⟨by omega, by omega, by omega⟩ ?_
  rw [z_1, zI_neg, zI_add]
  refine w_jcont ⟨d - 1, by omega, by omega, ?_, rfl⟩
  rw [show n - rkv p n T v + d = (n - rkv p n T v + (d - 1)) + 1 by omega, Int.pow_succ, Int.mul_ediv_cancel _ (by omega), show (d : Int) + -1 = ((d - 1 : Nat) : Int) by omega]
end CMP5
