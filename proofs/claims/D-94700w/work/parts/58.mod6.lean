/-! THE MODEL: simple, unimodular, the form, derivations, commuting couples. -/
set_option maxRecDepth 100000
section MOD6
variable {α τ : Type} {M : Mem} {N N' : NM} {m a b to W B L : Nat} {p : Int} {n q qa qb : Nat} {T : Nat → Nat → Nat → Int} {R Ra Rb : Nat → Nat → Int} {ld la lb : Nat → Nat} {S A B' : VS} {X Y : Nat → Int}
theorem FrC.ser (h : ∀ x, x < m + 9 ∨ m + 13 < x → x ≠ m + 17 → x ≠ m + 24 → N' x = N x) : FrC N m N' := ⟨fun x h1 _ h3 _ _ _ => h x (by omega) (by omega) h3, fun k _ _ _ => by rw [h m (by omega) (by omega) (by omega)]⟩
theorem w_misAbelian {f : Int32 → JM Mem τ} {Q : τ → Mem → NM → Prop} (hM : ML M m) (hA : MA M N m W B p n T)
    (h : ∀ N' v, (v = 1 ∧ dm p n (DSr p n T Al 1) = 0 ∨ v = 0 ∧ dm p n (DSr p n T Al 1) ≠ 0) → FrC N m N' → GN M N' (f (zI v)) Q) : GN M N (jb (jcall 7 m (f_X8_isAbelian m)) f) Q := by
  have hn5 := hA.n5
  refine w_Mc hM ?_
  unfold f_X8_isAbelian
  rw [z_1, z_0]
  refine w_seriesOf (k := 1) (d := 0) hM hA (by omega) (Or.inl rfl) (fun N1 hfr => ?_)
  have e : Ser p n T Al (1 - 0) 1 = DSr p n T Al 1 := Ser.d (by omega)
  rw [e]
  have := dm_le (p := p) (n := n) (S := DSr p n T Al 1)
  refine w_eq ⟨by omega, by omega⟩ ⟨by omega, by omega⟩ (fun he => ?_) (fun he => ?_)
  · exact w_jp (h N1 1 (Or.inl ⟨rfl, by omega⟩) (FrC.ser hfr))
  · exact w_jp (h N1 0 (Or.inr ⟨rfl, by omega⟩) (FrC.ser hfr))
theorem w_misSimple {f : Int32 → JM Mem τ} {Q : τ → Mem → NM → Prop} (hM : ML M m) (hA : MA M N m W B p n T)
    (h : ∀ N' v, (v = 1 ∧ Smp p n T ∨ v = 0 ∧ ¬ Smp p n T) → FrC N m N' → GN M N' (f (zI v)) Q) : GN M N (jb (jcall 7 m (f_X8_isSimple m)) f) Q := by
  have hn5 := hA.n5
  have hn1 := hA.n1
  have hp := hA.pr
  refine w_Mc hM ?_
  unfold f_X8_isSimple
  refine w_misAbelian hM hA (fun N0 v hv hfr0 => ?_)
  rw [z_0]
  refine w_eq (by rcases hv with ⟨e, _⟩ | ⟨e, _⟩ <;> exact ⟨by omega, by omega⟩) ⟨by omega, by omega⟩ (fun hc => ?_) (fun hc => ?_)
  rotate_left
  · refine w_jp (h N0 0 (Or.inr ⟨rfl, fun q => ?_⟩) hfr0)
    rcases hv with ⟨_, e⟩ | ⟨e, _⟩
    · exact q.1 e
    · omega
  have hd : dm p n (DSr p n T Al 1) ≠ 0 := by
    rcases hv with ⟨e, _⟩ | ⟨_, e⟩
    · omega
    · exact e
  rw [z_1]
  refine w_up n (fun size N1 => (∀ s, 1 ≤ s → s < size → CSn p n T s 1 = 0) ∧ 1 ≤ size ∧ FrC N m N1) 1 rfl (by omega) ⟨fun s h1 h2 => by omega, by omega, hfr0⟩ ?_
  rintro size N1 hsz ⟨g1, g2, hfr⟩
  have hA1 := hfr.ma hA
  unfold X8_isSimple_L11
  refine w_MI hM ?_
  rw [hA1.ne]
  refine w_le ⟨by omega, by omega⟩ ⟨by omega, by omega⟩ (fun hd2 => ?_) (fun hd2 => ?_)
  · exact w_jinl (w_jp (h N1 1 (Or.inl ⟨rfl, hd, fun s h1 h2 => g1 s h1 (by omega)⟩) hfr))
  rw [z_1]
  refine w_countSpans (what := 1) hM hA1 (by omega) (by omega) (fun N2 hfr2 => ?_)
  have hw1 : wkd 1 = 1 := by unfold wkd; rw [if_neg (by omega)]; rfl
  rw [hw1]
  have hbd : 0 ≤ CSn p n T size 1 ∧ CSn p n T size 1 ≤ 3764768 := CSp_bd (T := T) hp hn5 (size := size) (kind := 1) (2 ^ n) (two_pow hn5).1
  rw [z_0]
  refine w_le ⟨by omega, by omega⟩ ⟨by omega, by omega⟩ (fun he => ?_) (fun he => ?_)
  · rw [zI_add]
    refine w_jcont ⟨by omega, rfl, fun s h1 h2 => ?_, by omega, hfr.tr hfr2⟩
    by_cases e : s = size
    · rw [e]; omega
    · exact g1 s h1 (by omega)
  · refine w_jinl (w_jp (h N2 0 (Or.inr ⟨rfl, fun q => ?_⟩) (hfr.tr hfr2)))
    have := q.2 size g2 (by omega)
    omega
theorem w_misUnimodular {f : Int32 → JM Mem τ} {Q : τ → Mem → NM → Prop} (hM : ML M m) (hA : MA M N m W B p n T) (h : ∀ v, (v = 1 ∧ Uni p n T ∨ v = 0 ∧ ¬ Uni p n T) → GN M N (f (zI v)) Q) : GN M N (jb (jcall 7 m (f_X8_isUnimodular m)) f) Q := by
  have hn5 := hA.n5
  have hpb := hA.pb
  refine w_Mc hM ?_
  unfold f_X8_isUnimodular
  rw [z_0]
  refine w_up n (fun i N1 => N1 = N ∧ ∀ x, x < i → Cg p (sm n (fun k => T x k k)) 0) 0 rfl (by omega) ⟨rfl, fun x hx => by omega⟩ ?_
  rintro i N1 hi ⟨rfl, hz⟩
  unfold X8_isUnimodular_L2
  refine w_MI hM ?_
  rw [hA.ne]
  refine w_le ⟨by omega, by omega⟩ ⟨by omega, by omega⟩ (fun hc => ?_) (fun hc => ?_)
  · exact w_jinl (w_jp (h 1 (Or.inl ⟨rfl, fun x hx => hz x (by omega)⟩)))
  have hsum : ∀ l, l ≤ 5 → 0 ≤ sm l (fun k => T i k k) ∧ sm l (fun k => T i k k) ≤ 35 := fun l hl => by
    have := sm_bd (n := l) (f := fun k => T i k k) (a := 0) (b := 7) (fun k _ => by have := hA.tb i k k; omega)
    omega
  rw [z_0]
  refine w_up2 n (fun l x N2 => x = sm l (fun k => T i k k) ∧ N2 = N1) 0 0 rfl (by omega) ⟨rfl, rfl⟩ ?_
  rintro l x N2 hl ⟨rfl, rfl⟩
  show GN M N2 (X8_isUnimodular_L14 m (zI _) (zI _) (zI _)) _
  unfold X8_isUnimodular_L14
  have hsl := hsum l (by omega)
  refine w_MI hM ?_
  rw [hA.ne]
  refine w_le ⟨by omega, by omega⟩ ⟨by omega, by omega⟩ (fun hd => ?_) (fun hd => ?_)
  · have : l = n := by omega
    subst this
    unfold X8_isUnimodular_b38
    refine w_jinl ?_
    refine w_MI hM ?_
    rw [hA.pe]
    refine w_remP ⟨hsl.1, by omega, by omega⟩ ⟨by omega, by omega, by omega⟩ ?_
    rw [z_0]
    have hm1 := Int.emod_nonneg (sm l (fun k => T i k k)) (show p ≠ 0 by omega)
    have hm2 := Int.emod_lt_of_pos (sm l (fun k => T i k k)) (show 0 < p by omega)
    refine w_eq ⟨by omega, by omega⟩ ⟨by omega, by omega⟩ (fun he => ?_) (fun he => ?_)
    · rw [z_1, zI_add]
      refine w_jcont ⟨by omega, rfl, rfl, fun x hx => ?_⟩
      by_cases e : x = i
      · rw [e]; exact Cg.zero_iff.mpr he
      · exact hz x (by omega)
    · exact w_jinl (w_jp (h 0 (Or.inr ⟨rfl, fun hx => he (Cg.zero_iff.mp (hx i (by omega)))⟩)))
  refine w_mtable hM hA (by omega) (by omega) (by omega) ?_
  rw [zI_add, z_1, zI_add]
  exact w_jlet (w_jcont ⟨by omega, _, rfl, rfl, rfl⟩)
theorem w_commutingMany {f : Int32 → JM Mem τ} {Q : τ → Mem → NM → Prop} (hM : ML M m) (hA : MA M N m W B p n T)
    (h : ∀ N', FrC N m N' → GN M N' (f (zI (Com p n T))) Q) : GN M N (jb (jcall 7 m (f_X8_commutingMany m)) f) Q := by
  have hn5 := hA.n5
  have hpb := hA.pb
  have hpw := pow_bd hpb n hn5
  have hpe : (((p ^ n).toNat : Nat) : Int) = p ^ n := by omega
  refine w_Mc hM ?_
  unfold f_X8_commutingMany
  rw [z_0]
  refine w_up2 (p ^ n).toNat (fun v x N1 => x = sm v (fun v => p ^ (n - rkv p n T v)) ∧ FrC N m N1) 0 0 rfl (by omega) ⟨rfl, FrC.rf⟩ ?_
  rintro v x N1 hv ⟨rfl, hfr⟩
  show GN M N1 (X8_commutingMany_L4 m (zI _) (zI _)) _
  have hA1 := hfr.ma hA
  have hcb := com_bd (T := T) hpb hn5 v (by omega)
  unfold X8_commutingMany_L4
  refine w_mvectors hM hA1 ?_
  refine w_le ⟨by omega, by omega⟩ ⟨by omega, by omega⟩ (fun hc => ?_) (fun hc => ?_)
  · have : v = (p ^ n).toNat := by omega
    subst this
    exact w_jinl (w_jp (h N1 hfr))
  refine w_MI hM ?_
  rw [hA1.ne]
  refine w_mrankOf hM hA1 (by omega) (fun N2 hfr2 => ?_)
  have hfr3 : FrC N m N2 := hfr.tr ⟨fun x h1 h2 h3 _ _ _ => hfr2 x (by omega) (by omega) (by omega) (by omega) h3, fun k _ _ _ => by rw [hfr2 m (by omega) (by omega) (by omega) (by omega) (by omega)]⟩
  have hr : rkv p n T v ≤ n := dm_le
  have hpd := pow_bd hpb (n - rkv p n T v) (by omega)
  rw [zI_sub, show (n : Int) - (rkv p n T v : Nat) = ((n - rkv p n T v : Nat) : Int) by omega]
  refine w_powerOf hM (hfr3.ma hA) (by omega) (by omega) ?_
  rw [zI_add, z_1, zI_add]
  exact w_jlet (w_jcont ⟨by omega, _, rfl, by rw [sm_s], hfr3⟩)
theorem w_formRank {f : Int32 → JM Mem τ} {Q : τ → Mem → NM → Prop} (hM : ML M m) (hA : MA M N m W B p n T)
    (h : ∀ N', FrC N m N' → GN M N' (f (zI (dm p n (Rs p n n (FoA p n T)) : Nat))) Q) : GN M N (jb (jcall 7 m (f_X8_formRank m)) f) Q := by
  have hpb := hA.pb
  have hn5 := hA.n5
  have hp := hA.pr
  have hWe := hA.We
  have k19 := hM.ka (o := 19) (d := (0, 30)) rfl
  refine w_Mc hM ?_
  unfold f_X8_formRank
  refine w_Mc hM ?_
  unfold f_X8_noRows
  rw [z_0]
  refine w_Mput hM (w_jp ?_)
  have hterm : ∀ i j k l, 0 ≤ T i l k * T j k l ∧ T i l k * T j k l ≤ 49 := fun i j k l => by
    have h1 := hA.tb i l k
    have h2 := hA.tb j k l
    exact mul_bd (a := 7) (b := 7) (by omega) (by omega)
  have hin : ∀ i j k l, l ≤ 5 → 0 ≤ sm l (fun l => T i l k * T j k l) ∧ sm l (fun l => T i l k * T j k l) ≤ 245 := fun i j k l hl => by
    have := sm_bd (n := l) (f := fun l => T i l k * T j k l) (a := 0) (b := 49) (fun l _ => hterm i j k l)
    omega
  have hout : ∀ i j k, k ≤ 5 → 0 ≤ sm k (fun k => sm n (fun l => T i l k * T j k l)) ∧ sm k (fun k => sm n (fun l => T i l k * T j k l)) ≤ 1225 := fun i j k hk => by
    have := sm_bd (n := k) (f := fun k => sm n (fun l => T i l k * T j k l)) (a := 0) (b := 245) (fun k _ => hin i j k n hn5)
    omega
  refine w_up n (fun i N1 => EqI N m p n (Rs p n n (FoA p n T)) (fun e => ∃ i', i' < i ∧ e = FoA p n T i') N1 ∧ FrC N m N1) 0 rfl (by omega)
    ⟨⟨0, _, _, _, EqM.nil hp (by simp [up2]), fun x hx => Rs.sb.zv hx, fun e ⟨j', h1, _⟩ => absurd h1 (Nat.not_lt_zero _)⟩, fun x _ h1 _ _ _ _ => by funext k; show (if x = m ∧ _ then _ else N x k) = _; rw [if_neg (fun e => h1 e.1)], fun k hk _ _ => by show (if m = m ∧ k = 39 then _ else N m k) = _; rw [if_neg (fun e => hk e.2)]⟩ ?_
  rintro i N1 hi ⟨hI, g1⟩
  unfold X8_formRank_L6
  refine w_MI hM ?_
  rw [(g1.ma hA).ne]
  refine w_le ⟨by omega, by omega⟩ ⟨by omega, by omega⟩ (fun hc => ?_) (fun hc => ?_)
  · unfold X8_formRank_b116
    refine w_jinl ?_
    refine w_MI hM ?_
    rw [hI.end hp (fun S' h1 h2 x hx => Rs.le h1 (fun r hr => h2 _ ⟨r, by omega, rfl⟩) hx)]
    exact w_jp (h N1 g1)
  have hin' : i < n := by omega
  rw [z_0]
  refine w_up n (fun j N2 => N2 = wrj N1 (m + 19) j (FoA p n T i)) 0 rfl (by omega) wrj_0.symm ?_
  rintro j N2 hj rfl
  have hA2 : MA M (wrj N1 (m + 19) j (FoA p n T i)) m W B p n T := (g1.ma hA).fr (wrj_ne (by omega)) (wrj_ne (by omega))
  unfold X8_formRank_L16
  refine w_MI hM ?_
  rw [hA2.ne]
  refine w_le ⟨by omega, by omega⟩ ⟨by omega, by omega⟩ (fun hd => ?_) (fun hd => ?_)
  · have hjn : j = n := by omega
    subst hjn
    unfold X8_formRank_b102
    refine w_jinl ?_
    refine w_MI hM ?_
    rw [hA2.ne]
    obtain ⟨q, R, ld, S', h1, h2, h3⟩ := hI
    have hEq : EqM (wrj N1 (m + 19) j (FoA p j T i)) m p j q R ld S' := by
      refine ⟨?_, fun r x h4 h5 => ?_, h1.2.2⟩
      · rw [wrj_ne (by omega)]; exact h1.1
      · rw [wrj_ne (by omega)]; exact h1.2.1 r x h4 h5
    have hq9 : Vq p j (FoA p j T i) (fun x => if x < j then FoA p j T i x else 0) := Vq.of (fun k hk => (if_pos hk).symm)
    refine w_addEq (X := fun x => if x < j then FoA p j T i x else 0) hM hA2 (by omega) hEq (fun x hx => by
      show (if m + 19 = m + 19 ∧ x < j then _ else _) = if x < j then _ else _
      rw [if_pos ⟨rfl, hx⟩, if_pos hx]) (fun x => ?_) (fun N4 q4 R4 ld4 h4 f4 f4' => ?_)
    · show 0 ≤ (if x < j then FoA p j T i x else 0) ∧ (if x < j then FoA p j T i x else 0) < p ∧ (j ≤ x → (if x < j then FoA p j T i x else 0) = 0)
      have h5 : 0 ≤ FoA p j T i x ∧ FoA p j T i x < p := ⟨Int.emod_nonneg _ (by omega), Int.emod_lt_of_pos _ (by omega)⟩
      refine ⟨?_, ?_, fun h => if_neg (by omega)⟩
      · split <;> omega
      · split <;> omega
    rw [z_1, zI_add]
    refine w_jcont ⟨hin', rfl, ⟨q4, R4, ld4, _, h4, fun x hx => Ad.min Rs.sb h2 (Rs.sb.q (Rs.mem hin') hq9) hx, fun e ⟨i', h5, h6⟩ => ?_⟩, g1.tr ⟨fun x a1 a2 a3 a4 a5 a6 => by rw [f4 x a2 (by omega) (by omega), wrj_ne (by omega)], fun k a1 a2 a3 => by rw [f4' k a1, wrj_ne (by omega)]⟩⟩
    by_cases c1 : i' = i
    · rw [h6, c1]; exact (Ad.sb h1.2.2.2.sb).q (Ad.me h1.2.2.2.sb) hq9.sy
    · exact Ad.le h1.2.2.2.sb (h3 e ⟨i', by omega, h6⟩)
  rw [z_0]
  refine w_up2 n (fun k x N3 => x = sm k (fun k => sm n (fun l => T i l k * T j k l)) ∧ N3 = wrj N1 (m + 19) j (FoA p n T i)) 0 0 rfl (by omega) ⟨rfl, rfl⟩ ?_
  rintro k x N3 hk ⟨rfl, rfl⟩
  show GN M _ (X8_formRank_L29 m (zI _) (zI _) (zI _) (zI _)) _
  have hsk := hout i j k (by omega)
  unfold X8_formRank_L29
  refine w_MI hM ?_
  rw [hA2.ne]
  refine w_le ⟨by omega, by omega⟩ ⟨by omega, by omega⟩ (fun he => ?_) (fun he => ?_)
  · have hkn : k = n := by omega
    subst hkn
    unfold X8_formRank_b84
    refine w_jinl ?_
    refine w_Mf hM rfl (w_MI hM ?_)
    rw [hA2.pe]
    refine w_remP ⟨hsk.1, by omega, by omega⟩ ⟨by omega, by omega, by omega⟩ ?_
    refine w_ast k19 (by omega) (by omega) ?_
    rw [show ((j : Int).toNat) = j from rfl, wrj_up (g := FoA p k T i) (v := sm k (fun k_1 => sm k (fun l => T i l k_1 * T j k_1 l)) % p) rfl, z_1, zI_add]
    exact w_jcont ⟨by omega, rfl, rfl⟩
  rw [z_0]
  refine w_up2 n (fun l x N4 => x = sm k (fun k => sm n (fun l => T i l k * T j k l)) + sm l (fun l => T i l k * T j k l) ∧ N4 = wrj N1 (m + 19) j (FoA p n T i)) 0 _ rfl (by omega) ⟨by show _ = _ + (0 : Int); omega, rfl⟩ ?_
  rintro l x N4 hl ⟨rfl, rfl⟩
  show GN M _ (X8_formRank_L41 m (zI _) (zI _) (zI _) (zI _) (zI _)) _
  have hsl := hin i j k l (by omega)
  unfold X8_formRank_L41
  refine w_MI hM ?_
  rw [hA2.ne]
  refine w_le ⟨by omega, by omega⟩ ⟨by omega, by omega⟩ (fun hf => ?_) (fun hf => ?_)
  · have hln : l = n := by omega
    subst hln
    unfold X8_formRank_b78
    rw [z_1, zI_add]
    exact w_jinl (w_jcont ⟨by omega, _, rfl, rfl, rfl⟩)
  refine w_mtable hM hA2 (by omega) (by omega) (by omega) ?_
  refine w_mtable hM hA2 (by omega) (by omega) (by omega) ?_
  rw [zI_mul, zI_add, z_1, zI_add]
  exact w_jlet (w_jcont ⟨by omega, _, rfl, by rw [sm_s, Int.mul_comm (T j k l)]; omega, rfl⟩)
/-- the centre, by rows and by equations -/
theorem centre_eq (hp : Pr p) (hn : 1 ≤ n) : dm p (n * n) (Rs p (n * n) n (CeA n T)) = dm p n (Gn p n (fun g => ∃ j k, j < n ∧ k < n ∧ g = fun i => T i j k)) := by
  refine (rank_tr hp (CeA n T) n (n * n)).symm.trans ?_
  refine congrArg (dm p n) (Gn.eq (fun g ⟨x, hx, e⟩ => ?_) (fun g ⟨j, k, hj, hk, e⟩ => ?_))
  · exact Gn.mem ⟨x / n, x % n, Nat.div_lt_of_lt_mul hx, Nat.mod_lt _ (by omega), e⟩
  · refine Gn.mem ⟨n * j + k, idx_lt hj hk, ?_⟩
    rw [e]
    funext i
    show T i j k = T i ((n * j + k) / n) ((n * j + k) % n)
    rw [Nat.mul_add_div (by omega), Nat.mul_add_mod, Nat.div_eq_of_lt hk, Nat.mod_eq_of_lt hk, Nat.add_zero]
end MOD6
