/-! THE MODEL: series, centre, ranks, kinds of spans. -/
set_option maxRecDepth 100000
section MOD3
variable {α τ : Type} {M : Mem} {N N' : NM} {m a b to W B L : Nat} {p : Int} {n q qa qb : Nat} {T : Nat → Nat → Nat → Int} {R Ra Rb : Nat → Nat → Int} {ld la lb : Nat → Nat} {S A B' : VS} {X Y : Nat → Int}
theorem Ser.sb (hS : Sbp p n S) {d : Int} (k : Nat) : Sbp p n (Ser p n T S d k) := by
  unfold Ser
  split
  · exact LSr.sb hS k
  · exact DSr.sb hS k
theorem Ser.z {d : Int} : Ser p n T S d 0 = S := by unfold Ser; split <;> rfl
theorem Ser.l {d : Int} {k : Nat} (h : d = 0) : Ser p n T S d k = LSr p n T S k := if_pos h
theorem Ser.d {d : Int} {k : Nat} (h : d ≠ 0) : Ser p n T S d k = DSr p n T S k := if_neg h
theorem Ser.dec (hS : Sbp p n S) (hc : Clo n T False S) {d : Int} (k : Nat) : ∀ v, Ser p n T S d (k + 1) v → Ser p n T S d k v := by
  by_cases e : d = 0
  · rw [Ser.l e, Ser.l e]; exact LSr.dec hS hc k
  · rw [Ser.d e, Ser.d e]; exact DSr.dec hS hc k
theorem Ser.st {d : Int} (k : Nat) (h : Ser p n T S d (k + 1) = Ser p n T S d k) : Ser p n T S d (k + 2) = Ser p n T S d (k + 1) := by
  by_cases e : d = 0
  · rw [Ser.l e, Ser.l e] at h; rw [Ser.l e, Ser.l e]; exact LSr.st k h
  · rw [Ser.d e, Ser.d e] at h; rw [Ser.d e, Ser.d e]; exact DSr.st k h
theorem w_seriesOf {f : Int32 → JM Mem τ} {Q : τ → Mem → NM → Prop} {k : Nat} {d : Int} (hM : ML M m) (hA : MA M N m W B p n T) (hk : k ≤ 100) (hd : d = 0 ∨ d = 1)
    (h : ∀ N', (∀ x, x < m + 9 ∨ m + 13 < x → x ≠ m + 17 → x ≠ m + 24 → N' x = N x) → GN M N' (f (zI (dm p n (Ser p n T Al (1 - d) k) : Nat))) Q) : GN M N (jb (jcall 7 m (f_X8_seriesOf m (zI k) (zI d))) f) Q := by
  have hpb := hA.pb
  have hn5 := hA.n5
  have hp := hA.pr
  have hWe := hA.We
  refine w_Mc hM ?_
  unfold f_X8_seriesOf
  refine w_Mf hM rfl ?_
  refine w_wholeSpan hM hA (hM.sp (a := m + 9) (by omega)) (by omega) (by omega) (fun N0 hal hfr0 => ?_)
  rw [z_0]
  refine w_up2 k (fun i x N1 => ∃ (q : Nat) (R : Nat → Nat → Int) (ld : Nat → Nat), x = q ∧ SpM N1 (m + 9) p n q R ld (Ser p n T Al (1 - d) i) ∧ ∀ x, x < m + 9 ∨ m + 13 < x → x ≠ m + 17 → x ≠ m + 24 → N1 x = N x) 0 _ rfl (by omega)
    ⟨n, _, _, rfl, by rw [Ser.z]; exact SpM.al hp hal, fun x h1 _ _ => hfr0 x (by omega)⟩ ?_
  rintro i x N1 hi ⟨q, R, ld, rfl, hs, hfr⟩
  show GN M N1 (X8_seriesOf_L12 m (zI _) (zI _) (zI _) (zI _)) _
  have hq := hs.qn hp
  have hA1 : MA M N1 m W B p n T := hA.fr (hfr m (by omega) (by omega) (by omega)) (hfr W (by omega) (by omega) (by omega))
  unfold X8_seriesOf_L12
  refine w_le ⟨by omega, by omega⟩ ⟨by omega, by omega⟩ (fun hc => ?_) (fun hc => ?_)
  · have : i = k := by omega
    subst this
    refine w_jinl (w_jp ?_)
    rw [← hs.ech.dm hp]
    exact h N1 hfr
  have key : ∀ (N2 : NM) (qb : Nat) (Rb : Nat → Nat → Int) (lb : Nat → Nat) (B2 : VS), SpM N2 (m + 9) p n q R ld (Ser p n T Al (1 - d) i) → SpM N2 (m + 13) p n qb Rb lb B2 → (∀ x, x < m + 9 ∨ m + 13 < x → x ≠ m + 17 → x ≠ m + 24 → N2 x = N x) → Br p n T (Ser p n T Al (1 - d) i) B2 = Ser p n T Al (1 - d) (i + 1) →
      GN M N2 (X8_seriesOf_b52 m (zI k) (zI d) (zI q) (zI i) (zI qb)) (LQ (fun v M1 N1 => GN M1 N1 (f v) Q) (KF M (fun t N1 => i < k ∧ ∃ a1, t = (zI a1, zI ((i : Int) + 1)) ∧ ∃ (q : Nat) (R : Nat → Nat → Int) (ld : Nat → Nat), a1 = q ∧ SpM N1 (m + 9) p n q R ld (Ser p n T Al (1 - d) (i + 1)) ∧ ∀ x, x < m + 9 ∨ m + 13 < x → x ≠ m + 17 → x ≠ m + 24 → N1 x = N x))) := by
    intro N2 qb Rb lb B2 h1 h2 h3 h4
    unfold X8_seriesOf_b52
    refine w_Mf hM rfl ?_
    refine w_Mf hM rfl ?_
    refine w_Mf hM rfl ?_
    refine w_mbrackets hM (hA.fr (h3 m (by omega) (by omega) (by omega)) (h3 W (by omega) (by omega) (by omega))) (by omega) (by omega) (by omega) (by omega) (by omega) h1 h2 (fun N3 q3 R3 ld3 hs3 hfr3 => ?_)
    refine w_Mf hM rfl ?_
    refine w_Mf hM rfl ?_
    refine w_copySpan hM (hM.sp (a := m + 10) (by omega)) (hM.sp (a := m + 9) (by omega)) (by omega) (by omega) (fun N4 he4 hfr4 => ?_)
    rw [z_1, zI_add]
    rw [h4] at hs3
    exact w_jcont ⟨by omega, _, rfl, q3, R3, ld3, rfl, hs3.cp hp hn5 he4, fun x h5 h6 h7 => by rw [hfr4 x (by omega), hfr3 x h6 h7 (by omega), h3 x h5 h6 h7]⟩
  rw [z_0]
  unfold X8_seriesOf_b34
  rw [z_0]
  refine w_eq ⟨by omega, by omega⟩ ⟨by omega, by omega⟩ (fun hd0 => ?_) (fun hd0 => ?_)
  · refine w_eq ⟨by omega, by omega⟩ ⟨by omega, by omega⟩ (fun _ => ?_) (fun e => absurd hd0 e)
    refine w_Mf hM rfl ?_
    refine w_Mf hM rfl ?_
    refine w_copySpan hM (hM.sp (a := m + 9) (by omega)) (hM.sp (a := m + 13) (by omega)) (by omega) (by omega) (fun N2 he2 hfr2 => ?_)
    refine key N2 q R ld _ (hs.fr (hfr2 _ (by omega))) (hs.cp hp hn5 he2) (fun x h1 h2 h3 => by rw [hfr2 x (by omega), hfr x h1 h2 h3]) ?_
    rw [Ser.d (by omega), Ser.d (by omega)]; rfl
  · refine w_Mf hM rfl ?_
    refine w_wholeSpan hM hA1 (hM.sp (a := m + 13) (by omega)) (by omega) (by omega) (fun N2 hal2 hfr2 => ?_)
    refine w_eq ⟨by omega, by omega⟩ ⟨by omega, by omega⟩ (fun e => absurd e hd0) (fun _ => ?_)
    refine key N2 n _ _ Al (hs.fr (hfr2 _ (by omega))) (SpM.al hp hal2) (fun x h1 h2 h3 => by rw [hfr2 x (by omega), hfr x h1 h2 h3]) ?_
    rw [Ser.l (by omega), Ser.l (by omega), Br.comm hA.ok.tan]; rfl
/-- fewer and fewer: what a walk through equations keeps -/
def EqI (N : NM) (m : Nat) (p : Int) (wd : Nat) (Full : VS) (P : (Nat → Int) → Prop) (N1 : NM) : Prop :=
  (∃ q R ld S', EqM N1 m p wd q R ld S' ∧ (∀ x, S' x → Full x) ∧ ∀ e, P e → S' e)
theorem EqI.end {wd : Nat} {Full : VS} {P : (Nat → Int) → Prop} {N1 : NM} (hp : Pr p) (h : EqI N m p wd Full P N1) (hle : ∀ S', Sbp p wd S' → (∀ e, P e → S' e) → ∀ x, Full x → S' x) : N1 m 39 = (dm p wd Full : Nat) := by
  obtain ⟨q, R, ld, S', h1, h2, h3⟩ := h
  have e : S' = Full := vs_anti h2 (hle S' h1.2.2.2.sb h3)
  rw [← e, h1.2.2.2.dm hp]
  exact h1.1
theorem w_centreSize {f : Int32 → JM Mem τ} {Q : τ → Mem → NM → Prop} (hM : ML M m) (hA : MA M N m W B p n T)
    (h : ∀ N', (∀ x, x ≠ m → x ≠ m + 18 → x ≠ m + 19 → N' x = N x) → (∀ k, k ≠ 39 → N' m k = N m k) → GN M N' (f (zI (n - (dm p n (Gn p n (fun g => ∃ j k, j < n ∧ k < n ∧ g = fun i => T i j k)) : Nat)))) Q) : GN M N (jb (jcall 7 m (f_X8_centreSize m)) f) Q := by
  have hpb := hA.pb
  have hn5 := hA.n5
  have hp := hA.pr
  have hWe := hA.We
  have k19 := hM.ka (o := 19) (d := (0, 30)) rfl
  refine w_Mc hM ?_
  unfold f_X8_centreSize
  refine w_Mc hM ?_
  unfold f_X8_noRows
  rw [z_0]
  refine w_Mput hM (w_jp ?_)
  generalize hFull : Gn p n (fun g => ∃ j k, j < n ∧ k < n ∧ g = fun i => T i j k) = Full at h
  have hin : ∀ j k, j < n → k < n → Full (fun i => T i j k) := fun j k hj hk => by rw [← hFull]; exact Gn.mem ⟨j, k, hj, hk, rfl⟩
  have hFs : Sbp p n Full := by rw [← hFull]; exact Gn.sb
  have frA : ∀ N1 : NM, (∀ x, x ≠ m → x ≠ m + 18 → x ≠ m + 19 → N1 x = N x) → (∀ k, k ≠ 39 → N1 m k = N m k) → MA M N1 m W B p n T := fun N1 g g2 => hA.fr2 (fun k h1 h2 => g2 k (by omega)) (g W (by omega) (by omega) (by omega))
  refine w_up n (fun j N1 => EqI N m p n Full (fun e => ∃ j' k, j' < j ∧ k < n ∧ e = fun i => T i j' k) N1 ∧ (∀ x, x ≠ m → x ≠ m + 18 → x ≠ m + 19 → N1 x = N x) ∧ ∀ k, k ≠ 39 → N1 m k = N m k) 0 rfl (by omega)
    ⟨⟨0, _, _, _, EqM.nil hp (by simp [up2]), fun x hx => hFs.zv hx, fun e ⟨j', k, h1, _⟩ => absurd h1 (Nat.not_lt_zero _)⟩, fun x h1 _ _ => by funext k; show (if x = m ∧ _ then _ else N x k) = _; rw [if_neg (fun e => h1 e.1)], fun k hk => by show (if m = m ∧ k = 39 then _ else N m k) = _; rw [if_neg (fun e => hk e.2)]⟩ ?_
  rintro j N1 hj ⟨hI, g1, g2⟩
  unfold X8_centreSize_L6
  refine w_MI hM ?_
  rw [(frA N1 g1 g2).ne]
  refine w_le ⟨by omega, by omega⟩ ⟨by omega, by omega⟩ (fun hc => ?_) (fun hc => ?_)
  · unfold X8_centreSize_b73
    refine w_jinl ?_
    refine w_MI hM (w_MI hM ?_)
    rw [(frA N1 g1 g2).ne, hI.end hp (fun S' h1 h2 x hx => by
      rw [← hFull] at hx
      exact Gn.le h1 (fun g ⟨j', k, h3, h4, e⟩ => h2 g ⟨j', k, by omega, h4, e⟩) hx), zI_sub]
    exact w_jp (h N1 g1 g2)
  rw [z_0]
  refine w_up n (fun k N2 => EqI N m p n Full (fun e => ∃ j' k', j' < n ∧ k' < n ∧ (j' < j ∨ j' = j ∧ k' < k) ∧ e = fun i => T i j' k') N2 ∧ (∀ x, x ≠ m → x ≠ m + 18 → x ≠ m + 19 → N2 x = N x) ∧ ∀ k, k ≠ 39 → N2 m k = N m k) 0 rfl (by omega)
    ⟨by
      obtain ⟨q, R, ld, S', h1, h2, h3⟩ := hI
      exact ⟨q, R, ld, S', h1, h2, fun e ⟨j', k', h4, h5, h6, h7⟩ => h3 e ⟨j', k', by omega, h5, h7⟩⟩, g1, g2⟩ ?_
  rintro k N2 hk ⟨hI2, k1, k2⟩
  unfold X8_centreSize_L16
  refine w_MI hM ?_
  rw [(frA N2 k1 k2).ne]
  refine w_le ⟨by omega, by omega⟩ ⟨by omega, by omega⟩ (fun hd => ?_) (fun hd => ?_)
  · unfold X8_centreSize_b67
    rw [z_1, zI_add]
    refine w_jinl (w_jcont ⟨by omega, rfl, ?_, k1, k2⟩)
    obtain ⟨q, R, ld, S', h1, h2, h3⟩ := hI2
    exact ⟨q, R, ld, S', h1, h2, fun e ⟨j', k', h4, h5, h7⟩ => h3 e ⟨j', k', by omega, h5, by omega, h7⟩⟩
  have hjn : j < n := by omega
  have hkn : k < n := by omega
  rw [z_0]
  refine w_up n (fun i N3 => N3 = wrj N2 (m + 19) i (fun i => T i j k)) 0 rfl (by omega) wrj_0.symm ?_
  rintro i N3 hi rfl
  have hA3 : MA M (wrj N2 (m + 19) i (fun i => T i j k)) m W B p n T := (frA N2 k1 k2).fr (wrj_ne (by omega)) (wrj_ne (by omega))
  unfold X8_centreSize_L26
  refine w_MI hM ?_
  rw [hA3.ne]
  refine w_le ⟨by omega, by omega⟩ ⟨by omega, by omega⟩ (fun he => ?_) (fun he => ?_)
  · have hin' : i = n := by omega
    subst hin'
    unfold X8_centreSize_b53
    refine w_jinl ?_
    refine w_MI hM ?_
    rw [hA3.ne]
    obtain ⟨q, R, ld, S', h1, h2, h3⟩ := hI2
    have hEq : EqM (wrj N2 (m + 19) i (fun i => T i j k)) m p i q R ld S' := by
      refine ⟨?_, fun r x h4 h5 => ?_, h1.2.2⟩
      · rw [wrj_ne (by omega)]; exact h1.1
      · rw [wrj_ne (by omega)]; exact h1.2.1 r x h4 h5
    refine w_addEq (X := fun x => T x j k) hM hA3 (by omega) hEq (fun x hx => if_pos ⟨rfl, hx⟩) (fun x => ⟨(hA.tb x j k).1, (hA.tb x j k).2, fun h => hA.ok.2.2.2.2.1 x j k (by omega)⟩) (fun N4 q4 R4 ld4 h4 f4 f4' => ?_)
    rw [z_1, zI_add]
    refine w_jcont ⟨hkn, rfl, ⟨q4, R4, ld4, _, h4, fun x hx => Ad.min hFs h2 (hin j k hjn hkn) hx, fun e ⟨j', k', h5, h6, h7, h8⟩ => ?_⟩, fun x h5 h6 h7 => by rw [f4 x h5 h6 h7, wrj_ne h7, k1 x h5 h6 h7], fun x hx => by rw [f4' x hx, wrj_ne (by omega), k2 x hx]⟩
    by_cases c1 : j' = j ∧ k' = k
    · rw [h8, c1.1, c1.2]; exact Ad.me h1.2.2.2.sb
    · exact Ad.le h1.2.2.2.sb (h3 e ⟨j', k', h5, h6, by omega, h8⟩)
  refine w_Mf hM rfl ?_
  refine w_mtable hM hA3 (by omega) (by omega) (by omega) ?_
  refine w_ast k19 (by omega) (by omega) ?_
  rw [show ((i : Int).toNat) = i from rfl, wrj_up (g := fun i => T i j k) (v := T i j k) rfl, z_1, zI_add]
  exact w_jcont ⟨by omega, rfl, rfl⟩
theorem w_mrankOf {f : Int32 → JM Mem τ} {Q : τ → Mem → NM → Prop} {v : Int} (hM : ML M m) (hA : MA M N m W B p n T) (hv : 0 ≤ v ∧ v < 1000000)
    (h : ∀ N', (∀ x, x ≠ m + 10 → x ≠ m + 14 → x ≠ m + 15 → x ≠ m + 16 → x ≠ m + 24 → N' x = N x) → GN M N' (f (zI (rkv p n T v : Nat))) Q) : GN M N (jb (jcall 7 m (f_X8_rankOf m (zI v))) f) Q := by
  have hpb := hA.pb
  have hn5 := hA.n5
  have hp := hA.pr
  have hWe := hA.We
  refine w_Mc hM ?_
  unfold f_X8_rankOf
  refine w_Mf hM rfl ?_
  rw [z_0]
  refine w_parts2 (o := 0) hM hA hv (hM.ka rfl) (by omega) (by omega) ?_
  refine w_up2 n (fun j x N1 => ∃ (q : Nat) (R : Nat → Nat → Int) (ld : Nat → Nat) (S' : VS), x = q ∧ SpM N1 (m + 10) p n q R ld S' ∧ (∀ x, S' x → Rs p n n (fun j => bkm p n T (dgv p n v) (un j)) x) ∧ (∀ j', j' < j → S' (bkm p n T (dgv p n v) (un j'))) ∧ (∀ k, k < n → N1 (m + 14) (0 + k) = dgv p n v k) ∧ ∀ x, x ≠ m + 10 → x ≠ m + 14 → x ≠ m + 15 → x ≠ m + 16 → x ≠ m + 24 → N1 x = N x) 0 0 rfl (by omega)
    ⟨0, _, _, _, rfl, SpM.nil hp, fun x hx => Rs.sb.zv hx, fun j' hj => by omega, fun k hk => by rw [wro_at hk, dgv, if_pos hk], fun x _ h2 _ _ _ => wro_ne h2⟩ ?_
  rintro j x N1 hj ⟨q, R, ld, S', rfl, hs, hle, hdn, hv1, hfr⟩
  show GN M N1 (X8_rankOf_L14 m (zI _) (zI _)) _
  have hq := hs.qn hp
  have hA1 : MA M N1 m W B p n T := hA.fr (hfr m (by omega) (by omega) (by omega) (by omega) (by omega)) (hfr W (by omega) (by omega) (by omega) (by omega) (by omega))
  unfold X8_rankOf_L14
  refine w_MI hM ?_
  rw [hA1.ne]
  refine w_le ⟨by omega, by omega⟩ ⟨by omega, by omega⟩ (fun hc => ?_) (fun hc => ?_)
  · have e : S' = Rs p n n (fun j => bkm p n T (dgv p n v) (un j)) := vs_anti hle (fun x hx => Rs.le hs.ech.sb (fun r hr => hdn r (by omega)) hx)
    refine w_jinl (w_jp ?_)
    have := h N1 hfr
    unfold rkv at this
    rw [← e, hs.ech.dm hp] at this
    exact this
  have hjn : j < n := by omega
  refine w_Mf hM rfl ?_
  refine w_unit hM hA1 (by omega) (hM.ka rfl) (by omega) (by omega) ?_
  have hA2 : MA M (wro N1 (m + 15) 0 n (un j)) m W B p n T := hA1.fr (wro_ne (by omega)) (wro_ne (by omega))
  refine w_Mf hM rfl ?_
  refine w_Mf hM rfl ?_
  refine w_Mf hM rfl ?_
  rw [z_0]
  have hun : VM (wro N1 (m + 15) 0 n (un j)) (m + 15) 0 p n (un j) := ⟨fun k hk => wro_at hk, (un_vd (N := N) (v := 0) hp hjn).2⟩
  have hx1 : VM (wro N1 (m + 15) 0 n (un j)) (m + 14) 0 p n (dgv p n v) := ⟨fun k hk => by rw [wro_ne (by omega)]; exact hv1 k hk, fun k => dgv_bd (by omega) k⟩
  refine w_bracketOf (oa := 0) (ob := 0) hM hA2 (hM.ka rfl) (by omega) (hM.ka rfl) (by omega) (hM.ka rfl) (by omega) hx1 hun (by omega) (by omega) (by omega) (by omega) ?_
  refine w_Mf hM rfl ?_
  refine w_Mf hM rfl ?_
  have hv3 : VM (wro (wro N1 (m + 15) 0 n (un j)) (m + 16) 0 n (fun k => bk n T (dgv p n v) (un j) k % p)) (m + 16) 0 p n (bkm p n T (dgv p n v) (un j)) := ⟨fun k hk => wro_at hk, bkm_bd hA.ok⟩
  refine w_join (o := 0) hM (hA2.fr (wro_ne (by omega)) (wro_ne (by omega))) (hM.sp (a := m + 10) (by omega)) (by omega) ((hs.fr (wro_ne (by omega))).fr (wro_ne (by omega))) (hM.ka rfl) (by omega) hv3 (by omega) (by omega) (by omega) (by omega) (fun N3 q3 R3 ld3 hs3 _ hfr3 => ?_)
  rw [z_1, zI_add]
  refine w_jcont ⟨hjn, _, rfl, q3, R3, ld3, _, rfl, hs3, fun x hx => Ad.min Rs.sb hle (Rs.mem (B := fun j => bkm p n T (dgv p n v) (un j)) hjn) hx, fun j' h1 => ?_, fun k hk => ?_, fun x h1 h2 h3 h4 h5 => ?_⟩
  · by_cases e : j' = j
    · rw [e]; exact Ad.me hs.ech.sb
    · exact Ad.le hs.ech.sb (hdn j' (by omega))
  · rw [hfr3 _ (by omega) (by omega), wro_ne (by omega), wro_ne (by omega)]; exact hv1 k hk
  · rw [hfr3 x h1 h5, wro_ne h4, wro_ne h3, hfr x h1 h2 h3 h4 h5]
theorem w_misPart {f : Int32 → JM Mem τ} {Q : τ → Mem → NM → Prop} (hM : ML M m) (hA : MA M N m W B p n T) (hs : SpM N (m + 11) p n q R ld S)
    (h : ∀ N' v, (v = 1 ∧ Clo n T False S ∨ v = 0 ∧ ¬ Clo n T False S) → (∀ x, x ≠ m + 17 → x ≠ m + 24 → N' x = N x) → GN M N' (f (zI v)) Q) : GN M N (jb (jcall 7 m (f_X8_isPart m (zI q))) f) Q := by
  have hn5 := hA.n5
  have hp := hA.pr
  have hqn := hs.qn hp
  have hWe := hA.We
  have hcp := clo_part hA.ok hs.ech
  have hcp2 : Clo n T False S ↔ ∀ i j, i < j → j < q → S (bk n T (R i) (R j)) := by
    rw [hcp]
    constructor
    · intro g i j h1 h2
      exact hs.ech.sb.q (hs.ech.sb.ml (-1) (g j i h1 h2)) (fun k _ => by
        have := bk_anti (n := n) hA.ok.tan (x := R j) (y := R i) k
        refine Cg.tr (Cg.of ?_) this.sy
        grind)
    · intro g a b h1 h2
      exact hs.ech.sb.q (hs.ech.sb.ml (-1) (g b a h1 h2)) (fun k _ => by
        have := bk_anti (n := n) hA.ok.tan (x := R b) (y := R a) k
        refine Cg.tr (Cg.of ?_) this.sy
        grind)
  refine w_Mc hM ?_
  unfold f_X8_isPart
  rw [z_0]
  refine w_up q (fun i N1 => (∀ i' j', i' < j' → j' < q → i' < i → S (bk n T (R i') (R j'))) ∧ ∀ x, x ≠ m + 17 → x ≠ m + 24 → N1 x = N x) 0 rfl (by omega) ⟨fun _ _ _ _ h => by omega, fun _ _ _ => rfl⟩ ?_
  rintro i N1 hi ⟨g1, g2⟩
  unfold X8_isPart_L2
  refine w_le ⟨by omega, by omega⟩ ⟨by omega, by omega⟩ (fun hc => ?_) (fun hc => ?_)
  · exact w_jinl (w_jp (h N1 1 (Or.inl ⟨rfl, hcp2.mpr (fun i' j' h1 h2 => g1 i' j' h1 h2 (by omega))⟩) g2))
  rw [z_1, zI_add]
  refine w_jlet ?_
  refine w_up q (fun j N2 => i < j ∧ (∀ i' j', i' < j' → j' < q → i' < i ∨ i' = i ∧ j' < j → S (bk n T (R i') (R j'))) ∧ ∀ x, x ≠ m + 17 → x ≠ m + 24 → N2 x = N x) (i + 1) (by rfl) (by omega) ⟨by omega, fun i' j' h1 h2 h3 => g1 i' j' h1 h2 (by omega), g2⟩ ?_
  rintro j N2 hj ⟨hij, k1, k2⟩
  unfold X8_isPart_L11
  refine w_le ⟨by omega, by omega⟩ ⟨by omega, by omega⟩ (fun hd => ?_) (fun hd => ?_)
  · unfold X8_isPart_b63
    rw [z_1, zI_add]
    exact w_jinl (w_jcont ⟨by omega, rfl, fun i' j' h1 h2 h3 => k1 i' j' h1 h2 (by omega), k2⟩)
  have hA2 : MA M N2 m W B p n T := hA.fr (k2 m (by omega) (by omega)) (k2 W (by omega) (by omega))
  have hs2 : SpM N2 (m + 11) p n q R ld S := hs.fr (k2 _ (by omega) (by omega))
  refine w_Mf hM rfl ?_
  refine w_Mf hM rfl ?_
  refine w_Mf hM rfl ?_
  rw [z_5, zI_mul, zI_mul, show (5 * (i : Int)) = ((5 * i : Nat) : Int) by omega, show (5 * (j : Int)) = ((5 * j : Nat) : Int) by omega]
  refine w_bracketOf hM hA2 (hM.ka rfl) (by omega) (hM.ka rfl) (by omega) (hM.ka rfl) (by omega) (hs2.vm (show i < q by omega)) (hs2.vm (show j < q by omega)) (by omega) (by omega) (by omega) (by omega) ?_
  refine w_Mf hM rfl ?_
  refine w_Mf hM rfl ?_
  rw [z_0]
  have hv4 : VM (wro N2 (m + 17) 0 n (fun k => bk n T (R i) (R j) k % p)) (m + 17) 0 p n (bkm p n T (R i) (R j)) := ⟨fun k hk => wro_at hk, bkm_bd hA.ok⟩
  refine w_mholds (o := 0) hM (hA2.fr (wro_ne (by omega)) (wro_ne (by omega))) (hM.ka rfl) (by omega) (hs2.fr (wro_ne (by omega))) (hM.ka rfl) (by omega) hv4 (by omega) (by omega) (fun Y v hv => ?_)
  have fr3 : ∀ x, x ≠ m + 17 → x ≠ m + 24 → wro (wro N2 (m + 17) 0 n (fun k => bk n T (R i) (R j) k % p)) (m + 24) 0 n Y x = N x := fun x h1 h2 => by rw [wro_ne h2, wro_ne h1, k2 x h1 h2]
  have hq : S (bkm p n T (R i) (R j)) ↔ S (bk n T (R i) (R j)) := ⟨fun x => hs.ech.sb.q x bkm_q, fun x => hs.ech.sb.q x bkm_q.sy⟩
  refine w_eq (by rcases hv with ⟨e, _⟩ | ⟨e, _⟩ <;> exact ⟨by omega, by omega⟩) ⟨by omega, by omega⟩ (fun he => ?_) (fun he => ?_)
  · rw [show zI 0 = (0 : Int32) from rfl]
    refine w_jinl (w_jinl (w_jp (h _ 0 (Or.inr ⟨rfl, fun hx => ?_⟩) fr3)))
    rcases hv with ⟨e, _⟩ | ⟨_, e⟩
    · omega
    · exact e (hq.mpr (hcp2.mp hx i j hij (by omega)))
  · rw [z_1, zI_add]
    refine w_jcont ⟨by omega, rfl, by omega, fun i' j' h1 h2 h3 => ?_, fr3⟩
    by_cases e : i' = i ∧ j' = j
    · rw [e.1, e.2]
      rcases hv with ⟨_, e⟩ | ⟨e, _⟩
      · exact hq.mp e
      · omega
    · exact k1 i' j' h1 h2 (by omega)
theorem w_misIdeal {f : Int32 → JM Mem τ} {Q : τ → Mem → NM → Prop} (hM : ML M m) (hA : MA M N m W B p n T) (hs : SpM N (m + 11) p n q R ld S)
    (h : ∀ N' v, (v = 1 ∧ Clo n T True S ∨ v = 0 ∧ ¬ Clo n T True S) → (∀ x, x ≠ m + 15 → x ≠ m + 17 → x ≠ m + 24 → N' x = N x) → GN M N' (f (zI v)) Q) : GN M N (jb (jcall 7 m (f_X8_isIdeal m (zI q))) f) Q := by
  have hn5 := hA.n5
  have hp := hA.pr
  have hqn := hs.qn hp
  have hWe := hA.We
  have hci := clo_ideal (T := T) hp hs.ech
  refine w_Mc hM ?_
  unfold f_X8_isIdeal
  rw [z_0]
  refine w_up q (fun i N1 => (∀ i' j', j' < n → i' < i → S (bk n T (R i') (un j'))) ∧ ∀ x, x ≠ m + 15 → x ≠ m + 17 → x ≠ m + 24 → N1 x = N x) 0 rfl (by omega) ⟨fun _ _ _ h => by omega, fun _ _ _ _ => rfl⟩ ?_
  rintro i N1 hi ⟨g1, g2⟩
  unfold X8_isIdeal_L2
  refine w_le ⟨by omega, by omega⟩ ⟨by omega, by omega⟩ (fun hc => ?_) (fun hc => ?_)
  · exact w_jinl (w_jp (h N1 1 (Or.inl ⟨rfl, hci.mpr (fun i' j' h1 h2 => g1 i' j' h2 (by omega))⟩) g2))
  rw [z_0]
  refine w_up n (fun j N2 => (∀ i' j', j' < n → i' < i ∨ i' = i ∧ j' < j → S (bk n T (R i') (un j'))) ∧ ∀ x, x ≠ m + 15 → x ≠ m + 17 → x ≠ m + 24 → N2 x = N x) 0 rfl (by omega) ⟨fun i' j' h1 h2 => g1 i' j' h1 (by omega), g2⟩ ?_
  rintro j N2 hj ⟨k1, k2⟩
  have hA2 : MA M N2 m W B p n T := hA.fr (k2 m (by omega) (by omega) (by omega)) (k2 W (by omega) (by omega) (by omega))
  have hs2 : SpM N2 (m + 11) p n q R ld S := hs.fr (k2 _ (by omega) (by omega) (by omega))
  unfold X8_isIdeal_L9
  refine w_MI hM ?_
  rw [hA2.ne]
  refine w_le ⟨by omega, by omega⟩ ⟨by omega, by omega⟩ (fun hd => ?_) (fun hd => ?_)
  · unfold X8_isIdeal_b71
    rw [z_1, zI_add]
    exact w_jinl (w_jcont ⟨by omega, rfl, fun i' j' h1 h2 => k1 i' j' h1 (by omega), k2⟩)
  have hjn : j < n := by omega
  refine w_Mf hM rfl ?_
  refine w_unit hM hA2 (by omega) (hM.ka rfl) (by omega) (by omega) ?_
  have hA3 : MA M (wro N2 (m + 15) 0 n (un j)) m W B p n T := hA2.fr (wro_ne (by omega)) (wro_ne (by omega))
  have hs3 : SpM (wro N2 (m + 15) 0 n (un j)) (m + 11) p n q R ld S := hs2.fr (wro_ne (by omega))
  refine w_Mf hM rfl ?_
  refine w_Mf hM rfl ?_
  refine w_Mf hM rfl ?_
  rw [z_5, zI_mul, show (5 * (i : Int)) = ((5 * i : Nat) : Int) by omega, z_0]
  have hun : VM (wro N2 (m + 15) 0 n (un j)) (m + 15) 0 p n (un j) := ⟨fun k hk => wro_at hk, (un_vd (N := N) (v := 0) hp hjn).2⟩
  refine w_bracketOf (ob := 0) hM hA3 (hM.ka rfl) (by omega) (hM.ka rfl) (by omega) (hM.ka rfl) (by omega) (hs3.vm (show i < q by omega)) hun (by omega) (by omega) (by omega) (by omega) ?_
  refine w_Mf hM rfl ?_
  refine w_Mf hM rfl ?_
  have hv4 : VM (wro (wro N2 (m + 15) 0 n (un j)) (m + 17) 0 n (fun k => bk n T (R i) (un j) k % p)) (m + 17) 0 p n (bkm p n T (R i) (un j)) := ⟨fun k hk => wro_at hk, bkm_bd hA.ok⟩
  refine w_mholds (o := 0) hM (hA3.fr (wro_ne (by omega)) (wro_ne (by omega))) (hM.ka rfl) (by omega) (hs3.fr (wro_ne (by omega))) (hM.ka rfl) (by omega) hv4 (by omega) (by omega) (fun Y v hv => ?_)
  have fr3 : ∀ x, x ≠ m + 15 → x ≠ m + 17 → x ≠ m + 24 → wro (wro (wro N2 (m + 15) 0 n (un j)) (m + 17) 0 n (fun k => bk n T (R i) (un j) k % p)) (m + 24) 0 n Y x = N x := fun x h1 h2 h3 => by rw [wro_ne h3, wro_ne h2, wro_ne h1, k2 x h1 h2 h3]
  have hq : S (bkm p n T (R i) (un j)) ↔ S (bk n T (R i) (un j)) := ⟨fun x => hs.ech.sb.q x bkm_q, fun x => hs.ech.sb.q x bkm_q.sy⟩
  refine w_eq (by rcases hv with ⟨e, _⟩ | ⟨e, _⟩ <;> exact ⟨by omega, by omega⟩) ⟨by omega, by omega⟩ (fun he => ?_) (fun he => ?_)
  · rw [show zI 0 = (0 : Int32) from rfl]
    refine w_jinl (w_jinl (w_jp (h _ 0 (Or.inr ⟨rfl, fun hx => ?_⟩) fr3)))
    rcases hv with ⟨e, _⟩ | ⟨_, e⟩
    · omega
    · exact e (hq.mpr (hci.mp hx i j (by omega) hjn))
  · rw [z_1, zI_add]
    refine w_jcont ⟨hjn, rfl, fun i' j' h1 h2 => ?_, fr3⟩
    by_cases e : i' = i ∧ j' = j
    · rw [e.1, e.2]
      rcases hv with ⟨_, e⟩ | ⟨e, _⟩
      · exact hq.mp e
      · omega
    · exact k1 i' j' h1 (by omega)
end MOD3
