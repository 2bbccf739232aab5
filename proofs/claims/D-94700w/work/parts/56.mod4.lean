/-! THE MODEL: kinds of spans, counting them. -/
set_option maxRecDepth 100000
section MOD4
variable {α τ : Type} {M : Mem} {N N' : NM} {m a b to W B L : Nat} {p : Int} {n q qa qb : Nat} {T : Nat → Nat → Nat → Int} {R Ra Rb : Nat → Nat → Int} {ld la lb : Nat → Nat} {S A B' : VS} {X Y : Nat → Int}
theorem w_misAbelianPart {f : Int32 → JM Mem τ} {Q : τ → Mem → NM → Prop} (hM : ML M m) (hA : MA M N m W B p n T) (hs : SpM N (m + 11) p n q R ld S)
    (h : ∀ N' v, (v = 1 ∧ dm p n (Br p n T S S) = 0 ∨ v = 0 ∧ dm p n (Br p n T S S) ≠ 0) → (∀ x, x ≠ m + 10 → x ≠ m + 17 → x ≠ m + 24 → N' x = N x) → GN M N' (f (zI v)) Q) : GN M N (jb (jcall 7 m (f_X8_isAbelianPart m (zI q))) f) Q := by
  have hn5 := hA.n5
  have hp := hA.pr
  refine w_Mc hM ?_
  unfold f_X8_isAbelianPart
  refine w_Mf hM rfl (w_Mf hM rfl (w_Mf hM rfl ?_))
  refine w_mbrackets hM hA (by omega) (by omega) (by omega) (by omega) (by omega) hs hs (fun N1 q1 R1 ld1 hs1 hfr => ?_)
  have hdm := hs1.ech.dm hp
  have hq := hs1.qn hp
  rw [z_0]
  refine w_eq ⟨by omega, by omega⟩ ⟨by omega, by omega⟩ (fun he => ?_) (fun he => ?_)
  · exact w_jp (h N1 1 (Or.inl ⟨rfl, by omega⟩) (fun x h1 h2 h3 => hfr x h2 h3 h1))
  · exact w_jp (h N1 0 (Or.inr ⟨rfl, by omega⟩) (fun x h1 h2 h3 => hfr x h2 h3 h1))
theorem w_endsIn0 {f : Int32 → JM Mem τ} {Q : τ → Mem → NM → Prop} {d : Int} (hM : ML M m) (hA : MA M N m W B p n T) (hs : SpM N (m + 11) p n q R ld S) (hd : d = 0 ∨ d = 1) (hc : Clo n T False S)
    (h : ∀ N' v, (v = 1 ∧ dm p n (Ser p n T S (1 - d) 5) = 0 ∨ v = 0 ∧ dm p n (Ser p n T S (1 - d) 5) ≠ 0) → (∀ x, x ≠ m + 9 → x ≠ m + 10 → x ≠ m + 13 → x ≠ m + 17 → x ≠ m + 24 → N' x = N x) → GN M N' (f (zI v)) Q) :
    GN M N (jb (jcall 7 m (f_X8_endsIn0 m (zI q) (zI d))) f) Q := by
  have hn5 := hA.n5
  have hp := hA.pr
  have hqn := hs.qn hp
  have hWe := hA.We
  have hSs := hs.ech.sb
  refine w_Mc hM ?_
  unfold f_X8_endsIn0
  refine w_Mf hM rfl (w_Mf hM rfl ?_)
  refine w_copySpan hM (hM.sp (a := m + 11) (by omega)) (hM.sp (a := m + 9) (by omega)) (by omega) (by omega) (fun N0 he0 hfr0 => ?_)
  rw [z_m1]
  have hdim0 : dm p n (Ser p n T S (1 - d) 0) ≤ 5 := Nat.le_trans dm_le hn5
  refine w_loop (fun dd t N1 => ∃ (k : Nat) (now : Nat) (was : Int) (R1 : Nat → Nat → Int) (ld1 : Nat → Nat), t = (zI now, zI was) ∧ dd + k = n + 1 ∧ SpM N1 (m + 9) p n now R1 ld1 (Ser p n T S (1 - d) k) ∧ (k = 0 ∧ was = -1 ∨ ∃ k', k = k' + 1 ∧ was = (dm p n (Ser p n T S (1 - d) k') : Nat) ∧ dm p n (Ser p n T S (1 - d) k') + k' ≤ n) ∧
      ∀ x, x ≠ m + 9 → x ≠ m + 10 → x ≠ m + 13 → x ≠ m + 17 → x ≠ m + 24 → N1 x = N x) (n + 1) _
    ⟨0, q, -1, R, ld, rfl, rfl, by rw [Ser.z]; exact hs.cp hp hn5 he0, Or.inl ⟨rfl, rfl⟩, fun x h1 _ _ _ _ => hfr0 x h1⟩ ?_
  rintro dd t N1 ⟨k, now, was, R1, ld1, rfl, hdd, hs1, hwas, hfr⟩
  show GN M N1 (X8_endsIn0_L17 m (zI _) (zI _) (zI _) (zI _)) _
  have hnow := hs1.ech.dm hp
  have hnn := hs1.qn hp
  have hA1 : MA M N1 m W B p n T := hA.fr (hfr m (by omega) (by omega) (by omega) (by omega) (by omega)) (hfr W (by omega) (by omega) (by omega) (by omega) (by omega))
  have hwr : zR was := by
    rcases hwas with ⟨_, e⟩ | ⟨k', _, e, h2⟩
    · exact ⟨by omega, by omega⟩
    · exact ⟨by omega, by omega⟩
  unfold X8_endsIn0_L17
  rw [z_0]
  refine w_le ⟨by omega, by omega⟩ ⟨by omega, by omega⟩ (fun e1 => ?_) (fun e1 => ?_)
  · unfold X8_endsIn0_b105
    rw [z_0]
    refine w_jinl ?_
    refine w_eq ⟨by omega, by omega⟩ ⟨by omega, by omega⟩ (fun e2 => ?_) (fun e2 => by omega)
    exact w_jp (h N1 1 (Or.inl ⟨rfl, chain_end hp (fun k => Ser.sb hSs k) (fun k => Ser.dec hSs hc k) (fun k => Ser.st k) hdim0 ⟨k, by omega⟩⟩) hfr)
  refine w_eq ⟨by omega, by omega⟩ hwr (fun e2 => ?_) (fun e2 => ?_)
  · unfold X8_endsIn0_b105
    rw [z_0]
    refine w_jinl ?_
    refine w_eq ⟨by omega, by omega⟩ ⟨by omega, by omega⟩ (fun e3 => by omega) (fun e3 => ?_)
    refine w_jp (h N1 0 (Or.inr ⟨rfl, ?_⟩) hfr)
    rcases hwas with ⟨_, e⟩ | ⟨k', e4, e5, e6⟩
    · omega
    · subst e4
      have e7 := dm_eq hp (Ser.sb hSs (d := 1 - d) (k' + 1)) (Ser.sb hSs k') (Ser.dec hSs hc k') (by omega)
      have e8 := chain_st (fun k => Ser.st (p := p) (n := n) (T := T) (S := S) (d := 1 - d) k) e7 (5 - k')
      rw [show k' + (5 - k') = 5 by omega] at e8
      rw [e8]
      omega
  have hlt : dm p n (Ser p n T S (1 - d) k) + k ≤ n := by
    rcases hwas with ⟨e, _⟩ | ⟨k', e4, e5, e6⟩
    · subst e
      have := dm_le (p := p) (n := n) (S := Ser p n T S (1 - d) 0)
      omega
    · subst e4
      have := dm_mono (p := p) (n := n) (Ser.dec hSs hc (d := 1 - d) k')
      omega
  clear hwas
  have hback : ∀ (N2 : NM) (q2 : Nat) (R2 : Nat → Nat → Int) (ld2 : Nat → Nat), SpM N2 (m + 10) p n q2 R2 ld2 (Ser p n T S (1 - d) (k + 1)) → (∀ x, x ≠ m + 9 → x ≠ m + 10 → x ≠ m + 13 → x ≠ m + 17 → x ≠ m + 24 → N2 x = N x) →
      GN M N2 (X8_endsIn0_b90 m (zI q) (zI d) (zI q2) (zI now)) (LQ (fun v M1 N1 => GN M1 N1 (f v) Q) (KF M (fun t N1 => ∃ m_1, m_1 < dd ∧ ∃ (k : Nat) (now : Nat) (was : Int) (R1 : Nat → Nat → Int) (ld1 : Nat → Nat), t = (zI now, zI was) ∧ m_1 + k = n + 1 ∧ SpM N1 (m + 9) p n now R1 ld1 (Ser p n T S (1 - d) k) ∧ (k = 0 ∧ was = -1 ∨ ∃ k', k = k' + 1 ∧ was = (dm p n (Ser p n T S (1 - d) k') : Nat) ∧ dm p n (Ser p n T S (1 - d) k') + k' ≤ n) ∧
      ∀ x, x ≠ m + 9 → x ≠ m + 10 → x ≠ m + 13 → x ≠ m + 17 → x ≠ m + 24 → N1 x = N x))) := by
    intro N2 q2 R2 ld2 h1 h2
    unfold X8_endsIn0_b90
    refine w_Mf hM rfl (w_Mf hM rfl ?_)
    refine w_copySpan hM (hM.sp (a := m + 10) (by omega)) (hM.sp (a := m + 9) (by omega)) (by omega) (by omega) (fun N3 he3 hfr3 => ?_)
    exact w_jcont ⟨dd - 1, by omega, k + 1, q2, now, R2, ld2, rfl, by omega, h1.cp hp hn5 he3, Or.inr ⟨k, rfl, by omega, hlt⟩, fun x g1 g2 g3 g4 g5 => by rw [hfr3 x g1, h2 x g1 g2 g3 g4 g5]⟩
  have hsC : SpM N1 (m + 11) p n q R ld S := hs.fr (hfr _ (by omega) (by omega) (by omega) (by omega) (by omega))
  refine w_eq ⟨by omega, by omega⟩ ⟨by omega, by omega⟩ (fun e3 => ?_) (fun e3 => ?_)
  · refine w_Mf hM rfl (w_Mf hM rfl ?_)
    refine w_copySpan hM (hM.sp (a := m + 9) (by omega)) (hM.sp (a := m + 13) (by omega)) (by omega) (by omega) (fun N2 he2 hfr2 => ?_)
    refine w_Mf hM rfl (w_Mf hM rfl (w_Mf hM rfl ?_))
    refine w_mbrackets hM (hA1.fr (hfr2 m (by omega)) (hfr2 W (by omega))) (by omega) (by omega) (by omega) (by omega) (by omega) (hs1.fr (hfr2 _ (by omega))) (hs1.cp hp hn5 he2) (fun N3 q3 R3 ld3 hs3 hfr3 => ?_)
    refine hback N3 q3 R3 ld3 ?_ (fun x g1 g2 g3 g4 g5 => by rw [hfr3 x g4 g5 g2, hfr2 x g3, hfr x g1 g2 g3 g4 g5])
    rw [Ser.d (by omega)] at hs3 ⊢
    exact hs3
  · refine w_Mf hM rfl (w_Mf hM rfl (w_Mf hM rfl ?_))
    refine w_mbrackets hM hA1 (by omega) (by omega) (by omega) (by omega) (by omega) hs1 hsC (fun N3 q3 R3 ld3 hs3 hfr3 => ?_)
    refine hback N3 q3 R3 ld3 ?_ (fun x g1 g2 g3 g4 g5 => by rw [hfr3 x g4 g5 g2, hfr x g1 g2 g3 g4 g5])
    rw [Ser.l (by omega), Br.comm hA.ok.tan] at hs3
    rw [Ser.l (by omega)]
    exact hs3
theorem w_normalizerSize {f : Int32 → JM Mem τ} {Q : τ → Mem → NM → Prop} (hM : ML M m) (hA : MA M N m W B p n T) (hs : SpM N (m + 11) p n q R ld S)
    (h : ∀ N', (∀ x, x ≠ m → x ≠ m + 12 → x ≠ m + 14 → x ≠ m + 17 → x ≠ m + 18 → x ≠ m + 19 → x ≠ m + 24 → N' x = N x) → (∀ k, k ≠ 39 → N' m k = N m k) → GN M N' (f (zI (n - (dm p n (NzE p n q T R ld S) : Nat)))) Q) :
    GN M N (jb (jcall 7 m (f_X8_normalizerSize m (zI q))) f) Q := by
  have hpb := hA.pb
  have hn5 := hA.n5
  have hp := hA.pr
  have hqn := hs.qn hp
  have hWe := hA.We
  have k19 := hM.ka (o := 19) (d := (0, 30)) rfl
  have k12 := hM.ka (o := 12) (d := (0, 25)) rfl
  refine w_Mc hM ?_
  unfold f_X8_normalizerSize
  refine w_Mc hM ?_
  unfold f_X8_noRows
  rw [z_0]
  refine w_Mput hM (w_jp ?_)
  have hFs : Sbp p n (NzE p n q T R ld S) := Gn.sb
  have frA : ∀ N1 : NM, (∀ x, x ≠ m → x ≠ m + 12 → x ≠ m + 14 → x ≠ m + 17 → x ≠ m + 18 → x ≠ m + 19 → x ≠ m + 24 → N1 x = N x) → (∀ k, k ≠ 39 → N1 m k = N m k) → MA M N1 m W B p n T := fun N1 g g2 => hA.fr2 (fun k h1 h2 => g2 k (by omega)) (g W (by omega) (by omega) (by omega) (by omega) (by omega) (by omega) (by omega))
  refine w_up q (fun r N1 => EqI N m p n (NzE p n q T R ld S) (fun e => ∃ r' k, r' < r ∧ k < n ∧ e = fun b => nfv p n q ld S (bkm p n T (un b) (R r')) k) N1 ∧ (∀ x, x ≠ m → x ≠ m + 12 → x ≠ m + 14 → x ≠ m + 17 → x ≠ m + 18 → x ≠ m + 19 → x ≠ m + 24 → N1 x = N x) ∧ ∀ k, k ≠ 39 → N1 m k = N m k) 0 rfl (by omega)
    ⟨⟨0, _, _, _, EqM.nil hp (by simp [up2]), fun x hx => hFs.zv hx, fun e ⟨r', k, h1, _⟩ => absurd h1 (Nat.not_lt_zero _)⟩, fun x h1 _ _ _ _ _ _ => by funext k; show (if x = m ∧ _ then _ else N x k) = _; rw [if_neg (fun e => h1 e.1)], fun k hk => by show (if m = m ∧ k = 39 then _ else N m k) = _; rw [if_neg (fun e => hk e.2)]⟩ ?_
  rintro r N1 hr ⟨hI, g1, g2⟩
  unfold X8_normalizerSize_L6
  refine w_le ⟨by omega, by omega⟩ ⟨by omega, by omega⟩ (fun hc => ?_) (fun hc => ?_)
  · unfold X8_normalizerSize_b172
    refine w_jinl ?_
    refine w_MI hM (w_MI hM ?_)
    rw [(frA N1 g1 g2).ne, hI.end hp (fun S' h1 h2 x hx => Gn.le h1 (fun g ⟨r', k, h3, h4, e⟩ => h2 g ⟨r', k, by omega, h4, e⟩) hx), zI_sub]
    exact w_jp (h N1 g1 g2)
  have hrq : r < q := by omega
  have hsx : ∀ N2 : NM, (∀ x, x ≠ m → x ≠ m + 12 → x ≠ m + 14 → x ≠ m + 17 → x ≠ m + 18 → x ≠ m + 19 → x ≠ m + 24 → N2 x = N x) → SpM N2 (m + 11) p n q R ld S := fun N2 g => hs.fr (g _ (by omega) (by omega) (by omega) (by omega) (by omega) (by omega) (by omega))
  rw [z_0]
  -- what is left of brackets, for each base vector
  refine w_up n (fun b N2 => (∀ b' k, b' < b → k < n → N2 (m + 12) (5 * b' + k) = nfv p n q ld S (bkm p n T (un b') (R r)) k) ∧ (∀ b', b' < b → Nf p n q ld S (bkm p n T (un b') (R r)) (nfv p n q ld S (bkm p n T (un b') (R r)))) ∧ N2 (m + 18) = N1 (m + 18) ∧ N2 m = N1 m ∧ ∀ x, x ≠ m → x ≠ m + 12 → x ≠ m + 14 → x ≠ m + 17 → x ≠ m + 18 → x ≠ m + 19 → x ≠ m + 24 → N2 x = N x) 0 rfl (by omega)
    ⟨fun b' k hb => by omega, fun b' hb => by omega, rfl, rfl, g1⟩ ?_
  rintro b N2 hb ⟨k1, k1n, k2, k3, k4⟩
  have k5 : ∀ k, k ≠ 39 → N2 m k = N m k := fun k hk => by rw [k3]; exact g2 k hk
  unfold X8_normalizerSize_L13
  refine w_MI hM ?_
  rw [(frA N2 k4 k5).ne]
  refine w_le ⟨by omega, by omega⟩ ⟨by omega, by omega⟩ (fun hd => ?_) (fun hd => ?_)
  rotate_left
  · have hbn : b < n := by omega
    have hA2 := frA N2 k4 k5
    refine w_Mf hM rfl ?_
    refine w_unit hM hA2 (by omega) (hM.ka rfl) (by omega) (by omega) ?_
    have hA3 : MA M (wro N2 (m + 14) 0 n (un b)) m W B p n T := hA2.fr (wro_ne (by omega)) (wro_ne (by omega))
    have hs3 : SpM (wro N2 (m + 14) 0 n (un b)) (m + 11) p n q R ld S := (hsx N2 k4).fr (wro_ne (by omega))
    refine w_Mf hM rfl (w_Mf hM rfl (w_Mf hM rfl ?_))
    rw [z_5, zI_mul, show (5 * (r : Int)) = ((5 * r : Nat) : Int) by omega, z_0]
    have hun : VM (wro N2 (m + 14) 0 n (un b)) (m + 14) 0 p n (un b) := ⟨fun k hk => wro_at hk, (un_vd (N := N) (v := 0) hp hbn).2⟩
    refine w_bracketOf (oa := 0) hM hA3 (hM.ka rfl) (by omega) (hM.ka rfl) (by omega) (hM.ka rfl) (by omega) hun (hs3.vm hrq) (by omega) (by omega) (by omega) (by omega) ?_
    refine w_Mf hM rfl (w_Mf hM rfl ?_)
    have hv4 : VM (wro (wro N2 (m + 14) 0 n (un b)) (m + 17) 0 n (fun k => bk n T (un b) (R r) k % p)) (m + 17) 0 p n (bkm p n T (un b) (R r)) := ⟨fun k hk => wro_at hk, bkm_bd hA.ok⟩
    refine w_mreduce (o := 0) hM (hA3.fr (wro_ne (by omega)) (wro_ne (by omega))) (hM.ka rfl) (by omega) (hs3.fr (wro_ne (by omega))) (hM.ka rfl) (by omega) hv4 (by omega) (by omega) (fun Y h1 h2 h3 => ?_)
    have hnf : Nf p n q ld S (bkm p n T (un b) (R r)) Y := ⟨h1, h2, h3⟩
    have hYe := hnf.eq hs.ech
    generalize hN5 : wro (wro (wro N2 (m + 14) 0 n (un b)) (m + 17) 0 n (fun k => bk n T (un b) (R r) k % p)) (m + 24) 0 n Y = N5
    have f5 : ∀ x, x ≠ m + 14 → x ≠ m + 17 → x ≠ m + 24 → N5 x = N2 x := fun x a1 a2 a3 => by rw [← hN5, wro_ne a3, wro_ne a2, wro_ne a1]
    have e5 : ∀ k, k < n → N5 (m + 24) k = Y k := fun k hk => by
      rw [← hN5]
      have := wro_at (N := wro (wro N2 (m + 14) 0 n (un b)) (m + 17) 0 n (fun k => bk n T (un b) (R r) k % p)) (a := m + 24) (o := 0) (j := n) (k := k) (g := Y) hk
      rwa [Nat.zero_add] at this
    refine w_up n (fun k N6 => (∀ j, N6 (m + 12) j = if 5 * b ≤ j ∧ j < 5 * b + k then Y (j - 5 * b) else N2 (m + 12) j) ∧ ∀ x, x ≠ m + 12 → N6 x = N5 x) 0 rfl (by omega) ⟨fun j => by rw [if_neg (by omega), f5 _ (by omega) (by omega) (by omega)], fun _ _ => rfl⟩ ?_
    rintro k N6 hk ⟨l1, l2⟩
    unfold X8_normalizerSize_L67
    refine w_MI hM ?_
    rw [l2 m (by omega), f5 m (by omega) (by omega) (by omega), hA2.ne]
    refine w_le ⟨by omega, by omega⟩ ⟨by omega, by omega⟩ (fun he => ?_) (fun he => ?_)
    · have hkn : k = n := by omega
      subst hkn
      unfold X8_normalizerSize_b100
      rw [z_1, zI_add]
      refine w_jinl (w_jcont ⟨hbn, rfl, fun b' j h4 h5 => ?_, fun b' h4 => ?_, ?_, ?_, fun x a1 a2 a3 a4 a5 a6 a7 => ?_⟩)
      · rw [l1]
        by_cases c1 : b' = b
        · rw [c1, if_pos (by omega), show 5 * b + j - 5 * b = j by omega, hYe]
        · rw [if_neg (by omega)]; exact k1 b' j (by omega) h5
      · by_cases c1 : b' = b
        · rw [c1]; exact hnf.ok
        · exact k1n b' (by omega)
      · rw [l2 _ (by omega), f5 _ (by omega) (by omega) (by omega), k2]
      · rw [l2 _ (by omega), f5 _ (by omega) (by omega) (by omega), k3]
      · rw [l2 _ a2, f5 _ a3 a4 a7, k4 x a1 a2 a3 a4 a5 a6 a7]
    refine w_Mf hM rfl (w_Mf hM rfl ?_)
    refine w_ald (hM.ka (o := 24) (d := (0, 5)) rfl) (by omega) (by omega) ?_
    rw [show ((k : Int).toNat) = k from rfl, l2 _ (by omega), e5 k (by omega), z_5, zI_mul, zI_add]
    refine w_ast k12 (by omega) (by omega) ?_
    rw [show (5 * (b : Int) + (k : Int)).toNat = 5 * b + k by omega, z_1, zI_add]
    refine w_jcont ⟨by omega, rfl, fun j => ?_, fun x hx => ?_⟩
    · show (if m + 12 = m + 12 ∧ j = 5 * b + k then Y k else N6 (m + 12) j) = _
      by_cases c1 : j = 5 * b + k
      · rw [if_pos ⟨rfl, c1⟩, if_pos (by omega), c1, show 5 * b + k - 5 * b = k by omega]
      · rw [if_neg (fun x => c1 x.2), l1 j]
        by_cases c2 : 5 * b ≤ j ∧ j < 5 * b + k
        · rw [if_pos c2, if_pos (by omega)]
        · rw [if_neg c2, if_neg (by omega)]
    · funext j
      show (if x = m + 12 ∧ _ then _ else N6 x j) = _
      rw [if_neg (fun e => hx e.1), l2 x hx]
  have hbn : b = n := by omega
  subst hbn
  unfold X8_normalizerSize_b106
  refine w_jinl ?_
  rw [z_0]
  refine w_up b (fun k N3 => EqI N m p b (NzE p b q T R ld S) (fun e => ∃ r' k', r' < q ∧ k' < b ∧ (r' < r ∨ r' = r ∧ k' < k) ∧ e = fun b' => nfv p b q ld S (bkm p b T (un b') (R r')) k') N3 ∧ (∀ b' k, b' < b → k < b → N3 (m + 12) (5 * b' + k) = nfv p b q ld S (bkm p b T (un b') (R r)) k) ∧ (∀ x, x ≠ m → x ≠ m + 12 → x ≠ m + 14 → x ≠ m + 17 → x ≠ m + 18 → x ≠ m + 19 → x ≠ m + 24 → N3 x = N x) ∧ ∀ k, k ≠ 39 → N3 m k = N m k) 0 rfl (by omega)
    ⟨by
      obtain ⟨q1, R1, ld1, S', h1, h2, h3⟩ := hI
      exact ⟨q1, R1, ld1, S', ⟨by rw [k3]; exact h1.1, fun r x h4 h5 => by rw [k2]; exact h1.2.1 r x h4 h5, h1.2.2⟩, h2, fun e ⟨r', k', h4, h5, h6, h7⟩ => h3 e ⟨r', k', by omega, h5, h7⟩⟩, k1, k4, k5⟩ ?_
  rintro k N3 hk ⟨hI3, o1, o2, o3⟩
  unfold X8_normalizerSize_L108
  refine w_MI hM ?_
  rw [(frA N3 o2 o3).ne]
  refine w_le ⟨by omega, by omega⟩ ⟨by omega, by omega⟩ (fun he => ?_) (fun he => ?_)
  · unfold X8_normalizerSize_b166
    rw [z_1, zI_add]
    refine w_jinl (w_jcont ⟨hrq, rfl, ?_, o2, o3⟩)
    obtain ⟨q1, R1, ld1, S', h1, h2, h3⟩ := hI3
    exact ⟨q1, R1, ld1, S', h1, h2, fun e ⟨r', k', h4, h5, h7⟩ => h3 e ⟨r', k', by omega, h5, by omega, h7⟩⟩
  have hkb : k < b := by omega
  rw [z_0]
  refine w_up b (fun i N4 => N4 = wrj N3 (m + 19) i (fun b' => nfv p b q ld S (bkm p b T (un b') (R r)) k)) 0 rfl (by omega) wrj_0.symm ?_
  rintro i N4 hi rfl
  have hA4 : MA M (wrj N3 (m + 19) i (fun b' => nfv p b q ld S (bkm p b T (un b') (R r)) k)) m W B p b T := (frA N3 o2 o3).fr (wrj_ne (by omega)) (wrj_ne (by omega))
  unfold X8_normalizerSize_L119
  refine w_MI hM ?_
  rw [hA4.ne]
  refine w_le ⟨by omega, by omega⟩ ⟨by omega, by omega⟩ (fun hf => ?_) (fun hf => ?_)
  · have hin' : i = b := by omega
    subst hin'
    unfold X8_normalizerSize_b152
    refine w_jinl ?_
    refine w_MI hM ?_
    rw [hA4.ne]
    obtain ⟨q1, R1, ld1, S', h1, h2, h3⟩ := hI3
    have hEq : EqM (wrj N3 (m + 19) i (fun b' => nfv p i q ld S (bkm p i T (un b') (R r)) k)) m p i q1 R1 ld1 S' := by
      refine ⟨?_, fun r x h4 h5 => ?_, h1.2.2⟩
      · rw [wrj_ne (by omega)]; exact h1.1
      · rw [wrj_ne (by omega)]; exact h1.2.1 r x h4 h5
    refine w_addEq (X := fun b' => if b' < i then nfv p i q ld S (bkm p i T (un b') (R r)) k else 0) hM hA4 (by omega) hEq (fun x hx => by
      show (if m + 19 = m + 19 ∧ x < i then _ else _) = if x < i then _ else _
      rw [if_pos ⟨rfl, hx⟩, if_pos hx]) (fun x => ?_) (fun N5 q5 R5 ld5 h5 f5 f5' => ?_)
    · show 0 ≤ (if x < i then _ else _) ∧ (if x < i then _ else _) < p ∧ (i ≤ x → (if x < i then _ else _) = 0)
      refine ⟨?_, ?_, fun h => if_neg (by omega)⟩
      · split
        · rename_i hx
          exact ((k1n x hx).1 k).1
        · omega
      · split
        · rename_i hx
          exact ((k1n x hx).1 k).2.1
        · omega
    rw [z_1, zI_add]
    have hq9 : Vq p i (fun b' => nfv p i q ld S (bkm p i T (un b') (R r)) k) (fun b' => if b' < i then nfv p i q ld S (bkm p i T (un b') (R r)) k else 0) := Vq.of (fun k hk => (if_pos hk).symm)
    refine w_jcont ⟨hkb, rfl, ⟨q5, R5, ld5, _, h5, fun x hx => Ad.min hFs h2 (hFs.q (Gn.mem ⟨r, k, hrq, hkb, rfl⟩) hq9) hx, fun e ⟨r', k', h5, h6, h7, h8⟩ => ?_⟩, fun b' j h6 h7 => ?_, fun x a1 a2 a3 a4 a5 a6 a7 => by rw [f5 x a1 a5 a6, wrj_ne a6, o2 x a1 a2 a3 a4 a5 a6 a7], fun x hx => by rw [f5' x hx, wrj_ne (by omega), o3 x hx]⟩
    · by_cases c1 : r' = r ∧ k' = k
      · rw [h8, c1.1, c1.2]; exact (Ad.sb h1.2.2.2.sb).q (Ad.me h1.2.2.2.sb) hq9.sy
      · exact Ad.le h1.2.2.2.sb (h3 e ⟨r', k', h5, h6, by omega, h8⟩)
    · rw [f5 _ (by omega) (by omega) (by omega), wrj_ne (by omega)]; exact o1 b' j h6 h7
  refine w_Mf hM rfl (w_Mf hM rfl ?_)
  rw [z_5, zI_mul, zI_add]
  refine w_ald k12 (by omega) (by omega) ?_
  rw [show (5 * (i : Int) + (k : Int)).toNat = 5 * i + k by omega, wrj_ne (by omega), o1 i k (by omega) hkb]
  refine w_ast k19 (by omega) (by omega) ?_
  rw [show ((i : Int).toNat) = i from rfl, wrj_up (g := fun b' => nfv p b q ld S (bkm p b T (un b') (R r)) k) (v := nfv p b q ld S (bkm p b T (un i) (R r)) k) rfl, z_1, zI_add]
  exact w_jcont ⟨by omega, rfl, rfl⟩
theorem w_isSuch {f : Int32 → JM Mem τ} {Q : τ → Mem → NM → Prop} {what : Nat} (hM : ML M m) (hA : MA M N m W B p n T) (hs : SpM N (m + 11) p n q R ld S) (hw : what ≤ 3)
    (h : ∀ N' v, (v = 1 ∧ KD p n T what q R ld S ∨ v = 0 ∧ ¬ KD p n T what q R ld S) → (∀ x, x < m + 9 ∨ m + 19 < x → x ≠ m → x ≠ m + 24 → N' x = N x) → (∀ k, k ≠ 39 → N' m k = N m k) → GN M N' (f (zI v)) Q) :
    GN M N (jb (jcall 7 m (f_X8_isSuch m (zI q) (zI what))) f) Q := by
  have hn5 := hA.n5
  have hp := hA.pr
  have hqn := hs.qn hp
  have hWe := hA.We
  have h01 : ∀ {v : Int} {P : Prop}, (v = 1 ∧ P ∨ v = 0 ∧ ¬ P) → v = 0 ∨ v = 1 := fun h => by rcases h with ⟨e, _⟩ | ⟨e, _⟩ <;> omega
  have frA : ∀ N1 : NM, (∀ x, x < m + 9 ∨ m + 19 < x → x ≠ m + 24 → N1 x = N x) → MA M N1 m W B p n T := fun N1 g => hA.fr (g m (by omega) (by omega)) (g W (by omega) (by omega))
  refine w_Mc hM ?_
  unfold f_X8_isSuch
  rw [z_1]
  refine w_eq ⟨by omega, by omega⟩ ⟨by omega, by omega⟩ (fun e1 => ?_) (fun e1 => ?_)
  · have : what = 1 := by omega
    subst this
    refine w_misIdeal hM hA hs (fun N1 v hv hfr => ?_)
    exact w_rze (h01 hv) (h N1 v hv (fun x h1 h2 h3 => hfr x (by omega) (by omega) h3) (fun k _ => by rw [hfr m (by omega) (by omega) (by omega)]))
  refine w_misPart hM hA hs (fun N1 v hv hfr => ?_)
  have hb := h01 hv
  have fr1 : ∀ x, x < m + 9 ∨ m + 19 < x → x ≠ m + 24 → N1 x = N x := fun x h1 h2 => hfr x (by omega) h2
  rw [z_0]
  refine w_eq ⟨by omega, by omega⟩ ⟨by omega, by omega⟩ (fun e2 => ?_) (fun e2 => ?_)
  · have hnc : ¬ Clo n T False S := by
      rcases hv with ⟨e, _⟩ | ⟨_, e⟩
      · omega
      · exact e
    refine w_jp (h N1 0 (Or.inr ⟨rfl, fun hk => hnc ?_⟩) (fun x h1 _ h3 => fr1 x h1 h3) (fun k _ => by rw [fr1 m (by omega) (by omega)]))
    have h4 : what = 0 ∨ what = 2 ∨ what = 3 := by omega
    rcases h4 with rfl | rfl | rfl
    · exact hk
    · exact fun a b ha hb => hs.ech.sb.zv ((dm_zero hp Br.sb).mp hk _ (Br.mem ha (hb.resolve_left id)))
    · exact hk.1
  have hcl : Clo n T False S := by
    rcases hv with ⟨_, e⟩ | ⟨e, _⟩
    · exact e
    · omega
  refine w_eq ⟨by omega, by omega⟩ ⟨by omega, by omega⟩ (fun e3 => ?_) (fun e3 => ?_)
  · have : what = 0 := by omega
    subst this
    exact w_jp (h N1 1 (Or.inl ⟨rfl, hcl⟩) (fun x h1 _ h3 => fr1 x h1 h3) (fun k _ => by rw [fr1 m (by omega) (by omega)]))
  have hs1 : SpM N1 (m + 11) p n q R ld S := hs.fr (hfr _ (by omega) (by omega))
  rw [z_2]
  refine w_eq ⟨by omega, by omega⟩ ⟨by omega, by omega⟩ (fun e4 => ?_) (fun e4 => ?_)
  · have : what = 2 := by omega
    subst this
    refine w_misAbelianPart hM (frA N1 fr1) hs1 (fun N2 v2 hv2 hfr2 => ?_)
    exact w_rze (h01 hv2) (h N2 v2 hv2 (fun x h1 h2 h3 => by rw [hfr2 x (by omega) (by omega) h3, fr1 x h1 h3]) (fun k _ => by rw [hfr2 m (by omega) (by omega) (by omega), fr1 m (by omega) (by omega)]))
  have : what = 3 := by omega
  subst this
  refine w_endsIn0 (d := 1) hM (frA N1 fr1) hs1 (Or.inr rfl) hcl (fun N2 v2 hv2 hfr2 => ?_)
  have hb2 := h01 hv2
  have fr2 : ∀ x, x < m + 9 ∨ m + 19 < x → x ≠ m + 24 → N2 x = N x := fun x h1 h2 => by rw [hfr2 x (by omega) (by omega) (by omega) (by omega) h2, fr1 x h1 h2]
  have eL : Ser p n T S (1 - 1) 5 = LSr p n T S 5 := Ser.l rfl
  rw [eL] at hv2
  refine w_eq ⟨by omega, by omega⟩ ⟨by omega, by omega⟩ (fun e5 => ?_) (fun e5 => ?_)
  · refine w_jp (h N2 0 (Or.inr ⟨rfl, fun hk => ?_⟩) (fun x h1 _ h3 => fr2 x h1 h3) (fun k _ => by rw [fr2 m (by omega) (by omega)]))
    rcases hv2 with ⟨e, _⟩ | ⟨_, e⟩
    · omega
    · exact e hk.2.1
  have hnil : dm p n (LSr p n T S 5) = 0 := by
    rcases hv2 with ⟨_, e⟩ | ⟨e, _⟩
    · exact e
    · omega
  refine w_normalizerSize hM (frA N2 fr2) (hs1.fr (hfr2 _ (by omega) (by omega) (by omega) (by omega) (by omega))) (fun N3 hfr3 hfr3' => ?_)
  have hdl := dm_le (p := p) (n := n) (S := NzE p n q T R ld S)
  have fr3 : ∀ x, x < m + 9 ∨ m + 19 < x → x ≠ m → x ≠ m + 24 → N3 x = N x := fun x h1 h2 h3 => by rw [hfr3 x h2 (by omega) (by omega) (by omega) (by omega) (by omega) h3, fr2 x h1 h3]
  have fr3' : ∀ k, k ≠ 39 → N3 m k = N m k := fun k hk => by rw [hfr3' k hk, fr2 m (by omega) (by omega)]
  refine w_eq ⟨by omega, by omega⟩ ⟨by omega, by omega⟩ (fun e6 => ?_) (fun e6 => ?_)
  · exact w_jp (h N3 1 (Or.inl ⟨rfl, hcl, hnil, by omega⟩) fr3 fr3')
  · exact w_jp (h N3 0 (Or.inr ⟨rfl, fun hk => e6 (by have := hk.2.2; omega)⟩) fr3 fr3')
end MOD4
