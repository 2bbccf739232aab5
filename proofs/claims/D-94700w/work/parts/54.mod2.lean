/-! THE MODEL: brackets of spans, copies, the whole space, equations. -/
set_option maxRecDepth 100000
section MOD2
variable {α τ : Type} {M : Mem} {N N' : NM} {m a b to W B L : Nat} {p : Int} {n q qa qb : Nat} {T : Nat → Nat → Nat → Int} {R Ra Rb : Nat → Nat → Int} {ld la lb : Nat → Nat} {S A B' : VS} {X Y : Nat → Int}
theorem ML.sp (hM : ML M m) {a : Nat} (h : m + 9 ≤ a ∧ a ≤ m + 13) : mK M a = some (.inr (0, 25)) := by
  obtain ⟨k, rfl⟩ := Nat.le.dest h.1
  have h5 : k = 0 ∨ k = 1 ∨ k = 2 ∨ k = 3 ∨ k = 4 := by omega
  rcases h5 with rfl | rfl | rfl | rfl | rfl
  · exact hM.ka (o := 9) rfl
  · exact hM.ka (o := 10) rfl
  · exact hM.ka (o := 11) rfl
  · exact hM.ka (o := 12) rfl
  · exact hM.ka (o := 13) rfl
theorem MA.fr2 (h : MA M N m W B p n T) (h1 : ∀ k, 25 ≤ k → k ≤ 27 → N' m k = N m k) (h2 : N' W = N W) : MA M N' m W B p n T := by
  unfold MA at h ⊢
  rw [h1 25 (by omega) (by omega), h1 26 (by omega) (by omega), h1 27 (by omega) (by omega), h2]
  exact h
theorem SpM.nil (hp : Pr p) : SpM N a p n 0 (fun _ _ => 0) (fun _ => 0) (Zs p n) :=
  ⟨fun r k hr => by omega, fun _ _ => ⟨Int.le_refl 0, by have := hp.pos; show (0 : Int) < p; omega, fun _ => rfl⟩, fun r q _ hq => by omega, Ech.nil⟩
theorem w_mbrackets {f : Int32 → JM Mem τ} {Q : τ → Mem → NM → Prop} (hM : ML M m) (hA : MA M N m W B p n T) (ha : m + 9 ≤ a ∧ a ≤ m + 13) (hb : m + 9 ≤ b ∧ b ≤ m + 13) (ht : m + 9 ≤ to ∧ to ≤ m + 13) (hta : to ≠ a) (htb : to ≠ b)
    (sa : SpM N a p n qa Ra la A) (sb : SpM N b p n qb Rb lb B')
    (h : ∀ N' q' R' ld', SpM N' to p n q' R' ld' (Br p n T A B') → (∀ x, x ≠ m + 17 → x ≠ m + 24 → x ≠ to → N' x = N x) → GN M N' (f (zI (q' : Nat))) Q) :
    GN M N (jb (jcall 7 m (f_X8_brackets m a (zI qa) b (zI qb) to)) f) Q := by
  have hpb := hA.pb
  have hn5 := hA.n5
  have hp := hA.pr
  have hqa := sa.qn hp
  have hqb := sb.qn hp
  have hWe := hA.We
  refine w_Mc hM ?_
  unfold f_X8_brackets
  rw [z_0]
  refine w_up2 qa (fun r x N1 => ∃ (q' : Nat) (R' : Nat → Nat → Int) (ld' : Nat → Nat) (S' : VS), x = (q' : Nat) ∧ SpM N1 to p n q' R' ld' S' ∧ (∀ x, S' x → Br p n T A B' x) ∧ (∀ r' s, r' < r → s < qb → S' (bk n T (Ra r') (Rb s))) ∧ ∀ x, x ≠ m + 17 → x ≠ m + 24 → x ≠ to → N1 x = N x) 0 0 rfl (by omega)
    ⟨0, _, _, _, rfl, SpM.nil hp, fun x hx => Br.sb.zv hx, fun r' s hr => by omega, fun _ _ _ _ => rfl⟩ ?_
  rintro r x N1 hr ⟨q', R', ld', S', rfl, hs, hle, hdn, hfr⟩
  show GN M N1 (X8_brackets_L6 m a (zI _) b (zI _) to (zI _) (zI _)) _
  have hq' := hs.qn hp
  unfold X8_brackets_L6
  refine w_le ⟨by omega, by omega⟩ ⟨by omega, by omega⟩ (fun hc => ?_) (fun hc => ?_)
  · have e : S' = Br p n T A B' := vs_anti hle (Br.rows sa.ech sb.ech hs.ech.sb (fun r' s h1 h2 => hdn r' s (by omega) h2))
    rw [e] at hs
    exact w_jinl (w_jp (h N1 q' R' ld' hs hfr))
  rw [z_0]
  refine w_up2 qb (fun s x N2 => ∃ (q' : Nat) (R' : Nat → Nat → Int) (ld' : Nat → Nat) (S' : VS), x = (q' : Nat) ∧ SpM N2 to p n q' R' ld' S' ∧ (∀ x, S' x → Br p n T A B' x) ∧ (∀ r' s', r' < qa → s' < qb → r' < r ∨ r' = r ∧ s' < s → S' (bk n T (Ra r') (Rb s'))) ∧ ∀ x, x ≠ m + 17 → x ≠ m + 24 → x ≠ to → N2 x = N x) 0 _ rfl (by omega)
    ⟨q', R', ld', S', rfl, hs, hle, fun r' s' _ h2 h3 => hdn r' s' (by omega) h2, hfr⟩ ?_
  rintro s x N2 hsm ⟨q2, R2, ld2, S2, rfl, hs2, hle2, hdn2, hfr2⟩
  show GN M N2 (X8_brackets_L15 m a (zI _) b (zI _) to (zI _) (zI _) (zI _)) _
  have hq2 := hs2.qn hp
  unfold X8_brackets_L15
  refine w_le ⟨by omega, by omega⟩ ⟨by omega, by omega⟩ (fun hd => ?_) (fun hd => ?_)
  · unfold X8_brackets_b61
    rw [z_1, zI_add]
    exact w_jinl (w_jcont ⟨by omega, _, rfl, q2, R2, ld2, S2, rfl, hs2, hle2, fun r' s' h1 h2 => hdn2 r' s' (by omega) h2 (by omega), hfr2⟩)
  have hra : r < qa := by omega
  have hsb : s < qb := by omega
  have hA2 : MA M N2 m W B p n T := hA.fr (hfr2 m (by omega) (by omega) (by omega)) (hfr2 W (by omega) (by omega) (by omega))
  refine w_Mf hM rfl ?_
  rw [z_5, zI_mul, zI_mul, show (5 * (r : Int)) = ((5 * r : Nat) : Int) by omega, show (5 * (s : Int)) = ((5 * s : Nat) : Int) by omega]
  refine w_bracketOf hM hA2 (hM.sp ha) (by omega) (hM.sp hb) (by omega) (hM.ka rfl) (by omega) ((sa.fr (hfr2 a (by omega) (by omega) (by omega))).vm hra) ((sb.fr (hfr2 b (by omega) (by omega) (by omega))).vm hsb) (by omega) (by omega) (by omega) (by omega) ?_
  refine w_Mf hM rfl ?_
  rw [z_0]
  have hv4 : VM (wro N2 (m + 17) 0 n (fun k => bk n T (Ra r) (Rb s) k % p)) (m + 17) 0 p n (bkm p n T (Ra r) (Rb s)) := ⟨fun k hk => wro_at hk, bkm_bd hA.ok⟩
  refine w_join (o := 0) hM (hA2.fr (wro_ne (by omega)) (wro_ne (by omega))) (hM.sp ht) (by omega) (hs2.fr (wro_ne (by omega))) (hM.ka rfl) (by omega) hv4 (by omega) (by omega) (by omega) (by omega) (fun N3 q3 R3 ld3 hs3 _ hfr3 => ?_)
  rw [z_1, zI_add]
  have hmem : Ad S2 (bkm p n T (Ra r) (Rb s)) (bk n T (Ra r) (Rb s)) := (Ad.sb hs2.ech.sb).q (Ad.me hs2.ech.sb) bkm_q
  refine w_jcont ⟨hsb, _, rfl, q3, R3, ld3, _, rfl, hs3, fun x hx => Ad.min Br.sb hle2 (Br.sb.q (Br.mem (sa.ech.row hra) (sb.ech.row hsb)) bkm_q.sy) hx, fun r' s' h1 h2 h3 => ?_, fun x h1 h2 h3 => ?_⟩
  · by_cases e : r' = r ∧ s' = s
    · rw [e.1, e.2]; exact hmem
    · exact Ad.le hs2.ech.sb (hdn2 r' s' h1 h2 (by omega))
  · rw [hfr3 x h3 h2, wro_ne h1, hfr2 x h1 h2 h3]
theorem w_copySpan {f : Unit → JM Mem τ} {Q : τ → Mem → NM → Prop} {ka kt : Nat} (hM : ML M m) (ha : mK M a = some (.inr (0, ka))) (ht : mK M to = some (.inr (0, kt))) (hk : 25 ≤ ka ∧ ka ≤ 100 ∧ 25 ≤ kt ∧ kt ≤ 100) (hta : to ≠ a)
    (h : ∀ N', (∀ k, k < 25 → N' to k = N a k) → (∀ x, x ≠ to → N' x = N x) → GN M N' (f ()) Q) : GN M N (jb (jcall 7 m (f_X8_copySpan m a to)) f) Q := by
  refine w_Mc hM ?_
  unfold f_X8_copySpan
  rw [z_0]
  refine w_up 25 (fun k N1 => N1 = wrj N to k (N a)) 0 rfl (by omega) wrj_0.symm ?_
  rintro k N1 hk25 rfl
  unfold X8_copySpan_L2
  rw [z_25]
  refine w_le ⟨by omega, by omega⟩ ⟨by omega, by omega⟩ (fun hc => ?_) (fun hc => ?_)
  · have : k = 25 := by omega
    subst this
    exact w_jinl (w_jp (h _ (fun k hk => if_pos ⟨rfl, hk⟩) (fun x hx => wrj_ne hx)))
  refine w_ald ha (by omega) (by omega) ?_
  refine w_ast ht (by omega) (by omega) ?_
  rw [show ((k : Int).toNat) = k from rfl, wrj_ne (fun e => hta e.symm), wrj_up (g := N a) (v := N a k) rfl, z_1, zI_add]
  exact w_jcont ⟨by omega, rfl, rfl⟩
theorem SpM.cp (h : SpM N a p n q R ld S) (hp : Pr p) (hn : n ≤ 5) (e : ∀ k, k < 25 → N' to k = N a k) : SpM N' to p n q R ld S := by
  have hq := h.qn hp
  exact ⟨fun r k hr hk => by rw [e _ (by omega)]; exact h.1 r k hr hk, h.2⟩
theorem w_wholeSpan {f : Int32 → JM Mem τ} {Q : τ → Mem → NM → Prop} (hM : ML M m) (hA : MA M N m W B p n T) (ht : mK M to = some (.inr (0, L))) (hL : 25 ≤ L ∧ L ≤ 100) (htm : to ≠ m)
    (h : ∀ N', (∀ r k, r < n → k < n → N' to (5 * r + k) = un r k) → (∀ x, x ≠ to → N' x = N x) → GN M N' (f (zI n)) Q) : GN M N (jb (jcall 7 m (f_X8_wholeSpan m to)) f) Q := by
  have hn5 := hA.n5
  refine w_Mc hM ?_
  unfold f_X8_wholeSpan
  rw [z_0]
  have en : ∀ N1 : NM, (∀ x, x ≠ to → N1 x = N x) → N1 m 27 = n := fun N1 g => by rw [g m (fun e => htm e.symm)]; exact hA.ne
  refine w_up n (fun r N1 => (∀ r' k, r' < r → k < n → N1 to (5 * r' + k) = un r' k) ∧ ∀ x, x ≠ to → N1 x = N x) 0 rfl (by omega) ⟨fun r' k hr => by omega, fun _ _ => rfl⟩ ?_
  rintro r N1 hr ⟨g1, g2⟩
  unfold X8_wholeSpan_L2
  refine w_MI hM ?_
  rw [en N1 g2]
  refine w_le ⟨by omega, by omega⟩ ⟨by omega, by omega⟩ (fun hc => ?_) (fun hc => ?_)
  · unfold X8_wholeSpan_b49
    refine w_jinl ?_
    refine w_MI hM ?_
    rw [en N1 g2]
    exact w_jp (h N1 (fun r' k h1 h2 => g1 r' k (by omega) h2) g2)
  rw [z_0]
  refine w_up n (fun k N2 => (∀ r' k', r' < n → k' < n → r' < r ∨ r' = r ∧ k' < k → N2 to (5 * r' + k') = un r' k') ∧ ∀ x, x ≠ to → N2 x = N x) 0 rfl (by omega) ⟨fun r' k _ h2 h3 => g1 r' k (by omega) h2, g2⟩ ?_
  rintro k N2 hk ⟨k1, k2⟩
  unfold X8_wholeSpan_L12
  refine w_MI hM ?_
  rw [en N2 k2]
  refine w_le ⟨by omega, by omega⟩ ⟨by omega, by omega⟩ (fun hd => ?_) (fun hd => ?_)
  · unfold X8_wholeSpan_b43
    rw [z_1, zI_add]
    exact w_jinl (w_jcont ⟨by omega, rfl, fun r' k' h1 h2 => k1 r' k' (by omega) h2 (by omega), k2⟩)
  have hput : ∀ x : Int, x = un r k → GN M N2 (X8_wholeSpan_b36 m to (zI r) (zI k) to (5 * zI r + zI k) (zI x)) (LQ (LQ (fun v M1 N1 => GN M1 N1 (f v) Q) (KF M (fun t N1 => r < n ∧ t = zI ((r : Int) + 1) ∧ (∀ r' k, r' < r + 1 → k < n → N1 to (5 * r' + k) = un r' k) ∧ ∀ x, x ≠ to → N1 x = N x)))
      (KF M (fun t N2 => k < n ∧ t = zI ((k : Int) + 1) ∧ (∀ r' k', r' < n → k' < n → r' < r ∨ r' = r ∧ k' < k + 1 → N2 to (5 * r' + k') = un r' k') ∧ ∀ x, x ≠ to → N2 x = N x))) := by
    intro x hx
    unfold X8_wholeSpan_b36
    rw [z_5, zI_mul, zI_add]
    refine w_ast ht (by omega) (by omega) ?_
    rw [show (5 * (r : Int) + (k : Int)).toNat = 5 * r + k by omega, z_1, zI_add]
    refine w_jcont ⟨by omega, rfl, fun r' k' h1 h2 h3 => ?_, fun y hy => ?_⟩
    · show (if to = to ∧ 5 * r' + k' = 5 * r + k then x else N2 to (5 * r' + k')) = _
      by_cases e : r' = r ∧ k' = k
      · rw [if_pos ⟨rfl, by omega⟩, hx, e.1, e.2]
      · rw [if_neg (by omega)]
        exact k1 r' k' h1 h2 (by omega)
    · funext z
      show (if y = to ∧ _ then _ else N2 y z) = _
      rw [if_neg (fun e => hy e.1), k2 y hy]
  refine w_eq ⟨by omega, by omega⟩ ⟨by omega, by omega⟩ (fun he => ?_) (fun he => ?_)
  · rw [z_1]; exact hput 1 (by rw [un, if_pos (by omega)])
  · rw [z_0]; exact hput 0 (by rw [un, if_neg (by omega)])
theorem SpM.al (hp : Pr p) (h : ∀ r k, r < n → k < n → N a (5 * r + k) = un r k) : SpM N a p n n (fun r k => if k < n then un r k else 0) (fun r => r) Al := by
  have := hp.pos
  refine ⟨fun r k hr hk => by rw [h r k hr hk]; exact (if_pos hk).symm, fun r k => ?_, fun r s h1 _ => h1, (Al.ech hp).q (fun r hr => Vq.of (fun k hk => if_pos hk)) (fun r _ => rfl)⟩
  show 0 ≤ (if k < n then (if k = r then (1 : Int) else 0) else 0) ∧ (if k < n then (if k = r then (1 : Int) else 0) else 0) < p ∧ (n ≤ k → (if k < n then (if k = r then (1 : Int) else 0) else 0) = 0)
  refine ⟨?_, ?_, fun hk => if_neg (by omega)⟩
  · split
    · split <;> omega
    · omega
  · split
    · split <;> omega
    · omega
/-- equations, kept in echelon -/
def EqM (N : NM) (m : Nat) (p : Int) (wd q : Nat) (R : Nat → Nat → Int) (ld : Nat → Nat) (S : VS) : Prop :=
  N m 39 = q ∧ (∀ r k, r < q → k < wd → N (m + 18) (30 * r + k) = R r k) ∧ (∀ r k, 0 ≤ R r k ∧ R r k < p ∧ (wd ≤ k → R r k = 0)) ∧ Ech p wd q R ld S
theorem EqM.qw {wd : Nat} (h : EqM N m p wd q R ld S) (hp : Pr p) : q ≤ wd := by
  rw [← h.2.2.2.dm hp]; exact dm_le
theorem EqM.nil {wd : Nat} (hp : Pr p) (h : N m 39 = 0) : EqM N m p wd 0 (fun _ _ => 0) (fun _ => 0) (Zs p wd) :=
  ⟨h, fun r k hr => by omega, fun _ _ => ⟨Int.le_refl 0, by have := hp.pos; show (0 : Int) < p; omega, fun _ => rfl⟩, Ech.nil⟩
theorem w_leadOfRow {o wd : Nat} {f : Int32 → JM Mem τ} {Q : τ → Mem → NM → Prop} (hM : ML M m) (hK : mK M a = some (.inr (0, L))) (hL : o + wd ≤ L ∧ L ≤ 2000) (hX : ∀ k, k < wd → N a (o + k) = X k) (hb : ∀ k, 0 ≤ X k ∧ X k < 100)
    (h1 : ∀ l, l < wd → X l ≠ 0 → (∀ k, k < l → X k = 0) → GN M N (f (zI l)) Q) (h2 : (∀ k, k < wd → X k = 0) → GN M N (f (zI (-1))) Q) : GN M N (jb (jcall 7 m (f_X8_leadOfRow m a (zI o) (zI wd))) f) Q := by
  refine w_Mc hM ?_
  unfold f_X8_leadOfRow
  rw [z_0]
  refine w_up wd (fun k N1 => N1 = N ∧ ∀ j, j < k → X j = 0) 0 rfl (by omega) ⟨rfl, fun j hj => by omega⟩ ?_
  rintro k N1 hk ⟨rfl, hz⟩
  unfold X8_leadOfRow_L3
  refine w_le ⟨by omega, by omega⟩ ⟨by omega, by omega⟩ (fun hc => ?_) (fun hc => ?_)
  · rw [z_m1]
    exact w_jinl (w_jp (h2 (fun k hk => hz k (by omega))))
  rw [zI_add]
  refine w_ald hK (by omega) (by omega) ?_
  have hXk := hb k
  rw [show ((o : Int) + (k : Int)).toNat = o + k by omega, hX k (by omega), z_0]
  refine w_eq ⟨by omega, by omega⟩ ⟨by omega, by omega⟩ (fun he => ?_) (fun he => ?_)
  · rw [z_1, zI_add]
    refine w_jcont ⟨by omega, rfl, rfl, fun j hj => ?_⟩
    by_cases e : j = k
    · rw [e]; exact he
    · exact hz j (by omega)
  · exact w_jinl (w_jp (h1 k (by omega) he hz))
theorem w_addEq {wd : Nat} {f : Unit → JM Mem τ} {Q : τ → Mem → NM → Prop} (hM : ML M m) (hA : MA M N m W B p n T) (hwd : wd ≤ 25) (hs : EqM N m p wd q R ld S) (hX : ∀ k, k < wd → N (m + 19) k = X k) (hXb : ∀ k, 0 ≤ X k ∧ X k < p ∧ (wd ≤ k → X k = 0))
    (h : ∀ N' q' R' ld', EqM N' m p wd q' R' ld' (Ad S X) → (∀ x, x ≠ m → x ≠ m + 18 → x ≠ m + 19 → N' x = N x) → (∀ k, k ≠ 39 → N' m k = N m k) → GN M N' (f ()) Q) :
    GN M N (jb (jcall 7 m (f_X8_addEquation m (zI wd))) f) Q := by
  have hpb := hA.pb
  have hp := hA.pr
  have hqw := hs.qw hp
  have hWe := hA.We
  have hE := hs.2.2.2
  have hRb := hs.2.2.1
  refine w_Mc hM ?_
  unfold f_X8_addEquation
  have k18 := hM.ka (o := 18) (d := (0, 1800)) rfl
  have k19 := hM.ka (o := 19) (d := (0, 30)) rfl
  have hlead : ∀ r, r < q → R r (ld r) = 1 ∧ ∀ k, k < ld r → R r k = 0 := fun r hr => ech_lead hp hE hRb hr
  rw [z_0]
  refine w_up q (fun r N1 => ∃ Y : Nat → Int, (∀ k, k < wd → N1 (m + 19) k = Y k) ∧ (∀ k, 0 ≤ Y k ∧ Y k < p ∧ (wd ≤ k → Y k = 0)) ∧ S (fun k => X k - Y k) ∧ (∀ s, s < r → Y (ld s) = 0) ∧ ∀ x, x ≠ m + 19 → N1 x = N x) 0 rfl (by omega)
    ⟨X, hX, hXb, hE.sb.e hE.sb.z (fun k _ => by omega), fun s hs => by omega, fun _ _ => rfl⟩ ?_
  rintro r N1 hr ⟨Y, hYm, hY, hSY, hYz, hfr⟩
  have frA : ∀ N1 : NM, (∀ x, x ≠ m + 19 → N1 x = N x) → MA M N1 m W B p n T := fun N1 g => hA.fr (g m (by omega)) (g W (by omega))
  unfold X8_addEquation_L2
  refine w_MI hM ?_
  rw [hfr m (by omega), hs.1]
  refine w_le ⟨by omega, by omega⟩ ⟨by omega, by omega⟩ (fun hc => ?_) (fun hc => ?_)
  rotate_left
  · have hrq : r < q := by omega
    have hlr := hE.ldn hrq
    refine w_Mf hM rfl ?_
    refine w_Mf hM rfl ?_
    rw [show (30 : Int32) = zI 30 from rfl, zI_mul, show (30 * (r : Int)) = ((30 * r : Nat) : Int) by omega]
    refine w_leadOfRow (X := R r) hM k18 (by omega) (fun k hk => by rw [hfr _ (by omega)]; exact hs.2.1 r k hrq hk) (fun k => by have := hRb r k; omega) (fun l hl h1 h2 => ?_) (fun h2 => ?_)
    rotate_left
    · have := h2 (ld r) hlr
      have := (hlead r hrq).1
      omega
    have el : l = ld r := by
      rcases Nat.lt_trichotomy l (ld r) with c | c | c
      · exact absurd ((hlead r hrq).2 l c) h1
      · exact c
      · have := h2 (ld r) c
        have := (hlead r hrq).1
        omega
    subst el
    refine w_ald k19 (by omega) (by omega) ?_
    rw [show ((ld r : Int).toNat) = ld r from rfl, hYm _ hlr]
    have hby := hY (ld r)
    rw [z_0]
    refine w_up wd (fun i N2 => (∀ k, k < wd → N2 (m + 19) k = if k < i then (Y k - Y (ld r) * R r k) % p else Y k) ∧ ∀ x, x ≠ m + 19 → N2 x = N x) 0 rfl (by omega) ⟨fun k hk => by rw [if_neg (by omega)]; exact hYm k hk, hfr⟩ ?_
    rintro i N2 hi ⟨k1, k2⟩
    unfold X8_addEquation_L32
    rw [z_0]
    refine w_leeq ⟨by omega, by omega⟩ ⟨by omega, by omega⟩ ⟨by omega, by omega⟩ ⟨by omega, by omega⟩ (fun hd => ?_) (fun hd he => ?_)
    · unfold X8_addEquation_b84
      rw [z_1, zI_add]
      have hnew : ∀ k, k < wd → N2 (m + 19) k = (fun k => if k < wd then (Y k - Y (ld r) * R r k) % p else 0) k := fun k hk => by
        rw [k1 k hk]
        show _ = if k < wd then _ else _
        rw [if_pos hk]
        rcases hd with ⟨_, e0⟩ | e0
        · rw [e0, Int.zero_mul, Int.sub_zero, Int.emod_eq_of_lt (hY k).1 (hY k).2.1]
          split <;> rfl
        · rw [if_pos (by omega)]
      obtain ⟨q1, q2, q3⟩ := sub_row (Y' := fun k => if k < wd then (Y k - Y (ld r) * R r k) % p else 0) hp hE hrq hSY hY hYz (fun k hk => if_pos hk) (fun k hk => if_neg (by omega))
      exact w_jinl (w_jcont ⟨hrq, rfl, _, hnew, q1, q2, q3, k2⟩)
    refine w_Mf hM rfl ?_
    refine w_Mf hM rfl ?_
    refine w_ald k19 (by omega) (by omega) ?_
    rw [show ((i : Int).toNat) = i from rfl, k1 i (by omega), if_neg (Nat.lt_irrefl i)]
    refine w_Mf hM rfl ?_
    rw [show (30 : Int32) = zI 30 from rfl, zI_mul, zI_add]
    refine w_ald k18 (by omega) (by omega) ?_
    rw [show (30 * (r : Int) + (i : Int)).toNat = 30 * r + i by omega, k2 _ (by omega), hs.2.1 r i hrq (by omega)]
    refine w_MI hM ?_
    rw [(frA N2 k2).pe, zI_mul, zI_sub]
    have hYi := hY i
    have hRi := hRb r i
    have hmb := mul_bd (x := Y (ld r)) (y := R r i) (a := 7) (b := 7) (by omega) (by omega)
    refine w_left (by omega) (by omega) ?_
    refine w_ast k19 (by omega) (by omega) ?_
    rw [show ((i : Int).toNat) = i from rfl, z_1, zI_add]
    refine w_jcont ⟨by omega, rfl, fun k hk => ?_, fun x hx => ?_⟩
    · show (if m + 19 = m + 19 ∧ k = i then _ else N2 (m + 19) k) = _
      by_cases e : k = i
      · rw [if_pos ⟨rfl, e⟩, if_pos (by omega), e]
      · rw [if_neg (fun x => e x.2), k1 k hk]
        by_cases e2 : k < i
        · rw [if_pos e2, if_pos (by omega)]
        · rw [if_neg e2, if_neg (by omega)]
    · funext k
      show (if x = m + 19 ∧ _ then _ else N2 x k) = _
      rw [if_neg (fun e => hx e.1), k2 x hx]
  have hrq : r = q := by omega
  subst hrq
  refine w_jinl ?_
  unfold X8_addEquation_b90
  have hin := red_in hE hSY hYz (fun k => ⟨(hY k).1, (hY k).2.1⟩)
  refine w_Mf hM rfl ?_
  rw [z_0]
  refine w_leadOfRow (o := 0) (X := Y) hM k19 (by omega) (fun k hk => by rw [Nat.zero_add]; exact hYm k hk) (fun k => by have := hY k; omega) (fun l hln he hz => ?_) (fun h2 => ?_)
  rotate_left
  · refine w_le ⟨by omega, by omega⟩ ⟨by omega, by omega⟩ (fun hc => by omega) (fun hc => ?_)
    have hx : S X := hin.mpr h2
    refine w_jp (h N1 r R ld ?_ (fun x h1 h2 h3 => hfr x h3) (fun k _ => by rw [hfr m (by omega)]))
    rw [Ad.same hE.sb hx]
    exact ⟨by rw [hfr m (by omega)]; exact hs.1, fun s k hs2 hk => by rw [hfr _ (by omega)]; exact hs.2.1 s k hs2 hk, hRb, hE⟩
  refine w_le ⟨by omega, by omega⟩ ⟨by omega, by omega⟩ (fun hc => ?_) (fun hc => by omega)
  refine w_Mf hM rfl ?_
  refine w_ald k19 (by omega) (by omega) ?_
  have hYl := hY l
  rw [show ((l : Int).toNat) = l from rfl, hYm l hln]
  refine w_minverse hM (frA N1 hfr) (by omega) (fun x ha' => ?_)
  have hab := ha'.1
  have hab2 := ha'.2.1
  have hlv : Ldv p wd Y l := ⟨hln, fun e => he (e.eq ⟨(hY l).1, (hY l).2.1⟩ ⟨Int.le_refl 0, by omega⟩), fun j hj => Cg.of (hz j hj)⟩
  generalize hU : (fun j => if j < wd then Y j * x % p else 0) = U
  have hU1 : ∀ j, j < wd → U j = Y j * x % p := fun j hj => by rw [← hU]; exact if_pos hj
  have hU2 : ∀ j, wd ≤ j → U j = 0 := fun j hj => by rw [← hU]; exact if_neg (by omega)
  have hUb : ∀ j, 0 ≤ U j ∧ U j < p := fun j => by
    by_cases hj : j < wd
    · rw [hU1 j hj]; exact ⟨Int.emod_nonneg _ (by omega), Int.emod_lt_of_pos _ (by omega)⟩
    · rw [hU2 j (by omega)]; exact ⟨by omega, by omega⟩
  generalize hR1 : (fun (q j : Nat) => if j < wd then (R q j - R q l * U j) % p else 0) = R1
  have hR1a : ∀ q j, j < wd → R1 q j = (R q j - R q l * U j) % p := fun q j hj => by rw [← hR1]; exact if_pos hj
  have hR1d : ∀ q j, 0 ≤ R1 q j ∧ R1 q j < p ∧ (wd ≤ j → R1 q j = 0) := fun q j => by
    by_cases hj : j < wd
    · rw [hR1a q j hj]; exact ⟨Int.emod_nonneg _ (by omega), Int.emod_lt_of_pos _ (by omega), fun h => by omega⟩
    · have : R1 q j = 0 := by rw [← hR1]; exact if_neg hj
      rw [this]; exact ⟨by omega, by omega, fun _ => rfl⟩
  have hJ := hE.join hp (v := X) (w := Y) (u := U) (R' := R1) (a := x) hSY (fun r hr => Cg.of (hYz r hr)) hlv ha'.2.2 (fun j hj => by rw [hU1 j hj, Int.mul_comm]; exact Cg.mod p _) (fun r hr j hj => by rw [hR1a r j hj]; exact Cg.mod p _)
  have hq4 : r + 1 ≤ wd := by
    have := hJ.dm hp
    have := dm_le (p := p) (n := wd) (S := Ad S X)
    omega
  -- the new row
  refine w_up wd (fun i N2 => (∀ k, N2 (m + 18) k = if 30 * r ≤ k ∧ k < 30 * r + i then U (k - 30 * r) else N (m + 18) k) ∧ ∀ x, x ≠ m + 18 → N2 x = N1 x) 0 rfl (by omega) ⟨fun k => by rw [if_neg (by omega), hfr _ (by omega)], fun _ _ => rfl⟩ ?_
  rintro i N2 hi ⟨k1, k2⟩
  have frA2 : ∀ N2 : NM, (∀ x, x ≠ m + 18 → N2 x = N1 x) → MA M N2 m W B p n T := fun N2 g => (frA N1 hfr).fr (g m (by omega)) (g W (by omega))
  have e39 : ∀ N2 : NM, (∀ x, x ≠ m + 18 → N2 x = N1 x) → N2 m 39 = r := fun N2 g => by rw [g m (by omega), hfr m (by omega)]; exact hs.1
  unfold X8_addEquation_L120
  refine w_le ⟨by omega, by omega⟩ ⟨by omega, by omega⟩ (fun hd => ?_) (fun hd => ?_)
  rotate_left
  · refine w_Mf hM rfl ?_
    refine w_MI hM ?_
    rw [e39 N2 k2]
    refine w_Mf hM rfl ?_
    refine w_ald k19 (by omega) (by omega) ?_
    rw [show ((i : Int).toNat) = i from rfl, k2 _ (by omega), hYm i (by omega)]
    refine w_MI hM ?_
    rw [(frA2 N2 k2).pe, zI_mul]
    have hYi := hY i
    have hmb := mul_bd (x := Y i) (y := x) (a := 7) (b := 7) (by omega) (by omega)
    refine w_remP ⟨hmb.1, by omega, by omega⟩ ⟨by omega, by omega, by omega⟩ ?_
    rw [show (30 : Int32) = zI 30 from rfl, zI_mul, zI_add]
    refine w_ast k18 (by omega) (by omega) ?_
    rw [show (30 * (r : Int) + (i : Int)).toNat = 30 * r + i by omega, z_1, zI_add]
    refine w_jcont ⟨by omega, rfl, fun k => ?_, fun x hx => ?_⟩
    · show (if m + 18 = m + 18 ∧ k = 30 * r + i then _ else N2 (m + 18) k) = _
      by_cases e : k = 30 * r + i
      · rw [if_pos ⟨rfl, e⟩, if_pos (by omega), e, show 30 * r + i - 30 * r = i by omega, hU1 i (by omega)]
      · rw [if_neg (fun x => e x.2), k1 k]
        by_cases e2 : 30 * r ≤ k ∧ k < 30 * r + i
        · rw [if_pos e2, if_pos (by omega)]
        · rw [if_neg e2, if_neg (by omega)]
    · funext k
      show (if x = m + 18 ∧ _ then _ else N2 x k) = _
      rw [if_neg (fun e => hx e.1), k2 x hx]
  have hiw : i = wd := by omega
  subst hiw
  refine w_jinl ?_
  unfold X8_addEquation_b161
  rw [z_0]
  have kU : ∀ j, j < i → N2 (m + 18) (30 * r + j) = U j := fun j hj => by rw [k1, if_pos (by omega), show 30 * r + j - 30 * r = j by omega]
  have kR : ∀ s j, s < r → j < i → N2 (m + 18) (30 * s + j) = R s j := fun s j hs2 hj => by rw [k1, if_neg (by omega)]; exact hs.2.1 s j hs2 hj
  refine w_up r (fun s N3 => (∀ j, j < i → N3 (m + 18) (30 * r + j) = U j) ∧ (∀ s' j, s' < r → j < i → N3 (m + 18) (30 * s' + j) = if s' < s then R1 s' j else R s' j) ∧ ∀ x, x ≠ m + 18 → N3 x = N1 x) 0 rfl (by omega) ⟨kU, fun s' j h1 h2 => by rw [if_neg (by omega)]; exact kR s' j h1 h2, k2⟩ ?_
  rintro s N3 hsr ⟨l1, l2, l3⟩
  unfold X8_addEquation_L164
  refine w_MI hM ?_
  rw [e39 N3 l3]
  refine w_le ⟨by omega, by omega⟩ ⟨by omega, by omega⟩ (fun he2 => ?_) (fun he2 => ?_)
  · unfold X8_addEquation_b265
    refine w_jinl ?_
    refine w_MI hM ?_
    rw [e39 N3 l3, z_1, zI_add]
    refine w_Mput hM ?_
    refine w_jp (h _ (r + 1) _ _ ⟨?_, fun s' j h1 h2 => ?_, fun s' j => ?_, hJ⟩ (fun x h1 h2 h3 => ?_) (fun k hk => ?_))
    · show (if m = m ∧ 39 = 39 then (r : Int) + 1 else _) = _
      rw [if_pos ⟨rfl, rfl⟩]; rfl
    · show (if m + 18 = m ∧ _ then _ else N3 (m + 18) (30 * s' + j)) = (if s' < r then R1 s' else U) j
      rw [if_neg (by omega)]
      by_cases e : s' < r
      · rw [if_pos e, l2 s' j e h2, if_pos (by omega)]
      · rw [if_neg e, show s' = r by omega]; exact l1 j h2
    · show 0 ≤ (if s' < r then R1 s' else U) j ∧ (if s' < r then R1 s' else U) j < p ∧ (i ≤ j → (if s' < r then R1 s' else U) j = 0)
      split
      · exact hR1d s' j
      · exact ⟨(hUb j).1, (hUb j).2, hU2 j⟩
    · funext k
      show (if x = m ∧ _ then _ else N3 x k) = _
      rw [if_neg (fun e => h1 e.1), l3 x h2, hfr x h3]
    · show (if m = m ∧ k = 39 then _ else N3 m k) = _
      rw [if_neg (fun e => hk e.2), l3 m (by omega), hfr m (by omega)]
  have hsr' : s < r := by omega
  refine w_Mf hM rfl ?_
  rw [show (30 : Int32) = zI 30 from rfl, zI_mul, zI_add]
  refine w_ald k18 (by omega) (by omega) ?_
  rw [show (30 * (s : Int) + (l : Int)).toNat = 30 * s + l by omega, l2 s l hsr' hln, if_neg (Nat.lt_irrefl s), z_0]
  have hRsl := hRb s l
  refine w_up i (fun j N4 => (∀ j, j < i → N4 (m + 18) (30 * r + j) = U j) ∧ (∀ s' j', s' < r → j' < i → N4 (m + 18) (30 * s' + j') = if s' < s ∨ s' = s ∧ j' < j then R1 s' j' else R s' j') ∧ ∀ x, x ≠ m + 18 → N4 x = N1 x) 0 rfl (by omega)
    ⟨l1, fun s' j' h1 h2 => by rw [l2 s' j' h1 h2]; by_cases c : s' < s; rw [if_pos c, if_pos (Or.inl c)]; rw [if_neg c, if_neg (by omega)], l3⟩ ?_
  rintro j N4 hj ⟨o1, o2, o3⟩
  unfold X8_addEquation_L190
  rw [z_0]
  refine w_leeq ⟨by omega, by omega⟩ ⟨by omega, by omega⟩ ⟨by omega, by omega⟩ ⟨by omega, by omega⟩ (fun hf => ?_) (fun hf hg => ?_)
  · unfold X8_addEquation_b259
    rw [z_1, zI_add]
    refine w_jinl (w_jcont ⟨hsr', rfl, o1, fun s' j' h1 h2 => ?_, o3⟩)
    rw [o2 s' j' h1 h2]
    by_cases c : s' < s
    · rw [if_pos (Or.inl c), if_pos (by omega)]
    · by_cases c2 : s' = s
      · rw [if_pos (show s' < s + 1 by omega)]
        rcases hf with ⟨_, e0⟩ | e0
        · split
          · rfl
          · rw [c2, hR1a s j' h2, e0, Int.zero_mul, Int.sub_zero, Int.emod_eq_of_lt (hRb s j').1 (hRb s j').2.1]
        · rw [if_pos (by omega)]
      · rw [if_neg (by omega), if_neg (by omega)]
  refine w_Mf hM rfl ?_
  refine w_Mf hM rfl ?_
  rw [show (30 : Int32) = zI 30 from rfl, zI_mul, zI_add]
  refine w_ald k18 (by omega) (by omega) ?_
  rw [show (30 * (s : Int) + (j : Int)).toNat = 30 * s + j by omega, o2 s j hsr' (by omega), if_neg (show ¬ (s < s ∨ s = s ∧ j < j) by omega)]
  refine w_Mf hM rfl ?_
  refine w_MI hM ?_
  rw [e39 N4 o3, zI_mul, zI_add]
  refine w_ald k18 (by omega) (by omega) ?_
  rw [show (30 * (r : Int) + (j : Int)).toNat = 30 * r + j by omega, o1 j (by omega)]
  refine w_MI hM ?_
  rw [(frA2 N4 o3).pe, zI_mul, zI_sub]
  have hRsj := hRb s j
  have hUj := hUb j
  have hmb := mul_bd (x := R s l) (y := U j) (a := 7) (b := 7) (by omega) (by omega)
  refine w_left (by omega) (by omega) ?_
  refine w_ast k18 (by omega) (by omega) ?_
  rw [z_1, zI_add]
  refine w_jcont ⟨by omega, rfl, fun k hk => ?_, fun s' j' h1 h2 => ?_, fun x hx => ?_⟩
  · show (if m + 18 = m + 18 ∧ 30 * r + k = (30 * (s : Int) + (j : Int)).toNat then _ else N4 (m + 18) (30 * r + k)) = _
    rw [if_neg (by omega)]; exact o1 k hk
  · show (if m + 18 = m + 18 ∧ 30 * s' + j' = (30 * (s : Int) + (j : Int)).toNat then _ else N4 (m + 18) (30 * s' + j')) = _
    by_cases c : s' = s ∧ j' = j
    · rw [if_pos (by omega), if_pos (by omega), c.1, c.2, hR1a s j (by omega)]
    · rw [if_neg (by omega), o2 s' j' h1 h2]
      by_cases c2 : s' < s ∨ s' = s ∧ j' < j
      · rw [if_pos c2, if_pos (by omega)]
      · rw [if_neg c2, if_neg (by omega)]
  · funext k
    show (if x = m + 18 ∧ _ then _ else N4 x k) = _
    rw [if_neg (fun e => hx e.1), o3 x hx]
end MOD2
