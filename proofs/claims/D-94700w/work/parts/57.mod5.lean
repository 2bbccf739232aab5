/-! THE MODEL: spans by codes, counts, what a world is. -/
set_option maxRecDepth 100000
section MOD5
variable {α τ : Type} {M : Mem} {N N' : NM} {m a b to W B L : Nat} {p : Int} {n q qa qb : Nat} {T : Nat → Nat → Nat → Int} {R Ra Rb : Nat → Nat → Int} {ld la lb : Nat → Nat} {S A B' : VS} {X Y : Nat → Int}
/-- where rows lead, and which numbers are free -/
def LdI (N : NM) (m n set : Nat) : Prop := N m 59 = bcn set n ∧ N m 60 = nfr set n ∧ (∀ r, r < bcn set n → N (m + 26) r = ldn set n r) ∧ ∀ r j, r < bcn set n → j < n → Fr set (ldn set n r) j → N (m + 27) (pos set n r j) = r ∧ N (m + 28) (pos set n r j) = j
theorem LdI.fr {set : Nat} (h : LdI N m n set) (h1 : N' m 59 = N m 59) (h2 : N' m 60 = N m 60) (h3 : N' (m + 26) = N (m + 26)) (h4 : N' (m + 27) = N (m + 27)) (h5 : N' (m + 28) = N (m + 28)) : LdI N' m n set := by
  unfold LdI at h ⊢
  rw [h1, h2, h3, h4, h5]
  exact h
theorem w_lead {f : Unit → JM Mem τ} {Q : τ → Mem → NM → Prop} {set : Nat} (hM : ML M m) (hA : MA M N m W B p n T) (hset : set < 2 ^ n)
    (h : ∀ N', LdI N' m n set → (∀ x, x ≠ m → x ≠ m + 26 → x ≠ m + 27 → x ≠ m + 28 → N' x = N x) → (∀ k, k ≠ 59 → k ≠ 60 → N' m k = N m k) → GN M N' (f ()) Q) : GN M N (jb (jcall 7 m (f_X8_lead m (zI set))) f) Q := by
  have hpb := hA.pb
  have hn5 := hA.n5
  have hWe := hA.We
  have hs32 : set < 32 := by
    have := (two_pow hn5).1
    omega
  have k26 := hM.ka (o := 26) (d := (0, 5)) rfl
  have k27 := hM.ka (o := 27) (d := (0, 25)) rfl
  have k28 := hM.ka (o := 28) (d := (0, 25)) rfl
  have hnf6 := nfr_le n hn5 set hs32
  have hmb := bcn_le set n
  have frA : ∀ N1 : NM, (∀ x, x ≠ m → x ≠ m + 26 → x ≠ m + 27 → x ≠ m + 28 → N1 x = N x) → (∀ k, k ≠ 59 → k ≠ 60 → N1 m k = N m k) → MA M N1 m W B p n T := fun N1 g g2 => hA.fr2 (fun k h1 h2 => g2 k (by omega) (by omega)) (g W (by omega) (by omega) (by omega) (by omega))
  refine w_Mc hM ?_
  unfold f_X8_lead
  rw [z_0]
  refine w_Mput hM (w_Mput hM ?_)
  refine w_up n (fun k N1 => N1 m 59 = bcn set k ∧ N1 m 60 = 0 ∧ (∀ r, r < bcn set k → N1 (m + 26) r = ldn set n r) ∧ (∀ x, x ≠ m → x ≠ m + 26 → x ≠ m + 27 → x ≠ m + 28 → N1 x = N x) ∧ ∀ k, k ≠ 59 → k ≠ 60 → N1 m k = N m k) 0 rfl (by omega)
    ⟨by simp [up2, bcn], by simp [up2], fun r hr => absurd hr (Nat.not_lt_zero _), fun x h1 _ _ _ => by funext k; show (if x = m ∧ k = 60 then _ else if x = m ∧ k = 59 then _ else N x k) = _; rw [if_neg (fun e => h1 e.1), if_neg (fun e => h1 e.1)], fun k h1 h2 => by show (if m = m ∧ k = 60 then _ else if m = m ∧ k = 59 then _ else N m k) = _; rw [if_neg (fun e => h2 e.2), if_neg (fun e => h1 e.2)]⟩ ?_
  rintro k N1 hk ⟨g1, g2, g3, g4, g5⟩
  unfold X8_lead_L12
  refine w_MI hM ?_
  rw [(frA N1 g4 g5).ne]
  refine w_le ⟨by omega, by omega⟩ ⟨by omega, by omega⟩ (fun hc => ?_) (fun hc => ?_)
  rotate_left
  · have hkn : k < n := by omega
    have hbk := bcn_le set k
    rw [bit_and set hs32 k (by omega), z_0]
    refine w_eq ⟨by omega, by omega⟩ ⟨by omega, by omega⟩ (fun hb => ?_) (fun hb => ?_)
    · unfold X8_lead_b51
      rw [z_1, zI_add]
      have e := bcn_f (set := set) (k := k) (fun x : set / 2 ^ k % 2 = 1 => by omega)
      exact w_jcont ⟨hkn, rfl, by rw [e]; exact g1, g2, by rw [e]; exact g3, g4, g5⟩
    have hbt : Bt set k := by
      show set / 2 ^ k % 2 = 1
      omega
    have e := bcn_t hbt
    have el := ldn_at hkn hbt
    refine w_Mf hM rfl ?_
    refine w_MI hM ?_
    rw [g1]
    refine w_ast k26 (by omega) (by omega) ?_
    refine w_MI hM ?_
    rw [show ((bcn set k : Int).toNat) = bcn set k from rfl, show up2 N1 (m + 26) (bcn set k) k m 59 = bcn set k by
      show (if m = m + 26 ∧ _ then _ else N1 m 59) = _
      rw [if_neg (by omega), g1]]
    rw [z_1, zI_add]
    refine w_Mput hM ?_
    unfold X8_lead_b51
    rw [z_1, zI_add]
    refine w_jcont ⟨hkn, rfl, ?_, ?_, fun r hr => ?_, fun x h1 h2 h3 h4 => ?_, fun j h1 h2 => ?_⟩
    · show (if m = m ∧ 59 = 59 then (bcn set k : Int) + 1 else _) = _
      rw [if_pos ⟨rfl, rfl⟩, e]; rfl
    · show (if m = m ∧ 60 = 59 then _ else if m = m + 26 ∧ _ then _ else N1 m 60) = 0
      rw [if_neg (by omega), if_neg (by omega), g2]
    · show (if m + 26 = m ∧ _ then _ else if m + 26 = m + 26 ∧ r = bcn set k then (k : Int) else N1 (m + 26) r) = _
      rw [if_neg (by omega)]
      by_cases c1 : r = bcn set k
      · rw [if_pos ⟨rfl, c1⟩, c1, el]
      · rw [if_neg (fun x => c1 x.2)]; exact g3 r (by omega)
    · funext j
      show (if x = m ∧ _ then _ else if x = m + 26 ∧ _ then _ else N1 x j) = _
      rw [if_neg (fun e => h1 e.1), if_neg (fun e => h2 e.1), g4 x h1 h2 h3 h4]
    · show (if m = m ∧ j = 59 then _ else if m = m + 26 ∧ _ then _ else N1 m j) = _
      rw [if_neg (fun e => h1 e.2), if_neg (by omega), g5 j h1 h2]
  have hkn : k = n := by omega
  subst hkn
  refine w_jinl ?_
  unfold X8_lead_b57
  rw [z_0]
  refine w_up (bcn set k) (fun r N2 => N2 m 59 = bcn set k ∧ N2 m 60 = (pon set k r : Nat) ∧ (∀ r, r < bcn set k → N2 (m + 26) r = ldn set k r) ∧ (∀ r' j, r' < r → j < k → Fr set (ldn set k r') j → N2 (m + 27) (pos set k r' j) = r' ∧ N2 (m + 28) (pos set k r' j) = j) ∧ (∀ x, x ≠ m → x ≠ m + 26 → x ≠ m + 27 → x ≠ m + 28 → N2 x = N x) ∧ ∀ k, k ≠ 59 → k ≠ 60 → N2 m k = N m k) 0 rfl (by omega)
    ⟨g1, by rw [g2]; rfl, g3, fun r' j hr => absurd hr (Nat.not_lt_zero _), g4, g5⟩ ?_
  rintro r N2 hr ⟨q1, q2, q3, q4, q5, q6⟩
  have hponr : pon set k r ≤ nfr set k := pon_mono hr
  unfold X8_lead_L59
  refine w_MI hM ?_
  rw [q1]
  refine w_le ⟨by omega, by omega⟩ ⟨by omega, by omega⟩ (fun hd => ?_) (fun hd => ?_)
  · have hrm : r = bcn set k := by omega
    subst hrm
    exact w_jinl (w_jp (h N2 ⟨q1, q2, q3, q4⟩ q5 q6))
  have hrm : r < bcn set k := by omega
  have hlo := ldn_ok hrm
  refine w_Mf hM rfl ?_
  refine w_ald k26 (by omega) (by omega) ?_
  rw [show ((r : Int).toNat) = r from rfl, q3 r hrm, z_1, zI_add]
  refine w_jlet ?_
  refine w_up k (fun j N3 => ldn set k r < j ∧ N3 m 59 = bcn set k ∧ N3 m 60 = (pos set k r j : Nat) ∧ (∀ r, r < bcn set k → N3 (m + 26) r = ldn set k r) ∧ (∀ r' j', r' < bcn set k → j' < k → Fr set (ldn set k r') j' → r' < r ∨ r' = r ∧ j' < j → N3 (m + 27) (pos set k r' j') = r' ∧ N3 (m + 28) (pos set k r' j') = j') ∧ (∀ x, x ≠ m → x ≠ m + 26 → x ≠ m + 27 → x ≠ m + 28 → N3 x = N x) ∧ ∀ k, k ≠ 59 → k ≠ 60 → N3 m k = N m k) (ldn set k r + 1) (by rfl) (by omega)
    ⟨by omega, q1, by rw [q2]; unfold pos; rw [pcn_0 (Nat.le_refl _)]; rfl, q3, fun r' j' h1 h2 h3 h4 => q4 r' j' (by
      rcases h4 with h4 | h4
      · exact h4
      · have h5 := h3.1
        rw [h4.1] at h5
        omega) h2 h3, q5, q6⟩ ?_
  rintro j N3 hj ⟨hlj, o1, o2, o3, o4, o5, o6⟩
  unfold X8_lead_L76
  refine w_MI hM ?_
  rw [(frA N3 o5 o6).ne]
  refine w_le ⟨by omega, by omega⟩ ⟨by omega, by omega⟩ (fun he => ?_) (fun he => ?_)
  · have hjk : j = k := by omega
    subst hjk
    unfold X8_lead_b132
    rw [z_1, zI_add]
    exact w_jinl (w_jcont ⟨hrm, rfl, o1, o2, o3, fun r' j' h1 h2 h3 => o4 r' j' (by omega) h2 h3 (by omega), o5, o6⟩)
  rw [bit_and set hs32 j (by omega), z_1]
  refine w_eq ⟨by omega, by omega⟩ ⟨by omega, by omega⟩ (fun hf => ?_) (fun hf => ?_)
  · unfold X8_lead_b126
    rw [z_1, zI_add]
    have e : pos set k r (j + 1) = pos set k r j := by
      unfold pos
      rw [pcn_f (fun q => q.2 (by show set / 2 ^ j % 2 = 1; omega))]
    exact w_jcont ⟨by omega, rfl, by omega, o1, by rw [e]; exact o2, o3, fun r' j' h1 h2 h3 h4 => o4 r' j' h1 h2 h3 (by
      by_cases c1 : r' = r ∧ j' = j
      · exfalso
        rw [c1.2] at h3
        exact h3.2 (by show set / 2 ^ j % 2 = 1; omega)
      · omega), o5, o6⟩
  have hfree : Fr set (ldn set k r) j := ⟨hlj, fun q => hf (by have q : set / 2 ^ j % 2 = 1 := q; omega)⟩
  have hplt : pos set k r j < nfr set k := Nat.lt_of_lt_of_le (pos_lt (by omega) hfree) (pon_mono (show r + 1 ≤ bcn set k by omega))
  have e : pos set k r (j + 1) = pos set k r j + 1 := by
    unfold pos
    rw [pcn_t hfree]; rfl
  refine w_Mf hM rfl ?_
  refine w_MI hM ?_
  rw [o2]
  refine w_ast k27 (by omega) (by omega) ?_
  refine w_Mf hM rfl ?_
  refine w_MI hM ?_
  have e60 : ∀ x, up2 N3 (m + 27) (pos set k r j) x m 60 = (pos set k r j : Nat) := fun x => by
    show (if m = m + 27 ∧ _ then _ else N3 m 60) = _
    rw [if_neg (by omega), o2]
  rw [show ((pos set k r j : Int).toNat) = pos set k r j from rfl, e60]
  refine w_ast k28 (by omega) (by omega) ?_
  refine w_MI hM ?_
  rw [show ((pos set k r j : Int).toNat) = pos set k r j from rfl]
  rw [show up2 (up2 N3 (m + 27) (pos set k r j) r) (m + 28) (pos set k r j) j m 60 = (pos set k r j : Nat) by
    show (if m = m + 28 ∧ _ then _ else up2 N3 (m + 27) _ _ m 60) = _
    rw [if_neg (by omega), e60]]
  rw [zI_add]
  refine w_Mput hM ?_
  unfold X8_lead_b126
  rw [z_1, zI_add]
  refine w_jcont ⟨by omega, rfl, by omega, ?_, ?_, fun r' h1 => ?_, fun r' j' h1 h2 h3 h4 => ?_, fun x h1 h2 h3 h4 => ?_, fun i h1 h2 => ?_⟩
  · show (if m = m ∧ 59 = 60 then _ else if m = m + 28 ∧ _ then _ else if m = m + 27 ∧ _ then _ else N3 m 59) = _
    rw [if_neg (by omega), if_neg (by omega), if_neg (by omega), o1]
  · show (if m = m ∧ 60 = 60 then (pos set k r j : Int) + 1 else _) = _
    rw [if_pos ⟨rfl, rfl⟩, e]; rfl
  · show (if m + 26 = m ∧ _ then _ else if m + 26 = m + 28 ∧ _ then _ else if m + 26 = m + 27 ∧ _ then _ else N3 (m + 26) r') = _
    rw [if_neg (by omega), if_neg (by omega), if_neg (by omega)]; exact o3 r' h1
  · show (if m + 27 = m ∧ _ then _ else if m + 27 = m + 28 ∧ _ then _ else if m + 27 = m + 27 ∧ pos set k r' j' = pos set k r j then (r : Int) else N3 (m + 27) (pos set k r' j')) = r' ∧ (if m + 28 = m ∧ _ then _ else if m + 28 = m + 28 ∧ pos set k r' j' = pos set k r j then (j : Int) else if m + 28 = m + 27 ∧ _ then _ else N3 (m + 28) (pos set k r' j')) = j'
    by_cases c1 : pos set k r' j' = pos set k r j
    · have := pos_inj h2 (by omega) h3 hfree c1
      refine ⟨?_, ?_⟩
      · rw [if_neg (by omega), if_neg (by omega), if_pos ⟨rfl, c1⟩, this.1]
      · rw [if_neg (by omega), if_pos ⟨rfl, c1⟩, this.2]
    · obtain ⟨u1, u2⟩ := o4 r' j' h1 h2 h3 (by
        by_cases c2 : r' = r ∧ j' = j
        · exfalso
          rw [c2.1, c2.2] at c1
          exact c1 rfl
        · omega)
      refine ⟨?_, ?_⟩
      · rw [if_neg (by omega), if_neg (by omega), if_neg (fun x => c1 x.2)]; exact u1
      · rw [if_neg (by omega), if_neg (fun x => c1 x.2), if_neg (by omega)]; exact u2
  · funext i
    show (if x = m ∧ _ then _ else if x = m + 28 ∧ _ then _ else if x = m + 27 ∧ _ then _ else N3 x i) = _
    rw [if_neg (fun e => h1 e.1), if_neg (fun e => h4 e.1), if_neg (fun e => h3 e.1), o5 x h1 h2 h3 h4]
  · show (if m = m ∧ i = 60 then _ else if m = m + 28 ∧ _ then _ else if m = m + 27 ∧ _ then _ else N3 m i) = _
    rw [if_neg (fun e => h2 e.2), if_neg (by omega), if_neg (by omega), o6 i h1 h2]
theorem w_spanBy {f : Unit → JM Mem τ} {Q : τ → Mem → NM → Prop} {set code : Nat} (hM : ML M m) (hA : MA M N m W B p n T) (hset : set < 2 ^ n) (hL : LdI N m n set) (hcode : code ≤ 1000000)
    (h : ∀ N', SpM N' (m + 11) p n (bcn set n) (RC p n set code) (ldn set n) (Rs p n (bcn set n) (RC p n set code)) → (∀ x, x ≠ m + 11 → N' x = N x) → GN M N' (f ()) Q) : GN M N (jb (jcall 7 m (f_X8_spanBy m (zI code))) f) Q := by
  have hpb := hA.pb
  have hn5 := hA.n5
  have hn1 := hA.n1
  have hp := hA.pr
  have hWe := hA.We
  have hs32 : set < 32 := by
    have := (two_pow hn5).1
    omega
  have k11 := hM.ka (o := 11) (d := (0, 25)) rfl
  have k26 := hM.ka (o := 26) (d := (0, 5)) rfl
  have k27 := hM.ka (o := 27) (d := (0, 25)) rfl
  have k28 := hM.ka (o := 28) (d := (0, 25)) rfl
  have hnf6 := nfr_le n hn5 set hs32
  have hmb := bcn_le set n
  have frA : ∀ N1 : NM, (∀ x, x ≠ m + 11 → N1 x = N x) → MA M N1 m W B p n T := fun N1 g => hA.fr (g m (by omega)) (g W (by omega))
  have frL : ∀ N1 : NM, (∀ x, x ≠ m + 11 → N1 x = N x) → LdI N1 m n set := fun N1 g => hL.fr (by rw [g m (by omega)]) (by rw [g m (by omega)]) (g _ (by omega)) (g _ (by omega)) (g _ (by omega))
  refine w_Mc hM ?_
  unfold f_X8_spanBy
  rw [z_0]
  refine w_up (bcn set n) (fun r N1 => (∀ r' k, r' < r → k < n → N1 (m + 11) (5 * r' + k) = un (ldn set n r') k) ∧ ∀ x, x ≠ m + 11 → N1 x = N x) 0 rfl (by omega) ⟨fun r' k hr => absurd hr (Nat.not_lt_zero _), fun _ _ => rfl⟩ ?_
  rintro r N1 hr ⟨g1, g2⟩
  unfold X8_spanBy_L2
  refine w_MI hM ?_
  rw [(frL N1 g2).1]
  refine w_le ⟨by omega, by omega⟩ ⟨by omega, by omega⟩ (fun hc => ?_) (fun hc => ?_)
  rotate_left
  · have hrm : r < bcn set n := by omega
    have hlo := ldn_ok hrm
    rw [z_0]
    refine w_up n (fun k N2 => (∀ r' k', r' < bcn set n → k' < n → r' < r ∨ r' = r ∧ k' < k → N2 (m + 11) (5 * r' + k') = un (ldn set n r') k') ∧ ∀ x, x ≠ m + 11 → N2 x = N x) 0 rfl (by omega) ⟨fun r' k' _ h2 h3 => g1 r' k' (by omega) h2, g2⟩ ?_
    rintro k N2 hk ⟨k1, k2⟩
    unfold X8_spanBy_L12
    refine w_MI hM ?_
    rw [(frA N2 k2).ne]
    refine w_le ⟨by omega, by omega⟩ ⟨by omega, by omega⟩ (fun hd => ?_) (fun hd => ?_)
    · unfold X8_spanBy_b51
      rw [z_1, zI_add]
      exact w_jinl (w_jcont ⟨hrm, rfl, fun r' k' h1 h2 => k1 r' k' (by omega) h2 (by omega), k2⟩)
    refine w_Mf hM rfl (w_Mf hM rfl ?_)
    refine w_ald k26 (by omega) (by omega) ?_
    rw [show ((r : Int).toNat) = r from rfl, (frL N2 k2).2.2.1 r hrm]
    have hput : ∀ x : Int, x = un (ldn set n r) k → GN M N2 (X8_spanBy_b44 m (zI code) (zI r) (zI k) (m + 11) (5 * zI r + zI k) (zI x)) (LQ (LQ (fun v M1 N1 => GN M1 N1 (f v) Q) (KF M (fun t N1 => r < bcn set n ∧ t = zI ((r : Int) + 1) ∧ (∀ r' k, r' < r + 1 → k < n → N1 (m + 11) (5 * r' + k) = un (ldn set n r') k) ∧ ∀ x, x ≠ m + 11 → N1 x = N x)))
        (KF M (fun t N2 => k < n ∧ t = zI ((k : Int) + 1) ∧ (∀ r' k', r' < bcn set n → k' < n → r' < r ∨ r' = r ∧ k' < k + 1 → N2 (m + 11) (5 * r' + k') = un (ldn set n r') k') ∧ ∀ x, x ≠ m + 11 → N2 x = N x))) := by
      intro x hx
      unfold X8_spanBy_b44
      rw [z_5, zI_mul, zI_add]
      refine w_ast k11 (by omega) (by omega) ?_
      rw [show (5 * (r : Int) + (k : Int)).toNat = 5 * r + k by omega, z_1, zI_add]
      refine w_jcont ⟨by omega, rfl, fun r' k' h1 h2 h3 => ?_, fun y hy => ?_⟩
      · show (if m + 11 = m + 11 ∧ 5 * r' + k' = 5 * r + k then x else N2 (m + 11) (5 * r' + k')) = _
        by_cases e : r' = r ∧ k' = k
        · rw [if_pos ⟨rfl, by omega⟩, hx, e.1, e.2]
        · rw [if_neg (by omega)]
          exact k1 r' k' h1 h2 (by omega)
      · funext z
        show (if y = m + 11 ∧ _ then _ else N2 y z) = _
        rw [if_neg (fun e => hy e.1), k2 y hy]
    refine w_eq ⟨by omega, by omega⟩ ⟨by omega, by omega⟩ (fun he => ?_) (fun he => ?_)
    · rw [z_1]; exact hput 1 (by rw [un, if_pos (by omega)])
    · rw [z_0]; exact hput 0 (by rw [un, if_neg (by omega)])
  unfold X8_spanBy_b57
  refine w_jinl ?_
  rw [z_0]
  refine w_up2 (nfr set n) (fun f9 x N2 => x = (code : Int) / p ^ f9 ∧ (∀ r j, r < bcn set n → j < n → (Fr set (ldn set n r) j ∧ pos set n r j < f9 → N2 (m + 11) (5 * r + j) = dg p code (pos set n r j)) ∧ (¬ (Fr set (ldn set n r) j ∧ pos set n r j < f9) → N2 (m + 11) (5 * r + j) = un (ldn set n r) j)) ∧ ∀ x, x ≠ m + 11 → N2 x = N x) 0 _ rfl (by omega)
    ⟨by rw [Int.pow_zero, Int.ediv_one], fun r' j h1 h2 => ⟨fun x => absurd x.2 (Nat.not_lt_zero _), fun _ => g1 r' j (by omega) h2⟩, g2⟩ ?_
  rintro f9 x N2 hf9 ⟨rfl, v1, v2⟩
  show GN M N2 (X8_spanBy_L61 m (zI _) (zI _)) _
  unfold X8_spanBy_L61
  refine w_MI hM ?_
  rw [(frL N2 v2).2.1]
  refine w_le ⟨by omega, by omega⟩ ⟨by omega, by omega⟩ (fun hh => ?_) (fun hh => ?_)
  · have hfn : f9 = nfr set n := by omega
    subst hfn
    refine w_jinl (w_jp (h N2 ⟨fun r' j h1 h2 => ?_, RC_bd hp hn1, fun r s h1 h2 => ldn_so h1 h2, RC_ech⟩ v2))
    by_cases c1 : Fr set (ldn set n r') j
    · rw [(v1 r' j h1 h2).1 ⟨c1, Nat.lt_of_lt_of_le (pos_lt h2 c1) (pon_mono (show r' + 1 ≤ bcn set n by omega))⟩, RC_fr h2 c1]
    · rw [(v1 r' j h1 h2).2 (fun x => c1 x.1)]
      unfold un
      by_cases c2 : j = ldn set n r'
      · rw [if_pos c2, c2, RC_ld]
      · rw [if_neg c2, RC_0 c2 (fun x => c1 x.2)]
  obtain ⟨r', j, hr9, hj9, hfr9, hpos9⟩ := pos_ex (show f9 < pon set n (bcn set n) by show f9 < nfr set n; omega)
  obtain ⟨e1, e2⟩ := (frL N2 v2).2.2.2 r' j hr9 hj9 hfr9
  rw [hpos9] at e1 e2
  have hpk : 0 < p ^ f9 := Int.pow_pos (by omega)
  have hq1 : 0 ≤ (code : Int) / p ^ f9 := Int.ediv_nonneg (by omega) (by omega)
  have hq2 : (code : Int) / p ^ f9 ≤ code := Int.ediv_le_self _ (by omega)
  refine w_Mf hM rfl (w_Mf hM rfl ?_)
  refine w_ald k27 (by omega) (by omega) ?_
  rw [show ((f9 : Int).toNat) = f9 from rfl, e1]
  refine w_Mf hM rfl ?_
  refine w_ald k28 (by omega) (by omega) ?_
  rw [show ((f9 : Int).toNat) = f9 from rfl, e2]
  refine w_MI hM ?_
  rw [(frA N2 v2).pe]
  refine w_remP ⟨hq1, by omega, by omega⟩ ⟨by omega, by omega, by omega⟩ ?_
  rw [z_5, zI_mul, zI_add]
  refine w_ast k11 (by omega) (by omega) ?_
  refine w_MI hM ?_
  rw [show up2 N2 (m + 11) ((5 * (r' : Int) + (j : Int)).toNat) ((code : Int) / p ^ f9 % p) m 26 = p by
    show (if m = m + 11 ∧ _ then _ else N2 m 26) = _
    rw [if_neg (by omega), (frA N2 v2).pe]]
  refine w_divP ⟨hq1, by omega, by omega⟩ ⟨by omega, by omega, by omega⟩ ?_
  rw [z_1, zI_add]
  refine w_jcont ⟨by omega, _, rfl, by rw [Int.ediv_ediv_of_nonneg (by omega), ← Int.pow_succ], fun r2 j2 h1 h2 => ?_, fun x hx => ?_⟩
  · have ev : up2 N2 (m + 11) ((5 * (r' : Int) + (j : Int)).toNat) ((code : Int) / p ^ f9 % p) (m + 11) (5 * r2 + j2) = (if 5 * r2 + j2 = 5 * r' + j then (code : Int) / p ^ f9 % p else N2 (m + 11) (5 * r2 + j2)) := by
      show (if m + 11 = m + 11 ∧ 5 * r2 + j2 = (5 * (r' : Int) + (j : Int)).toNat then _ else _) = _
      by_cases c : 5 * r2 + j2 = 5 * r' + j
      · rw [if_pos (by omega), if_pos c]
      · rw [if_neg (by omega), if_neg c]
    rw [ev]
    by_cases c1 : r2 = r' ∧ j2 = j
    · rw [if_pos (by omega), c1.1, c1.2]
      exact ⟨fun _ => by rw [hpos9]; rfl, fun x => absurd (And.intro hfr9 (show pos set n r' j < f9 + 1 by omega)) x⟩
    · rw [if_neg (by omega)]
      have c3 : Fr set (ldn set n r2) j2 → pos set n r2 j2 ≠ f9 := fun x y => c1 (pos_inj h2 hj9 x hfr9 (by omega))
      exact ⟨fun x => (v1 r2 j2 h1 h2).1 ⟨x.1, by have := c3 x.1; omega⟩, fun x => (v1 r2 j2 h1 h2).2 (fun y => x ⟨y.1, by omega⟩)⟩
  · funext k
    show (if x = m + 11 ∧ _ then _ else N2 x k) = _
    rw [if_neg (fun e => hx e.1), v2 x hx]
/-- what such walks write -/
def FrC (N : NM) (m : Nat) (N' : NM) : Prop := (∀ x, x < m + 9 ∨ m + 19 < x → x ≠ m → x ≠ m + 24 → x ≠ m + 26 → x ≠ m + 27 → x ≠ m + 28 → N' x = N x) ∧ ∀ k, k ≠ 39 → k ≠ 59 → k ≠ 60 → N' m k = N m k
theorem FrC.rf : FrC N m N := ⟨fun _ _ _ _ _ _ _ => rfl, fun _ _ _ _ => rfl⟩
theorem FrC.tr {N2 : NM} (h : FrC N m N') (h2 : FrC N' m N2) : FrC N m N2 := ⟨fun x a b c d e f => (h2.1 x a b c d e f).trans (h.1 x a b c d e f), fun k a b c => (h2.2 k a b c).trans (h.2 k a b c)⟩
theorem FrC.ma (h : FrC N m N') (hA : MA M N m W B p n T) : MA M N' m W B p n T := hA.fr2 (fun k h1 h2 => h.2 k (by omega) (by omega) (by omega)) (by have := hA.We; exact h.1 W (by omega) (by omega) (by omega) (by omega) (by omega) (by omega))
/-- the kind by the model's number -/
def wkd (what : Int) : Nat := if what = -1 then 6 else what.toNat
theorem w_countSpans {f : Int32 → JM Mem τ} {Q : τ → Mem → NM → Prop} {size : Nat} {what : Int} (hM : ML M m) (hA : MA M N m W B p n T) (hs : size ≤ 10) (hw : -1 ≤ what ∧ what ≤ 3)
    (h : ∀ N', FrC N m N' → GN M N' (f (zI (CSn p n T size (wkd what)))) Q) : GN M N (jb (jcall 7 m (f_X8_countSpans m (zI size) (zI what))) f) Q := by
  have hn5 := hA.n5
  have hp := hA.pr
  have h2 := two_pow hn5
  refine w_Mc hM ?_
  unfold f_X8_countSpans
  rw [z_0]
  refine w_up2 (2 ^ n) (fun set x N1 => x = sm set (fun set => if bcn set n = size then (CBn p n T (wkd what) set : Int) else 0) ∧ FrC N m N1) 0 0 rfl (by omega) ⟨rfl, FrC.rf⟩ ?_
  rintro set x N1 hset ⟨rfl, hfr⟩
  show GN M N1 (X8_countSpans_L5 m (zI _) (zI _) (zI _) (zI _)) _
  have hA1 := hfr.ma hA
  have hbs := CSp_bd (T := T) hp hn5 (size := size) (kind := wkd what) set (by omega)
  unfold X8_countSpans_L5
  refine w_MI hM ?_
  rw [hA1.ne, bit_shl n (by omega)]
  refine w_le ⟨by omega, by omega⟩ ⟨by omega, by omega⟩ (fun hc => ?_) (fun hc => ?_)
  · have : set = 2 ^ n := by omega
    subst this
    exact w_jinl (w_jp (h N1 hfr))
  refine w_lead hM hA1 (by omega) (fun N2 hL a1 a2 => ?_)
  have hfr2 : FrC N m N2 := hfr.tr ⟨fun x b1 b2 b3 b4 b5 b6 => a1 x b2 b4 b5 b6, fun k b1 b2 b3 => a2 k b2 b3⟩
  have hA2 := hfr2.ma hA
  refine w_MI hM ?_
  rw [hL.1]
  have hbn := bcn_le set n
  unfold X8_countSpans_b95
  refine w_eq ⟨by omega, by omega⟩ ⟨by omega, by omega⟩ (fun he => ?_) (fun he => ?_)
  rotate_left
  · rw [z_1, zI_add]
    refine w_jcont ⟨by omega, _, rfl, ?_, hfr2⟩
    rw [sm_s, if_neg (by omega), Int.add_zero]
  have hsz : bcn set n = size := by omega
  have hnf := nfr_le n hn5 set (by omega)
  have hpe := pnf_e (n := n) hp (set := set)
  have hpb := pnf_bd hp hn5 (set := set) (by omega)
  refine w_MI hM ?_
  rw [hL.2.1]
  refine w_powerOf hM hA2 (by omega) (by omega) ?_
  rw [z_m1]
  refine w_eq ⟨by omega, by omega⟩ ⟨by omega, by omega⟩ (fun hf => ?_) (fun hf => ?_)
  · rw [zI_add, z_1, zI_add]
    refine w_jlet (w_jcont ⟨by omega, _, rfl, ?_, hfr2⟩)
    have hk6 : wkd what = 6 := by unfold wkd; rw [if_pos hf]
    rw [sm_s, if_pos hsz, hk6, ← hpe]
    unfold CBn
    rw [show cn (pnf p n set) (KDc p n T 6 set) = pnf p n set from cn_true (P := KDc p n T 6 set) (fun k _ => trivial)]
  have hkk : wkd what = what.toNat := by unfold wkd; rw [if_neg hf]
  have hwz : ((what.toNat : Nat) : Int) = what := by omega
  rw [← hpe, z_0]
  refine w_up2 (pnf p n set) (fun code x N3 => x = sm set (fun set => if bcn set n = size then (CBn p n T (wkd what) set : Int) else 0) + (cn code (KDc p n T (wkd what) set) : Nat) ∧ FrC N m N3 ∧ LdI N3 m n set) 0 _ rfl (by omega) ⟨by show _ = _ + (0 : Int); omega, hfr2, hL⟩ ?_
  rintro code x N3 hcode ⟨rfl, hfr3, hL3⟩
  show GN M N3 (X8_countSpans_L59 m (zI _) (zI _) (zI _) (zI _) (zI _) (zI _)) _
  have hA3 := hfr3.ma hA
  have hcn := cn_le (n := code) (P := KDc p n T (wkd what) set)
  unfold X8_countSpans_L59
  refine w_le ⟨by omega, by omega⟩ ⟨by omega, by omega⟩ (fun hg => ?_) (fun hg => ?_)
  · have : code = pnf p n set := by omega
    subst this
    unfold X8_countSpans_b95
    rw [z_1, zI_add]
    refine w_jinl (w_jcont ⟨by omega, _, rfl, ?_, hfr3⟩)
    rw [sm_s, if_pos hsz]; rfl
  refine w_spanBy hM hA3 (by omega) hL3 (by omega) (fun N4 hs4 b4 => ?_)
  have hfr4 : FrC N m N4 := hfr3.tr ⟨fun x c1 c2 c3 c4 c5 c6 => b4 x (by omega), fun k _ _ _ => by rw [b4 m (by omega)]⟩
  have hA4 := hfr4.ma hA
  rw [← hwz, show (size : Int) = ((bcn set n : Nat) : Int) by omega]
  refine w_isSuch hM hA4 hs4 (by omega) (fun N5 v hv b5 b5' => ?_)
  have hfr5 : FrC N m N5 := hfr4.tr ⟨fun x c1 c2 c3 _ _ _ => b5 x c1 c2 c3, fun k c1 _ _ => b5' k c1⟩
  have hL5 : LdI N5 m n set := hL3.fr (by rw [b5' 59 (by omega), b4 m (by omega)]) (by rw [b5' 60 (by omega), b4 m (by omega)]) (by rw [b5 _ (by omega) (by omega) (by omega), b4 _ (by omega)]) (by rw [b5 _ (by omega) (by omega) (by omega), b4 _ (by omega)]) (by rw [b5 _ (by omega) (by omega) (by omega), b4 _ (by omega)])
  rw [← hkk] at hv
  rw [hwz]
  unfold X8_countSpans_b87
  rw [z_0]
  refine w_eq (by rcases hv with ⟨e, _⟩ | ⟨e, _⟩ <;> exact ⟨by omega, by omega⟩) ⟨by omega, by omega⟩ (fun e => ?_) (fun e => ?_)
  · have hnk : ¬ KDc p n T (wkd what) set code := by
      rcases hv with ⟨e2, _⟩ | ⟨_, e2⟩
      · omega
      · exact e2
    rw [zI_add, z_1, zI_add]
    exact w_jlet (w_jcont ⟨by omega, _, rfl, by rw [cn_neg hnk]; omega, hfr5, hL5⟩)
  · have hyk : KDc p n T (wkd what) set code := by
      rcases hv with ⟨_, e2⟩ | ⟨e2, _⟩
      · exact e2
      · omega
    rw [z_1, zI_add, zI_add]
    exact w_jlet (w_jcont ⟨by omega, _, rfl, by rw [cn_pos hyk]; omega, hfr5, hL5⟩)
end MOD5
