/-! THE RADICAL, on both sides. -/
set_option maxRecDepth 100000
section RAD
variable {α τ : Type} {M M' : Mem} {N N' : NM} {c m W B : Nat} {p : Int} {n : Nat} {T : Nat → Nat → Nat → Int}
theorem w_radical {f : Int32 → JM Mem τ} {Q : τ → Mem → NM → Prop} {v : Int} (hC : CL M c) (hD : WD N (c + 6) p n T) (hv : zR v)
    (h1 : ¬ (v = 0 ∨ v = 1) → GN M (up2 N c 8 5) (f (zI (-1))) Q)
    (h2 : (v = 0 ∨ v = 1) → ∀ M' N', Bg c M M' → (∀ x, x < c + 72 ∨ c + 192 ≤ x → N' x = N x) → GN M' (up2 N' c 8 0) (f (zI (rdv p n T (if v = 0 then 4 else 5) n : Nat))) Q) :
    GN M N (jb (jcall 0 c (f_X0_radical c (zI v))) f) Q := by
  have hpb := hD.pb
  have hp := hD.pr
  have hn5 := hD.n5
  have hW := hC.w6
  refine w_Cc hC ?_
  unfold f_X0_radical
  have hbad : ¬ (v = 0 ∨ v = 1) → GN M N (X0_radical_b9 c) (fun v M1 N1 => GN M1 N1 (f v) Q) := fun x => by
    unfold X0_radical_b9
    rw [z_5]
    exact w_none hC (w_jp (h1 x))
  rw [z_0, z_1]
  refine w_lt hv ⟨by omega, by omega⟩ (fun ha => hbad (by omega)) (fun ha => ?_)
  refine w_le hv ⟨by omega, by omega⟩ (fun hb => ?_) (fun hb => hbad (by omega))
  have hvv : v = 0 ∨ v = 1 := by omega
  replace h2 := h2 hvv
  have hK45 : (if v = 0 then 4 else 5 : Nat) = 4 ∨ (if v = 0 then 4 else 5 : Nat) = 5 := by split; exact Or.inl rfl; exact Or.inr rfl
  generalize hK : (if v = 0 then 4 else 5 : Nat) = K at h2 hK45
  refine w_Cf hC rfl ?_
  refine w_Wp hW ?_
  rw [hD.ne]
  refine w_loopB (fun d t B N1 => t = zI (d : Nat) ∧ d ≤ n ∧ Bg c M B ∧ (∀ x, x < c + 72 ∨ c + 192 ≤ x → N1 x = N x) ∧ ∀ s, s ≤ n → d < s → CSn p n T s K = 0) n _ ⟨rfl, Nat.le_refl _, Bg.rf hC, fun _ _ => rfl, fun s h1 h2 => by omega⟩ ?_
  rintro d t M1 N1 ⟨rfl, hdn, hB, g, hz⟩
  have hC1 := hC.bg hB
  have hD1 : WD N1 (c + 6) p n T := hD.fr (fun b _ _ => g b (by omega))
  have key : GN M1 N1 (X0_radical_b38 c (zI v) (zI (d : Nat)) c (c + 6) (zI (d : Nat)) (zI ((K : Nat) : Int))) (LQ (fun v M1 N1 => GN M1 N1 (f v) Q) (fun t1 M1 N1 => ∃ m, m < d ∧ (t1 = zI (m : Nat) ∧ m ≤ n ∧ Bg c M M1 ∧ (∀ x, x < c + 72 ∨ c + 192 ≤ x → N1 x = N x) ∧ ∀ s, s ≤ n → m < s → CSn p n T s K = 0))) := by
    unfold X0_radical_b38
    refine w_count hC1 hC1.w6 hD1 (by omega) (by omega) (by omega) (fun M2 N2 hB2 g2 => ?_)
    have hC2 := hC1.bg hB2
    have g3 : ∀ x, x < c + 72 ∨ c + 192 ≤ x → N2 x = N x := fun x hx => (g2 x hx).trans (g x hx)
    have hcs := CSp_bd (T := T) hp hn5 (size := d) (kind := K) (2 ^ n) (two_pow hn5).1
    rw [z_0]
    refine w_eq (by unfold CSn; exact ⟨by omega, by omega⟩) ⟨by omega, by omega⟩ (fun he => ?_) (fun he => ?_)
    · have hd0 : d ≠ 0 := fun e => by
        rw [e] at he
        exact CS0 hp hK45 he
      rw [z_m1, zI_add]
      refine w_jcontB ⟨d - 1, by omega, by congr 1; omega, by omega, hB.tr hB2, g3, fun s h1 h2 => ?_⟩
      by_cases e : s = d
      · rw [e]; exact he
      · exact hz s h1 (by omega)
    · unfold X0_radical_b50
      have e := rdv_eq (Or.inr he) (n - d) (fun s h1 h2 => hz s (by omega) h2)
      rw [show d + (n - d) = n by omega] at e
      have := h2 M2 N2 (hB.tr hB2) g3
      rw [e] at this
      exact w_jinl (w_gives hC2 (w_jp this))
  unfold X0_radical_L23
  refine w_Cf hC1 rfl ?_
  rw [z_0]
  refine w_eq hv ⟨by omega, by omega⟩ (fun e => ?_) (fun e => ?_)
  · rw [if_pos e] at hK
    subst hK
    exact key
  · rw [if_neg e] at hK
    subst hK
    exact key
theorem w_mradical {f : Int32 → JM Mem τ} {Q : τ → Mem → NM → Prop} {v : Int} (hM : ML M m) (hC : WC N (m + 5) 0 p n T) (hT : WOk p n T) (hv : zR v)
    (h : ∀ M' N1 N', MSt M N m p n T M' N1 → MFr m N1 N' → GN M' (if v = 0 ∨ v = 1 then N' else up2 N' m 0 5) (f (zI (if v = 0 ∨ v = 1 then (rdv p n T (if v = 0 then 4 else 5) n : Nat) else -1))) Q) :
    GN M N (jb (jcall 7 m (f_X8_radical m (zI v))) f) Q := by
  refine w_Mc hM ?_
  unfold f_X8_radical
  refine w_mbegin hM hC hT (fun M1 N1 hS => ?_)
  have hM1 := hM.bg hS.1
  have hA := hS.2.2.1
  have hpb := hA.pb
  have hp := hA.pr
  have hn5 := hA.n5
  have h2n := two_pow hn5
  replace h := fun N' => h M1 N1 N' hS
  rw [zL_int hv, show (0 : Int64) = zL 0 from rfl, show (1 : Int64) = zL 1 from rfl]
  refine w_isIn (zRL_of hv) ⟨by omega, by omega⟩ ⟨by omega, by omega⟩ ?_
  rw [z_0]
  by_cases hvv : v = 0 ∨ v = 1
  case neg =>
    rw [if_neg (show ¬ (0 ≤ v ∧ v ≤ 1) by omega)]
    refine w_eq ⟨by omega, by omega⟩ ⟨by omega, by omega⟩ (fun _ => ?_) (fun x => absurd rfl x)
    rw [z_5]
    have := h N1 MFr.rf
    rw [if_neg hvv, if_neg hvv] at this
    exact w_refuse hM1 (w_jp this)
  rw [if_pos (show 0 ≤ v ∧ v ≤ 1 by omega)]
  refine w_eq ⟨by omega, by omega⟩ ⟨by omega, by omega⟩ (fun x => absurd x (by omega)) (fun _ => ?_)
  replace h := fun N' hF => h N' hF
  simp only [if_pos hvv] at h
  generalize hK : (if v = 0 then 4 else 5 : Nat) = K at h
  have hFm : ∀ N', FrC N1 m N' → MFr m N1 N' := fun N' g => ⟨fun b hb => g.1 b (by omega) (by omega) (by omega) (by omega) (by omega) (by omega), fun k hk => g.2 k (by omega) (by omega) (by omega)⟩
  refine w_up2 (2 ^ n) (fun set x N2 => ∃ mo : Nat, x = mo ∧ FrC N1 m N2 ∧ (mo = 0 ∨ ∃ s, s < 2 ^ n ∧ bcn s n = mo ∧ CBn p n T K s ≠ 0) ∧ ∀ s, s < set → CBn p n T K s ≠ 0 → bcn s n ≤ mo) 0 0 rfl (by omega) ⟨0, rfl, FrC.rf, Or.inl rfl, fun s hs => absurd hs (by omega)⟩ ?_
  rintro set x N2 hset ⟨mo, rfl, hfr, q1, q2⟩
  have hmo : mo ≤ n := by
    rcases q1 with h | ⟨s, _, e, _⟩
    · omega
    · rw [← e]; exact bcn_le s n
  show GN M1 N2 (X8_radical_L34 m (zI _) (zI _) (zI _)) _
  have hA2 := hfr.ma hA
  unfold X8_radical_L34
  refine w_MI hM1 ?_
  rw [hA2.ne, bit_shl n (by omega)]
  refine w_le ⟨by omega, by omega⟩ ⟨by omega, by omega⟩ (fun hc => ?_) (fun hc => ?_)
  · have : set = 2 ^ n := by omega
    subst this
    have e : rdv p n T K n = mo := by
      have := rdv_eq (p := p) (n := n) (T := T) (kind := K) (most := mo) (q1.imp id (fun ⟨s, a, b, c⟩ => CSn_ne.mpr ⟨s, a, b, c⟩)) (n - mo) (fun s h1 h2 => Classical.byContradiction fun x => by
        obtain ⟨st, a, b, c⟩ := CSn_ne.mp x
        have := q2 st a c
        omega)
      rw [show mo + (n - mo) = n by omega] at this
      exact this
    have := h N2 (hFm N2 hfr)
    rw [e] at this
    exact w_jinl (w_jp this)
  refine w_lead hM1 hA2 (by omega) (fun N3 hL a1 a2 => ?_)
  have hfr3 : FrC N1 m N3 := hfr.tr ⟨fun x b1 b2 b3 b4 b5 b6 => a1 x b2 b4 b5 b6, fun k b1 b2 b3 => a2 k b2 b3⟩
  have hA3 := hfr3.ma hA
  refine w_MI hM1 ?_
  rw [hL.1]
  have hbn := bcn_le set n
  refine w_lt ⟨by omega, by omega⟩ ⟨by omega, by omega⟩ (fun hd => ?_) (fun hd => ?_)
  rotate_left
  · unfold X8_radical_b135
    rw [z_1, zI_add]
    refine w_jcont ⟨by omega, _, rfl, mo, rfl, hfr3, q1, fun s hs hc => ?_⟩
    by_cases e : s = set
    · rw [e]; omega
    · exact q2 s (by omega) hc
  have hnf := nfr_le n hn5 set (by omega)
  have hpe := pnf_e (n := n) hp (set := set)
  have hpb' := pnf_bd hp hn5 (set := set) (by omega)
  refine w_MI hM1 ?_
  rw [hL.1]
  refine w_MI hM1 ?_
  rw [hL.2.1]
  refine w_powerOf hM1 hA3 (by omega) (by omega) ?_
  rw [← hpe, z_0]
  refine w_up2 (pnf p n set) (fun code x N4 => ∃ m2 : Nat, x = m2 ∧ FrC N1 m N4 ∧ LdI N4 m n set ∧ (m2 = mo ∧ (∀ i, i < code → ¬ KDc p n T K set i) ∨ m2 = bcn set n ∧ CBn p n T K set ≠ 0)) 0 mo rfl (by omega) ⟨mo, rfl, hfr3, hL, Or.inl ⟨rfl, fun i hi => absurd hi (by omega)⟩⟩ ?_
  rintro code x N4 hcode ⟨m2, rfl, hfr4, hL4, q3⟩
  have hm2 : m2 ≤ n := by omega
  show GN M1 N4 (X8_radical_L79 m (zI _) (zI _) (zI _) (zI _) (zI _) (zI _)) _
  have hA4 := hfr4.ma hA
  have hout : (∀ i, i < pnf p n set → m2 = mo → ¬ KDc p n T K set i) → GN M1 N4 (X8_radical_b135 m (zI v) (zI (m2 : Nat)) (zI (set : Nat))) (LQ (fun v M1 N1 => GN M1 N1 (f v) Q) (KF M1 (fun t N1' => set < 2 ^ n ∧ ∃ a1, t = (zI a1, zI ((set : Int) + 1)) ∧ ∃ mo : Nat, a1 = mo ∧ FrC N1 m N1' ∧ (mo = 0 ∨ ∃ s, s < 2 ^ n ∧ bcn s n = mo ∧ CBn p n T K s ≠ 0) ∧ ∀ s, s < set + 1 → CBn p n T K s ≠ 0 → bcn s n ≤ mo))) := fun hno => by
    unfold X8_radical_b135
    rw [z_1, zI_add]
    refine w_jcont ⟨by omega, _, rfl, m2, rfl, hfr4, ?_, fun s hs hc => ?_⟩
    · rcases q3 with ⟨e, _⟩ | ⟨e, h⟩
      · rw [e]; exact q1
      · exact Or.inr ⟨set, by omega, e.symm, h⟩
    · by_cases e : s = set
      · rcases q3 with ⟨e1, _⟩ | ⟨e1, h⟩
        · obtain ⟨i, hi, hk⟩ := cn_ne (by rw [e] at hc; exact hc)
          exact absurd hk (hno i hi e1)
        · rw [e, e1]; exact Nat.le_refl _
      · have := q2 s (by omega) hc
        rcases q3 with ⟨e1, _⟩ | ⟨e1, h⟩ <;> omega
  unfold X8_radical_L79
  refine w_le ⟨by omega, by omega⟩ ⟨by omega, by omega⟩ (fun he => ?_) (fun he => ?_)
  · refine w_jinl (hout (fun i hi e => ?_))
    rcases q3 with ⟨_, h⟩ | ⟨e1, _⟩
    · exact h i (by omega)
    · omega
  refine w_le ⟨by omega, by omega⟩ ⟨by omega, by omega⟩ (fun hg => ?_) (fun hg => ?_)
  · exact w_jinl (hout (fun i hi e => by omega))
  obtain ⟨rfl, q4⟩ : m2 = mo ∧ ∀ i, i < code → ¬ KDc p n T K set i := by
    rcases q3 with h | ⟨e1, _⟩
    · exact h
    · omega
  refine w_spanBy hM1 hA4 (by omega) hL4 (by omega) (fun N5 hs5 b5 => ?_)
  have hfr5 : FrC N1 m N5 := hfr4.tr ⟨fun x c1 c2 c3 c4 c5 c6 => b5 x (by omega), fun k _ _ _ => by rw [b5 m (by omega)]⟩
  have hA5 := hfr5.ma hA
  have hL5 : LdI N5 m n set := hL4.fr (by rw [b5 m (by omega)]) (by rw [b5 m (by omega)]) (b5 _ (by omega)) (b5 _ (by omega)) (b5 _ (by omega))
  refine w_misIdeal hM1 hA5 hs5 (fun N6 u hu b6 => ?_)
  have hfr6 : FrC N1 m N6 := hfr5.tr ⟨fun x c1 c2 c3 c4 c5 c6 => b6 x (by omega) (by omega) c3, fun k _ _ _ => by rw [b6 m (by omega) (by omega) (by omega)]⟩
  have hL6 : LdI N6 m n set := hL5.fr (by rw [b6 m (by omega) (by omega) (by omega)]) (by rw [b6 m (by omega) (by omega) (by omega)]) (b6 _ (by omega) (by omega) (by omega)) (b6 _ (by omega) (by omega) (by omega)) (b6 _ (by omega) (by omega) (by omega))
  have hno : ∀ N7 : NM, FrC N1 m N7 → LdI N7 m n set → ¬ KDc p n T K set code → GN M1 N7 (X8_radical_b129 m (zI v) (zI (m2 : Nat)) (zI (set : Nat)) (zI (bcn set n : Nat)) (zI (pnf p n set : Nat)) (zI (code : Nat))) (LQ (LQ (fun v M1 N1 => GN M1 N1 (f v) Q) (KF M1 (fun t N1' => set < 2 ^ n ∧ ∃ a1, t = (zI a1, zI ((set : Int) + 1)) ∧ ∃ mo : Nat, a1 = mo ∧ FrC N1 m N1' ∧ (mo = 0 ∨ ∃ s, s < 2 ^ n ∧ bcn s n = mo ∧ CBn p n T K s ≠ 0) ∧ ∀ s, s < set + 1 → CBn p n T K s ≠ 0 → bcn s n ≤ mo))) (KF M1 (fun t N1' => code < pnf p n set ∧ ∃ a1, t = (zI a1, zI ((code : Int) + 1)) ∧ ∃ m3 : Nat, a1 = m3 ∧ FrC N1 m N1' ∧ LdI N1' m n set ∧ (m3 = m2 ∧ (∀ i, i < code + 1 → ¬ KDc p n T K set i) ∨ m3 = bcn set n ∧ CBn p n T K set ≠ 0)))) := fun N7 a1 a2 a3 => by
    unfold X8_radical_b129
    rw [z_1, zI_add]
    refine w_jcont ⟨by omega, _, rfl, m2, rfl, a1, a2, Or.inl ⟨rfl, fun i hi => ?_⟩⟩
    by_cases e : i = code
    · rw [e]; exact a3
    · exact q4 i (by omega)
  rw [z_0]
  rcases hu with ⟨rfl, hI⟩ | ⟨rfl, hI⟩
  rotate_left
  · refine w_eq ⟨by omega, by omega⟩ ⟨by omega, by omega⟩ (fun _ => hno N6 hfr6 hL6 (fun x => hI ?_)) (fun x => absurd rfl x)
    have x : KD p n T K (bcn set n) (RC p n set code) (ldn set n) (Rs p n (bcn set n) (RC p n set code)) := x
    rw [← hK] at x
    by_cases e : v = 0
    · rw [if_pos e] at x; exact x.1
    · rw [if_neg e] at x; exact x.1
  refine w_eq ⟨by omega, by omega⟩ ⟨by omega, by omega⟩ (fun x => absurd x (by decide)) (fun _ => ?_)
  have hs6 : SpM N6 (m + 11) p n (bcn set n) (RC p n set code) (ldn set n) (Rs p n (bcn set n) (RC p n set code)) := hs5.fr (b6 _ (by omega) (by omega) (by omega))
  have key : GN M1 N6 (X8_radical_b120 m (zI v) (zI (m2 : Nat)) (zI (set : Nat)) (zI (bcn set n : Nat)) (zI (pnf p n set : Nat)) (zI (code : Nat)) m (zI (bcn set n : Nat)) (zI (if v = 1 then 1 else 0))) (LQ (LQ (fun v M1 N1 => GN M1 N1 (f v) Q) (KF M1 (fun t N1' => set < 2 ^ n ∧ ∃ a1, t = (zI a1, zI ((set : Int) + 1)) ∧ ∃ mo : Nat, a1 = mo ∧ FrC N1 m N1' ∧ (mo = 0 ∨ ∃ s, s < 2 ^ n ∧ bcn s n = mo ∧ CBn p n T K s ≠ 0) ∧ ∀ s, s < set + 1 → CBn p n T K s ≠ 0 → bcn s n ≤ mo))) (KF M1 (fun t N1' => code < pnf p n set ∧ ∃ a1, t = (zI a1, zI ((code : Int) + 1)) ∧ ∃ m3 : Nat, a1 = m3 ∧ FrC N1 m N1' ∧ LdI N1' m n set ∧ (m3 = m2 ∧ (∀ i, i < code + 1 → ¬ KDc p n T K set i) ∨ m3 = bcn set n ∧ CBn p n T K set ≠ 0)))) := by
    unfold X8_radical_b120
    refine w_endsIn0 hM1 (hfr6.ma hA) hs6 (by split; exact Or.inr rfl; exact Or.inl rfl) (fun a b ha hb => hI a b ha (Or.inl trivial)) (fun N7 u hu b7 => ?_)
    have hfr7 : FrC N1 m N7 := hfr6.tr ⟨fun x c1 c2 c3 c4 c5 c6 => b7 x (by omega) (by omega) (by omega) (by omega) c3, fun k _ _ _ => by rw [b7 m (by omega) (by omega) (by omega) (by omega) (by omega)]⟩
    have hL7 : LdI N7 m n set := hL6.fr (by rw [b7 m (by omega) (by omega) (by omega) (by omega) (by omega)]) (by rw [b7 m (by omega) (by omega) (by omega) (by omega) (by omega)]) (b7 _ (by omega) (by omega) (by omega) (by omega) (by omega)) (b7 _ (by omega) (by omega) (by omega) (by omega) (by omega)) (b7 _ (by omega) (by omega) (by omega) (by omega) (by omega))
    have hkd : KDc p n T K set code ↔ dm p n (Ser p n T (Rs p n (bcn set n) (RC p n set code)) (1 - if v = 1 then 1 else 0) 5) = 0 := by
      show KD p n T K (bcn set n) (RC p n set code) (ldn set n) (Rs p n (bcn set n) (RC p n set code)) ↔ _
      rw [← hK]
      by_cases e : v = 0
      · rw [if_pos e, if_neg (by omega), Ser.d (by omega)]
        exact ⟨fun x => x.2, fun x => ⟨hI, x⟩⟩
      · rw [if_neg e, if_pos (show v = 1 from hvv.resolve_left e), Ser.l (show (1 : Int) - 1 = 0 by decide)]
        exact ⟨fun x => x.2, fun x => ⟨hI, x⟩⟩
    rw [z_0]
    rcases hu with ⟨rfl, hu⟩ | ⟨rfl, hu⟩
    · refine w_eq ⟨by omega, by omega⟩ ⟨by omega, by omega⟩ (fun x => absurd x (by decide)) (fun _ => ?_)
      unfold X8_radical_b129
      rw [z_1, zI_add]
      exact w_jcont ⟨by omega, _, rfl, bcn set n, rfl, hfr7, hL7, Or.inr ⟨rfl, cn_po (i := code) (by omega) (hkd.mpr hu)⟩⟩
    · exact w_eq ⟨by omega, by omega⟩ ⟨by omega, by omega⟩ (fun _ => hno N7 hfr7 hL7 (fun x => hu (hkd.mp x))) (fun x => absurd rfl x)
  rw [z_1]
  refine w_eq hv ⟨by omega, by omega⟩ (fun e => ?_) (fun e => ?_)
  · rw [if_pos e] at key
    exact key
  · rw [if_neg e] at key
    exact key
end RAD
