/-! THE MODEL: an op begins; powers. -/
set_option maxRecDepth 100000
section MOD19
variable {α τ : Type} {M M' : Mem} {N N' : NM} {m a b o W B D L La Lb t to : Nat} {p p2 : Int} {n n2 q lev c r : Nat} {T U F S : Nat → Nat → Nat → Int} {X Y : Nat → Nat → Int} {x : Nat → Int}
/-- what the model's inner work leaves as it was -/
def MFr (m : Nat) (N N' : NM) : Prop := (∀ b, b < m ∨ m < b ∧ b ≤ m + 5 ∨ b = m + 23 ∨ m + 36 ≤ b → N' b = N b) ∧ ∀ k, k = 0 ∨ k = 1 ∨ k = 8 ∨ k = 10 ∨ k = 11 ∨ k = 23 ∨ k = 44 ∨ 49 ≤ k ∧ k ≤ 53 → N' m k = N m k
theorem MFr.rf : MFr m N N := ⟨fun _ _ => rfl, fun _ _ => rfl⟩
theorem MFr.tr {N2 : NM} (h : MFr m N N') (h2 : MFr m N' N2) : MFr m N N2 := ⟨fun b hb => (h2.1 b hb).trans (h.1 b hb), fun k hk => (h2.2 k hk).trans (h.2 k hk)⟩
theorem MFr.of (h : ∀ b, b < m + 6 ∨ b = m + 23 ∨ m + 36 ≤ b → N' b = N b) : MFr m N N' := ⟨fun b hb => h b (by omega), fun k _ => by rw [h m (by omega)]⟩
/-- an op of the model begins: the world now is asked -/
def MSt (M : Mem) (N : NM) (m : Nat) (p : Int) (n : Nat) (T : Nat → Nat → Nat → Int) (M' : Mem) (N' : NM) : Prop :=
  BgM m M M' ∧ (mR M' m 64 = mR M m 64) ∧ MA M' N' m (m + 5) 0 p n T ∧ (∀ b, b ≠ m → N' b = N b) ∧ (∀ k, k ≠ 0 → k ≠ 1 → k ≠ 25 → k ≠ 26 → k ≠ 27 → N' m k = N m k) ∧ N' m 0 = 0 ∧ N' m 1 = 0
theorem w_askNow {f : Unit → JM Mem τ} {Q : τ → Mem → NM → Prop} (hM : ML M m) (hC : WC N (m + 5) 0 p n T) (hT : WOk p n T)
    (h : ∀ M' N', BgM m M M' → (mR M' m 64 = mR M m 64) → MA M' N' m (m + 5) 0 p n T → (∀ b, b ≠ m → N' b = N b) → (∀ k, k ≠ 25 → k ≠ 26 → k ≠ 27 → N' m k = N m k) → GN M' N' (f ()) Q) : GN M N (jb (jcall 7 m (f_X8_askNow m)) f) Q := by
  have h5 := hM.ka (o := 5) (d := (0, 3440)) rfl
  refine w_Mc hM ?_
  unfold f_X8_askNow
  refine w_Mf hM rfl ?_
  rw [z_0]
  exact w_ask (W := m + 5) (B := 0) hM (Or.inl rfl) h5 (by omega) hC hT (fun M' N' h1 h2 h3 h4 h5 => w_jp (h M' N' h1 h2 h3 h4 h5))
theorem w_mbegin {f : Unit → JM Mem τ} {Q : τ → Mem → NM → Prop} (hM : ML M m) (hC : WC N (m + 5) 0 p n T) (hT : WOk p n T)
    (h : ∀ M' N', MSt M N m p n T M' N' → GN M' N' (f ()) Q) : GN M N (jb (jputI 7 1 m 0) fun _ => jb (jputI 7 0 m 0) fun _ => jb (jcall 7 m (f_X8_askNow m)) f) Q := by
  rw [z_0]
  refine w_Mput hM (w_Mput hM ?_)
  have eo : ∀ b, b ≠ m → up2 (up2 N m 1 0) m 0 0 b = N b := fun b hb => by
    funext k
    show (if b = m ∧ _ then _ else if b = m ∧ _ then _ else N b k) = _
    rw [if_neg (fun e => hb e.1), if_neg (fun e => hb e.1)]
  have e1 : up2 (up2 N m 1 0) m 0 0 m 1 = 0 := by
    show (if m = m ∧ 1 = 0 then (0 : Int) else if m = m ∧ 1 = 1 then 0 else N m 1) = 0
    rw [if_neg (by omega), if_pos ⟨rfl, rfl⟩]
  have e0 : up2 (up2 N m 1 0) m 0 0 m 0 = 0 := if_pos ⟨rfl, rfl⟩
  have ek : ∀ k, k ≠ 0 → k ≠ 1 → up2 (up2 N m 1 0) m 0 0 m k = N m k := fun k h0 h1 => by
    show (if m = m ∧ k = 0 then _ else if m = m ∧ k = 1 then _ else N m k) = _
    rw [if_neg (fun e => h0 e.2), if_neg (fun e => h1 e.2)]
  generalize up2 (up2 N m 1 0) m 0 0 = N1 at eo e1 e0 ek
  refine w_askNow hM (hC.fr (eo _ (by omega))) hT (fun M' N' h1 h2 h3 h4 h5 => h M' N' ⟨h1, h2, h3, fun b hb => (h4 b hb).trans (eo b hb), fun k a0 a1 a2 a3 a4 => (h5 k a2 a3 a4).trans (ek k a0 a1), ?_, ?_⟩)
  · rw [h5 0 (by omega) (by omega) (by omega), e0]
  · rw [h5 1 (by omega) (by omega) (by omega), e1]
theorem MX.cp (h : MX N a p n X) (hn : n ≤ 5) (e : ∀ k, k < 25 → N' to k = N a k) : MX N' to p n X := fun i j hi hj => by
  rw [e (5 * i + j) (by omega)]
  exact h i j hi hj
theorem w_mpower {f : Int32 → JM Mem τ} {Q : τ → Mem → NM → Prop} {v : Int} (hM : ML M m) (hC : WC N (m + 5) 0 p n T) (hT : WOk p n T) (hv : zR v)
    (h : ∀ M' N1 N', MSt M N m p n T M' N1 → MFr m N1 N' → GN M' (if 0 ≤ v ∧ v < p ^ n then (if pwz p n T (dgv p n v) n 1 = none then up2 N' m 0 8 else N') else up2 N' m 0 2) (f (zI (if 0 ≤ v ∧ v < p ^ n then pwa (pwz p n T (dgv p n v) n 1) else -1))) Q) :
    GN M N (jb (jcall 7 m (f_X8_power m (zI v))) f) Q := by
  refine w_Mc hM ?_
  unfold f_X8_power
  refine w_mbegin hM hC hT (fun M1 N1 hS => ?_)
  have hM1 := hM.bg hS.1
  have hA := hS.2.2.1
  have h29 := hM1.ka (o := 29) (d := (0, 25)) rfl
  have h30 := hM1.ka (o := 30) (d := (0, 25)) rfl
  have h31 := hM1.ka (o := 31) (d := (0, 25)) rfl
  have hpb := hA.pb
  have hn5 := hA.n5
  have hpw := pow_bd hpb n hn5
  replace h := h M1 N1
  rw [zL_int hv]
  refine w_misVector hM1 hA (zRL_of hv) ?_
  rw [z_0]
  by_cases hvv : 0 ≤ v ∧ v < p ^ n
  case neg =>
    rw [if_neg hvv]
    refine w_eq ⟨by omega, by omega⟩ ⟨by omega, by omega⟩ (fun _ => ?_) (fun x => absurd rfl x)
    rw [z_2]
    have := h N1 hS MFr.rf
    rw [if_neg hvv, if_neg hvv] at this
    exact w_refuse hM1 (w_jp this)
  rw [if_pos hvv]
  refine w_eq ⟨by omega, by omega⟩ ⟨by omega, by omega⟩ (fun x => absurd x (by omega)) (fun _ => ?_)
  replace h := fun N' hF => h N' hS hF
  rw [if_pos hvv] at h
  refine w_matrixOf hM1 hA (by omega) (fun N2 x2 f2 => ?_)
  have hne : ∀ N' : NM, (∀ b, b ≠ m + 14 → b ≠ m + 15 → b ≠ m + 16 → b ≠ m + 29 → b ≠ m + 30 → b ≠ m + 31 → N' b = N1 b) → MA M1 N' m (m + 5) 0 p n T := fun N' g => hA.fr (g _ (by omega) (by omega) (by omega) (by omega) (by omega) (by omega)) (g _ (by omega) (by omega) (by omega) (by omega) (by omega) (by omega))
  generalize dgv p n v = x at *
  refine w_Mf hM1 rfl (w_Mf hM1 rfl ?_)
  refine w_copySpan hM1 h29 h30 (by omega) (by omega) (fun N3 c3 f3 => ?_)
  rw [z_1]
  refine w_up (n + 1) (fun k N4 => 1 ≤ k ∧ MX N4 (m + 29) p n (adM p n T x) ∧ MX N4 (m + 30) p n (pwr p n T x k) ∧ (∀ b, b ≠ m + 14 → b ≠ m + 15 → b ≠ m + 16 → b ≠ m + 29 → b ≠ m + 30 → b ≠ m + 31 → N4 b = N1 b) ∧ pwz p n T x n 1 = pwz p n T x (n + 1 - k) k) 1 rfl (by omega) ⟨by omega, x2.fr (f3 _ (by omega)), by rw [pwr_1]; exact x2.cp hn5 c3, fun b a1 a2 a3 a4 a5 _ => by rw [f3 b a5, f2 b a1 a2 a3 a4], rfl⟩ ?_
  rintro k N4 hk ⟨hk1, g1, g2, g3, g4⟩
  have hA4 := hne N4 g3
  have hF4 : MFr m N1 N4 := MFr.of (fun b hb => g3 b (by omega) (by omega) (by omega) (by omega) (by omega) (by omega))
  unfold X8_power_L48
  refine w_MI hM1 ?_
  rw [hA4.ne]
  refine w_lt ⟨by omega, by omega⟩ ⟨by omega, by omega⟩ (fun hd => ?_) (fun hd => ?_)
  · unfold X8_power_b103
    rw [show (8 : Int32) = zI 8 from rfl]
    have e0 : pwz p n T x n 1 = none := by rw [g4, show n + 1 - k = 0 by omega]; rfl
    have := h N4 hF4
    rw [if_pos hvv, if_pos e0, e0] at this
    exact w_jinl (w_refuse hM1 (w_jp this))
  refine w_Mf hM1 rfl ?_
  refine w_isZero hM1 hA4 h30 (by omega) g2 (fun b hb => ?_)
  rw [z_0]
  rcases hb with ⟨rfl, hb⟩ | ⟨rfl, hb⟩
  · refine w_eq ⟨by omega, by omega⟩ ⟨by omega, by omega⟩ (fun x => absurd x (by decide)) (fun _ => ?_)
    have e0 : pwz p n T x n 1 = some k := by
      rw [g4, show n + 1 - k = (n - k) + 1 by omega]
      exact if_pos hb
    have := h N4 hF4
    rw [if_pos hvv, if_neg (by rw [e0]; exact fun x => nomatch x), e0] at this
    exact w_jinl (w_jp this)
  · refine w_eq ⟨by omega, by omega⟩ ⟨by omega, by omega⟩ (fun _ => ?_) (fun x => absurd rfl x)
    refine w_Mf hM1 rfl (w_Mf hM1 rfl (w_Mf hM1 rfl ?_))
    refine w_times hM1 hA4 h30 (by omega) h29 (by omega) h31 (by omega) g2 g1 (by omega) (by omega) (by omega) (by omega) (fun N5 x5 f5 => ?_)
    refine w_Mf hM1 rfl (w_Mf hM1 rfl ?_)
    refine w_copySpan hM1 h31 h30 (by omega) (by omega) (fun N6 c6 f6 => ?_)
    rw [z_1, zI_add]
    refine w_jcont ⟨by omega, rfl, by omega, g1.fr (by rw [f6 _ (by omega), f5 _ (by omega)]), ?_, fun b a1 a2 a3 a4 a5 a6 => by rw [f6 b a5, f5 b a6, g3 b a1 a2 a3 a4 a5 a6], ?_⟩
    · have := x5.cp hn5 c6
      rw [show mmul p n (pwr p n T x k) (adM p n T x) = pwr p n T x (k + 1) from funext fun i => funext fun j => pwr_s k i j] at this
      exact this
    · rw [g4, show n + 1 - k = (n - k) + 1 by omega, show n + 1 - (k + 1) = n - k by omega]
      exact if_neg hb
end MOD19
