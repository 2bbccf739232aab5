/-! WALKING over an int memory: GN M N f Q says that f, over the fixed background M and the ints N, ends well, writes ints only, and Q holds. -/
set_option maxRecDepth 100000
abbrev NM : Type := Nat → Nat → Int
def sN (M : Mem) (N : NM) : Mem := sI M (fun a k => zI (N a k))
section GNS
variable {α τ ρ σ : Type} {M : Mem} {N : NM}
def GN (M : Mem) (N : NM) (f : JM Mem α) (Q : α → Mem → NM → Prop) : Prop := Go f (fun v M' => ∃ B N', M' = sN B N' ∧ Q v B N') (sN M N)
theorem sN_of (M : Mem) : M = sN M (fun a k => (mI M a k).toInt) := by
  show M = (M.1, (fun a k => zI ((mI M a k).toInt)), M.2.2)
  have e : (fun a k => zI ((mI M a k).toInt)) = mI M := by
    funext a k
    exact zI_of _
  rw [e]
theorem gn_mono {f : JM Mem α} {Q Q' : α → Mem → NM → Prop} (h : GN M N f Q) (hq : ∀ v B N', Q v B N' → Q' v B N') : GN M N f Q' :=
  Go.mono h fun v M' ⟨B, N', e, q⟩ => ⟨B, N', e, hq v B N' q⟩
theorem w_jb {x : JM Mem α} {f : α → JM Mem τ} {Q : τ → Mem → NM → Prop} (h : GN M N x (fun v M1 N1 => GN M1 N1 (f v) Q)) : GN M N (jb x f) Q :=
  go_jb (Go.mono h fun v M' ⟨B, N', e, q⟩ => by subst e; exact q)
theorem w_jp {v : α} {Q : α → Mem → NM → Prop} (q : Q v M N) : GN M N (jp v) Q := go_jp ⟨M, N, rfl, q⟩
theorem w_jlet {v : α} {f : α → JM Mem τ} {Q : τ → Mem → NM → Prop} (h : GN M N (f v) Q) : GN M N (jlet v f) Q := h
/-- what a loop's body comes to -/
def LQ (Q : ρ → Mem → NM → Prop) (K : σ → Mem → NM → Prop) : (ρ ⊕ σ) → Mem → NM → Prop
  | .inl v, B, N => Q v B N
  | .inr t, B, N => K t B N
/-- with the background as it was -/
def KF (M : Mem) (K : σ → NM → Prop) : σ → Mem → NM → Prop := fun t B N => B = M ∧ K t N
theorem w_jinl {x : JM Mem ρ} {Q : ρ → Mem → NM → Prop} {K : σ → Mem → NM → Prop} (h : GN M N x Q) : GN M N (jinl x) (LQ Q K) :=
  go_jinl (Go.mono h fun _ _ ⟨B, N', e, q⟩ => ⟨B, N', e, q⟩)
theorem w_jcontB {t : σ} {Q : ρ → Mem → NM → Prop} {K : σ → Mem → NM → Prop} (q : K t M N) : GN M N (jcont t) (LQ Q K) := go_jcont ⟨M, N, rfl, q⟩
theorem w_jcont {t : σ} {Q : ρ → Mem → NM → Prop} {K : σ → NM → Prop} (q : K t N) : GN M N (jcont t) (LQ Q (KF M K)) := go_jcont ⟨M, N, rfl, rfl, q⟩
theorem w_loopB {b : σ → JM Mem (ρ ⊕ σ)} {Q : ρ → Mem → NM → Prop} (J : Nat → σ → Mem → NM → Prop) (n : Nat) (t : σ) (h0 : J n t M N)
    (h : ∀ n t M N, J n t M N → GN M N (b t) (LQ Q (fun t1 M1 N1 => ∃ m, m < n ∧ J m t1 M1 N1))) : GN M N (jloop b t) Q := by
  refine go_loop (fun n t M1 => ∃ B N, M1 = sN B N ∧ J n t B N) (fun n t M1 ⟨B, N, e, hJ⟩ => ?_) n t _ ⟨M, N, rfl, h0⟩
  subst e
  refine Go.mono (h n t B N hJ) (fun r M1 ⟨B', N', e, q⟩ => ?_)
  cases r with
  | inl v => exact ⟨B', N', e, q⟩
  | inr t1 =>
    obtain ⟨m, hm, hJ'⟩ := q
    exact ⟨m, hm, B', N', e, hJ'⟩
theorem w_loop {b : σ → JM Mem (ρ ⊕ σ)} {Q : ρ → Mem → NM → Prop} (J : Nat → σ → NM → Prop) (n : Nat) (t : σ) (h0 : J n t N)
    (h : ∀ n t N, J n t N → GN M N (b t) (LQ Q (KF M (fun t1 N1 => ∃ m, m < n ∧ J m t1 N1)))) : GN M N (jloop b t) Q := by
  refine w_loopB (fun n t B N => B = M ∧ J n t N) n t ⟨rfl, h0⟩ (fun n t B N hJ => ?_)
  obtain ⟨e, hJ⟩ := hJ
  subst e
  refine gn_mono (h n t N hJ) (fun r B' N' q => ?_)
  cases r with
  | inl v => exact q
  | inr t1 =>
    obtain ⟨e, m, hm, q⟩ := q
    exact ⟨m, hm, e, q⟩
/-- a loop whose counter goes up to n -/
theorem w_upB {b : Int32 → JM Mem (ρ ⊕ Int32)} {Q : ρ → Mem → NM → Prop} (n : Nat) (J : Nat → Mem → NM → Prop) {z : Int32} (k0 : Nat) (hz : z = zI k0) (hk : k0 ≤ n) (h0 : J k0 M N)
    (h : ∀ (k : Nat) M N, k ≤ n → J k M N → GN M N (b (zI k)) (LQ Q (fun t M1 N1 => k < n ∧ t = zI ((k : Int) + 1) ∧ J (k + 1) M1 N1))) : GN M N (jloop b z) Q := by
  subst hz
  refine w_loopB (fun d t M N => ∃ k : Nat, t = zI k ∧ k ≤ n ∧ d = n - k ∧ J k M N) (n - k0) _ ⟨k0, rfl, hk, rfl, h0⟩ (fun d t M N hd => ?_)
  obtain ⟨k, e, hkn, hd, hJ⟩ := hd
  subst e
  refine gn_mono (h k M N hkn hJ) (fun r M1 N1 q => ?_)
  cases r with
  | inl v => exact q
  | inr t1 =>
    obtain ⟨h1, h2, h3⟩ := q
    exact ⟨n - (k + 1), by omega, k + 1, h2, by omega, rfl, h3⟩
theorem w_up {b : Int32 → JM Mem (ρ ⊕ Int32)} {Q : ρ → Mem → NM → Prop} (n : Nat) (J : Nat → NM → Prop) {z : Int32} (k0 : Nat) (hz : z = zI k0) (hk : k0 ≤ n) (h0 : J k0 N)
    (h : ∀ (k : Nat) N, k ≤ n → J k N → GN M N (b (zI k)) (LQ Q (KF M (fun t N1 => k < n ∧ t = zI ((k : Int) + 1) ∧ J (k + 1) N1)))) : GN M N (jloop b z) Q := by
  refine w_upB n (fun k B N => B = M ∧ J k N) k0 hz hk ⟨rfl, h0⟩ (fun k B N hkn hJ => ?_)
  obtain ⟨e, hJ⟩ := hJ
  subst e
  refine gn_mono (h k N hkn hJ) (fun r M1 N1 q => ?_)
  cases r with
  | inl v => exact q
  | inr t1 =>
    obtain ⟨e, h1, h2, h3⟩ := q
    exact ⟨h1, h2, e, h3⟩
/-- the same with a number that is gathered, ahead of the counter -/
theorem w_up2B {b : Int32 × Int32 → JM Mem (ρ ⊕ (Int32 × Int32))} {Q : ρ → Mem → NM → Prop} (n : Nat) (J : Nat → Int → Mem → NM → Prop) {z : Int32 × Int32} (k0 : Nat) (a0 : Int) (hz : z = (zI a0, zI k0)) (hk : k0 ≤ n) (h0 : J k0 a0 M N)
    (h : ∀ (k : Nat) a M N, k ≤ n → J k a M N → GN M N (b (zI a, zI k)) (LQ Q (fun t M1 N1 => k < n ∧ ∃ a1, t = (zI a1, zI ((k : Int) + 1)) ∧ J (k + 1) a1 M1 N1))) : GN M N (jloop b z) Q := by
  subst hz
  refine w_loopB (fun d t M N => ∃ (k : Nat) (a : Int), t = (zI a, zI k) ∧ k ≤ n ∧ d = n - k ∧ J k a M N) (n - k0) _ ⟨k0, a0, rfl, hk, rfl, h0⟩ (fun d t M N hd => ?_)
  obtain ⟨k, a, e, hkn, hd, hJ⟩ := hd
  subst e
  refine gn_mono (h k a M N hkn hJ) (fun r M1 N1 q => ?_)
  cases r with
  | inl v => exact q
  | inr t1 =>
    obtain ⟨h1, a1, h2, h3⟩ := q
    exact ⟨n - (k + 1), by omega, k + 1, a1, h2, by omega, rfl, h3⟩
theorem w_up2 {b : Int32 × Int32 → JM Mem (ρ ⊕ (Int32 × Int32))} {Q : ρ → Mem → NM → Prop} (n : Nat) (J : Nat → Int → NM → Prop) {z : Int32 × Int32} (k0 : Nat) (a0 : Int) (hz : z = (zI a0, zI k0)) (hk : k0 ≤ n) (h0 : J k0 a0 N)
    (h : ∀ (k : Nat) a N, k ≤ n → J k a N → GN M N (b (zI a, zI k)) (LQ Q (KF M (fun t N1 => k < n ∧ ∃ a1, t = (zI a1, zI ((k : Int) + 1)) ∧ J (k + 1) a1 N1)))) : GN M N (jloop b z) Q := by
  refine w_up2B n (fun k a B N => B = M ∧ J k a N) k0 a0 hz hk ⟨rfl, h0⟩ (fun k a B N hkn hJ => ?_)
  obtain ⟨e, hJ⟩ := hJ
  subst e
  refine gn_mono (h k a N hkn hJ) (fun r M1 N1 q => ?_)
  cases r with
  | inl v => exact q
  | inr t1 =>
    obtain ⟨e, h1, a1, h2, h3⟩ := q
    exact ⟨h1, a1, h2, e, h3⟩
/-- the same, the counter first -/
theorem w_up3B {b : Int32 × Int32 → JM Mem (ρ ⊕ (Int32 × Int32))} {Q : ρ → Mem → NM → Prop} (n : Nat) (J : Nat → Int → Mem → NM → Prop) {z : Int32 × Int32} (k0 : Nat) (a0 : Int) (hz : z = (zI k0, zI a0)) (hk : k0 ≤ n) (h0 : J k0 a0 M N)
    (h : ∀ (k : Nat) a M N, k ≤ n → J k a M N → GN M N (b (zI k, zI a)) (LQ Q (fun t M1 N1 => k < n ∧ ∃ a1, t = (zI ((k : Int) + 1), zI a1) ∧ J (k + 1) a1 M1 N1))) : GN M N (jloop b z) Q := by
  subst hz
  refine w_loopB (fun d t M N => ∃ (k : Nat) (a : Int), t = (zI k, zI a) ∧ k ≤ n ∧ d = n - k ∧ J k a M N) (n - k0) _ ⟨k0, a0, rfl, hk, rfl, h0⟩ (fun d t M N hd => ?_)
  obtain ⟨k, a, e, hkn, hd, hJ⟩ := hd
  subst e
  refine gn_mono (h k a M N hkn hJ) (fun r M1 N1 q => ?_)
  cases r with
  | inl v => exact q
  | inr t1 =>
    obtain ⟨h1, a1, h2, h3⟩ := q
    exact ⟨n - (k + 1), by omega, k + 1, a1, h2, by omega, rfl, h3⟩
theorem w_up3 {b : Int32 × Int32 → JM Mem (ρ ⊕ (Int32 × Int32))} {Q : ρ → Mem → NM → Prop} (n : Nat) (J : Nat → Int → NM → Prop) {z : Int32 × Int32} (k0 : Nat) (a0 : Int) (hz : z = (zI k0, zI a0)) (hk : k0 ≤ n) (h0 : J k0 a0 N)
    (h : ∀ (k : Nat) a N, k ≤ n → J k a N → GN M N (b (zI k, zI a)) (LQ Q (KF M (fun t N1 => k < n ∧ ∃ a1, t = (zI ((k : Int) + 1), zI a1) ∧ J (k + 1) a1 N1)))) : GN M N (jloop b z) Q := by
  refine w_up3B n (fun k a B N => B = M ∧ J k a N) k0 a0 hz hk ⟨rfl, h0⟩ (fun k a B N hkn hJ => ?_)
  obtain ⟨e, hJ⟩ := hJ
  subst e
  refine gn_mono (h k a N hkn hJ) (fun r M1 N1 q => ?_)
  cases r with
  | inl v => exact q
  | inr t1 =>
    obtain ⟨e, h1, a1, h2, h3⟩ := q
    exact ⟨h1, a1, h2, e, h3⟩
theorem w_ite {C : Prop} [Decidable C] {a b : JM Mem α} {Q : α → Mem → NM → Prop} (h1 : C → GN M N a Q) (h2 : ¬ C → GN M N b Q) : GN M N (if C then a else b) Q := go_ite h1 h2
theorem w_le {x y : Int} {A B : JM Mem α} {Q : α → Mem → NM → Prop} (hx : zR x) (hy : zR y) (h1 : x ≤ y → GN M N A Q) (h2 : y < x → GN M N B Q) : GN M N (if zI x ≤ zI y then A else B) Q :=
  go_ite (fun h => h1 ((zI_le hx hy).mp h)) (fun h => h2 (Int.not_le.mp (fun q => h ((zI_le hx hy).mpr q))))
theorem w_lt {x y : Int} {A B : JM Mem α} {Q : α → Mem → NM → Prop} (hx : zR x) (hy : zR y) (h1 : x < y → GN M N A Q) (h2 : y ≤ x → GN M N B Q) : GN M N (if zI x < zI y then A else B) Q :=
  go_ite (fun h => h1 ((zI_lt hx hy).mp h)) (fun h => h2 (Int.not_lt.mp (fun q => h ((zI_lt hx hy).mpr q))))
theorem w_eq {x y : Int} {A B : JM Mem α} {Q : α → Mem → NM → Prop} (hx : zR x) (hy : zR y) (h1 : x = y → GN M N A Q) (h2 : x ≠ y → GN M N B Q) : GN M N (if zI x = zI y then A else B) Q :=
  go_ite (fun h => h1 ((zI_inj hx hy).mp h)) (fun h => h2 (fun q => h ((zI_inj hx hy).mpr q)))
theorem w_getI {c k a : Nat} {f : Int32 → JM Mem τ} {Q : τ → Mem → NM → Prop} (hK : mK M a = some (.inl c)) (h : GN M N (f (zI (N a k))) Q) : GN M N (jb (jgetI c k a) f) Q :=
  go_jb (go_getI (M := sN M N) hK h)
theorem w_getO {c k a : Nat} {f : Option Nat → JM Mem τ} {Q : τ → Mem → NM → Prop} (hK : mK M a = some (.inl c)) (h : GN M N (f (mR M a k)) Q) : GN M N (jb (jgetO c k a) f) Q :=
  go_jb (go_getO (M := sN M N) hK h)
theorem w_getL {c k a : Nat} {f : Int64 → JM Mem τ} {Q : τ → Mem → NM → Prop} (hK : mK M a = some (.inl c)) (h : GN M N (f (mL M a k)) Q) : GN M N (jb (jgetL c k a) f) Q :=
  go_jb (go_getL (M := sN M N) hK h)
theorem w_getA {c k a b : Nat} {f : Nat → JM Mem τ} {Q : τ → Mem → NM → Prop} (hK : mK M a = some (.inl c)) (hR : mR M a k = some b) (h : GN M N (f b) Q) : GN M N (jb (jgetA c k a) f) Q :=
  go_jb (go_getA (M := sN M N) hK hR h)
theorem sN_up {a k : Nat} {v : Int} : sI (sN M N) (up2 (mI (sN M N)) a k (zI v)) = sN M (up2 N a k v) := by
  show sI M _ = sI M _
  congr 1
  funext b j
  show (if b = a ∧ j = k then zI v else zI (N b j)) = zI (if b = a ∧ j = k then v else N b j)
  split <;> rfl
theorem w_putI {c k a : Nat} {v : Int} {f : Unit → JM Mem τ} {Q : τ → Mem → NM → Prop} (hK : mK M a = some (.inl c)) (h : GN M (up2 N a k v) (f ()) Q) : GN M N (jb (jputI c k a (zI v)) f) Q :=
  go_jb (go_putI (M := sN M N) hK (by rw [sN_up]; exact h))
theorem w_putZ {c k a : Nat} {v : Int} {f : Unit → JM Mem τ} {Q : τ → Mem → NM → Prop} (hK : mK M a = some (.inl c)) (hv : v = 0 ∨ v = 1) (h : GN M (up2 N a k v) (f ()) Q) : GN M N (jb (jputZ c k a (zI v)) f) Q :=
  go_jb (go_putZ (M := sN M N) hK (by rcases hv with rfl | rfl; exact Or.inl rfl; exact Or.inr rfl) (by rw [sN_up]; exact h))
theorem w_call {c b : Nat} {x : JM Mem α} {f : α → JM Mem τ} {Q : τ → Mem → NM → Prop} (hK : mK M b = some (.inl c)) (h : GN M N x (fun v M1 N1 => GN M1 N1 (f v) Q)) : GN M N (jb (jcall c b x) f) Q :=
  w_jb (go_jcall (M := sN M N) hK h)
theorem w_calle {c b : Nat} {x : JM Mem α} {Q : α → Mem → NM → Prop} (hK : mK M b = some (.inl c)) (h : GN M N x Q) : GN M N (jcall c b x) Q := go_jcall (M := sN M N) hK h
/-- a call whose answer and memory are known -/
theorem w_callE {c b : Nat} {x : JM Mem α} {f : α → JM Mem τ} {Q : τ → Mem → NM → Prop} {v : α} {N1 : NM} (hK : mK M b = some (.inl c)) (hx : GN M N x (fun v' B N' => v' = v ∧ N' = N1 ∧ B = M)) (h : GN M N1 (f v) Q) : GN M N (jb (jcall c b x) f) Q :=
  w_call hK (gn_mono hx (fun v' B N' e => by obtain ⟨rfl, rfl, rfl⟩ := e; exact h))
theorem w_jbE {x : JM Mem α} {f : α → JM Mem τ} {Q : τ → Mem → NM → Prop} {v : α} {N1 : NM} (hx : GN M N x (fun v' B N' => v' = v ∧ N' = N1 ∧ B = M)) (h : GN M N1 (f v) Q) : GN M N (jb x f) Q :=
  w_jb (gn_mono hx (fun v' B N' e => by obtain ⟨rfl, rfl, rfl⟩ := e; exact h))
theorem w_rem {a b : Int} {f : Int32 → JM Mem τ} {Q : τ → Mem → NM → Prop} (ha : zR a) (hb : zR b) (h0 : b ≠ 0) (h : GN M N (f (zI (a.tmod b))) Q) : GN M N (jb (jrem (zI a) (zI b)) f) Q :=
  go_jb (go_rem ha hb h0 h)
theorem w_remP {a b : Int} {f : Int32 → JM Mem τ} {Q : τ → Mem → NM → Prop} (ha : 0 ≤ a ∧ zR a) (hb : 0 < b ∧ zR b) (h : GN M N (f (zI (a % b))) Q) : GN M N (jb (jrem (zI a) (zI b)) f) Q :=
  w_rem ha.2 hb.2 (by omega) (by rw [Int.tmod_eq_emod_of_nonneg ha.1]; exact h)
theorem w_div {a b : Int} {f : Int32 → JM Mem τ} {Q : τ → Mem → NM → Prop} (ha : zR a) (hb : zR b) (h0 : b ≠ 0) (h : GN M N (f (zI (a.tdiv b))) Q) : GN M N (jb (jdiv (zI a) (zI b)) f) Q :=
  go_jb (go_div ha hb h0 h)
theorem w_divP {a b : Int} {f : Int32 → JM Mem τ} {Q : τ → Mem → NM → Prop} (ha : 0 ≤ a ∧ zR a) (hb : 0 < b ∧ zR b) (h : GN M N (f (zI (a / b))) Q) : GN M N (jb (jdiv (zI a) (zI b)) f) Q :=
  w_div ha.2 hb.2 (by omega) (by rw [Int.tdiv_eq_ediv_of_nonneg ha.1]; exact h)
theorem zI_toN {z : Int} (h0 : 0 ≤ z) : z = ((z.toNat : Nat) : Int) := (Int.toNat_of_nonneg h0).symm
theorem w_ald {t a n : Nat} {z : Int} {f : Int32 → JM Mem τ} {Q : τ → Mem → NM → Prop} (hK : mK M a = some (.inr (t, n))) (hz : 0 ≤ z ∧ z < n) (hn : n ≤ 100000) (h : GN M N (f (zI (N a z.toNat))) Q) : GN M N (jb (jald mI t a (zI z)) f) Q := by
  have e := zI_toN hz.1
  generalize z.toNat = k at e h
  subst e
  exact go_jb (go_ald (M := sN M N) hK (by omega) hn h)
theorem w_aldA {t a n b : Nat} {z : Int} {f : Nat → JM Mem τ} {Q : τ → Mem → NM → Prop} (hK : mK M a = some (.inr (t, n))) (hz : 0 ≤ z ∧ z < n) (hn : n ≤ 100000) (hR : mR M a z.toNat = some b) (h : GN M N (f b) Q) : GN M N (jb (jaldA t a (zI z)) f) Q := by
  have e := zI_toN hz.1
  generalize z.toNat = k at e hR
  subst e
  exact go_jb (go_aldA (M := sN M N) hK (by omega) hn hR h)
theorem w_ast {a n : Nat} {z v : Int} {f : Unit → JM Mem τ} {Q : τ → Mem → NM → Prop} (hK : mK M a = some (.inr (0, n))) (hz : 0 ≤ z ∧ z < n) (hn : n ≤ 100000) (h : GN M (up2 N a z.toNat v) (f ()) Q) : GN M N (jb (jast_i a (zI z) (zI v)) f) Q := by
  have e := zI_toN hz.1
  generalize z.toNat = k at e h
  subst e
  exact go_jb (go_ast_i (M := sN M N) hK (by omega) hn (by rw [sN_up]; exact h))
theorem w_alen {a t n : Nat} {f : Int32 → JM Mem τ} {Q : τ → Mem → NM → Prop} (hK : mK M a = some (.inr (t, n))) (h : GN M N (f (zI n)) Q) : GN M N (jb (jalen a) f) Q :=
  go_jb (go_alen (M := sN M N) hK h)
/-- five ints are copied, from the first on -/
def cp5 (N : NM) (a b : Nat) : NM := fun c k => if c = b ∧ k < 5 then N a k else N c k
theorem w_copy {a b na nb sp dp n : Nat} {f : Unit → JM Mem τ} {Q : τ → Mem → NM → Prop} (h1 : mK M a = some (.inr (0, na))) (h2 : mK M b = some (.inr (0, nb))) (hs : sp + n ≤ na ∧ na ≤ 100000) (hd : dp + n ≤ nb ∧ nb ≤ 100000)
    (h : GN M (fun c k => if c = b ∧ dp ≤ k ∧ k < dp + n then N a (sp + (k - dp)) else N c k) (f ()) Q) : GN M N (jb (jcopy 0 a (zI sp) b (zI dp) (zI n)) f) Q := by
  have e1 : ∀ x : Nat, x ≤ 100000 → (zI x).toInt = x := fun x hx => zI_to ⟨by omega, by omega⟩
  have e2 : ∀ x : Nat, x ≤ 100000 → (zI x).toNatClampNeg = x := fun x hx => zI_nat (by omega)
  refine go_jb (go_of (M' := sN M (fun c k => if c = b ∧ dp ≤ k ∧ k < dp + n then N a (sp + (k - dp)) else N c k)) (v := ()) ?_ h)
  unfold jcopy
  rw [if_pos]
  · congr 2
    show sI M _ = sI M _
    congr 1
    funext c k
    rw [e2 sp (by omega), e2 dp (by omega), e2 n (by omega)]
    show (if c = b then va_cpy _ _ sp dp n k else zI (N c k)) = zI (if c = b ∧ dp ≤ k ∧ k < dp + n then N a (sp + (k - dp)) else N c k)
    unfold va_cpy
    by_cases hc : c = b
    · subst hc
      by_cases hk : dp ≤ k ∧ k < dp + n
      · rw [if_pos rfl, if_pos hk, if_pos ⟨rfl, hk⟩]; rfl
      · rw [if_pos rfl, if_neg hk, if_neg (fun q => hk q.2)]; rfl
    · rw [if_neg hc, if_neg (fun q => hc q.1)]
  · show jcopyOk (sN M N) 0 a b (zI sp) (zI dp) (zI n) = true
    unfold jcopyOk
    rw [show mK (sN M N) a = _ from h1, show mK (sN M N) b = _ from h2]
    simp only [e1 sp (by omega), e1 dp (by omega), e1 n (by omega)]
    simp
    omega
theorem w_copy5 {a b na nb : Nat} {f : Unit → JM Mem τ} {Q : τ → Mem → NM → Prop} (h1 : mK M a = some (.inr (0, na))) (h2 : mK M b = some (.inr (0, nb))) (hs : 5 ≤ na ∧ na ≤ 100000) (hd : 5 ≤ nb ∧ nb ≤ 100000)
    (h : GN M (cp5 N a b) (f ()) Q) : GN M N (jb (jcopy 0 a (zI 0) b (zI 0) (zI 5)) f) Q := by
  refine w_copy (sp := 0) (dp := 0) (n := 5) h1 h2 (by omega) (by omega) ?_
  have e : (fun c k => if c = b ∧ 0 ≤ k ∧ k < 0 + 5 then N a (0 + (k - 0)) else N c k) = cp5 N a b := by
    funext c k
    unfold cp5
    simp
  rw [e]
  exact h
end GNS
/-! literals of the machine -/
section LIT
theorem z_0 : (0 : Int32) = zI 0 := rfl
theorem z_1 : (1 : Int32) = zI 1 := rfl
theorem z_2 : (2 : Int32) = zI 2 := rfl
theorem z_3 : (3 : Int32) = zI 3 := rfl
theorem z_4 : (4 : Int32) = zI 4 := rfl
theorem z_5 : (5 : Int32) = zI 5 := rfl
theorem z_6 : (6 : Int32) = zI 6 := rfl
theorem z_7 : (7 : Int32) = zI 7 := rfl
theorem z_8 : (8 : Int32) = zI 8 := rfl
theorem z_9 : (9 : Int32) = zI 9 := rfl
theorem z_10 : (10 : Int32) = zI 10 := rfl
theorem z_11 : (11 : Int32) = zI 11 := rfl
theorem z_12 : (12 : Int32) = zI 12 := rfl
theorem z_13 : (13 : Int32) = zI 13 := rfl
theorem z_14 : (14 : Int32) = zI 14 := rfl
theorem z_15 : (15 : Int32) = zI 15 := rfl
theorem z_16 : (16 : Int32) = zI 16 := rfl
theorem z_17 : (17 : Int32) = zI 17 := rfl
theorem z_18 : (18 : Int32) = zI 18 := rfl
theorem z_19 : (19 : Int32) = zI 19 := rfl
theorem z_20 : (20 : Int32) = zI 20 := rfl
theorem z_21 : (21 : Int32) = zI 21 := rfl
theorem z_22 : (22 : Int32) = zI 22 := rfl
theorem z_23 : (23 : Int32) = zI 23 := rfl
theorem z_24 : (24 : Int32) = zI 24 := rfl
theorem z_25 : (25 : Int32) = zI 25 := rfl
theorem z_26 : (26 : Int32) = zI 26 := rfl
theorem z_27 : (27 : Int32) = zI 27 := rfl
theorem z_28 : (28 : Int32) = zI 28 := rfl
theorem z_29 : (29 : Int32) = zI 29 := rfl
theorem z_30 : (30 : Int32) = zI 30 := rfl
theorem z_31 : (31 : Int32) = zI 31 := rfl
theorem z_32 : (32 : Int32) = zI 32 := rfl
theorem z_58 : (58 : Int32) = zI 58 := rfl
theorem z_59 : (59 : Int32) = zI 59 := rfl
theorem z_60 : (60 : Int32) = zI 60 := rfl
theorem z_61 : (61 : Int32) = zI 61 := rfl
theorem z_62 : (62 : Int32) = zI 62 := rfl
theorem z_63 : (63 : Int32) = zI 63 := rfl
theorem z_64 : (64 : Int32) = zI 64 := rfl
theorem z_97 : (97 : Int32) = zI 97 := rfl
theorem z_99 : (99 : Int32) = zI 99 := rfl
theorem z_100 : (100 : Int32) = zI 100 := rfl
theorem z_122 : (122 : Int32) = zI 122 := rfl
theorem z_127 : (127 : Int32) = zI 127 := rfl
theorem z_300 : (300 : Int32) = zI 300 := rfl
theorem z_600 : (600 : Int32) = zI 600 := rfl
theorem z_636 : (636 : Int32) = zI 636 := rfl
theorem z_637 : (637 : Int32) = zI 637 := rfl
theorem z_635 : (635 : Int32) = zI 635 := rfl
theorem z_860 : (860 : Int32) = zI 860 := rfl
theorem z_48 : (48 : Int32) = zI 48 := rfl
theorem z_57 : (57 : Int32) = zI 57 := rfl
theorem z_255 : (255 : Int32) = zI 255 := rfl
theorem z_240 : (240 : Int32) = zI 240 := rfl
theorem z_20000 : (20000 : Int32) = zI 20000 := rfl
theorem z_200000 : (200000 : Int32) = zI 200000 := rfl
theorem z_100000 : (100000 : Int32) = zI 100000 := rfl
theorem z_10000 : (10000 : Int32) = zI 10000 := rfl
theorem z_1000 : (1000 : Int32) = zI 1000 := rfl
theorem z_m1 : (-1 : Int32) = zI (-1) := by decide
theorem z_m2 : (-2 : Int32) = zI (-2) := by decide
theorem z_m3 : (-3 : Int32) = zI (-3) := by decide
theorem z_m4 : (-4 : Int32) = zI (-4) := by decide
theorem z_m5 : (-5 : Int32) = zI (-5) := by decide
theorem z_m6 : (-6 : Int32) = zI (-6) := by decide
theorem z_m20 : (-20 : Int32) = zI (-20) := by decide
theorem z_m32 : (-32 : Int32) = zI (-32) := by decide
theorem z_m128 : (-128 : Int32) = zI (-128) := by decide
end LIT
