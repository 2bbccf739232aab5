/-! SPANS BY WHERE THEY LEAD: sets of bits, free places, codes. -/
set_option maxRecDepth 100000
section ENUM
/-- bits below k -/
def bcn (set : Nat) : Nat → Nat
  | 0 => 0
  | k + 1 => bcn set k + set / 2 ^ k % 2
theorem bcn_s (set k : Nat) : bcn set (k + 1) = bcn set k + set / 2 ^ k % 2 := rfl
def Bt (set k : Nat) : Prop := set / 2 ^ k % 2 = 1
theorem bcn_t {set k : Nat} (h : Bt set k) : bcn set (k + 1) = bcn set k + 1 := by rw [bcn_s, show set / 2 ^ k % 2 = 1 from h]
theorem bcn_f {set k : Nat} (h : ¬ Bt set k) : bcn set (k + 1) = bcn set k := by
  have : set / 2 ^ k % 2 = 0 := by
    have h2 : set / 2 ^ k % 2 ≠ 1 := h
    omega
  rw [bcn_s, this]; rfl
theorem bcn_mono {set k l : Nat} (h : k ≤ l) : bcn set k ≤ bcn set l := by
  induction l with
  | zero => rw [show k = 0 by omega]; exact Nat.le_refl _
  | succ l ih =>
    by_cases e : k = l + 1
    · rw [e]; exact Nat.le_refl _
    · rw [bcn_s]
      have := ih (by omega)
      omega
theorem bcn_le (set k : Nat) : bcn set k ≤ k := by
  induction k with
  | zero => exact Nat.le_refl _
  | succ k ih => rw [bcn_s]; omega
theorem bcn_lt {set k l : Nat} (h : Bt set k) (hk : k < l) : bcn set k < bcn set l := by
  have h1 := bcn_t h
  have h2 := bcn_mono (set := set) (show k + 1 ≤ l by omega)
  omega
/-- where the r-th row leads -/
def ldn (set : Nat) : Nat → Nat → Nat
  | 0, _ => 0
  | n + 1, r => if set / 2 ^ n % 2 = 1 ∧ bcn set n = r then n else ldn set n r
theorem ldn_at {set n k : Nat} (hk : k < n) (h : Bt set k) : ldn set n (bcn set k) = k := by
  induction n with
  | zero => omega
  | succ n ih =>
    show (if set / 2 ^ n % 2 = 1 ∧ bcn set n = bcn set k then n else ldn set n (bcn set k)) = k
    by_cases e : k = n
    · subst e
      rw [if_pos ⟨h, rfl⟩]
    · rw [if_neg (fun q => by have := bcn_lt h (show k < n by omega); omega)]
      exact ih (by omega)
theorem ldn_ok {set n r : Nat} (hr : r < bcn set n) : Bt set (ldn set n r) ∧ ldn set n r < n ∧ bcn set (ldn set n r) = r := by
  induction n with
  | zero => exact absurd hr (Nat.not_lt_zero _)
  | succ n ih =>
    show Bt set (if set / 2 ^ n % 2 = 1 ∧ bcn set n = r then n else ldn set n r) ∧ (if set / 2 ^ n % 2 = 1 ∧ bcn set n = r then n else ldn set n r) < n + 1 ∧ bcn set (if set / 2 ^ n % 2 = 1 ∧ bcn set n = r then n else ldn set n r) = r
    by_cases e : set / 2 ^ n % 2 = 1 ∧ bcn set n = r
    · rw [if_pos e]; exact ⟨e.1, by omega, e.2⟩
    · rw [if_neg e]
      have : r < bcn set n := by
        rw [bcn_s] at hr
        by_cases e1 : set / 2 ^ n % 2 = 1
        · have : bcn set n ≠ r := fun q => e ⟨e1, q⟩
          omega
        · omega
      have := ih this
      exact ⟨this.1, by omega, this.2.2⟩
theorem ldn_n {set n r : Nat} (hn : 1 ≤ n) : ldn set n r < n := by
  induction n with
  | zero => omega
  | succ n ih =>
    show (if set / 2 ^ n % 2 = 1 ∧ bcn set n = r then n else ldn set n r) < n + 1
    split
    · omega
    · by_cases e : n = 0
      · subst e; exact Nat.zero_lt_one
      · have := ih (by omega)
        omega
theorem ldn_so {set n r q : Nat} (h : r < q) (hq : q < bcn set n) : ldn set n r < ldn set n q := by
  have h1 := ldn_ok (show r < bcn set n by omega)
  have h2 := ldn_ok hq
  refine Classical.byContradiction fun hge => ?_
  have := bcn_mono (set := set) (show ldn set n q ≤ ldn set n r by omega)
  omega
/-- free places of a row that leads at l, below k -/
def pcn (set l : Nat) : Nat → Nat
  | 0 => 0
  | k + 1 => pcn set l k + if l < k ∧ ¬ set / 2 ^ k % 2 = 1 then 1 else 0
def Fr (set l k : Nat) : Prop := l < k ∧ ¬ Bt set k
theorem pcn_t {set l k : Nat} (h : Fr set l k) : pcn set l (k + 1) = pcn set l k + 1 := by
  exact congrArg (fun x => pcn set l k + x) (if_pos h)
theorem pcn_f {set l k : Nat} (h : ¬ Fr set l k) : pcn set l (k + 1) = pcn set l k := by
  exact congrArg (fun x => pcn set l k + x) (if_neg h)
theorem pcn_0 {set l k : Nat} (h : k ≤ l + 1) : pcn set l k = 0 := by
  induction k with
  | zero => rfl
  | succ k ih => rw [pcn_f (fun q => by have := q.1; omega), ih (by omega)]
theorem pcn_mono {set l k j : Nat} (h : k ≤ j) : pcn set l k ≤ pcn set l j := by
  induction j with
  | zero => rw [show k = 0 by omega]; exact Nat.le_refl _
  | succ j ih =>
    by_cases e : k = j + 1
    · rw [e]; exact Nat.le_refl _
    · have h1 := ih (by omega)
      by_cases q : Fr set l j
      · rw [pcn_t q]; omega
      · rw [pcn_f q]; exact h1
theorem pcn_lt {set l k j : Nat} (h : Fr set l k) (hk : k < j) : pcn set l k < pcn set l j := by
  have h1 := pcn_t h
  have h2 := pcn_mono (set := set) (l := l) (show k + 1 ≤ j by omega)
  omega
theorem pcn_inj {set l k j : Nat} (h : Fr set l k) (h' : Fr set l j) (e : pcn set l k = pcn set l j) : k = j := by
  rcases Nat.lt_trichotomy k j with c | c | c
  · have := pcn_lt h c; omega
  · exact c
  · have := pcn_lt h' c; omega
theorem pcn_ex {set l n i : Nat} (h : i < pcn set l n) : ∃ k, k < n ∧ Fr set l k ∧ pcn set l k = i := by
  induction n with
  | zero => exact absurd h (Nat.not_lt_zero _)
  | succ n ih =>
    by_cases q : Fr set l n
    · rw [pcn_t q] at h
      by_cases e : pcn set l n = i
      · exact ⟨n, by omega, q, e⟩
      · obtain ⟨k, h1, h2⟩ := ih (by omega)
        exact ⟨k, by omega, h2⟩
    · rw [pcn_f q] at h
      obtain ⟨k, h1, h2⟩ := ih h
      exact ⟨k, by omega, h2⟩
/-- free places of the rows below r -/
def pon (set n : Nat) : Nat → Nat
  | 0 => 0
  | r + 1 => pon set n r + pcn set (ldn set n r) n
theorem pon_s (set n r : Nat) : pon set n (r + 1) = pon set n r + pcn set (ldn set n r) n := rfl
theorem pon_mono {set n r q : Nat} (h : r ≤ q) : pon set n r ≤ pon set n q := by
  induction q with
  | zero => rw [show r = 0 by omega]; exact Nat.le_refl _
  | succ q ih =>
    by_cases e : r = q + 1
    · rw [e]; exact Nat.le_refl _
    · rw [pon_s]
      have := ih (by omega)
      omega
/-- the number of a free place -/
def pos (set n r k : Nat) : Nat := pon set n r + pcn set (ldn set n r) k
theorem pos_lt {set n r k : Nat} (hk : k < n) (h : Fr set (ldn set n r) k) : pos set n r k < pon set n (r + 1) := by
  unfold pos
  rw [pon_s]
  have := pcn_lt h hk
  omega
theorem pos_inj {set n r k r' k' : Nat} (hk : k < n) (hk' : k' < n) (h : Fr set (ldn set n r) k) (h' : Fr set (ldn set n r') k') (e : pos set n r k = pos set n r' k') : r = r' ∧ k = k' := by
  have h1 := pos_lt hk h
  have h2 := pos_lt hk' h'
  have h3 : pon set n r ≤ pos set n r k := Nat.le_add_right _ _
  have h4 : pon set n r' ≤ pos set n r' k' := Nat.le_add_right _ _
  have er : r = r' := by
    rcases Nat.lt_trichotomy r r' with c | c | c
    · have := pon_mono (set := set) (n := n) (show r + 1 ≤ r' by omega); omega
    · exact c
    · have := pon_mono (set := set) (n := n) (show r' + 1 ≤ r by omega); omega
  subst er
  refine ⟨rfl, pcn_inj h h' ?_⟩
  unfold pos at e
  omega
theorem pos_ex {set n m i : Nat} (h : i < pon set n m) : ∃ r k, r < m ∧ k < n ∧ Fr set (ldn set n r) k ∧ pos set n r k = i := by
  induction m with
  | zero => exact absurd h (Nat.not_lt_zero _)
  | succ m ih =>
    by_cases c : i < pon set n m
    · obtain ⟨r, k, h1, h2⟩ := ih c
      exact ⟨r, k, by omega, h2⟩
    · rw [pon_s] at h
      obtain ⟨k, h1, h2, h3⟩ := pcn_ex (show i - pon set n m < pcn set (ldn set n m) n by omega)
      exact ⟨m, k, by omega, h1, h2, by unfold pos; omega⟩
/-- how many numbers are free -/
def nfr (set n : Nat) : Nat := pon set n (bcn set n)
theorem nfr_le : ∀ n, n ≤ 5 → ∀ set, set < 32 → nfr set n ≤ 6 := by
  have h : ∀ n, n < 6 → ∀ set, set < 32 → nfr set n ≤ 6 := by decide +kernel
  intro n hn
  exact h n (by omega)
variable {p : Int} {n m : Nat} {T : Nat → Nat → Nat → Int}
/-- the rows by a code -/
noncomputable def RC (p : Int) (n set : Nat) (code : Int) (r k : Nat) : Int := if k = ldn set n r then 1 else @ite _ (k < n ∧ Fr set (ldn set n r) k) (Classical.propDecidable _) (dg p code (pos set n r k)) 0
theorem RC_ld {set : Nat} {code : Int} {r : Nat} : RC p n set code r (ldn set n r) = 1 := if_pos rfl
theorem RC_fr {set : Nat} {code : Int} {r k : Nat} (hk : k < n) (h : Fr set (ldn set n r) k) : RC p n set code r k = dg p code (pos set n r k) := by
  unfold RC
  rw [if_neg (fun e => by have := h.1; omega), if_pos ⟨hk, h⟩]
theorem RC_0 {set : Nat} {code : Int} {r k : Nat} (h1 : k ≠ ldn set n r) (h : ¬ (k < n ∧ Fr set (ldn set n r) k)) : RC p n set code r k = 0 := by
  unfold RC
  rw [if_neg h1, if_neg h]
theorem RC_bd {set : Nat} {code : Int} (hp : Pr p) (hn : 1 ≤ n) (r k : Nat) : 0 ≤ RC p n set code r k ∧ RC p n set code r k < p ∧ (n ≤ k → RC p n set code r k = 0) := by
  have h1 := hp.pos
  have hl := ldn_n (set := set) (r := r) hn
  by_cases e : k = ldn set n r
  · rw [e, RC_ld]
    exact ⟨by omega, by omega, fun h => by omega⟩
  · by_cases f : k < n ∧ Fr set (ldn set n r) k
    · rw [RC_fr f.1 f.2]
      have := dg_bd (p := p) (v := code) (by omega) (pos set n r k)
      exact ⟨this.1, this.2, fun h => by omega⟩
    · rw [RC_0 e f]
      exact ⟨by omega, by omega, fun _ => rfl⟩
theorem ech_rows {R : Nat → Nat → Int} {ld : Nat → Nat} (h1 : ∀ r, r < m → ld r < n) (h2 : ∀ r, r < m → ∀ q, q < m → Cg p (R r (ld q)) (if r = q then 1 else 0)) (h3 : ∀ r, r < m → ∀ k, k < ld r → Cg p (R r k) 0) : Ech p n m R ld (Rs p n m R) := by
  refine ⟨Rs.sb, fun r hr => Rs.mem hr, h1, h2, h3, fun v hv hz => ?_⟩
  have hS : Sbp p n (fun v => Vq p n v (fun k => sm m (fun r => v (ld r) * R r k))) := by
    refine ⟨fun u v hu e k hk => ?_, fun k _ => ?_, fun c u v hu hv k hk => ?_⟩
    · refine (e k hk).sy.tr ((hu k hk).tr (Cg.sm (fun r hr => (e (ld r) (h1 r hr)).mul Cg.rf)))
    · refine Cg.of ((sm_congr (g := fun _ => 0) (fun r _ => by simp)).trans (sm_zero m)).symm
    · refine ((hu k hk).add (Cg.ml c (hv k hk))).tr (Cg.of ?_)
      show sm m (fun r => u (ld r) * R r k) + c * sm m (fun r => v (ld r) * R r k) = sm m (fun r => (u (ld r) + c * v (ld r)) * R r k)
      rw [← sm_mul, ← sm_add]
      exact sm_congr (fun r _ => by grind)
  have := Rs.le hS (fun r hr k _ => ?_) hv
  · intro k hk
    refine (this k hk).tr ((Cg.sm (g := fun _ => 0) (fun r hr => ?_)).tr (Cg.of (sm_zero m)))
    have := (hz r hr).mul (Cg.rf (a := R r k))
    simpa using this
  · refine ((Cg.sm (g := fun q => if q = r then R q k else 0) (fun q hq => ?_)).tr (Cg.of (sm_one hr _))).sy
    have := (h2 r hr q hq).mul (Cg.rf (a := R q k))
    by_cases e : q = r
    · rw [if_pos e.symm, Int.one_mul] at this; rw [if_pos e]; exact this
    · rw [if_neg (fun x => e x.symm), Int.zero_mul] at this; rw [if_neg e]; exact this
theorem RC_ech {set : Nat} {code : Int} : Ech p n (bcn set n) (RC p n set code) (ldn set n) (Rs p n (bcn set n) (RC p n set code)) := by
  refine ech_rows (fun r hr => (ldn_ok hr).2.1) (fun r hr q hq => Cg.of ?_) (fun r hr k hk => Cg.of (RC_0 (by omega) (fun x => by have := x.2.1; omega)))
  by_cases e : r = q
  · rw [if_pos e, e, RC_ld]
  · rw [if_neg e]
    refine RC_0 (fun x => ?_) (fun x => x.2.2 (ldn_ok hq).1)
    have h1 := (ldn_ok hr).2.2
    have h2 := (ldn_ok hq).2.2
    rw [← x, h2] at h1
    exact e h1.symm
/-- of what kind the span of a code is -/
def KDc (p : Int) (n : Nat) (T : Nat → Nat → Nat → Int) (kind set : Nat) (code : Nat) : Prop := KD p n T kind (bcn set n) (RC p n set code) (ldn set n) (Rs p n (bcn set n) (RC p n set code))
/-- how many codes are there -/
def pnf (p : Int) (n set : Nat) : Nat := (p ^ nfr set n).toNat
noncomputable def CBn (p : Int) (n : Nat) (T : Nat → Nat → Nat → Int) (kind set : Nat) : Nat := cn (pnf p n set) (KDc p n T kind set)
noncomputable def CSn (p : Int) (n : Nat) (T : Nat → Nat → Nat → Int) (size kind : Nat) : Int := sm (2 ^ n) (fun set => if bcn set n = size then (CBn p n T kind set : Int) else 0)
theorem pnf_e (hp : Pr p) {set : Nat} : ((pnf p n set : Nat) : Int) = p ^ nfr set n := by
  unfold pnf
  have : 0 < p ^ nfr set n := Int.pow_pos (by have := hp.pos; omega)
  omega
theorem pnf_bd (hp : Pr p) (hn : n ≤ 5) {set : Nat} (hs : set < 32) : pnf p n set ≤ 117649 := by
  have h6 := nfr_le n hn set hs
  have h1 : p ^ nfr set n ≤ 117649 := by
    generalize nfr set n = e at h6
    have h7 : e = 0 ∨ e = 1 ∨ e = 2 ∨ e = 3 ∨ e = 4 ∨ e = 5 ∨ e = 6 := by omega
    rcases hp with rfl | rfl | rfl | rfl <;> rcases h7 with rfl | rfl | rfl | rfl | rfl | rfl | rfl <;> decide
  have := pnf_e (n := n) hp (set := set)
  omega
end ENUM
