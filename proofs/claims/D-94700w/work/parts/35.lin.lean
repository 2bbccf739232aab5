/-! SUBSPACES of numbers mod p, by predicates; echelons; dimension by leads. -/
set_option maxRecDepth 100000
section LIN
abbrev VS : Type := (Nat → Int) → Prop
def Vq (p : Int) (n : Nat) (u v : Nat → Int) : Prop := ∀ k, k < n → Cg p (u k) (v k)
variable {p : Int} {n m : Nat} {u v w x : Nat → Int} {S S' : VS}
theorem Vq.rf : Vq p n u u := fun _ _ => Cg.rf
theorem Vq.of (h : ∀ k, k < n → u k = v k) : Vq p n u v := fun k hk => Cg.of (h k hk)
theorem Vq.sy (h : Vq p n u v) : Vq p n v u := fun k hk => (h k hk).sy
theorem Vq.tr (h : Vq p n u v) (h2 : Vq p n v w) : Vq p n u w := fun k hk => (h k hk).tr (h2 k hk)
def Sbp (p : Int) (n : Nat) (S : VS) : Prop := (∀ u v, S u → Vq p n u v → S v) ∧ S (fun _ => 0) ∧ ∀ c u v, S u → S v → S (fun k => u k + c * v k)
theorem Sbp.q (h : Sbp p n S) (hu : S u) (e : Vq p n u v) : S v := h.1 u v hu e
theorem Sbp.e (h : Sbp p n S) (hu : S u) (e : ∀ k, k < n → u k = v k) : S v := h.1 u v hu (Vq.of e)
theorem Sbp.z (h : Sbp p n S) : S (fun _ => 0) := h.2.1
theorem Sbp.ax (h : Sbp p n S) (c : Int) (hu : S u) (hv : S v) : S (fun k => u k + c * v k) := h.2.2 c u v hu hv
theorem Sbp.add (h : Sbp p n S) (hu : S u) (hv : S v) : S (fun k => u k + v k) := h.e (h.ax 1 hu hv) (fun k _ => by show u k + 1 * v k = u k + v k; rw [Int.one_mul])
theorem Sbp.sub (h : Sbp p n S) (hu : S u) (hv : S v) : S (fun k => u k - v k) := h.e (h.ax (-1) hu hv) (fun k _ => by show u k + -1 * v k = u k - v k; omega)
theorem Sbp.ml (h : Sbp p n S) (c : Int) (hv : S v) : S (fun k => c * v k) := h.e (h.ax c h.z hv) (fun k _ => by show 0 + c * v k = c * v k; omega)
theorem Sbp.sm (h : Sbp p n S) {R : Nat → Nat → Int} (c : Nat → Int) (hR : ∀ r, r < m → S (R r)) : S (fun k => sm m (fun r => c r * R r k)) := by
  induction m with
  | zero => exact h.z
  | succ m ih => exact h.ax (c m) (ih (fun r hr => hR r (by omega))) (hR m (by omega))
theorem Sbp.zv (h : Sbp p n S) (e : Vq p n v (fun _ => 0)) : S v := h.q h.z e.sy
/-- the zero space -/
def Zs (p : Int) (n : Nat) : VS := fun v => Vq p n v (fun _ => 0)
theorem Zs.sb : Sbp p n (Zs p n) := by
  refine ⟨fun u v hu e => e.sy.tr hu, Vq.rf, fun c u v hu hv k hk => ?_⟩
  have h := (hu k hk).add (Cg.ml c (hv k hk))
  simpa using h
/-- what vectors generate -/
def Gn (p : Int) (n : Nat) (G : VS) : VS := fun v => ∀ S, Sbp p n S → (∀ g, G g → S g) → S v
variable {G G' : VS}
theorem Gn.sb : Sbp p n (Gn p n G) :=
  ⟨fun u v hu e S hS hG => hS.q (hu S hS hG) e, fun S hS _ => hS.z, fun c u v hu hv S hS hG => hS.ax c (hu S hS hG) (hv S hS hG)⟩
theorem Gn.mem (h : G v) : Gn p n G v := fun _ _ hG => hG v h
theorem Gn.le (hS : Sbp p n S) (hG : ∀ g, G g → S g) (h : Gn p n G v) : S v := h S hS hG
theorem vs_ext (h : ∀ v, S v ↔ S' v) : S = S' := funext fun v => propext (h v)
theorem vs_anti (h : ∀ v, S v → S' v) (h2 : ∀ v, S' v → S v) : S = S' := vs_ext fun v => ⟨h v, h2 v⟩
theorem Gn.mono (h : ∀ g, G g → Gn p n G' g) (hv : Gn p n G v) : Gn p n G' v := Gn.le Gn.sb h hv
theorem Gn.eq (h : ∀ g, G g → Gn p n G' g) (h2 : ∀ g, G' g → Gn p n G g) : Gn p n G = Gn p n G' := vs_anti (fun _ => Gn.mono h) (fun _ => Gn.mono h2)
theorem Gn.nil : Gn p n (fun _ => False) = Zs p n := vs_anti (fun _ h => Gn.le Zs.sb (fun _ h => h.elim) h) (fun _ h => Gn.sb.zv h)
theorem Gn.self (hS : Sbp p n S) : Gn p n S = S := vs_anti (fun _ h => Gn.le hS (fun _ h => h) h) (fun _ h => Gn.mem h)
/-- a vector more -/
def Ad (S : VS) (v : Nat → Int) : VS := fun x => ∃ c, S (fun k => x k + c * v k)
theorem Ad.sb (h : Sbp p n S) : Sbp p n (Ad S v) := by
  refine ⟨fun x y ⟨c, hx⟩ e => ⟨c, h.q hx (fun k hk => (e k hk).add Cg.rf)⟩, ⟨0, h.e h.z (fun k _ => by simp)⟩, ?_⟩
  rintro c x y ⟨c1, hx⟩ ⟨c2, hy⟩
  refine ⟨c1 + c * c2, h.e (h.ax c hx hy) (fun k _ => ?_)⟩
  show x k + c1 * v k + c * (y k + c2 * v k) = x k + c * y k + (c1 + c * c2) * v k
  grind
theorem Ad.le (h : Sbp p n S) (hx : S x) : Ad S v x := ⟨0, h.e hx (fun k _ => by simp)⟩
theorem Ad.me (h : Sbp p n S) : Ad S v v := ⟨-1, h.e h.z (fun k _ => by show 0 = v k + -1 * v k; omega)⟩
theorem Ad.min (h' : Sbp p n S') (hs : ∀ x, S x → S' x) (hv : S' v) (hx : Ad S v x) : S' x := by
  obtain ⟨c, h⟩ := hx
  refine h'.e (h'.ax (-c) (hs _ h) hv) (fun k _ => ?_)
  show x k + c * v k + -c * v k = x k
  grind
theorem Ad.same (h : Sbp p n S) (hv : S v) : Ad S v = S := vs_anti (fun _ hx => Ad.min h (fun _ h => h) hv hx) (fun _ hx => Ad.le h hx)
theorem Ad.congr (h : Sbp p n S) (hv : S (fun k => v k - w k)) : Ad S v = Ad S w := by
  refine vs_anti (fun x hx => ?_) (fun x hx => ?_)
  · refine Ad.min (Ad.sb h) (fun y hy => Ad.le h hy) ?_ hx
    exact (Ad.sb (v := w) h).e ((Ad.sb h).add (Ad.le h hv) (Ad.me h)) (fun k _ => by show v k - w k + w k = v k; omega)
  · refine Ad.min (Ad.sb h) (fun y hy => Ad.le h hy) ?_ hx
    exact (Ad.sb (v := v) h).e ((Ad.sb h).sub (Ad.me h) (Ad.le h hv)) (fun k _ => by show v k - (v k - w k) = w k; omega)
theorem Ad.gn : Ad (Gn p n G) v = Gn p n (fun g => G g ∨ g = v) := by
  refine vs_anti (fun x hx => ?_) (fun x hx => ?_)
  · exact Ad.min Gn.sb (fun y hy => Gn.mono (fun g hg => Gn.mem (Or.inl hg)) hy) (Gn.mem (Or.inr rfl)) hx
  · refine Gn.le (Ad.sb Gn.sb) (fun g hg => ?_) hx
    rcases hg with hg | rfl
    · exact Ad.le Gn.sb (Gn.mem hg)
    · exact Ad.me Gn.sb
/-- leads -/
def Ldv (p : Int) (n : Nat) (v : Nat → Int) (l : Nat) : Prop := l < n ∧ ¬ Cg p (v l) 0 ∧ ∀ k, k < l → Cg p (v k) 0
def Lds (p : Int) (n : Nat) (S : VS) (l : Nat) : Prop := ∃ v, S v ∧ Ldv p n v l
theorem ld_or (p : Int) (v : Nat → Int) : ∀ n, Vq p n v (fun _ => 0) ∨ ∃ l, Ldv p n v l := by
  intro n
  induction n with
  | zero => exact Or.inl (fun k hk => absurd hk (by omega))
  | succ n ih =>
    rcases ih with h | ⟨l, h1, h2, h3⟩
    · by_cases e : Cg p (v n) 0
      · refine Or.inl (fun k hk => ?_)
        by_cases q : k = n
        · rw [q]; exact e
        · exact h k (by omega)
      · exact Or.inr ⟨n, by omega, e, h⟩
    · exact Or.inr ⟨l, by omega, h2, h3⟩
theorem Ldv.q {l : Nat} (h : Ldv p n v l) (e : Vq p n v w) : Ldv p n w l :=
  ⟨h.1, fun h2 => h.2.1 ((e l h.1).tr h2), fun k hk => (e k (by have := h.1; omega)).sy.tr (h.2.2 k hk)⟩
/-- an echelon of a subspace -/
def Ech (p : Int) (n m : Nat) (R : Nat → Nat → Int) (ld : Nat → Nat) (S : VS) : Prop :=
  Sbp p n S ∧ (∀ r, r < m → S (R r)) ∧ (∀ r, r < m → ld r < n) ∧ (∀ r, r < m → ∀ q, q < m → Cg p (R r (ld q)) (if r = q then 1 else 0)) ∧
    (∀ r, r < m → ∀ k, k < ld r → Cg p (R r k) 0) ∧ ∀ v, S v → (∀ r, r < m → Cg p (v (ld r)) 0) → Vq p n v (fun _ => 0)
variable {R R' : Nat → Nat → Int} {ld ld' : Nat → Nat}
theorem Ech.sb (h : Ech p n m R ld S) : Sbp p n S := h.1
theorem Ech.row (h : Ech p n m R ld S) {r : Nat} (hr : r < m) : S (R r) := h.2.1 r hr
theorem Ech.ldn (h : Ech p n m R ld S) {r : Nat} (hr : r < m) : ld r < n := h.2.2.1 r hr
theorem Ech.dl (h : Ech p n m R ld S) {r q : Nat} (hr : r < m) (hq : q < m) : Cg p (R r (ld q)) (if r = q then 1 else 0) := h.2.2.2.1 r hr q hq
theorem Ech.on (h : Ech p n m R ld S) {r : Nat} (hr : r < m) : Cg p (R r (ld r)) 1 := by
  have := h.dl hr hr
  rwa [if_pos rfl] at this
theorem Ech.off (h : Ech p n m R ld S) {r q : Nat} (hr : r < m) (hq : q < m) (ne : r ≠ q) : Cg p (R r (ld q)) 0 := by
  have := h.dl hr hq
  rwa [if_neg ne] at this
theorem Ech.lo (h : Ech p n m R ld S) {r k : Nat} (hr : r < m) (hk : k < ld r) : Cg p (R r k) 0 := h.2.2.2.2.1 r hr k hk
theorem Ech.nf (h : Ech p n m R ld S) (hv : S v) (hz : ∀ r, r < m → Cg p (v (ld r)) 0) : Vq p n v (fun _ => 0) := h.2.2.2.2.2 v hv hz
theorem Ech.nil : Ech p n 0 R ld (Zs p n) :=
  ⟨Zs.sb, fun _ h => absurd h (by omega), fun _ h => absurd h (by omega), fun _ h => absurd h (by omega), fun _ h => absurd h (by omega), fun _ h _ => h⟩
theorem Ech.inj (hp : Pr p) (h : Ech p n m R ld S) {r q : Nat} (hr : r < m) (hq : q < m) (e : ld r = ld q) : r = q := by
  refine Classical.byContradiction fun ne => ?_
  have h1 := h.off hr hq ne
  rw [← e] at h1
  exact hp.one ((h.on hr).sy.tr h1)
/-- what a subspace makes of a vector by its leads -/
theorem Ech.exp (h : Ech p n m R ld S) (hv : S v) : Vq p n v (fun k => sm m (fun r => v (ld r) * R r k)) := by
  have h1 : S (fun k => v k - sm m (fun r => v (ld r) * R r k)) := h.sb.sub hv (h.sb.sm _ (fun r hr => h.row hr))
  have h2 := h.nf h1 (fun q hq => ?_)
  · intro k hk
    have := (h2 k hk).add (Cg.rf (a := sm m (fun r => v (ld r) * R r k)))
    simpa using this
  · have h3 : Cg p (sm m (fun r => v (ld r) * R r (ld q))) (v (ld q)) := by
      refine (Cg.sm (g := fun r => if r = q then v (ld r) else 0) (fun r hr => ?_)).tr (Cg.of (sm_one hq _))
      have := Cg.ml (v (ld r)) (h.dl hr hq)
      by_cases e : r = q
      · rw [if_pos e, Int.mul_one] at this; rw [if_pos e]; exact this
      · rw [if_neg e, Int.mul_zero] at this; rw [if_neg e]; exact this
    have := (Cg.rf (a := v (ld q))).sub h3
    simpa using this
theorem Ech.lds (hp : Pr p) (h : Ech p n m R ld S) {l : Nat} : Lds p n S l ↔ ∃ r, r < m ∧ ld r = l := by
  constructor
  · rintro ⟨v, hv, hl, hn, hz⟩
    refine Classical.byContradiction fun ne => hn ?_
    refine (h.exp hv l hl).tr ((Cg.sm (g := fun _ => 0) (fun r hr => ?_)).tr (Cg.of (sm_zero m)))
    by_cases e : ld r < l
    · have := (hz _ e).mul (Cg.rf (a := R r l))
      simpa using this
    · have e2 : l < ld r := by
        have : ld r ≠ l := fun q => ne ⟨r, hr, q⟩
        omega
      have := Cg.ml (v (ld r)) (h.lo hr e2)
      simpa using this
  · rintro ⟨r, hr, rfl⟩
    exact ⟨R r, h.row hr, h.ldn hr, fun e => hp.one ((h.on hr).sy.tr e), fun k hk => h.lo hr hk⟩
/-- counting -/
noncomputable def cn (n : Nat) (P : Nat → Prop) : Nat := match n with
  | 0 => 0
  | n + 1 => cn n P + @ite _ (P n) (Classical.propDecidable _) 1 0
variable {P Q : Nat → Prop}
theorem cn_pos (h : P n) : cn (n + 1) P = cn n P + 1 := by
  show cn n P + _ = _
  rw [if_pos h]
theorem cn_neg (h : ¬ P n) : cn (n + 1) P = cn n P := by
  show cn n P + _ = _
  rw [if_neg h]; rfl
theorem cn_congr (h : ∀ k, k < n → (P k ↔ Q k)) : cn n P = cn n Q := by
  induction n with
  | zero => rfl
  | succ n ih =>
    have e := ih (fun k hk => h k (by omega))
    by_cases q : P n
    · rw [cn_pos q, cn_pos ((h n (by omega)).mp q), e]
    · rw [cn_neg q, cn_neg (fun r => q ((h n (by omega)).mpr r)), e]
theorem cn_mono (h : ∀ k, k < n → P k → Q k) : cn n P ≤ cn n Q := by
  induction n with
  | zero => exact Nat.le_refl _
  | succ n ih =>
    have e := ih (fun k hk => h k (by omega))
    by_cases q : P n
    · rw [cn_pos q, cn_pos (h n (by omega) q)]; omega
    · rw [cn_neg q]
      by_cases r : Q n
      · rw [cn_pos r]; omega
      · rw [cn_neg r]; omega
theorem cn_eq (h : ∀ k, k < n → P k → Q k) (e : cn n P = cn n Q) : ∀ k, k < n → Q k → P k := by
  induction n with
  | zero => intro k hk; omega
  | succ n ih =>
    have hm := cn_mono (fun k (hk : k < n) => h k (by omega))
    intro k hk hQ
    by_cases q : P n
    · have e2 : cn n P = cn n Q := by
        rw [cn_pos q, cn_pos (h n (by omega) q)] at e; omega
      by_cases ek : k = n
      · rw [ek]; exact q
      · exact ih (fun k hk => h k (by omega)) e2 k (by omega) hQ
    · rw [cn_neg q] at e
      by_cases r : Q n
      · rw [cn_pos r] at e; omega
      · rw [cn_neg r] at e
        by_cases ek : k = n
        · rw [ek] at hQ; exact absurd hQ r
        · exact ih (fun k hk => h k (by omega)) e k (by omega) hQ
theorem cn_le : cn n P ≤ n := by
  induction n with
  | zero => exact Nat.le_refl _
  | succ n ih =>
    by_cases q : P n
    · rw [cn_pos q]; omega
    · rw [cn_neg q]; omega
theorem cn_false (h : ∀ k, k < n → ¬ P k) : cn n P = 0 := by
  induction n with
  | zero => rfl
  | succ n ih => rw [cn_neg (h n (by omega)), ih (fun k hk => h k (by omega))]
theorem cn_true (h : ∀ k, k < n → P k) : cn n P = n := by
  induction n with
  | zero => rfl
  | succ n ih => rw [cn_pos (h n (by omega)), ih (fun k hk => h k (by omega))]
theorem cn_or {a : Nat} (ha : a < n) (hP : ¬ P a) : cn n (fun k => P k ∨ k = a) = cn n P + 1 := by
  induction n with
  | zero => omega
  | succ n ih =>
    by_cases e : n = a
    · subst e
      rw [cn_pos (P := fun k => P k ∨ k = n) (Or.inr rfl), cn_neg hP]
      rw [cn_congr (Q := P) (fun k hk => ⟨fun h => h.resolve_right (by omega), Or.inl⟩)]
    · have h1 := ih (by omega)
      by_cases q : P n
      · rw [cn_pos (P := fun k => P k ∨ k = a) (Or.inl q), cn_pos q, h1]
      · rw [cn_neg (P := fun k => P k ∨ k = a) (fun h => h.elim q e), cn_neg q, h1]
theorem cn_range (hl : ∀ r, r < m → ld r < n) (hi : ∀ r, r < m → ∀ q, q < m → ld r = ld q → r = q) : cn n (fun l => ∃ r, r < m ∧ ld r = l) = m := by
  induction m with
  | zero => exact cn_false (fun k _ ⟨r, hr, _⟩ => absurd hr (by omega))
  | succ m ih =>
    have h1 := ih (fun r hr => hl r (by omega)) (fun r hr q hq => hi r (by omega) q (by omega))
    have h2 : ¬ ∃ r, r < m ∧ ld r = ld m := fun ⟨r, hr, e⟩ => by
      have := hi r (by omega) m (by omega) e
      omega
    rw [cn_congr (Q := fun l => (∃ r, r < m ∧ ld r = l) ∨ l = ld m), cn_or (hl m (by omega)) h2, h1]
    intro l _
    constructor
    · rintro ⟨r, hr, e⟩
      by_cases q : r = m
      · rw [q] at e; exact Or.inr e.symm
      · exact Or.inl ⟨r, by omega, e⟩
    · rintro (⟨r, hr, e⟩ | e)
      · exact ⟨r, by omega, e⟩
      · exact ⟨m, by omega, e.symm⟩
/-- the dimension -/
noncomputable def dm (p : Int) (n : Nat) (S : VS) : Nat := cn n (Lds p n S)
theorem Ech.dm (hp : Pr p) (h : Ech p n m R ld S) : dm p n S = m := by
  show cn n (Lds p n S) = m
  rw [cn_congr (Q := fun l => ∃ r, r < m ∧ ld r = l) (fun l _ => h.lds hp)]
  exact cn_range (fun r hr => h.ldn hr) (fun r hr q hq e => h.inj hp hr hq e)
theorem dm_le : dm p n S ≤ n := cn_le
theorem dm_mono (h : ∀ v, S v → S' v) : dm p n S ≤ dm p n S' := cn_mono (fun _ _ ⟨v, hv, hl⟩ => ⟨v, h v hv, hl⟩)
/-- joining a vector -/
theorem Ech.join (hp : Pr p) (h : Ech p n m R ld S) {l : Nat} {a : Int} (hw : S (fun k => v k - w k)) (hz : ∀ r, r < m → Cg p (w (ld r)) 0) (hl : Ldv p n w l)
    (ha : Cg p (a * w l) 1) (hu : Vq p n u (fun k => a * w k)) (hR : ∀ r, r < m → Vq p n (R' r) (fun k => R r k - R r l * u k)) :
    Ech p n (m + 1) (fun r => if r < m then R' r else u) (fun r => if r < m then ld r else l) (Ad S v) := by
  have hs := Ad.sb (v := v) h.sb
  have hwA : Ad S v w := by rw [Ad.congr h.sb hw]; exact Ad.me h.sb
  have huA : Ad S v u := hs.q (hs.ml a hwA) hu.sy
  have hu0 : ∀ k, k < l → Cg p (u k) 0 := fun k hk => by
    have := (hu k (by have := hl.1; omega)).tr (Cg.ml a (hl.2.2 k hk))
    simpa using this
  have hul : Cg p (u l) 1 := (hu l hl.1).tr ha
  have hud : ∀ r, r < m → Cg p (u (ld r)) 0 := fun r hr => by
    have := (hu _ (h.ldn hr)).tr (Cg.ml a (hz r hr))
    simpa using this
  refine ⟨hs, fun r hr => ?_, fun r hr => ?_, fun r hr q hq => ?_, fun r hr k hk => ?_, fun x hx h0 => ?_⟩
  · by_cases e : r < m
    · simp only [if_pos e]
      refine hs.q (hs.ax (-(R r l)) (Ad.le h.sb (h.row e)) huA) (fun k hk => ?_)
      exact (Cg.of (by grind)).tr (hR r e k hk).sy
    · simp only [if_neg e]; exact huA
  · by_cases e : r < m
    · simp only [if_pos e]; exact h.ldn e
    · simp only [if_neg e]; exact hl.1
  · by_cases e : r < m
    · by_cases f : q < m
      · simp only [if_pos e, if_pos f]
        refine (hR r e _ (h.ldn f)).tr ?_
        have := (h.dl e f).sub (Cg.ml (R r l) (hud q f))
        simpa using this
      · have ne : r ≠ q := by omega
        simp only [if_pos e, if_neg f, if_neg ne]
        refine (hR r e l hl.1).tr ?_
        have := (Cg.rf (a := R r l)).sub (Cg.ml (R r l) hul)
        simpa using this
    · by_cases f : q < m
      · have ne : r ≠ q := by omega
        simp only [if_neg e, if_pos f, if_neg ne]
        exact hud q f
      · have ee : r = q := by omega
        simp only [if_neg e, if_neg f, if_pos ee]
        exact hul
  · by_cases e : r < m
    · simp only [if_pos e] at hk ⊢
      have hkn : k < n := Nat.lt_trans hk (h.ldn e)
      refine (hR r e k hkn).tr ?_
      by_cases f : k < l
      · have := (h.lo e hk).sub (Cg.ml (R r l) (hu0 k f))
        simpa using this
      · have := (h.lo e hk).sub ((h.lo e (show l < ld r by omega)).mul (Cg.rf (a := u k)))
        simpa using this
    · simp only [if_neg e] at hk ⊢
      exact hu0 k hk
  · obtain ⟨c, hc⟩ := hx
    have hy : S (fun k => x k + c * w k) := by
      refine h.sb.e (h.sb.ax (-c) hc hw) (fun k _ => ?_)
      show x k + c * v k + -c * (v k - w k) = x k + c * w k
      grind
    have hy0 := h.nf hy (fun r hr => by
      have h1 := h0 r (by omega)
      simp only [if_pos hr] at h1
      have := h1.add (Cg.ml c (hz r hr))
      simpa using this)
    have hxl := h0 m (by omega)
    simp only [if_neg (Nat.lt_irrefl m)] at hxl
    have h2 : Cg p (w l * c) 0 := by
      have := (hy0 l hl.1).sub hxl
      refine (Cg.of ?_).tr this
      grind
    have hc0 := hp.dom h2 hl.2.1
    intro k hk
    have := (hy0 k hk).sub (hc0.mul (Cg.rf (a := w k)))
    refine (Cg.of ?_).tr (this.tr (Cg.of ?_))
    · grind
    · grind
theorem Ech.perm {σ : Nat → Nat} (h : Ech p n m R ld S) (h1 : ∀ r, r < m → σ r < m) (h2 : ∀ r, r < m → ∀ q, q < m → σ r = σ q → r = q) (h3 : ∀ r, r < m → ∃ q, q < m ∧ σ q = r)
    (hR : ∀ r, r < m → Vq p n (R' r) (R (σ r))) (hl : ∀ r, r < m → ld' r = ld (σ r)) : Ech p n m R' ld' S := by
  refine ⟨h.sb, fun r hr => h.sb.q (h.row (h1 r hr)) (hR r hr).sy, fun r hr => by rw [hl r hr]; exact h.ldn (h1 r hr), fun r hr q hq => ?_, fun r hr k hk => ?_, fun v hv hz => ?_⟩
  · rw [hl q hq]
    refine (hR r hr _ (h.ldn (h1 q hq))).tr ((h.dl (h1 r hr) (h1 q hq)).tr (Cg.of ?_))
    by_cases e : r = q
    · rw [if_pos e, if_pos (by rw [e])]
    · rw [if_neg e, if_neg (fun f => e (h2 r hr q hq f))]
  · rw [hl r hr] at hk
    exact (hR r hr k (Nat.lt_trans hk (h.ldn (h1 r hr)))).tr (h.lo (h1 r hr) hk)
  · refine h.nf hv (fun r hr => ?_)
    obtain ⟨q, hq, rfl⟩ := h3 r hr
    rw [← hl q hq]
    exact hz q hq
theorem Ech.q (h : Ech p n m R ld S) (hR : ∀ r, r < m → Vq p n (R' r) (R r)) (hl : ∀ r, r < m → ld' r = ld r) : Ech p n m R' ld' S :=
  h.perm (σ := fun r => r) (fun _ h => h) (fun _ _ _ _ e => e) (fun r hr => ⟨r, hr, rfl⟩) hR hl
/-- what is left of a vector -/
theorem Ech.red (h : Ech p n m R ld S) (v : Nat → Int) : ∃ w : Nat → Int, S (fun k => v k - w k) ∧ ∀ r, r < m → Cg p (w (ld r)) 0 := by
  refine ⟨fun k => v k - sm m (fun r => v (ld r) * R r k), ?_, fun q hq => ?_⟩
  · exact h.sb.e (h.sb.sm (fun r => v (ld r)) (fun r hr => h.row hr)) (fun k _ => by show _ = v k - (v k - _); omega)
  · have h3 : Cg p (sm m (fun r => v (ld r) * R r (ld q))) (v (ld q)) := by
      refine (Cg.sm (g := fun r => if r = q then v (ld r) else 0) (fun r hr => ?_)).tr (Cg.of (sm_one hq _))
      have := Cg.ml (v (ld r)) (h.dl hr hq)
      by_cases e : r = q
      · rw [if_pos e, Int.mul_one] at this; rw [if_pos e]; exact this
      · rw [if_neg e, Int.mul_zero] at this; rw [if_neg e]; exact this
    have := (Cg.rf (a := v (ld q))).sub h3
    simpa using this
/-- a vector more: an echelon with one row more, or the same -/
theorem Ech.ad (hp : Pr p) (h : Ech p n m R ld S) (v : Nat → Int) : ∃ m' R' ld', m ≤ m' ∧ m' ≤ m + 1 ∧ Ech p n m' R' ld' (Ad S v) := by
  obtain ⟨w, hw, hz⟩ := h.red v
  rcases ld_or p w n with h0 | ⟨l, hl⟩
  · have hv : S v := h.sb.q hw (fun k hk => by
      have := (Cg.rf (a := v k)).sub (h0 k hk)
      simpa using this)
    exact ⟨m, R, ld, by omega, by omega, by rw [Ad.same h.sb hv]; exact h⟩
  · obtain ⟨a, _, _, ha⟩ := hp.inv hl.2.1
    exact ⟨m + 1, _, _, by omega, by omega, h.join hp hw hz hl ha Vq.rf (R' := fun r k => R r k - R r l * (a * w k)) (fun r _ => Vq.rf)⟩
/-- each subspace has an echelon -/
theorem Ech.all (hp : Pr p) (h : Sbp p n S) : ∃ m R ld, Ech p n m R ld S := by
  have key : ∀ d, d ≤ n → ∃ m R ld, Ech p n m R ld (fun v => S v ∧ ∀ k, k < n - d → Cg p (v k) 0) := by
    intro d
    induction d with
    | zero =>
      intro _
      refine ⟨0, fun _ _ => 0, fun _ => 0, ?_⟩
      have e : (fun v => S v ∧ ∀ k, k < n - 0 → Cg p (v k) 0) = Zs p n := vs_anti (fun v h => h.2) (fun v hv => ⟨h.zv hv, hv⟩)
      rw [e]
      exact Ech.nil
    | succ d ih =>
      intro hd
      obtain ⟨m, R, ld, hE⟩ := ih (by omega)
      by_cases hx : ∃ v, S v ∧ (∀ k, k < n - (d + 1) → Cg p (v k) 0) ∧ ¬ Cg p (v (n - (d + 1))) 0
      · obtain ⟨v, hv, hv0, hvl⟩ := hx
        obtain ⟨m', R', ld', _, _, hE'⟩ := hE.ad hp v
        refine ⟨m', R', ld', ?_⟩
        have e : (fun v => S v ∧ ∀ k, k < n - (d + 1) → Cg p (v k) 0) = Ad (fun v => S v ∧ ∀ k, k < n - d → Cg p (v k) 0) v := by
          refine vs_anti (fun x hx => ?_) (fun x hx => ?_)
          · obtain ⟨a, _, _, ha⟩ := hp.inv hvl
            refine ⟨-(x (n - (d + 1)) * a), h.ax _ hx.1 hv, fun k hk => ?_⟩
            by_cases ek : k < n - (d + 1)
            · have := (hx.2 k ek).add (Cg.ml (-(x (n - (d + 1)) * a)) (hv0 k ek))
              simpa using this
            · have ek : k = n - (d + 1) := by omega
              rw [ek]
              have := (Cg.rf (a := x (n - (d + 1)))).sub (Cg.ml (x (n - (d + 1))) ha)
              refine (Cg.of ?_).tr (this.tr (Cg.of ?_))
              · grind
              · grind
          · obtain ⟨c, h1, h2⟩ := hx
            refine ⟨?_, fun k hk => ?_⟩
            · refine h.e (h.ax (-c) h1 hv) (fun k _ => ?_)
              show x k + c * v k + -c * v k = x k
              grind
            · have := (h2 k (by omega)).sub (Cg.ml c (hv0 k hk))
              refine (Cg.of ?_).tr (this.tr (Cg.of ?_))
              · grind
              · grind
        rw [e]
        exact hE'
      · refine ⟨m, R, ld, ?_⟩
        have e : (fun v => S v ∧ ∀ k, k < n - (d + 1) → Cg p (v k) 0) = (fun v => S v ∧ ∀ k, k < n - d → Cg p (v k) 0) := by
          refine vs_anti (fun x hx1 => ⟨hx1.1, fun k hk => ?_⟩) (fun x hx1 => ⟨hx1.1, fun k hk => hx1.2 k (by omega)⟩)
          by_cases ek : k < n - (d + 1)
          · exact hx1.2 k ek
          · have ek : k = n - (d + 1) := by omega
            rw [ek]
            exact Classical.byContradiction fun ne => hx ⟨x, hx1.1, hx1.2, ne⟩
        rw [e]
        exact hE
  obtain ⟨m, R, ld, hE⟩ := key n (Nat.le_refl n)
  refine ⟨m, R, ld, ?_⟩
  have e : (fun v => S v ∧ ∀ k, k < n - n → Cg p (v k) 0) = S := vs_anti (fun v hv => hv.1) (fun v hv => ⟨hv, fun k hk => absurd hk (by omega)⟩)
  rw [← e]
  exact hE
/-- as large, and within: the same -/
theorem dm_eq (hp : Pr p) (h : Sbp p n S) (h' : Sbp p n S') (hs : ∀ v, S v → S' v) (e : dm p n S = dm p n S') : S = S' := by
  obtain ⟨m, R, ld, hE⟩ := Ech.all hp h
  refine vs_anti hs (fun v hv => ?_)
  obtain ⟨w, hw, hz⟩ := hE.red v
  have hw' : S' w := h'.e (h'.sub hv (hs _ hw)) (fun k _ => by show v k - (v k - w k) = w k; omega)
  rcases ld_or p w n with h0 | ⟨l, hl⟩
  · refine h.q hw (fun k hk => ?_)
    have := (Cg.rf (a := v k)).sub (h0 k hk)
    simpa using this
  · have h1 : Lds p n S l := cn_eq (fun l _ ⟨x, hx, hq⟩ => ⟨x, hs x hx, hq⟩) e l hl.1 ⟨w, hw', hl⟩
    obtain ⟨r, hr, rfl⟩ := (hE.lds hp).mp h1
    exact absurd (hz r hr) hl.2.1
theorem dm_zero (hp : Pr p) (h : Sbp p n S) : dm p n S = 0 ↔ ∀ v, S v → Vq p n v (fun _ => 0) := by
  have e0 : dm p n (Zs p n) = 0 := (Ech.nil (R := fun _ _ => 0) (ld := fun _ => 0)).dm hp
  constructor
  · intro e v hv
    have := dm_eq hp Zs.sb h (fun v hv => h.zv hv) (by rw [e0, e])
    rw [← this] at hv
    exact hv
  · intro hz
    have := dm_mono (p := p) (n := n) (S := S) (S' := Zs p n) hz
    omega
theorem dm_ad (hp : Pr p) (h : Sbp p n S) : dm p n (Ad S v) ≤ dm p n S + 1 := by
  obtain ⟨m, R, ld, hE⟩ := Ech.all hp h
  obtain ⟨m', R', ld', _, h2, hE'⟩ := hE.ad hp v
  rw [hE.dm hp, hE'.dm hp]
  exact h2
theorem dm_gn (hp : Pr p) (E : Nat → Nat → Int) : ∀ N, dm p n (Gn p n (fun g => ∃ i, i < N ∧ g = E i)) ≤ N := by
  intro N
  induction N with
  | zero =>
    have e : (fun g => ∃ i, i < 0 ∧ g = E i) = (fun _ => False) := vs_anti (fun g ⟨i, hi, _⟩ => absurd hi (by omega)) (fun g h => h.elim)
    rw [e, Gn.nil, (Ech.nil (R := fun _ _ => 0) (ld := fun _ => 0)).dm hp]
    exact Nat.le_refl _
  | succ N ih =>
    have e : (fun g => ∃ i, i < N + 1 ∧ g = E i) = (fun g => (∃ i, i < N ∧ g = E i) ∨ g = E N) := by
      refine vs_anti (fun g ⟨i, hi, e⟩ => ?_) (fun g h => ?_)
      · by_cases q : i = N
        · rw [q] at e; exact Or.inr e
        · exact Or.inl ⟨i, by omega, e⟩
      · rcases h with ⟨i, hi, e⟩ | e
        · exact ⟨i, by omega, e⟩
        · exact ⟨N, by omega, e⟩
    rw [e, ← Ad.gn]
    exact Nat.le_trans (dm_ad hp Gn.sb) (by omega)
/-- rows and columns -/
theorem rank_le (hp : Pr p) (A : Nat → Nat → Int) (a b : Nat) : dm p a (Gn p a (fun g => ∃ j, j < b ∧ g = fun i => A i j)) ≤ dm p b (Gn p b (fun g => ∃ i, i < a ∧ g = A i)) := by
  obtain ⟨m, R, ld, hE⟩ := Ech.all hp (Gn.sb (p := p) (n := b) (G := fun g => ∃ i, i < a ∧ g = A i))
  rw [hE.dm hp]
  refine Nat.le_trans (dm_mono (S' := Gn p a (fun g => ∃ r, r < m ∧ g = fun i => A i (ld r))) (fun v hv => ?_)) (dm_gn hp (fun r i => A i (ld r)) m)
  refine Gn.mono (fun g ⟨j, hj, e⟩ => ?_) hv
  subst e
  have h1 : Gn p a (fun g => ∃ r, r < m ∧ g = fun i => A i (ld r)) (fun i => sm m (fun r => R r j * A i (ld r))) :=
    Gn.sb.sm (R := fun r i => A i (ld r)) (fun r => R r j) (fun r hr => Gn.mem ⟨r, hr, rfl⟩)
  refine Gn.sb.q h1 (fun i hi => ?_)
  have h2 := hE.exp (Gn.mem ⟨i, hi, rfl⟩) j hj
  refine (h2.tr (Cg.of (sm_congr (fun r _ => Int.mul_comm ..)))).sy
theorem rank_tr (hp : Pr p) (A : Nat → Nat → Int) (a b : Nat) : dm p a (Gn p a (fun g => ∃ j, j < b ∧ g = fun i => A i j)) = dm p b (Gn p b (fun g => ∃ i, i < a ∧ g = A i)) :=
  Nat.le_antisymm (rank_le hp A a b) (rank_le hp (fun j i => A i j) b a)
/-- a staircase of rows, the last ones first -/
theorem lds_ad (hp : Pr p) (h : Sbp p n S) {l : Nat} (hl : Ldv p n v l) (hz : ∀ x, S x → ∀ k, k ≤ l → Cg p (x k) 0) {l' : Nat} : Lds p n (Ad S v) l' ↔ Lds p n S l' ∨ l' = l := by
  constructor
  · rintro ⟨x, ⟨c, hx⟩, h1, h2, h3⟩
    by_cases hc : Cg p c 0
    · refine Or.inl ⟨x, h.q hx (fun k _ => ?_), h1, h2, h3⟩
      have := (Cg.rf (a := x k)).add (hc.mul (Cg.rf (a := v k)))
      simpa using this
    · right
      have hk : ∀ k, k ≤ l → Cg p (x k) (-c * v k) := fun k hk => by
        have := (hz _ hx k hk).sub (Cg.rf (a := c * v k))
        refine (Cg.of ?_).tr (this.tr (Cg.of ?_)) <;> grind
      have hxl : ¬ Cg p (x l) 0 := fun e => hl.2.1 (hp.dom (a := c) (by
        have := ((hk l (Nat.le_refl l)).sy.tr e).neg
        refine (Cg.of ?_).tr this
        grind) hc)
      have hxk : ∀ k, k < l → Cg p (x k) 0 := fun k hk2 => by
        have := (hk k (by omega)).tr (Cg.ml (-c) (hl.2.2 k hk2))
        simpa using this
      refine Classical.byContradiction fun ne => ?_
      rcases Nat.lt_or_gt_of_ne ne with q | q
      · exact h2 (hxk l' q)
      · exact hxl (h3 l q)
  · rintro (⟨x, hx, hq⟩ | rfl)
    · exact ⟨x, Ad.le h hx, hq⟩
    · exact ⟨v, Ad.me h, hl⟩
theorem rank_fw (hp : Pr p) {R : Nat → Nat → Int} {ld : Nat → Nat} {m : Nat} (hl : ∀ r, r < m → Ldv p n (R r) (ld r)) (hi : ∀ r q, r < q → q < m → ld r < ld q) :
    dm p n (Gn p n (fun g => ∃ r, r < m ∧ g = R r)) = m := by
  have key : ∀ d, d ≤ m → dm p n (Gn p n (fun g => ∃ r, m - d ≤ r ∧ r < m ∧ g = R r)) = d := by
    intro d
    induction d with
    | zero =>
      intro _
      have e : (fun g => ∃ r, m - 0 ≤ r ∧ r < m ∧ g = R r) = (fun _ => False) := vs_anti (fun g ⟨r, h1, h2, _⟩ => absurd h2 (by omega)) (fun g h => h.elim)
      rw [e, Gn.nil, (Ech.nil (R := fun _ _ => 0) (ld := fun _ => 0)).dm hp]
    | succ d ih =>
      intro hd
      have e : (fun g => ∃ r, m - (d + 1) ≤ r ∧ r < m ∧ g = R r) = (fun g => (∃ r, m - d ≤ r ∧ r < m ∧ g = R r) ∨ g = R (m - (d + 1))) := by
        refine vs_anti (fun g ⟨r, h1, h2, e⟩ => ?_) (fun g h => ?_)
        · by_cases q : r = m - (d + 1)
          · rw [q] at e; exact Or.inr e
          · exact Or.inl ⟨r, by omega, h2, e⟩
        · rcases h with ⟨r, h1, h2, e⟩ | e
          · exact ⟨r, by omega, h2, e⟩
          · exact ⟨m - (d + 1), by omega, by omega, e⟩
      rw [e, ← Ad.gn]
      have hv := hl (m - (d + 1)) (by omega)
      have hz : ∀ x, Gn p n (fun g => ∃ r, m - d ≤ r ∧ r < m ∧ g = R r) x → ∀ k, k ≤ ld (m - (d + 1)) → Cg p (x k) 0 := by
        intro x hx
        have hS : Sbp p n (fun x => ∀ k, k < n → k ≤ ld (m - (d + 1)) → Cg p (x k) 0) := by
          refine ⟨fun u v hu e k hk hk2 => (e k hk).sy.tr (hu k hk hk2), fun _ _ _ => Cg.rf, fun c u v hu hv k hk hk2 => ?_⟩
          have := (hu k hk hk2).add (Cg.ml c (hv k hk hk2))
          simpa using this
        have := Gn.le hS (fun g ⟨r, h1, h2, e⟩ k hk hk2 => by
          subst e
          exact (hl r h2).2.2 k (Nat.lt_of_le_of_lt hk2 (hi _ _ (by omega) h2))) hx
        exact fun k hk => this k (Nat.lt_of_le_of_lt hk hv.1) hk
      show cn n (Lds p n _) = d + 1
      rw [cn_congr (Q := fun l => Lds p n (Gn p n (fun g => ∃ r, m - d ≤ r ∧ r < m ∧ g = R r)) l ∨ l = ld (m - (d + 1))) (fun l _ => lds_ad hp Gn.sb hv hz)]
      rw [cn_or hv.1 (fun ⟨x, hx, hq⟩ => hq.2.1 (hz x hx _ (Nat.le_refl _)))]
      exact congrArg (· + 1) (ih (by omega))
  have := key m (Nat.le_refl m)
  rw [Nat.sub_self] at this
  refine Eq.trans ?_ this
  exact congrArg (fun G => dm p n (Gn p n G)) (vs_anti (fun g ⟨r, hr, e⟩ => ⟨r, by omega, hr, e⟩) (fun g ⟨r, _, hr, e⟩ => ⟨r, hr, e⟩))
/-- echelons in order are one -/
theorem sorted_eq {m : Nat} {ld ld' : Nat → Nat} (hi : ∀ r q, r < q → q < m → ld r < ld q) (hi' : ∀ r q, r < q → q < m → ld' r < ld' q)
    (h1 : ∀ r, r < m → ∃ q, q < m ∧ ld' q = ld r) (h2 : ∀ r, r < m → ∃ q, q < m ∧ ld q = ld' r) : ∀ r, r < m → ld r = ld' r := by
  intro r
  induction r using Nat.strongRecOn with
  | ind r ih =>
    intro hr
    obtain ⟨a, ha, ea⟩ := h1 r hr
    obtain ⟨b, hb, eb⟩ := h2 r hr
    have ga : r ≤ a := by
      refine Classical.byContradiction fun ne => ?_
      have h3 := ih a (by omega) ha
      have := hi a r (by omega) hr
      omega
    have gb : r ≤ b := by
      refine Classical.byContradiction fun ne => ?_
      have h3 := ih b (by omega) hb
      have := hi' b r (by omega) hr
      omega
    have h3 : ld' r ≤ ld' a := by
      rcases Nat.lt_or_eq_of_le ga with q | q
      · exact Nat.le_of_lt (hi' r a q ha)
      · rw [q]; exact Nat.le_refl _
    have h4 : ld r ≤ ld b := by
      rcases Nat.lt_or_eq_of_le gb with q | q
      · exact Nat.le_of_lt (hi r b q hb)
      · rw [q]; exact Nat.le_refl _
    omega
theorem Ech.uni (hp : Pr p) (h : Ech p n m R ld S) {m' : Nat} (h' : Ech p n m' R' ld' S) (hi : ∀ r q, r < q → q < m → ld r < ld q) (hi' : ∀ r q, r < q → q < m' → ld' r < ld' q) :
    m = m' ∧ ∀ r, r < m → ld r = ld' r ∧ Vq p n (R r) (R' r) := by
  have e : m = m' := by rw [← h.dm hp, ← h'.dm hp]
  subst e
  have hl := sorted_eq hi hi' (fun r hr => (h'.lds hp).mp ((h.lds hp).mpr ⟨r, hr, rfl⟩)) (fun r hr => (h.lds hp).mp ((h'.lds hp).mpr ⟨r, hr, rfl⟩))
  refine ⟨rfl, fun r hr => ⟨hl r hr, ?_⟩⟩
  have h1 : S (fun k => R r k - R' r k) := h.sb.sub (h.row hr) (h'.row hr)
  have h2 := h.nf h1 (fun q hq => by
    have a := h.dl hr hq
    have b := h'.dl hr hq
    rw [← hl q hq] at b
    have := a.sub b
    simpa using this)
  intro k hk
  have := (h2 k hk).add (Cg.rf (a := R' r k))
  simpa using this
end LIN
