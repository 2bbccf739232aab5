/-! BRACKETS of subspaces, series, what they close to: plain. -/
set_option maxRecDepth 100000
section BRK
/-- a bracket's numbers -/
def bk (n : Nat) (T : Nat → Nat → Nat → Int) (x y : Nat → Int) : Nat → Int := fun k => sm n fun i => sm n fun j => x i * y j * T i j k
variable {p : Int} {n m : Nat} {T : Nat → Nat → Nat → Int} {u v x y : Nat → Int} {S A B A' B' : VS}
theorem bk_ax1 (c : Int) (k : Nat) : bk n T (fun i => u i + c * v i) y k = bk n T u y k + c * bk n T v y k := by
  unfold bk
  rw [← sm_mul, ← sm_add]
  refine sm_congr (fun i _ => ?_)
  rw [← sm_mul, ← sm_add]
  refine sm_congr (fun j _ => ?_)
  grind
theorem bk_ax2 (c : Int) (k : Nat) : bk n T y (fun i => u i + c * v i) k = bk n T y u k + c * bk n T y v k := by
  unfold bk
  rw [← sm_mul, ← sm_add]
  refine sm_congr (fun i _ => ?_)
  rw [← sm_mul, ← sm_add]
  refine sm_congr (fun j _ => ?_)
  grind
theorem bk_q (hx : Vq p n x u) (hy : Vq p n y v) (k : Nat) : Cg p (bk n T x y k) (bk n T u v k) :=
  Cg.sm fun i hi => Cg.sm fun j hj => ((hx i hi).mul (hy j hj)).mul Cg.rf
theorem bk_z1 (k : Nat) : bk n T (fun _ => 0) y k = 0 := by
  unfold bk
  refine (sm_congr (g := fun _ => 0) (fun i _ => ?_)).trans (sm_zero n)
  exact (sm_congr (g := fun _ => 0) (fun j _ => by simp)).trans (sm_zero n)
theorem bk_z2 (k : Nat) : bk n T x (fun _ => 0) k = 0 := by
  unfold bk
  refine (sm_congr (g := fun _ => 0) (fun i _ => ?_)).trans (sm_zero n)
  exact (sm_congr (g := fun _ => 0) (fun j _ => by simp)).trans (sm_zero n)
/-- contrary tables -/
def Tan (p : Int) (T : Nat → Nat → Nat → Int) : Prop := ∀ i j k, Cg p (T j i k) (-T i j k)
theorem bk_anti (hT : Tan p T) (k : Nat) : Cg p (bk n T y x k) (-bk n T x y k) := by
  unfold bk
  rw [sm_swap, ← sm_neg]
  refine Cg.sm fun i _ => ?_
  rw [← sm_neg]
  refine Cg.sm fun j _ => ?_
  refine (Cg.ml (y j * x i) (hT i j k)).tr (Cg.of ?_)
  grind
/-- the brackets of two subspaces generate -/
def Br (p : Int) (n : Nat) (T : Nat → Nat → Nat → Int) (A B : VS) : VS := Gn p n (fun g => ∃ a b, A a ∧ B b ∧ g = bk n T a b)
theorem Br.sb : Sbp p n (Br p n T A B) := Gn.sb
theorem Br.mem (ha : A x) (hb : B y) : Br p n T A B (bk n T x y) := Gn.mem ⟨x, y, ha, hb, rfl⟩
theorem Br.le (hS : Sbp p n S) (h : ∀ a b, A a → B b → S (bk n T a b)) (hv : Br p n T A B v) : S v :=
  Gn.le hS (fun g ⟨a, b, ha, hb, e⟩ => by rw [e]; exact h a b ha hb) hv
theorem Br.mono (hA : ∀ x, A x → A' x) (hB : ∀ x, B x → B' x) (hv : Br p n T A B v) : Br p n T A' B' v :=
  Br.le Br.sb (fun a b ha hb => Br.mem (hA a ha) (hB b hb)) hv
theorem bk_sb1 (hS : Sbp p n S) : Sbp p n (fun x => S (bk n T x y)) :=
  ⟨fun u v hu e => hS.q hu (fun k _ => bk_q e Vq.rf k), hS.e hS.z (fun k _ => (bk_z1 k).symm), fun c u v hu hv => hS.e (hS.ax c hu hv) (fun k _ => (bk_ax1 c k).symm)⟩
theorem bk_sb2 (hS : Sbp p n S) : Sbp p n (fun y => S (bk n T x y)) :=
  ⟨fun u v hu e => hS.q hu (fun k _ => bk_q Vq.rf e k), hS.e hS.z (fun k _ => (bk_z2 k).symm), fun c u v hu hv => hS.e (hS.ax c hu hv) (fun k _ => (bk_ax2 c k).symm)⟩
/-- brackets of generating vectors are enough -/
theorem bk_gn {G H : VS} (hS : Sbp p n S) (h : ∀ a b, G a → H b → S (bk n T a b)) {a b : Nat → Int} (ha : Gn p n G a) (hb : Gn p n H b) : S (bk n T a b) := by
  have h1 : ∀ b, H b → ∀ a, Gn p n G a → S (bk n T a b) := fun b hb a ha => Gn.le (S := fun x => S (bk n T x b)) (bk_sb1 (y := b) hS) (fun g hg => h g b hg hb) ha
  exact Gn.le (S := fun y => S (bk n T a y)) (bk_sb2 (x := a) hS) (fun g hg => h1 g hg a ha) hb
theorem Br.gn {G H : VS} : Br p n T (Gn p n G) (Gn p n H) = Gn p n (fun g => ∃ a b, G a ∧ H b ∧ g = bk n T a b) :=
  vs_anti (fun v hv => Br.le Gn.sb (fun a b ha hb => bk_gn Gn.sb (fun a b ha hb => Gn.mem ⟨a, b, ha, hb, rfl⟩) ha hb) hv)
    (fun v hv => Gn.mono (fun g ⟨a, b, ha, hb, e⟩ => Gn.mem ⟨a, b, Gn.mem ha, Gn.mem hb, e⟩) hv)
theorem Ech.gen {R : Nat → Nat → Int} {ld : Nat → Nat} (h : Ech p n m R ld S) : S = Gn p n (fun g => ∃ r, r < m ∧ g = R r) := by
  refine vs_anti (fun v hv => ?_) (fun v hv => Gn.le h.sb (fun g ⟨r, hr, e⟩ => by rw [e]; exact h.row hr) hv)
  exact Gn.sb.q (Gn.sb.sm (fun r => v (ld r)) (fun r hr => Gn.mem ⟨r, hr, rfl⟩)) (h.exp hv).sy
theorem Br.comm (hT : Tan p T) : Br p n T A B = Br p n T B A := by
  have h : ∀ A B v, Br p n T A B v → Br p n T B A v := fun A B v hv => Br.le Br.sb (fun a b ha hb => by
    have h1 : Br p n T B A (bk n T b a) := Br.mem hb ha
    exact Br.sb.q (Br.sb.ml (-1) h1) (fun k _ => ((bk_anti hT k).tr (Cg.of (by grind))).sy)) hv
  exact vs_anti (h A B) (h B A)
/-- the whole space and its units -/
def Al : VS := fun _ => True
theorem Al.sb : Sbp p n Al := ⟨fun _ _ _ _ => trivial, trivial, fun _ _ _ _ _ => trivial⟩
def un (i : Nat) : Nat → Int := fun k => if k = i then 1 else 0
theorem Al.ech (hp : Pr p) : Ech p n n un (fun r => r) Al := by
  refine ⟨Al.sb, fun _ _ => trivial, fun _ h => h, fun r _ q _ => Cg.of ?_, fun r _ k hk => Cg.of (if_neg (by have hk : k < r := hk; omega)), fun v _ h => h⟩
  show (if q = r then (1 : Int) else 0) = if r = q then 1 else 0
  by_cases e : r = q
  · rw [if_pos e, if_pos e.symm]
  · rw [if_neg e, if_neg (fun f => e f.symm)]
/-- series -/
def DSr (p : Int) (n : Nat) (T : Nat → Nat → Nat → Int) (S : VS) : Nat → VS
  | 0 => S
  | k + 1 => Br p n T (DSr p n T S k) (DSr p n T S k)
def LSr (p : Int) (n : Nat) (T : Nat → Nat → Nat → Int) (S : VS) : Nat → VS
  | 0 => S
  | k + 1 => Br p n T S (LSr p n T S k)
theorem DSr.sb (hS : Sbp p n S) : ∀ k, Sbp p n (DSr p n T S k)
  | 0 => hS
  | _ + 1 => Gn.sb
theorem LSr.sb (hS : Sbp p n S) : ∀ k, Sbp p n (LSr p n T S k)
  | 0 => hS
  | _ + 1 => Gn.sb
/-- closed under brackets (with all, if wa) -/
def Clo (n : Nat) (T : Nat → Nat → Nat → Int) (wa : Prop) (S : VS) : Prop := ∀ a b, S a → (wa ∨ S b) → S (bk n T a b)
theorem DSr.dec (hS : Sbp p n S) (hc : Clo n T False S) : ∀ k v, DSr p n T S (k + 1) v → DSr p n T S k v
  | 0, v, hv => Br.le hS (fun a b ha hb => hc a b ha (Or.inr hb)) hv
  | k + 1, v, hv => Br.mono (DSr.dec hS hc k) (DSr.dec hS hc k) hv
theorem LSr.dec (hS : Sbp p n S) (hc : Clo n T False S) : ∀ k v, LSr p n T S (k + 1) v → LSr p n T S k v
  | 0, v, hv => Br.le hS (fun a b ha hb => hc a b ha (Or.inr hb)) hv
  | k + 1, v, hv => Br.mono (fun _ h => h) (LSr.dec hS hc k) hv
/-- a chain that gets smaller -/
theorem chain_st {F : Nat → VS} (hst : ∀ k, F (k + 1) = F k → F (k + 2) = F (k + 1)) {k : Nat} (h : F (k + 1) = F k) : ∀ j, F (k + j) = F k := by
  have h2 : ∀ j, F (k + j + 1) = F (k + j) := by
    intro j
    induction j with
    | zero => exact h
    | succ j ih => exact hst (k + j) ih
  intro j
  induction j with
  | zero => rfl
  | succ j ih => exact (h2 j).trans ih
theorem chain_end (hp : Pr p) {F : Nat → VS} (hs : ∀ k, Sbp p n (F k)) (hd : ∀ k v, F (k + 1) v → F k v) (hst : ∀ k, F (k + 1) = F k → F (k + 2) = F (k + 1))
    {N : Nat} (hN : dm p n (F 0) ≤ N) (he : ∃ k, dm p n (F k) = 0) : dm p n (F N) = 0 := by
  refine Classical.byContradiction fun hne => ?_
  have hnz : ∀ k, k ≤ N → dm p n (F k) + k ≤ N := by
    intro k
    induction k with
    | zero => intro _; omega
    | succ k ih =>
      intro hk
      have h1 := ih (by omega)
      have h2 := dm_mono (p := p) (n := n) (hd k)
      rcases Nat.lt_or_eq_of_le h2 with q | q
      · omega
      · exfalso
        have e := dm_eq hp (hs (k + 1)) (hs k) (hd k) q
        have hall := chain_st hst e
        obtain ⟨j, hj⟩ := he
        have hN2 := hall (N - k)
        rw [show k + (N - k) = N by omega] at hN2
        rcases Nat.le_total j k with a | a
        · have hmn : ∀ d, dm p n (F (j + d)) ≤ dm p n (F j) := by
            intro d
            induction d with
            | zero => exact Nat.le_refl _
            | succ d ih => exact Nat.le_trans (dm_mono (hd (j + d))) ih
          have := hmn (N - j)
          rw [show j + (N - j) = N by omega] at this
          omega
        · have := hall (j - k)
          rw [show k + (j - k) = j by omega] at this
          rw [hN2, ← this] at hne
          omega
  have := hnz N (Nat.le_refl N)
  omega
theorem DSr.st (k : Nat) (h : DSr p n T S (k + 1) = DSr p n T S k) : DSr p n T S (k + 2) = DSr p n T S (k + 1) := by
  show Br p n T (DSr p n T S (k + 1)) (DSr p n T S (k + 1)) = Br p n T (DSr p n T S k) (DSr p n T S k)
  rw [h]
theorem LSr.st (k : Nat) (h : LSr p n T S (k + 1) = LSr p n T S k) : LSr p n T S (k + 2) = LSr p n T S (k + 1) := by
  show Br p n T S (LSr p n T S (k + 1)) = Br p n T S (LSr p n T S k)
  rw [h]
/-- the least closed one -/
def Cl (p : Int) (n : Nat) (T : Nat → Nat → Nat → Int) (wa : Prop) (S : VS) : VS := fun v => ∀ S', Sbp p n S' → (∀ x, S x → S' x) → Clo n T wa S' → S' v
theorem Cl.uni {wa : Prop} {S1 : VS} (h1 : Sbp p n S1) (h2 : ∀ x, S x → S1 x) (h3 : Clo n T wa S1) (h4 : ∀ x, S1 x → Cl p n T wa S x) : S1 = Cl p n T wa S :=
  vs_anti h4 (fun _ hv => hv S1 h1 h2 h3)
theorem Cl.sb {wa : Prop} : Sbp p n (Cl p n T wa S) :=
  ⟨fun u v hu e S' a b c => a.q (hu S' a b c) e, fun S' a _ _ => a.z, fun c u v hu hv S' a b d => a.ax c (hu S' a b d) (hv S' a b d)⟩
theorem Cl.le {wa : Prop} (h : S v) : Cl p n T wa S v := fun _ _ b _ => b v h
theorem Cl.clo {wa : Prop} : Clo n T wa (Cl p n T wa S) := fun a b ha hb S' h1 h2 h3 => h3 a b (ha S' h1 h2 h3) (hb.imp id (fun q => q S' h1 h2 h3))
end BRK
