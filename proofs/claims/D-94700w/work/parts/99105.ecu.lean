/-! ECHELONS that are the same; places counted. -/
set_option maxRecDepth 100000
section ECU
variable {p : Int} {n m m' : Nat} {T : Nat → Nat → Nat → Int} {R R' : Nat → Nat → Int} {ld ld' : Nat → Nat} {S : VS}
/-- rows in echelon, in order, with small numbers -/
def SoE (p : Int) (n m : Nat) (R : Nat → Nat → Int) (ld : Nat → Nat) (S : VS) : Prop := (∀ r k, 0 ≤ R r k ∧ R r k < p ∧ (n ≤ k → R r k = 0)) ∧ (∀ r q, r < q → q < m → ld r < ld q) ∧ Ech p n m R ld S
theorem SoE.uni (hp : Pr p) (h : SoE p n m R ld S) (h' : SoE p n m' R' ld' S) : m = m' ∧ ∀ r, r < m → ld r = ld' r ∧ R r = R' r := by
  obtain ⟨e, g⟩ := Ech.uni hp h.2.2 h'.2.2 h.2.1 h'.2.1
  refine ⟨e, fun r hr => ⟨(g r hr).1, funext fun k => ?_⟩⟩
  have b1 := h.1 r k
  have b2 := h'.1 r k
  by_cases c : k < n
  · exact ((g r hr).2 k c).eq ⟨b1.1, b1.2.1⟩ ⟨b2.1, b2.2.1⟩
  · rw [b1.2.2 (by omega), b2.2.2 (by omega)]
theorem SpD.so' {N : NM} {s : Nat} (h : SpD N s p n m R ld S) : SoE p n m R ld S := ⟨h.bd, h.so, h.ech⟩
theorem SpM.so' {N : NM} {a : Nat} (h : SpM N a p n m R ld S) : SoE p n m R ld S := ⟨h.bd, h.so, h.ech⟩
/-- the echelon of a span -/
noncomputable def chE (p : Int) (n : Nat) (S : VS) : Nat × (Nat → Nat → Int) × (Nat → Nat) := @Classical.epsilon _ ⟨(0, fun _ _ => 0, fun _ => 0)⟩ (fun x => SoE p n x.1 x.2.1 x.2.2 S)
theorem SoE.ch (h : SoE p n m R ld S) : SoE p n (chE p n S).1 (chE p n S).2.1 (chE p n S).2.2 S := @Classical.epsilon_spec _ (fun x : Nat × (Nat → Nat → Int) × (Nat → Nat) => SoE p n x.1 x.2.1 x.2.2 S) ⟨(m, R, ld), h⟩
/-- the table of a part that is taken out -/
def toT (p : Int) (n : Nat) (T : Nat → Nat → Nat → Int) (R : Nat → Nat → Int) (ld : Nat → Nat) : Nat → Nat → Nat → Int := fun i j k => bkm p n T (R i) (R j) (ld k)
theorem toT_eq (hp : Pr p) (h : SoE p n m R ld S) : dm p n S = m ∧ altT p m (toT p n T R ld) = altT p (dm p n S) (toT p n T (chE p n S).2.1 (chE p n S).2.2) := by
  have hd := h.2.2.dm hp
  refine ⟨hd, ?_⟩
  obtain ⟨_, g⟩ := SoE.uni hp h h.ch
  rw [hd]
  refine altT_q (fun i j k h1 h2 h3 => ?_)
  unfold toT
  rw [(g i (by omega)).2, (g j h2).2, (g k h3).1]
/-- the place of the i-th for which it holds -/
noncomputable def pth (P : Nat → Prop) : Nat → Nat → Nat
  | 0, _ => 0
  | n + 1, i => @ite _ (P n ∧ cn n P = i) (Classical.propDecidable _) n (pth P n i)
theorem cn_up {P : Nat → Prop} {k : Nat} : ∀ n, k ≤ n → cn k P ≤ cn n P := by
  intro n
  induction n with
  | zero => intro h; rw [show k = 0 by omega]; exact Nat.le_refl _
  | succ n ih =>
    intro h
    by_cases e : k = n + 1
    · rw [e]; exact Nat.le_refl _
    · have := ih (by omega)
      by_cases c : P n
      · rw [cn_pos c]; omega
      · rw [cn_neg c]; omega
theorem cn_lt {P : Nat → Prop} {k n : Nat} (hk : k < n) (h : P k) : cn k P < cn n P := by
  have := cn_up (P := P) (k := k + 1) n (by omega)
  rw [cn_pos h] at this
  omega
theorem pth_ok {P : Nat → Prop} {i : Nat} : ∀ n, i < cn n P → pth P n i < n ∧ P (pth P n i) ∧ cn (pth P n i) P = i := by
  intro n
  induction n with
  | zero => intro h; exact absurd h (Nat.not_lt_zero _)
  | succ n ih =>
    intro h
    show (@ite Nat (P n ∧ cn n P = i) (Classical.propDecidable _) n (pth P n i)) < n + 1 ∧ P (@ite Nat (P n ∧ cn n P = i) (Classical.propDecidable _) n (pth P n i)) ∧ cn (@ite Nat (P n ∧ cn n P = i) (Classical.propDecidable _) n (pth P n i)) P = i
    by_cases c : P n ∧ cn n P = i
    · rw [if_pos c]; exact ⟨by omega, c⟩
    · rw [if_neg c]
      have hi : i < cn n P := by
        by_cases c2 : P n
        · rw [cn_pos c2] at h
          have : cn n P ≠ i := fun e => c ⟨c2, e⟩
          omega
        · rw [cn_neg c2] at h; exact h
      obtain ⟨a, b⟩ := ih hi
      exact ⟨by omega, b⟩
theorem pth_uni {P : Nat → Prop} {i k n : Nat} (hi : i < cn n P) (hk : k < n) (h : P k) (e : cn k P = i) : pth P n i = k := by
  obtain ⟨a, b, c⟩ := pth_ok n hi
  rcases Nat.lt_trichotomy (pth P n i) k with x | x | x
  · have := cn_lt x b; omega
  · exact x
  · have := cn_lt x h; omega
theorem cn_not {P : Nat → Prop} : ∀ n, cn n P + cn n (fun k => ¬ P k) = n := by
  intro n
  induction n with
  | zero => rfl
  | succ n ih =>
    by_cases c : P n
    · rw [cn_pos c, cn_neg (P := fun k => ¬ P k) (fun x => x c)]; omega
    · rw [cn_neg c, cn_pos (P := fun k => ¬ P k) c]; omega
/-- places at which no row leads -/
def NL (m : Nat) (ld : Nat → Nat) (k : Nat) : Prop := ¬ ∃ r, r < m ∧ ld r = k
theorem NL_cn (hp : Pr p) (h : SoE p n m R ld S) : cn n (NL m ld) + m = n := by
  have := cn_not (P := fun k => ∃ r, r < m ∧ ld r = k) n
  rw [cn_range (fun r hr => h.2.2.ldn hr) (fun r hr q hq e => h.2.2.inj hp hr hq e)] at this
  show cn n (fun k => ¬ ∃ r, r < m ∧ ld r = k) + m = n
  omega
/-- the table of what is left -/
noncomputable def reT (p : Int) (n m : Nat) (T : Nat → Nat → Nat → Int) (ld : Nat → Nat) (S : VS) : Nat → Nat → Nat → Int := fun i j k => nfv p n m ld S (T (pth (NL m ld) n i) (pth (NL m ld) n j)) (pth (NL m ld) n k)
theorem reT_eq (hp : Pr p) (h : SoE p n m R ld S) : dm p n S = m ∧ altT p (n - m) (reT p n m T ld S) = altT p (n - dm p n S) (reT p n (dm p n S) T (chE p n S).2.2 S) := by
  have hd := h.2.2.dm hp
  refine ⟨hd, ?_⟩
  obtain ⟨_, g⟩ := SoE.uni hp h h.ch
  rw [hd]
  have hN : NL m ld = NL m (chE p n S).2.2 := funext fun k => propext ⟨fun x ⟨r, hr, e⟩ => x ⟨r, hr, by rw [(g r hr).1]; exact e⟩, fun x ⟨r, hr, e⟩ => x ⟨r, hr, by rw [← (g r hr).1]; exact e⟩⟩
  have hF : nfv p n m ld S = nfv p n m (chE p n S).2.2 S := by
    funext X
    have e : Nf p n m ld S X = Nf p n m (chE p n S).2.2 S X := funext fun Y => propext ⟨fun ⟨a, b, c⟩ => ⟨a, b, fun r hr => by rw [← (g r hr).1]; exact c r hr⟩, fun ⟨a, b, c⟩ => ⟨a, b, fun r hr => by rw [(g r hr).1]; exact c r hr⟩⟩
    unfold nfv
    rw [e]
  unfold reT
  rw [hN, hF]
end ECU
