/-! THE COMPONENT: derivations. -/
set_option maxRecDepth 100000
section CMP6
variable {α τ ρ : Type} {M : Mem} {N N' : NM} {c w s : Nat} {p : Int} {n m : Nat} {T : Nat → Nat → Nat → Int}
/-- the equation of a couple and a part, as far as l -/
def DeP (n : Nat) (T : Nat → Nat → Nat → Int) (i j m l : Nat) (q : Nat) : Int := sm l (fun x => (if q = n * x + m then T i j x else 0) - (if q = n * i + x then T x j m else 0) - (if q = n * j + x then T i x m else 0))
def DeE (n : Nat) (T : Nat → Nat → Nat → Int) (i j m : Nat) : Nat → Int := DeP n T i j m n
def DeS (p : Int) (n : Nat) (T : Nat → Nat → Nat → Int) : VS := Gn p (n * n) (fun g => ∃ i j m, i < j ∧ j < n ∧ m < n ∧ g = DeE n T i j m)
def cI (n : Nat) : Nat → Nat
  | 0 => 0
  | i + 1 => cI n i + (n - 1 - i)
theorem cI_s (n i : Nat) : cI n (i + 1) = cI n i + (n - 1 - i) := rfl
theorem cI_mono {n i j : Nat} (h : i ≤ j) : cI n i ≤ cI n j := by
  induction j with
  | zero => rw [show i = 0 by omega]; exact Nat.le_refl _
  | succ j ih =>
    by_cases e : i = j + 1
    · rw [e]; exact Nat.le_refl _
    · have := ih (by omega)
      rw [cI_s]; omega
theorem cI_n : ∀ n, n < 6 → n * cI n n = n * n * (n - 1) / 2 := by decide
theorem idx_e (a b c : Nat) : (a : Int) * (b : Int) + (c : Int) = ((a * b + c : Nat) : Int) := by rw [Int.natCast_add, Int.natCast_mul]
theorem idx_lt {n l m : Nat} (hl : l < n) (hm : m < n) : n * l + m < n * n := by
  have := Nat.mul_le_mul_left n (show l + 1 ≤ n by omega)
  rw [Nat.mul_add, Nat.mul_one] at this
  omega
theorem row_up {p : Int} {G : Nat → Int} {x : Int} {q q0 : Nat} : (if q = q0 then (G q0 % p + x) % p else G q % p) = (G q + (if q = q0 then x else 0)) % p := by
  by_cases e : q = q0
  · rw [if_pos e, if_pos e, e, Int.emod_add_emod]
  · rw [if_neg e, if_neg e, Int.add_zero]
/-- one number of a row is changed -/
theorem w_rowup {f : Unit → JM Mem τ} {Q : τ → Mem → NM → Prop} {r q0 nn many : Nat} {x : Int} {G : Nat → Int} {H : Nat → Nat → Int} (hC : CL M c) (hr : r < many) (hm : many ≤ 64) (hq : q0 < nn) (hnn : nn ≤ 32)
    (hN : ∀ r' q, r' < many → q < nn → N (rpl M (c + 117) r') q = if r' = r then G q % p else H r' q)
    (h : ∀ N', (∀ r' q, r' < many → q < nn → N' (rpl M (c + 117) r') q = if r' = r then (G q + (if q = q0 then x else 0)) % p else H r' q) → (∀ b, b < c + 118 ∨ c + 182 ≤ b → N' b = N b) → GN M N' (f ()) Q) :
    GN M N (jb (jast_i (rpl M (c + 117) r) (zI (q0 : Nat)) (zI ((G q0 % p + x) % p))) f) Q := by
  have hRP := hC.ro
  have hra := hRP.ra (show r < 64 by omega)
  refine w_ast hra.2.2.2 (by omega) (by omega) ?_
  refine h _ (fun r' q h1 h2 => ?_) (fun b hb => ?_)
  · show (if rpl M (c + 117) r' = rpl M (c + 117) r ∧ q = q0 then (G q0 % p + x) % p else N (rpl M (c + 117) r') q) = _
    by_cases e : r' = r
    · subst e
      rw [if_pos rfl, hN r' q h1 h2, if_pos rfl, ← row_up]
      by_cases e2 : q = q0
      · rw [if_pos ⟨rfl, e2⟩, if_pos e2]
      · rw [if_neg (fun x => e2 x.2), if_neg e2]
    · rw [if_neg (fun x => e (hRP.inj (by omega) (by omega) x.1)), if_neg e, hN r' q h1 h2, if_neg e]
  · funext k
    show (if b = rpl M (c + 117) r ∧ _ then _ else N b k) = _
    rw [if_neg (by omega)]
/-- the rows so far -/
def DeI (M : Mem) (c : Nat) (p : Int) (n : Nat) (T : Nat → Nat → Nat → Int) (many : Nat) (N : NM) (r : Nat) (Pp : Nat → Nat → Nat → Prop) (N1 : NM) : Prop :=
  (∃ E : Nat → Nat → Int, (∀ r' q, r' < many → q < n * n → N1 (rpl M (c + 117) r') q = if r' < r then E r' q % p else 0) ∧ (∀ r', r' < r → ∃ i j m, i < j ∧ j < n ∧ m < n ∧ E r' = DeE n T i j m) ∧
    ∀ i j m, i < j → j < n → m < n → Pp i j m → ∃ r', r' < r ∧ E r' = DeE n T i j m) ∧ ∀ b, b < c + 118 ∨ c + 182 ≤ b → N1 b = N b
theorem DeI.imp {many r : Nat} {Pp Pq : Nat → Nat → Nat → Prop} {N1 : NM} (h : DeI M c p n T many N r Pp N1) (hq : ∀ i j m, i < j → j < n → m < n → Pq i j m → Pp i j m) : DeI M c p n T many N r Pq N1 := by
  obtain ⟨⟨E, h1, h2, h3⟩, h4⟩ := h
  exact ⟨⟨E, h1, h2, fun i j m a b c d => h3 i j m a b c (hq i j m a b c d)⟩, h4⟩
theorem w_derivationsOf {f : Int32 → JM Mem τ} {Q : τ → Mem → NM → Prop} (hC : CL M c) (hW : WL M w) (hD : WD N w p n T) (hw : w + 32 ≤ c + 72 ∨ c + 212 ≤ w)
    (h : ∀ M' N', Bg c M M' → (∀ b, b < c + 118 ∨ c + 182 ≤ b → N' b = N b) → GN M' N' (f (zI ((n * n : Nat) - (dm p (n * n) (DeS p n T) : Nat)))) Q) : GN M N (jb (jcall 0 c (f_X0_derivationsOf c w)) f) Q := by
  have hpb := hD.pb
  have hn5 := hD.n5
  have hn1 := hD.n1
  have hp := hD.pr
  have hnn : n * n ≤ 25 := Nat.mul_le_mul hn5 hn5
  have hcn := cI_n n (by omega)
  have hmany : n * n * (n - 1) / 2 ≤ 50 := by
    have := Nat.mul_le_mul hnn (show n - 1 ≤ 4 by omega)
    omega
  have hmul : n * n * (n - 1) ≤ 100 := Nat.mul_le_mul hnn (show n - 1 ≤ 4 by omega)
  refine w_Cc hC ?_
  unfold f_X0_derivationsOf
  refine w_Wp hW ?_
  rw [hD.ne, z_1, zI_mul, zI_sub, zI_mul, z_2]
  rw [show ((n : Int) * (n : Int)) = ((n * n : Nat) : Int) from (Int.natCast_mul n n).symm, show (n : Int) - 1 = ((n - 1 : Nat) : Int) by omega, show (((n * n : Nat) : Int) * ((n - 1 : Nat) : Int)) = ((n * n * (n - 1) : Nat) : Int) from (Int.natCast_mul _ _).symm]
  refine w_divP ⟨by omega, by omega, by omega⟩ ⟨by omega, by omega, by omega⟩ ?_
  rw [show ((n * n * (n - 1) : Nat) : Int) / 2 = ((n * n * (n - 1) / 2 : Nat) : Int) by omega]
  generalize hmm : n * n * (n - 1) / 2 = many at hcn hmany
  refine w_clearRows hC (by omega) (by omega) (fun N0 hz hfr0 => ?_)
  have hRP := hC.ro
  have frw : ∀ N1 : NM, (∀ b, b < c + 118 ∨ c + 182 ≤ b → N1 b = N b) → WD N1 w p n T := fun N1 g => hD.fr (fun b h1 h2 => g b (by omega))
  rw [z_0]
  refine w_up2 n (fun i x N1 => x = ((n * cI n i : Nat) : Int) ∧ DeI M c p n T many N (n * cI n i) (fun i' _ _ => i' < i) N1) 0 0 rfl (by omega)
    ⟨rfl, ⟨fun _ _ => 0, fun r' q h1 h2 => by rw [hz r' q h1 h2, if_neg (by show ¬ r' < n * 0; omega)], fun r' hr' => absurd hr' (by show ¬ r' < n * 0; omega), fun i j m _ _ _ h => absurd h (Nat.not_lt_zero _)⟩, hfr0⟩ ?_
  rintro i x N1 hi ⟨rfl, hI⟩
  show GN M N1 (X0_derivationsOf_L29 c w (zI _) (zI _) (zI _) (zI _)) _
  have hci : n * cI n i ≤ many := by rw [← hcn]; exact Nat.mul_le_mul_left n (cI_mono hi)
  unfold X0_derivationsOf_L29
  refine w_le ⟨by omega, by omega⟩ ⟨by omega, by omega⟩ (fun hc => ?_) (fun hc => ?_)
  · have hin : i = n := by omega
    subst hin
    obtain ⟨⟨E, e1, e2, e3⟩, e4⟩ := hI
    rw [hcn] at e1 e2 e3
    unfold X0_derivationsOf_b236
    refine w_jinl ?_
    refine w_Cf hC rfl ?_
    rw [zI_mul, show ((i : Int) * (i : Int)) = ((i * i : Nat) : Int) from (Int.natCast_mul i i).symm]
    have hS : Rs p (i * i) many (fun r q => if r < many ∧ q < i * i then E r q % p else 0) = DeS p i T := by
      refine (Rs.q (C := E) (fun r hr q hq => ?_)).trans (Gn.eq (fun g ⟨r, hr, e⟩ => ?_) (fun g ⟨a, b, m, h1, h2, h3, e⟩ => ?_))
      · show Cg p (if r < many ∧ q < i * i then _ else _) _
        rw [if_pos ⟨hr, hq⟩]
        exact Cg.mod p _
      · obtain ⟨a, b, m, h1, h2, h3, h4⟩ := e2 r hr
        exact Gn.mem ⟨a, b, m, h1, h2, h3, by rw [e, h4]⟩
      · obtain ⟨r', h4, h5⟩ := e3 a b m h1 h2 h3 (by omega)
        exact Gn.mem ⟨r', h4, by rw [e, h5]⟩
    refine w_rank (A := fun r q => if r < many ∧ q < i * i then E r q % p else 0) hC hW (frw N1 e4) (by omega) (by omega) (by omega) (fun r k hr hk => by rw [e1 r k hr hk, if_pos hr]; show _ = if r < many ∧ k < i * i then _ else _; rw [if_pos ⟨hr, hk⟩]) (fun r k => ?_) (fun M2 N2 hb hfr2 => ?_)
    · show 0 ≤ (if r < many ∧ k < i * i then _ else _) ∧ (if r < many ∧ k < i * i then _ else _) < p
      split
      · exact ⟨Int.emod_nonneg _ (by omega), Int.emod_lt_of_pos _ (by omega)⟩
      · omega
    · rw [zI_sub, hS]
      exact w_jp (h M2 N2 hb (fun b hb9 => by rw [hfr2 b hb9, e4 b hb9]))
  have hin : i < n := by omega
  rw [z_1, zI_add]
  refine w_jlet ?_
  refine w_up2 n (fun j x N2 => x = ((n * (cI n i + (j - i - 1)) : Nat) : Int) ∧ i < j ∧ DeI M c p n T many N (n * (cI n i + (j - i - 1))) (fun i' j' _ => i' < i ∨ i' = i ∧ j' < j) N2) (i + 1) _ (by rfl) (by omega)
    ⟨by rw [show i + 1 - i - 1 = 0 by omega]; rfl, by omega, by
      rw [show i + 1 - i - 1 = 0 by omega]
      exact hI.imp (fun i' j' m' h1 h2 h3 h4 => by omega)⟩ ?_
  rintro j x N2 hj ⟨rfl, hij, hI2⟩
  show GN M N2 (X0_derivationsOf_L41 c w (zI _) (zI _) (zI _) (zI _) (zI _)) _
  have hcj : n * (cI n i + (j - i - 1)) ≤ many := by
    rw [← hcn]
    refine Nat.mul_le_mul_left n (Nat.le_trans ?_ (cI_mono (n := n) (show i + 1 ≤ n by omega)))
    rw [cI_s]
    omega
  unfold X0_derivationsOf_L41
  refine w_le ⟨by omega, by omega⟩ ⟨by omega, by omega⟩ (fun hd => ?_) (fun hd => ?_)
  · have hjn : j = n := by omega
    subst hjn
    unfold X0_derivationsOf_b230
    rw [z_1, zI_add]
    have e : cI j i + (j - i - 1) = cI j (i + 1) := by rw [cI_s]; omega
    rw [e] at hI2 ⊢
    exact w_jinl (w_jcont ⟨hin, _, rfl, rfl, hI2.imp (fun i' j' m' h1 h2 h3 h4 => by omega)⟩)
  have hjn : j < n := by omega
  have hcj2 : n * (cI n i + (j - i - 1)) + n ≤ many := by
    rw [← hcn]
    have h1 : cI n i + (j - i - 1) + 1 ≤ cI n n := by
      refine Nat.le_trans ?_ (cI_mono (n := n) (show i + 1 ≤ n by omega))
      rw [cI_s]
      omega
    have := Nat.mul_le_mul_left n h1
    rw [Nat.mul_add, Nat.mul_one] at this
    exact this
  rw [z_0]
  refine w_up2 n (fun m x N3 => x = ((n * (cI n i + (j - i - 1)) + m : Nat) : Int) ∧ DeI M c p n T many N (n * (cI n i + (j - i - 1)) + m) (fun i' j' m' => i' < i ∨ i' = i ∧ (j' < j ∨ j' = j ∧ m' < m)) N3) 0 _ rfl (by omega)
    ⟨rfl, hI2.imp (fun i' j' m' h1 h2 h3 h4 => by omega)⟩ ?_
  rintro m x N3 hm ⟨rfl, hI3⟩
  show GN M N3 (X0_derivationsOf_L50 c w (zI _) (zI _) (zI _) (zI _) (zI _) (zI _)) _
  unfold X0_derivationsOf_L50
  refine w_le ⟨by omega, by omega⟩ ⟨by omega, by omega⟩ (fun he => ?_) (fun he => ?_)
  · have hmn : m = n := by omega
    subst hmn
    unfold X0_derivationsOf_b224
    rw [z_1, zI_add]
    have e : m * (cI m i + (j - i - 1)) + m = m * (cI m i + (j + 1 - i - 1)) := by
      rw [show cI m i + (j + 1 - i - 1) = cI m i + (j - i - 1) + 1 by omega, Nat.mul_add _ _ 1, Nat.mul_one]
    rw [e] at hI3 ⊢
    exact w_jinl (w_jcont ⟨hjn, _, rfl, rfl, by omega, hI3.imp (fun i' j' m' h1 h2 h3 h4 => by omega)⟩)
  have hmn : m < n := by omega
  generalize hrr : n * (cI n i + (j - i - 1)) + m = r at hI3 hcj2
  have hrm : r < many := by omega
  obtain ⟨⟨E, e1, e2, e3⟩, e4⟩ := hI3
  rw [z_0]
  refine w_up n (fun l N4 => (∀ r' q, r' < many → q < n * n → N4 (rpl M (c + 117) r') q = if r' = r then DeP n T i j m l q % p else N3 (rpl M (c + 117) r') q) ∧ ∀ b, b < c + 118 ∨ c + 182 ≤ b → N4 b = N b) 0 rfl (by omega)
    ⟨fun r' q h1 h2 => by
      by_cases e : r' = r
      · rw [if_pos e, e1 r' q h1 h2, if_neg (by omega)]; rfl
      · rw [if_neg e], e4⟩ ?_
  rintro l N4 hl ⟨k1, k2⟩
  unfold X0_derivationsOf_L59
  refine w_le ⟨by omega, by omega⟩ ⟨by omega, by omega⟩ (fun hf => ?_) (fun hf => ?_)
  · have hln : l = n := by omega
    subst hln
    unfold X0_derivationsOf_b215
    rw [z_1, zI_add, zI_add]
    refine w_jinl (w_jcont ⟨hmn, _, rfl, by omega, ?_⟩)
    rw [show l * (cI l i + (j - i - 1)) + (m + 1) = r + 1 by omega]
    refine ⟨⟨fun r' => if r' = r then DeE l T i j m else E r', fun r' q h1 h2 => ?_, fun r' h1 => ?_, fun i' j' m' h1 h2 h3 h4 => ?_⟩, k2⟩
    · rw [k1 r' q h1 h2]
      by_cases e : r' = r
      · rw [if_pos e, if_pos (show r' < r + 1 by omega)]
        simp only [if_pos e]
        rfl
      · rw [if_neg e, e1 r' q h1 h2]
        simp only [if_neg e]
        by_cases e5 : r' < r
        · rw [if_pos e5, if_pos (by omega)]
        · rw [if_neg e5, if_neg (by omega)]
    · by_cases e : r' = r
      · exact ⟨i, j, m, hij, hjn, hmn, if_pos e⟩
      · obtain ⟨a, b, d, h2, h3, h4, h5⟩ := e2 r' (by omega)
        exact ⟨a, b, d, h2, h3, h4, (if_neg e).trans h5⟩
    · by_cases e : i' = i ∧ j' = j ∧ m' = m
      · exact ⟨r, by omega, by rw [e.1, e.2.1, e.2.2]; exact if_pos rfl⟩
      · obtain ⟨r', h5, h6⟩ := e3 i' j' m' h1 h2 h3 (by omega)
        exact ⟨r', by omega, (if_neg (by omega)).trans h6⟩
  have hln : l < n := by omega
  have hT1 := hD.tb i j l
  have hT2 := hD.tb l j m
  have hT3 := hD.tb i l m
  have hra := hRP.ra (show r < 64 by omega)
  -- first: so much of the bracket
  refine w_Cf hC rfl ?_
  refine w_Rp (hC.ka rfl) hRP (by omega) (by omega) ?_
  refine w_Cf hC rfl ?_
  refine w_Rp (hC.ka rfl) hRP (by omega) (by omega) ?_
  rw [zI_mul, zI_add, idx_e]
  have i1 := idx_lt hln hmn
  refine w_ald hra.2.2.2 (by omega) (by omega) ?_
  rw [show (((n * l + m : Nat) : Int)).toNat = n * l + m from rfl, k1 r _ hrm i1, if_pos rfl]
  refine w_tab hW (by omega) (by omega) ?_
  refine w_Wk hW (by omega) (by omega) (by omega) ?_
  rw [(frw N4 k2).t (by omega) (by omega) (by omega), zI_add]
  have hb1 := Int.emod_nonneg (DeP n T i j m l (n * l + m)) (show p ≠ 0 by omega)
  have hb2 := Int.emod_lt_of_pos (DeP n T i j m l (n * l + m)) (show 0 < p by omega)
  refine w_by hW (by rw [(frw N4 k2).pe]; omega) ⟨by omega, by omega⟩ ?_
  rw [(frw N4 k2).pe]
  refine w_rowup hC hrm (by omega) i1 (by omega) k1 (fun N5 k5 f5 => ?_)
  have f5' : ∀ b, b < c + 118 ∨ c + 182 ≤ b → N5 b = N b := fun b hb => by rw [f5 b hb, k2 b hb]
  -- second
  refine w_Cf hC rfl ?_
  refine w_Rp (hC.ka rfl) hRP (by omega) (by omega) ?_
  refine w_Cf hC rfl ?_
  refine w_Rp (hC.ka rfl) hRP (by omega) (by omega) ?_
  rw [zI_mul, zI_add, idx_e]
  have i2 := idx_lt hin hln
  refine w_ald hra.2.2.2 (by omega) (by omega) ?_
  rw [show (((n * i + l : Nat) : Int)).toNat = n * i + l from rfl, k5 r _ hrm i2, if_pos rfl]
  refine w_tab hW (by omega) (by omega) ?_
  refine w_Wk hW (by omega) (by omega) (by omega) ?_
  rw [(frw N5 f5').t (by omega) (by omega) (by omega), zI_sub]
  generalize hG5 : (fun q => DeP n T i j m l q + (if q = n * l + m then T i j l else 0)) = G5
  have k5' : ∀ r' q, r' < many → q < n * n → N5 (rpl M (c + 117) r') q = if r' = r then G5 q % p else N3 (rpl M (c + 117) r') q := fun r' q h1 h2 => by rw [k5 r' q h1 h2, ← hG5]
  have hg5 : (DeP n T i j m l (n * i + l) + (if n * i + l = n * l + m then T i j l else 0)) = G5 (n * i + l) := by rw [← hG5]
  rw [hg5]
  have hb3 := Int.emod_nonneg (G5 (n * i + l)) (show p ≠ 0 by omega)
  have hb4 := Int.emod_lt_of_pos (G5 (n * i + l)) (show 0 < p by omega)
  refine w_by hW (by rw [(frw N5 f5').pe]; omega) ⟨by omega, by omega⟩ ?_
  rw [(frw N5 f5').pe, Int.sub_eq_add_neg]
  refine w_rowup hC hrm (by omega) i2 (by omega) k5' (fun N6 k6 f6 => ?_)
  have f6' : ∀ b, b < c + 118 ∨ c + 182 ≤ b → N6 b = N b := fun b hb => by rw [f6 b hb, f5' b hb]
  -- third
  refine w_Cf hC rfl ?_
  refine w_Rp (hC.ka rfl) hRP (by omega) (by omega) ?_
  refine w_Cf hC rfl ?_
  refine w_Rp (hC.ka rfl) hRP (by omega) (by omega) ?_
  rw [zI_mul, zI_add, idx_e]
  have i3 := idx_lt hjn hln
  refine w_ald hra.2.2.2 (by omega) (by omega) ?_
  rw [show (((n * j + l : Nat) : Int)).toNat = n * j + l from rfl, k6 r _ hrm i3, if_pos rfl]
  refine w_tab hW (by omega) (by omega) ?_
  refine w_Wk hW (by omega) (by omega) (by omega) ?_
  rw [(frw N6 f6').t (by omega) (by omega) (by omega), zI_sub]
  generalize hG6 : (fun q => G5 q + (if q = n * i + l then -T l j m else 0)) = G6
  have k6' : ∀ r' q, r' < many → q < n * n → N6 (rpl M (c + 117) r') q = if r' = r then G6 q % p else N3 (rpl M (c + 117) r') q := fun r' q h1 h2 => by rw [k6 r' q h1 h2, ← hG6]
  have hg6 : (G5 (n * j + l) + (if n * j + l = n * i + l then -T l j m else 0)) = G6 (n * j + l) := by rw [← hG6]
  rw [hg6]
  have hb5 := Int.emod_nonneg (G6 (n * j + l)) (show p ≠ 0 by omega)
  have hb6 := Int.emod_lt_of_pos (G6 (n * j + l)) (show 0 < p by omega)
  refine w_by hW (by rw [(frw N6 f6').pe]; omega) ⟨by omega, by omega⟩ ?_
  rw [(frw N6 f6').pe, Int.sub_eq_add_neg]
  refine w_rowup hC hrm (by omega) i3 (by omega) k6' (fun N7 k7 f7 => ?_)
  rw [z_1, zI_add]
  refine w_jcont ⟨hln, rfl, fun r' q h1 h2 => ?_, fun b hb => by rw [f7 b hb, f6' b hb]⟩
  rw [k7 r' q h1 h2]
  by_cases e : r' = r
  · rw [if_pos e, if_pos e]
    congr 1
    rw [← hG6, ← hG5]
    unfold DeP
    rw [sm_s]
    show _ + (if q = n * l + m then T i j l else 0) + (if q = n * i + l then -T l j m else 0) + (if q = n * j + l then -T i l m else 0) = _ + ((if q = n * l + m then T i j l else 0) - (if q = n * i + l then T l j m else 0) - (if q = n * j + l then T i l m else 0))
    have hneg : ∀ (P : Prop) [Decidable P] (x : Int), (if P then -x else 0) = -(if P then x else 0) := fun P _ x => by split <;> omega
    rw [hneg, hneg]
    omega
  · rw [if_neg e, if_neg e]
end CMP6
