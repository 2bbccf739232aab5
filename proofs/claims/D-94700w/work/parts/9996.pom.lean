/-! POUR, the model's. -/
set_option maxRecDepth 100000
section POM
variable {τ : Type} {M M' : Mem} {N N' : NM} {m A B n lo hi k : Nat} {S S' : St} {t u i j z : Int}
/-- numbers of a tray are numbers of a tray -/
def pourV (r r' : Try) (i j n : Nat) : Try := (r'.1, r'.2.1, fun k => if j ≤ k ∧ k < j + n then r.2.2 (i + (k - j)) else r'.2.2 k)
def whyP (S : St) (t i u j n : Int) : Int := if 0 ≤ t ∧ t < 4 ∧ 0 ≤ u ∧ u < 4 then (match S.2.2.1 t.toNat, S.2.2.1 u.toNat with
  | some r, some r' => if r.1 ≠ r'.1 then 11 else if n < 0 then 6 else if i < 0 ∨ j < 0 ∨ (r.2.1 : Int) < i + n ∨ (r'.2.1 : Int) < j + n then 4 else 0
  | _, _ => 3) else 1
def a_pour (S : St) (t i u j n : Int) : St × Int := if whyP S t i u j n = 0 then (match S.2.2.1 t.toNat, S.2.2.1 u.toNat with
  | some r, some r' => (stU (stY S u.toNat (pourV r r' i.toNat j.toNat n.toNat)) 0 0, 1)
  | _, _ => (S, 0)) else (stU S 0 (whyP S t i u j n), 0)
/-- longs, so far poured -/
def pL (M : Mem) (a A B lo hi : Nat) : Nat → Nat → Int64 := fun b q => if b = a ∧ B + lo ≤ q ∧ q < B + hi then mL M a (A + (q - B)) else mL M b q
theorem pL_at {a q : Nat} (h : B + lo ≤ q ∧ q < B + hi) : pL M a A B lo hi a q = mL M a (A + (q - B)) := if_pos ⟨rfl, h⟩
theorem pL_no {a q : Nat} (h : ¬ (B + lo ≤ q ∧ q < B + hi)) : pL M a A B lo hi a q = mL M a q := if_neg (fun x => h x.2)
theorem pL_ne {a b : Nat} (h : b ≠ a) : pL M a A B lo hi b = mL M b := funext fun q => if_neg (fun x => h x.1)
theorem pL_z {a : Nat} (h : hi ≤ lo) : pL M a A B lo hi = mL M := by
  funext b q
  unfold pL
  rw [if_neg (by omega)]
theorem pL_up {a : Nat} (h : lo ≤ hi) : up2 (pL M a A B lo hi) a (B + hi) (mL M a (A + hi)) = pL M a A B lo (hi + 1) := by
  funext b q
  unfold pL
  show (if b = a ∧ q = B + hi then _ else _) = _
  by_cases e : b = a ∧ q = B + hi
  · rw [if_pos e, if_pos (by omega), e.2, show B + hi - B = hi by omega]
  · rw [if_neg e]
    dsimp only
    by_cases e2 : b = a ∧ B + lo ≤ q ∧ q < B + hi
    · rw [if_pos e2, if_pos (by omega)]
    · rw [if_neg e2, if_neg (by omega)]
theorem pL_dn {a : Nat} (h : lo < hi) : up2 (pL M a A B (lo + 1) hi) a (B + lo) (mL M a (A + lo)) = pL M a A B lo hi := by
  funext b q
  unfold pL
  show (if b = a ∧ q = B + lo then _ else _) = _
  by_cases e : b = a ∧ q = B + lo
  · rw [if_pos e, if_pos (by omega), e.2, show B + lo - B = lo by omega]
  · rw [if_neg e]
    dsimp only
    by_cases e2 : b = a ∧ B + (lo + 1) ≤ q ∧ q < B + hi
    · rw [if_pos e2, if_pos (by omega)]
    · rw [if_neg e2, if_neg (by omega)]
theorem ML.sL {L' : Nat → Nat → Int64} (h : ML M m) : ML (sL M L') m := h.ag (fun _ _ _ => ⟨rfl, rfl⟩)
/-- from the start -/
theorem m_pF {Q : Int32 → Mem → NM → Prop} {t u i j n : Nat} (hM : ML M m) (ht : t < 4) (hu : u < 4) (hi : i + n ≤ 60) (hj : j + n ≤ 60) (hsep : t = u → j ≤ i) (h : Q (zI 1) (sL M (pL M (m + 3) (60 * t + i) (60 * u + j) 0 n)) N) :
    ∀ f k, k + f = n → GN (sL M (pL M (m + 3) (60 * t + i) (60 * u + j) 0 k)) N (jloop (fun q => X8_pour_L158 m (zI (t : Nat)) (zI (i : Nat)) (zI (u : Nat)) (zI (j : Nat)) (zI (n : Nat)) (zI 0) q) (zI (k : Nat))) Q := by
  intro f
  induction f with
  | zero =>
    intro k hk
    obtain rfl : k = n := by omega
    refine w_unroll ?_
    unfold X8_pour_L158
    rw [z_1]
    exact w_le ⟨by omega, by omega⟩ ⟨by omega, by omega⟩ (fun _ => w_jinl (w_jp h)) (fun y => absurd y (by omega))
  | succ f ih =>
    intro k hk
    have ih := ih (k + 1) (by omega)
    refine w_unroll ?_
    generalize (jloop (fun q => X8_pour_L158 m (zI (t : Nat)) (zI (i : Nat)) (zI (u : Nat)) (zI (j : Nat)) (zI (n : Nat)) (zI 0) q)) = J at ih ⊢
    unfold X8_pour_L158 X8_pour_b182 
    rw [z_0, z_1, show (60 : Int32) = zI 60 from rfl]
    refine w_le ⟨by omega, by omega⟩ ⟨by omega, by omega⟩ (fun y => absurd y (by omega)) (fun _ => ?_)
    refine w_eq ⟨by omega, by omega⟩ ⟨by omega, by omega⟩ (fun _ => ?_) (fun y => absurd rfl y)
    have hM1 : ML (sL M (pL M (m + 3) (60 * t + i) (60 * u + j) 0 k)) m := hM.sL
    refine w_Mf hM1 rfl (w_Mf hM1 rfl ?_)
    rw [zI_mul, zI_mul, zI_add, zI_add, zI_add, zI_add, show (60 * (t : Int) + (i : Int) + (k : Int)) = ((60 * t + i + k : Nat) : Int) by omega, show (60 * (u : Int) + (j : Int) + (k : Int)) = ((60 * u + j + k : Nat) : Int) by omega]
    refine w_aldL (hM1.ka (o := 3) (d := (3, 240)) rfl) (by omega) (by omega) ?_
    refine w_astl (hM1.ka (o := 3) (d := (3, 240)) rfl) (by omega) (by omega) ?_
    rw [show ((60 * t + i + k : Nat) : Int).toNat = 60 * t + i + k from rfl, show ((60 * u + j + k : Nat) : Int).toNat = 60 * u + j + k from rfl]
    have er : pL M (m + 3) (60 * t + i) (60 * u + j) 0 k (m + 3) (60 * t + i + k) = mL M (m + 3) (60 * t + i + k) := pL_no (by
      rcases Nat.lt_trichotomy t u with e | e | e
      · omega
      · have := hsep e; omega
      · omega)
    rw [show mL (sL M (pL M (m + 3) (60 * t + i) (60 * u + j) 0 k)) (m + 3) (60 * t + i + k) = mL M (m + 3) (60 * t + i + k) from er]
    rw [show sL (sL M (pL M (m + 3) (60 * t + i) (60 * u + j) 0 k)) (up2 (mL (sL M (pL M (m + 3) (60 * t + i) (60 * u + j) 0 k))) (m + 3) (60 * u + j + k) (mL M (m + 3) (60 * t + i + k))) = sL M (up2 (pL M (m + 3) (60 * t + i) (60 * u + j) 0 k) (m + 3) (60 * u + j + k) (mL M (m + 3) (60 * t + i + k))) from rfl, pL_up (Nat.zero_le _), zI_add, show ((k : Int) + 1) = ((k + 1 : Nat) : Int) by omega]
    exact w_jcontB ih
/-- from the end -/
theorem m_pE {Q : Int32 → Mem → NM → Prop} {t u i j n : Nat} (hM : ML M m) (ht : t < 4) (hu : u < 4) (hi : i + n ≤ 60) (hj : j + n ≤ 60) (hsep : t = u → i ≤ j) (h : Q (zI 1) (sL M (pL M (m + 3) (60 * t + i) (60 * u + j) 0 n)) N) :
    ∀ f k, k + f = n → GN (sL M (pL M (m + 3) (60 * t + i) (60 * u + j) f n)) N (jloop (fun q => X8_pour_L158 m (zI (t : Nat)) (zI (i : Nat)) (zI (u : Nat)) (zI (j : Nat)) (zI (n : Nat)) (zI 1) q) (zI (k : Nat))) Q := by
  intro f
  induction f with
  | zero =>
    intro k hk
    obtain rfl : k = n := by omega
    refine w_unroll ?_
    unfold X8_pour_L158
    rw [z_1]
    exact w_le ⟨by omega, by omega⟩ ⟨by omega, by omega⟩ (fun _ => w_jinl (w_jp h)) (fun y => absurd y (by omega))
  | succ f ih =>
    intro k hk
    have ih := ih (k + 1) (by omega)
    refine w_unroll ?_
    generalize (jloop (fun q => X8_pour_L158 m (zI (t : Nat)) (zI (i : Nat)) (zI (u : Nat)) (zI (j : Nat)) (zI (n : Nat)) (zI 1) q)) = J at ih ⊢
    unfold X8_pour_L158 X8_pour_b182 
    rw [z_0, z_1, show (60 : Int32) = zI 60 from rfl]
    refine w_le ⟨by omega, by omega⟩ ⟨by omega, by omega⟩ (fun y => absurd y (by omega)) (fun _ => ?_)
    refine w_eq ⟨by omega, by omega⟩ ⟨by omega, by omega⟩ (fun y => absurd y (by decide)) (fun _ => ?_)
    have hM1 : ML (sL M (pL M (m + 3) (60 * t + i) (60 * u + j) (f + 1) n)) m := hM.sL
    refine w_Mf hM1 rfl (w_Mf hM1 rfl ?_)
    rw [zI_mul, zI_mul, zI_add, zI_add, zI_sub, zI_sub, zI_add, zI_add, zI_add, show (60 * (t : Int) + (i : Int) + ((n : Int) - 1 - (k : Int))) = ((60 * t + i + f : Nat) : Int) by omega, show (60 * (u : Int) + (j : Int) + ((n : Int) - 1 - (k : Int))) = ((60 * u + j + f : Nat) : Int) by omega]
    refine w_aldL (hM1.ka (o := 3) (d := (3, 240)) rfl) (by omega) (by omega) ?_
    refine w_astl (hM1.ka (o := 3) (d := (3, 240)) rfl) (by omega) (by omega) ?_
    rw [show ((60 * t + i + f : Nat) : Int).toNat = 60 * t + i + f from rfl, show ((60 * u + j + f : Nat) : Int).toNat = 60 * u + j + f from rfl]
    have er : pL M (m + 3) (60 * t + i) (60 * u + j) (f + 1) n (m + 3) (60 * t + i + f) = mL M (m + 3) (60 * t + i + f) := pL_no (by
      rcases Nat.lt_trichotomy t u with e | e | e
      · omega
      · have := hsep e; omega
      · omega)
    rw [show mL (sL M (pL M (m + 3) (60 * t + i) (60 * u + j) (f + 1) n)) (m + 3) (60 * t + i + f) = mL M (m + 3) (60 * t + i + f) from er]
    rw [show sL (sL M (pL M (m + 3) (60 * t + i) (60 * u + j) (f + 1) n)) (up2 (mL (sL M (pL M (m + 3) (60 * t + i) (60 * u + j) (f + 1) n))) (m + 3) (60 * u + j + f) (mL M (m + 3) (60 * t + i + f))) = sL M (up2 (pL M (m + 3) (60 * t + i) (60 * u + j) (f + 1) n) (m + 3) (60 * u + j + f) (mL M (m + 3) (60 * t + i + f))) from rfl, pL_dn (by omega), show ((k : Int) + 1) = ((k + 1 : Nat) : Int) by omega]
    exact w_jcontB ih
theorem m_pour {f : Int32 → JM Mem τ} {Q : τ → Mem → NM → Prop} (hR : MR M N m S) (ht : zR t) (hi : zR i) (hu : zR u) (hj : zR j) (hz : zR z) (hso : ∀ k r, k < 4 → S.2.2.1 k = some r → r.1 ≤ 3) (h : mPost M N m (a_pour S t i u j z).1 (f (zI (a_pour S t i u j z).2)) Q) : GN M N (jb (jcall 7 m (f_X8_pour m (zI t) (zI i) (zI u) (zI j) (zI z))) f) Q := by
  have h2 := hR.ml.ka (o := 2) (d := (0, 4)) rfl
  have h1 := hR.ml.ka (o := 1) (d := (0, 4)) rfl
  refine w_Mc hR.ml ?_
  unfold f_X8_pour X8_pour_b28 X8_pour_b52 X8_pour_b136
  refine m_beg0 hR (fun N1 hR1 hF1 => ?_)
  rw [z_0, z_1, z_3, z_4, show (6 : Int32) = zI 6 from rfl, show (11 : Int32) = zI 11 from rfl]
  have no : ∀ v, whyP S t i u j z = v → v ≠ 0 → GN M N1 (jb (jcall 7 m (f_X8_no m (zI v))) fun x => jrz x) (fun v M1 N1 => GN M1 N1 (f v) Q) := fun v e e0 => m_no hR.ml hR1 hF1 h (by
    rw [stU_2]
    unfold a_pour
    rw [if_neg (by rw [e]; exact e0), e])
  have bad : ¬ (0 ≤ t ∧ t < 4 ∧ 0 ≤ u ∧ u < 4) → GN M N1 (jb (jcall 7 m (f_X8_no m (zI 1))) fun x => jrz x) (fun v M1 N1 => GN M1 N1 (f v) Q) := fun e => no 1 (if_neg e) (by decide)
  refine w_lt ht ⟨by omega, by omega⟩ (fun e => bad (by omega)) (fun e1 => ?_)
  refine w_le ⟨by omega, by omega⟩ ht (fun e => bad (by omega)) (fun e2 => ?_)
  refine w_lt hu ⟨by omega, by omega⟩ (fun e => bad (by omega)) (fun e3 => ?_)
  refine w_lt hu ⟨by omega, by omega⟩ (fun e4 => ?_) (fun e => bad (by omega))
  have hin : 0 ≤ t ∧ t < 4 ∧ 0 ≤ u ∧ u < 4 := by omega
  obtain ⟨t, rfl⟩ : ∃ k : Nat, t = k := ⟨t.toNat, by omega⟩
  obtain ⟨u, rfl⟩ : ∃ k : Nat, u = k := ⟨u.toNat, by omega⟩
  have hT := hR1.2.2.2.1 t (by omega)
  have hU := hR1.2.2.2.1 u (by omega)
  rw [show (stU S 0 0).2.2.1 = S.2.2.1 from rfl] at hT hU
  refine w_Mf hR.ml rfl (w_ald h2 (by omega) (by omega) ?_)
  rw [show ((t : Int).toNat) = t from rfl]
  have hwhy : whyP S t i u j z = (match S.2.2.1 t, S.2.2.1 u with
    | some r, some r' => if r.1 ≠ r'.1 then 11 else if z < 0 then 6 else if i < 0 ∨ j < 0 ∨ (r.2.1 : Int) < i + z ∨ (r'.2.1 : Int) < j + z then 4 else 0
    | _, _ => 3) := if_pos hin
  have hpour : whyP S t i u j z = 0 → a_pour S t i u j z = (match S.2.2.1 t, S.2.2.1 u with
    | some r, some r' => (stU (stY S u (pourV r r' i.toNat j.toNat z.toNat)) 0 0, 1)
    | _, _ => (S, 0)) := fun e => if_pos e
  cases eT : S.2.2.1 t with
  | none =>
    rw [eT] at hT hwhy
    rw [show N1 (m + 2) t = -1 from hT]
    exact w_lt ⟨by omega, by omega⟩ ⟨by omega, by omega⟩ (fun _ => no 3 hwhy (by decide)) (fun e => absurd e (by decide))
  | some r =>
    rw [eT] at hT hwhy hpour
    obtain ⟨a0, a1, a2, a3, a4⟩ := hT
    have hs := hso t r (by omega) eT
    rw [a3]
    refine w_lt ⟨by omega, by omega⟩ ⟨by omega, by omega⟩ (fun e => absurd e (by omega)) (fun _ => ?_)
    refine w_Mf hR.ml rfl (w_ald h2 (by omega) (by omega) ?_)
    rw [show ((u : Int).toNat) = u from rfl]
    cases eU : S.2.2.1 u with
    | none =>
      rw [eU] at hU hwhy
      rw [show N1 (m + 2) u = -1 from hU]
      exact w_le ⟨by omega, by omega⟩ ⟨by omega, by omega⟩ (fun e => absurd e (by decide)) (fun _ => no 3 hwhy (by decide))
    | some r' =>
      rw [eU] at hU hwhy hpour
      obtain ⟨b0, b1, b2, b3, b4⟩ := hU
      have hs2 := hso u r' (by omega) eU
      rw [b3]
      refine w_le ⟨by omega, by omega⟩ ⟨by omega, by omega⟩ (fun _ => ?_) (fun e => absurd e (by omega))
      refine w_Mf hR.ml rfl (w_ald h1 (by omega) (by omega) ?_)
      rw [show ((t : Int).toNat) = t from rfl, a0]
      refine w_Mf hR.ml rfl (w_ald h1 (by omega) (by omega) ?_)
      rw [show ((u : Int).toNat) = u from rfl, b0]
      have hwhy : whyP S t i u j z = if r.1 ≠ r'.1 then 11 else if z < 0 then 6 else if i < 0 ∨ j < 0 ∨ (r.2.1 : Int) < i + z ∨ (r'.2.1 : Int) < j + z then 4 else 0 := hwhy
      have hpour : whyP S t i u j z = 0 → a_pour S t i u j z = (stU (stY S u (pourV r r' i.toNat j.toNat z.toNat)) 0 0, 1) := hpour
      refine w_eq ⟨by omega, by omega⟩ ⟨by omega, by omega⟩ (fun e5 => ?_) (fun e => no 11 (by rw [hwhy, if_pos (by omega)]) (by decide))
      rw [if_neg (by omega)] at hwhy
      refine w_le ⟨by omega, by omega⟩ hz (fun e6 => ?_) (fun e => no 6 (by rw [hwhy, if_pos (by omega)]) (by decide))
      rw [if_neg (by omega)] at hwhy
      have out : (i < 0 ∨ j < 0 ∨ (r.2.1 : Int) < i + z ∨ (r'.2.1 : Int) < j + z) → GN M N1 (jb (jcall 7 m (f_X8_no m (zI 4))) fun x => jrz x) (fun v M1 N1 => GN M1 N1 (f v) Q) := fun e => no 4 (by rw [hwhy, if_pos e]) (by decide)
      refine w_lt hi ⟨by omega, by omega⟩ (fun e => out (by omega)) (fun e7 => ?_)
      refine w_lt hj ⟨by omega, by omega⟩ (fun e => out (by omega)) (fun e8 => ?_)
      have zi := hi.2
      have zj := hj.2
      have zz := hz.2
      refine w_Mf hR.ml rfl (w_ald h2 (by omega) (by omega) ?_)
      rw [show ((t : Int).toNat) = t from rfl, a3, zL_int ⟨by omega, by omega⟩, zL_int hi, zL_int hz, zL_add]
      refine w_ltL ⟨by omega, by omega⟩ ⟨by omega, by omega⟩ (fun e => out (by omega)) (fun e9 => ?_)
      refine w_Mf hR.ml rfl (w_ald h2 (by omega) (by omega) ?_)
      rw [show ((u : Int).toNat) = u from rfl, b3, zL_int hj, zL_int (z := ((r'.2.1 : Nat) : Int)) ⟨by omega, by omega⟩, zL_add]
      refine w_leL ⟨by omega, by omega⟩ ⟨by omega, by omega⟩ (fun e10 => ?_) (fun e => out (by omega))
      rw [if_neg (by omega)] at hwhy
      rw [hpour hwhy] at h
      obtain ⟨i, rfl⟩ : ∃ k : Nat, i = k := ⟨i.toNat, by omega⟩
      obtain ⟨j, rfl⟩ : ∃ k : Nat, j = k := ⟨j.toNat, by omega⟩
      obtain ⟨z, rfl⟩ : ∃ k : Nat, z = k := ⟨z.toNat, by omega⟩
      rw [show ((i : Int).toNat) = i from rfl, show ((j : Int).toNat) = j from rfl, show ((z : Int).toNat) = z from rfl] at h
      have fin : GN (sL M (pL M (m + 3) (60 * t + i) (60 * u + j) 0 z)) N1 (f (zI 1)) Q := by
        have hy := hR1.setY (t := u) (r := pourV r r' i j z) (L' := pL M (m + 3) (60 * t + i) (60 * u + j) 0 z) (N' := N1) (by omega) (fun _ _ _ => rfl) (fun _ _ => rfl) (fun _ _ => rfl) (fun b hb => pL_ne hb) (fun q hq => pL_no (by omega)) ⟨b0, b1, b2, b3, fun k hk => ?_⟩
        · exact h _ N1 hy (hF1.pL3 (fun b hb => pL_ne (by omega)))
        · have hk : k < r'.2.1 := hk
          show pL M (m + 3) (60 * t + i) (60 * u + j) 0 z (m + 3) (60 * u + k) = zL (if j ≤ k ∧ k < j + z then r.2.2 (i + (k - j)) else r'.2.2 k) ∧ zRL (if j ≤ k ∧ k < j + z then r.2.2 (i + (k - j)) else r'.2.2 k)
          by_cases e : j ≤ k ∧ k < j + z
          · rw [if_pos e, pL_at (by omega), show 60 * t + i + (60 * u + k - (60 * u + j)) = 60 * t + (i + (k - j)) by omega]
            exact a4 (i + (k - j)) (by omega)
          · rw [if_neg e, pL_no (by omega)]
            exact b4 k hk
      have e0 : sL M (pL M (m + 3) (60 * t + i) (60 * u + j) 0 0) = M := by rw [pL_z (Nat.le_refl _)]; rfl
      have e1 : sL M (pL M (m + 3) (60 * t + i) (60 * u + j) z z) = M := by rw [pL_z (Nat.le_refl _)]; rfl
      refine w_le ⟨by omega, by omega⟩ ⟨by omega, by omega⟩ (fun e11 => ?_) (fun e11 => ?_)
      · unfold X8_pour_b153
        rw [z_0]
        have := m_pF (Q := fun v M1 N1 => GN M1 N1 (f v) Q) (N := N1) (M := M) (t := t) (u := u) (i := i) (j := j) (n := z) hR.ml (by omega) (by omega) (by omega) (by omega) (fun _ => by omega) fin z 0 (by omega)
        rw [e0] at this
        exact this
      · unfold X8_pour_b153
        rw [z_0]
        have := m_pE (Q := fun v M1 N1 => GN M1 N1 (f v) Q) (N := N1) (M := M) (t := t) (u := u) (i := i) (j := j) (n := z) hR.ml (by omega) (by omega) (by omega) (by omega) (fun _ => by omega) fin z 0 (by omega)
        rw [e1] at this
        exact this
end POM
