/-! TEXTS: tokens and words, with no program in sight. -/
set_option maxRecDepth 100000
section TEXTP
abbrev Tx : Type := Nat × (Nat → Int)
/-- a token: from, to, sort (0 the end, 1 none, 2 a word, 3 a number, 4 a sign), value -/
abbrev Tk : Type := Nat × Nat × Nat × Int
abbrev Er : Type := Int × Int
variable {t : Tx} {n k e e' b d i j la lb f : Nat} {P : Int → Prop} {τ : Tk} {α β : Type} {x : Int}
abbrev Ltr (x : Int) : Prop := 97 ≤ x ∧ x ≤ 122
abbrev Dig (x : Int) : Prop := 48 ≤ x ∧ x ≤ 57
abbrev Sgn (x : Int) : Prop := x = 59 ∨ x = 60 ∨ x = 62 ∨ x = 61
abbrev Blk (x : Int) : Prop := x = 32 ∨ x = 10
noncomputable def runE (P : Int → Prop) (t : Tx) : Nat → Nat → Nat
  | 0, k => k
  | f + 1, k => @ite _ (k < t.1 ∧ P (t.2 k)) (Classical.propDecidable _) (runE P t f (k + 1)) k
def RunE (P : Int → Prop) (t : Tx) (k e : Nat) : Prop := k ≤ e ∧ (∀ j, k ≤ j → j < e → j < t.1 ∧ P (t.2 j)) ∧ ¬ (e < t.1 ∧ P (t.2 e))
theorem RunE.uni (h : RunE P t k e) (h' : RunE P t k e') : e = e' := by
  rcases Nat.lt_trichotomy e e' with q | q | q
  · exact absurd (h'.2.1 e h.1 q) h.2.2
  · exact q
  · exact absurd (h.2.1 e' h'.1 q) h'.2.2
theorem runE_of : ∀ f k, t.1 ≤ k + f → RunE P t k (runE P t f k) := by
  intro f
  induction f with
  | zero => exact fun k hk => ⟨Nat.le_refl _, fun j a b => absurd (Nat.lt_of_le_of_lt a b) (Nat.lt_irrefl _), fun x => absurd x.1 (by show ¬ k < t.1; omega)⟩
  | succ f ih =>
    intro k hk
    show RunE P t k (@ite _ (k < t.1 ∧ P (t.2 k)) (Classical.propDecidable _) (runE P t f (k + 1)) k)
    by_cases q : k < t.1 ∧ P (t.2 k)
    · rw [if_pos q]
      obtain ⟨h1, h2, h3⟩ := ih (k + 1) (by omega)
      refine ⟨by omega, fun j a b => ?_, h3⟩
      by_cases e : j = k
      · rw [e]; exact q
      · exact h2 j (by omega) b
    · rw [if_neg q]
      exact ⟨Nat.le_refl _, fun j a b => absurd (Nat.lt_of_le_of_lt a b) (Nat.lt_irrefl _), q⟩
noncomputable def rEnd (P : Int → Prop) (t : Tx) (k : Nat) : Nat := runE P t t.1 k
theorem rEnd_of : RunE P t k (rEnd P t k) := runE_of t.1 k (by omega)
theorem rEnd_eq (h : RunE P t k e) : rEnd P t k = e := rEnd_of.uni h
theorem RunE.le (h : RunE P t k e) (hk : k ≤ t.1) : e ≤ t.1 := by
  by_cases q : k < e
  · have := h.2.1 (e - 1) (by omega) (by omega)
    omega
  · omega
/-- digits -/
def decV (t : Tx) (b : Nat) : Nat → Int
  | 0 => 0
  | d + 1 => 10 * decV t b d + t.2 (b + d) - 48
theorem decV_bd : ∀ d, (∀ i, i < d → Dig (t.2 (b + i))) → 0 ≤ decV t b d ∧ decV t b d < 10 ^ d := by
  intro d
  induction d with
  | zero => exact fun _ => ⟨Int.le_refl _, by show (0 : Int) < 1; decide⟩
  | succ d ih =>
    intro h
    obtain ⟨h1, h2⟩ := ih (fun i hi => h i (by omega))
    obtain ⟨h3, h4⟩ := h d (by omega)
    have e : decV t b (d + 1) = 10 * decV t b d + t.2 (b + d) - 48 := rfl
    rw [e, Int.pow_succ]
    omega
noncomputable def tokB (t : Tx) (b : Nat) : Tk :=
  if Ltr (t.2 b) then (b, rEnd Ltr t b, 2, 0) else if Dig (t.2 b) then (b, rEnd Dig t b, if 4 < rEnd Dig t b - b then 1 else 3, decV t b (rEnd Dig t b - b)) else (b, b + 1, if Sgn (t.2 b) then 4 else 1, t.2 b)
/-- the token at hand, from a place on -/
noncomputable def tok (t : Tx) (e : Nat) : Tk := if t.1 ≤ rEnd Blk t e then (rEnd Blk t e, rEnd Blk t e, 0, 0) else tokB t (rEnd Blk t e)
noncomputable def nx (t : Tx) (τ : Tk) : Tk := tok t τ.2.1
/-- what holds of every token -/
def TkOk (t : Tx) (τ : Tk) : Prop := τ.1 ≤ t.1 ∧ τ.2.1 ≤ t.1 ∧ τ.2.2.1 ≤ 4 ∧ (τ.2.2.1 = 0 → τ.1 = t.1 ∧ τ.2.1 = t.1) ∧ (τ.2.2.1 ≠ 0 → τ.1 < τ.2.1) ∧ (τ.2.2.1 = 2 → ∀ i, i < τ.2.1 - τ.1 → Ltr (t.2 (τ.1 + i))) ∧ (τ.2.2.1 = 3 → 0 ≤ τ.2.2.2 ∧ τ.2.2.2 ≤ 9999) ∧ (τ.2.2.1 = 4 → 59 ≤ τ.2.2.2 ∧ τ.2.2.2 ≤ 62)
theorem tok_ok (he : e ≤ t.1) : TkOk t (tok t e) ∧ e ≤ (tok t e).1 := by
  have hb : RunE Blk t e (rEnd Blk t e) := rEnd_of
  have hb2 := hb.le he
  have hb1 := hb.1
  unfold tok
  by_cases c1 : t.1 ≤ rEnd Blk t e
  · rw [if_pos c1]
    exact ⟨⟨hb2, hb2, by show 0 ≤ 4; omega, fun _ => ⟨by show rEnd Blk t e = t.1; omega, by show rEnd Blk t e = t.1; omega⟩, fun x => absurd rfl x, fun x => absurd x (by show ¬ (0 : Nat) = 2; omega), fun x => absurd x (by show ¬ (0 : Nat) = 3; omega), fun x => absurd x (by show ¬ (0 : Nat) = 4; omega)⟩, hb1⟩
  rw [if_neg c1]
  generalize rEnd Blk t e = b at *
  unfold tokB
  by_cases c2 : Ltr (t.2 b)
  · rw [if_pos c2]
    have hr : RunE Ltr t b (rEnd Ltr t b) := rEnd_of
    have hr2 := hr.le hb2
    have hr1 := hr.1
    have hlt : b < rEnd Ltr t b := by
      refine Classical.byContradiction fun q => ?_
      have e : rEnd Ltr t b = b := by omega
      have := hr.2.2
      rw [e] at this
      exact this ⟨by omega, c2⟩
    exact ⟨⟨hb2, hr2, by show 2 ≤ 4; omega, fun x => absurd x (by show ¬ (2 : Nat) = 0; omega), fun _ => hlt, fun _ i hi => (hr.2.1 (b + i) (by omega) (by have : i < rEnd Ltr t b - b := hi; omega)).2, fun x => absurd x (by show ¬ (2 : Nat) = 3; omega), fun x => absurd x (by show ¬ (2 : Nat) = 4; omega)⟩, hb1⟩
  rw [if_neg c2]
  by_cases c3 : Dig (t.2 b)
  · rw [if_pos c3]
    have hr : RunE Dig t b (rEnd Dig t b) := rEnd_of
    have hr2 := hr.le hb2
    have hr1 := hr.1
    have hlt : b < rEnd Dig t b := by
      refine Classical.byContradiction fun q => ?_
      have e : rEnd Dig t b = b := by omega
      have := hr.2.2
      rw [e] at this
      exact this ⟨by omega, c3⟩
    have hd := decV_bd (t := t) (b := b) (rEnd Dig t b - b) (fun i hi => (hr.2.1 (b + i) (by omega) (by omega)).2)
    by_cases c4 : 4 < rEnd Dig t b - b
    · rw [if_pos c4]
      exact ⟨⟨hb2, hr2, by show 1 ≤ 4; omega, fun x => absurd x (by show ¬ (1 : Nat) = 0; omega), fun _ => hlt, fun x => absurd x (by show ¬ (1 : Nat) = 2; omega), fun x => absurd x (by show ¬ (1 : Nat) = 3; omega), fun x => absurd x (by show ¬ (1 : Nat) = 4; omega)⟩, hb1⟩
    · rw [if_neg c4]
      refine ⟨⟨hb2, hr2, by show 3 ≤ 4; omega, fun x => absurd x (by show ¬ (3 : Nat) = 0; omega), fun _ => hlt, fun x => absurd x (by show ¬ (3 : Nat) = 2; omega), fun _ => ⟨hd.1, ?_⟩, fun x => absurd x (by show ¬ (3 : Nat) = 4; omega)⟩, hb1⟩
      have h4 : (10 : Int) ^ (rEnd Dig t b - b) ≤ 10000 := by
        rcases (show rEnd Dig t b - b = 0 ∨ rEnd Dig t b - b = 1 ∨ rEnd Dig t b - b = 2 ∨ rEnd Dig t b - b = 3 ∨ rEnd Dig t b - b = 4 by omega) with q | q | q | q | q <;> (rw [q]; decide)
      have h5 := hd.2
      show decV t b (rEnd Dig t b - b) ≤ 9999
      omega
  · rw [if_neg c3]
    by_cases c4 : Sgn (t.2 b)
    · rw [if_pos c4]
      refine ⟨⟨hb2, by show b + 1 ≤ t.1; omega, by show 4 ≤ 4; omega, fun x => absurd x (by show ¬ (4 : Nat) = 0; omega), fun _ => by show b < b + 1; omega, fun x => absurd x (by show ¬ (4 : Nat) = 2; omega), fun x => absurd x (by show ¬ (4 : Nat) = 3; omega), fun _ => ?_⟩, hb1⟩
      show 59 ≤ t.2 b ∧ t.2 b ≤ 62
      omega
    · rw [if_neg c4]
      exact ⟨⟨hb2, by show b + 1 ≤ t.1; omega, by show 1 ≤ 4; omega, fun x => absurd x (by show ¬ (1 : Nat) = 0; omega), fun _ => by show b < b + 1; omega, fun x => absurd x (by show ¬ (1 : Nat) = 2; omega), fun x => absurd x (by show ¬ (1 : Nat) = 3; omega), fun x => absurd x (by show ¬ (1 : Nat) = 4; omega)⟩, hb1⟩
theorem nx_ok (h : TkOk t τ) : TkOk t (nx t τ) ∧ τ.2.1 ≤ (nx t τ).1 := tok_ok h.2.1
/-- words by number -/
def cdW (a : Nat → Int) : Nat → Int
  | 0 => 0
  | d + 1 => cdW a d * 32 + a d - 96
theorem cdW_bd {a : Nat → Int} : ∀ d, (∀ i, i < d → Ltr (a i)) → 0 ≤ cdW a d ∧ cdW a d < 32 ^ d ∧ (d ≠ 0 → 1 ≤ cdW a d) := by
  intro d
  induction d with
  | zero => exact fun _ => ⟨Int.le_refl _, by show (0 : Int) < 1; decide, fun x => absurd rfl x⟩
  | succ d ih =>
    intro h
    obtain ⟨h1, h2, _⟩ := ih (fun i hi => h i (by omega))
    obtain ⟨h3, h4⟩ := h d (by omega)
    have e : cdW a (d + 1) = cdW a d * 32 + a d - 96 := rfl
    rw [e, Int.pow_succ]
    omega
theorem cdW_inj {a c : Nat → Int} : ∀ la lb, (∀ i, i < la → Ltr (a i)) → (∀ i, i < lb → Ltr (c i)) → cdW a la = cdW c lb → la = lb ∧ ∀ i, i < la → a i = c i := by
  intro la
  induction la with
  | zero =>
    intro lb ha hc e
    by_cases q : lb = 0
    · exact ⟨q.symm, fun i hi => absurd hi (by omega)⟩
    · have := (cdW_bd lb hc).2.2 q
      rw [← e] at this
      exact absurd this (by show ¬ (1 : Int) ≤ 0; decide)
  | succ la ih =>
    intro lb ha hc e
    cases lb with
    | zero =>
      have := (cdW_bd (la + 1) ha).2.2 (by omega)
      rw [e] at this
      exact absurd this (by show ¬ (1 : Int) ≤ 0; decide)
    | succ lb =>
      have e : cdW a la * 32 + a la - 96 = cdW c lb * 32 + c lb - 96 := e
      have h1 := ha la (by omega)
      have h2 := hc lb (by omega)
      have e1 : a la = c lb := by omega
      have e2 : cdW a la = cdW c lb := by omega
      obtain ⟨e3, e4⟩ := ih lb (fun i hi => ha i (by omega)) (fun i hi => hc i (by omega)) e2
      refine ⟨by omega, fun i hi => ?_⟩
      by_cases q : i = la
      · rw [q, e1, e3]
      · exact e4 i (by omega)
/-- the key words -/
def kwL : Nat → List Int
  | 0 => [112, 114, 105, 109, 101]
  | 1 => [115, 105, 122, 101]
  | 2 => [98, 114, 97, 99, 107, 101, 116]
  | 3 => [103, 105, 118, 101, 115]
  | 4 => [108, 101, 115, 115]
  | 5 => [111, 102]
  | 6 => [115, 119, 97, 112]
  | 7 => [115, 99, 97, 108, 101]
  | 8 => [97, 100, 100]
  | 9 => [107, 101, 101, 112]
  | 10 => [116, 97, 107, 101]
  | 11 => [115, 117, 109]
  | 12 => [119, 104, 101, 110]
  | 13 => [108, 111, 111, 112]
  | 14 => [115, 116, 111, 112]
  | 15 => [101, 110, 100]
  | 16 => [98, 121]
  | 17 => [116, 111]
  | 18 => [108, 97, 119, 102, 117, 108]
  | 19 => [97, 98, 101, 108, 105, 97, 110]
  | 20 => [110, 105, 108, 112, 111, 116, 101, 110, 116]
  | 21 => [115, 111, 108, 118, 97, 98, 108, 101]
  | 22 => [100, 101, 114, 105, 118, 101, 100]
  | 23 => [115, 97, 109, 101]
  | _ => []
def kwA (k : Nat) : Nat → Int := fun i => (kwL k).getD i 0
/-- the word at hand is the k-th key word -/
def kw (t : Tx) (τ : Tk) (k : Nat) : Prop := τ.2.2.1 = 2 ∧ τ.2.1 - τ.1 = (kwL k).length ∧ ∀ i, i < (kwL k).length → t.2 (τ.1 + i) = kwA k i
theorem kwL_len : ∀ k, k < 24 → 2 ≤ (kwL k).length ∧ (kwL k).length ≤ 9 := by decide
theorem kwL_ltr : ∀ k, k < 24 → ∀ i, i < (kwL k).length → 97 ≤ kwA k i ∧ kwA k i ≤ 122 := by decide
theorem kwL_inj : ∀ k, k < 24 → ∀ j, j < 24 → kwL k = kwL j → k = j := by decide
theorem kwA_ext {k j : Nat} (h1 : (kwL k).length = (kwL j).length) (h2 : ∀ i, i < (kwL k).length → kwA k i = kwA j i) : kwL k = kwL j := by
  refine List.ext_getElem h1 (fun i a b => ?_)
  have := h2 i a
  unfold kwA at this
  rw [List.getD_eq_getElem?_getD, List.getD_eq_getElem?_getD, List.getElem?_eq_getElem a, List.getElem?_eq_getElem b] at this
  exact this
theorem kw_uni {k j : Nat} (hk : k < 24) (hj : j < 24) (h : kw t τ k) (h' : kw t τ j) : k = j :=
  kwL_inj k hk j hj (kwA_ext (h.2.1.symm.trans h'.2.1) (fun i hi => (h.2.2 i hi).symm.trans (h'.2.2 i (by rw [← h'.2.1, h.2.1]; exact hi))))
/-- the model's number of a word -/
def wcd (t : Tx) (b d : Nat) : Int := if d ≤ 9 then cdW (fun i => t.2 (b + i)) d else -1
theorem wcd_kw (h : TkOk t τ) (h2 : τ.2.2.1 = 2) (hk : k < 24) : wcd t τ.1 (τ.2.1 - τ.1) = cdW (kwA k) (kwL k).length ↔ kw t τ k := by
  have hl := kwL_len k hk
  have hL := kwL_ltr k hk
  have hw := h.2.2.2.2.2.1 h2
  unfold wcd
  by_cases c : τ.2.1 - τ.1 ≤ 9
  · rw [if_pos c]
    refine ⟨fun e => ?_, fun q => ?_⟩
    · obtain ⟨e1, e2⟩ := cdW_inj _ _ hw hL e
      exact ⟨h2, e1, fun i hi => e2 i (by omega)⟩
    · have key : ∀ d, d ≤ (kwL k).length → cdW (fun i => t.2 (τ.1 + i)) d = cdW (kwA k) d := by
        intro d
        induction d with
        | zero => exact fun _ => rfl
        | succ d ih =>
          intro hd
          show cdW _ d * 32 + t.2 (τ.1 + d) - 96 = cdW _ d * 32 + kwA k d - 96
          rw [ih (by omega), q.2.2 d (by omega)]
      rw [q.2.1]
      exact key _ (Nat.le_refl _)
  · rw [if_neg c]
    have hb := (cdW_bd _ hL).1
    exact ⟨fun e => absurd e (by omega), fun q => absurd q.2.1 (by omega)⟩
theorem wcd_bd (h : TkOk t τ) (h2 : τ.2.2.1 = 2) (hd : d ≤ τ.2.1 - τ.1) : -1 ≤ wcd t τ.1 d ∧ wcd t τ.1 d < 35184372088832 := by
  have hw := h.2.2.2.2.2.1 h2
  unfold wcd
  by_cases c : d ≤ 9
  · rw [if_pos c]
    have := cdW_bd (a := fun i => t.2 (τ.1 + i)) d (fun i hi => hw i (by omega))
    have h9 : (32 : Int) ^ d ≤ 35184372088832 := by
      have : (32 : Nat) ^ d ≤ 32 ^ 9 := Nat.pow_le_pow_right (by omega) c
      have e : ((32 ^ d : Nat) : Int) = (32 : Int) ^ d := by rw [Int.natCast_pow]; rfl
      have : ((32 ^ d : Nat) : Int) ≤ ((32 ^ 9 : Nat) : Int) := by exact_mod_cast this
      rw [e] at this
      exact this
    omega
  · rw [if_neg c]; exact ⟨by decide, by decide⟩
-- reading
def pbd {α β : Type} (x : Except Er α) (f : α → Except Er β) : Except Er β := match x with
  | .ok v => f v
  | .error e => .error e
theorem pbd_ok {α β : Type} {v : α} {f : α → Except Er β} : pbd (.ok v) f = f v := rfl
theorem pbd_er {α β : Type} {v : Er} {f : α → Except Er β} : pbd (.error v) f = .error v := rfl
/-- what is wrong, and where -/
def flt (τ : Tk) (kd : Int) : Er := (if τ.2.2.1 = 1 then 1 else kd, (τ.1 : Int))
noncomputable def pWord (t : Tx) (k : Nat) (τ : Tk) : Except Er Tk := @ite _ (kw t τ k) (Classical.propDecidable _) (.ok (nx t τ)) (.error (flt τ 2))
def pNum (lo hi : Int) (τ : Tk) : Except Er Int := if τ.2.2.1 = 3 then (if lo ≤ τ.2.2.2 ∧ τ.2.2.2 ≤ hi then .ok τ.2.2.2 else .error (flt τ 4)) else .error (flt τ 2)
noncomputable def pPas (t : Tx) (lo hi : Int) (τ : Tk) : Except Er (Int × Tk) := pbd (pNum lo hi τ) fun v => .ok (v, nx t τ)
abbrev isSg (τ : Tk) (x : Int) : Prop := τ.2.2.1 = 4 ∧ τ.2.2.2 = x
noncomputable def pSgn (t : Tx) (τ : Tk) : Except Er Tk := if isSg τ 59 then .ok (nx t τ) else .error (flt τ 2)
end TEXTP
