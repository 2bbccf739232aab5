/-! FORMS BY SETS: numbers of sets, rows of d. -/
set_option maxRecDepth 100000
section DFORM
/-- a set without two of its members -/
def ot (set i j : Nat) : Nat := set &&& (31 ^^^ (2 ^ i ||| 2 ^ j))
/-- the number of a set among those of as many -/
def nosN (s : Nat) : Nat → Nat
  | 0 => 0
  | k + 1 => nosN s k + if bcn k 5 = bcn s 5 then 1 else 0
def nos (s : Nat) : Nat := nosN s s
/-- how many sets of a size -/
def seN (d : Nat) : Nat → Nat
  | 0 => 0
  | k + 1 => seN d k + if bcn k 5 = d then 1 else 0
def ses (n d : Nat) : Nat := seN d (2 ^ n)
theorem ot_lt : ∀ n, n < 6 → ∀ set, set < 2 ^ n → ∀ i, i < 5 → ∀ j, j < 5 → ot set i j < 2 ^ n := by decide +kernel
theorem ot_or : ∀ n, n < 6 → ∀ o, o < 2 ^ n → ∀ l, l < n → o ||| 2 ^ l < 2 ^ n := by decide +kernel
/-- a set of one less than the one that is told of -/
def ot_b (set i j l : Nat) : Bool := !(decide (i < j) && set / 2 ^ i % 2 == 1 && set / 2 ^ j % 2 == 1 && !(ot set i j / 2 ^ l % 2 == 1)) || bcn (ot set i j ||| 2 ^ l) 5 + 1 == bcn set 5
theorem ot_b_ok : ∀ set, set < 32 → ∀ i, i < 5 → ∀ j, j < 5 → ∀ l, l < 5 → ot_b set i j l = true := by decide +kernel
theorem ot_cnt (set : Nat) (h : set < 32) (i : Nat) (hi : i < 5) (j : Nat) (hj : j < 5) (l : Nat) (hl : l < 5) (h1 : i < j) (h2 : set / 2 ^ i % 2 = 1) (h3 : set / 2 ^ j % 2 = 1) (h4 : ¬ ot set i j / 2 ^ l % 2 = 1) : bcn (ot set i j ||| 2 ^ l) 5 + 1 = bcn set 5 := by
  have := ot_b_ok set h i hi j hj l hl
  unfold ot_b at this
  rw [h2, h3] at this
  simpa [h1, h4] using this
theorem nos_lt : ∀ n, n < 6 → ∀ s, s < 2 ^ n → nos s < ses n (bcn s 5) := by decide +kernel
theorem ses_le : ∀ n, n < 6 → ∀ d, d < 6 → ses n d ≤ 10 := by decide +kernel
theorem seN_le (d : Nat) : ∀ k, seN d k ≤ k
  | 0 => Nat.le_refl _
  | k + 1 => by
    show seN d k + (if bcn k 5 = d then 1 else 0) ≤ k + 1
    have := seN_le d k
    split <;> omega
theorem nosN_le (s : Nat) : ∀ k, nosN s k ≤ k
  | 0 => Nat.le_refl _
  | k + 1 => by
    show nosN s k + (if bcn k 5 = bcn s 5 then 1 else 0) ≤ k + 1
    have := nosN_le s k
    split <;> omega
def sgn (set i j l : Nat) : Int := if (bcn set i + bcn set j + bcn (ot set i j) l) % 2 = 0 then 1 else -1
/-- what three numbers give to a row -/
def tm (T : Nat → Nat → Nat → Int) (set i j l k : Nat) : Int := if i < j ∧ set / 2 ^ i % 2 = 1 ∧ set / 2 ^ j % 2 = 1 ∧ ¬ ot set i j / 2 ^ l % 2 = 1 ∧ nos (ot set i j ||| 2 ^ l) = k then sgn set i j l * T i j l else 0
/-- the row of a set -/
def TR (n : Nat) (T : Nat → Nat → Nat → Int) (set k : Nat) : Int := sm n (fun i => sm n (fun j => sm n (fun l => tm T set i j l k)))
variable {p : Int} {n m : Nat} {T : Nat → Nat → Nat → Int}
theorem tm_0 {set i j l k : Nat} (h : ¬ (i < j ∧ set / 2 ^ i % 2 = 1 ∧ set / 2 ^ j % 2 = 1 ∧ ¬ ot set i j / 2 ^ l % 2 = 1 ∧ nos (ot set i j ||| 2 ^ l) = k)) : tm T set i j l k = 0 := if_neg h
/-- the rows are narrow -/
theorem TR_out {set d k : Nat} (hn : n ≤ 5) (hs : set < 2 ^ n) (hd : bcn set 5 = d + 1) (hk : ses n d ≤ k) : TR n T set k = 0 := by
  have h32 : set < 32 := by
    have := Nat.pow_le_pow_right (n := 2) (by omega) hn
    omega
  refine (sm_congr (g := fun _ => 0) (fun i hi => ?_)).trans (sm_zero n)
  refine (sm_congr (g := fun _ => 0) (fun j hj => ?_)).trans (sm_zero n)
  refine (sm_congr (g := fun _ => 0) (fun l hl => tm_0 (fun ⟨h1, h2, h3, h4, h5⟩ => ?_))).trans (sm_zero n)
  have e1 := ot_cnt set h32 i (by omega) j (by omega) l (by omega) h1 h2 h3 h4
  have e2 := ot_or n (by omega) _ (ot_lt n (by omega) set hs i (by omega) j (by omega)) l hl
  have e3 := nos_lt n (by omega) _ e2
  rw [show bcn (ot set i j ||| 2 ^ l) 5 = d by omega, h5] at e3
  omega
/-- narrow rows generate as much in a wider space -/
theorem Sbp.wide {S : VS} {w w' : Nat} (h : Sbp p w S) (hw : w ≤ w') : Sbp p w' S := ⟨fun u v hu e => h.q hu (fun k hk => e k (by omega)), h.z, fun c u v hu hv => h.ax c hu hv⟩
theorem dm_wide {w w' : Nat} {B : Nat → Nat → Int} (hw : w ≤ w') (hB : ∀ r, r < m → ∀ k, w ≤ k → k < w' → B r k = 0) : dm p w' (Rs p w' m B) = dm p w (Rs p w m B) := by
  have h1 : ∀ v, Rs p w' m B v → Rs p w m B v := fun v hv => Rs.le ((Rs.sb (p := p) (n := w)).wide hw) (fun r hr => Rs.mem hr) hv
  have h2 : ∀ v, Rs p w' m B v → ∀ k, w ≤ k → k < w' → Cg p (v k) 0 := by
    intro v hv
    have hS : Sbp p w' (fun v => ∀ k, w ≤ k → k < w' → Cg p (v k) 0) := by
      refine ⟨fun u v hu e k hk hk2 => (e k hk2).sy.tr (hu k hk hk2), fun _ _ _ => Cg.rf, fun c u v hu hv k hk hk2 => ?_⟩
      have := (hu k hk hk2).add (Cg.ml c (hv k hk hk2))
      simpa using this
    exact Rs.le hS (fun r hr k hk hk2 => Cg.of (hB r hr k hk hk2)) hv
  have h3 : ∀ v, Rs p w m B v → ∃ u, Rs p w' m B u ∧ Vq p w v u := by
    intro v hv
    have hS : Sbp p w (fun v => ∃ u, Rs p w' m B u ∧ Vq p w v u) := by
      refine ⟨fun u v ⟨x, hx, hq⟩ e => ⟨x, hx, e.sy.tr hq⟩, ⟨_, Rs.sb.z, Vq.rf⟩, fun c u v ⟨x, hx, hq⟩ ⟨y, hy, hr⟩ => ⟨_, Rs.sb.ax c hx hy, fun k hk => (hq k hk).add (Cg.ml c (hr k hk))⟩⟩
    exact Rs.le hS (fun r hr => ⟨B r, Rs.mem hr, Vq.rf⟩) hv
  have key : ∀ l, Lds p w' (Rs p w' m B) l ↔ Lds p w (Rs p w m B) l := by
    intro l
    constructor
    · rintro ⟨v, hv, h4, h5, h6⟩
      have : l < w := by
        refine Classical.byContradiction fun hge => h5 (h2 v hv l (by omega) h4)
      exact ⟨v, h1 v hv, this, h5, h6⟩
    · rintro ⟨v, hv, h4, h5, h6⟩
      obtain ⟨u, hu, hq⟩ := h3 v hv
      exact ⟨u, hu, by omega, fun e => h5 ((hq l h4).tr e), fun k hk => (hq k (by omega)).sy.tr (h6 k hk)⟩
  have hcn : ∀ d, cn (w + d) (Lds p w (Rs p w m B)) = cn w (Lds p w (Rs p w m B)) := by
    intro d
    induction d with
    | zero => rfl
    | succ d ih =>
      show cn (w + d + 1) _ = _
      rw [cn_neg (fun ⟨v, _, h4, _⟩ => by omega), ih]
  show cn w' _ = cn w _
  rw [cn_congr (fun l _ => key l), show w' = w + (w' - w) by omega, hcn]
/-- the rows of d from forms of a degree on -/
def DrS (p : Int) (n : Nat) (T : Nat → Nat → Nat → Int) (d : Nat) : VS := Gn p (ses n d) (fun g => ∃ set, set < 2 ^ n ∧ bcn set 5 = d + 1 ∧ g = TR n T set)
noncomputable def DrR (p : Int) (n : Nat) (T : Nat → Nat → Nat → Int) (d : Nat) : Nat := dm p (ses n d) (DrS p n T d)
/-- how many classes -/
noncomputable def Cls (p : Int) (n : Nat) (T : Nat → Nat → Nat → Int) (d : Nat) : Int := (ses n d : Nat) - (DrR p n T d : Nat) - (if d = 0 then 0 else (DrR p n T (d - 1) : Nat))
end DFORM
