/-! WHAT SEEKING FINDS; maps are orbits. -/
set_option maxRecDepth 100000
section SKE
variable {p : Int} {n lev : Nat} {F T : Nat → Nat → Nat → Int} {im im' B : Nat → Nat → Int}
def SkE (p : Int) (n : Nat) (F T : Nat → Nat → Nat → Int) : Nat → (Nat → Nat → Int) → Prop
  | 0, _ => True
  | d + 1, im => ∃ v : Nat, 1 ≤ v ∧ v ≤ (p ^ n).toNat - 1 ∧ SkOk p n F T (n - (d + 1)) im v ∧ SkE p n F T d (imS p n (n - (d + 1)) im v)
def skK (K : Nat) : Nat → Nat
  | 0 => 0
  | d + 1 => K * (1 + skK K d)
theorem skL_ex : ∀ d im (st : Sk), st.2.1 = 0 → st.2.2 = 0 → st.1 + skK ((p ^ n).toNat - 1) d ≤ 199999 →
    (skL p n F T ((1 : Int) = 1) d im st).1 ≤ st.1 + skK ((p ^ n).toNat - 1) d ∧ (skL p n F T ((1 : Int) = 1) d im st).2.2 = 0 ∧ (0 < (skL p n F T ((1 : Int) = 1) d im st).2.1 ↔ SkE p n F T d im) := by
  intro d
  induction d with
  | zero =>
    intro im st h1 h2 h3
    refine ⟨Nat.le_refl _, h2, ?_⟩
    show 0 < st.2.1 + 1 ↔ True
    exact ⟨fun _ => trivial, fun _ => by omega⟩
  | succ d ih =>
    intro im st h1 h2 h3
    generalize hK : (p ^ n).toNat - 1 = K at *
    have h3 : st.1 + K * (1 + skK K d) ≤ 199999 := h3
    have key : ∀ k, k ≤ K → (skR p n F T ((1 : Int) = 1) (skL p n F T ((1 : Int) = 1) d) (n - (d + 1)) im st k).1 ≤ st.1 + k * (1 + skK K d) ∧ (skR p n F T ((1 : Int) = 1) (skL p n F T ((1 : Int) = 1) d) (n - (d + 1)) im st k).2.2 = 0 ∧
        (0 < (skR p n F T ((1 : Int) = 1) (skL p n F T ((1 : Int) = 1) d) (n - (d + 1)) im st k).2.1 ↔ ∃ v : Nat, 1 ≤ v ∧ v ≤ k ∧ SkOk p n F T (n - (d + 1)) im v ∧ SkE p n F T d (imS p n (n - (d + 1)) im v)) := by
      intro k
      induction k with
      | zero =>
        intro _
        refine ⟨by show st.1 ≤ _; omega, h2, ?_⟩
        show 0 < st.2.1 ↔ _
        rw [h1]
        exact ⟨fun h => absurd h (by omega), fun ⟨v, a, b, _⟩ => by omega⟩
      | succ k ihk =>
        intro hk
        obtain ⟨i1, i2, i3⟩ := ihk (by omega)
        have e : skR p n F T ((1 : Int) = 1) (skL p n F T ((1 : Int) = 1) d) (n - (d + 1)) im st (k + 1) = skS p n F T ((1 : Int) = 1) (skL p n F T ((1 : Int) = 1) d) (n - (d + 1)) im (k + 1) (skR p n F T ((1 : Int) = 1) (skL p n F T ((1 : Int) = 1) d) (n - (d + 1)) im st k) := rfl
        rw [e]
        generalize skR p n F T ((1 : Int) = 1) (skL p n F T ((1 : Int) = 1) d) (n - (d + 1)) im st k = s at *
        have hm1 : (k + 1) * (1 + skK K d) = k * (1 + skK K d) + (1 + skK K d) := Nat.succ_mul _ _
        have hm2 : (k + 1) * (1 + skK K d) ≤ K * (1 + skK K d) := Nat.mul_le_mul_right _ hk
        generalize K * (1 + skK K d) = X2 at *
        generalize (k + 1) * (1 + skK K d) = X1 at *
        generalize k * (1 + skK K d) = X0 at *
        by_cases hpos : 0 < s.2.1
        · rw [skS_stop (Or.inr ⟨rfl, hpos⟩)]
          refine ⟨by omega, i2, fun h => ?_, fun _ => hpos⟩
          obtain ⟨v, a, b, c⟩ := i3.mp h
          exact ⟨v, a, by omega, c⟩
        · unfold skS
          rw [if_neg (fun x => x.elim (fun y => by omega) (fun y => hpos y.2)), if_neg (show ¬ s.1 = 200000 by omega)]
          by_cases hok : SkOk p n F T (n - (d + 1)) im (k + 1 : Nat)
          · rw [if_pos hok]
            obtain ⟨r1, r2, r3⟩ := ih (imS p n (n - (d + 1)) im (k + 1 : Nat)) (s.1 + 1, s.2) (by show s.2.1 = 0; omega) i2 (by show s.1 + 1 + _ ≤ _; omega)
            have r1 : (skL p n F T ((1 : Int) = 1) d (imS p n (n - (d + 1)) im (k + 1 : Nat)) (s.1 + 1, s.2)).1 ≤ s.1 + 1 + skK K d := r1
            refine ⟨by omega, r2, r3.trans ⟨fun h => ⟨k + 1, by omega, Nat.le_refl _, hok, h⟩, fun ⟨v, a, b, c, g⟩ => ?_⟩⟩
            by_cases ev : v = k + 1
            · rw [ev] at g; exact g
            · exact absurd (i3.mpr ⟨v, a, by omega, c, g⟩) hpos
          · rw [if_neg hok]
            refine ⟨by show s.1 + 1 ≤ _; omega, i2, fun h => absurd h hpos, fun ⟨v, a, b, c, g⟩ => ?_⟩
            by_cases ev : v = k + 1
            · rw [ev] at c; exact absurd c hok
            · exact absurd (i3.mpr ⟨v, a, by omega, c, g⟩) hpos
    have e2 : skL p n F T ((1 : Int) = 1) (d + 1) im st = skR p n F T ((1 : Int) = 1) (skL p n F T ((1 : Int) = 1) d) (n - (d + 1)) im st K := by
      rw [← hK]
      rfl
    have e3 : SkE p n F T (d + 1) im ↔ ∃ v : Nat, 1 ≤ v ∧ v ≤ K ∧ SkOk p n F T (n - (d + 1)) im v ∧ SkE p n F T d (imS p n (n - (d + 1)) im v) := by
      rw [← hK]
      exact Iff.rfl
    rw [e2, e3]
    exact key K (Nat.le_refl _)
/-- images known and images by number -/
def rwS (p : Int) (n d : Nat) (im : Nat → Nat → Int) (f : Nat → Nat) : Nat → Nat → Int := fun k => if k < n - d then im k else dgv p n (f k : Nat)
theorem SkOk.q {v : Nat} (h : ∀ k, k < lev → im k = im' k) : SkOk p n F T lev im v ↔ SkOk p n F T lev im' v := by
  unfold SkOk
  have e : ∀ k, k ≤ lev → imS p n lev im v k = imS p n lev im' v k := fun k hk => by
    unfold imS
    by_cases c : k = lev
    · rw [if_pos c, if_pos c]
    · rw [if_neg c, if_neg c]; exact h k (by omega)
  rw [Rs.same h, Fit.q e]
theorem SkE.iff : ∀ d, d ≤ n → ∀ im, SkE p n F T d im ↔ ∃ f : Nat → Nat, ∀ i, n - d ≤ i → i < n → 1 ≤ f i ∧ f i ≤ (p ^ n).toNat - 1 ∧ SkOk p n F T i (rwS p n d im f) (f i) := by
  intro d
  induction d with
  | zero => intro _ im; exact ⟨fun _ => ⟨fun _ => 0, fun i h1 h2 => absurd h2 (by omega)⟩, fun _ => trivial⟩
  | succ d ih =>
    intro hd im
    have hr : ∀ (v : Nat) (f g : Nat → Nat), g (n - (d + 1)) = v → (∀ k, n - d ≤ k → g k = f k) → rwS p n (d + 1) im g = rwS p n d (imS p n (n - (d + 1)) im v) f := fun v f g h1 h2 => by
      funext k
      unfold rwS imS
      by_cases c : k < n - (d + 1)
      · rw [if_pos c, if_pos (show k < n - d by omega), if_neg (show ¬ k = n - (d + 1) by omega)]
      · rw [if_neg c]
        by_cases c2 : k = n - (d + 1)
        · rw [if_pos (show k < n - d by omega), if_pos c2, c2, h1]
        · rw [if_neg (show ¬ k < n - d by omega), h2 k (by omega)]
    constructor
    · rintro ⟨v, h1, h2, h3, h4⟩
      obtain ⟨f, hf⟩ := (ih (by omega) _).mp h4
      refine ⟨fun i => if i = n - (d + 1) then v else f i, fun i hi1 hi2 => ?_⟩
      rw [hr v f (fun i => if i = n - (d + 1) then v else f i) (if_pos rfl) (fun k hk => if_neg (by omega))]
      show 1 ≤ (if i = n - (d + 1) then v else f i) ∧ (if i = n - (d + 1) then v else f i) ≤ (p ^ n).toNat - 1 ∧ SkOk p n F T i (rwS p n d (imS p n (n - (d + 1)) im v) f) (if i = n - (d + 1) then v else f i)
      by_cases c : i = n - (d + 1)
      · rw [if_pos c, c]
        refine ⟨h1, h2, (SkOk.q (fun k hk => ?_)).mp h3⟩
        unfold rwS imS
        rw [if_pos (show k < n - d by omega), if_neg (show ¬ k = n - (d + 1) by omega)]
      · rw [if_neg c]
        exact hf i (by omega) hi2
    · rintro ⟨f, hf⟩
      obtain ⟨a1, a2, a3⟩ := hf (n - (d + 1)) (Nat.le_refl _) (by omega)
      refine ⟨f (n - (d + 1)), a1, a2, (SkOk.q (fun k hk => ?_)).mp a3, (ih (by omega) _).mpr ⟨f, fun i h1 h2 => ?_⟩⟩
      · unfold rwS
        rw [if_pos hk]
      · have := hf i (by omega) h2
        rw [hr (f (n - (d + 1))) f f rfl (fun _ _ => rfl)] at this
        exact this
theorem mpS_iff (hK : skK ((p ^ n).toNat - 1) n ≤ 199999) : 0 < (mpS p n F T ((1 : Int) = 1)).2.1 ↔ ∃ f : Nat → Nat, ∀ i, i < n → 1 ≤ f i ∧ f i ≤ (p ^ n).toNat - 1 ∧ SkOk p n F T i (fun k => dgv p n (f k : Nat)) (f i) := by
  have h := (skL_ex (p := p) (n := n) (F := F) (T := T) n (fun _ _ => 0) (0, 0, 0) rfl rfl (by show 0 + _ ≤ _; omega)).2.2
  have hr : ∀ f : Nat → Nat, rwS p n n (fun _ _ => 0) f = fun k => dgv p n (f k : Nat) := fun f => by
    funext k
    unfold rwS
    rw [if_neg (by omega)]
  refine h.trans ((SkE.iff n (Nat.le_refl _) _).trans ⟨fun ⟨f, hf⟩ => ⟨f, fun i hi => ?_⟩, fun ⟨f, hf⟩ => ⟨f, fun i _ hi => ?_⟩⟩)
  · have := hf i (by omega) hi
    rw [hr] at this
    exact this
  · rw [hr]
    exact hf i hi
theorem fit_iff : (∀ i, i < n → Fit p n F T i B) ↔ Hm p n F T B := by
  constructor
  · intro h i j h1 h2 m hm
    have := h (n - 1) (by omega) i j h1 (by omega) (fun k h1 h2 => by omega) m hm
    rw [show n - 1 + 1 = n by omega] at this
    exact this
  · intro h l hl i j hij hj hw m hm
    have := h i j hij (by omega) m hm
    rw [sm_cut (m := l + 1) n (by omega) (fun k h1 h2 => by rw [hw k (by omega) h2, Int.zero_mul])] at this
    exact this
/-- alike -/
def Iso (p : Int) (n : Nat) (F T : Nat → Nat → Nat → Int) : Prop := ∃ B : Nat → Nat → Int, (∀ i k, 0 ≤ B i k ∧ B i k < p ∧ (n ≤ k → B i k = 0)) ∧ Ind p n B ∧ Hm p n F T B
theorem code_ex {Q : Nat} (hQ : 0 < Q) : ∀ l (f : Nat → Nat), (∀ i, i < l → f i < Q) → ∃ v, v < Q ^ l ∧ ∀ i, i < l → v / Q ^ i % Q = f i := by
  intro l
  induction l with
  | zero => intro f _; exact ⟨0, by rw [Nat.pow_zero]; omega, fun i hi => absurd hi (by omega)⟩
  | succ l ih =>
    intro f hf
    obtain ⟨v, hv, h⟩ := ih (fun i => f (i + 1)) (fun i hi => hf (i + 1) (by omega))
    have h0 := hf 0 (by omega)
    refine ⟨f 0 + Q * v, ?_, fun i hi => ?_⟩
    · have := Nat.mul_le_mul_left Q hv
      rw [Nat.pow_succ']
      rw [Nat.succ_eq_add_one, Nat.mul_add, Nat.mul_one] at this
      omega
    · match i, hi with
      | 0, _ => rw [Nat.pow_zero, Nat.div_one, Nat.add_mul_mod_self_left, Nat.mod_eq_of_lt h0]
      | i + 1, hi =>
        rw [Nat.pow_succ', ← Nat.div_div_eq_div_mul, Nat.add_mul_div_left _ _ hQ, Nat.div_eq_of_lt h0, Nat.zero_add]
        exact h i (by omega)
variable {q x y i j k : Nat} {T' : Nat → Nat → Nat → Int}
theorem dg_nat {v : Nat} : dg (q : Int) (v : Int) k = ((v / q ^ k % q : Nat) : Int) := by
  unfold dg
  rw [← Int.natCast_pow]
  rfl
theorem iso_iff (hp : Pr (q : Int)) (hK : skK (((q : Int) ^ n).toNat - 1) n ≤ 199999) : isoC q n x y ↔ Iso (q : Int) n (tbl q n x) (tbl q n y) := by
  have hq1 := hp.pos
  have hpw : ((q : Int) ^ n).toNat = q ^ n := by rw [← Int.natCast_pow]; rfl
  have himS : ∀ (f : Nat → Nat) i, imS (q : Int) n i (fun k => dgv (q : Int) n (f k : Nat)) (f i) = fun k => dgv (q : Int) n (f k : Nat) := fun f i => by
    funext k
    unfold imS
    by_cases e : k = i
    · rw [if_pos e, e]
    · rw [if_neg e]
  unfold isoC
  rw [mpS_iff hK]
  constructor
  · rintro ⟨f, hf⟩
    refine ⟨fun k => dgv (q : Int) n (f k : Nat), fun i k => dgv_bd (by omega) k, Ind.of_rs hp (fun l hl => (hf l hl).2.2.1), fit_iff.mp (fun i hi => ?_)⟩
    have := (hf i hi).2.2.2
    rw [himS] at this
    exact this
  · rintro ⟨B, hB, hI, hH⟩
    have hex : ∀ i, ∃ v, v < q ^ n ∧ ∀ k, k < n → v / q ^ k % q = (B i k).toNat := fun i => code_ex (by omega) n (fun k => (B i k).toNat) (fun k _ => by
      have := hB i k
      show (B i k).toNat < q
      omega)
    generalize hf : (fun i => (hex i).choose) = f
    have hs : ∀ i, f i < q ^ n ∧ ∀ k, k < n → f i / q ^ k % q = (B i k).toNat := fun i => by rw [← hf]; exact (hex i).choose_spec
    have eB : (fun k => dgv (q : Int) n (f k : Nat)) = B := by
      funext i k
      show dgv (q : Int) n (f i : Nat) k = B i k
      have hb := hB i k
      unfold dgv
      by_cases c : k < n
      · rw [if_pos c, dg_nat, (hs i).2 k c]
        omega
      · rw [if_neg c, hb.2.2 (by omega)]
    refine ⟨f, fun i hi => ⟨?_, ?_, ?_, ?_⟩⟩
    · refine Classical.byContradiction fun h0 => ?_
      have h0 : f i = 0 := by omega
      refine hI.rs hp hi (Rs.sb.zv (fun k hk => Cg.of ?_))
      have h1 := (hs i).2 k hk
      rw [h0, Nat.zero_div, Nat.zero_mod] at h1
      have := hB i k
      show B i k = 0
      omega
    · rw [hpw]
      have := (hs i).1
      omega
    · rw [eB, show dgv (q : Int) n (f i : Nat) = B i from congrFun eB i]
      exact hI.rs hp hi
    · rw [himS, eB]
      exact fit_iff.mpr hH i hi
theorem dig_inj {a b d e : Nat} (hd : d < q) (he : e < q) (h : a * q + d = b * q + e) : a = b ∧ d = e := by
  have h1 : (a * q + d) % q = d := by rw [Nat.mul_comm, Nat.mul_add_mod, Nat.mod_eq_of_lt hd]
  have h2 : (b * q + e) % q = e := by rw [Nat.mul_comm, Nat.mul_add_mod, Nat.mod_eq_of_lt he]
  rw [h, h2] at h1
  exact ⟨Nat.eq_of_mul_eq_mul_right (show 0 < q by omega) (by omega), h1.symm⟩
theorem ceK_inj (hT : ∀ i j k, 0 ≤ T i j k ∧ T i j k < (q : Int)) (hT' : ∀ i j k, 0 ≤ T' i j k ∧ T' i j k < (q : Int)) : ∀ k b b', ceK q T i j k b = ceK q T' i j k b' → b = b' ∧ ∀ m, m < k → T i j m = T' i j m := by
  intro k
  induction k with
  | zero => intro b b' h; exact ⟨h, fun m hm => absurd hm (by omega)⟩
  | succ k ih =>
    intro b b' h
    obtain ⟨h1, h2⟩ := ih (b * q + (T i j k).toNat) (b' * q + (T' i j k).toNat) h
    have a1 := hT i j k
    have a2 := hT' i j k
    obtain ⟨h3, h4⟩ := dig_inj (q := q) (by omega) (by omega) h1
    refine ⟨h3, fun m hm => ?_⟩
    by_cases e : m = k
    · rw [e]; omega
    · exact h2 m (by omega)
theorem ceJ_inj (hT : ∀ i j k, 0 ≤ T i j k ∧ T i j k < (q : Int)) (hT' : ∀ i j k, 0 ≤ T' i j k ∧ T' i j k < (q : Int)) : ∀ f b b', ceJ q n T i f b = ceJ q n T' i f b' → b = b' ∧ ∀ j, i < j → j ≤ i + f → ∀ m, m < n → T i j m = T' i j m := by
  intro f
  induction f with
  | zero => intro b b' h; exact ⟨h, fun j h1 h2 => absurd h1 (by omega)⟩
  | succ f ih =>
    intro b b' h
    obtain ⟨h1, h2⟩ := ih _ _ (show ceJ q n T i f (ceK q T i (i + f + 1) n b) = ceJ q n T' i f (ceK q T' i (i + f + 1) n b') from h)
    obtain ⟨h3, h4⟩ := ceK_inj hT hT' n b b' h1
    refine ⟨h3, fun j h5 h6 m hm => ?_⟩
    by_cases e : j = i + f + 1
    · rw [e]; exact h4 m hm
    · exact h2 j h5 (by omega) m hm
theorem ceI_inj (hT : ∀ i j k, 0 ≤ T i j k ∧ T i j k < (q : Int)) (hT' : ∀ i j k, 0 ≤ T' i j k ∧ T' i j k < (q : Int)) : ∀ i b b', ceI q n T i b = ceI q n T' i b' → b = b' ∧ ∀ a, a < i → ∀ j, a < j → j < n → ∀ m, m < n → T a j m = T' a j m := by
  intro i
  induction i with
  | zero => intro b b' h; exact ⟨h, fun a h1 => absurd h1 (by omega)⟩
  | succ i ih =>
    intro b b' h
    obtain ⟨h1, h2⟩ := ih _ _ (show ceI q n T i (ceJ q n T i (n - 1 - i) b) = ceI q n T' i (ceJ q n T' i (n - 1 - i) b') from h)
    obtain ⟨h3, h4⟩ := ceJ_inj hT hT' (n - 1 - i) b b' h1
    refine ⟨h3, fun a h5 j h6 h7 m hm => ?_⟩
    by_cases e : a = i
    · rw [e]; rw [e] at h6; exact h4 j h6 (by omega) m hm
    · exact h2 a (by omega) j h6 h7 m hm
theorem all_lt {N : Nat} {f : Nat → Bool} (h : (List.range N).all f = true) {x : Nat} (hx : x < N) : f x = true := List.all_eq_true.mp h x (List.mem_range.mpr hx)
theorem cdT_tbl (hqn : q = 2 ∧ 1 ≤ n ∧ n ≤ 3 ∨ q = 3 ∧ 1 ≤ n ∧ n ≤ 2) (hx : x < tbN q n) : cdT q n (tbl q n x) = x := by
  have : (q = 2 ∧ (n = 1 ∨ n = 2 ∨ n = 3)) ∨ (q = 3 ∧ (n = 1 ∨ n = 2)) := by omega
  rcases this with ⟨rfl, rfl | rfl | rfl⟩ | ⟨rfl, rfl | rfl⟩
  · exact eq_of_beq (all_lt (N := tbN 2 1) (f := fun x => cdT 2 1 (tbl 2 1 x) == x) (by decide +kernel) hx)
  · exact eq_of_beq (all_lt (N := tbN 2 2) (f := fun x => cdT 2 2 (tbl 2 2 x) == x) (by decide +kernel) hx)
  · exact eq_of_beq (all_lt (N := tbN 2 3) (f := fun x => cdT 2 3 (tbl 2 3 x) == x) (by decide +kernel) hx)
  · exact eq_of_beq (all_lt (N := tbN 3 1) (f := fun x => cdT 3 1 (tbl 3 1 x) == x) (by decide +kernel) hx)
  · exact eq_of_beq (all_lt (N := tbN 3 2) (f := fun x => cdT 3 2 (tbl 3 2 x) == x) (by decide +kernel) hx)
theorem hit_iff (hp : Pr (q : Int)) (hqn : q = 2 ∧ 1 ≤ n ∧ n ≤ 3 ∨ q = 3 ∧ 1 ≤ n ∧ n ≤ 2) (hx : x < tbN q n) : (∃ u, u < q ^ (n * n) ∧ hit q n (tbl q n y) u x) ↔ Iso (q : Int) n (tbl q n x) (tbl q n y) := by
  have hcd := cdT_tbl hqn hx
  have hb := fun u => bmt_b (q := q) (n := n) (v := u) (show 0 < q by omega)
  constructor
  · rintro ⟨u, hu, hg, hc⟩
    have hB : ∀ i k, 0 ≤ bmt q n u i k ∧ bmt q n u i k < (q : Int) := fun i k => ⟨(hb u i k).1, (hb u i k).2.1⟩
    refine ⟨bmt q n u, hb u, Ind.of_gj hp hB hg, (altT_hm (S := (dcI q n n 0 (x, fun _ _ _ => 0)).2) hp hB hg).mpr ?_⟩
    have hn : 1 ≤ n ∧ n ≤ 5 := by omega
    have w1 := (altT_ok (S := gjT (q : Int) n (bmt q n u) (tbl q n y)) hp hn).2.2.2.1
    have w2 := (altT_ok (S := (dcI q n n 0 (x, fun _ _ _ => 0)).2) hp hn).2.2.2.1
    have h3 := (ceI_inj (q := q) (n := n) w1 w2 n 0 0 (show cdT q n (altT q n (gjT (q : Int) n (bmt q n u) (tbl q n y))) = cdT q n (tbl q n x) by rw [hc, hcd])).2
    refine altT_cg (fun i j k h4 h5 h6 => ?_)
    have := h3 i (by omega) j h4 h5 k h6
    rw [altT_up h4 h5 h6, altT_up h4 h5 h6] at this
    exact Cg.iff_mod.mpr this
  · rintro ⟨B, hB, hI, hH⟩
    obtain ⟨v, hv, hd⟩ := code_ex (Q := q) (by omega) (n * n) (fun l => (B (l / n) (l % n)).toNat) (fun l _ => by
      have := hB (l / n) (l % n)
      show (B (l / n) (l % n)).toNat < q
      omega)
    have eB : ∀ i, i < n → bmt q n v i = B i := fun i hi => by
      funext k
      have hbb := hB i k
      unfold bmt
      by_cases c : k < n
      · have h1 : n * (i + 1) ≤ n * n := Nat.mul_le_mul_left n hi
        rw [Nat.mul_add] at h1
        rw [if_pos c, hd (n * i + k) (by omega), Nat.mul_add_div (by omega), Nat.div_eq_of_lt c, Nat.mul_add_mod, Nat.mod_eq_of_lt c, Nat.add_zero]
        omega
      · rw [if_neg c, hbb.2.2 (by omega)]
    have hB' : ∀ i k, 0 ≤ bmt q n v i k ∧ bmt q n v i k < (q : Int) := fun i k => ⟨(hb v i k).1, (hb v i k).2.1⟩
    have hI' : Ind (q : Int) n (bmt q n v) := fun w hw => hI w (fun m hm => (Cg.of (sm_congr (fun k hk => by rw [eB k hk]))).tr (hw m hm))
    have hH' : Hm (q : Int) n (tbl q n x) (tbl q n y) (bmt q n v) := fun i j h1 h2 m hm => by
      rw [eB i (by omega), eB j h2]
      exact (Cg.of (sm_congr (fun k hk => by rw [eB k hk]))).tr (hH i j h1 h2 m hm)
    have hg := hI'.gj hp hB'
    refine ⟨v, hv, hg, ?_⟩
    rw [(altT_hm (S := (dcI q n n 0 (x, fun _ _ _ => 0)).2) hp hB' hg).mp hH']
    exact hcd
end SKE
