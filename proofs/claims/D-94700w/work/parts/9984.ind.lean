/-! INDEPENDENT ROWS, bases, and maps of tables: plain. -/
set_option maxRecDepth 100000
section MPL
variable {p : Int} {n m lev : Nat} {S S' F T U : Nat → Nat → Nat → Int} {A B C : Nat → Nat → Int} {v : Nat → Int}
def Ind (p : Int) (n : Nat) (B : Nat → Nat → Int) : Prop := ∀ w : Nat → Int, (∀ m, m < n → Cg p (sm n (fun k => w k * B k m)) 0) → ∀ k, k < n → Cg p (w k) 0
/-- rows are images that keep brackets -/
def Hm (p : Int) (n : Nat) (F T : Nat → Nat → Nat → Int) (B : Nat → Nat → Int) : Prop := ∀ i j, i < j → j < n → ∀ m, m < n → Cg p (sm n (fun k => F i j k * B k m)) (bk n T (B i) (B j) m)
theorem sm_cut {f : Nat → Int} : ∀ n, m ≤ n → (∀ k, m ≤ k → k < n → f k = 0) → sm n f = sm m f := by
  intro n
  induction n with
  | zero =>
    intro hm _
    obtain rfl : m = 0 := by omega
    rfl
  | succ n ih =>
    intro hm h
    by_cases e : m = n + 1
    · rw [e]
    · rw [sm_s, ih (by omega) (fun k h1 h2 => h k h1 (by omega)), h n (by omega) (by omega)]
      omega
theorem sm_un {k : Nat} {f : Nat → Int} (hk : k < n) : sm n (fun j => un k j * f j) = f k := by
  rw [sm_congr (g := fun j => if j = k then f j else 0) (fun j _ => ?_), sm_one hk f]
  unfold un
  by_cases e : j = k
  · rw [if_pos e, if_pos e, Int.one_mul]
  · rw [if_neg e, if_neg e, Int.zero_mul]
theorem sm_z {f : Nat → Int} : sm n (fun k => 0 * f k) = 0 := by
  rw [sm_congr (g := fun _ => 0) (fun k _ => Int.zero_mul _), sm_zero]
theorem Rs.comb (h : Rs p n m B v) : ∃ c : Nat → Int, Vq p n v (fun k => sm m (fun r => c r * B r k)) := by
  refine Rs.le (S := fun v => ∃ c : Nat → Int, Vq p n v (fun k => sm m (fun r => c r * B r k))) ⟨?_, ?_, ?_⟩ (fun r hr => ?_) h
  · rintro u v ⟨c, hu⟩ e
    exact ⟨c, e.sy.tr hu⟩
  · exact ⟨fun _ => 0, fun k _ => Cg.of sm_z.symm⟩
  · rintro c u v ⟨a, hu⟩ ⟨b, hv⟩
    refine ⟨fun r => a r + c * b r, fun k hk => ?_⟩
    refine ((hu k hk).add (Cg.ml c (hv k hk))).tr (Cg.of ?_)
    rw [← sm_mul, ← sm_add]
    exact sm_congr (fun r _ => by grind)
  · exact ⟨un r, fun k _ => Cg.of (sm_un (f := fun q => B q k) hr).symm⟩
theorem Ind.rs (hp : Pr p) (h : Ind p n B) (hl : lev < n) : ¬ Rs p n lev B (B lev) := by
  intro hr
  obtain ⟨c, hc⟩ := hr.comb
  have := h (fun k => if k < lev then c k else if k = lev then -1 else 0) (fun m hm => ?_) lev hl
  · have e : (if lev < lev then c lev else if lev = lev then (-1 : Int) else 0) = -1 := by rw [if_neg (by omega), if_pos rfl]
    have this : Cg p (if lev < lev then c lev else if lev = lev then (-1 : Int) else 0) 0 := this
    rw [e] at this
    exact hp.one (by have := this.neg; simpa using this)
  · have e : sm n (fun k => (if k < lev then c k else if k = lev then (-1 : Int) else 0) * B k m) = sm lev (fun r => c r * B r m) + -(B lev m) := by
      rw [sm_cut (m := lev + 1) n (by omega) (fun k h1 h2 => by rw [if_neg (by omega), if_neg (by omega), Int.zero_mul]), sm_s, if_neg (by omega), if_pos rfl, sm_congr (g := fun r => c r * B r m) (fun r hr => by rw [if_pos hr])]
      omega
    refine (Cg.of e).tr ?_
    have h2 := (hc m hm).sy.add (Cg.rf (p := p) (a := -(B lev m)))
    exact h2.tr (Cg.of (by omega))
theorem Ind.of_rs (hp : Pr p) (h : ∀ l, l < n → ¬ Rs p n l B (B l)) : Ind p n B := by
  intro w hw
  have key : ∀ d k, n - d ≤ k → k < n → Cg p (w k) 0 := by
    intro d
    induction d with
    | zero => intro k h1 h2; omega
    | succ d ih =>
      intro k h1 h2
      by_cases e : n - d ≤ k
      · exact ih k e h2
      refine Classical.byContradiction fun hne => ?_
      obtain ⟨r, _, _, hr⟩ := hp.inv hne
      refine h k h2 ?_
      have hs : Rs p n k B (fun j => sm k (fun q => (-(r * w q)) * B q j)) := Rs.sb.sm (fun q => -(r * w q)) (fun q hq => Rs.mem hq)
      refine Rs.sb.q hs (fun j hj => ?_)
      have h4 : sm k (fun q => w q * B q j) + w k * B k j = sm n (fun q => if q < k + 1 then w q * B q j else 0) := by
        rw [sm_cut (m := k + 1) n (by omega) (fun q a b => if_neg (by omega)), sm_s, if_pos (by omega), sm_congr (fun q hq => if_pos (by omega))]
      have h3 : Cg p (sm n (fun q => w q * B q j)) (sm k (fun q => w q * B q j) + w k * B k j) := by
        rw [h4]
        refine Cg.sm (fun q hq => ?_)
        by_cases e2 : q < k + 1
        · rw [if_pos e2]; exact Cg.rf
        · rw [if_neg e2]
          have := (ih q (by omega) hq).mul (Cg.rf (p := p) (a := B q j))
          rw [Int.zero_mul] at this
          exact this
      have h5 := Cg.ml r (h3.sy.tr (hw j hj))
      have h6 := hr.mul (Cg.rf (p := p) (a := B k j))
      have e1 : sm k (fun q => -(r * w q) * B q j) = -(r * sm k (fun q => w q * B q j)) := by
        rw [← sm_mul, ← sm_neg]
        exact sm_congr (fun q _ => by grind)
      show Cg p (sm k (fun q => -(r * w q) * B q j)) (B k j)
      rw [e1]
      have h7 := h6.sub h5
      refine (Cg.of ?_).tr (h7.tr (Cg.of (by omega)))
      grind
  exact fun k hk => key n k (by omega) hk
theorem Ind.dml (hp : Pr p) (h : Ind p n B) : ∀ l, l ≤ n → l ≤ dm p n (Rs p n l B) := by
  intro l
  induction l with
  | zero => intro _; exact Nat.zero_le _
  | succ l ih =>
    intro hl
    have h1 := ih (by omega)
    have h2 : ∀ v, Rs p n l B v → Rs p n (l + 1) B v := fun v hv => by rw [← Rs.succ]; exact Ad.le Rs.sb hv
    have h3 := dm_mono (p := p) (n := n) h2
    by_cases e : dm p n (Rs p n l B) = dm p n (Rs p n (l + 1) B)
    · exact absurd (by rw [dm_eq hp Rs.sb Rs.sb h2 e]; exact Rs.mem (by omega)) (h.rs hp hl)
    · omega
theorem Ind.all (hp : Pr p) (h : Ind p n B) : Rs p n n B = Al := dm_eq hp Rs.sb Al.sb (fun _ _ => trivial) (by
  have h1 := h.dml hp n (Nat.le_refl _)
  have h2 : dm p n Al = n := (Al.ech hp).dm hp
  have h3 := dm_le (p := p) (n := n) (S := Rs p n n B)
  omega)
theorem ann_sb : Sbp p n (fun x => Cg p (sm n (fun j => x j * v j)) 0) := by
  refine ⟨fun u w hu e => (Cg.sm (fun j hj => (e j hj).sy.mul Cg.rf)).tr hu, Cg.of sm_z, fun c u w hu hw => ?_⟩
  have h1 := hu.add (Cg.ml c hw)
  refine (Cg.of ?_).tr (h1.tr (Cg.of (by omega)))
  rw [← sm_mul, ← sm_add]
  exact sm_congr (fun j _ => by grind)
theorem Ind.gj (hp : Pr p) (hB : ∀ i k, 0 ≤ B i k ∧ B i k < p) (h : Ind p n B) : gjB p n B := gjB_of hp hB (fun v hv k hk => by
  have hu : Rs p n n B (un k) := by rw [h.all hp]; trivial
  have h2 := Rs.le (ann_sb (v := v)) (fun r hr => hv r hr) hu
  exact (Cg.of (sm_un hk).symm).tr h2)
theorem pvt_sp {c : Nat} (h : pvt n c A < n) : gjP n c A (pvt n c A) := by
  by_cases e : ∃ r, gjP n c A r
  · obtain ⟨r, hr⟩ := e
    rw [pvt_eq hr]
    exact hr
  · unfold pvt at h
    rw [dif_neg e] at h
    omega
theorem gjA_unit (hp : Pr p) (hB : ∀ i k, 0 ≤ A i k ∧ A i k < p) (hg : ∀ c, c < n → pvt n c (gja p n A c) < n) : ∀ c, c ≤ n → ∀ i j, i < n → j < c → gja p n A c i j = if i = j then 1 else 0 := by
  intro c
  induction c with
  | zero => intro _ i j _ hj; omega
  | succ c ih =>
    intro hc i j hi hj
    have i2 := ih (by omega)
    have hb := gja_bd (n := n) hp.pos hB c
    have hr := pvt_sp (hg c (by omega))
    have e : gja p n A (c + 1) = gjN p c (pvt n c (gja p n A c)) (gja p n A c) := rfl
    generalize gja p n A c = G at *
    generalize pvt n c G = r at *
    obtain ⟨r1, r2, r3, r4⟩ := hr
    have hne : ¬ Cg p (G r c) 0 := fun x => r3 (x.eq (hb r c) ⟨by omega, by have := hp.pos; omega⟩)
    obtain ⟨w, w1, w2, w3⟩ := hp.inv hne
    have hiv : ivn p (G r c) = w := ivn_eq ⟨w1, w2, w3⟩
    have hp1 := hp.pos
    rw [e]
    unfold gjN gjL
    rw [hiv]
    by_cases h1 : j = c
    · have ew : G r j * w % p = 1 := by
        rw [h1, Int.mul_comm]
        have := Cg.iff_mod.mp w3
        rw [this, Int.emod_eq_of_lt (by omega) (by omega)]
      rw [ew]
      by_cases h2 : i = c
      · rw [if_pos h2, if_pos (by omega)]
      · rw [if_neg h2, if_neg (by omega), h1, Int.mul_one, Int.sub_self, Int.zero_emod]
    · have ew : G r j * w % p = 0 := by
        rw [i2 r j r2 (by omega), if_neg (by omega), Int.zero_mul, Int.zero_emod]
      rw [ew]
      by_cases h2 : i = c
      · rw [if_pos h2, if_neg (by omega)]
      · rw [if_neg h2, Int.mul_zero, Int.sub_zero]
        unfold gjS
        rw [if_neg h2]
        by_cases h3 : i = r
        · rw [if_pos h3, i2 c j (by omega) (by omega), if_neg (by omega), if_neg (by omega), Int.zero_emod]
        · rw [if_neg h3, i2 i j hi (by omega)]
          split
          · exact Int.emod_eq_of_lt (by omega) (by omega)
          · exact Int.zero_emod _
/-- a row tells itself by the base -/
def Prw (p : Int) (n : Nat) (B : Nat → Nat → Int) (g : Nat → Int) : Prop := ∀ k, k < n → Cg p (g k) (sm n (fun j => g (n + j) * B j k))
theorem Prw.lin {g x y : Nat → Int} (a b : Int) (hg : ∀ k, Cg p (g k) (a * x k + b * y k)) (hx : Prw p n B x) (hy : Prw p n B y) : Prw p n B g := fun k hk => by
  refine (hg k).tr (((Cg.ml a (hx k hk)).add (Cg.ml b (hy k hk))).tr ?_)
  rw [← sm_mul, ← sm_mul, ← sm_add]
  refine Cg.sm (fun j _ => ?_)
  have := ((hg (n + j)).sy).mul (Cg.rf (p := p) (a := B j k))
  refine (Cg.of ?_).tr this
  grind
theorem gjA_row (hg : gjB p n B) : ∀ c, c ≤ n → ∀ i, i < n → Prw p n B (gja p n (gj0 n B) c i) := by
  intro c
  induction c with
  | zero =>
    intro _ i hi k hk
    show Cg p (gj0 n B i k) (sm n (fun j => gj0 n B i (n + j) * B j k))
    rw [sm_congr (g := fun j => un i j * B j k) (fun j _ => ?_), sm_un (f := fun j => B j k) hi]
    · unfold gj0
      rw [if_pos hk]
      exact Cg.rf
    · unfold gj0 un
      rw [if_neg (by omega)]
      by_cases e : j = i
      · rw [if_pos (by omega), if_pos e]
      · rw [if_neg (by omega), if_neg e]
  | succ c ih =>
    intro hc i hi
    have i2 := ih (by omega)
    have hr := pvt_sp (hg c (by omega))
    have e : gja p n (gj0 n B) (c + 1) = gjN p c (pvt n c (gja p n (gj0 n B) c)) (gja p n (gj0 n B) c) := rfl
    rw [e]
    generalize gja p n (gj0 n B) c = G at *
    generalize pvt n c G = r at *
    obtain ⟨r1, r2, r3, r4⟩ := hr
    have hL : Prw p n B (gjL p c r G) := (i2 r r2).lin (y := G r) (ivn p (G r c)) 0 (fun k => by
      unfold gjL
      exact (Cg.mod _ _).tr (Cg.of (by grind))) (i2 r r2)
    by_cases h1 : i = c
    · have : gjN p c r G i = gjL p c r G := by
        funext k
        unfold gjN
        rw [if_pos h1]
      rw [this]
      exact hL
    · have hS : Prw p n B (gjS c r G i) := by
        unfold gjS
        split
        · exact i2 r r2
        · split
          · exact i2 c (by omega)
          · exact i2 i hi
      refine Prw.lin (x := gjS c r G i) (y := gjL p c r G) 1 (-(gjS c r G i c)) (fun k => ?_) hS hL
      unfold gjN
      rw [if_neg h1]
      exact (Cg.mod _ _).tr (Cg.of (by grind))
theorem gjC_B (hp : Pr p) (hB : ∀ i k, 0 ≤ B i k ∧ B i k < p) (hg : gjB p n B) {i k : Nat} (hi : i < n) (hk : k < n) : Cg p (sm n (fun j => gjC p n B i j * B j k)) (un i k) := by
  have h1 := gjA_row hg n (Nat.le_refl _) i hi k hk
  rw [gjA_unit hp (gj0_bd hp.pos hB) hg n (Nat.le_refl _) i k hi hk] at h1
  refine h1.sy.tr (Cg.of ?_)
  unfold un
  by_cases e : i = k
  · rw [if_pos e, if_pos e.symm]
  · rw [if_neg e, if_neg (fun x => e x.symm)]
theorem Ind.of_gj (hp : Pr p) (hB : ∀ i k, 0 ≤ B i k ∧ B i k < p) (hg : gjB p n B) : Ind p n B := by
  have hall : Rs p n n B = Al := by
    refine vs_anti (fun _ _ => trivial) (fun v _ => ?_)
    have h1 : ∀ i, i < n → Rs p n n B (un i) := fun i hi => Rs.sb.q (Rs.sb.sm (fun j => gjC p n B i j) (fun j hj => Rs.mem hj)) (fun k hk => gjC_B hp hB hg hi hk)
    have h2 : Al v := trivial
    rw [(Al.ech hp).gen] at h2
    exact Gn.le Rs.sb (fun g ⟨r, hr, e⟩ => by rw [e]; exact h1 r hr) h2
  refine Ind.of_rs hp (fun l hl hin => ?_)
  have e1 : Rs p n (l + 1) B = Rs p n l B := by rw [← Rs.succ]; exact Ad.same Rs.sb hin
  have key : ∀ d, dm p n (Rs p n (l + 1 + d) B) ≤ l + d := by
    intro d
    induction d with
    | zero =>
      show dm p n (Rs p n (l + 1) B) ≤ l
      rw [e1]
      exact dm_gn hp B l
    | succ d ih =>
      have : Rs p n (l + 1 + (d + 1)) B = Ad (Rs p n (l + 1 + d) B) (B (l + 1 + d)) := Rs.succ.symm
      rw [this]
      exact Nat.le_trans (dm_ad hp Rs.sb) (by omega)
  have h3 := key (n - (l + 1))
  rw [show l + 1 + (n - (l + 1)) = n by omega, hall, (Al.ech hp).dm hp] at h3
  omega
/-- the table in the new base, times the base, is the bracket -/
theorem gjT_B (hp : Pr p) (hB : ∀ i k, 0 ≤ B i k ∧ B i k < p) (hg : gjB p n B) {i j m : Nat} (hm : m < n) : Cg p (sm n (fun k => gjT p n B T i j k * B k m)) (bk n T (B i) (B j) m) := by
  have e1 : sm n (fun k => gjT p n B T i j k * B k m) = sm n (fun l => (bk n T (B i) (B j) l % p) * sm n (fun k => gjC p n B l k * B k m)) := by
    unfold gjT
    rw [sm_congr (g := fun k => sm n (fun l => (bk n T (B i) (B j) l % p) * (gjC p n B l k * B k m))) (fun k _ => ?_), sm_swap]
    · exact sm_congr (fun l _ => sm_mul _ _ _)
    · rw [Int.mul_comm, ← sm_mul]
      exact sm_congr (fun l _ => by grind)
  rw [e1]
  have h2 : Cg p (sm n (fun l => (bk n T (B i) (B j) l % p) * sm n (fun k => gjC p n B l k * B k m))) (sm n (fun l => un m l * bk n T (B i) (B j) l)) := Cg.sm (fun l hl => by
    refine ((Cg.mod p _).mul (gjC_B hp hB hg hl hm)).tr (Cg.of ?_)
    unfold un
    by_cases e : m = l
    · rw [if_pos e, if_pos e.symm]; omega
    · rw [if_neg e, if_neg (fun x => e x.symm)]; omega)
  rw [sm_un hm] at h2
  exact h2
theorem altT_cg (h : ∀ i j k, i < j → j < n → k < n → Cg p (S i j k) (S' i j k)) : altT p n S = altT p n S' := by
  funext i j k
  unfold altT
  by_cases c : i < n ∧ j < n ∧ k < n
  · rw [if_pos c, if_pos c]
    by_cases c1 : i < j
    · rw [if_pos c1, if_pos c1, Cg.iff_mod.mp (h i j k c1 c.2.1 c.2.2)]
    · rw [if_neg c1, if_neg c1]
      by_cases c2 : j < i
      · rw [if_pos c2, if_pos c2, Cg.iff_mod.mp (h j i k c2 c.1 c.2.2).neg]
      · rw [if_neg c2, if_neg c2]
  · rw [if_neg c, if_neg c]
theorem altT_up {i j k : Nat} (h1 : i < j) (h2 : j < n) (h3 : k < n) : altT p n S i j k = S i j k % p := by
  unfold altT
  rw [if_pos ⟨by omega, h2, h3⟩, if_pos h1]
theorem altT_hm (hp : Pr p) (hB : ∀ i k, 0 ≤ B i k ∧ B i k < p) (hg : gjB p n B) : Hm p n (altT p n S) T B ↔ altT p n (gjT p n B T) = altT p n S := by
  constructor
  · intro h
    refine altT_cg (fun i j k h1 h2 h3 => ?_)
    have hI := Ind.of_gj hp hB hg (fun k => gjT p n B T i j k - S i j k) (fun m hm => ?_) k h3
    · have := hI.add (Cg.rf (p := p) (a := S i j k))
      exact (Cg.of (by show gjT p n B T i j k = gjT p n B T i j k - S i j k + S i j k; omega)).tr (this.tr (Cg.of (by omega)))
    · have a1 := gjT_B hp hB hg (T := T) (i := i) (j := j) hm
      have a2 := h i j h1 h2 m hm
      have a3 : Cg p (sm n (fun k => S i j k * B k m)) (sm n (fun k => altT p n S i j k * B k m)) := Cg.sm (fun k hk => by
        rw [altT_up h1 h2 hk]
        exact (Cg.mod p _).sy.mul Cg.rf)
      have a4 := a1.sub (a3.tr a2)
      refine (Cg.of ?_).tr (a4.tr (Cg.of (by omega)))
      rw [← sm_sub]
      exact sm_congr (fun k _ => by grind)
  · intro h i j h1 h2 m hm
    have a1 := gjT_B hp hB hg (T := T) (i := i) (j := j) hm
    refine Cg.tr (Cg.sm (fun k hk => ?_)) a1
    rw [← h, altT_up h1 h2 hk]
    exact (Cg.mod p _).mul Cg.rf
end MPL
