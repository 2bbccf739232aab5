/-! THE MODEL: the world that is asked, vectors, brackets, spans. -/
set_option maxRecDepth 100000
section MODEL
variable {α τ : Type} {M : Mem} {N N' : NM} {m a b o W B L : Nat} {p : Int} {n q : Nat} {T : Nat → Nat → Nat → Int} {R : Nat → Nat → Int} {ld : Nat → Nat} {S : VS} {X Y : Nat → Int}
/-- the cells of a world from B on -/
def WC (N : NM) (W B : Nat) (p : Int) (n : Nat) (T : Nat → Nat → Nat → Int) : Prop := N W B = p ∧ N W (B + 1) = n ∧ ∀ i j k, i < 5 → j < 5 → k < 5 → N W (B + 2 + 25 * i + 5 * j + k) = T i j k
/-- the world that is asked -/
def MA (M : Mem) (N : NM) (m W B : Nat) (p : Int) (n : Nat) (T : Nat → Nat → Nat → Int) : Prop :=
  mR M m 24 = some W ∧ N m 25 = B ∧ N m 26 = p ∧ N m 27 = n ∧ (∃ L, mK M W = some (.inr (0, L)) ∧ B + 127 ≤ L ∧ L ≤ 4000) ∧ WOk p n T ∧ (∀ i j k, i < 5 → j < 5 → k < 5 → N W (B + 2 + 25 * i + 5 * j + k) = T i j k) ∧ (W = m + 5 ∨ W = m + 35)
theorem MA.pe (h : MA M N m W B p n T) : N m 26 = p := h.2.2.1
theorem MA.ne (h : MA M N m W B p n T) : N m 27 = n := h.2.2.2.1
theorem MA.ok (h : MA M N m W B p n T) : WOk p n T := h.2.2.2.2.2.1
theorem MA.pr (h : MA M N m W B p n T) : Pr p := h.ok.1
theorem MA.n5 (h : MA M N m W B p n T) : n ≤ 5 := h.ok.2.2.1
theorem MA.n1 (h : MA M N m W B p n T) : 1 ≤ n := h.ok.2.1
theorem MA.pb (h : MA M N m W B p n T) : 2 ≤ p ∧ p ≤ 7 := ⟨h.pr.pos, h.pr.le7⟩
theorem MA.tb (h : MA M N m W B p n T) (i j k : Nat) : 0 ≤ T i j k ∧ T i j k < p := h.ok.2.2.2.1 i j k
theorem MA.t (h : MA M N m W B p n T) {i j k : Nat} (hi : i < 5) (hj : j < 5) (hk : k < 5) : N W (B + 2 + 25 * i + 5 * j + k) = T i j k := h.2.2.2.2.2.2.1 i j k hi hj hk
theorem MA.We (h : MA M N m W B p n T) : W = m + 5 ∨ W = m + 35 := h.2.2.2.2.2.2.2
theorem MA.fr (h : MA M N m W B p n T) (h1 : N' m = N m) (h2 : N' W = N W) : MA M N' m W B p n T := by
  unfold MA at h ⊢
  rw [h1, h2]
  exact h
/-- a vector from o on -/
def VM (N : NM) (a o : Nat) (p : Int) (n : Nat) (X : Nat → Int) : Prop := (∀ k, k < n → N a (o + k) = X k) ∧ ∀ k, 0 ≤ X k ∧ X k < p ∧ (n ≤ k → X k = 0)
theorem VM.fr (h : VM N a o p n X) (e : N' a = N a) : VM N' a o p n X := ⟨fun k hk => by rw [e]; exact h.1 k hk, h.2⟩
theorem VM.at (h : VM N a o p n X) {k : Nat} (hk : k < n) : N a (o + k) = X k := h.1 k hk
theorem w_mtable {f : Int32 → JM Mem τ} {Q : τ → Mem → NM → Prop} {i j k : Nat} (hM : ML M m) (hA : MA M N m W B p n T) (hi : i < 5) (hj : j < 5) (hk : k < 5) (h : GN M N (f (zI (T i j k))) Q) :
    GN M N (jb (jcall 7 m (f_X8_table m (zI i) (zI j) (zI k))) f) Q := by
  obtain ⟨L, hK, hL, hL4⟩ := hA.2.2.2.2.1
  refine w_Mc hM ?_
  unfold f_X8_table
  refine w_getA hM.km hA.1 ?_
  refine w_MI hM ?_
  rw [hA.2.1]
  unfold f_X8_cell
  rw [z_2, z_25, z_5]
  rw [zI_mul, zI_mul, zI_add, zI_add, zI_add]
  refine w_jb (w_jp ?_)
  rw [zI_add]
  refine w_ald hK (by omega) (by omega) ?_
  rw [show ((B : Int) + (2 + 25 * (i : Int) + 5 * (j : Int) + (k : Int))).toNat = B + 2 + 25 * i + 5 * j + k by omega, hA.t hi hj hk]
  exact w_jp h
theorem left_eq {v p : Int} (hp : 0 < p) : (v.tmod p + p).tmod p = v % p := by
  have h1 : -p < v.tmod p := Int.lt_tmod_of_pos v hp
  rw [Int.tmod_eq_emod_of_nonneg (by omega), Int.add_emod_right, Int.tmod_def, Int.sub_mul_emod_self_left]
theorem w_left {f : Int32 → JM Mem τ} {Q : τ → Mem → NM → Prop} {v p : Int} (hv : -1000000 ≤ v ∧ v ≤ 1000000) (hp : 0 < p ∧ p ≤ 7) (h : GN M N (f (zI (v % p))) Q) : GN M N (jb (f_X8_left (zI v) (zI p)) f) Q := by
  refine w_jb ?_
  unfold f_X8_left
  have h1 : -p < v.tmod p := Int.lt_tmod_of_pos v hp.1
  have h2 : v.tmod p < p := Int.tmod_lt_of_pos v hp.1
  refine w_rem ⟨by omega, by omega⟩ ⟨by omega, by omega⟩ (by omega) ?_
  rw [zI_add]
  refine w_rem ⟨by omega, by omega⟩ ⟨by omega, by omega⟩ (by omega) ?_
  rw [left_eq hp.1]
  exact w_jp h
theorem w_powerOf {f : Int32 → JM Mem τ} {Q : τ → Mem → NM → Prop} {e : Nat} (hM : ML M m) (hA : MA M N m W B p n T) (he : e ≤ 9) (hpe : p ^ e ≤ 1000000) (h : GN M N (f (zI (p ^ e))) Q) : GN M N (jb (jcall 7 m (f_X8_powerOf m (zI e))) f) Q := by
  refine w_callE hM.km ?_ h
  unfold f_X8_powerOf
  refine w_up2 e (fun k x N1 => x = p ^ k ∧ N1 = N) 0 1 rfl (by omega) ⟨(Int.pow_zero p).symm, rfl⟩ ?_
  rintro k x N1 hk ⟨rfl, rfl⟩
  show GN M N1 (X8_powerOf_L4 m (zI _) (zI _) (zI _)) _
  unfold X8_powerOf_L4
  refine w_le ⟨by omega, by omega⟩ ⟨by omega, by omega⟩ (fun hc => ?_) (fun hc => ?_)
  · have : k = e := by omega
    subst this
    exact w_jinl (w_jp ⟨rfl, rfl, rfl⟩)
  refine w_MI hM ?_
  rw [hA.pe, zI_mul, z_1, zI_add]
  exact w_jlet (w_jcont ⟨by omega, _, rfl, (Int.pow_succ p k).symm, rfl⟩)
theorem w_mvectors {f : Int32 → JM Mem τ} {Q : τ → Mem → NM → Prop} (hM : ML M m) (hA : MA M N m W B p n T) (h : GN M N (f (zI (p ^ n))) Q) : GN M N (jb (jcall 7 m (f_X8_vectors m)) f) Q := by
  have hb := pow_bd hA.pb n hA.n5
  have hn5 := hA.n5
  refine w_Mc hM ?_
  unfold f_X8_vectors
  refine w_MI hM ?_
  rw [hA.ne]
  exact w_powerOf hM hA (by omega) (by omega) (w_jp h)
theorem w_minverse {f : Int32 → JM Mem τ} {Q : τ → Mem → NM → Prop} {v : Int} (hM : ML M m) (hA : MA M N m W B p n T) (hv : 0 < v ∧ v < p) (h : ∀ r, Iv p v r → GN M N (f (zI r)) Q) : GN M N (jb (jcall 7 m (f_X8_inverse m (zI v))) f) Q := by
  have hp7 := hA.pr.le7
  have hp1 := hA.pr.pos
  have hne : ¬ Cg p v 0 := fun e => by
    have := e.eq ⟨by omega, hv.2⟩ ⟨by omega, by omega⟩
    omega
  obtain ⟨r0, h1, h2, h3⟩ := hA.pr.inv hne
  refine w_Mc hM ?_
  unfold f_X8_inverse
  refine w_up r0.toNat (fun k N1 => 1 ≤ k ∧ N1 = N) 1 rfl (by omega) ⟨by omega, rfl⟩ ?_
  rintro k N1 hk ⟨hk1, rfl⟩
  unfold X8_inverse_L2
  refine w_MI hM ?_
  rw [hA.pe, zI_mul]
  have hb := mul_bd (x := (k : Int)) (y := v) (a := 7) (b := 7) (by omega) (by omega)
  refine w_remP ⟨hb.1, by omega, by omega⟩ ⟨by omega, by omega, by omega⟩ ?_
  have hm1 := Int.emod_nonneg ((k : Int) * v) (show p ≠ 0 by omega)
  have hm2 := Int.emod_lt_of_pos ((k : Int) * v) (show 0 < p by omega)
  rw [z_1]
  refine w_eq ⟨by omega, by omega⟩ ⟨by omega, by omega⟩ (fun hc => ?_) (fun hc => ?_)
  · refine w_jinl (w_jp (h k ⟨by omega, by omega, Cg.iff_mod.mpr ?_⟩))
    rw [hc, Int.emod_eq_of_lt (by omega) (by omega)]
  · rw [zI_add]
    refine w_jcont ⟨?_, rfl, by omega, rfl⟩
    refine Classical.byContradiction fun hlt => hc ?_
    have : (k : Int) = r0 := by omega
    rw [this, Cg.iff_mod.mp h3, Int.emod_eq_of_lt (by omega) (by omega)]
/-- from o on, j numbers are g -/
def wro (N : NM) (a o j : Nat) (g : Nat → Int) : NM := fun b k => if b = a ∧ o ≤ k ∧ k < o + j then g (k - o) else N b k
theorem wro_0 {g : Nat → Int} : wro N a o 0 g = N := by
  funext b k
  show (if b = a ∧ o ≤ k ∧ k < o + 0 then g (k - o) else N b k) = N b k
  rw [if_neg (by omega)]
theorem wro_up {j : Nat} {g : Nat → Int} {v : Int} (hv : v = g j) : up2 (wro N a o j g) a (o + j) v = wro N a o (j + 1) g := by
  subst hv
  funext b k
  show (if b = a ∧ k = o + j then g j else if b = a ∧ o ≤ k ∧ k < o + j then g (k - o) else N b k) = (if b = a ∧ o ≤ k ∧ k < o + (j + 1) then g (k - o) else N b k)
  by_cases hk : b = a ∧ k = o + j
  · rw [if_pos hk, if_pos (by omega), show k - o = j by omega]
  · rw [if_neg hk]
    by_cases hl : b = a ∧ o ≤ k ∧ k < o + j
    · rw [if_pos hl, if_pos (by omega)]
    · rw [if_neg hl, if_neg (by omega)]
theorem wro_ne {j : Nat} {g : Nat → Int} (h : b ≠ a) : wro N a o j g b = N b := by
  funext k
  show (if b = a ∧ o ≤ k ∧ k < o + j then g (k - o) else N b k) = N b k
  rw [if_neg (fun q => h q.1)]
theorem wro_at {j k : Nat} {g : Nat → Int} (hk : k < j) : wro N a o j g a (o + k) = g k := by
  show (if a = a ∧ o ≤ o + k ∧ o + k < o + j then g (o + k - o) else _) = g k
  rw [if_pos (by omega), show o + k - o = k by omega]
theorem w_parts2 {f : Unit → JM Mem τ} {Q : τ → Mem → NM → Prop} {v : Int} (hM : ML M m) (hA : MA M N m W B p n T) (hv : 0 ≤ v ∧ v < 1000000) (hK : mK M a = some (.inr (0, L))) (hL : o + 5 ≤ L ∧ L ≤ 2000) (ha : a ≠ m) (h : GN M (wro N a o n (dg p v)) (f ()) Q) :
    GN M N (jb (jcall 7 m (f_X8_parts2 m (zI v) a (zI o))) f) Q := by
  have hpb := hA.pb
  have hn5 := hA.n5
  refine w_Mc hM ?_
  unfold f_X8_parts2
  refine w_up2 n (fun k x N1 => x = v / p ^ k ∧ N1 = wro N a o k (dg p v)) 0 v rfl (by omega) ⟨by rw [Int.pow_zero, Int.ediv_one], wro_0.symm⟩ ?_
  rintro k x N1 hk ⟨rfl, rfl⟩
  show GN M _ (X8_parts2_L6 m a (zI _) (zI _) (zI _)) _
  unfold X8_parts2_L6
  have hpk : 0 < p ^ k := Int.pow_pos (by omega)
  have hq1 : 0 ≤ v / p ^ k := Int.ediv_nonneg hv.1 (by omega)
  have hq2 : v / p ^ k ≤ v := Int.ediv_le_self _ hv.1
  refine w_MI hM ?_
  rw [wro_ne (fun e => ha e.symm), hA.ne]
  refine w_le ⟨by omega, by omega⟩ ⟨by omega, by omega⟩ (fun hc => ?_) (fun hc => ?_)
  · have : k = n := by omega
    subst this
    exact w_jinl (w_jp h)
  refine w_MI hM ?_
  rw [wro_ne (fun e => ha e.symm), hA.pe]
  refine w_remP ⟨hq1, by omega, by omega⟩ ⟨by omega, by omega, by omega⟩ ?_
  rw [zI_add]
  refine w_ast hK (by omega) (by omega) ?_
  rw [show ((o : Int) + (k : Int)).toNat = o + k by omega, wro_up (g := dg p v) (v := v / p ^ k % p) rfl]
  refine w_MI hM ?_
  rw [wro_ne (fun e => ha e.symm), hA.pe]
  refine w_divP ⟨hq1, by omega, by omega⟩ ⟨by omega, by omega, by omega⟩ ?_
  rw [z_1, zI_add]
  refine w_jcont ⟨by omega, _, rfl, ?_, rfl⟩
  rw [Int.ediv_ediv_of_nonneg (by omega), ← Int.pow_succ]
theorem w_numberOfVector {f : Int32 → JM Mem τ} {Q : τ → Mem → NM → Prop} (hM : ML M m) (hA : MA M N m W B p n T) (hK : mK M a = some (.inr (0, L))) (hL : o + 5 ≤ L ∧ L ≤ 2000) (hX : VM N a o p n X)
    (h : GN M N (f (zI (evu p X n 0))) Q) : GN M N (jb (jcall 7 m (f_X8_numberOfVector m a (zI o))) f) Q := by
  have hpb := hA.pb
  have hn5 := hA.n5
  refine w_callE hM.km ?_ h
  unfold f_X8_numberOfVector
  refine w_MI hM ?_
  rw [hA.ne, z_1, zI_sub, z_0]
  refine w_jlet ?_
  refine w_loop (fun d t N1 => d ≤ n ∧ t = (zI (evu p X (n - d) d), zI ((d : Int) - 1)) ∧ N1 = N) n _ ⟨by omega, by rw [Nat.sub_self]; rfl, rfl⟩ ?_
  rintro d t N1 ⟨hd, rfl, rfl⟩
  show GN M _ (X8_numberOfVector_L10 m a (zI _) (zI _) (zI _)) _
  unfold X8_numberOfVector_L10
  rw [z_0]
  refine w_lt ⟨by omega, by omega⟩ ⟨by omega, by omega⟩ (fun hc => ?_) (fun hc => ?_)
  · have : d = 0 := by omega
    subst this
    exact w_jinl (w_jp ⟨rfl, rfl, rfl⟩)
  refine w_MI hM ?_
  rw [zI_add]
  refine w_ald hK (by omega) (by omega) ?_
  rw [hA.pe, show ((o : Int) + ((d : Int) - 1)).toNat = o + (d - 1) by omega, hX.at (by omega), zI_mul, zI_add, z_m1, zI_add]
  refine w_jlet (w_jcont ⟨d - 1, by omega, by omega, ?_, rfl⟩)
  rw [show n - (d - 1) = n - d + 1 by omega, evu_s, show d - 1 + 1 = d by omega, show ((d - 1 : Nat) : Int) - 1 = (d : Int) - 1 + -1 by omega]
theorem w_unit {f : Unit → JM Mem τ} {Q : τ → Mem → NM → Prop} {i : Nat} (hM : ML M m) (hA : MA M N m W B p n T) (hi : i ≤ 100) (hK : mK M a = some (.inr (0, L))) (hL : 5 ≤ L ∧ L ≤ 100) (ha : a ≠ m) (h : GN M (wro N a 0 n (un i)) (f ()) Q) :
    GN M N (jb (jcall 7 m (f_X8_unit m (zI i) a)) f) Q := by
  have hn5 := hA.n5
  refine w_Mc hM ?_
  unfold f_X8_unit
  rw [z_0]
  refine w_up n (fun k N1 => N1 = wro N a 0 k (un i)) 0 rfl (by omega) wro_0.symm ?_
  rintro k N1 hk rfl
  unfold X8_unit_L2
  refine w_MI hM ?_
  rw [wro_ne (fun e => ha e.symm), hA.ne]
  refine w_le ⟨by omega, by omega⟩ ⟨by omega, by omega⟩ (fun hc => ?_) (fun hc => ?_)
  · have : k = n := by omega
    subst this
    exact w_jinl (w_jp h)
  have hput : ∀ x : Int, x = un i k → GN M (wro N a 0 k (un i)) (X8_unit_b22 m (zI i) a (zI k) a (zI k) (zI x)) (LQ (fun v M1 N1 => GN M1 N1 (f v) Q) (KF M (fun t N1 => k < n ∧ t = zI ((k : Int) + 1) ∧ N1 = wro N a 0 (k + 1) (un i)))) := by
    intro x hx
    unfold X8_unit_b22
    refine w_ast hK (by omega) (by omega) ?_
    rw [show ((k : Int).toNat) = 0 + k by omega, wro_up hx, z_1, zI_add]
    exact w_jcont ⟨by omega, rfl, rfl⟩
  refine w_eq ⟨by omega, by omega⟩ ⟨by omega, by omega⟩ (fun he => ?_) (fun he => ?_)
  · rw [z_1]
    exact hput 1 (by rw [un, if_pos (by omega)])
  · rw [z_0]
    exact hput 0 (by rw [un, if_neg (by omega)])
/-- what a bracket gathers stays small -/
theorem bk_bds {p : Int} {n : Nat} (hp : 2 ≤ p ∧ p ≤ 7) (hX : ∀ k, 0 ≤ X k ∧ X k < p) (hY : ∀ k, 0 ≤ Y k ∧ Y k < p) (hT : ∀ i j k, 0 ≤ T i j k ∧ T i j k < p) (hn : n ≤ 5) (k : Nat) :
    (∀ i j, j ≤ 5 → 0 ≤ sm j (fun j => X i * Y j * T i j k) ∧ sm j (fun j => X i * Y j * T i j k) ≤ 1080) ∧ ∀ i, i ≤ 5 → 0 ≤ sm i (fun i => sm n (fun j => X i * Y j * T i j k)) ∧ sm i (fun i => sm n (fun j => X i * Y j * T i j k)) ≤ 5400 := by
  have hterm : ∀ i j, 0 ≤ X i * Y j * T i j k ∧ X i * Y j * T i j k ≤ 216 := fun i j => by
    have h1 := hX i
    have h2 := hY j
    have h3 := hT i j k
    have h4 := mul_bd (x := X i) (y := Y j) (a := 6) (b := 6) (by omega) (by omega)
    exact mul_bd (x := X i * Y j) (y := T i j k) (a := 36) (b := 6) h4 (by omega)
  have hin : ∀ i j, j ≤ 5 → 0 ≤ sm j (fun j => X i * Y j * T i j k) ∧ sm j (fun j => X i * Y j * T i j k) ≤ 1080 := fun i j hj => by
    have := sm_bd (n := j) (f := fun j => X i * Y j * T i j k) (a := 0) (b := 216) (fun j _ => hterm i j)
    omega
  refine ⟨hin, fun i hi => ?_⟩
  have := sm_bd (n := i) (f := fun i => sm n (fun j => X i * Y j * T i j k)) (a := 0) (b := 1080) (fun i _ => hin i n hn)
  omega
theorem w_bracketOf {oa ob La Lb : Nat} {f : Unit → JM Mem τ} {Q : τ → Mem → NM → Prop} {to : Nat} (hM : ML M m) (hA : MA M N m W B p n T) (hKa : mK M a = some (.inr (0, La))) (hLa : oa + 5 ≤ La ∧ La ≤ 2000) (hKb : mK M b = some (.inr (0, Lb))) (hLb : ob + 5 ≤ Lb ∧ Lb ≤ 2000)
    (hKt : mK M to = some (.inr (0, L))) (hLt : 5 ≤ L ∧ L ≤ 2000) (hX : VM N a oa p n X) (hY : VM N b ob p n Y) (h1 : to ≠ a) (h2 : to ≠ b) (h3 : to ≠ m) (h4 : to ≠ W) (h : GN M (wro N to 0 n (fun k => bk n T X Y k % p)) (f ()) Q) :
    GN M N (jb (jcall 7 m (f_X8_bracketOf m a (zI oa) b (zI ob) to)) f) Q := by
  have hpb := hA.pb
  have hn5 := hA.n5
  refine w_Mc hM ?_
  unfold f_X8_bracketOf
  rw [z_0]
  refine w_up n (fun k N1 => N1 = wro N to 0 k (fun k => bk n T X Y k % p)) 0 rfl (by omega) wro_0.symm ?_
  rintro k N1 hk rfl
  have fr : ∀ b, b ≠ to → wro N to 0 k (fun k => bk n T X Y k % p) b = N b := fun b hb => wro_ne hb
  generalize hG : wro N to 0 k (fun k => bk n T X Y k % p) = G at fr
  have hAG : MA M G m W B p n T := hA.fr (fr m (fun e => h3 e.symm)) (fr W (fun e => h4 e.symm))
  have hXG : VM G a oa p n X := hX.fr (fr a (fun e => h1 e.symm))
  have hYG : VM G b ob p n Y := hY.fr (fr b (fun e => h2 e.symm))
  unfold X8_bracketOf_L3
  refine w_MI hM ?_
  rw [hAG.ne]
  refine w_le ⟨by omega, by omega⟩ ⟨by omega, by omega⟩ (fun hc => ?_) (fun hc => ?_)
  · have : k = n := by omega
    subst this
    rw [← hG]
    exact w_jinl (w_jp h)
  obtain ⟨hin, hout⟩ := bk_bds hpb (fun k => ⟨(hX.2 k).1, (hX.2 k).2.1⟩) (fun k => ⟨(hY.2 k).1, (hY.2 k).2.1⟩) hA.tb hn5 k
  rw [z_0]
  refine w_up2 n (fun i x N2 => x = sm i (fun i => sm n (fun j => X i * Y j * T i j k)) ∧ N2 = G) 0 0 rfl (by omega) ⟨rfl, rfl⟩ ?_
  rintro i x N2 hi ⟨rfl, rfl⟩
  show GN M N2 (X8_bracketOf_L18 m a (zI _) b (zI _) to (zI _) (zI _) (zI _)) _
  unfold X8_bracketOf_L18
  refine w_MI hM ?_
  rw [hAG.ne]
  have ho := hout i (by omega)
  refine w_le ⟨by omega, by omega⟩ ⟨by omega, by omega⟩ (fun hd => ?_) (fun hd => ?_)
  · have : i = n := by omega
    subst this
    unfold X8_bracketOf_b81
    refine w_jinl ?_
    refine w_MI hM ?_
    rw [hAG.pe]
    refine w_remP ⟨ho.1, by omega, by omega⟩ ⟨by omega, by omega, by omega⟩ ?_
    refine w_ast hKt (by omega) (by omega) ?_
    rw [z_1, zI_add, show ((k : Int).toNat) = 0 + k by omega, ← hG, wro_up (g := fun k => bk i T X Y k % p) (v := (sm i fun i_1 => sm i fun j => X i_1 * Y j * T i_1 j k) % p) rfl]
    exact w_jcont ⟨by omega, rfl, rfl⟩
  rw [z_0]
  refine w_up2 n (fun j x N3 => x = sm i (fun i => sm n (fun j => X i * Y j * T i j k)) + sm j (fun j => X i * Y j * T i j k) ∧ N3 = N2) 0 _ rfl (by omega) ⟨by show _ = _ + (0 : Int); omega, rfl⟩ ?_
  rintro j x N3 hj ⟨rfl, rfl⟩
  show GN M N3 (X8_bracketOf_L30 m a (zI _) b (zI _) to (zI _) (zI _) (zI _) (zI _)) _
  unfold X8_bracketOf_L30
  refine w_MI hM ?_
  rw [hAG.ne]
  refine w_le ⟨by omega, by omega⟩ ⟨by omega, by omega⟩ (fun he => ?_) (fun he => ?_)
  · have : j = n := by omega
    subst this
    unfold X8_bracketOf_b75
    rw [z_1, zI_add]
    exact w_jinl (w_jcont ⟨by omega, _, rfl, rfl, rfl⟩)
  rw [zI_add]
  refine w_ald hKa (by omega) (by omega) ?_
  rw [zI_add]
  refine w_ald hKb (by omega) (by omega) ?_
  rw [show ((oa : Int) + (i : Int)).toNat = oa + i by omega, show ((ob : Int) + (j : Int)).toNat = ob + j by omega, hXG.at (by omega), hYG.at (by omega)]
  refine w_mtable hM hAG (by omega) (by omega) (by omega) ?_
  rw [zI_mul, zI_mul, zI_add, z_1, zI_add]
  exact w_jlet (w_jcont ⟨by omega, _, rfl, by rw [sm_s]; omega, rfl⟩)
theorem w_leadOf {f : Int32 → JM Mem τ} {Q : τ → Mem → NM → Prop} (hM : ML M m) (hn : N m 27 = n ∧ n ≤ 5) (hp : p ≤ 7) (hK : mK M a = some (.inr (0, L))) (hL : o + 5 ≤ L ∧ L ≤ 2000) (hX : VM N a o p n X)
    (h1 : ∀ l, l < n → X l ≠ 0 → (∀ k, k < l → X k = 0) → GN M N (f (zI l)) Q) (h2 : (∀ k, k < n → X k = 0) → GN M N (f (zI (-1))) Q) : GN M N (jb (jcall 7 m (f_X8_leadOf m a (zI o))) f) Q := by
  refine w_Mc hM ?_
  unfold f_X8_leadOf
  rw [z_0]
  refine w_up n (fun k N1 => N1 = N ∧ ∀ j, j < k → X j = 0) 0 rfl (by omega) ⟨rfl, fun j hj => by omega⟩ ?_
  rintro k N1 hk ⟨rfl, hz⟩
  unfold X8_leadOf_L2
  refine w_MI hM ?_
  rw [hn.1]
  refine w_le ⟨by omega, by omega⟩ ⟨by omega, by omega⟩ (fun hc => ?_) (fun hc => ?_)
  · rw [z_m1]
    exact w_jinl (w_jp (h2 (fun k hk => hz k (by omega))))
  rw [zI_add]
  refine w_ald hK (by omega) (by omega) ?_
  have hXk := hX.2 k
  rw [show ((o : Int) + (k : Int)).toNat = o + k by omega, hX.at (by omega), z_0]
  refine w_eq ⟨by omega, by omega⟩ ⟨by omega, by omega⟩ (fun he => ?_) (fun he => ?_)
  · rw [z_1, zI_add]
    refine w_jcont ⟨by omega, rfl, rfl, fun j hj => ?_⟩
    by_cases e : j = k
    · rw [e]; exact he
    · exact hz j (by omega)
  · exact w_jinl (w_jp (h1 k (by omega) he hz))
/-- a span in an array: q rows -/
def SpM (N : NM) (a : Nat) (p : Int) (n q : Nat) (R : Nat → Nat → Int) (ld : Nat → Nat) (S : VS) : Prop :=
  (∀ r k, r < q → k < n → N a (5 * r + k) = R r k) ∧ (∀ r k, 0 ≤ R r k ∧ R r k < p ∧ (n ≤ k → R r k = 0)) ∧ (∀ r s, r < s → s < q → ld r < ld s) ∧ Ech p n q R ld S
theorem SpM.fr (h : SpM N a p n q R ld S) (e : N' a = N a) : SpM N' a p n q R ld S := ⟨fun r k hr hk => by rw [e]; exact h.1 r k hr hk, h.2⟩
theorem SpM.bd (h : SpM N a p n q R ld S) (r k : Nat) : 0 ≤ R r k ∧ R r k < p ∧ (n ≤ k → R r k = 0) := h.2.1 r k
theorem SpM.ech (h : SpM N a p n q R ld S) : Ech p n q R ld S := h.2.2.2
theorem SpM.so (h : SpM N a p n q R ld S) : ∀ r s, r < s → s < q → ld r < ld s := h.2.2.1
theorem SpM.vm (h : SpM N a p n q R ld S) {r : Nat} (hr : r < q) : VM N a (5 * r) p n (R r) := ⟨fun k hk => h.1 r k hr hk, fun k => h.bd r k⟩
theorem SpM.qn (h : SpM N a p n q R ld S) (hp : Pr p) : q ≤ n := by
  rw [← h.ech.dm hp]
  exact dm_le
/-- where a row leads -/
theorem ech_lead (hp : Pr p) (hE : Ech p n q R ld S) (hb : ∀ r k, 0 ≤ R r k ∧ R r k < p ∧ (n ≤ k → R r k = 0)) {r : Nat} (hr : r < q) : R r (ld r) = 1 ∧ ∀ k, k < ld r → R r k = 0 := by
  have h1 := hp.pos
  refine ⟨(hE.on hr).eq ⟨(hb r _).1, (hb r _).2.1⟩ ⟨by omega, h1⟩, fun k hk => (hE.lo hr hk).eq ⟨(hb r k).1, (hb r k).2.1⟩ ⟨by omega, by omega⟩⟩
theorem w_leadRow {f : Int32 → JM Mem τ} {Q : τ → Mem → NM → Prop} {r : Nat} (hM : ML M m) (hn : N m 27 = n ∧ n ≤ 5) (hp : Pr p) (hK : mK M a = some (.inr (0, L))) (hL : 25 ≤ L ∧ L ≤ 2000) (hs : SpM N a p n q R ld S) (hr : r < q)
    (h : GN M N (f (zI (ld r))) Q) : GN M N (jb (jcall 7 m (f_X8_leadOf m a (zI (5 * (r : Int))))) f) Q := by
  have hq := hs.qn hp
  obtain ⟨e1, e2⟩ := ech_lead hp hs.ech hs.bd hr
  have e : (5 * (r : Int)) = ((5 * r : Nat) : Int) := by omega
  rw [e]
  refine w_leadOf hM hn hp.le7 hK (by omega) (hs.vm hr) (fun l hl h1 h2 => ?_) (fun h2 => ?_)
  · have : l = ld r := by
      rcases Nat.lt_trichotomy l (ld r) with c | c | c
      · exact absurd (e2 l c) h1
      · exact c
      · have := h2 (ld r) c
        omega
    rw [this]
    exact h
  · have := h2 (ld r) (hs.ech.ldn hr)
    omega
theorem w_mreduce {L2 : Nat} {f : Unit → JM Mem τ} {Q : τ → Mem → NM → Prop} (hM : ML M m) (hA : MA M N m W B p n T) (hK : mK M a = some (.inr (0, L))) (hL : 25 ≤ L ∧ L ≤ 2000) (hs : SpM N a p n q R ld S) (hK2 : mK M b = some (.inr (0, L2))) (hL2 : o + 5 ≤ L2 ∧ L2 ≤ 2000) (hX : VM N b o p n X)
    (ha : a ≠ m + 24) (hb : b ≠ m + 24)
    (h : ∀ Y, (∀ k, 0 ≤ Y k ∧ Y k < p ∧ (n ≤ k → Y k = 0)) → S (fun k => X k - Y k) → (∀ r, r < q → Y (ld r) = 0) → GN M (wro N (m + 24) 0 n Y) (f ()) Q) :
    GN M N (jb (jcall 7 m (f_X8_reduce m a (zI q) b (zI o))) f) Q := by
  have hpb := hA.pb
  have hn5 := hA.n5
  have hqn := hs.qn hA.pr
  have hWm := hA.We
  refine w_Mc hM ?_
  unfold f_X8_reduce
  rw [z_0]
  refine w_up n (fun k N1 => N1 = wro N (m + 24) 0 k X) 0 rfl (by omega) wro_0.symm ?_
  rintro k N1 hk rfl
  have frA : ∀ j g, MA M (wro N (m + 24) 0 j g) m W B p n T := fun j g => hA.fr (wro_ne (by omega)) (wro_ne (by omega))
  have frS : ∀ j g, SpM (wro N (m + 24) 0 j g) a p n q R ld S := fun j g => hs.fr (wro_ne ha)
  unfold X8_reduce_L3
  refine w_MI hM ?_
  rw [(frA k X).ne]
  refine w_le ⟨by omega, by omega⟩ ⟨by omega, by omega⟩ (fun hc => ?_) (fun hc => ?_)
  rotate_left
  · refine w_Mf hM rfl ?_
    rw [zI_add]
    refine w_ald hK2 (by omega) (by omega) ?_
    rw [show ((o : Int) + (k : Int)).toNat = o + k by omega, wro_ne hb, hX.at (by omega)]
    refine w_ast (hM.ka rfl) (by omega) (by omega) ?_
    rw [show ((k : Int).toNat) = 0 + k by omega, wro_up rfl, z_1, zI_add]
    exact w_jcont ⟨by omega, rfl, rfl⟩
  have hkn : k = n := by omega
  subst hkn
  refine w_jinl ?_
  unfold X8_reduce_b32
  rw [z_0]
  refine w_up q (fun r N1 => ∃ Y, N1 = wro N (m + 24) 0 k Y ∧ (∀ j, 0 ≤ Y j ∧ Y j < p ∧ (k ≤ j → Y j = 0)) ∧ S (fun k => X k - Y k) ∧ ∀ s, s < r → Y (ld s) = 0) 0 rfl (by omega)
    ⟨X, rfl, hX.2, hs.ech.sb.e hs.ech.sb.z (fun k _ => by omega), fun s hs => by omega⟩ ?_
  rintro r N1 hr ⟨Y, rfl, hY, hSY, hYz⟩
  unfold X8_reduce_L35
  refine w_le ⟨by omega, by omega⟩ ⟨by omega, by omega⟩ (fun hc => ?_) (fun hc => ?_)
  · have : r = q := by omega
    subst this
    exact w_jinl (w_jp (h Y hY hSY hYz))
  have hrq : r < q := by omega
  have hlr := hs.ech.ldn hrq
  refine w_Mf hM rfl ?_
  rw [z_5, zI_mul]
  refine w_leadRow hM ⟨(frA _ _).ne, hn5⟩ hA.pr hK hL (frS _ _) hrq ?_
  refine w_ald (hM.ka rfl) (by omega) (by omega) ?_
  have eY : ∀ j g, j < k → wro N (m + 24) 0 k g (m + 24) j = g j := fun j g hj => by
    have := wro_at (N := N) (a := m + 24) (o := 0) (j := k) (k := j) (g := g) hj
    rwa [Nat.zero_add] at this
  rw [show ((ld r : Int).toNat) = ld r from rfl, eY _ _ hlr]
  have hby := hY (ld r)
  rw [z_0]
  refine w_up k (fun i N2 => N2 = wro N (m + 24) 0 k (fun j => if j < i then (Y j - Y (ld r) * R r j) % p else Y j)) 0 rfl (by omega) (by
    congr 1) ?_
  rintro i N2 hi rfl
  unfold X8_reduce_L60
  refine w_MI hM ?_
  rw [(frA _ _).ne]
  have hdone : ∀ g : Nat → Int, (∀ j, j < k → g j = (Y j - Y (ld r) * R r j) % p) → (∀ j, k ≤ j → g j = Y j) →
      GN M (wro N (m + 24) 0 k g) (jinl (X8_reduce_b114 m a (zI q) (zI r))) (LQ (LQ (fun v1 M1 N1 => GN M1 N1 (f v1) Q) (KF M (fun t N1 => r < q ∧ t = zI ((r : Int) + 1) ∧ ∃ Y, N1 = wro N (m + 24) 0 k Y ∧ (∀ j, 0 ≤ Y j ∧ Y j < p ∧ (k ≤ j → Y j = 0)) ∧ S (fun k => X k - Y k) ∧ ∀ s, s < r + 1 → Y (ld s) = 0)))
        (KF M (fun t N1 => i < k ∧ t = zI ((i : Int) + 1) ∧ N1 = wro N (m + 24) 0 k (fun j => if j < i + 1 then (Y j - Y (ld r) * R r j) % p else Y j)))) := by
    intro g hg1 hg2
    unfold X8_reduce_b114
    rw [z_1, zI_add]
    obtain ⟨q1, q2, q3⟩ := sub_row hA.pr hs.ech hrq hSY hY hYz hg1 (fun j hj => (hg2 j hj).trans ((hY j).2.2 hj))
    exact w_jinl (w_jcont ⟨hrq, rfl, g, rfl, q1, q2, q3⟩)
  refine w_le ⟨by omega, by omega⟩ ⟨by omega, by omega⟩ (fun hd => ?_) (fun hd => ?_)
  · exact hdone _ (fun j hj => if_pos (by omega)) (fun j hj => if_neg (by omega))
  rw [z_0]
  refine w_eq ⟨by omega, by omega⟩ ⟨by omega, by omega⟩ (fun he => ?_) (fun he => ?_)
  · refine hdone _ (fun j hj => ?_) (fun j hj => if_neg (by omega))
    have hj2 := hY j
    show (if j < i then _ else Y j) = _
    rw [he, Int.zero_mul, Int.sub_zero, Int.emod_eq_of_lt hj2.1 hj2.2.1]
    split <;> rfl
  refine w_Mf hM rfl ?_
  refine w_Mf hM rfl ?_
  refine w_ald (hM.ka rfl) (by omega) (by omega) ?_
  rw [show ((i : Int).toNat) = i from rfl, eY _ _ (by omega), if_neg (Nat.lt_irrefl i), z_5, zI_mul, zI_add]
  refine w_ald hK (by omega) (by omega) ?_
  rw [show (5 * (r : Int) + (i : Int)).toNat = 5 * r + i by omega, (frS _ _).1 r i hrq (by omega)]
  refine w_MI hM ?_
  rw [(frA _ _).pe, zI_mul, zI_sub]
  have hYi := hY i
  have hRi := hs.bd r i
  have hmb := mul_bd (x := Y (ld r)) (y := R r i) (a := 7) (b := 7) (by omega) (by omega)
  refine w_left (by omega) (by omega) ?_
  refine w_ast (hM.ka rfl) (by omega) (by omega) ?_
  rw [show ((i : Int).toNat) = i from rfl, z_1, zI_add]
  refine w_jcont ⟨by omega, rfl, ?_⟩
  funext c j
  show (if c = m + 24 ∧ j = i then _ else if c = m + 24 ∧ 0 ≤ j ∧ j < 0 + k then (if j - 0 < i then _ else _) else N c j) = (if c = m + 24 ∧ 0 ≤ j ∧ j < 0 + k then (if j - 0 < i + 1 then _ else _) else N c j)
  rw [Nat.sub_zero]
  by_cases e : c = m + 24 ∧ j = i
  · rw [if_pos e, if_pos (by omega), if_pos (by omega), e.2]
  · rw [if_neg e]
    by_cases e2 : c = m + 24 ∧ 0 ≤ j ∧ j < 0 + k
    · rw [if_pos e2, if_pos e2]
      by_cases e3 : j < i
      · rw [if_pos e3, if_pos (by omega)]
      · rw [if_neg e3, if_neg (by omega)]
    · rw [if_neg e2, if_neg e2]
theorem w_mholds {L2 : Nat} {f : Int32 → JM Mem τ} {Q : τ → Mem → NM → Prop} (hM : ML M m) (hA : MA M N m W B p n T) (hK : mK M a = some (.inr (0, L))) (hL : 25 ≤ L ∧ L ≤ 2000) (hs : SpM N a p n q R ld S) (hK2 : mK M b = some (.inr (0, L2))) (hL2 : o + 5 ≤ L2 ∧ L2 ≤ 2000) (hX : VM N b o p n X)
    (ha : a ≠ m + 24) (hb : b ≠ m + 24) (h : ∀ Y x, (x = 1 ∧ S X ∨ x = 0 ∧ ¬ S X) → GN M (wro N (m + 24) 0 n Y) (f (zI x)) Q) : GN M N (jb (jcall 7 m (f_X8_holds m a (zI q) b (zI o))) f) Q := by
  have hn5 := hA.n5
  have hWm := hA.We
  refine w_Mc hM ?_
  unfold f_X8_holds
  refine w_mreduce hM hA hK hL hs hK2 hL2 hX ha hb (fun Y hY hSY hYz => ?_)
  have hin := red_in hs.ech hSY hYz (fun k => ⟨(hY k).1, (hY k).2.1⟩)
  refine w_Mf hM rfl ?_
  rw [z_0]
  refine w_leadOf (p := p) (o := 0) (X := Y) hM ⟨by rw [wro_ne (by omega)]; exact hA.ne, hn5⟩ hA.pr.le7 (hM.ka rfl) (by omega) ⟨fun k hk => wro_at hk, hY⟩ (fun l hl h1 h2 => ?_) (fun h2 => ?_)
  · refine w_le ⟨by omega, by omega⟩ ⟨by omega, by omega⟩ (fun hc => ?_) (fun hc => by omega)
    exact w_jp (h Y 0 (Or.inr ⟨rfl, fun hx => h1 (hin.mp hx l hl)⟩))
  · refine w_le ⟨by omega, by omega⟩ ⟨by omega, by omega⟩ (fun hc => by omega) (fun hc => ?_)
    exact w_jp (h Y 1 (Or.inl ⟨rfl, hin.mpr h2⟩))
end MODEL
