/-! TABLES BY NUMBER. -/
set_option maxRecDepth 100000
section DEC
variable {τ : Type} {M : Mem} {N N' : NM} {c q n i j k f : Nat} {y y' : Nat × Tbl} {P : Nat → Nat → Nat → Prop}
def dcK (q i j : Nat) : Nat → Nat → Nat × Tbl → Nat × Tbl
  | 0, _, y => y
  | f + 1, k, y => dcK q i j f (k + 1) (y.1 / q, stT y.2 i j k ((y.1 % q : Nat) : Int))
def dcJ (q n i : Nat) : Nat → Nat → Nat × Tbl → Nat × Tbl
  | 0, _, y => y
  | f + 1, j, y => dcJ q n i f (j + 1) (dcK q i j n 0 y)
def dcI (q n : Nat) : Nat → Nat → Nat × Tbl → Nat × Tbl
  | 0, _, y => y
  | f + 1, i, y => dcI q n f (i + 1) (dcJ q n i (n - (i + 1)) (i + 1) y)
/-- the table with a number -/
def tbl (q n x : Nat) : Tbl := altT q n (dcI q n n 0 (x, fun _ _ _ => 0)).2
theorem dcK_1 : ∀ f k (y : Nat × Tbl), (dcK q i j f k y).1 ≤ y.1 := by
  intro f
  induction f with
  | zero => intro k y; exact Nat.le_refl _
  | succ f ih => intro k y; exact Nat.le_trans (ih _ _) (Nat.div_le_self _ _)
theorem dcJ_1 : ∀ f j (y : Nat × Tbl), (dcJ q n i f j y).1 ≤ y.1 := by
  intro f
  induction f with
  | zero => intro k y; exact Nat.le_refl _
  | succ f ih => intro k y; exact Nat.le_trans (ih _ _) (dcK_1 _ _ _)
def AgT (P : Nat → Nat → Nat → Prop) (y y' : Nat × Tbl) : Prop := y.1 = y'.1 ∧ ∀ a b d, P a b d → y.2 a b d = y'.2 a b d
theorem dcK_ag : ∀ f k (y y' : Nat × Tbl) (P : Nat → Nat → Nat → Prop), AgT P y y' → AgT (fun a b d => P a b d ∨ a = i ∧ b = j ∧ k ≤ d ∧ d < k + f) (dcK q i j f k y) (dcK q i j f k y') := by
  intro f
  induction f with
  | zero => intro k y y' P h; exact ⟨h.1, fun a b d hp => h.2 a b d (by rcases hp with hp | hp; exact hp; omega)⟩
  | succ f ih =>
    intro k y y' P h
    have := ih (k + 1) (y.1 / q, stT y.2 i j k ((y.1 % q : Nat) : Int)) (y'.1 / q, stT y'.2 i j k ((y'.1 % q : Nat) : Int)) (fun a b d => P a b d ∨ a = i ∧ b = j ∧ d = k) ⟨by show y.1 / q = y'.1 / q; rw [h.1], fun a b d hp => by
      show stT y.2 i j k _ a b d = stT y'.2 i j k _ a b d
      unfold stT
      by_cases e : a = i ∧ b = j ∧ d = k
      · rw [if_pos e, if_pos e, h.1]
      · rw [if_neg e, if_neg e]
        exact h.2 a b d (by rcases hp with hp | hp; exact hp; exact absurd hp e)⟩
    exact ⟨this.1, fun a b d hp => this.2 a b d (by
      rcases hp with hp | hp
      · exact Or.inl (Or.inl hp)
      · by_cases e : d = k
        · exact Or.inl (Or.inr ⟨hp.1, hp.2.1, e⟩)
        · exact Or.inr ⟨hp.1, hp.2.1, by omega, by omega⟩)⟩
theorem dcJ_ag : ∀ f j (y y' : Nat × Tbl) (P : Nat → Nat → Nat → Prop), AgT P y y' → AgT (fun a b d => P a b d ∨ a = i ∧ j ≤ b ∧ b < j + f ∧ d < n) (dcJ q n i f j y) (dcJ q n i f j y') := by
  intro f
  induction f with
  | zero => intro j y y' P h; exact ⟨h.1, fun a b d hp => h.2 a b d (by rcases hp with hp | hp; exact hp; omega)⟩
  | succ f ih =>
    intro j y y' P h
    have := ih (j + 1) _ _ _ (dcK_ag (q := q) (i := i) (j := j) n 0 y y' P h)
    exact ⟨this.1, fun a b d hp => this.2 a b d (by
      rcases hp with hp | hp
      · exact Or.inl (Or.inl hp)
      · by_cases e : b = j
        · exact Or.inl (Or.inr ⟨hp.1, e, Nat.zero_le _, by omega⟩)
        · exact Or.inr ⟨hp.1, by omega, by omega, hp.2.2.2⟩)⟩
theorem dcI_ag : ∀ f i (y y' : Nat × Tbl) (P : Nat → Nat → Nat → Prop), AgT P y y' → AgT (fun a b d => P a b d ∨ i ≤ a ∧ a < i + f ∧ a < b ∧ b < n ∧ d < n) (dcI q n f i y) (dcI q n f i y') := by
  intro f
  induction f with
  | zero => intro i y y' P h; exact ⟨h.1, fun a b d hp => h.2 a b d (by rcases hp with hp | hp; exact hp; omega)⟩
  | succ f ih =>
    intro i y y' P h
    have := ih (i + 1) _ _ _ (dcJ_ag (q := q) (n := n) (i := i) (n - (i + 1)) (i + 1) y y' P h)
    exact ⟨this.1, fun a b d hp => this.2 a b d (by
      rcases hp with hp | hp
      · exact Or.inl (Or.inl hp)
      · by_cases e : a = i
        · exact Or.inl (Or.inr ⟨e, by omega, by omega, by omega⟩)
        · exact Or.inr ⟨by omega, by omega, hp.2.2⟩)⟩
/-- what stood there doesn't matter -/
theorem tbl_any {S : Tbl} {x : Nat} : altT q n (dcI q n n 0 (x, S)).2 = tbl q n x := by
  have := dcI_ag (q := q) (n := n) n 0 (x, S) (x, fun _ _ _ => 0) (fun _ _ _ => False) ⟨rfl, fun _ _ _ h => h.elim⟩
  exact altT_q (fun a b d h1 h2 h3 => this.2 a b d (Or.inr ⟨Nat.zero_le _, by omega, h1, h2, h3⟩))
-- the component puts a table by number
variable {x3 x5 x6 x7 x8 : Int32}
theorem c_tK {Q : _ → Mem → NM → Prop} (hW : WL M (c + 224)) (hC : CL M c) (hq : 0 < q ∧ q ≤ 7) (hn : n ≤ 5) (hij : i < j) (hj : j < n) :
    ∀ f k (y : Nat × Tbl) N, k + f = n → WD N (c + 224) q n (altT q n y.2) → y.1 ≤ 100000 →
      (∀ N', WD N' (c + 224) q n (altT q n (dcK q i j f k y).2) → (∀ b, b < c + 224 ∨ c + 256 ≤ b → N' b = N b) → GN M N' (X0_tables_b193 c (zI (q : Nat)) (zI (n : Nat)) x3 x5 x6 x7 x8 (zI ((dcK q i j f k y).1 : Nat)) (zI (i : Nat)) (zI (j : Nat))) Q) →
      GN M N (jloop (fun t => X0_tables_L158 c (zI (q : Nat)) (zI (n : Nat)) x3 x5 x6 x7 x8 (zI (i : Nat)) (zI (j : Nat)) t.1 t.2) (zI (y.1 : Nat), zI (k : Nat))) Q := by
  intro f
  induction f with
  | zero =>
    intro k y N hk hD hy h
    refine w_unroll ?_
    unfold X0_tables_L158
    exact w_le ⟨by omega, by omega⟩ ⟨by omega, by omega⟩ (fun _ => w_jinl (h N hD (fun _ _ => rfl))) (fun x => absurd x (by omega))
  | succ f ih =>
    intro k y N hk hD hy h
    refine w_unroll ?_
    unfold X0_tables_L158
    refine w_le ⟨by omega, by omega⟩ ⟨by omega, by omega⟩ (fun x => absurd x (by omega)) (fun _ => ?_)
    have hyq : y.1 / q ≤ y.1 := Nat.div_le_self _ _
    have hyr : y.1 % q < q := Nat.mod_lt _ hq.1
    refine w_Cf hC rfl (w_remP ⟨by omega, by omega, by omega⟩ ⟨by omega, by omega, by omega⟩ ?_)
    rw [show ((y.1 : Int) % (q : Int)) = ((y.1 % q : Nat) : Int) from rfl]
    refine w_cset hW hD hij hj (by omega) ⟨by omega, by omega⟩ (fun N1 hD1 f1 => ?_)
    refine w_divP ⟨by omega, by omega, by omega⟩ ⟨by omega, by omega, by omega⟩ ?_
    rw [show ((y.1 : Int) / (q : Int)) = ((y.1 / q : Nat) : Int) from rfl, z_1, zI_add, show ((k : Int) + 1) = ((k + 1 : Nat) : Int) by omega]
    refine w_jcontB (ih (k + 1) (y.1 / q, stT y.2 i j k ((y.1 % q : Nat) : Int)) N1 (by omega) hD1 (by show y.1 / q ≤ 100000; omega) (fun N2 hD2 f2 => h N2 hD2 (fun b hb => (f2 b hb).trans (f1 b (by omega)))))
theorem c_tJ {Q : _ → Mem → NM → Prop} (hW : WL M (c + 224)) (hC : CL M c) (hq : 0 < q ∧ q ≤ 7) (hn : n ≤ 5) :
    ∀ f j (y : Nat × Tbl) N, j + f = n → i < j → WD N (c + 224) q n (altT q n y.2) → y.1 ≤ 100000 →
      (∀ N', WD N' (c + 224) q n (altT q n (dcJ q n i f j y).2) → (∀ b, b < c + 224 ∨ c + 256 ≤ b → N' b = N b) → GN M N' (X0_tables_b199 c (zI (q : Nat)) (zI (n : Nat)) x3 x5 x6 x7 x8 (zI ((dcJ q n i f j y).1 : Nat)) (zI (i : Nat))) Q) →
      GN M N (jloop (fun t => X0_tables_L149 c (zI (q : Nat)) (zI (n : Nat)) x3 x5 x6 x7 x8 (zI (i : Nat)) t.1 t.2) (zI (y.1 : Nat), zI (j : Nat))) Q := by
  intro f
  induction f with
  | zero =>
    intro j y N hk hij hD hy h
    refine w_unroll ?_
    unfold X0_tables_L149
    exact w_le ⟨by omega, by omega⟩ ⟨by omega, by omega⟩ (fun _ => w_jinl (h N hD (fun _ _ => rfl))) (fun x => absurd x (by omega))
  | succ f ih =>
    intro j y N hk hij hD hy h
    refine w_unroll ?_
    unfold X0_tables_L149
    refine w_le ⟨by omega, by omega⟩ ⟨by omega, by omega⟩ (fun x => absurd x (by omega)) (fun _ => ?_)
    rw [z_0]
    refine c_tK hW hC hq hn hij (by omega) n 0 y N (by omega) hD hy (fun N1 hD1 f1 => ?_)
    unfold X0_tables_b193
    rw [z_1, zI_add, show ((j : Int) + 1) = ((j + 1 : Nat) : Int) by omega]
    have := dcK_1 (q := q) (i := i) (j := j) n 0 y
    refine w_jcontB (ih (j + 1) (dcK q i j n 0 y) N1 (by omega) (by omega) hD1 (by omega) (fun N2 hD2 f2 => h N2 hD2 (fun b hb => (f2 b hb).trans (f1 b hb))))
theorem c_tI {Q : _ → Mem → NM → Prop} (hW : WL M (c + 224)) (hC : CL M c) (hq : 0 < q ∧ q ≤ 7) (hn : n ≤ 5) :
    ∀ f i (y : Nat × Tbl) N, i + f = n → WD N (c + 224) q n (altT q n y.2) → y.1 ≤ 100000 →
      (∀ N', WD N' (c + 224) q n (altT q n (dcI q n f i y).2) → (∀ b, b < c + 224 ∨ c + 256 ≤ b → N' b = N b) → GN M N' (X0_tables_b205 c (zI (q : Nat)) (zI (n : Nat)) x3 x5 x6 x7 x8) Q) →
      GN M N (jloop (fun t => X0_tables_L137 c (zI (q : Nat)) (zI (n : Nat)) x3 x5 x6 x7 x8 t.1 t.2) (zI (y.1 : Nat), zI (i : Nat))) Q := by
  intro f
  induction f with
  | zero =>
    intro i y N hk hD hy h
    refine w_unroll ?_
    unfold X0_tables_L137
    exact w_le ⟨by omega, by omega⟩ ⟨by omega, by omega⟩ (fun _ => w_jinl (h N hD (fun _ _ => rfl))) (fun x => absurd x (by omega))
  | succ f ih =>
    intro i y N hk hD hy h
    refine w_unroll ?_
    unfold X0_tables_L137
    refine w_le ⟨by omega, by omega⟩ ⟨by omega, by omega⟩ (fun x => absurd x (by omega)) (fun _ => ?_)
    rw [z_1, zI_add, show ((i : Int) + 1) = ((i + 1 : Nat) : Int) by omega]
    refine w_jlet (c_tJ hW hC hq hn (n - (i + 1)) (i + 1) y N (by omega) (by omega) hD hy (fun N1 hD1 f1 => ?_))
    unfold X0_tables_b199
    rw [z_1, zI_add, show ((i : Int) + 1) = ((i + 1 : Nat) : Int) by omega]
    have := dcJ_1 (q := q) (n := n) (i := i) (n - (i + 1)) (i + 1) y
    refine w_jcontB (ih (i + 1) _ N1 (by omega) hD1 (by omega) (fun N2 hD2 f2 => h N2 hD2 (fun b hb => (f2 b hb).trans (f1 b hb))))
end DEC
