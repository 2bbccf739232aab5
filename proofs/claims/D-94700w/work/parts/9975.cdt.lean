/-! THE NUMBER OF A TABLE, the model. -/
set_option maxRecDepth 100000
section CDT
variable {τ : Type} {M M' : Mem} {N N' N0 : NM} {m q n i j k f r x a b : Nat} {S T : Tbl}
def ceK (q : Nat) (T : Tbl) (i j : Nat) : Nat → Nat → Nat
  | 0, b => b
  | k + 1, b => ceK q T i j k (b * q + (T i j k).toNat)
def ceJ (q n : Nat) (T : Tbl) (i : Nat) : Nat → Nat → Nat
  | 0, b => b
  | f + 1, b => ceJ q n T i f (ceK q T i (i + f + 1) n b)
def ceI (q n : Nat) (T : Tbl) : Nat → Nat → Nat
  | 0, b => b
  | i + 1, b => ceI q n T i (ceJ q n T i (n - 1 - i) b)
/-- the number of a table -/
def cdT (q n : Nat) (T : Tbl) : Nat := ceI q n T n 0
theorem m_cell {g : Int32 → JM Mem τ} {Q : τ → Mem → NM → Prop} (h : GN M N (g (zI ((2 + 25 * i + 5 * j + k : Nat) : Int))) Q) : GN M N (jb (f_X8_cell (zI (i : Nat)) (zI (j : Nat)) (zI (k : Nat))) g) Q := by
  unfold f_X8_cell
  rw [z_2, z_25, z_5, zI_mul, zI_mul, zI_add, zI_add, zI_add, show (2 + 25 * (i : Int) + 5 * (j : Int) + (k : Int)) = ((2 + 25 * i + 5 * j + k : Nat) : Int) by omega]
  exact w_jb (w_jp h)
theorem m_cK {Q : _ → Mem → NM → Prop} (hM : ML M m) (hq : 0 < q ∧ q ≤ 7) (hn : n ≤ 5) (h26 : N m 26 = q) (hK : mK M a = some (.inr (0, 127))) (hT : ∀ i j k, i < 5 → j < 5 → k < 5 → N a (2 + 25 * i + 5 * j + k) = T i j k ∧ 0 ≤ T i j k) (hi : i < 5) (hj : j < 5) :
    ∀ k b, k ≤ 5 → (GN M N (X8_codeOf_b64 m a (zI (ceK q T i j k b : Nat)) (zI (i : Nat)) (zI (j : Nat))) Q) →
      GN M N (jloop (fun t => X8_codeOf_L35 m a (zI (i : Nat)) (zI (j : Nat)) t.1 t.2) (zI (b : Nat), zI ((k : Int) - 1))) Q := by
  intro k
  induction k with
  | zero =>
    intro b hk h
    refine w_unroll ?_
    unfold X8_codeOf_L35
    rw [z_0]
    exact w_lt ⟨by omega, by omega⟩ ⟨by omega, by omega⟩ (fun _ => w_jinl h) (fun y => absurd (show (0 : Int) ≤ ((0 : Nat) : Int) - 1 from y) (by decide))
  | succ k ih =>
    intro b hk h
    refine w_unroll ?_
    unfold X8_codeOf_L35
    rw [z_m1, z_0, show (((k + 1 : Nat) : Int) - 1) = ((k : Nat) : Int) by omega]
    refine w_lt ⟨by omega, by omega⟩ ⟨by omega, by omega⟩ (fun y => absurd y (by omega)) (fun _ => ?_)
    refine w_MI hM ?_
    rw [h26]
    refine m_cell (w_ald hK (by omega) (by omega) ?_)
    rw [show (((2 + 25 * i + 5 * j + k : Nat) : Int).toNat) = 2 + 25 * i + 5 * j + k from rfl]
    obtain ⟨t1, t2⟩ := hT i j k hi hj (by omega)
    rw [t1, zI_mul, zI_add, zI_add, show ((b : Int) * (q : Int) + T i j k) = ((b * q + (T i j k).toNat : Nat) : Int) by rw [Int.natCast_add, Int.natCast_mul]; omega, show ((k : Int) + (-1)) = (k : Int) - 1 by omega]
    exact w_jlet (w_jcontB (ih _ (by omega) h))
theorem m_cJ {Q : _ → Mem → NM → Prop} (hM : ML M m) (hq : 0 < q ∧ q ≤ 7) (hn : n ≤ 5) (h26 : N m 26 = q) (h27 : N m 27 = n) (hK : mK M a = some (.inr (0, 127))) (hT : ∀ i j k, i < 5 → j < 5 → k < 5 → N a (2 + 25 * i + 5 * j + k) = T i j k ∧ 0 ≤ T i j k) (hi : i < 5) :
    ∀ f b, i + f < n → (GN M N (X8_codeOf_b70 m a (zI (ceJ q n T i f b : Nat)) (zI (i : Nat))) Q) →
      GN M N (jloop (fun t => X8_codeOf_L21 m a (zI (i : Nat)) t.1 t.2) (zI (b : Nat), zI ((i + f : Nat) : Int))) Q := by
  intro f
  induction f with
  | zero =>
    intro b hk h
    refine w_unroll ?_
    unfold X8_codeOf_L21
    exact w_le ⟨by omega, by omega⟩ ⟨by omega, by omega⟩ (fun _ => w_jinl h) (fun y => absurd y (by omega))
  | succ f ih =>
    intro b hk h
    refine w_unroll ?_
    unfold X8_codeOf_L21
    refine w_le ⟨by omega, by omega⟩ ⟨by omega, by omega⟩ (fun y => absurd y (by omega)) (fun _ => ?_)
    refine w_MI hM ?_
    rw [h27, z_1, zI_sub]
    refine w_jlet (m_cK hM hq hn h26 hK hT hi (by omega) n b hn ?_)
    unfold X8_codeOf_b64
    rw [z_m1, zI_add, show (((i + (f + 1) : Nat) : Int) + (-1)) = ((i + f : Nat) : Int) by omega]
    exact w_jcontB (ih _ (by omega) h)
theorem m_cI {Q : Int32 → Mem → NM → Prop} (hM : ML M m) (hq : 0 < q ∧ q ≤ 7) (hn : n ≤ 5) (h26 : N m 26 = q) (h27 : N m 27 = n) (hK : mK M a = some (.inr (0, 127))) (hT : ∀ i j k, i < 5 → j < 5 → k < 5 → N a (2 + 25 * i + 5 * j + k) = T i j k ∧ 0 ≤ T i j k) :
    ∀ i b, i ≤ n → (Q (zI (ceI q n T i b : Nat)) M N) → GN M N (jloop (fun t => X8_codeOf_L9 m a t.1 t.2) (zI (b : Nat), zI ((i : Int) - 1))) Q := by
  intro i
  induction i with
  | zero =>
    intro b hk h
    refine w_unroll ?_
    unfold X8_codeOf_L9
    rw [z_0]
    exact w_lt ⟨by omega, by omega⟩ ⟨by omega, by omega⟩ (fun _ => w_jinl (w_jp h)) (fun y => absurd (show (0 : Int) ≤ ((0 : Nat) : Int) - 1 from y) (by decide))
  | succ i ih =>
    intro b hk h
    refine w_unroll ?_
    unfold X8_codeOf_L9
    rw [z_0, show (((i + 1 : Nat) : Int) - 1) = ((i : Nat) : Int) by omega]
    refine w_lt ⟨by omega, by omega⟩ ⟨by omega, by omega⟩ (fun y => absurd y (by omega)) (fun _ => ?_)
    refine w_MI hM ?_
    rw [h27, z_1, zI_sub, show ((n : Int) - 1) = ((i + (n - 1 - i) : Nat) : Int) by omega]
    refine w_jlet (m_cJ hM hq hn h26 h27 hK hT (by omega) (n - 1 - i) b (by omega) ?_)
    unfold X8_codeOf_b70
    rw [z_m1, zI_add, show ((i : Int) + (-1)) = (i : Int) - 1 by omega]
    exact w_jcontB (ih _ (by omega) h)
theorem m_codeOf {g : Int32 → JM Mem τ} {Q : τ → Mem → NM → Prop} (hM : ML M m) (hq : 0 < q ∧ q ≤ 7) (hn : n ≤ 5) (h26 : N m 26 = q) (h27 : N m 27 = n) (hK : mK M a = some (.inr (0, 127))) (hT : ∀ i j k, i < 5 → j < 5 → k < 5 → N a (2 + 25 * i + 5 * j + k) = T i j k ∧ 0 ≤ T i j k) (h : GN M N (g (zI (cdT q n T : Nat))) Q) : GN M N (jb (jcall 7 m (f_X8_codeOf m a)) g) Q := by
  refine w_Mc hM ?_
  unfold f_X8_codeOf
  refine w_MI hM ?_
  rw [h27, z_1, zI_sub, z_0]
  exact w_jlet (m_cI hM hq hn h26 h27 hK hT n 0 (Nat.le_refl _) h)
end CDT
