/-! THE MODEL: squares multiplied. -/
set_option maxRecDepth 100000
section MOD17
variable {α τ : Type} {M M' : Mem} {N N' : NM} {m a b o W B D L La Lb t to : Nat} {p p2 : Int} {n n2 q lev c r : Nat} {T U F S : Nat → Nat → Nat → Int} {X Y : Nat → Nat → Int}
def MX (N : NM) (a : Nat) (p : Int) (n : Nat) (X : Nat → Nat → Int) : Prop := ∀ i j, i < n → j < n → N a (5 * i + j) = X i j ∧ 0 ≤ X i j ∧ X i j < p
def mmul (p : Int) (n : Nat) (X Y : Nat → Nat → Int) (i j : Nat) : Int := sm n (fun k => X i k * Y k j) % p
theorem MX.fr (h : MX N a p n X) (e : N' a = N a) : MX N' a p n X := fun i j hi hj => by rw [e]; exact h i j hi hj
theorem w_isZero {f : Int32 → JM Mem τ} {Q : τ → Mem → NM → Prop} (hM : ML M m) (hA : MA M N m W B p n T) (hK : mK M a = some (.inr (0, L))) (hL : 25 ≤ L ∧ L ≤ 100) (hX : MX N a p n X)
    (h : ∀ v, (v = 1 ∧ (∀ i j, i < n → j < n → X i j = 0) ∨ v = 0 ∧ ¬ ∀ i j, i < n → j < n → X i j = 0) → GN M N (f (zI v)) Q) : GN M N (jb (jcall 7 m (f_X8_isZero m a)) f) Q := by
  have hpb := hA.pb
  have hn5 := hA.n5
  refine w_Mc hM ?_
  unfold f_X8_isZero
  rw [z_0]
  refine w_up n (fun i N1 => N1 = N ∧ ∀ x j, x < i → j < n → X x j = 0) 0 rfl (by omega) ⟨rfl, fun x j hx => absurd hx (by omega)⟩ ?_
  rintro i N1 hi ⟨rfl, g1⟩
  unfold X8_isZero_L2
  refine w_MI hM ?_
  rw [hA.ne]
  refine w_le ⟨by omega, by omega⟩ ⟨by omega, by omega⟩ (fun hd => ?_) (fun hd => ?_)
  · rw [z_1]
    exact w_jinl (w_jp (h 1 (Or.inl ⟨rfl, fun x j hx hj => g1 x j (by omega) hj⟩)))
  rw [z_0]
  refine w_up n (fun k N2 => N2 = N1 ∧ ∀ j, j < k → X i j = 0) 0 rfl (by omega) ⟨rfl, fun j hj => absurd hj (by omega)⟩ ?_
  rintro k N2 hk ⟨rfl, k1⟩
  unfold X8_isZero_L12
  refine w_MI hM ?_
  rw [hA.ne]
  refine w_le ⟨by omega, by omega⟩ ⟨by omega, by omega⟩ (fun he => ?_) (fun he => ?_)
  · unfold X8_isZero_b38
    rw [z_1, zI_add]
    refine w_jinl (w_jcont ⟨by omega, rfl, rfl, fun x j hx hj => ?_⟩)
    by_cases e : x = i
    · rw [e]; exact k1 j (by omega)
    · exact g1 x j (by omega) hj
  rw [z_5, zI_mul, zI_add]
  refine w_ald hK (by omega) (by omega) ?_
  have hx := hX i k (by omega) (by omega)
  rw [show ((5 * (i : Int) + (k : Int)).toNat) = 5 * i + k by omega, hx.1, z_0]
  refine w_eq ⟨by omega, by omega⟩ ⟨by omega, by omega⟩ (fun hf => ?_) (fun hf => ?_)
  · rw [z_1, zI_add]
    refine w_jcont ⟨by omega, rfl, rfl, fun j hj => ?_⟩
    by_cases e : j = k
    · rw [e]; exact hf
    · exact k1 j (by omega)
  · exact w_jinl (w_jinl (w_jp (h 0 (Or.inr ⟨rfl, fun x => hf (x i k (by omega) (by omega))⟩))))
theorem w_times {f : Unit → JM Mem τ} {Q : τ → Mem → NM → Prop} (hM : ML M m) (hA : MA M N m W B p n T) (hKa : mK M a = some (.inr (0, La))) (hLa : 25 ≤ La ∧ La ≤ 100) (hKb : mK M b = some (.inr (0, Lb))) (hLb : 25 ≤ Lb ∧ Lb ≤ 100) (hK : mK M to = some (.inr (0, L))) (hL : 25 ≤ L ∧ L ≤ 100)
    (hX : MX N a p n X) (hY : MX N b p n Y) (h1 : to ≠ a) (h2 : to ≠ b) (h3 : to ≠ m) (h4 : to ≠ W)
    (h : ∀ N', MX N' to p n (mmul p n X Y) → (∀ x, x ≠ to → N' x = N x) → GN M N' (f ()) Q) : GN M N (jb (jcall 7 m (f_X8_times m a b to)) f) Q := by
  have hpb := hA.pb
  have hn5 := hA.n5
  have fra : ∀ N1 : NM, (∀ x, x ≠ to → N1 x = N x) → MA M N1 m W B p n T := fun N1 g => hA.fr (g m (fun e => h3 e.symm)) (g W (fun e => h4 e.symm))
  have hmb : ∀ i j, 0 ≤ mmul p n X Y i j ∧ mmul p n X Y i j < p := fun i j => ⟨Int.emod_nonneg _ (by omega), Int.emod_lt_of_pos _ (by omega)⟩
  refine w_Mc hM ?_
  unfold f_X8_times
  rw [z_0]
  refine w_up n (fun i N1 => (∀ x j, x < i → j < n → N1 to (5 * x + j) = mmul p n X Y x j) ∧ ∀ x, x ≠ to → N1 x = N x) 0 rfl (by omega) ⟨fun x j hx => absurd hx (by omega), fun _ _ => rfl⟩ ?_
  rintro i N1 hi ⟨g1, g2⟩
  unfold X8_times_L3
  refine w_MI hM ?_
  rw [(fra N1 g2).ne]
  refine w_le ⟨by omega, by omega⟩ ⟨by omega, by omega⟩ (fun hd => ?_) (fun hd => ?_)
  · exact w_jinl (w_jp (h N1 (fun x j hx hj => ⟨g1 x j (by omega) hj, hmb x j⟩) g2))
  rw [z_0]
  refine w_up n (fun k N2 => (∀ x j, x < i ∨ x = i ∧ j < k → j < n → N2 to (5 * x + j) = mmul p n X Y x j) ∧ ∀ x, x ≠ to → N2 x = N x) 0 rfl (by omega) ⟨fun x j hx hj => g1 x j (by omega) hj, g2⟩ ?_
  rintro k N2 hk ⟨k1, k2⟩
  unfold X8_times_L15
  refine w_MI hM ?_
  rw [(fra N2 k2).ne]
  refine w_le ⟨by omega, by omega⟩ ⟨by omega, by omega⟩ (fun he => ?_) (fun he => ?_)
  · unfold X8_times_b91
    rw [z_1, zI_add]
    exact w_jinl (w_jcont ⟨by omega, rfl, fun x j hx hj => k1 x j (by omega) hj, k2⟩)
  have hb : ∀ l, l ≤ n → 0 ≤ sm l (fun l => X i l * Y l k) ∧ sm l (fun l => X i l * Y l k) ≤ 245 := fun l hl => by
    have := sm_bd (n := l) (f := fun l => X i l * Y l k) (a := 0) (b := 49) (fun x hx => by
      have q1 := hX i x (by omega) (by omega)
      have q2 := hY x k (by omega) (by omega)
      exact mul_bd (a := 7) (b := 7) (by omega) (by omega))
    omega
  rw [z_0]
  refine w_up2 n (fun l x N3 => x = sm l (fun l => X i l * Y l k) ∧ N3 = N2) 0 0 rfl (by omega) ⟨rfl, rfl⟩ ?_
  rintro l x N3 hl ⟨rfl, rfl⟩
  have hbl := hb l hl
  show GN M N3 (X8_times_L30 m a b to (zI _) (zI _) (zI _) (zI _)) _
  unfold X8_times_L30
  refine w_MI hM ?_
  rw [(fra N3 k2).ne]
  refine w_le ⟨by omega, by omega⟩ ⟨by omega, by omega⟩ (fun hf => ?_) (fun hf => ?_)
  · obtain rfl : l = n := by omega
    unfold X8_times_b69
    refine w_jinl ?_
    refine w_MI hM ?_
    rw [(fra N3 k2).pe]
    refine w_remP ⟨by omega, by omega, by omega⟩ ⟨by omega, by omega, by omega⟩ ?_
    rw [z_5, zI_mul, zI_add]
    refine w_ast hK (by omega) (by omega) ?_
    rw [show ((5 * (i : Int) + (k : Int)).toNat) = 5 * i + k by omega, z_1, zI_add]
    refine w_jcont ⟨by omega, rfl, fun x j hx hj => ?_, fun x hx => ?_⟩
    · show (if to = to ∧ 5 * x + j = 5 * i + k then mmul p l X Y i k else N3 to (5 * x + j)) = _
      by_cases e : x = i ∧ j = k
      · rw [e.1, e.2, if_pos ⟨rfl, rfl⟩]
      · rw [if_neg (by omega)]
        exact k1 x j (by omega) hj
    · funext j
      show (if x = to ∧ _ then _ else N3 x j) = _
      rw [if_neg (fun e => hx e.1), k2 x hx]
  have hln : l < n := by omega
  have q1 := hX i l (by omega) hln
  have q2 := hY l k hln (by omega)
  rw [z_5, zI_mul, zI_mul, zI_add, zI_add]
  refine w_ald hKa (by omega) (by omega) ?_
  refine w_ald hKb (by omega) (by omega) ?_
  rw [show ((5 * (i : Int) + (l : Int)).toNat) = 5 * i + l by omega, show ((5 * (l : Int) + (k : Int)).toNat) = 5 * l + k by omega, k2 a (fun e => h1 e.symm), k2 b (fun e => h2 e.symm), q1.1, q2.1, zI_mul, zI_add, z_1, zI_add]
  exact w_jlet (w_jcont ⟨hln, _, rfl, rfl, rfl⟩)
end MOD17
