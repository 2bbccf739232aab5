/-! THE MODEL: the square of a vector. -/
set_option maxRecDepth 100000
section MOD18
variable {α τ : Type} {M M' : Mem} {N N' : NM} {m a b o W B D L La Lb t to : Nat} {p p2 : Int} {n n2 q lev c r : Nat} {T U F S : Nat → Nat → Nat → Int} {X Y : Nat → Nat → Int}
/-- brackets of a vector with the unit vectors, row by row -/
def adM (p : Int) (n : Nat) (T : Nat → Nat → Nat → Int) (x : Nat → Int) (i k : Nat) : Int := bk n T x (un i) k % p
theorem w_matrixOf {f : Unit → JM Mem τ} {Q : τ → Mem → NM → Prop} {v : Int} (hM : ML M m) (hA : MA M N m W B p n T) (hv : 0 ≤ v ∧ v < 1000000)
    (h : ∀ N', MX N' (m + 29) p n (adM p n T (dgv p n v)) → (∀ x, x ≠ m + 14 → x ≠ m + 15 → x ≠ m + 16 → x ≠ m + 29 → N' x = N x) → GN M N' (f ()) Q) : GN M N (jb (jcall 7 m (f_X8_matrixOf m (zI v))) f) Q := by
  have hpb := hA.pb
  have hn5 := hA.n5
  have hWe := hA.We
  have h14 := hM.ka (o := 14) (d := (0, 5)) rfl
  have h15 := hM.ka (o := 15) (d := (0, 5)) rfl
  have h16 := hM.ka (o := 16) (d := (0, 5)) rfl
  have h29 := hM.ka (o := 29) (d := (0, 25)) rfl
  have fra : ∀ N1 : NM, (∀ x, x ≠ m + 14 → x ≠ m + 15 → x ≠ m + 16 → x ≠ m + 29 → N1 x = N x) → MA M N1 m W B p n T := fun N1 g => hA.fr (g m (by omega) (by omega) (by omega) (by omega)) (g W (by omega) (by omega) (by omega) (by omega))
  refine w_Mc hM ?_
  unfold f_X8_matrixOf
  refine w_Mf hM rfl ?_
  rw [z_0]
  refine w_parts2 (o := 0) hM hA hv h14 (by omega) (by omega) ?_
  have f1 : ∀ x, x ≠ m + 14 → x ≠ m + 15 → x ≠ m + 16 → x ≠ m + 29 → wro N (m + 14) 0 n (dg p v) x = N x := fun x a1 _ _ _ => wro_ne a1
  have v1 : VM (wro N (m + 14) 0 n (dg p v)) (m + 14) 0 p n (dgv p n v) := ⟨fun k hk => by rw [wro_at hk]; exact (if_pos hk).symm, fun k => dgv_bd (by omega) k⟩
  generalize wro N (m + 14) 0 n (dg p v) = N1 at f1 v1
  refine w_up n (fun i N2 => (∀ x j, x < i → j < n → N2 (m + 29) (5 * x + j) = adM p n T (dgv p n v) x j) ∧ VM N2 (m + 14) 0 p n (dgv p n v) ∧ ∀ x, x ≠ m + 14 → x ≠ m + 15 → x ≠ m + 16 → x ≠ m + 29 → N2 x = N x) 0 rfl (by omega) ⟨fun x j hx => absurd hx (by omega), v1, f1⟩ ?_
  rintro i N2 hi ⟨g1, g2, g3⟩
  have hA2 := fra N2 g3
  unfold X8_matrixOf_L12
  refine w_MI hM ?_
  rw [hA2.ne]
  refine w_le ⟨by omega, by omega⟩ ⟨by omega, by omega⟩ (fun hd => ?_) (fun hd => ?_)
  · exact w_jinl (w_jp (h N2 (fun x j hx hj => ⟨g1 x j (by omega) hj, Int.emod_nonneg _ (by omega), Int.emod_lt_of_pos _ (by omega)⟩) g3))
  refine w_Mf hM rfl ?_
  refine w_unit hM hA2 (by omega) h15 (by omega) (by omega) ?_
  have f3 : ∀ x, x ≠ m + 14 → x ≠ m + 15 → x ≠ m + 16 → x ≠ m + 29 → wro N2 (m + 15) 0 n (un i) x = N x := fun x a1 a2 a3 a4 => by rw [wro_ne a2, g3 x a1 a2 a3 a4]
  have v3 : VM (wro N2 (m + 15) 0 n (un i)) (m + 15) 0 p n (un i) := ⟨fun k hk => wro_at hk, fun k => by
    unfold un
    split <;> omega⟩
  have u3 : VM (wro N2 (m + 15) 0 n (un i)) (m + 14) 0 p n (dgv p n v) := g2.fr (wro_ne (by omega))
  have s3 : ∀ x j, x < i → j < n → wro N2 (m + 15) 0 n (un i) (m + 29) (5 * x + j) = adM p n T (dgv p n v) x j := fun x j hx hj => by rw [wro_ne (by omega)]; exact g1 x j hx hj
  generalize wro N2 (m + 15) 0 n (un i) = N3 at f3 v3 u3 s3
  refine w_Mf hM rfl ?_
  refine w_Mf hM rfl ?_
  refine w_Mf hM rfl ?_
  rw [z_0]
  refine w_bracketOf (oa := 0) (ob := 0) hM (fra N3 f3) h14 (by omega) h15 (by omega) h16 (by omega) u3 v3 (by omega) (by omega) (by omega) (by omega) ?_
  have f4 : ∀ x, x ≠ m + 14 → x ≠ m + 15 → x ≠ m + 16 → x ≠ m + 29 → wro N3 (m + 16) 0 n (fun k => bk n T (dgv p n v) (un i) k % p) x = N x := fun x a1 a2 a3 a4 => by rw [wro_ne a3, f3 x a1 a2 a3 a4]
  have e4 : ∀ x, x < n → wro N3 (m + 16) 0 n (fun k => bk n T (dgv p n v) (un i) k % p) (m + 16) x = adM p n T (dgv p n v) i x := fun x hx => by
    have := wro_at (N := N3) (a := m + 16) (o := 0) (g := fun k => bk n T (dgv p n v) (un i) k % p) hx
    rw [Nat.zero_add] at this
    exact this
  have u4 : VM (wro N3 (m + 16) 0 n (fun k => bk n T (dgv p n v) (un i) k % p)) (m + 14) 0 p n (dgv p n v) := u3.fr (wro_ne (by omega))
  have s4 : ∀ x j, x < i → j < n → wro N3 (m + 16) 0 n (fun k => bk n T (dgv p n v) (un i) k % p) (m + 29) (5 * x + j) = adM p n T (dgv p n v) x j := fun x j hx hj => by rw [wro_ne (by omega)]; exact s3 x j hx hj
  generalize wro N3 (m + 16) 0 n (fun k => bk n T (dgv p n v) (un i) k % p) = N4 at f4 e4 u4 s4
  refine w_up n (fun k N5 => (∀ x j, x < i ∨ x = i ∧ j < k → j < n → N5 (m + 29) (5 * x + j) = adM p n T (dgv p n v) x j) ∧ ∀ x, x ≠ m + 29 → N5 x = N4 x) 0 rfl (by omega) ⟨fun x j hx hj => s4 x j (by omega) hj, fun _ _ => rfl⟩ ?_
  rintro k N5 hk ⟨k1, k2⟩
  unfold X8_matrixOf_L49
  refine w_MI hM ?_
  rw [k2 m (by omega), (fra N4 f4).ne]
  refine w_le ⟨by omega, by omega⟩ ⟨by omega, by omega⟩ (fun he => ?_) (fun he => ?_)
  · unfold X8_matrixOf_b79
    rw [z_1, zI_add]
    exact w_jinl (w_jcont ⟨by omega, rfl, fun x j hx hj => k1 x j (by omega) hj, u4.fr (k2 _ (by omega)), fun x a1 a2 a3 a4 => by rw [k2 x a4, f4 x a1 a2 a3 a4]⟩)
  refine w_Mf hM rfl ?_
  refine w_Mf hM rfl ?_
  refine w_ald h16 (by omega) (by omega) ?_
  rw [show ((k : Int).toNat) = k from rfl, k2 _ (by omega), e4 k (by omega), z_5, zI_mul, zI_add]
  refine w_ast h29 (by omega) (by omega) ?_
  rw [show ((5 * (i : Int) + (k : Int)).toNat) = 5 * i + k by omega, z_1, zI_add]
  refine w_jcont ⟨by omega, rfl, fun x j hx hj => ?_, fun x hx => ?_⟩
  · show (if m + 29 = m + 29 ∧ 5 * x + j = 5 * i + k then adM p n T (dgv p n v) i k else N5 (m + 29) (5 * x + j)) = _
    by_cases e : x = i ∧ j = k
    · rw [e.1, e.2, if_pos ⟨rfl, rfl⟩]
    · rw [if_neg (by omega)]
      exact k1 x j (by omega) hj
  · funext j
    show (if x = m + 29 ∧ _ then _ else N5 x j) = _
    rw [if_neg (fun e => hx e.1), k2 x hx]
end MOD18
