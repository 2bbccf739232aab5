/-! THE MODEL: worlds in cells; a world told by a new base. -/
set_option maxRecDepth 100000
section MOD12
variable {α τ : Type} {M M' : Mem} {N N' : NM} {m a b o W B U D L : Nat} {p : Int} {n q lev c r : Nat} {T F S : Nat → Nat → Nat → Int} {im : Nat → Nat → Int} {E A : Nat → Nat → Int}
theorem WC.fr (h : WC N W B p n T) (e : N' W = N W) : WC N' W B p n T := by
  unfold WC at h ⊢
  rw [e]
  exact h
theorem MA.wc (h : MA M N m W B p n T) (h1 : N W B = p) (h2 : N W (B + 1) = n) : WC N W B p n T := ⟨h1, h2, fun _ _ _ hi hj hk => h.t hi hj hk⟩
theorem w_mset {f : Unit → JM Mem τ} {Q : τ → Mem → NM → Prop} {i j k n0 : Nat} {v : Int} (hK : mK M a = some (.inr (0, L))) (hL : B + 127 ≤ L ∧ L ≤ 4000) (hW : WC N a B p n0 (altT p n S)) (hp : Pr p) (hn : n ≤ 5) (hij : i < j) (hj : j < n) (hk : k < n) (hv : -1000000 ≤ v ∧ v ≤ 1000000)
    (h : ∀ N', WC N' a B p n0 (altT p n (stT S i j k v)) → (∀ b, b ≠ a → N' b = N b) → (∀ l, l < B + 2 ∨ B + 127 ≤ l → N' a l = N a l) → GN M N' (f ()) Q) : GN M N (jb (f_X8_set a (zI B) (zI i) (zI j) (zI k) (zI v)) f) Q := by
  obtain ⟨c1, c2, c3⟩ := hW
  have hp7 := hp.le7
  have hp1 := hp.pos
  refine w_jb ?_
  unfold f_X8_set
  refine w_ald hK (by omega) (by omega) ?_
  rw [show ((B : Int).toNat) = B from rfl, c1]
  unfold f_X8_cell
  rw [z_2, z_25, z_5]
  rw [zI_mul, zI_mul, zI_add, zI_add, zI_add, zI_mul, zI_mul, zI_add, zI_add, zI_add]
  refine w_jb (w_jp ?_)
  refine w_left (by omega) (by omega) ?_
  rw [zI_add]
  refine w_ast hK (by omega) (by omega) ?_
  refine w_jb (w_jp ?_)
  rw [zI_neg]
  refine w_left (by omega) (by omega) ?_
  rw [zI_add]
  refine w_ast hK (by omega) (by omega) ?_
  rw [show (((B : Int) + (2 + 25 * (i : Int) + 5 * (j : Int) + (k : Int))).toNat) = B + 2 + 25 * i + 5 * j + k by omega, show (((B : Int) + (2 + 25 * (j : Int) + 5 * (i : Int) + (k : Int))).toNat) = B + 2 + 25 * j + 5 * i + k by omega]
  refine w_jp (h _ ⟨?_, ?_, fun x y z hx hy hz => ?_⟩ (fun b hb => ?_) (fun l hl => ?_))
  · show (if a = a ∧ B = B + 2 + 25 * j + 5 * i + k then _ else if a = a ∧ B = B + 2 + 25 * i + 5 * j + k then _ else N a B) = _
    rw [if_neg (by omega), if_neg (by omega), c1]
  · show (if a = a ∧ B + 1 = B + 2 + 25 * j + 5 * i + k then _ else if a = a ∧ B + 1 = B + 2 + 25 * i + 5 * j + k then _ else N a (B + 1)) = _
    rw [if_neg (by omega), if_neg (by omega), c2]
  · show (if a = a ∧ B + 2 + 25 * x + 5 * y + z = B + 2 + 25 * j + 5 * i + k then (-v) % p else if a = a ∧ B + 2 + 25 * x + 5 * y + z = B + 2 + 25 * i + 5 * j + k then v % p else N a (B + 2 + 25 * x + 5 * y + z)) = _
    rw [altT_st hij hj hk, c3 x y z hx hy hz]
    by_cases d1 : x = j ∧ y = i ∧ z = k
    · rw [if_pos d1, if_pos ⟨rfl, by rw [d1.1, d1.2.1, d1.2.2]⟩]
    · rw [if_neg d1, if_neg (show ¬ (a = a ∧ B + 2 + 25 * x + 5 * y + z = B + 2 + 25 * j + 5 * i + k) by omega)]
      by_cases d2 : x = i ∧ y = j ∧ z = k
      · rw [if_pos d2, if_pos ⟨rfl, by rw [d2.1, d2.2.1, d2.2.2]⟩]
      · rw [if_neg d2, if_neg (show ¬ (a = a ∧ B + 2 + 25 * x + 5 * y + z = B + 2 + 25 * i + 5 * j + k) by omega)]
  · funext l
    show (if b = a ∧ _ then _ else if b = a ∧ _ then _ else N b l) = _
    rw [if_neg (fun e => hb e.1), if_neg (fun e => hb e.1)]
  · show (if a = a ∧ l = B + 2 + 25 * j + 5 * i + k then _ else if a = a ∧ l = B + 2 + 25 * i + 5 * j + k then _ else N a l) = _
    rw [if_neg (by omega), if_neg (by omega)]
theorem w_mclear {f : Unit → JM Mem τ} {Q : τ → Mem → NM → Prop} (hK : mK M a = some (.inr (0, L))) (hL : B + 127 ≤ L ∧ L ≤ 4000) 
    (h : ∀ N', WC N' a B p n (fun _ _ _ => 0) → (∀ b, b ≠ a → N' b = N b) → (∀ l, l < B ∨ B + 127 ≤ l → N' a l = N a l) → GN M N' (f ()) Q) : GN M N (jb (f_X8_clear a (zI B) (zI p) (zI n)) f) Q := by
  refine w_jb ?_
  unfold f_X8_clear
  rw [z_0]
  refine w_up 127 (fun k N1 => (∀ l, l < k → N1 a (B + l) = 0) ∧ (∀ b, b ≠ a → N1 b = N b) ∧ ∀ l, l < B ∨ B + 127 ≤ l → N1 a l = N a l) 0 rfl (by omega) ⟨fun l hl => absurd hl (by omega), fun _ _ => rfl, fun _ _ => rfl⟩ ?_
  rintro k N1 hk ⟨g1, g2, g3⟩
  unfold X8_clear_L3
  rw [show (127 : Int32) = zI 127 from rfl]
  refine w_le ⟨by omega, by omega⟩ ⟨by omega, by omega⟩ (fun hd => ?_) (fun hd => ?_)
  · refine w_jinl ?_
    unfold X8_clear_b23
    refine w_ast hK (by omega) (by omega) ?_
    rw [z_1, zI_add]
    refine w_ast hK (by omega) (by omega) ?_
    rw [show ((B : Int).toNat) = B from rfl, show (((B : Int) + 1).toNat) = B + 1 by omega]
    refine w_jp (h _ ⟨?_, ?_, fun x y z hx hy hz => ?_⟩ (fun b hb => ?_) (fun l hl => ?_))
    · show (if a = a ∧ B = B + 1 then _ else if a = a ∧ B = B then p else _) = _
      rw [if_neg (by omega), if_pos ⟨rfl, rfl⟩]
    · show (if a = a ∧ B + 1 = B + 1 then (n : Int) else _) = _
      rw [if_pos ⟨rfl, rfl⟩]
    · show (if a = a ∧ B + 2 + 25 * x + 5 * y + z = B + 1 then _ else if a = a ∧ B + 2 + 25 * x + 5 * y + z = B then _ else N1 a (B + 2 + 25 * x + 5 * y + z)) = _
      rw [if_neg (by omega), if_neg (by omega), show B + 2 + 25 * x + 5 * y + z = B + (2 + 25 * x + 5 * y + z) by omega]
      exact g1 _ (by omega)
    · funext l
      show (if b = a ∧ _ then _ else if b = a ∧ _ then _ else N1 b l) = _
      rw [if_neg (fun e => hb e.1), if_neg (fun e => hb e.1), g2 b hb]
    · show (if a = a ∧ l = B + 1 then _ else if a = a ∧ l = B then _ else N1 a l) = _
      rw [if_neg (by omega), if_neg (by omega), g3 l hl]
  rw [z_0, zI_add]
  refine w_ast hK (by omega) (by omega) ?_
  rw [show (((B : Int) + (k : Int)).toNat) = B + k by omega, z_1, zI_add]
  refine w_jcont ⟨by omega, rfl, fun l hl => ?_, fun b hb => ?_, fun l hl => ?_⟩
  · show (if a = a ∧ B + l = B + k then (0 : Int) else N1 a (B + l)) = 0
    by_cases e : l = k
    · rw [if_pos ⟨rfl, by rw [e]⟩]
    · rw [if_neg (by omega)]; exact g1 l (by omega)
  · funext l
    show (if b = a ∧ _ then _ else N1 b l) = _
    rw [if_neg (fun e => hb e.1), g2 b hb]
  · show (if a = a ∧ l = B + k then _ else N1 a l) = _
    rw [if_neg (by omega), g3 l hl]
theorem w_mmove {f : Unit → JM Mem τ} {Q : τ → Mem → NM → Prop} {L2 : Nat} (hM : ML M m) (hK : mK M a = some (.inr (0, L))) (hL : B + 127 ≤ L ∧ L ≤ 4000) (hK2 : mK M b = some (.inr (0, L2))) (hL2 : D + 127 ≤ L2 ∧ L2 ≤ 4000) (hd : a ≠ b ∨ B + 127 ≤ D ∨ D + 127 ≤ B)
    (h : ∀ N', (∀ l, l < 127 → N' b (D + l) = N a (B + l)) → (∀ x, x ≠ b → N' x = N x) → (∀ l, l < D ∨ D + 127 ≤ l → N' b l = N b l) → GN M N' (f ()) Q) : GN M N (jb (jcall 7 m (f_X8_move m a (zI B) b (zI D))) f) Q := by
  refine w_Mc hM ?_
  unfold f_X8_move
  rw [z_0]
  refine w_up 127 (fun k N1 => (∀ l, l < k → N1 b (D + l) = N a (B + l)) ∧ (∀ x, x ≠ b → N1 x = N x) ∧ ∀ l, l < D ∨ D + 127 ≤ l → N1 b l = N b l) 0 rfl (by omega) ⟨fun l hl => absurd hl (by omega), fun _ _ => rfl, fun _ _ => rfl⟩ ?_
  rintro k N1 hk ⟨g1, g2, g3⟩
  unfold X8_move_L3
  rw [show (127 : Int32) = zI 127 from rfl]
  refine w_le ⟨by omega, by omega⟩ ⟨by omega, by omega⟩ (fun hc => ?_) (fun hc => ?_)
  · exact w_jinl (w_jp (h N1 (fun l hl => g1 l (by omega)) g2 g3))
  rw [zI_add, zI_add]
  refine w_ald hK (by omega) (by omega) ?_
  rw [show (((B : Int) + (k : Int)).toNat) = B + k by omega]
  have e1 : N1 a (B + k) = N a (B + k) := by
    by_cases e : a = b
    · subst e
      exact g3 _ (by omega)
    · rw [g2 a e]
  rw [e1]
  refine w_ast hK2 (by omega) (by omega) ?_
  rw [show (((D : Int) + (k : Int)).toNat) = D + k by omega, z_1, zI_add]
  refine w_jcont ⟨by omega, rfl, fun l hl => ?_, fun x hx => ?_, fun l hl => ?_⟩
  · show (if b = b ∧ D + l = D + k then N a (B + k) else N1 b (D + l)) = _
    by_cases e : l = k
    · rw [if_pos ⟨rfl, by rw [e]⟩, e]
    · rw [if_neg (by omega)]; exact g1 l (by omega)
  · funext l
    show (if x = b ∧ _ then _ else N1 x l) = _
    rw [if_neg (fun e => hx e.1), g2 x hx]
  · show (if b = b ∧ l = D + k then _ else N1 b l) = _
    rw [if_neg (by omega), g3 l hl]
theorem WC.mv (h : WC N a B p n T) (e : ∀ l, l < 127 → N' b (D + l) = N a (B + l)) : WC N' b D p n T := by
  obtain ⟨c1, c2, c3⟩ := h
  refine ⟨?_, ?_, fun i j k hi hj hk => ?_⟩
  · have := e 0 (by omega)
    rw [Nat.add_zero, Nat.add_zero] at this
    rw [this]; exact c1
  · rw [e 1 (by omega)]; exact c2
  · have := e (2 + 25 * i + 5 * j + k) (by omega)
    rw [show D + 2 + 25 * i + 5 * j + k = D + (2 + 25 * i + 5 * j + k) by omega, this, show B + (2 + 25 * i + 5 * j + k) = B + 2 + 25 * i + 5 * j + k by omega]
    exact c3 i j k hi hj hk
end MOD12
