/-! THE COMPONENT: the base of unit vectors. -/
set_option maxRecDepth 100000
section CMP19
variable {α τ ρ : Type} {M M' : Mem} {N N' : NM} {c t a n k m len s : Nat} {p : Int} {T : Nat → Nat → Nat → Int} {V : Nat → Int} {G : Nat → Nat → Int}
theorem w_same {f : Unit → JM Mem τ} {Q : τ → Mem → NM → Prop} (hC : CL M c) (h : ∀ N', (∀ i k, i < 5 → k < 5 → N' (c + 199 + 1 + i) k = if i = k then 1 else 0) → (∀ b, b < c + 200 ∨ c + 205 ≤ b → N' b = N b) → GN M N' (f ()) Q) : GN M N (jb (jcall 0 c (f_X0_same c)) f) Q := by
  have h199 := hC.ka (o := 199) (d := (5, 5)) rfl
  refine w_Cc hC ?_
  unfold f_X0_same
  rw [z_0]
  refine w_up 5 (fun i N1 => (∀ a k, a < i → k < 5 → N1 (c + 199 + 1 + a) k = if a = k then 1 else 0) ∧ ∀ b, b < c + 200 ∨ c + 205 ≤ b → N1 b = N b) 0 rfl (by omega) ⟨fun a k ha => absurd ha (by omega), fun _ _ => rfl⟩ ?_
  rintro i N1 hi ⟨g1, g2⟩
  unfold X0_same_L2
  rw [show (5 : Int32) = zI 5 from rfl]
  refine w_le ⟨by omega, by omega⟩ ⟨by omega, by omega⟩ (fun hd => ?_) (fun hd => ?_)
  · exact w_jinl (w_jp (h N1 (fun a k ha hk => g1 a k (by omega) hk) g2))
  have hbi := hC.ba i (by omega)
  rw [z_0]
  refine w_up 5 (fun k N2 => (∀ a j, a < i ∨ a = i ∧ j < k → j < 5 → N2 (c + 199 + 1 + a) j = if a = j then 1 else 0) ∧ ∀ b, b < c + 200 ∨ c + 205 ≤ b → N2 b = N b) 0 rfl (by omega) ⟨fun a k ha hk => g1 a k (by omega) hk, g2⟩ ?_
  rintro k N2 hk ⟨k1, k2⟩
  unfold X0_same_L9
  rw [show (5 : Int32) = zI 5 from rfl]
  refine w_le ⟨by omega, by omega⟩ ⟨by omega, by omega⟩ (fun he => ?_) (fun he => ?_)
  · unfold X0_same_b38
    rw [z_1, zI_add]
    exact w_jinl (w_jcont ⟨by omega, rfl, fun a j ha hj => k1 a j (by omega) hj, k2⟩)
  refine w_Cf hC rfl ?_
  refine w_R1 h199 hC.ba (by omega) (by omega) ?_
  have hput : ∀ v : Int, v = (if i = k then 1 else 0) → GN M N2 (X0_same_b31 c (zI i) (zI k) (c + 199 + 1 + i) (zI k) (zI v)) (LQ (LQ (fun v M1 N1 => GN M1 N1 (f v) Q) (KF M (fun t N1 => i < 5 ∧ t = zI ((i : Int) + 1) ∧ (∀ a k, a < i + 1 → k < 5 → N1 (c + 199 + 1 + a) k = if a = k then 1 else 0) ∧ ∀ b, b < c + 200 ∨ c + 205 ≤ b → N1 b = N b)))
      (KF M (fun t N1 => k < 5 ∧ t = zI ((k : Int) + 1) ∧ (∀ a j, a < i ∨ a = i ∧ j < k + 1 → j < 5 → N1 (c + 199 + 1 + a) j = if a = j then 1 else 0) ∧ ∀ b, b < c + 200 ∨ c + 205 ≤ b → N1 b = N b))) := by
    intro v hv
    unfold X0_same_b31
    refine w_ast hbi.2 (by omega) (by omega) ?_
    rw [show ((k : Int).toNat) = k from rfl, z_1, zI_add]
    refine w_jcont ⟨by omega, rfl, fun a j ha hj => ?_, fun b hb => ?_⟩
    · show (if c + 199 + 1 + a = c + 199 + 1 + i ∧ j = k then v else N2 (c + 199 + 1 + a) j) = _
      by_cases e : a = i ∧ j = k
      · rw [e.1, e.2, if_pos ⟨rfl, rfl⟩, hv]
      · rw [if_neg (by omega)]
        exact k1 a j (by omega) hj
    · funext l
      show (if b = c + 199 + 1 + i ∧ _ then _ else N2 b l) = _
      rw [if_neg (by omega), k2 b hb]
  refine w_eq ⟨by omega, by omega⟩ ⟨by omega, by omega⟩ (fun hq => ?_) (fun hq => ?_)
  · rw [z_1]
    exact hput 1 (by rw [if_pos (by omega)])
  · rw [z_0]
    exact hput 0 (by rw [if_neg (by omega)])
end CMP19
