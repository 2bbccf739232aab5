/-! TABLES, the component's. -/
set_option maxRecDepth 100000
section TBC
variable {τ : Type} {M M' : Mem} {N N' N0 : NM} {c q n i j k f r x l mx : Nat} {K : Nat → Nat} {w : Int} {S S' : St} {y y' : Nat × Tbl}
/-- lawful ones, kinds, the first of each kind -/
abbrev TbS : Type := Nat × Nat × (Nat → Nat)
def isoC (q n x y : Nat) : Prop := 0 < (mpS (q : Int) n (tbl q n x) (tbl q n y) ((1 : Int) = 1)).2.1
def newC (q n x : Nat) (s : TbS) : Prop := ∀ k, k < s.2.1 → ¬ isoC q n x (s.2.2 k)
noncomputable def tbStep (q n : Nat) (w : Int) (x : Nat) (s : TbS) : TbS := @ite _ (Lw (q : Int) n (tbl q n x)) (Classical.propDecidable _) (s.1 + 1, @ite _ (w = 1 ∧ newC q n x s) (Classical.propDecidable _) (s.2.1 + 1, fun k => if k = s.2.1 then x else s.2.2 k) s.2) s
noncomputable def tbF (q n : Nat) (w : Int) : Nat → TbS
  | 0 => (0, 0, fun _ => 0)
  | x + 1 => tbStep q n w x (tbF q n w x)
theorem tbF_l : ∀ x, (tbF q n w x).1 ≤ x := by
  intro x
  induction x with
  | zero => exact Nat.le_refl _
  | succ x ih =>
    show (tbStep q n w x (tbF q n w x)).1 ≤ x + 1
    unfold tbStep
    split
    · show (tbF q n w x).1 + 1 ≤ x + 1; omega
    · omega
theorem tbF_0 (hw : w ≠ 1) : ∀ x, (tbF q n w x).2 = (0, fun _ => 0) := by
  intro x
  induction x with
  | zero => rfl
  | succ x ih =>
    show (tbStep q n w x (tbF q n w x)).2 = _
    unfold tbStep
    split
    · show (@ite _ (w = 1 ∧ _) (Classical.propDecidable _) _ (tbF q n w x).2) = _
      rw [if_neg (fun y => hw y.1)]
      exact ih
    · exact ih
/-- a table against the kinds so far -/
theorem c_tL {Q : _ → Mem → NM → Prop} {x5 x6 : Int32} (hC : CL M c) (hq : 0 < q ∧ q ≤ 7) (hn : n ≤ 5) (hr : r ≤ 20) (hx : x ≤ 100000) :
    ∀ f k N, k + f = r → WD N (c + 224) q n (tbl q n x) → (∀ k, k < r → WD N (c + 879 + 32 * k) q n (tbl q n (K k))) → (∀ k', k' < k → ¬ isoC q n x (K k')) →
      (∀ N' (v : Int), (v = 1 ∧ (∃ k, k < r ∧ isoC q n x (K k)) ∨ v = 0 ∧ ∀ k, k < r → ¬ isoC q n x (K k)) → MpF N c N' → GN M N' (X0_tables_b277 c (zI (q : Nat)) (zI (n : Nat)) (zI 1) x5 x6 (zI (r : Nat)) (zI (x : Nat)) (zI v)) Q) →
      GN M N (jloop (fun t => X0_tables_L228 c (zI (q : Nat)) (zI (n : Nat)) (zI 1) x5 x6 (zI (r : Nat)) (zI (x : Nat)) t.1 t.2) (zI 0, zI (k : Nat))) Q := by
  intro f
  induction f with
  | zero =>
    intro k N hk hD hK hno h
    refine w_unroll ?_
    unfold X0_tables_L228
    exact w_le ⟨by omega, by omega⟩ ⟨by omega, by omega⟩ (fun _ => w_jinl (h N 0 (Or.inr ⟨rfl, fun k' hk' => hno k' (by omega)⟩) ⟨fun _ _ _ _ _ _ => rfl, fun _ _ _ _ => rfl⟩)) (fun x => absurd x (by omega))
  | succ f ih =>
    intro k N hk hD hK hno h
    refine w_unroll ?_
    unfold X0_tables_L228 X0_tables_b269
    rw [z_0, z_1]
    refine w_le ⟨by omega, by omega⟩ ⟨by omega, by omega⟩ (fun x => absurd x (by omega)) (fun _ => ?_)
    refine w_eq ⟨by omega, by omega⟩ ⟨by omega, by omega⟩ (fun _ => ?_) (fun x => absurd rfl x)
    refine w_eq ⟨by omega, by omega⟩ ⟨by omega, by omega⟩ (fun _ => ?_) (fun x => absurd rfl x)
    obtain ⟨u1, u2⟩ := hC.un (k := k) (by omega)
    refine w_Cf hC rfl (w_Cf hC rfl (w_aldA (b := c + 879 + 32 * k) (hC.ka (o := 256) (d := (7, 20)) rfl) (by omega) (by omega) u1 ?_))
    refine w_maps2 hC hC.w224 u2 (by omega) (by omega) (by omega) (Or.inr rfl) hD (hK k (by omega)) (fun N1 st _ hb e hF => ?_)
    rw [if_pos ⟨rfl, rfl⟩] at e
    obtain ⟨b1, b2, b3⟩ := hb
    have fr : ∀ b, c + 224 ≤ b → b < c + 1519 → N1 b = N b := fun b h1 h2 => hF.1 b (by omega) (by omega) (by omega) (by omega) (by omega)
    have hD1 : WD N1 (c + 224) q n (tbl q n x) := hD.fr (fun b h1 h2 => fr b (by omega) (by omega))
    have hK1 : ∀ k, k < r → WD N1 (c + 879 + 32 * k) q n (tbl q n (K k)) := fun k hk => (hK k hk).fr (fun b h1 h2 => fr b (by omega) (by omega))
    have ek : ((zI 0, zI (k : Nat)) : Int32 × Int32).2 + zI 1 = zI ((k + 1 : Nat) : Int) := by
      show zI (k : Nat) + zI 1 = _
      rw [zI_add, show ((k : Int) + 1) = ((k + 1 : Nat) : Int) by omega]
    rw [ek]
    refine w_le ⟨by omega, by omega⟩ ⟨by omega, by omega⟩ (fun e0 => ?_) (fun e0 => ?_)
    · refine w_jcontB (ih (k + 1) N1 (by omega) hD1 hK1 (fun k' hk' => ?_) (fun N2 v hv hF2 => h N2 v hv (hF.tr hF2)))
      by_cases e2 : k' = k
      · rw [e2]
        unfold isoC
        rw [← e]
        omega
      · exact hno k' (by omega)
    · refine w_jcontB (w_unroll ?_)
      have hiso : isoC q n x (K k) := by
        unfold isoC
        rw [← e]
        omega
      refine w_le ⟨by omega, by omega⟩ ⟨by omega, by omega⟩ (fun _ => w_jinl (h N1 1 (Or.inl ⟨rfl, k, by omega, hiso⟩) hF)) (fun _ => ?_)
      exact w_eq ⟨by omega, by omega⟩ ⟨by omega, by omega⟩ (fun x => absurd x (by decide)) (fun _ => w_jinl (h N1 1 (Or.inl ⟨rfl, k, by omega, hiso⟩) hF))
end TBC
