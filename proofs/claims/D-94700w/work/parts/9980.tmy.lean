/-! TABLES, the model's loop, walked. -/
set_option maxRecDepth 100000
section TMY
variable {τ : Type} {M M' : Mem} {N N' N0 N1 N2 : NM} {m q n x mx : Nat} {S T : Tbl} {w : Int}
def TmF (m : Nat) (N N' : NM) : Prop := ∀ b, b < m + 7 ∨ b = m + 8 ∨ m + 17 < b ∧ b < m + 25 ∨ m + 36 ≤ b → N' b = N b
theorem TmF.tr (h : TmF m N N1) (h2 : TmF m N1 N2) : TmF m N N2 := fun b hb => (h2 b hb).trans (h b hb)
theorem JcF.mt (h : JcF m N N') (hD : MT M N m q n S) : MT M N' m q n S := by
  have e35 : N' (m + 35) = N (m + 35) := h _ (by omega) (by omega) (by omega) (by omega) (by omega)
  have em : N' m = N m := h _ (by omega) (by omega) (by omega) (by omega) (by omega)
  refine hD.st ?_ em
  obtain ⟨w1, w2, w3⟩ := hD.1
  exact ⟨by rw [e35]; exact w1, by rw [e35]; exact w2, by rw [e35]; exact w3⟩
theorem m_tX {Q : Int32 → Mem → NM → Prop} (hM : ML M m) (hqn : q = 2 ∧ 1 ≤ n ∧ n ≤ 3 ∨ q = 3 ∧ 1 ≤ n ∧ n ≤ 2) (hp : Pr (q : Int)) (hw : w = 0 ∨ w = 1) (hmx : mx ≤ 512) (hmt : mx = tbN q n) :
    ∀ f x N S, x + f = mx → MT M N m q n S → SnM N m (tbN q n) (msF q n w x).2 → (∀ N', TmF m N N' → Q (zI ((msF q n w mx).1 : Nat)) M N') →
      GN M N (jloop (fun t => X8_tables_L130 m (zI w) (zI (mx : Nat)) t.1 t.2) (zI ((msF q n w x).1 : Nat), zI (x : Nat))) Q := by
  intro f
  induction f with
  | zero =>
    intro x N S hx hD hs h
    obtain rfl : x = mx := by omega
    refine w_unroll ?_
    unfold X8_tables_L130
    exact w_le ⟨by omega, by omega⟩ ⟨by omega, by omega⟩ (fun _ => w_jinl (w_jp (h N (fun _ _ => rfl)))) (fun y => absurd y (by omega))
  | succ f ih =>
    intro x N S hx hD hs h
    have hih := ih (x + 1)
    have e0 : msF q n w (x + 1) = msStep q n w x (msF q n w x) := rfl
    have hl := msF_l (q := q) (n := n) (w := w) x
    rw [e0] at hih
    generalize msF q n w x = s at *
    obtain ⟨r, sn1⟩ := s
    have hs : SnM N m (tbN q n) sn1 := hs
    refine w_unroll ?_
    unfold X8_tables_L130 X8_tables_b168 X8_tables_b180
    rw [z_0, z_1]
    refine w_le ⟨by omega, by omega⟩ ⟨by omega, by omega⟩ (fun y => absurd y (by omega)) (fun _ => ?_)
    refine m_tableBy hM hp (by omega) hD (by omega) (fun N1 S1 hD1 hS1 f1 => ?_)
    have hF1 : TmF m N N1 := fun b hb => f1 b (by omega)
    have hA := hD1.ma hM hp (by omega)
    rw [hS1] at hA
    refine w_misLawful hM hA (fun N2 v hv g2 => ?_)
    have hD2 := g2.mt hD1
    have hF2 : TmF m N N2 := hF1.tr (fun b hb => g2 b (by omega) (by omega) (by omega) (by omega) (by omega))
    have e34 : N2 (m + 34) = N (m + 34) := (g2 _ (by omega) (by omega) (by omega) (by omega) (by omega)).trans (f1 _ (by omega))
    have hs2 : SnM N2 m (tbN q n) sn1 := fun y hy => by rw [e34]; exact hs y hy
    rw [zI_add, zI_add, show ((x : Int) + 1) = ((x + 1 : Nat) : Int) by omega, show (((r, sn1) : MsS).1 : Int) + 1 = ((r + 1 : Nat) : Int) by show (r : Int) + 1 = _; omega]
    rcases hv with ⟨rfl, hL⟩ | ⟨rfl, hL⟩
    rotate_left
    · have e1 : msStep q n w x (r, sn1) = (r, sn1) := if_neg hL
      rw [e1] at hih
      refine w_eq ⟨by omega, by omega⟩ ⟨by omega, by omega⟩ (fun _ => ?_) (fun y => absurd rfl y)
      exact w_jcontB (hih N2 S1 (by omega) hD2 hs2 (fun N' hF => h N' (hF2.tr hF)))
    refine w_eq ⟨by omega, by omega⟩ ⟨by omega, by omega⟩ (fun y => absurd y (by decide)) (fun _ => ?_)
    have e1 : msStep q n w x (r, sn1) = (if w = 1 then @ite _ (sn1 x) (Classical.propDecidable _) (r, sn1) (r + 1, fun y => sn1 y ∨ ∃ u, u < q ^ (n * n) ∧ hit q n (tbl q n x) u y) else (r + 1, sn1)) := if_pos hL
    rw [e1] at hih
    rcases hw with rfl | rfl
    · rw [if_neg (by decide)] at hih
      refine w_eq ⟨by omega, by omega⟩ ⟨by omega, by omega⟩ (fun y => absurd y (by decide)) (fun _ => ?_)
      exact w_jcontB (hih N2 S1 (by omega) hD2 hs2 (fun N' hF => h N' (hF2.tr hF)))
    · rw [if_pos rfl] at hih
      refine w_eq ⟨by omega, by omega⟩ ⟨by omega, by omega⟩ (fun _ => ?_) (fun y => absurd rfl y)
      refine w_Mf hM rfl (w_ald (hM.ka (o := 34) (d := (4, 512)) rfl) (by omega) (by omega) ?_)
      rw [show ((x : Int).toNat) = x from rfl]
      rcases hs2 x (by omega) with ⟨s1, s2⟩ | ⟨s1, s2⟩
      · rw [s1, if_pos s2] at *
        refine w_eq ⟨by omega, by omega⟩ ⟨by omega, by omega⟩ (fun y => absurd y (by decide)) (fun _ => ?_)
        exact w_jcontB (hih N2 S1 (by omega) hD2 hs2 (fun N' hF => h N' (hF2.tr hF)))
      · rw [s1]
        rw [if_neg s2] at hih
        refine w_eq ⟨by omega, by omega⟩ ⟨by omega, by omega⟩ (fun _ => ?_) (fun y => absurd rfl y)
        refine m_seeAll (P := sn1) hM hqn hp hD2 hs2 (fun N3 hD3 hs3 g3 => ?_)
        rw [hS1] at hs3
        have hF3 : TmF m N N3 := hF2.tr (fun b hb => g3 b (by omega) (by omega) (by omega) (by omega) (by omega) (by omega))
        exact w_jcontB (hih N3 S1 (by omega) hD3 hs3 (fun N' hF => h N' (hF3.tr hF)))
end TMY
