/-! TABLES BY NUMBER, the model. -/
set_option maxRecDepth 100000
section TBM
variable {τ : Type} {M M' : Mem} {N N' N0 : NM} {m q n i j k f r x : Nat} {S : Tbl} {y y' : Nat × Tbl}
/-- the model's spare world is asked -/
def MT (M : Mem) (N : NM) (m q n : Nat) (S : Tbl) : Prop := WC N (m + 35) 0 q n (altT q n S) ∧ mR M m 24 = some (m + 35) ∧ N m 25 = 0 ∧ N m 26 = q ∧ N m 27 = n
theorem MT.ma (h : MT M N m q n S) (hM : ML M m) (hp : Pr (q : Int)) (hn : 1 ≤ n ∧ n ≤ 5) : MA M N m (m + 35) 0 q n (altT q n S) := ⟨h.2.1, h.2.2.1, h.2.2.2.1, h.2.2.2.2, ⟨127, hM.ka (o := 35) (d := (0, 127)) rfl, by omega, by omega⟩, altT_ok hp hn, h.1.2.2, Or.inr rfl⟩
theorem MT.st {S' : Tbl} (h : MT M N m q n S) (hW : WC N' (m + 35) 0 q n (altT q n S')) (hm : N' m = N m) : MT M N' m q n S' := ⟨hW, h.2.1, by rw [hm]; exact h.2.2⟩
theorem m_tK {Q : _ → Mem → NM → Prop} (hM : ML M m) (hp : Pr (q : Int)) (hn : n ≤ 5) (hij : i < j) (hj : j < n) :
    ∀ f k (y : Nat × Tbl) N, k + f = n → MT M N m q n y.2 → y.1 ≤ 100000 →
      (∀ N', MT M N' m q n (dcK q i j f k y).2 → (∀ b, b ≠ m + 35 → N' b = N b) → GN M N' (X8_tableBy_b70 m (zI ((dcK q i j f k y).1 : Nat)) (zI (i : Nat)) (zI (j : Nat))) Q) →
      GN M N (jloop (fun t => X8_tableBy_L29 m (zI (i : Nat)) (zI (j : Nat)) t.1 t.2) (zI (y.1 : Nat), zI (k : Nat))) Q := by
  have hp1 := hp.pos
  have hp7 := hp.le7
  intro f
  induction f with
  | zero =>
    intro k y N hk hD hy h
    refine w_unroll ?_
    unfold X8_tableBy_L29
    refine w_MI hM ?_
    rw [hD.2.2.2.2]
    exact w_le ⟨by omega, by omega⟩ ⟨by omega, by omega⟩ (fun _ => w_jinl (h N hD (fun _ _ => rfl))) (fun x => absurd x (by omega))
  | succ f ih =>
    intro k y N hk hD hy h
    refine w_unroll ?_
    unfold X8_tableBy_L29
    refine w_MI hM ?_
    rw [hD.2.2.2.2]
    refine w_le ⟨by omega, by omega⟩ ⟨by omega, by omega⟩ (fun x => absurd x (by omega)) (fun _ => ?_)
    have hyq : y.1 / q ≤ y.1 := Nat.div_le_self _ _
    have hyr : y.1 % q < q := Nat.mod_lt _ (by omega)
    refine w_Mf hM rfl (w_MI hM ?_)
    rw [hD.2.2.2.1]
    refine w_remP ⟨by omega, by omega, by omega⟩ ⟨by omega, by omega, by omega⟩ ?_
    rw [show ((y.1 : Int) % (q : Int)) = ((y.1 % q : Nat) : Int) from rfl, z_0, z_1]
    refine w_mset (B := 0) (L := 127) (hM.ka (o := 35) (d := (0, 127)) rfl) ⟨by omega, by omega⟩ hD.1 hp hn hij hj (by omega) ⟨by omega, by omega⟩ (fun N1 hW1 f1 _ => ?_)
    have hD1 := hD.st hW1 (f1 m (by omega))
    refine w_MI hM ?_
    rw [hD1.2.2.2.1]
    refine w_divP ⟨by omega, by omega, by omega⟩ ⟨by omega, by omega, by omega⟩ ?_
    rw [show ((y.1 : Int) / (q : Int)) = ((y.1 / q : Nat) : Int) from rfl, zI_add, show ((k : Int) + 1) = ((k + 1 : Nat) : Int) by omega]
    refine w_jcontB (ih (k + 1) (y.1 / q, stT y.2 i j k ((y.1 % q : Nat) : Int)) N1 (by omega) hD1 (by show y.1 / q ≤ 100000; omega) (fun N2 hD2 f2 => h N2 hD2 (fun b hb => (f2 b hb).trans (f1 b hb))))
theorem m_tJ {Q : _ → Mem → NM → Prop} (hM : ML M m) (hp : Pr (q : Int)) (hn : n ≤ 5) :
    ∀ f j (y : Nat × Tbl) N, j + f = n → i < j → MT M N m q n y.2 → y.1 ≤ 100000 →
      (∀ N', MT M N' m q n (dcJ q n i f j y).2 → (∀ b, b ≠ m + 35 → N' b = N b) → GN M N' (X8_tableBy_b76 m (zI ((dcJ q n i f j y).1 : Nat)) (zI (i : Nat))) Q) →
      GN M N (jloop (fun t => X8_tableBy_L17 m (zI (i : Nat)) t.1 t.2) (zI (y.1 : Nat), zI (j : Nat))) Q := by
  intro f
  induction f with
  | zero =>
    intro j y N hk hij hD hy h
    refine w_unroll ?_
    unfold X8_tableBy_L17
    refine w_MI hM ?_
    rw [hD.2.2.2.2]
    exact w_le ⟨by omega, by omega⟩ ⟨by omega, by omega⟩ (fun _ => w_jinl (h N hD (fun _ _ => rfl))) (fun x => absurd x (by omega))
  | succ f ih =>
    intro j y N hk hij hD hy h
    refine w_unroll ?_
    unfold X8_tableBy_L17
    refine w_MI hM ?_
    rw [hD.2.2.2.2]
    refine w_le ⟨by omega, by omega⟩ ⟨by omega, by omega⟩ (fun x => absurd x (by omega)) (fun _ => ?_)
    rw [z_0]
    refine m_tK hM hp hn hij (by omega) n 0 y N (by omega) hD hy (fun N1 hD1 f1 => ?_)
    unfold X8_tableBy_b70
    rw [z_1, zI_add, show ((j : Int) + 1) = ((j + 1 : Nat) : Int) by omega]
    have := dcK_1 (q := q) (i := i) (j := j) n 0 y
    refine w_jcontB (ih (j + 1) (dcK q i j n 0 y) N1 (by omega) (by omega) hD1 (by omega) (fun N2 hD2 f2 => h N2 hD2 (fun b hb => (f2 b hb).trans (f1 b hb))))
theorem m_tI {Q : Unit → Mem → NM → Prop} (hM : ML M m) (hp : Pr (q : Int)) (hn : n ≤ 5) :
    ∀ f i (y : Nat × Tbl) N, i + f = n → MT M N m q n y.2 → y.1 ≤ 100000 →
      (∀ N', MT M N' m q n (dcI q n f i y).2 → (∀ b, b ≠ m + 35 → N' b = N b) → Q () M N') →
      GN M N (jloop (fun t => X8_tableBy_L4 m t.1 t.2) (zI (y.1 : Nat), zI (i : Nat))) Q := by
  intro f
  induction f with
  | zero =>
    intro i y N hk hD hy h
    refine w_unroll ?_
    unfold X8_tableBy_L4
    refine w_MI hM ?_
    rw [hD.2.2.2.2]
    exact w_le ⟨by omega, by omega⟩ ⟨by omega, by omega⟩ (fun _ => w_jinl (w_jp (h N hD (fun _ _ => rfl)))) (fun x => absurd x (by omega))
  | succ f ih =>
    intro i y N hk hD hy h
    refine w_unroll ?_
    unfold X8_tableBy_L4
    refine w_MI hM ?_
    rw [hD.2.2.2.2]
    refine w_le ⟨by omega, by omega⟩ ⟨by omega, by omega⟩ (fun x => absurd x (by omega)) (fun _ => ?_)
    rw [z_1, zI_add, show ((i : Int) + 1) = ((i + 1 : Nat) : Int) by omega]
    refine w_jlet (m_tJ hM hp hn (n - (i + 1)) (i + 1) y N (by omega) (by omega) hD hy (fun N1 hD1 f1 => ?_))
    unfold X8_tableBy_b76
    rw [z_1, zI_add, show ((i : Int) + 1) = ((i + 1 : Nat) : Int) by omega]
    have := dcJ_1 (q := q) (n := n) (i := i) (n - (i + 1)) (i + 1) y
    refine w_jcontB (ih (i + 1) _ N1 (by omega) hD1 (by omega) (fun N2 hD2 f2 => h N2 hD2 (fun b hb => (f2 b hb).trans (f1 b hb))))
/-- the table with a number is put into the spare world -/
theorem m_tableBy {g : Unit → JM Mem τ} {Q : τ → Mem → NM → Prop} (hM : ML M m) (hp : Pr (q : Int)) (hn : n ≤ 5) (hD : MT M N m q n S) (hx : x ≤ 100000)
    (h : ∀ N' S', MT M N' m q n S' → altT q n S' = tbl q n x → (∀ b, b ≠ m + 35 → N' b = N b) → GN M N' (g ()) Q) : GN M N (jb (jcall 7 m (f_X8_tableBy m (zI (x : Nat)))) g) Q := by
  refine w_Mc hM ?_
  unfold f_X8_tableBy
  rw [z_0]
  exact m_tI hM hp hn n 0 (x, S) N (by omega) hD hx (fun N1 hD1 f1 => h N1 _ hD1 tbl_any f1)
end TBM
