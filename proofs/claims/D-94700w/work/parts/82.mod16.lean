/-! THE MODEL: numbers of trays. -/
set_option maxRecDepth 100000
section MOD16
variable {α τ : Type} {M M' : Mem} {N N' : NM} {m a b o W B D L t len : Nat} {p p2 : Int} {n n2 q lev c r : Nat} {T U F S : Nat → Nat → Nat → Int} {V : Nat → Int}
/-- couples of base vectors -/
def cps (n : Nat) : Nat := n * (n - 1) / 2
theorem cps_eq (hn : n ≤ 5) : ((cps n : Nat) : Int) = (n : Int) * ((n : Int) - 1) / 2 := by
  have : n = 0 ∨ n = 1 ∨ n = 2 ∨ n = 3 ∨ n = 4 ∨ n = 5 := by omega
  rcases this with rfl | rfl | rfl | rfl | rfl | rfl <;> decide
theorem w_wrongForm {f : Int32 → JM Mem τ} {Q : τ → Mem → NM → Prop} (hM : ML M m) (hA : MA M N m W B p n T) (hT : TrM M N m t len V) (h : GN M N (f (zI (wnN (cps n) 0 (p - 1) (some (len, V))))) Q) : GN M N (jb (jcall 7 m (f_X8_wrongForm m (zI t))) f) Q := by
  have hpb := hA.pb
  have hn5 := hA.n5
  have hT' := hT
  obtain ⟨t1, t2, t3, t4⟩ := hT'
  have h2 := hM.ka (o := 2) (d := (0, 4)) rfl
  have hce := cps_eq hn5
  have hcb : cps n ≤ 10 := by
    have : n = 0 ∨ n = 1 ∨ n = 2 ∨ n = 3 ∨ n = 4 ∨ n = 5 := by omega
    rcases this with rfl | rfl | rfl | rfl | rfl | rfl <;> decide
  have e : wnN (cps n) 0 (p - 1) (some (len, V)) = if len < cps n then (4 : Int) else @ite _ (∀ i, i < cps n → 0 ≤ V i ∧ V i ≤ p - 1) (Classical.propDecidable _) 0 5 := rfl
  rw [e] at h
  refine w_Mc hM ?_
  unfold f_X8_wrongForm
  refine w_Mf hM rfl ?_
  refine w_ald h2 (by omega) (by omega) ?_
  rw [show ((t : Int).toNat) = t from rfl, t3]
  refine w_couples hM hA.ne hn5 ?_
  rw [← hce]
  refine w_le ⟨by omega, by omega⟩ ⟨by omega, by omega⟩ (fun hc => ?_) (fun hc => ?_)
  rotate_left
  · rw [if_pos (by omega)] at h
    exact w_jp h
  rw [if_neg (by omega)] at h
  rw [z_0]
  refine w_up (cps n) (fun i N1 => N1 = N ∧ ∀ j, j < i → 0 ≤ V j ∧ V j ≤ p - 1) 0 rfl (by omega) ⟨rfl, fun j hj => absurd hj (by omega)⟩ ?_
  rintro i N1 hi ⟨rfl, g1⟩
  unfold X8_wrongForm_L17
  refine w_couples hM hA.ne hn5 ?_
  rw [← hce]
  refine w_le ⟨by omega, by omega⟩ ⟨by omega, by omega⟩ (fun hd => ?_) (fun hd => ?_)
  · rw [if_pos (fun j hj => g1 j (by omega))] at h
    exact w_jinl (w_jp h)
  refine w_number hM hT (by omega) ?_
  rw [show ((i : Int).toNat) = i from rfl]
  refine w_MI hM ?_
  rw [hA.pe, z_1, zI_sub, zL_int ⟨by omega, by omega⟩, show (0 : Int64) = zL 0 from rfl]
  refine w_isIn (t4 i (by omega)).2 ⟨by omega, by omega⟩ ⟨by omega, by omega⟩ ?_
  rw [z_0]
  by_cases e2 : 0 ≤ V i ∧ V i ≤ p - 1
  · rw [if_pos e2]
    refine w_eq ⟨by omega, by omega⟩ ⟨by omega, by omega⟩ (fun x => absurd x (by omega)) (fun _ => ?_)
    rw [zI_add]
    refine w_jcont ⟨by omega, rfl, rfl, fun j hj => ?_⟩
    by_cases e3 : j = i
    · rw [e3]; exact e2
    · exact g1 j (by omega)
  · rw [if_neg e2]
    refine w_eq ⟨by omega, by omega⟩ ⟨by omega, by omega⟩ (fun _ => ?_) (fun x => absurd rfl x)
    rw [if_neg (fun x => e2 (x i (by omega)))] at h
    exact w_jinl (w_jp h)
end MOD16
