/-! TABLES, the model's op, from the start. -/
set_option maxRecDepth 100000
section TMO2
variable {τ : Type} {M M' : Mem} {N N' : NM} {m : Nat} {S S' : St} {p z w : Int}
theorem m_tables {f : Int32 → JM Mem τ} {Q : τ → Mem → NM → Prop} (hR : MR M N m S) (hp : zR p) (hz : zR z) (hw : zR w) (h : mPost M N m (stU S 0 (b_tables p z w).2) (f (zI (b_tables p z w).1)) Q) : GN M N (jb (jcall 7 m (f_X8_tables m (zI p) (zI z) (zI w))) f) Q := by
  have hM := hR.ml
  refine w_Mc hM ?_
  unfold f_X8_tables X8_tables_b20 X8_tables_b42 X8_tables_b46
  refine m_beg0 hR (fun N1 hR1 hF1 => ?_)
  have refuse : ¬ tbOk p z w → GN M N1 (X8_tables_b64 m) (fun v M1 N1 => GN M1 N1 (f v) Q) := fun hn => by
    unfold X8_tables_b64
    rw [show b_tables p z w = (-1, 5) from if_neg hn] at h
    rw [z_5]
    refine w_refuse hM (w_jp (h M _ ?_ hF1.up))
    have := hR1.st 5
    rw [stU_2] at this
    exact this
  have bad : ¬ tbOk p z w → GN M N1 (X8_tables_b47 m (zI p) (zI z) (zI w) (zI 0)) (fun v M1 N1 => GN M1 N1 (f v) Q) := fun hn => by
    unfold X8_tables_b47
    rw [z_0]
    exact w_eq ⟨by omega, by omega⟩ ⟨by omega, by omega⟩ (fun _ => refuse hn) (fun y => absurd rfl y)
  have good : (p = 2 ∧ 1 ≤ z ∧ z ≤ 3 ∨ p = 3 ∧ 1 ≤ z ∧ z ≤ 2) → GN M N1 (X8_tables_b47 m (zI p) (zI z) (zI w) (zI 1)) (fun v M1 N1 => GN M1 N1 (f v) Q) := fun hpz => by
    by_cases hw0 : 0 ≤ w ∧ w ≤ 1
    · rw [show b_tables p z w = _ from if_pos ⟨hpz, hw0⟩] at h
      obtain ⟨q, rfl⟩ : ∃ k : Nat, p = k := ⟨p.toNat, by omega⟩
      obtain ⟨n, rfl⟩ : ∃ k : Nat, z = k := ⟨z.toNat, by omega⟩
      exact m_tGood hR1 (by omega) (by omega) (fun M' N' a b => h M' N' a (hF1.tr b))
    · unfold X8_tables_b47
      rw [zL_int hw, show (0 : Int64) = zL 0 from rfl, show (1 : Int64) = zL 1 from rfl, z_0]
      refine w_eq ⟨by omega, by omega⟩ ⟨by omega, by omega⟩ (fun y => absurd y (by decide)) (fun _ => ?_)
      refine w_isIn (zRL_of hw) ⟨by omega, by omega⟩ ⟨by omega, by omega⟩ ?_
      rw [if_neg hw0]
      exact w_eq ⟨by omega, by omega⟩ ⟨by omega, by omega⟩ (fun _ => refuse (fun x => hw0 x.2)) (fun y => absurd rfl y)
  rw [zL_int hz, show (1 : Int64) = zL 1 from rfl, show (2 : Int64) = zL 2 from rfl, z_0, z_1, z_2, z_3]
  have fin : (p = 2 ∨ p = 3) → GN M N1 (jb (f_X8_isIn (zL z) (zL 1) (zL 2)) fun v1 => if v1 = zI 0 then (if zI z = zI 3 then (if zI p = zI 2 then X8_tables_b47 m (zI p) (zI z) (zI w) (zI 1) else X8_tables_b47 m (zI p) (zI z) (zI w) (zI 0)) else X8_tables_b47 m (zI p) (zI z) (zI w) (zI 0)) else X8_tables_b47 m (zI p) (zI z) (zI w) (zI 1)) (fun v M1 N1 => GN M1 N1 (f v) Q) := fun h2 => by
    refine w_isIn (zRL_of hz) ⟨by omega, by omega⟩ ⟨by omega, by omega⟩ ?_
    by_cases c1 : 1 ≤ z ∧ z ≤ 2
    · rw [if_pos c1]
      exact w_eq ⟨by omega, by omega⟩ ⟨by omega, by omega⟩ (fun y => absurd y (by decide)) (fun _ => good (by omega))
    · rw [if_neg c1]
      refine w_eq ⟨by omega, by omega⟩ ⟨by omega, by omega⟩ (fun _ => ?_) (fun y => absurd rfl y)
      refine w_eq hz ⟨by omega, by omega⟩ (fun e => ?_) (fun e => bad (fun x => by have := x.1; omega))
      exact w_eq hp ⟨by omega, by omega⟩ (fun e2 => good (by omega)) (fun e2 => bad (fun x => by have := x.1; omega))
  refine w_eq hp ⟨by omega, by omega⟩ (fun e => fin (Or.inl e)) (fun e => ?_)
  exact w_eq hp ⟨by omega, by omega⟩ (fun e3 => fin (Or.inr e3)) (fun e3 => bad (fun x => by have := x.1; omega))
end TMO2
