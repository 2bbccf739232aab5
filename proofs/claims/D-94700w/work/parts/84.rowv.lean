/-! Rows of vectors in a tray, on both sides. -/
set_option maxRecDepth 100000
section ROWV
variable {α τ ρ : Type} {M M' : Mem} {N N' : NM} {c t a n k m len s W B : Nat} {p : Int} {T : Nat → Nat → Nat → Int} {V : Nat → Int}
/-- why a row of vectors can't be taken -/
noncomputable def wrV (p : Int) (n : Nat) (many : Nat) : Option (Nat × (Nat → Int)) → Int
  | none => 3
  | some r => if r.1 < many then 4 else @ite _ (∀ i, i < many → 0 ≤ r.2 i ∧ r.2 i < p ^ n) (Classical.propDecidable _) 0 5
theorem w_misVector {f : Int32 → JM Mem τ} {Q : τ → Mem → NM → Prop} {v : Int} (hM : ML M m) (hA : MA M N m W B p n T) (hv : zRL v) (h : GN M N (f (zI (if 0 ≤ v ∧ v < p ^ n then 1 else 0))) Q) : GN M N (jb (jcall 7 m (f_X8_isVector m (zL v))) f) Q := by
  have hpw := pow_bd hA.pb n hA.n5
  refine w_Mc hM ?_
  unfold f_X8_isVector
  refine w_mvectors hM hA ?_
  rw [z_1, zI_sub, zL_int ⟨by omega, by omega⟩, show (0 : Int64) = zL 0 from rfl]
  refine w_isIn hv ⟨by omega, by omega⟩ ⟨by omega, by omega⟩ ?_
  by_cases e : 0 ≤ v ∧ v < p ^ n
  · rw [if_pos e] at h
    rw [if_pos (show 0 ≤ v ∧ v ≤ p ^ n - 1 by omega)]
    exact w_rze (Or.inr rfl) h
  · rw [if_neg e] at h
    rw [if_neg (show ¬ (0 ≤ v ∧ v ≤ p ^ n - 1) by omega)]
    exact w_rze (Or.inl rfl) h
theorem w_wrongVectors {f : Int32 → JM Mem τ} {Q : τ → Mem → NM → Prop} {many : Nat} (hM : ML M m) (hA : MA M N m W B p n T) (hT : TrM M N m t len V) (hm : many ≤ 1000) (h : GN M N (f (zI (wrV p n many (some (len, V))))) Q) : GN M N (jb (jcall 7 m (f_X8_wrongVectors m (zI t) (zI many))) f) Q := by
  have hT' := hT
  obtain ⟨t1, t2, t3, t4⟩ := hT'
  have h2 := hM.ka (o := 2) (d := (0, 4)) rfl
  have e : wrV p n many (some (len, V)) = if len < many then (4 : Int) else @ite _ (∀ i, i < many → 0 ≤ V i ∧ V i < p ^ n) (Classical.propDecidable _) 0 5 := rfl
  rw [e] at h
  refine w_Mc hM ?_
  unfold f_X8_wrongVectors
  refine w_Mf hM rfl ?_
  refine w_ald h2 (by omega) (by omega) ?_
  rw [show ((t : Int).toNat) = t from rfl, t3]
  refine w_le ⟨by omega, by omega⟩ ⟨by omega, by omega⟩ (fun hc => ?_) (fun hc => ?_)
  rotate_left
  · rw [if_pos (by omega)] at h
    exact w_jp h
  rw [if_neg (by omega)] at h
  rw [z_0]
  refine w_up many (fun i N1 => N1 = N ∧ ∀ j, j < i → 0 ≤ V j ∧ V j < p ^ n) 0 rfl (by omega) ⟨rfl, fun j hj => absurd hj (by omega)⟩ ?_
  rintro i N1 hi ⟨rfl, g1⟩
  unfold X8_wrongVectors_L14
  refine w_le ⟨by omega, by omega⟩ ⟨by omega, by omega⟩ (fun hd => ?_) (fun hd => ?_)
  · rw [if_pos (fun j hj => g1 j (by omega))] at h
    exact w_jinl (w_jp h)
  refine w_number hM hT (by omega) ?_
  rw [show ((i : Int).toNat) = i from rfl]
  refine w_misVector hM hA (t4 i (by omega)).2 ?_
  rw [z_0]
  by_cases e2 : 0 ≤ V i ∧ V i < p ^ n
  · rw [if_pos e2]
    refine w_eq ⟨by omega, by omega⟩ ⟨by omega, by omega⟩ (fun x => absurd x (by omega)) (fun _ => ?_)
    rw [z_1, zI_add]
    refine w_jcont ⟨by omega, rfl, rfl, fun j hj => ?_⟩
    by_cases e3 : j = i
    · rw [e3]; exact e2
    · exact g1 j (by omega)
  · rw [if_neg e2]
    refine w_eq ⟨by omega, by omega⟩ ⟨by omega, by omega⟩ (fun _ => ?_) (fun x => absurd rfl x)
    rw [if_neg (fun x => e2 (x i (by omega)))] at h
    exact w_jinl (w_jp h)
theorem w_wrongRow {f : Int32 → JM Mem τ} {Q : τ → Mem → NM → Prop} {o : Option (Nat × (Nat → Int))} {many : Nat} {ok : Int} (hC : CL M c) (ht : t < 4) (hD : WD N (c + 6) p n T) (hT : TrO M N (c + 258 + t) o) (hm : many ≤ 1000) (hok : ok = 0 ∨ ok = 1)
    (h : GN M N (f (zI (if o = none then 3 else if ok = 0 then 5 else wrV p n many o))) Q) : GN M N (jb (jcall 0 c (f_X0_wrongRow c (zI t) (zI many) (zI ok))) f) Q := by
  obtain ⟨htr, htk⟩ := hC.tr ht
  have h1 := hC.ka (o := 1) (d := (9, 4)) rfl
  refine w_Cc hC ?_
  unfold f_X0_wrongRow
  refine w_isTray ⟨by omega, by omega⟩ ?_
  rw [show (if 0 ≤ (t : Int) ∧ (t : Int) < 4 then (1 : Int) else 0) = 1 from if_pos (by omega), z_0]
  refine w_eq ⟨by omega, by omega⟩ ⟨by omega, by omega⟩ (fun x => absurd x (by omega)) (fun _ => ?_)
  refine w_Cf hC rfl ?_
  refine w_aldA h1 (by omega) (by omega) htr ?_
  refine w_getO htk ?_
  match o, hT, h with
  | none, hT, h =>
    have hT : mR M (c + 258 + t) 0 = none := hT
    rw [if_pos hT]
    exact w_jp h
  | some (len, V), hT, h =>
    have hT : TrR M N (c + 258 + t) len V := hT
    obtain ⟨a, ha, hla, _⟩ := hT
    rw [if_neg (by rw [ha]; exact fun x => by cases x)]
    rw [if_neg (fun x => by cases x)] at h
    refine w_eq ⟨by omega, by omega⟩ ⟨by omega, by omega⟩ (fun hc => ?_) (fun hc => ?_)
    · rw [if_pos hc] at h
      exact w_jp h
    rw [if_neg hc] at h
    have e : wrV p n many (some (len, V)) = if len < many then (4 : Int) else @ite _ (∀ i, i < many → 0 ≤ V i ∧ V i < p ^ n) (Classical.propDecidable _) 0 5 := rfl
    rw [e] at h
    refine w_many htk hT ?_
    refine w_le ⟨by omega, by omega⟩ ⟨by omega, by omega⟩ (fun hc => ?_) (fun hc => ?_)
    rotate_left
    · rw [if_pos (by omega)] at h
      exact w_jp h
    rw [if_neg (by omega)] at h
    refine w_up many (fun i N1 => N1 = N ∧ ∀ j, j < i → 0 ≤ V j ∧ V j < p ^ n) 0 rfl (by omega) ⟨rfl, fun j hj => absurd hj (by omega)⟩ ?_
    rintro i N1 hi ⟨rfl, h2⟩
    unfold X0_wrongRow_L47
    refine w_le ⟨by omega, by omega⟩ ⟨by omega, by omega⟩ (fun hd => ?_) (fun hd => ?_)
    · rw [if_pos (fun j hj => h2 j (by omega))] at h
      exact w_jinl (w_jp h)
    have hil : i < len := by omega
    refine w_get htk hT (by omega) ?_
    rw [show ((i : Int).toNat) = i from rfl]
    refine w_isVector hC hD (hT.rng hil) ?_
    rw [z_0]
    by_cases e2 : 0 ≤ V i ∧ V i < p ^ n
    · rw [if_pos e2]
      refine w_eq ⟨by omega, by omega⟩ ⟨by omega, by omega⟩ (fun x => absurd x (by omega)) (fun _ => ?_)
      rw [z_1, zI_add]
      refine w_jcont ⟨by omega, rfl, rfl, fun j hj => ?_⟩
      by_cases e3 : j = i
      · rw [e3]; exact e2
      · exact h2 j (by omega)
    · rw [if_neg e2]
      refine w_eq ⟨by omega, by omega⟩ ⟨by omega, by omega⟩ (fun _ => ?_) (fun x => absurd rfl x)
      rw [if_neg (fun x => e2 (x i (by omega)))] at h
      exact w_jinl (w_jp h)
end ROWV
