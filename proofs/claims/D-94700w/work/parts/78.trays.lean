/-! TRAYS: what is asked of their numbers. -/
set_option maxRecDepth 100000
section TRAYS
variable {α τ ρ : Type} {M M' : Mem} {N N' : NM} {c t a n k m len : Nat} {p : Int} {T : Nat → Nat → Nat → Int} {V : Nat → Int}
theorem w_isTray {f : Int32 → JM Mem τ} {Q : τ → Mem → NM → Prop} {z : Int} (hz : zR z) (h : GN M N (f (zI (if 0 ≤ z ∧ z < 4 then 1 else 0))) Q) : GN M N (jb (f_X0_isTray (zI z)) f) Q := by
  refine w_jb ?_
  unfold f_X0_isTray
  rw [z_0, show (4 : Int32) = zI 4 from rfl, z_1]
  refine w_lt hz ⟨by omega, by omega⟩ (fun hc => ?_) (fun hc => ?_)
  · rw [if_neg (by omega)] at h; exact w_jp h
  refine w_le ⟨by omega, by omega⟩ hz (fun hd => ?_) (fun hd => ?_)
  · rw [if_neg (by omega)] at h; exact w_jp h
  · rw [if_pos (by omega)] at h; exact w_jp h
theorem w_isFrom {f : Int32 → JM Mem τ} {Q : τ → Mem → NM → Prop} {x y z : Int} (hx : zRL x) (hy : zRL y) (hz : zRL z) (h : GN M N (f (zI (if y ≤ x ∧ x ≤ z then 1 else 0))) Q) : GN M N (jb (f_X0_isFrom (zL x) (zL y) (zL z)) f) Q := by
  refine w_jb ?_
  unfold f_X0_isFrom
  rw [z_0, z_1]
  refine w_ltL hx hy (fun hc => ?_) (fun hc => ?_)
  · rw [if_neg (by omega)] at h; exact w_jp h
  refine w_ltL hz hx (fun hd => ?_) (fun hd => ?_)
  · rw [if_neg (by omega)] at h; exact w_jp h
  · rw [if_pos (by omega)] at h; exact w_jp h
theorem w_isIn {f : Int32 → JM Mem τ} {Q : τ → Mem → NM → Prop} {x y z : Int} (hx : zRL x) (hy : zRL y) (hz : zRL z) (h : GN M N (f (zI (if y ≤ x ∧ x ≤ z then 1 else 0))) Q) : GN M N (jb (f_X8_isIn (zL x) (zL y) (zL z)) f) Q := by
  refine w_jb ?_
  unfold f_X8_isIn
  rw [z_0, z_1]
  refine w_ltL hx hy (fun hc => ?_) (fun hc => ?_)
  · rw [if_neg (by omega)] at h; exact w_jp h
  refine w_ltL hz hx (fun hd => ?_) (fun hd => ?_)
  · rw [if_neg (by omega)] at h; exact w_jp h
  · rw [if_pos (by omega)] at h; exact w_jp h
theorem zRL_of {z : Int} (h : zR z) : zRL z := ⟨by have := h.1; omega, by have := h.2; omega⟩
theorem TrR.rng (h : TrR M N t len V) {i : Nat} (hi : i < len) : zRL (V i) := by
  obtain ⟨a, _, _, h | h | h | h⟩ := h
  · exact zRL_of (h.2.2 i hi).2
  · exact zRL_of (h.2.2 i hi).2
  · exact zRL_of (h.2.2 i hi).2
  · exact (h.2.2 i hi).2
/-- numbers of a tray, in the model -/
def TrM (M : Mem) (N : NM) (m t len : Nat) (V : Nat → Int) : Prop := t < 4 ∧ len ≤ 60 ∧ N (m + 2) t = len ∧ ∀ i, i < len → mL M (m + 3) (60 * t + i) = zL (V i) ∧ zRL (V i)
theorem w_number {f : Int64 → JM Mem τ} {Q : τ → Mem → NM → Prop} {z : Int} (hM : ML M m) (hT : TrM M N m t len V) (hz : 0 ≤ z ∧ z < len) (h : GN M N (f (zL (V z.toNat))) Q) : GN M N (jb (jcall 7 m (f_X8_numberOf m (zI t) (zI z))) f) Q := by
  obtain ⟨h1, h2, h3, h4⟩ := hT
  have hK := hM.ka (o := 3) (d := (3, 240)) rfl
  refine w_Mc hM ?_
  unfold f_X8_numberOf
  refine w_Mf hM rfl ?_
  rw [show (60 : Int32) = zI 60 from rfl, zI_mul, zI_add]
  refine w_aldL hK (by omega) (by omega) ?_
  rw [show ((60 * (t : Int) + z).toNat) = 60 * t + z.toNat by omega, (h4 z.toNat (by omega)).1]
  exact w_jp h
theorem w_couples {f : Int32 → JM Mem τ} {Q : τ → Mem → NM → Prop} (hM : ML M m) (hn : N m 27 = n) (hn5 : n ≤ 5) (h : GN M N (f (zI ((n : Int) * ((n : Int) - 1) / 2))) Q) : GN M N (jb (jcall 7 m (f_X8_couples m)) f) Q := by
  refine w_Mc hM ?_
  unfold f_X8_couples
  refine w_MI hM (w_MI hM ?_)
  rw [hn, z_1, z_2, zI_sub, zI_mul]
  have h0 : 0 ≤ (n : Int) * ((n : Int) - 1) ∧ (n : Int) * ((n : Int) - 1) ≤ 20 := by
    have : n = 0 ∨ n = 1 ∨ n = 2 ∨ n = 3 ∨ n = 4 ∨ n = 5 := by omega
    rcases this with rfl | rfl | rfl | rfl | rfl | rfl <;> decide
  refine w_divP ⟨h0.1, by omega, by omega⟩ ⟨by omega, by omega, by omega⟩ (w_jp h)
/-- the place of a couple -/
def cpl (n i j : Nat) : Nat := i * n - i * (i + 1) / 2 + j - i - 1
theorem cpl_lt : ∀ n, n ≤ 5 → ∀ i j, i < j → j < n → (cpl n i j : Int) = (i : Int) * n - (i : Int) * ((i : Int) + 1) / 2 + j - i - 1 ∧ (cpl n i j : Int) < (n : Int) * ((n : Int) - 1) / 2 := by
  intro n hn i j hij hj
  have h1 : n = 2 ∨ n = 3 ∨ n = 4 ∨ n = 5 := by omega
  have h2 : i = 0 ∨ i = 1 ∨ i = 2 ∨ i = 3 := by omega
  have h3 : j = 1 ∨ j = 2 ∨ j = 3 ∨ j = 4 := by omega
  rcases h1 with rfl | rfl | rfl | rfl <;> rcases h2 with rfl | rfl | rfl | rfl <;> rcases h3 with rfl | rfl | rfl | rfl <;> first | omega | decide
theorem w_coupleOf {f : Int32 → JM Mem τ} {Q : τ → Mem → NM → Prop} {i j : Nat} (hM : ML M m) (hn : N m 27 = n) (hn5 : n ≤ 5) (hij : i < j) (hj : j < n) (h : GN M N (f (zI (cpl n i j))) Q) : GN M N (jb (jcall 7 m (f_X8_coupleOf m (zI i) (zI j))) f) Q := by
  refine w_Mc hM ?_
  unfold f_X8_coupleOf
  refine w_MI hM ?_
  rw [hn, z_1, z_2, zI_add, zI_mul]
  have h0 : 0 ≤ (i : Int) * ((i : Int) + 1) ∧ (i : Int) * ((i : Int) + 1) ≤ 20 := by
    have : i = 0 ∨ i = 1 ∨ i = 2 ∨ i = 3 := by omega
    rcases this with rfl | rfl | rfl | rfl <;> decide
  refine w_divP ⟨h0.1, by omega, by omega⟩ ⟨by omega, by omega, by omega⟩ ?_
  rw [zI_mul, zI_sub, zI_add, zI_sub, zI_sub, ← (cpl_lt n hn5 i j hij hj).1]
  exact w_jp h
/-- the matrix of a form, numbers as they stand -/
def frm (n : Nat) (V : Nat → Int) (i j : Nat) : Int := if i = j then 0 else if i < j then V (cpl n i j) else -V (cpl n j i)
theorem w_formOfT {f : Int32 → JM Mem τ} {Q : τ → Mem → NM → Prop} {i j : Nat} (hM : ML M m) (hn : N m 27 = n) (hn5 : n ≤ 5) (hT : TrM M N m t len V) (hl : (n : Int) * ((n : Int) - 1) / 2 ≤ len) (hi : i < n) (hj : j < n) (h : GN M N (f (zI (frm n V i j))) Q) :
    GN M N (jb (jcall 7 m (f_X8_formOf m (zI t) (zI i) (zI j))) f) Q := by
  refine w_Mc hM ?_
  unfold f_X8_formOf
  unfold frm at h
  refine w_eq ⟨by omega, by omega⟩ ⟨by omega, by omega⟩ (fun hc => ?_) (fun hc => ?_)
  · rw [if_pos (by omega)] at h; rw [z_0]; exact w_jp h
  rw [if_neg (by omega)] at h
  refine w_le ⟨by omega, by omega⟩ ⟨by omega, by omega⟩ (fun hd => ?_) (fun hd => ?_)
  · rw [if_neg (by omega)] at h
    have hb := cpl_lt n hn5 j i (by omega) hi
    refine w_coupleOf hM hn hn5 (by omega) hi ?_
    refine w_number hM hT (by omega) ?_
    rw [zI_long, zI_neg]
    exact w_jp h
  · rw [if_pos (by omega)] at h
    have hb := cpl_lt n hn5 i j (by omega) hj
    refine w_coupleOf hM hn hn5 (by omega) hj ?_
    refine w_number hM hT (by omega) ?_
    rw [zI_long]
    exact w_jp h
end TRAYS
