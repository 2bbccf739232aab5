/-! LONGS, and trays. -/
set_option maxRecDepth 100000
section LONGS
variable {α τ ρ : Type} {M M' : Mem} {N N' : NM} {c t a n k : Nat}
def zL (z : Int) : Int64 := Int64.ofInt z
def zRL (z : Int) : Prop := -9223372036854775808 ≤ z ∧ z < 9223372036854775808
theorem zL_to {z : Int} (h : zRL z) : (zL z).toInt = z := by
  unfold zL
  exact Int64.toInt_ofInt_of_le (by have := h.1; simpa using this) (by have := h.2; simpa using this)
theorem zL_of (x : Int64) : zL x.toInt = x := by unfold zL; exact Int64.ofInt_toInt x
theorem zL_lt {a b : Int} (ha : zRL a) (hb : zRL b) : zL a < zL b ↔ a < b := by
  rw [Int64.lt_iff_toInt_lt, zL_to ha, zL_to hb]
theorem zL_le {a b : Int} (ha : zRL a) (hb : zRL b) : zL a ≤ zL b ↔ a ≤ b := by
  rw [Int64.le_iff_toInt_le, zL_to ha, zL_to hb]
theorem zL_inj {a b : Int} (ha : zRL a) (hb : zRL b) : zL a = zL b ↔ a = b := by
  constructor
  · intro h
    have := congrArg Int64.toInt h
    rw [zL_to ha, zL_to hb] at this
    exact this
  · intro h; rw [h]
theorem zL_int {z : Int} (h : zR z) : (zI z).toInt64 = zL z := by
  have h1 : ((zI z).toInt64).toInt = z := by rw [Int32.toInt_toInt64]; exact zI_to h
  rw [← zL_of ((zI z).toInt64), h1]
theorem zI_long (z : Int) : (zL z).toInt32 = zI z := by
  unfold zL zI
  exact Int64.toInt32_ofInt
theorem w_aldL {z : Int} {f : Int64 → JM Mem τ} {Q : τ → Mem → NM → Prop} (hK : mK M a = some (.inr (t, n))) (hz : 0 ≤ z ∧ z < n) (hn : n ≤ 100000) (h : GN M N (f (mL M a z.toNat)) Q) : GN M N (jb (jald mL t a (zI z)) f) Q := by
  have e := zI_toN hz.1
  generalize z.toNat = k at e h
  subst e
  exact go_jb (go_ald (M := sN M N) hK (by omega) hn h)
theorem w_cast {f : Unit → JM Mem τ} {Q : τ → Mem → NM → Prop} (hK : mK M a = some (.inr (t, n))) (h : GN M N (f ()) Q) : GN M N (jb (jcast t a) f) Q := by
  refine go_jb ⟨(), sN M N, ?_, h⟩
  unfold jcast
  rw [show mK (sN M N) a = some (.inr (t, n)) from hK]
  exact if_pos rfl
theorem w_ltL {a b : Int} {f g : JM Mem τ} {Q : τ → Mem → NM → Prop} (ha : zRL a) (hb : zRL b) (h1 : a < b → GN M N f Q) (h2 : ¬ a < b → GN M N g Q) : GN M N (if zL a < zL b then f else g) Q := by
  by_cases e : a < b
  · rw [if_pos ((zL_lt ha hb).mpr e)]; exact h1 e
  · rw [if_neg (fun x => e ((zL_lt ha hb).mp x))]; exact h2 e
/-- the row of a tray: its length and its numbers -/
def TrR (M : Mem) (N : NM) (t len : Nat) (V : Nat → Int) : Prop := ∃ a, mR M t 0 = some a ∧ len ≤ 100000 ∧
  (N t 1 = 0 ∧ mK M a = some (.inr (1, len)) ∧ (∀ i, i < len → N a i = V i ∧ zR (V i)) ∨ N t 1 = 1 ∧ mK M a = some (.inr (2, len)) ∧ (∀ i, i < len → N a i = V i ∧ zR (V i)) ∨
    N t 1 = 2 ∧ mK M a = some (.inr (0, len)) ∧ (∀ i, i < len → N a i = V i ∧ zR (V i)) ∨ N t 1 = 3 ∧ mK M a = some (.inr (3, len)) ∧ ∀ i, i < len → mL M a i = zL (V i) ∧ zRL (V i))
theorem w_many {len : Nat} {V : Nat → Int} {f : Int32 → JM Mem τ} {Q : τ → Mem → NM → Prop} (hK : mK M t = some (.inl 5)) (hT : TrR M N t len V) (h : GN M N (f (zI len)) Q) : GN M N (jb (jcall 5 t (f_X6_many t)) f) Q := by
  obtain ⟨a, ha, hl, hT⟩ := hT
  refine w_call hK ?_
  unfold f_X6_many
  rw [z_0, z_1, z_2]
  rcases hT with ⟨e, hKa, _⟩ | ⟨e, hKa, _⟩ | ⟨e, hKa, _⟩ | ⟨e, hKa, _⟩
  · refine w_getI hK ?_
    rw [e]
    refine w_eq ⟨by omega, by omega⟩ ⟨by omega, by omega⟩ (fun _ => ?_) (fun x => absurd rfl x)
    exact w_getA hK ha (w_cast hKa (w_alen hKa (w_jp h)))
  · refine w_getI hK ?_
    rw [e]
    refine w_eq ⟨by omega, by omega⟩ ⟨by omega, by omega⟩ (fun x => absurd x (by omega)) (fun _ => ?_)
    refine w_getI hK ?_
    rw [e]
    refine w_eq ⟨by omega, by omega⟩ ⟨by omega, by omega⟩ (fun _ => ?_) (fun x => absurd rfl x)
    exact w_getA hK ha (w_cast hKa (w_alen hKa (w_jp h)))
  · refine w_getI hK ?_
    rw [e]
    refine w_eq ⟨by omega, by omega⟩ ⟨by omega, by omega⟩ (fun x => absurd x (by omega)) (fun _ => ?_)
    refine w_getI hK ?_
    rw [e]
    refine w_eq ⟨by omega, by omega⟩ ⟨by omega, by omega⟩ (fun x => absurd x (by omega)) (fun _ => ?_)
    refine w_getI hK ?_
    rw [e]
    refine w_eq ⟨by omega, by omega⟩ ⟨by omega, by omega⟩ (fun _ => ?_) (fun x => absurd rfl x)
    exact w_getA hK ha (w_cast hKa (w_alen hKa (w_jp h)))
  · refine w_getI hK ?_
    rw [e]
    refine w_eq ⟨by omega, by omega⟩ ⟨by omega, by omega⟩ (fun x => absurd x (by omega)) (fun _ => ?_)
    refine w_getI hK ?_
    rw [e]
    refine w_eq ⟨by omega, by omega⟩ ⟨by omega, by omega⟩ (fun x => absurd x (by omega)) (fun _ => ?_)
    refine w_getI hK ?_
    rw [e]
    refine w_eq ⟨by omega, by omega⟩ ⟨by omega, by omega⟩ (fun x => absurd x (by omega)) (fun _ => ?_)
    exact w_getA hK ha (w_cast hKa (w_alen hKa (w_jp h)))
theorem w_get {len : Nat} {V : Nat → Int} {z : Int} {f : Int64 → JM Mem τ} {Q : τ → Mem → NM → Prop} (hK : mK M t = some (.inl 5)) (hT : TrR M N t len V) (hz : 0 ≤ z ∧ z < len) (h : GN M N (f (zL (V z.toNat))) Q) : GN M N (jb (jcall 5 t (f_X6_get t (zI z))) f) Q := by
  obtain ⟨a, ha, hl, hT⟩ := hT
  have hzl : z.toNat < len := by omega
  refine w_call hK ?_
  unfold f_X6_get
  rw [z_0, z_1, z_2]
  rcases hT with ⟨e, hKa, hv⟩ | ⟨e, hKa, hv⟩ | ⟨e, hKa, hv⟩ | ⟨e, hKa, hv⟩
  · refine w_getI hK ?_
    rw [e]
    refine w_eq ⟨by omega, by omega⟩ ⟨by omega, by omega⟩ (fun _ => ?_) (fun x => absurd rfl x)
    refine w_getA hK ha (w_cast hKa (w_ald hKa hz hl ?_))
    rw [(hv _ hzl).1, zL_int (hv _ hzl).2]
    exact w_jp h
  · refine w_getI hK ?_
    rw [e]
    refine w_eq ⟨by omega, by omega⟩ ⟨by omega, by omega⟩ (fun x => absurd x (by omega)) (fun _ => ?_)
    refine w_getI hK ?_
    rw [e]
    refine w_eq ⟨by omega, by omega⟩ ⟨by omega, by omega⟩ (fun _ => ?_) (fun x => absurd rfl x)
    refine w_getA hK ha (w_cast hKa (w_ald hKa hz hl ?_))
    rw [(hv _ hzl).1, zL_int (hv _ hzl).2]
    exact w_jp h
  · refine w_getI hK ?_
    rw [e]
    refine w_eq ⟨by omega, by omega⟩ ⟨by omega, by omega⟩ (fun x => absurd x (by omega)) (fun _ => ?_)
    refine w_getI hK ?_
    rw [e]
    refine w_eq ⟨by omega, by omega⟩ ⟨by omega, by omega⟩ (fun x => absurd x (by omega)) (fun _ => ?_)
    refine w_getI hK ?_
    rw [e]
    refine w_eq ⟨by omega, by omega⟩ ⟨by omega, by omega⟩ (fun _ => ?_) (fun x => absurd rfl x)
    refine w_getA hK ha (w_cast hKa (w_ald hKa hz hl ?_))
    rw [(hv _ hzl).1, zL_int (hv _ hzl).2]
    exact w_jp h
  · refine w_getI hK ?_
    rw [e]
    refine w_eq ⟨by omega, by omega⟩ ⟨by omega, by omega⟩ (fun x => absurd x (by omega)) (fun _ => ?_)
    refine w_getI hK ?_
    rw [e]
    refine w_eq ⟨by omega, by omega⟩ ⟨by omega, by omega⟩ (fun x => absurd x (by omega)) (fun _ => ?_)
    refine w_getI hK ?_
    rw [e]
    refine w_eq ⟨by omega, by omega⟩ ⟨by omega, by omega⟩ (fun x => absurd x (by omega)) (fun _ => ?_)
    refine w_getA hK ha (w_cast hKa (w_aldL hKa hz hl ?_))
    rw [(hv _ hzl).1]
    exact w_jp h
end LONGS
