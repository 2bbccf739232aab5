/-! POUR, the component's. -/
set_option maxRecDepth 100000
section POC
variable {τ : Type} {M M' : Mem} {N N' N1 : NM} {c n k A B : Nat} {S S' : St} {t u i j z : Int} {r r' : Try}
/-- trays hold what their sort can -/
def TyA (f : Nat → Option Try) : Prop := ∀ t r, t < 4 → f t = some r → r.1 ≤ 3 ∧ (r.1 = 0 → ∀ k, k < r.2.1 → -128 ≤ r.2.2 k ∧ r.2.2 k ≤ 127) ∧ (r.1 = 1 → ∀ k, k < r.2.1 → -32768 ≤ r.2.2 k ∧ r.2.2 k ≤ 32767)
theorem TyA.up {f : Nat → Option Try} {a : Nat} (h : TyA f) (hr : r.1 ≤ 3 ∧ (r.1 = 0 → ∀ k, k < r.2.1 → -128 ≤ r.2.2 k ∧ r.2.2 k ≤ 127) ∧ (r.1 = 1 → ∀ k, k < r.2.1 → -32768 ≤ r.2.2 k ∧ r.2.2 k ≤ 32767)) : TyA (fun t' => if t' = a then some r else f t') := by
  intro t x ht e
  have e : (if t = a then some r else f t) = some x := e
  by_cases q : t = a
  · rw [if_pos q] at e
    cases e
    exact hr
  · rw [if_neg q] at e
    exact h t x ht e
/-- the row of a tray -/
def rwk (so : Nat) : Nat := if so = 0 then 1 else if so = 1 then 2 else if so = 2 then 0 else 3
theorem TyC.row {e : Nat} {T : Nat} (h : TyC M N e T (some r)) (hA : mR M T 0 = some A) : mK M A = some (.inr (rwk r.1, r.2.1)) ∧ e ≤ A ∧ (r.1 ≤ 2 → ∀ i, i < r.2.1 → N A i = r.2.2 i ∧ zR (r.2.2 i)) ∧ (r.1 = 3 → ∀ i, i < r.2.1 → mL M A i = zL (r.2.2 i) ∧ zRL (r.2.2 i)) := by
  obtain ⟨y1, y2, y3, ⟨a, a1, a2, a3⟩, y5⟩ := h
  rw [hA] at a1
  cases a1
  have hs : r.1 ≤ 3 := y2
  rcases a3 with ⟨e, q, v⟩ | ⟨e, q, v⟩ | ⟨e, q, v⟩ | ⟨e, q, v⟩
  · have er : r.1 = 0 := by omega
    exact ⟨by rw [q, er]; rfl, y5 A hA, fun _ => v, fun x => by omega⟩
  · have er : r.1 = 1 := by omega
    exact ⟨by rw [q, er]; rfl, y5 A hA, fun _ => v, fun x => by omega⟩
  · have er : r.1 = 2 := by omega
    exact ⟨by rw [q, er]; rfl, y5 A hA, fun _ => v, fun x => by omega⟩
  · have er : r.1 = 3 := by omega
    exact ⟨by rw [q, er]; rfl, y5 A hA, fun x => by omega, fun _ => v⟩
theorem w_cpI {t na nb sp dp n : Nat} {f : Unit → JM Mem τ} {Q : τ → Mem → NM → Prop} (h1 : mK M A = some (.inr (t, na))) (h2 : mK M B = some (.inr (t, nb))) (hs : sp + n ≤ na ∧ na ≤ 100000) (hd : dp + n ≤ nb ∧ nb ≤ 100000)
    (hf : ∀ k, k < n → fits (jaT t) (.int (zI (N A (sp + k)))) = true)
    (h : GN M (fun c k => if c = B ∧ dp ≤ k ∧ k < dp + n then N A (sp + (k - dp)) else N c k) (f ()) Q) : GN M N (jb (jcpI t A (zI sp) B (zI dp) (zI n)) f) Q := by
  have e1 : ∀ x : Nat, x ≤ 100000 → (zI x).toInt = x := fun x hx => zI_to ⟨by omega, by omega⟩
  have e2 : ∀ x : Nat, x ≤ 100000 → (zI x).toNatClampNeg = x := fun x hx => zI_nat (by omega)
  refine go_jb (go_of (M' := sN M (fun c k => if c = B ∧ dp ≤ k ∧ k < dp + n then N A (sp + (k - dp)) else N c k)) (v := ()) ?_ h)
  unfold jcpI
  have hok : jcpIOk (sN M N) t A B (zI sp) (zI dp) (zI n) = true := by
    unfold jcpIOk
    rw [show mK (sN M N) A = some (.inr (t, na)) from h1, show mK (sN M N) B = some (.inr (t, nb)) from h2]
    simp only [Bool.and_eq_true, decide_eq_true_eq]
    rw [e1 sp (by omega), e1 dp (by omega), e1 n (by omega), e2 sp (by omega), e2 n (by omega)]
    refine ⟨⟨trivial, trivial, by omega, by omega, by omega, by omega, by omega⟩, List.all_eq_true.mpr (fun k hk => hf k (List.mem_range.mp hk))⟩
  rw [if_pos hok]
  unfold jcpIM
  rw [e2 sp (by omega), e2 dp (by omega), e2 n (by omega)]
  have eI : upA (mI (sN M N)) B (va_cpy (mI (sN M N) A) (mI (sN M N) B) sp dp n) = fun c k => zI (if c = B ∧ dp ≤ k ∧ k < dp + n then N A (sp + (k - dp)) else N c k) := by
    funext c k
    show (if c = B then va_cpy _ _ sp dp n k else zI (N c k)) = _
    by_cases q : c = B
    · rw [if_pos q]
      unfold va_cpy
      by_cases q2 : dp ≤ k ∧ k < dp + n
      · rw [if_pos q2, if_pos ⟨q, q2⟩]; rfl
      · rw [if_neg q2, if_neg (fun x => q2 x.2), q]; rfl
    · rw [if_neg q, if_neg (fun x => q x.1)]
  rw [eI]
  rfl
theorem w_cpL {na nb sp dp n : Nat} {f : Unit → JM Mem τ} {Q : τ → Mem → NM → Prop} (h1 : mK M A = some (.inr (3, na))) (h2 : mK M B = some (.inr (3, nb))) (hs : sp + n ≤ na ∧ na ≤ 100000) (hd : dp + n ≤ nb ∧ nb ≤ 100000)
    (h : GN (sL M (fun c k => if c = B ∧ dp ≤ k ∧ k < dp + n then mL M A (sp + (k - dp)) else mL M c k)) N (f ()) Q) : GN M N (jb (jcpL 3 A (zI sp) B (zI dp) (zI n)) f) Q := by
  have e1 : ∀ x : Nat, x ≤ 100000 → (zI x).toInt = x := fun x hx => zI_to ⟨by omega, by omega⟩
  have e2 : ∀ x : Nat, x ≤ 100000 → (zI x).toNatClampNeg = x := fun x hx => zI_nat (by omega)
  refine go_jb (go_of (M' := sN (sL M (fun c k => if c = B ∧ dp ≤ k ∧ k < dp + n then mL M A (sp + (k - dp)) else mL M c k)) N) (v := ()) ?_ h)
  unfold jcpL
  have hok : jcpLOk (sN M N) 3 A B (zI sp) (zI dp) (zI n) = true := by
    unfold jcpLOk
    rw [show mK (sN M N) A = some (.inr (3, na)) from h1, show mK (sN M N) B = some (.inr (3, nb)) from h2]
    simp only [Bool.and_eq_true, decide_eq_true_eq]
    rw [e1 sp (by omega), e1 dp (by omega), e1 n (by omega)]
    exact ⟨⟨trivial, trivial, by omega, by omega, by omega, by omega, by omega⟩, List.all_eq_true.mpr (fun k hk => rfl)⟩
  rw [if_pos hok]
  unfold jcpLM
  rw [e2 sp (by omega), e2 dp (by omega), e2 n (by omega)]
  have eL : upA (mL (sN M N)) B (va_cpy (mL (sN M N) A) (mL (sN M N) B) sp dp n) = fun c k => if c = B ∧ dp ≤ k ∧ k < dp + n then mL M A (sp + (k - dp)) else mL M c k := by
    funext c k
    show (if c = B then va_cpy _ _ sp dp n k else mL M c k) = _
    by_cases q : c = B
    · rw [if_pos q]
      unfold va_cpy
      by_cases q2 : dp ≤ k ∧ k < dp + n
      · rw [if_pos q2, if_pos ⟨q, q2⟩]; rfl
      · rw [if_neg q2, if_neg (fun x => q2 x.2), q]; rfl
    · rw [if_neg q, if_neg (fun x => q x.1)]
  rw [eL]
  rfl
/-- the row's numbers are others -/
theorem CR.poY {t : Nat} {L' : Nat → Nat → Int64} (h : CR M N c S) (ht : t < 4) (e2 : S.2.2.1 t = some r) (er : r'.1 = r.1 ∧ r'.2.1 = r.2.1) (hA : mR M (c + 258 + t) 0 = some A) (hN : ∀ b, b ≠ A → N' b = N b) (hL : ∀ b, b ≠ A → L' b = mL M b) (hr : TrR (sL M L') N' (c + 258 + t) r'.2.1 r'.2.2) : CR (sL M L') N' c (stY S t r') := by
  have hy := h.2.2.2.1.1 t ht
  rw [e2] at hy
  obtain ⟨y1, y2, y3, y4, y5⟩ := hy
  have hA1 := y5 A hA
  refine h.setY (A := A) ht (h.cl.ag (fun _ _ _ => ⟨rfl, rfl⟩) rfl) h.2.2.2.2.2.2 (fun _ _ e => e) (fun _ _ _ => rfl) ⟨hA1, ?_, fun t' h1 h2 h3 => h2 (h.2.2.2.1.2 t' t A h1 ht h3 hA)⟩ (fun b h1 _ => hN b h1) hL ⟨?_, by rw [er.1]; exact y2, by rw [er.2]; exact y3, hr, fun a e => y5 a e⟩ hA
  · obtain ⟨a, a1, a2, a3⟩ := y4
    rw [hA] at a1
    cases a1
    rcases a3 with ⟨_, q, _⟩ | ⟨_, q, _⟩ | ⟨_, q, _⟩ | ⟨_, q, _⟩ <;> (rw [q]; exact fun x => (nomatch x))
  · show N' (c + 258 + t) 1 = (r'.1 : Nat)
    rw [hN _ (by omega), er.1]
    exact y1
theorem pourV_r (hr : r.1 ≤ 3 ∧ (r.1 = 0 → ∀ k, k < r.2.1 → -128 ≤ r.2.2 k ∧ r.2.2 k ≤ 127) ∧ (r.1 = 1 → ∀ k, k < r.2.1 → -32768 ≤ r.2.2 k ∧ r.2.2 k ≤ 32767)) (hr' : r'.1 ≤ 3 ∧ (r'.1 = 0 → ∀ k, k < r'.2.1 → -128 ≤ r'.2.2 k ∧ r'.2.2 k ≤ 127) ∧ (r'.1 = 1 → ∀ k, k < r'.2.1 → -32768 ≤ r'.2.2 k ∧ r'.2.2 k ≤ 32767)) (e : r.1 = r'.1) {i j n : Nat} (h1 : i + n ≤ r.2.1) :
    (pourV r r' i j n).1 ≤ 3 ∧ ((pourV r r' i j n).1 = 0 → ∀ k, k < (pourV r r' i j n).2.1 → -128 ≤ (pourV r r' i j n).2.2 k ∧ (pourV r r' i j n).2.2 k ≤ 127) ∧ ((pourV r r' i j n).1 = 1 → ∀ k, k < (pourV r r' i j n).2.1 → -32768 ≤ (pourV r r' i j n).2.2 k ∧ (pourV r r' i j n).2.2 k ≤ 32767) := by
  refine ⟨hr'.1, fun e0 k hk => ?_, fun e0 k hk => ?_⟩
  · have e0 : r'.1 = 0 := e0
    have hk : k < r'.2.1 := hk
    show -128 ≤ (if j ≤ k ∧ k < j + n then r.2.2 (i + (k - j)) else r'.2.2 k) ∧ (if j ≤ k ∧ k < j + n then r.2.2 (i + (k - j)) else r'.2.2 k) ≤ 127
    by_cases q : j ≤ k ∧ k < j + n
    · rw [if_pos q]; exact hr.2.1 (by omega) _ (by omega)
    · rw [if_neg q]; exact hr'.2.1 e0 _ hk
  · have e0 : r'.1 = 1 := e0
    have hk : k < r'.2.1 := hk
    show -32768 ≤ (if j ≤ k ∧ k < j + n then r.2.2 (i + (k - j)) else r'.2.2 k) ∧ (if j ≤ k ∧ k < j + n then r.2.2 (i + (k - j)) else r'.2.2 k) ≤ 32767
    by_cases q : j ≤ k ∧ k < j + n
    · rw [if_pos q]; exact hr.2.2 (by omega) _ (by omega)
    · rw [if_neg q]; exact hr'.2.2 e0 _ hk
theorem fits_r {v : Int} {so : Nat} (h3 : so ≤ 2) (hv : zR v) (h0 : so = 0 → -128 ≤ v ∧ v ≤ 127) (h1 : so = 1 → -32768 ≤ v ∧ v ≤ 32767) : fits (jaT (rwk so)) (.int (zI v)) = true := by
  have le : ∀ a b : Int, zR a → zR b → a ≤ b → zI a ≤ zI b := fun a b ha hb h => by
    rw [Int32.le_iff_toInt_le, zI_to ha, zI_to hb]
    exact h
  have : so = 0 ∨ so = 1 ∨ so = 2 := by omega
  rcases this with rfl | rfl | rfl
  · show (decide ((-128 : Int32) ≤ zI v) && decide (zI v ≤ 127)) = true
    rw [Bool.and_eq_true, decide_eq_true_eq, decide_eq_true_eq]
    have := h0 rfl
    exact ⟨le (-128) v ⟨by omega, by omega⟩ hv this.1, le v 127 hv ⟨by omega, by omega⟩ this.2⟩
  · show (decide ((-32768 : Int32) ≤ zI v) && decide (zI v ≤ 32767)) = true
    rw [Bool.and_eq_true, decide_eq_true_eq, decide_eq_true_eq]
    have := h1 rfl
    exact ⟨le (-32768) v ⟨by omega, by omega⟩ hv this.1, le v 32767 hv ⟨by omega, by omega⟩ this.2⟩
  · rfl
end POC
