/-! J rows over the typed memory: arrays. -/
set_option maxRecDepth 100000
section JARR
variable {τ : Type} {D : va_G} {dA : Nat → ClassId} {β : Bool} {Y : JY} {env env' : List (Nat × Value)} {pu : List Value} {pc : Nat} {F : JF Mem τ}
/-- a read of an array of type t -/
def jald {α : Type} (g : Mem → Nat → Nat → α) (t a : Nat) (i : Int32) : JM Mem α := fun M => match mK M a with
  | some (.inr (t', n)) => if t' = t ∧ 0 ≤ i.toInt ∧ i.toInt < (n : Int) then some (.ok (g M a i.toNatClampNeg), M) else none
  | _ => none
def jaldA (t a : Nat) (i : Int32) : JM Mem Nat := fun M => match mK M a with
  | some (.inr (t', n)) => if t' = t ∧ 0 ≤ i.toInt ∧ i.toInt < (n : Int) then (match mR M a i.toNatClampNeg with | some b => some (.ok b, M) | none => none) else none
  | _ => none
/-- a write -/
def jast (t a : Nat) (i : Int32) (ok : Mem → Bool) (up : Mem → Mem) : JM Mem Unit := fun M => match mK M a with
  | some (.inr (t', n)) => if t' = t ∧ (0 ≤ i.toInt ∧ i.toInt < (n : Int)) ∧ ok M = true then some (.ok (), up M) else none
  | _ => none
def jalen (a : Nat) : JM Mem Int32 := fun M => match mK M a with
  | some (.inr (_, n)) => some (.ok (Int32.ofNat n), M)
  | _ => none
theorem jald_cases {α : Type} {g : Mem → Nat → Nat → α} {t a : Nat} {i : Int32} {f : α → JM Mem τ} {M M' : Mem} {r : Except Nat τ} (h : jb (jald g t a i) f M = some (r, M')) : ∃ n, mK M a = some (.inr (t, n)) ∧ vp_in i n ∧ f (g M a i.toNatClampNeg) M = some (r, M') := by
  rcases jb_cases h with ⟨v, M1, e, h2⟩ | ⟨q, e, -⟩
  · unfold jald at e
    split at e
    · rename_i t' n hK
      split at e
      · rename_i hc
        cases e
        obtain ⟨rfl, h3, h4⟩ := hc
        exact ⟨n, hK, vp_in_iff.mpr ⟨h3, h4⟩, h2⟩
      · cases e
    · cases e
  · unfold jald at e
    split at e
    · split at e <;> cases e
    · cases e
theorem jaldA_cases {t a : Nat} {i : Int32} {f : Nat → JM Mem τ} {M M' : Mem} {r : Except Nat τ} (h : jb (jaldA t a i) f M = some (r, M')) : ∃ n b, mK M a = some (.inr (t, n)) ∧ vp_in i n ∧ mR M a i.toNatClampNeg = some b ∧ f b M = some (r, M') := by
  rcases jb_cases h with ⟨v, M1, e, h2⟩ | ⟨q, e, -⟩
  · unfold jaldA at e
    split at e
    · rename_i t' n hK
      split at e
      · rename_i hc
        split at e
        · rename_i b hb
          obtain ⟨rfl, h3, h4⟩ := hc
          cases e
          exact ⟨n, _, hK, vp_in_iff.mpr ⟨h3, h4⟩, hb, h2⟩
        · cases e
      · cases e
    · cases e
  · unfold jaldA at e
    split at e
    · split at e
      · split at e <;> cases e
      · cases e
    · cases e
theorem jast_cases {t a : Nat} {i : Int32} {ok : Mem → Bool} {up : Mem → Mem} {f : Unit → JM Mem τ} {M M' : Mem} {r : Except Nat τ} (h : jb (jast t a i ok up) f M = some (r, M')) : ∃ n, mK M a = some (.inr (t, n)) ∧ vp_in i n ∧ ok M = true ∧ f () (up M) = some (r, M') := by
  rcases jb_cases h with ⟨v, M1, e, h2⟩ | ⟨q, e, -⟩
  · unfold jast at e
    split at e
    · rename_i t' n hK
      split at e
      · rename_i hc
        cases e
        obtain ⟨rfl, ⟨h3, h4⟩, h5⟩ := hc
        exact ⟨n, hK, vp_in_iff.mpr ⟨h3, h4⟩, h5, h2⟩
      · cases e
    · cases e
  · unfold jast at e
    split at e
    · split at e <;> cases e
    · cases e
theorem J_iald {a : Nat} {i : Int32} {f : Int32 → JM Mem τ} (hd : decode Y.1 pc = .ok (.iaload, 1)) (h : ∀ v, J (PM D dA β) Y env (.int v :: pu) (pc + 1) (f v) F) : J (PM D dA β) Y env (.int i :: .ref a :: pu) pc (jb (jald mI 0 a i) f) F := by
  intro Γ ok hP M r M' hk hv hq H locs cells slots ls hi hl
  obtain ⟨n, hK, hin, hk⟩ := jald_cases hk
  obtain ⟨A, H0, hI, hKK, hA, hFG⟩ := id hP
  have hi2 := hi
  rw [hI] at hi2
  exact va_iald ok.exec ok.code hKK.1 (rel_P hi2.1 hK) 0 0 rfl (jtys_at (by decide)) hin hd (h _ Γ ok hP M r M' hk hv hq H locs cells slots ls hi hl)
theorem J_bald {a : Nat} {i : Int32} {f : Int32 → JM Mem τ} (hd : decode Y.1 pc = .ok (.baload, 1)) (h : ∀ v, J (PM D dA β) Y env (.int v :: pu) (pc + 1) (f v) F) : J (PM D dA β) Y env (.int i :: .ref a :: pu) pc (jb (jald mI 1 a i) f) F := by
  intro Γ ok hP M r M' hk hv hq H locs cells slots ls hi hl
  obtain ⟨n, hK, hin, hk⟩ := jald_cases hk
  obtain ⟨A, H0, hI, hKK, hA, hFG⟩ := id hP
  have hi2 := hi
  rw [hI] at hi2
  exact va_bald ok.exec ok.code hKK.1 (rel_P hi2.1 hK) 0 1 rfl (jtys_at (by decide)) hin hd (h _ Γ ok hP M r M' hk hv hq H locs cells slots ls hi hl)
theorem J_sald {a : Nat} {i : Int32} {f : Int32 → JM Mem τ} (hd : decode Y.1 pc = .ok (.saload, 1)) (h : ∀ v, J (PM D dA β) Y env (.int v :: pu) (pc + 1) (f v) F) : J (PM D dA β) Y env (.int i :: .ref a :: pu) pc (jb (jald mI 2 a i) f) F := by
  intro Γ ok hP M r M' hk hv hq H locs cells slots ls hi hl
  obtain ⟨n, hK, hin, hk⟩ := jald_cases hk
  obtain ⟨A, H0, hI, hKK, hA, hFG⟩ := id hP
  have hi2 := hi
  rw [hI] at hi2
  exact va_sald ok.exec ok.code hKK.1 (rel_P hi2.1 hK) 0 2 rfl (jtys_at (by decide)) hin hd (h _ Γ ok hP M r M' hk hv hq H locs cells slots ls hi hl)
theorem J_lald {a : Nat} {i : Int32} {f : Int64 → JM Mem τ} (hd : decode Y.1 pc = .ok (.laload, 1)) (h : ∀ v, J (PM D dA β) Y env (.long v :: pu) (pc + 1) (f v) F) : J (PM D dA β) Y env (.int i :: .ref a :: pu) pc (jb (jald mL 3 a i) f) F := by
  intro Γ ok hP M r M' hk hv hq H locs cells slots ls hi hl
  obtain ⟨n, hK, hin, hk⟩ := jald_cases hk
  obtain ⟨A, H0, hI, hKK, hA, hFG⟩ := id hP
  have hi2 := hi
  rw [hI] at hi2
  exact va_lald ok.exec ok.code hKK.1 (rel_P hi2.1 hK) 0 3 rfl (jtys_at (by decide)) hin hd (h _ Γ ok hP M r M' hk hv hq H locs cells slots ls hi hl)
theorem J_zald {a : Nat} {i : Int32} {f : Int32 → JM Mem τ} (hd : decode Y.1 pc = .ok (.baload, 1)) (h : ∀ v, J (PM D dA β) Y env (.int v :: pu) (pc + 1) (f v) F) : J (PM D dA β) Y env (.int i :: .ref a :: pu) pc (jb (jald mI 4 a i) f) F := by
  intro Γ ok hP M r M' hk hv hq H locs cells slots ls hi hl
  obtain ⟨n, hK, hin, hk⟩ := jald_cases hk
  obtain ⟨A, H0, hI, hKK, hA, hFG⟩ := id hP
  have hi2 := hi
  rw [hI] at hi2
  exact va_zald ok.exec ok.code hKK.1 (rel_P hi2.1 hK) 0 4 rfl (jtys_at (by decide)) hin hd (h _ Γ ok hP M r M' hk hv hq H locs cells slots ls hi hl)
theorem jref_cell {M : Mem} {t a n : Nat} (ht : jtag (jaT t) = 2) : jent dA M a (.inr (t, n)) = .inl (dA t, n, .inr (.inr (.inr (.inr (mR M a))))) := by
  simp only [jent, ht]
theorem jref_at {H : Heap} {M : Mem} {t a n : Nat} (ht : jtag (jaT t) = 2) (h : Rel D dA M H) (hK : mK M a = some (.inr (t, n))) : H[a]? = some (arrV (dA t) n (fun j => va_rf (mR M a j))) := by
  have h1 := (h.2.2 a _ hK).2
  rw [jref_cell ht] at h1
  exact h1
theorem jtag_ref {ty : FieldType} (h : jtag ty = 2) : ty.isReference = true := by
  cases ty <;> first | rfl | (exact absurd h (by decide))
theorem J_aald {t a : Nat} {i : Int32} {f : Nat → JM Mem τ} (hd : decode Y.1 pc = .ok (.aaload, 1)) (ht : jtag (jaT t) = 2) (h12 : t < 12) (h : ∀ v, J (PM D dA β) Y env (.ref v :: pu) (pc + 1) (f v) F) : J (PM D dA β) Y env (.int i :: .ref a :: pu) pc (jb (jaldA t a i) f) F := by
  intro Γ ok hP M r M' hk hv hq H locs cells slots ls hi hl
  obtain ⟨n, b, hK, hin, hb, hk⟩ := jaldA_cases hk
  obtain ⟨A, H0, hI, hKK, hA, hFG⟩ := id hP
  have hi2 := hi
  rw [hI] at hi2
  have hlt : i.toNatClampNeg < n := Nat.not_le.mp fun q => hin (Or.inr q)
  exact W.aald (v := .ref b) (ty := jaT t) ok.exec ok.code (jref_at ht hi2.1 hK) ((hKK.1.2 t _ (jtys_at h12)).1 n (fun j => va_rf (mR M a j))) (jtag_ref ht) (fun q => by cases q) (by show ¬ (i < 0 ∨ (arrV _ _ _).slots.size ≤ _); rw [arrV_size]; exact hin) (by show (arrV _ _ _).slots[_]? = _; rw [arrV_read _ _ hlt, hb]; rfl) rfl rfl hd (h _ Γ ok hP M r M' hk hv hq H locs cells slots ls hi hl)
theorem J_alen {a : Nat} {f : Int32 → JM Mem τ} (hd : decode Y.1 pc = .ok (.arraylength, 1)) (h : ∀ v, J (PM D dA β) Y env (.int v :: pu) (pc + 1) (f v) F) : J (PM D dA β) Y env (.ref a :: pu) pc (jb (jalen a) f) F := by
  intro Γ ok hP M r M' hk hv hq H locs cells slots ls hi hl
  obtain ⟨A, H0, hI, hKK, hA, hFG⟩ := id hP
  have hi2 := hi
  rw [hI] at hi2
  cases hK : mK M a with
  | none => rw [jb_none (by unfold jalen; rw [hK])] at hk; cases hk
  | some d =>
    cases d with
    | inl c => rw [jb_none (by unfold jalen; rw [hK])] at hk; cases hk
    | inr t =>
      obtain ⟨t, n⟩ := t
      rw [jb_ok (show jalen a M = some (.ok (Int32.ofNat n), M) by unfold jalen; rw [hK])] at hk
      exact va_alen ok.exec ok.code hKK.1 (rel_P hi2.1 hK) 0 t rfl (jtys_at (hi2.1.2.2 a _ hK).1) rfl hd (h _ Γ ok hP M r M' hk hv hq H locs cells slots ls hi hl)
theorem upd_up2 (M : Mem) (a i : Nat) (x : Int32) (c : ClassId) (n : Nat) : (arrV c n (fun j => Value.int (mI M a j))).setSlot i (.int x) = vp_cell c (n, .inl (up2 (mI M) a i x a)) := by
  rw [vp_cell_i, arrV_store]
  congr 1
  funext q
  by_cases hq : q = i
  · subst hq
    simp [updV, up2]
  · simp [updV, up2, hq]
def jast_i (a : Nat) (i x : Int32) : JM Mem Unit := jast 0 a i (fun _ => true) (fun M => sI M (up2 (mI M) a i.toNatClampNeg x))
theorem J_iast {a : Nat} {i x : Int32} {f : Unit → JM Mem τ} (hd : decode Y.1 pc = .ok (.iastore, 1)) (h : J (PM D dA β) Y env pu (pc + 1) (f ()) F) : J (PM D dA β) Y env (.int x :: .int i :: .ref a :: pu) pc (jb (jast_i a i x) f) F := by
  intro Γ ok hP M r M' hk hv hq H locs cells slots ls hi hl
  obtain ⟨n, hK, hin, hx, hk⟩ := jast_cases hk
  obtain ⟨A, H0, hI, hKK, hA, hFG⟩ := id hP
  have hi2 := hi
  rw [hI] at hi2
  refine W.iast ok.exec ok.code (hi2.1.2.2 a _ hK).2 ((hKK.1.2 0 _ (jtys_at (by decide))).1 n (fun j => .int (mI M a j))) (fun q => by cases q) (by show ¬ (i < 0 ∨ (arrV _ _ _).slots.size ≤ _); rw [arrV_size]; exact hin) rfl rfl hd fun H1 e z oq => ?_
  refine h Γ ok hP _ r M' hk hv hq H1 _ cells slots ls ?_ hl
  rw [hI]
  refine std_upd hi2 hK z oq ?_ rfl rfl (fun b d2 hb => jent_I (up2_a hb) d2)
  show H1[a]? = some (vp_cell (dA 0) (n, .inl (up2 (mI M) a i.toNatClampNeg x a)))
  rw [e]
  exact congrArg some (upd_up2 M a _ _ _ n)
def jast_b (a : Nat) (i x : Int32) : JM Mem Unit := jast 1 a i (fun _ => true) (fun M => sI M (up2 (mI M) a i.toNatClampNeg x.toInt8.toInt32))
theorem J_bast {a : Nat} {i x : Int32} {f : Unit → JM Mem τ} (hd : decode Y.1 pc = .ok (.bastore, 1)) (h : J (PM D dA β) Y env pu (pc + 1) (f ()) F) : J (PM D dA β) Y env (.int x :: .int i :: .ref a :: pu) pc (jb (jast_b a i x) f) F := by
  intro Γ ok hP M r M' hk hv hq H locs cells slots ls hi hl
  obtain ⟨n, hK, hin, hx, hk⟩ := jast_cases hk
  obtain ⟨A, H0, hI, hKK, hA, hFG⟩ := id hP
  have hi2 := hi
  rw [hI] at hi2
  refine W.bast ok.exec ok.code (hi2.1.2.2 a _ hK).2 ((hKK.1.2 1 _ (jtys_at (by decide))).1 n (fun j => .int (mI M a j))) (fun q => by cases q) (by show ¬ (i < 0 ∨ (arrV _ _ _).slots.size ≤ _); rw [arrV_size]; exact hin) rfl rfl hd fun H1 e z oq => ?_
  refine h Γ ok hP _ r M' hk hv hq H1 _ cells slots ls ?_ hl
  rw [hI]
  refine std_upd hi2 hK z oq ?_ rfl rfl (fun b d2 hb => jent_I (up2_a hb) d2)
  show H1[a]? = some (vp_cell (dA 1) (n, .inl (up2 (mI M) a i.toNatClampNeg x.toInt8.toInt32 a)))
  rw [e]
  exact congrArg some (upd_up2 M a _ _ _ n)
def jast_s (a : Nat) (i x : Int32) : JM Mem Unit := jast 2 a i (fun _ => true) (fun M => sI M (up2 (mI M) a i.toNatClampNeg x.toInt16.toInt32))
theorem J_sast {a : Nat} {i x : Int32} {f : Unit → JM Mem τ} (hd : decode Y.1 pc = .ok (.sastore, 1)) (h : J (PM D dA β) Y env pu (pc + 1) (f ()) F) : J (PM D dA β) Y env (.int x :: .int i :: .ref a :: pu) pc (jb (jast_s a i x) f) F := by
  intro Γ ok hP M r M' hk hv hq H locs cells slots ls hi hl
  obtain ⟨n, hK, hin, hx, hk⟩ := jast_cases hk
  obtain ⟨A, H0, hI, hKK, hA, hFG⟩ := id hP
  have hi2 := hi
  rw [hI] at hi2
  refine W.sast ok.exec ok.code (hi2.1.2.2 a _ hK).2 ((hKK.1.2 2 _ (jtys_at (by decide))).1 n (fun j => .int (mI M a j))) (fun q => by cases q) (by show ¬ (i < 0 ∨ (arrV _ _ _).slots.size ≤ _); rw [arrV_size]; exact hin) rfl rfl hd fun H1 e z oq => ?_
  refine h Γ ok hP _ r M' hk hv hq H1 _ cells slots ls ?_ hl
  rw [hI]
  refine std_upd hi2 hK z oq ?_ rfl rfl (fun b d2 hb => jent_I (up2_a hb) d2)
  show H1[a]? = some (vp_cell (dA 2) (n, .inl (up2 (mI M) a i.toNatClampNeg x.toInt16.toInt32 a)))
  rw [e]
  exact congrArg some (upd_up2 M a _ _ _ n)
def jast_z (a : Nat) (i x : Int32) : JM Mem Unit := jast 4 a i (fun _ => decide (x = 0 ∨ x = 1)) (fun M => sI M (up2 (mI M) a i.toNatClampNeg x))
theorem J_zast {a : Nat} {i x : Int32} {f : Unit → JM Mem τ} (hd : decode Y.1 pc = .ok (.bastore, 1)) (h : J (PM D dA β) Y env pu (pc + 1) (f ()) F) : J (PM D dA β) Y env (.int x :: .int i :: .ref a :: pu) pc (jb (jast_z a i x) f) F := by
  intro Γ ok hP M r M' hk hv hq H locs cells slots ls hi hl
  obtain ⟨n, hK, hin, hx, hk⟩ := jast_cases hk
  obtain ⟨A, H0, hI, hKK, hA, hFG⟩ := id hP
  have hi2 := hi
  rw [hI] at hi2
  refine W.zast ok.exec ok.code (hi2.1.2.2 a _ hK).2 ((hKK.1.2 4 _ (jtys_at (by decide))).1 n (fun j => .int (mI M a j))) (fun q => by cases q) (by show ¬ (i < 0 ∨ (arrV _ _ _).slots.size ≤ _); rw [arrV_size]; exact hin) rfl rfl hd fun H1 e z oq => ?_
  refine h Γ ok hP _ r M' hk hv hq H1 _ cells slots ls ?_ hl
  rw [hI]
  refine std_upd hi2 hK z oq ?_ rfl rfl (fun b d2 hb => jent_I (up2_a hb) d2)
  show H1[a]? = some (vp_cell (dA 4) (n, .inl (up2 (mI M) a i.toNatClampNeg x a)))
  rw [e]
  have hn : narrow .boolean (.int x) = .int x := by
    rcases of_decide_eq_true hx with e | e <;> subst e <;> rfl
  rw [hn]
  exact congrArg some (upd_up2 M a _ _ _ n)
def jast_l (a : Nat) (i : Int32) (x : Int64) : JM Mem Unit := jast 3 a i (fun _ => true) (fun M => sL M (up2 (mL M) a i.toNatClampNeg x))
theorem J_last {a : Nat} {i : Int32} {x : Int64} {f : Unit → JM Mem τ} (hd : decode Y.1 pc = .ok (.lastore, 1)) (h : J (PM D dA β) Y env pu (pc + 1) (f ()) F) : J (PM D dA β) Y env (.long x :: .int i :: .ref a :: pu) pc (jb (jast_l a i x) f) F := by
  intro Γ ok hP M r M' hk hv hq H locs cells slots ls hi hl
  obtain ⟨n, hK, hin, hx, hk⟩ := jast_cases hk
  obtain ⟨A, H0, hI, hKK, hA, hFG⟩ := id hP
  have hi2 := hi
  rw [hI] at hi2
  refine W.last ok.exec ok.code (hi2.1.2.2 a _ hK).2 ((hKK.1.2 3 _ (jtys_at (by decide))).1 n (fun j => .long (mL M a j))) (fun q => by cases q) (by show ¬ (i < 0 ∨ (arrV _ _ _).slots.size ≤ _); rw [arrV_size]; exact hin) rfl rfl hd fun H1 e z oq => ?_
  refine h Γ ok hP _ r M' hk hv hq H1 _ cells slots ls ?_ hl
  rw [hI]
  refine std_upd hi2 hK z oq ?_ rfl rfl (fun b d2 hb => jent_L (up2_a hb) d2)
  show H1[a]? = some (vp_cell (dA 3) (n, .inr (.inl (up2 (mL M) a i.toNatClampNeg x a))))
  rw [e]
  show some ((arrV (dA 3) n (fun j => Value.long (mL M a j))).setSlot _ _) = _
  rw [vp_cell_l, arrV_store]
  congr 2
  funext q
  by_cases hq : q = i.toNatClampNeg
  · subst hq
    simp [updV, up2]
  · simp [updV, up2, hq]
/-- storing references: objects of class c into an array of such; int arrays into an int[][] -/
def jast_a (t c a : Nat) (i : Int32) (v : Nat) : JM Mem Unit := jast t a i (fun M => decide (mK M v = some (.inl c))) (fun M => sR M (up2 (mR M) a i.toNatClampNeg (some v)))
def jast_r (a : Nat) (i : Int32) (v : Nat) : JM Mem Unit := jast 5 a i (fun M => match mK M v with | some (.inr (0, _)) => true | _ => false) (fun M => sR M (up2 (mR M) a i.toNatClampNeg (some v)))
theorem ref_up2 (M : Mem) (a i v : Nat) (c : ClassId) (n : Nat) : (arrV c n (fun j => va_rf (mR M a j))).setSlot i (.ref v) = arrV c n (fun j => va_rf (up2 (mR M) a i (some v) a j)) := by
  rw [arrV_store]
  congr 1
  funext q
  by_cases hq : q = i
  · subst hq
    simp [updV, up2, va_rf]
  · simp [updV, up2, hq]
theorem std_ref {R : Room} {A : Nat → Prop} {H0 : Heap} {M : Mem} {H H1 : Heap} {locs : List Loc} {cells slots t a n v : Nat} {i : Nat} (ht : jtag (jaT t) = 2) (hi2 : jstd D dA β R A H0 M H locs cells slots) (hK : mK M a = some (.inr (t, n))) (e : H1[a]? = some ((arrV (dA t) n (fun j => va_rf (mR M a j))).setSlot i (.ref v))) (z : H1.size = H.size) (oq : ∀ q, q ≠ a → H1[q]? = H[q]?) : jstd D dA β R A H0 (sR M (up2 (mR M) a i (some v))) H1 (locs ++ [⟨a, i⟩]) cells slots := by
  refine std_upd hi2 hK z oq ?_ rfl rfl (fun b d2 hb => jent_R (up2_a hb) d2)
  rw [jref_cell ht]
  show H1[a]? = some (arrV (dA t) n (fun j => va_rf (up2 (mR M) a i (some v) a j)))
  rw [e, ref_up2]
theorem J_aasta {t c a v : Nat} {i : Int32} {f : Unit → JM Mem τ} (hd : decode Y.1 pc = .ok (.aastore, 1)) (h12 : t < 12) (hc : c < 9) (ht : jaT t = .object (jC c)) (h : J (PM D dA β) Y env pu (pc + 1) (f ()) F) : J (PM D dA β) Y env (.ref v :: .int i :: .ref a :: pu) pc (jb (jast_a t c a i v) f) F := by
  intro Γ ok hP M r M' hk hv hq H locs cells slots ls hi hl
  obtain ⟨n, hK, hin, hx, hk⟩ := jast_cases hk
  obtain ⟨A, H0, hI, hKK, hA, hFG⟩ := id hP
  have hi2 := hi
  rw [hI] at hi2
  have hx := of_decide_eq_true hx
  have hlt : i.toNatClampNeg < n := Nat.not_le.mp fun q => hin (Or.inr q)
  have h0 : ¬ i < 0 := fun q => hin (Or.inl q)
  have htg : jtag (jaT t) = 2 := by rw [ht]; rfl
  obtain ⟨r9, hr9, cellV, g1, g2, g3, -⟩ := (hi2.1.2.2 v _ hx).2
  have hcls := (hKK.1.1 c _ (jcl_at hc)).2
  have hRA := (hKK.1.2 t _ (jtys_at h12)).2
  rw [show (dA t, jaT t).2 = FieldType.object (jC c) from ht] at hRA
  obtain ⟨kA, comp, k1, k2, k3, -⟩ := hRA
  have hcomp : comp = D.1 c := Option.some.inj (k3.symm.trans hcls.1)
  subst hcomp
  obtain ⟨kC, hkC, -⟩ := hcls.2
  refine W.aast ok.exec ok.code (jref_at htg hi2.1 hK) (fun q h => by cases h) (fun h => by cases h) k1 k2 rfl hkC ⟨h0, by show _ < (arrV _ _ _).slots.size; rw [arrV_size]; exact hlt⟩ g1 (fun q h => by rw [g3] at h; cases h) (by rw [g2]; exact hkC) (by rw [g2]; exact va_assign hcls) rfl rfl hd fun H1 e z oq => ?_
  refine h Γ ok hP _ r M' hk hv hq H1 _ cells slots ls ?_ hl
  rw [hI]
  exact std_ref htg hi2 hK e z oq
theorem J_aastr {a v : Nat} {i : Int32} {f : Unit → JM Mem τ} (hd : decode Y.1 pc = .ok (.aastore, 1)) (h : J (PM D dA β) Y env pu (pc + 1) (f ()) F) : J (PM D dA β) Y env (.ref v :: .int i :: .ref a :: pu) pc (jb (jast_r a i v) f) F := by
  intro Γ ok hP M r M' hk hv hq H locs cells slots ls hi hl
  obtain ⟨n, hK, hin, hx, hk⟩ := jast_cases hk
  obtain ⟨A, H0, hI, hKK, hA, hFG⟩ := id hP
  have hi2 := hi
  rw [hI] at hi2
  obtain ⟨n2, hx⟩ : ∃ n2, mK M v = some (.inr (0, n2)) := by
    revert hx
    split
    · rename_i n2 e
      exact fun _ => ⟨n2, e⟩
    · intro q; cases q
  have hlt : i.toNatClampNeg < n := Nat.not_le.mp fun q => hin (Or.inr q)
  have h0 : ¬ i < 0 := fun q => hin (Or.inl q)
  have hcv : H[v]? = some (vp_cell (dA 0) (n2, .inl (mI M v))) := (hi2.1.2.2 v _ hx).2
  obtain ⟨comp, cA, kA, hcomp, hkA, hkind, hnm⟩ := Cond.arrayOver_specA (hKK.2 (.arrayOver (.array .int)) (jnw_in q384 rfl))
  have hRA0 : (jcS Γ).vm.findClass ("[" ++ FieldType.int.toString) = some (dA 0) := (hKK.1.2 0 _ (jtys_at (by decide))).2
  have hRA5 : (jcS Γ).vm.findClass ("[" ++ (FieldType.array .int).toString) = some (dA 5) := (hKK.1.2 5 _ (jtys_at (by decide))).2
  have e5 : cA = dA 5 := Option.some.inj (hnm.symm.trans hRA5)
  have e0 : comp = dA 0 := Option.some.inj (hcomp.symm.trans hRA0)
  subst e5; subst e0
  obtain ⟨-, kI, hkI, -⟩ := (hKK.1.2 0 _ (jtys_at (by decide))).1 n2 (fun j => .int (mI M v j))
  refine W.aast ok.exec ok.code (jref_at (t := 5) rfl hi2.1 hK) (fun q h => by cases h) (fun h => by cases h) hkA hkind rfl hkI ⟨h0, by show _ < (arrV _ _ _).slots.size; rw [arrV_size]; exact hlt⟩ hcv (fun q h => by cases h) hkI (va_asg _ _) rfl rfl hd fun H1 e z oq => ?_
  refine h Γ ok hP _ r M' hk hv hq H1 _ cells slots ls ?_ hl
  rw [hI]
  exact std_ref (t := 5) rfl hi2 hK e z oq
end JARR
