/-! SCRIPTS that are read, pure. -/
set_option maxRecDepth 100000
section SCRP
variable {t : Tx} {u u' : Tk} {c c' wi i j k d f : Nat} {a a' : Arr} {r r' : Nat → Int} {v : Int}
def upR (r : Nat → Int) (k : Nat) (v : Int) : Nat → Int := fun q => if q = k then v else r q
def upW (a : Arr) (i : Nat) (r : Nat → Int) : Arr := fun q => if q = i then r else a q
theorem upR_v : upR r k v k = v := if_pos rfl
theorem upR_n {q : Nat} (h : q ≠ k) : upR r k v q = r q := if_neg h
theorem upW_v : upW a i r i = r := if_pos rfl
theorem upW_n {q : Nat} (h : q ≠ i) : upW a i r q = a q := if_neg h
/-- which of the words for steps, for tests -/
noncomputable def stepNo (t : Tx) (u : Tk) : Option Nat := @dite _ (∃ j, j < 9 ∧ kw t u (kwstepWord j)) (Classical.propDecidable _) (fun h => some (Classical.choose h)) (fun _ => none)
noncomputable def testNo (t : Tx) (u : Tk) : Option Nat := @dite _ (∃ j, j < 7 ∧ kw t u (kwtestWord j)) (Classical.propDecidable _) (fun h => some (Classical.choose h)) (fun _ => none)
theorem stepNo_s (hj : j < 9) (h : kw t u (kwstepWord j)) : stepNo t u = some j := by
  unfold stepNo
  have hx : ∃ j, j < 9 ∧ kw t u (kwstepWord j) := ⟨j, hj, h⟩
  rw [dif_pos hx]
  obtain ⟨h1, h2⟩ := Classical.choose_spec hx
  generalize Classical.choose hx = q at *
  have := kw_uni (show kwstepWord q < 24 by unfold kwstepWord; omega) (show kwstepWord j < 24 by unfold kwstepWord; omega) h2 h
  unfold kwstepWord at this
  rw [show q = j by omega]
theorem stepNo_n (h : ∀ j, j < 9 → ¬ kw t u (kwstepWord j)) : stepNo t u = none := by
  unfold stepNo
  exact dif_neg (fun ⟨j, h1, h2⟩ => h j h1 h2)
theorem kwt_lt (hj : j < 7) : kwtestWord j < 24 := by unfold kwtestWord; split; omega; split <;> omega
theorem testNo_s (hj : j < 7) (h : kw t u (kwtestWord j)) : testNo t u = some j := by
  unfold testNo
  have hx : ∃ j, j < 7 ∧ kw t u (kwtestWord j) := ⟨j, hj, h⟩
  rw [dif_pos hx]
  obtain ⟨h1, h2⟩ := Classical.choose_spec hx
  have := kw_uni (kwt_lt h1) (kwt_lt hj) h2 h
  generalize Classical.choose hx = q at *
  congr 1
  unfold kwtestWord at this
  repeat' split at this
  all_goals omega
theorem testNo_n (h : ∀ j, j < 7 → ¬ kw t u (kwtestWord j)) : testNo t u = none := by
  unfold testNo
  exact dif_neg (fun ⟨j, h1, h2⟩ => h j h1 h2)
theorem stepNo_c : (∃ j, j < 9 ∧ kw t u (kwstepWord j) ∧ stepNo t u = some j) ∨ (∀ j, j < 9 → ¬ kw t u (kwstepWord j)) ∧ stepNo t u = none := by
  by_cases h : ∃ j, j < 9 ∧ kw t u (kwstepWord j)
  · obtain ⟨j, h1, h2⟩ := h
    exact Or.inl ⟨j, h1, h2, stepNo_s h1 h2⟩
  · exact Or.inr ⟨fun j h1 h2 => h ⟨j, h1, h2⟩, stepNo_n (fun j h1 h2 => h ⟨j, h1, h2⟩)⟩
theorem testNo_c : (∃ j, j < 7 ∧ kw t u (kwtestWord j) ∧ testNo t u = some j) ∨ (∀ j, j < 7 → ¬ kw t u (kwtestWord j)) ∧ testNo t u = none := by
  by_cases h : ∃ j, j < 7 ∧ kw t u (kwtestWord j)
  · obtain ⟨j, h1, h2⟩ := h
    exact Or.inl ⟨j, h1, h2, testNo_s h1 h2⟩
  · exact Or.inr ⟨fun j h1 h2 => h ⟨j, h1, h2⟩, testNo_n (fun j h1 h2 => h ⟨j, h1, h2⟩)⟩
abbrev CmpSg (u : Tk) : Prop := u.2.2.1 = 4 ∧ (u.2.2.2 = 60 ∨ u.2.2.2 = 62 ∨ u.2.2.2 = 61)
noncomputable def pCmp (t : Tx) (u : Tk) (r : Nat → Int) : Except Er (Tk × (Nat → Int)) := if CmpSg u then pbd (pPas t 0 5 (nx t u)) fun x => .ok (x.2, upR (upR r 4 u.2.2.2) 5 x.1) else .error (flt u 2)
noncomputable def pTest2 (t : Tx) (j : Nat) (u : Tk) (r : Nat → Int) : Except Er (Tk × (Nat → Int)) :=
  if j = 4 then pbd (pPas t 0 5 u) fun x => pCmp t x.2 (upR r 2 x.1) else if j = 5 then pCmp t u r else if j = 6 then pbd (pPas t 0 3 u) fun x => .ok (x.2, upR r 2 x.1) else .ok (u, r)
noncomputable def pTest (t : Tx) (u : Tk) (r : Nat → Int) : Except Er (Tk × (Nat → Int)) := match testNo t u with
  | none => .error (flt u 2)
  | some j => pTest2 t j (nx t u) (upR r 1 j)
noncomputable def pRest (t : Tx) (j : Nat) (u : Tk) (r : Nat → Int) : Except Er (Tk × (Nat → Int)) :=
  if j = 0 then pbd (pPas t 0 4 u) fun x => pbd (pPas t 0 4 x.2) fun y => .ok (y.2, upR (upR r 1 x.1) 2 y.1)
  else if j = 1 then pbd (pPas t 0 4 u) fun x => pbd (pWord t 16 x.2) fun w => pbd (pPas t 1 6 w) fun y => .ok (y.2, upR (upR r 1 x.1) 2 y.1)
  else if j = 2 then pbd (pPas t 0 6 u) fun x => pbd (pWord t 5 x.2) fun w => pbd (pPas t 0 4 w) fun y => pbd (pWord t 17 y.2) fun w2 => pbd (pPas t 0 4 w2) fun z => .ok (z.2, upR (upR (upR r 3 x.1) 1 y.1) 2 z.1)
  else if j < 6 then pbd (pPas t 0 3 u) fun x => .ok (x.2, upR r 1 x.1)
  else if j = 6 then pTest t u r
  else if j = 7 then pbd (pPas t 1 99 u) fun x => .ok (x.2, upR r 1 x.1)
  else .ok (u, r)
abbrev Rd3 : Type := Tk × Nat × Arr
noncomputable def pSeq (one : Rd3 → Except Er Rd3) (t : Tx) : Nat → Rd3 → Except Er Rd3
  | 0 => fun _ => .error (0, 0)
  | f + 1 => fun x => @ite _ (kw t x.1 15) (Classical.propDecidable _) (.ok x) (pbd (one x) (pSeq one t f))
noncomputable def pStep2 (t : Tx) (one : Nat → Rd3 → Except Er Rd3) (wi j : Nat) (x : Rd3) : Except Er Rd3 :=
  pbd (pRest t j (nx t x.1) (upR (x.2.2 x.2.1) 0 j)) fun y => pbd (pSgn t y.1) fun u2 =>
    if j = 6 ∨ j = 7 then pbd (pSeq (one (wi + 1)) t (t.1 + 1) (u2, x.2.1 + 1, upW x.2.2 x.2.1 y.2)) fun z => pbd (pWord t 15 z.1) fun u4 => pbd (pSgn t u4) fun u5 => .ok (u5, z.2.1, upW z.2.2 x.2.1 (upR (z.2.2 x.2.1) 6 (z.2.1 : Nat)))
    else .ok (u2, x.2.1 + 1, upW x.2.2 x.2.1 (upR y.2 6 ((x.2.1 + 1 : Nat) : Int)))
noncomputable def pStep (t : Tx) : Nat → Nat → Rd3 → Except Er Rd3
  | 0 => fun _ _ => .error (0, 0)
  | d + 1 => fun wi x => match stepNo t x.1 with
    | none => .error (flt x.1 2)
    | some j => if x.2.1 = 30 then .error (flt x.1 6) else if (j = 6 ∨ j = 7) ∧ wi = 3 then .error (flt x.1 7) else pStep2 t (pStep t d) wi j x
noncomputable def pTop (t : Tx) : Nat → Rd3 → Except Er Rd3
  | 0 => fun _ => .error (0, 0)
  | f + 1 => fun x => if x.1.2.2.1 = 0 then .ok x else pbd (pStep t 8 0 x) (pTop t f)
noncomputable def pScript (t : Tx) (g : Arr) : Except Er Rd3 := pTop t (t.1 + 1) (tok t 0, 0, g)
-- what holds of what is read
theorem pWord_f (hu : TkOk t u) (e : pWord t k u = .ok u') : TkOk t u' ∧ u.1 < u'.1 := by
  rcases pWord_c (t := t) (u := u) (k := k) with ⟨c1, c2⟩ | ⟨_, c2⟩
  · rw [c2] at e
    have e := Except.ok.inj e
    rw [← e]
    have := kw_lt hu c1
    have := nx_ok hu
    exact ⟨this.1, by omega⟩
  · rw [c2] at e; cases e
theorem pSgn_f (hu : TkOk t u) (e : pSgn t u = .ok u') : TkOk t u' ∧ u.1 < u'.1 := by
  rcases pSgn_c (t := t) (u := u) with ⟨c1, c2⟩ | ⟨_, c2⟩
  · rw [c2] at e
    have e := Except.ok.inj e
    rw [← e]
    exact ⟨(nx_ok hu).1, nx_lt hu (by rw [c1.1]; omega)⟩
  · rw [c2] at e; cases e
theorem pPas_f {lo hi : Int} {x : Int × Tk} (hu : TkOk t u) (e : pPas t lo hi u = .ok x) : TkOk t x.2 ∧ u.1 < x.2.1 ∧ lo ≤ x.1 ∧ x.1 ≤ hi := by
  rcases pPas_c (t := t) (u := u) (lo := lo) (hi := hi) with ⟨a1, a2, a3, _, a5⟩ | ⟨er, _, a5⟩
  · rw [a5] at e
    have e := Except.ok.inj e
    rw [← e]
    exact ⟨(nx_ok hu).1, nx_lt hu (by omega), a2, a3⟩
  · rw [a5] at e; cases e
theorem pbd_f {α β : Type} {x : Except Er α} {g : α → Except Er β} {y : β} (e : pbd x g = .ok y) : ∃ z, x = .ok z ∧ g z = .ok y := by
  cases x with
  | ok z => exact ⟨z, rfl, e⟩
  | error er => cases e
theorem pCmp_f {x : Tk × (Nat → Int)} (hu : TkOk t u) (e : pCmp t u r = .ok x) : TkOk t x.1 ∧ u.1 ≤ x.1.1 ∧ (∀ q, q ≠ 4 → q ≠ 5 → x.2 q = r q) ∧ (x.2 4 = 60 ∨ x.2 4 = 61 ∨ x.2 4 = 62) ∧ 0 ≤ x.2 5 ∧ x.2 5 ≤ 5 := by
  unfold pCmp at e
  by_cases q : CmpSg u
  · rw [if_pos q] at e
    obtain ⟨z, e1, e2⟩ := pbd_f e
    have h1 := nx_fr hu
    obtain ⟨h2, h3, h4, h5⟩ := pPas_f h1.2 e1
    have e2 := Except.ok.inj e2
    rw [← e2]
    refine ⟨h2, by show u.1 ≤ z.2.1; omega, fun q q4 q5 => ?_, ?_, ?_⟩
    · show upR (upR r 4 u.2.2.2) 5 z.1 q = r q
      rw [upR_n q5, upR_n q4]
    · show upR (upR r 4 u.2.2.2) 5 z.1 4 = 60 ∨ upR (upR r 4 u.2.2.2) 5 z.1 4 = 61 ∨ upR (upR r 4 u.2.2.2) 5 z.1 4 = 62
      rw [upR_n (by omega), upR_v]
      have := q.2
      omega
    · show 0 ≤ upR (upR r 4 u.2.2.2) 5 z.1 5 ∧ upR (upR r 4 u.2.2.2) 5 z.1 5 ≤ 5
      rw [upR_v]
      exact ⟨h4, h5⟩
  · rw [if_neg q] at e; cases e
theorem pTest2_f {x : Tk × (Nat → Int)} (hu : TkOk t u) (hj : j < 7) (h1 : r 1 = j) (e : pTest2 t j u r = .ok x) : TkOk t x.1 ∧ u.1 ≤ x.1.1 ∧ x.2 0 = r 0 ∧ x.2 1 = j ∧ (x.2 1 = 4 → 0 ≤ x.2 2 ∧ x.2 2 ≤ 5) ∧ (x.2 1 = 6 → 0 ≤ x.2 2 ∧ x.2 2 ≤ 3) ∧ (x.2 1 = 4 ∨ x.2 1 = 5 → (x.2 4 = 60 ∨ x.2 4 = 61 ∨ x.2 4 = 62) ∧ 0 ≤ x.2 5 ∧ x.2 5 ≤ 5) := by
  unfold pTest2 at e
  by_cases c4 : j = 4
  · rw [if_pos c4] at e
    obtain ⟨z, e1, e2⟩ := pbd_f e
    obtain ⟨h2, h3, h4, h5⟩ := pPas_f hu e1
    obtain ⟨g1, g2, g3, g4⟩ := pCmp_f h2 e2
    have k1 : x.2 1 = j := by rw [g3 1 (by omega) (by omega), upR_n (by omega)]; exact h1
    have k2 : x.2 2 = z.1 := by rw [g3 2 (by omega) (by omega), upR_v]
    exact ⟨g1, by omega, by rw [g3 0 (by omega) (by omega), upR_n (by omega)], k1, fun _ => by rw [k2]; exact ⟨h4, h5⟩, fun x => by omega, fun _ => g4⟩
  rw [if_neg c4] at e
  by_cases c5 : j = 5
  · rw [if_pos c5] at e
    obtain ⟨g1, g2, g3, g4⟩ := pCmp_f hu e
    have k1 : x.2 1 = j := by rw [g3 1 (by omega) (by omega)]; exact h1
    exact ⟨g1, g2, g3 0 (by omega) (by omega), k1, fun x => by omega, fun x => by omega, fun _ => g4⟩
  rw [if_neg c5] at e
  by_cases c6 : j = 6
  · rw [if_pos c6] at e
    obtain ⟨z, e1, e2⟩ := pbd_f e
    obtain ⟨h2, h3, h4, h5⟩ := pPas_f hu e1
    have e2 := Except.ok.inj e2
    rw [← e2]
    have k1 : upR r 2 z.1 1 = j := by rw [upR_n (by omega)]; exact h1
    refine ⟨h2, by show u.1 ≤ z.2.1; omega, (upR_n (r := r) (k := 2) (v := z.1) (show 0 ≠ 2 by omega)), k1, fun x => ?_, fun x => ?_, fun x => ?_⟩
    · have x : upR r 2 z.1 1 = 4 := x; omega
    · show 0 ≤ upR r 2 z.1 2 ∧ upR r 2 z.1 2 ≤ 3
      rw [upR_v]; exact ⟨h4, h5⟩
    · have x : upR r 2 z.1 1 = 4 ∨ upR r 2 z.1 1 = 5 := x; omega
  rw [if_neg c6] at e
  have e := Except.ok.inj e
  rw [← e]
  exact ⟨hu, Nat.le_refl _, rfl, h1, fun x => by have x : r 1 = 4 := x; omega, fun x => by have x : r 1 = 6 := x; omega, fun x => by have x : r 1 = 4 ∨ r 1 = 5 := x; omega⟩
theorem pRest_f {x : Tk × (Nat → Int)} (hu : TkOk t u) (hj : j < 9) (h0 : r 0 = j) (e : pRest t j u r = .ok x) : TkOk t x.1 ∧ u.1 ≤ x.1.1 ∧ x.2 0 = j ∧ ArgR x.2 := by
  unfold pRest at e
  by_cases c0 : j = 0
  · rw [if_pos c0] at e
    obtain ⟨z, e1, e2⟩ := pbd_f e
    obtain ⟨h2, h3, h4, h5⟩ := pPas_f hu e1
    obtain ⟨w, e3, e4⟩ := pbd_f e2
    obtain ⟨g2, g3, g4, g5⟩ := pPas_f h2 e3
    have e4 := Except.ok.inj e4
    rw [← e4]
    have k0 : upR (upR r 1 z.1) 2 w.1 0 = j := by rw [upR_n (by omega), upR_n (by omega)]; exact h0
    have k1 : upR (upR r 1 z.1) 2 w.1 1 = z.1 := by rw [upR_n (by omega), upR_v]
    have k2 : upR (upR r 1 z.1) 2 w.1 2 = w.1 := upR_v
    refine ⟨g2, by show u.1 ≤ w.2.1; omega, k0, ?_⟩
    unfold ArgR
    show (upR (upR r 1 z.1) 2 w.1 0 = 0 → 0 ≤ upR (upR r 1 z.1) 2 w.1 1 ∧ upR (upR r 1 z.1) 2 w.1 1 ≤ 4 ∧ 0 ≤ upR (upR r 1 z.1) 2 w.1 2 ∧ upR (upR r 1 z.1) 2 w.1 2 ≤ 4) ∧ _
    refine ⟨fun _ => by omega, fun x => absurd x ?_, fun x => absurd x ?_, fun x => absurd x ?_, fun x => absurd x ?_, fun x => absurd x ?_⟩
    all_goals (show ¬ _; simp only [k0]; omega)
  rw [if_neg c0] at e
  by_cases c1 : j = 1
  · rw [if_pos c1] at e
    obtain ⟨z, e1, e2⟩ := pbd_f e
    obtain ⟨h2, h3, h4, h5⟩ := pPas_f hu e1
    obtain ⟨v, e5, e6⟩ := pbd_f e2
    obtain ⟨l1, l2⟩ := pWord_f h2 e5
    obtain ⟨w, e3, e4⟩ := pbd_f e6
    obtain ⟨g2, g3, g4, g5⟩ := pPas_f l1 e3
    have e4 := Except.ok.inj e4
    rw [← e4]
    have k0 : upR (upR r 1 z.1) 2 w.1 0 = j := by rw [upR_n (by omega), upR_n (by omega)]; exact h0
    have k1 : upR (upR r 1 z.1) 2 w.1 1 = z.1 := by rw [upR_n (by omega), upR_v]
    have k2 : upR (upR r 1 z.1) 2 w.1 2 = w.1 := upR_v
    refine ⟨g2, by show u.1 ≤ w.2.1; omega, k0, ?_⟩
    refine ⟨fun x => absurd x ?_, fun _ => ?_, fun x => absurd x ?_, fun x => absurd x ?_, fun x => absurd x ?_, fun x => absurd x ?_⟩
    rotate_left
    · show 0 ≤ upR (upR r 1 z.1) 2 w.1 1 ∧ upR (upR r 1 z.1) 2 w.1 1 ≤ 4 ∧ 1 ≤ upR (upR r 1 z.1) 2 w.1 2 ∧ upR (upR r 1 z.1) 2 w.1 2 ≤ 6
      omega
    all_goals (show ¬ _; simp only [k0]; omega)
  rw [if_neg c1] at e
  by_cases c2 : j = 2
  · rw [if_pos c2] at e
    obtain ⟨z, e1, e2⟩ := pbd_f e
    obtain ⟨h2, h3, h4, h5⟩ := pPas_f hu e1
    obtain ⟨v, e5, e6⟩ := pbd_f e2
    obtain ⟨l1, l2⟩ := pWord_f h2 e5
    obtain ⟨w, e3, e4⟩ := pbd_f e6
    obtain ⟨g2, g3, g4, g5⟩ := pPas_f l1 e3
    obtain ⟨v2, e7, e8⟩ := pbd_f e4
    obtain ⟨l3, l4⟩ := pWord_f g2 e7
    obtain ⟨w2, e9, e10⟩ := pbd_f e8
    obtain ⟨o2, o3, o4, o5⟩ := pPas_f l3 e9
    have e10 := Except.ok.inj e10
    rw [← e10]
    have k0 : upR (upR (upR r 3 z.1) 1 w.1) 2 w2.1 0 = j := by rw [upR_n (by omega), upR_n (by omega), upR_n (by omega)]; exact h0
    have k1 : upR (upR (upR r 3 z.1) 1 w.1) 2 w2.1 1 = w.1 := by rw [upR_n (by omega), upR_v]
    have k2 : upR (upR (upR r 3 z.1) 1 w.1) 2 w2.1 2 = w2.1 := upR_v
    have k3 : upR (upR (upR r 3 z.1) 1 w.1) 2 w2.1 3 = z.1 := by rw [upR_n (by omega), upR_n (by omega), upR_v]
    refine ⟨o2, by show u.1 ≤ w2.2.1; omega, k0, ?_⟩
    refine ⟨fun x => absurd x ?_, fun x => absurd x ?_, fun _ => ?_, fun x => absurd x ?_, fun x => absurd x ?_, fun x => absurd x ?_⟩
    rotate_left 2
    · show 0 ≤ upR (upR (upR r 3 z.1) 1 w.1) 2 w2.1 1 ∧ upR (upR (upR r 3 z.1) 1 w.1) 2 w2.1 1 ≤ 4 ∧ 0 ≤ upR (upR (upR r 3 z.1) 1 w.1) 2 w2.1 2 ∧ upR (upR (upR r 3 z.1) 1 w.1) 2 w2.1 2 ≤ 4 ∧ 0 ≤ upR (upR (upR r 3 z.1) 1 w.1) 2 w2.1 3 ∧ upR (upR (upR r 3 z.1) 1 w.1) 2 w2.1 3 ≤ 6
      omega
    all_goals (show ¬ _; simp only [k0]; omega)
  rw [if_neg c2] at e
  by_cases c3 : j < 6
  · rw [if_pos c3] at e
    obtain ⟨z, e1, e2⟩ := pbd_f e
    obtain ⟨h2, h3, h4, h5⟩ := pPas_f hu e1
    have e2 := Except.ok.inj e2
    rw [← e2]
    have k0 : upR r 1 z.1 0 = j := by rw [upR_n (by omega)]; exact h0
    have k1 : upR r 1 z.1 1 = z.1 := upR_v
    refine ⟨h2, by show u.1 ≤ z.2.1; omega, k0, ?_⟩
    refine ⟨fun x => absurd x ?_, fun x => absurd x ?_, fun x => absurd x ?_, fun _ => ?_, fun x => absurd x ?_, fun x => absurd x ?_⟩
    rotate_left 3
    · show 0 ≤ upR r 1 z.1 1 ∧ upR r 1 z.1 1 ≤ 3
      omega
    all_goals (show ¬ _; simp only [k0]; omega)
  rw [if_neg c3] at e
  by_cases c6 : j = 6
  · rw [if_pos c6] at e
    unfold pTest at e
    rcases testNo_c (t := t) (u := u) with ⟨q, hq, _, eq⟩ | ⟨_, eq⟩
    · rw [eq] at e
      have h1 := nx_fr hu
      obtain ⟨g1, g2, g3, g4, g5, g6, g7⟩ := pTest2_f (t := t) (u := nx t u) (r := upR r 1 q) h1.2 hq upR_v e
      have k0 : x.2 0 = j := by rw [g3, upR_n (by omega)]; exact h0
      refine ⟨g1, by omega, k0, ?_⟩
      exact ⟨fun x => by omega, fun x => by omega, fun x => by omega, fun x => by omega, fun _ => ⟨by omega, by omega, g5, g6, g7⟩, fun x => by omega⟩
    · rw [eq] at e; cases e
  rw [if_neg c6] at e
  by_cases c7 : j = 7
  · rw [if_pos c7] at e
    obtain ⟨z, e1, e2⟩ := pbd_f e
    obtain ⟨h2, h3, h4, h5⟩ := pPas_f hu e1
    have e2 := Except.ok.inj e2
    rw [← e2]
    have k0 : upR r 1 z.1 0 = j := by rw [upR_n (by omega)]; exact h0
    have k1 : upR r 1 z.1 1 = z.1 := upR_v
    refine ⟨h2, by show u.1 ≤ z.2.1; omega, k0, ?_⟩
    refine ⟨fun x => absurd x ?_, fun x => absurd x ?_, fun x => absurd x ?_, fun x => absurd x ?_, fun x => absurd x ?_, fun _ => ?_⟩
    rotate_left 5
    · show 1 ≤ upR r 1 z.1 1 ∧ upR r 1 z.1 1 ≤ 99
      omega
    all_goals (show ¬ _; simp only [k0]; omega)
  rw [if_neg c7] at e
  have e := Except.ok.inj e
  rw [← e]
  refine ⟨hu, Nat.le_refl _, h0, ?_⟩
  refine ⟨fun x => absurd x ?_, fun x => absurd x ?_, fun x => absurd x ?_, fun x => absurd x ?_, fun x => absurd x ?_, fun x => absurd x ?_⟩
  all_goals (show ¬ _; simp only [h0]; omega)
end SCRP
