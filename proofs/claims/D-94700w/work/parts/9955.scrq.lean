/-! SCRIPTS that are read are well nested. -/
set_option maxRecDepth 100000
section SCRQ
variable {t : Tx} {u u' : Tk} {c c' wi i j k d f : Nat} {a a' : Arr} {r r' : Nat → Int} {v : Int}
/-- what a step, or some, that are read come to -/
def RdOk (t : Tx) (wi : Nat) (x y : Rd3) : Prop := TkOk t y.1 ∧ x.1.1 ≤ y.1.1 ∧ SegOk y.2.2 x.2.1 y.2.1 wi ∧ ∀ i, i < x.2.1 → y.2.2 i = x.2.2 i
theorem RdOk.tr {x y z : Rd3} (h : RdOk t wi x y) (h' : RdOk t wi y z) : RdOk t wi x z := by
  refine ⟨h'.1, Nat.le_trans h.2.1 h'.2.1, ?_, fun i hi => (h'.2.2.2 i (by have := h.2.2.1.1; omega)).trans (h.2.2.2 i hi)⟩
  exact (h.2.2.1.cg (fun i _ h2 => h'.2.2.2 i h2)).cat h'.2.2.1
theorem pSeq_f {one : Rd3 → Except Er Rd3} (h1 : ∀ x y, TkOk t x.1 → x.2.1 ≤ 30 → one x = .ok y → RdOk t wi x y) : ∀ f (x y : Rd3), TkOk t x.1 → x.2.1 ≤ 30 → pSeq one t f x = .ok y → RdOk t wi x y ∧ kw t y.1 15 := by
  intro f
  induction f with
  | zero => intro x y _ _ e; cases e
  | succ f ih =>
    intro x y hx hc e
    have e1 : pSeq one t (f + 1) x = @ite _ (kw t x.1 15) (Classical.propDecidable _) (.ok x) (pbd (one x) (pSeq one t f)) := rfl
    rw [e1] at e
    by_cases q : kw t x.1 15
    · rw [if_pos q] at e
      have e := Except.ok.inj e
      rw [← e]
      exact ⟨⟨hx, Nat.le_refl _, SegOk.nil hc, fun _ _ => rfl⟩, q⟩
    · rw [if_neg q] at e
      obtain ⟨z, e2, e3⟩ := pbd_f e
      have hz := h1 x z hx hc e2
      obtain ⟨g1, g2⟩ := ih z y hz.1 hz.2.2.1.2.1 e3
      exact ⟨hz.tr g1, g2⟩
theorem pStep_f : ∀ d wi (x y : Rd3), wi ≤ 3 → TkOk t x.1 → x.2.1 ≤ 30 → pStep t d wi x = .ok y → RdOk t wi x y ∧ x.2.1 < y.2.1 ∧ x.1.1 < y.1.1 := by
  intro d
  induction d with
  | zero => intro wi x y _ _ _ e; cases e
  | succ d ih =>
    intro wi x y hwi hx hc e
    have e1 : pStep t (d + 1) wi x = match stepNo t x.1 with
      | none => .error (flt x.1 2)
      | some j => if x.2.1 = 30 then .error (flt x.1 6) else if (j = 6 ∨ j = 7) ∧ wi = 3 then .error (flt x.1 7) else pStep2 t (pStep t d) wi j x := rfl
    rw [e1] at e
    rcases stepNo_c (t := t) (u := x.1) with ⟨j, hj, hk, ej⟩ | ⟨_, ej⟩
    rotate_left
    · rw [ej] at e; cases e
    rw [ej] at e
    have e : (if x.2.1 = 30 then .error (flt x.1 6) else if (j = 6 ∨ j = 7) ∧ wi = 3 then .error (flt x.1 7) else pStep2 t (pStep t d) wi j x) = Except.ok y := e
    by_cases c1 : x.2.1 = 30
    · rw [if_pos c1] at e; cases e
    rw [if_neg c1] at e
    by_cases c2 : (j = 6 ∨ j = 7) ∧ wi = 3
    · rw [if_pos c2] at e; cases e
    rw [if_neg c2] at e
    unfold pStep2 at e
    obtain ⟨s, e2, e3⟩ := pbd_f e
    have l1 := kw_lt hx hk
    have l2 := nx_ok hx
    obtain ⟨g1, g2, g3, g4⟩ := pRest_f l2.1 hj upR_v e2
    obtain ⟨u2, e4, e5⟩ := pbd_f e3
    obtain ⟨f1, f2⟩ := pSgn_f g1 e4
    obtain ⟨xu, xc, xa⟩ := x
    have hx : TkOk t xu := hx
    by_cases cb : j = 6 ∨ j = 7
    · rw [if_pos cb] at e5
      obtain ⟨z, e6, e7⟩ := pbd_f e5
      obtain ⟨h1, h2⟩ := pSeq_f (wi := wi + 1) (fun x y a b e => (ih (wi + 1) x y (by omega) a b e).1) _ _ _ f1 (show xc + 1 ≤ 30 by have : xc ≠ 30 := c1; have : xc ≤ 30 := hc; omega) e6
      obtain ⟨h3, h4, h5, h6⟩ := h1
      have h5 : SegOk z.2.2 (xc + 1) z.2.1 (wi + 1) := h5
      obtain ⟨u4, e8, e9⟩ := pbd_f e7
      obtain ⟨k1, k2⟩ := pWord_f h3 e8
      obtain ⟨u5, e10, e11⟩ := pbd_f e9
      obtain ⟨k3, k4⟩ := pSgn_f k1 e10
      have e11 := Except.ok.inj e11
      have hzc : z.2.2 xc = s.2 := by
        have := h6 xc (by show xc < xc + 1; omega)
        exact this.trans upW_v
      have hb : isBl (upW z.2.2 xc (upR (z.2.2 xc) 6 (z.2.1 : Nat))) xc := by
        unfold isBl
        rw [upW_v, upR_n (by omega), hzc, g3]
        omega
      rw [← e11]
      refine ⟨⟨k3, ?_, ?_, fun i hi => ?_⟩, ?_, ?_⟩
      · show xu.1 ≤ u5.1
        have h4 : u2.1 ≤ z.1.1 := h4
        have : xu.1 < xu.2.1 := l1
        have : xu.2.1 ≤ (nx t xu).1 := l2.2
        have g2 : (nx t xu).1 ≤ s.1.1 := g2
        omega
      · show SegOk (upW z.2.2 xc (upR (z.2.2 xc) 6 (z.2.1 : Nat))) xc z.2.1 wi
        refine SegOk.blk (h5.cg (fun i h1 h2 => upW_n (by omega))) hwi hb (by rw [upW_v, upR_v]) ?_
        rw [upW_v, hzc]
        obtain ⟨p1, p2, p3, p4, p5, p6⟩ := g4
        have n0 : upR s.2 6 (z.2.1 : Nat) 0 = s.2 0 := upR_n (by omega)
        have n1 : upR s.2 6 (z.2.1 : Nat) 1 = s.2 1 := upR_n (by omega)
        have n2 : upR s.2 6 (z.2.1 : Nat) 2 = s.2 2 := upR_n (by omega)
        have n3 : upR s.2 6 (z.2.1 : Nat) 3 = s.2 3 := upR_n (by omega)
        have n4 : upR s.2 6 (z.2.1 : Nat) 4 = s.2 4 := upR_n (by omega)
        have n5 : upR s.2 6 (z.2.1 : Nat) 5 = s.2 5 := upR_n (by omega)
        unfold ArgR
        rw [n0, n1, n2, n3, n4, n5]
        exact ⟨p1, p2, p3, p4, p5, p6⟩
      · have hi : i < xc := hi
        show upW z.2.2 xc _ i = xa i
        rw [upW_n (by omega)]
        have := h6 i (by show i < xc + 1; omega)
        exact this.trans (upW_n (by omega))
      · show xc < z.2.1
        have := h5.1
        omega
      · show xu.1 < u5.1
        have h4 : u2.1 ≤ z.1.1 := h4
        have : xu.1 < xu.2.1 := l1
        have : xu.2.1 ≤ (nx t xu).1 := l2.2
        have g2 : (nx t xu).1 ≤ s.1.1 := g2
        omega
    · rw [if_neg cb] at e5
      have e5 := Except.ok.inj e5
      rw [← e5]
      have hb : ¬ isBl (upW xa xc (upR s.2 6 ((xc + 1 : Nat) : Int))) xc := by
        unfold isBl
        rw [upW_v, upR_n (by omega), g3]
        omega
      refine ⟨⟨f1, ?_, ?_, fun i hi => ?_⟩, ?_, ?_⟩
      · show xu.1 ≤ u2.1
        have : xu.1 < xu.2.1 := l1
        have : xu.2.1 ≤ (nx t xu).1 := l2.2
        have g2 : (nx t xu).1 ≤ s.1.1 := g2
        omega
      · show SegOk (upW xa xc (upR s.2 6 ((xc + 1 : Nat) : Int))) xc (xc + 1) wi
        refine SegOk.one hb (by have : xc ≠ 30 := c1; have : xc ≤ 30 := hc; omega) ?_ (by rw [upW_v, upR_v]; omega) hwi ?_
        · rw [upW_v, upR_n (by omega), g3]; omega
        · rw [upW_v]
          obtain ⟨p1, p2, p3, p4, p5, p6⟩ := g4
          have n0 : upR s.2 6 ((xc + 1 : Nat) : Int) 0 = s.2 0 := upR_n (by omega)
          have n1 : upR s.2 6 ((xc + 1 : Nat) : Int) 1 = s.2 1 := upR_n (by omega)
          have n2 : upR s.2 6 ((xc + 1 : Nat) : Int) 2 = s.2 2 := upR_n (by omega)
          have n3 : upR s.2 6 ((xc + 1 : Nat) : Int) 3 = s.2 3 := upR_n (by omega)
          have n4 : upR s.2 6 ((xc + 1 : Nat) : Int) 4 = s.2 4 := upR_n (by omega)
          have n5 : upR s.2 6 ((xc + 1 : Nat) : Int) 5 = s.2 5 := upR_n (by omega)
          unfold ArgR
          rw [n0, n1, n2, n3, n4, n5]
          exact ⟨p1, p2, p3, p4, p5, p6⟩
      · have hi : i < xc := hi
        exact upW_n (by omega)
      · show xc < xc + 1
        omega
      · show xu.1 < u2.1
        have : xu.1 < xu.2.1 := l1
        have : xu.2.1 ≤ (nx t xu).1 := l2.2
        have g2 : (nx t xu).1 ≤ s.1.1 := g2
        omega
theorem pTop_f : ∀ f (x y : Rd3), TkOk t x.1 → x.2.1 ≤ 30 → pTop t f x = .ok y → RdOk t 0 x y := by
  intro f
  induction f with
  | zero => intro x y _ _ e; cases e
  | succ f ih =>
    intro x y hx hc e
    have e1 : pTop t (f + 1) x = if x.1.2.2.1 = 0 then .ok x else pbd (pStep t 8 0 x) (pTop t f) := rfl
    rw [e1] at e
    by_cases q : x.1.2.2.1 = 0
    · rw [if_pos q] at e
      have e := Except.ok.inj e
      rw [← e]
      exact ⟨hx, Nat.le_refl _, SegOk.nil hc, fun _ _ => rfl⟩
    · rw [if_neg q] at e
      obtain ⟨z, e2, e3⟩ := pbd_f e
      have hz := (pStep_f 8 0 x z (by omega) hx hc e2).1
      exact hz.tr (ih z y hz.1 hz.2.2.1.2.1 e3)
end SCRQ
