/-! TEXTS: the model reads brackets. -/
set_option maxRecDepth 100000
section RWM2
variable {α τ : Type} {M M' M0 : Mem} {N N' N0 : NM} {m a k e e0 b d i j n : Nat} {z lo hi kd p : Int} {t : Tx} {tk tk' : Tk} {Q : τ → Mem → NM → Prop} {st : Except Er Tk} {S : Tbl} {D : Nat → Nat → Bool}
theorem pPas_c {u : Tk} {lo hi : Int} : (u.2.2.1 = 3 ∧ lo ≤ u.2.2.2 ∧ u.2.2.2 ≤ hi ∧ pNum lo hi u = .ok u.2.2.2 ∧ pPas t lo hi u = .ok (u.2.2.2, nx t u)) ∨ ∃ er, pNum lo hi u = .error er ∧ pPas t lo hi u = .error er := by
  unfold pPas
  by_cases c1 : u.2.2.1 = 3
  · by_cases c2 : lo ≤ u.2.2.2 ∧ u.2.2.2 ≤ hi
    · have e : pNum lo hi u = .ok u.2.2.2 := by unfold pNum; rw [if_pos c1, if_pos c2]
      exact Or.inl ⟨c1, c2.1, c2.2, e, by rw [e]; rfl⟩
    · have e : pNum lo hi u = .error (flt u 4) := by unfold pNum; rw [if_pos c1, if_neg c2]
      exact Or.inr ⟨_, e, by rw [e]; rfl⟩
  · have e : pNum lo hi u = .error (flt u 2) := by unfold pNum; rw [if_neg c1]
    exact Or.inr ⟨_, e, by rw [e]; rfl⟩
theorem pWord_c {u : Tk} : (kw t u k ∧ pWord t k u = .ok (nx t u)) ∨ (¬ kw t u k ∧ pWord t k u = .error (flt u 2)) := by
  by_cases c : kw t u k
  · exact Or.inl ⟨c, if_pos c⟩
  · exact Or.inr ⟨c, if_neg c⟩
theorem pSgn_c {u : Tk} : (isSg u 59 ∧ pSgn t u = .ok (nx t u)) ∨ (¬ isSg u 59 ∧ pSgn t u = .error (flt u 2)) := by
  by_cases c : isSg u 59
  · exact Or.inl ⟨c, if_pos c⟩
  · exact Or.inr ⟨c, if_neg c⟩
/-- one bracket that is read, but for the sign at its end -/
noncomputable def pBr1 (t : Tx) (p : Int) (n : Nat) (u : Tk) (S : Tbl) (D : Nat → Nat → Bool) : Except Er ((Tk × Tbl) × Nat × Nat) :=
  pbd (pPas t 0 ((n : Int) - 1) (nx t u)) fun x => pbd (pNum (x.1 + 1) ((n : Int) - 1) x.2) fun j =>
    if D x.1.toNat j.toNat = true then .error (flt x.2 5) else pbd (pWord t 3 (nx t x.2)) fun u3 => pbd (pTerms t p n x.1.toNat j.toNat (t.1 + 1) u3 S (fun _ => false)) fun y => .ok (y, x.1.toNat, j.toNat)
def RbM (M : Mem) (N : NM) (m : Nat) (t : Tx) (p : Int) (n : Nat) (D : Nat → Nat → Bool) (r : Except Er ((Tk × Tbl) × Nat × Nat)) : Prop := match r with
  | .ok y => PSM M N m t (.ok y.1.1) ∧ WCd N (m + 6) p n (altT p n y.1.2) (setD D y.2.1 y.2.2)
  | .error er => PSM M N m t (.error er)
theorem m_readBracket {f : Unit → JM Mem τ} {u : Tk} (hM : ML M m) (hn : 1 ≤ n ∧ n ≤ 5) (hp : Pr p) (hP : PSM M N m t (.ok u)) (hD : WCd N (m + 6) p n (altT p n S) D) (h : ∀ M' N', NzM m M N M' N' → RbM M' N' m t p n D (pBr1 t p n u S D) → GN M' N' (f ()) Q) : GN M N (jb (jcall 7 m (f_X8_readBracket m)) f) Q := by
  have h6 : ∀ M, ML M m → mK M (m + 6) = some (.inr (0, 127)) := fun M hM => hM.ka (o := 6) (d := (0, 127)) rfl
  refine w_Mc hM ?_
  unfold f_X8_readBracket
  obtain ⟨tk0, hx, rfl, h12⟩ := hP
  unfold pBr1 at h
  have hok0 := (nx_ok hx.2.1).1
  refine m_next hM hx.1 hx.2.2.2.2.1 hx.2.1.2.1 (fun M1 N1 g1 hx1 => ?_)
  have hF1 : NzM m M N M1 N1 := g1.ny.nz
  have hM1 := hF1.ml hM
  have hP1 : PSM M1 N1 m t (.ok (nx t u)) := ⟨_, hx1, rfl, (g1.2.1 12 (by omega)).trans h12⟩
  have hD1 : WCd N1 (m + 6) p n (altT p n S) D := hD.fr (g1.1 _ (by omega))
  change TkOk t (nx t u) at hok0
  generalize nx t u = u1 at *
  -- the way out
  have tail : ∀ (er : Er) (M3 : Mem) (N3 : NM) (y2 y4 : Int32), NzM m M N M3 N3 → PSM M3 N3 m t (.error er) → (pbd (pPas t 0 ((n : Int) - 1) u1) fun x => pbd (pNum (x.1 + 1) ((n : Int) - 1) x.2) fun j =>
    if D x.1.toNat j.toNat = true then .error (flt x.2 5) else pbd (pWord t 3 (nx t x.2)) fun u3 => pbd (pTerms t p n x.1.toNat j.toNat (t.1 + 1) u3 S (fun _ => false)) fun y => .ok (y, x.1.toNat, j.toNat)) = .error er → GN M3 N3 (X8_readBracket_b67 m (zI n) y2 y4) (fun v M1 N1 => GN M1 N1 (f v) Q) := fun er M3 N3 y2 y4 hF3 hP3 he => by
    rw [he] at h
    unfold X8_readBracket_b67
    rw [z_0]
    refine m_badV (hF3.ml hM) hP3 (fun v v1 v2 _ => ?_)
    exact w_le ⟨by omega, by omega⟩ ⟨by omega, by omega⟩ (fun x => absurd x (by omega)) (fun _ => w_jp (h M3 N3 hF3 hP3))
  rw [z_0, z_1]
  refine w_Mf hM1 rfl (w_ald (h6 M1 hM1) (by omega) (by omega) ?_)
  rw [show ((1 : Int).toNat) = 1 from rfl, hD1.2.1, zI_sub]
  refine m_count (st := .ok u1) hM1 hP1 ⟨by omega, by omega⟩ ⟨by omega, by omega⟩ (fun M2 N2 g2 hP2 => ?_)
  have hF2 := hF1.tr g2.nz
  have hM2 := hF2.ml hM
  have hD2 : WCd N2 (m + 6) p n (altT p n S) D := hD1.fr (g2.1 _ (by omega))
  rw [pbd_ok] at hP2 ⊢
  rcases pPas_c (t := t) (u := u1) (lo := 0) (hi := (n : Int) - 1) with ⟨a1, a2, a3, _, a5⟩ | ⟨er, _, a5⟩
  rotate_left
  · rw [a5] at hP2 tail ⊢
    have hP2 : PSM M2 N2 m t (.error er) := hP2
    obtain ⟨tk2, hx2, _⟩ := id hP2
    refine w_MI hM2 ?_
    show GN M2 N2 (jb (jcall 7 m (f_X8_count m (zI 0 + zI 1) (zI ((n : Int) - 1)))) _) _
    rw [zI_add]
    refine m_count (st := .error er) hM2 hP2 ⟨by omega, by omega⟩ ⟨by omega, by omega⟩ (fun M3 N3 g3 hP3 => ?_)
    have hF3 := hF2.tr g3.nz
    refine m_badV (hF3.ml hM) hP3 (fun v v1 v2 _ => ?_)
    exact w_eq ⟨by omega, by omega⟩ ⟨by omega, by omega⟩ (fun x => absurd x (by omega)) (fun _ => tail er M3 N3 _ _ hF3 hP3 rfl)
  rw [a5] at hP2 tail h ⊢
  obtain ⟨i, hi⟩ : ∃ i : Nat, u1.2.2.2 = i := ⟨u1.2.2.2.toNat, by omega⟩
  rw [hi] at hP2 tail h a2 a3 ⊢
  have hP2 : PSM M2 N2 m t (.ok (nx t u1)) := hP2
  have h : ∀ M' N', NzM m M N M' N' → RbM M' N' m t p n D (pbd (pNum ((i : Int) + 1) ((n : Int) - 1) (nx t u1)) fun j => if D i j.toNat = true then .error (flt (nx t u1) 5) else pbd (pWord t 3 (nx t (nx t u1))) fun u3 => pbd (pTerms t p n i j.toNat (t.1 + 1) u3 S (fun _ => false)) fun y => .ok (y, i, j.toNat)) → GN M' N' (f ()) Q := h
  have tail : ∀ (er : Er) (M3 : Mem) (N3 : NM) (y2 y4 : Int32), NzM m M N M3 N3 → PSM M3 N3 m t (.error er) → (pbd (pNum ((i : Int) + 1) ((n : Int) - 1) (nx t u1)) fun j => if D i j.toNat = true then .error (flt (nx t u1) 5) else pbd (pWord t 3 (nx t (nx t u1))) fun u3 => pbd (pTerms t p n i j.toNat (t.1 + 1) u3 S (fun _ => false)) fun y => .ok (y, i, j.toNat)) = .error er → GN M3 N3 (X8_readBracket_b67 m (zI n) y2 y4) (fun v M1 N1 => GN M1 N1 (f v) Q) := tail
  have hok2 := (nx_ok hok0).1
  generalize nx t u1 = u2 at *
  refine w_MI hM2 ?_
  rw [hP2.at.2.2.2.1]
  show GN M2 N2 (jb (jcall 7 m (f_X8_count m (zI (i : Int) + zI 1) (zI ((n : Int) - 1)))) _) _
  rw [zI_add]
  refine m_count (st := .ok u2) hM2 hP2 ⟨by omega, by omega⟩ ⟨by omega, by omega⟩ (fun M3 N3 g3 hP3 => ?_)
  have hF3 := hF2.tr g3.nz
  have hM3 := hF3.ml hM
  have hD3 : WCd N3 (m + 6) p n (altT p n S) D := hD2.fr (g3.1 _ (by omega))
  rw [pbd_ok] at hP3 ⊢
  rcases pPas_c (t := t) (u := u2) (lo := (i : Int) + 1) (hi := (n : Int) - 1) with ⟨b1, b2, b3, b4, b5⟩ | ⟨er, b4, b5⟩
  rotate_left
  · rw [b5] at hP3 ⊢
    rw [b4] at tail
    have hP3 : PSM M3 N3 m t (.error er) := hP3
    refine m_badV hM3 hP3 (fun v v1 v2 _ => ?_)
    exact w_eq ⟨by omega, by omega⟩ ⟨by omega, by omega⟩ (fun x => absurd x (by omega)) (fun _ => tail er M3 N3 _ _ hF3 hP3 rfl)
  rw [b5] at hP3 ⊢
  rw [b4, pbd_ok] at tail h
  obtain ⟨j, hj⟩ : ∃ j : Nat, u2.2.2.2 = j := ⟨u2.2.2.2.toNat, by omega⟩
  rw [hj] at hP3 tail h b2 b3 ⊢
  rw [show ((j : Int).toNat) = j from rfl] at tail h
  have hP3 : PSM M3 N3 m t (.ok (nx t u2)) := hP3
  have hok3 := (nx_ok hok2).1
  refine m_good hM3 hP3 ?_
  refine w_eq ⟨by omega, by omega⟩ ⟨by omega, by omega⟩ (fun _ => ?_) (fun x => absurd rfl x)
  refine w_Mf hM3 rfl ?_
  show GN M3 N3 (jb (f_X8_cell (zI (j : Int)) (zI (j : Int)) (zI (i : Int))) _) _
  have ecell : ∀ {g : Int32 → JM Mem Unit} {R : Unit → Mem → NM → Prop} {M N}, GN M N (g (zI ((2 + 25 * j + 5 * j + i : Nat) : Int))) R → GN M N (jb (f_X8_cell (zI (j : Int)) (zI (j : Int)) (zI (i : Int))) g) R := fun {g R M N} hg => by
    unfold f_X8_cell
    rw [z_2, z_25, z_5, zI_mul, zI_mul, zI_add, zI_add, zI_add, show (2 + 25 * (j : Int) + 5 * (j : Int) + (i : Int)) = ((2 + 25 * j + 5 * j + i : Nat) : Int) by omega]
    exact w_jb (w_jp hg)
  refine ecell ?_
  refine w_ald (h6 M3 hM3) (by omega) (by omega) ?_
  rw [show (((2 + 25 * j + 5 * j + i : Nat) : Int).toNat) = 2 + 25 * j + 5 * j + i from rfl, hD3.2.2.2 i j (by omega) (by omega)]
  by_cases cD : D i j = true
  · rw [if_pos cD] at tail ⊢
    refine w_eq ⟨by omega, by omega⟩ ⟨by omega, by omega⟩ (fun _ => ?_) (fun x => absurd rfl x)
    rw [show (5 : Int32) = zI 5 from rfl]
    obtain ⟨tk4, hx4, rfl, h124⟩ := hP3
    refine m_failK hM3 h124 (tail (flt u2 5) M3 _ _ _ (hF3.tr ((NyM.rf.up (k := 12) (by omega)).up (k := 13) (by omega)).nz) ⟨nx t u2, (hx4.up (Or.inl rfl)).up (Or.inr (Or.inl rfl)), (flt_b 5 (by omega)).1, (flt_b 5 (by omega)).2, ?_, by rw [upv]; rfl⟩ rfl)
    rw [upk (by omega), upv]
    exact (if_neg (by omega)).symm
  rw [if_neg cD] at h ⊢
  clear tail
  refine w_eq ⟨by omega, by omega⟩ ⟨by omega, by omega⟩ (fun x => absurd x (by decide)) (fun _ => ?_)
  generalize nx t u2 = u3 at *
  show GN M3 N3 (X8_readBracket_b67 m (zI n) (zI (i : Int)) (zI (j : Int))) _
  unfold X8_readBracket_b67
  rw [z_0, z_1]
  refine m_good hM3 hP3 ?_
  refine w_le ⟨by omega, by omega⟩ ⟨by omega, by omega⟩ (fun _ => ?_) (fun x => absurd x (by decide))
  refine w_Mf hM3 rfl (ecell ?_)
  refine w_ast (h6 M3 hM3) (by omega) (by omega) ?_
  rw [show (((2 + 25 * j + 5 * j + i : Nat) : Int).toNat) = 2 + 25 * j + 5 * j + i from rfl]
  have hD4 : WCd (up2 N3 (m + 6) (2 + 25 * j + 5 * j + i) 1) (m + 6) p n (altT p n S) (setD D i j) := by
    obtain ⟨d1, d2, d3, d4⟩ := hD3
    refine ⟨by rw [upk (by omega)]; exact d1, by rw [upk (by omega)]; exact d2, fun x y z hx hy hz hxy => by rw [upk (by omega)]; exact d3 x y z hx hy hz hxy, fun x y hx hy => ?_⟩
    unfold setD
    by_cases q : x = i ∧ y = j
    · rw [q.1, q.2, upv, decide_eq_true (show i = i ∧ j = j from ⟨rfl, rfl⟩)]
      rfl
    · rw [decide_eq_false q, Bool.false_or, upk (by omega)]
      exact d4 x y hx hy
  have hF4 : NzM m M N M3 (up2 N3 (m + 6) (2 + 25 * j + 5 * j + i) 1) := hF3.tr (NzM.of (fun b hb => upb hb))
  have hP4 : PSM M3 (up2 N3 (m + 6) (2 + 25 * j + 5 * j + i) 1) m t (.ok u3) := hP3.o (fun b hb => upb hb)
  generalize up2 N3 (m + 6) (2 + 25 * j + 5 * j + i) 1 = N4 at *
  refine m_must_isGives hM3 hP4 (fun M5 N5 g5 hP5 => ?_)
  have hF5 := hF4.tr g5.nz
  have hM5 := hF5.ml hM
  have hD5 : WCd N5 (m + 6) p n (altT p n S) (setD D i j) := hD4.fr (g5.1 _ (by omega))
  have hP5 : PSM M5 N5 m t (pWord t 3 u3) := hP5
  rcases pWord_c (t := t) (u := u3) (k := 3) with ⟨c1, c2⟩ | ⟨c1, c2⟩
  · rw [c2] at hP5 h
    rw [pbd_ok] at h
    have q1 := kw_lt hok3 c1
    have q2 := (nx_ok hok3).2
    have e0 : (zI 0 : Int32) = 0 := rfl
    rw [e0]
    refine m_terms (D := setD D i j) (show i < j by omega) (show j < n by omega) hn.2 hp (t.1 + 1) (nx t u3) S (fun _ => false) 0 M5 N5 (by omega) hM5 hP5 hD5 (fun q _ => btI_0 q) (fun M6 N6 g6 hr6 => h M6 N6 (hF5.tr g6) ?_)
    cases eT : pTerms t p n i j (t.1 + 1) (nx t u3) S (fun _ => false) with
    | ok y =>
      rw [eT] at hr6
      exact hr6
    | error er =>
      rw [eT] at hr6
      exact hr6
  · rw [c2] at hP5 h
    have hP5 : PSM M5 N5 m t (.error (flt u3 2)) := hP5
    refine w_unroll ?_
    show GN M5 N5 (X8_readBracket_L103 m (zI n) (zI i) (zI j) (zI 0) (zI 1)) _
    unfold X8_readBracket_L103
    rw [z_0]
    refine w_eq ⟨by omega, by omega⟩ ⟨by omega, by omega⟩ (fun x => absurd x (by decide)) (fun _ => ?_)
    refine m_badV hM5 hP5 (fun v v1 v2 _ => ?_)
    exact w_eq ⟨by omega, by omega⟩ ⟨by omega, by omega⟩ (fun x => absurd x (by omega)) (fun _ => w_jinl (w_jp (h M5 N5 hF5 hP5)))
end RWM2
