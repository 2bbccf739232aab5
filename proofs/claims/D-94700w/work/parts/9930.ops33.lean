/-! RUN: what it comes to; the model's steps. -/
set_option maxRecDepth 100000
section OPS33
variable {α τ ρ : Type} {M M' M1 M2 : Mem} {N N' N1 : NM} {c m i j q n A : Nat} {u v s z b d e t k : Int} {S S' : St} {H : Hs} {a : Nat → Int} {p : Int} {T : Nat → Nat → Nat → Int} {W B : Nat}
abbrev RS : Type := Hs × Nat × Nat × Nat × Nat
def wH (H : Hs) : St := (H, (0, fun _ => H), (fun _ => none), (0, fun _ => 0), fun _ => 0)
def stH (S : St) (H : Hs) : St := (H, S.2)
theorem stH_S : stH S S.1 = S := rfl
/-- whether a plain step can be done, and what it does -/
def plOk (H : Hs) (a : Nat → Int) : Prop :=
  if a 0 = 1 then a 1 < sn (wH H) ∧ a 2 % sp (wH H) ≠ 0
  else if a 0 < 3 then a 1 < sn (wH H) ∧ a 2 < sn (wH H) ∧ a 1 ≠ a 2
  else if a 0 = 3 then True
  else if a 0 = 4 then H.2.1 (a 1).toNat ≠ none
  else a_wsum (wH H) (a 1) = 0
def plB (H : Hs) (a : Nat → Int) : Nat → Nat → Int := trB (sn (wH H)) (elB (sp (wH H)) (a 0) (a 1).toNat (a 2).toNat (if a 0 = 1 then a 2 else a 3))
noncomputable def plH (H : Hs) (a : Nat → Int) : Hs :=
  if a 0 < 3 then (wch (wH H) (plB H a), H.2)
  else if a 0 = 3 then (H.1, (fun k => if k = (a 1).toNat then some H.1 else H.2.1 k), H.2.2)
  else match H.2.1 (a 1).toNat with
    | none => H
    | some y => if a 0 = 4 then (y, H.2) else (wsum (wH H) y, H.2)
def cmpP (o : Int) (x y : Int) : Prop := if o = 60 then x < y else if o = 62 then y < x else x = y
/-- whether what a step asks is so -/
def tst (H : Hs) (a : Nat → Int) : Prop :=
  if a 1 = 0 then Lw (sp (wH H)) (sn (wH H)) (sT (wH H))
  else if a 1 < 4 then isS (sp (wH H)) (sn (wH H)) (sT (wH H)) (a 1 - 1).toNat
  else if a 1 = 4 then cmpP (a 4) (dm (sp (wH H)) (sn (wH H)) (DSr (sp (wH H)) (sn (wH H)) (sT (wH H)) Al (a 2).toNat) : Nat) (a 5)
  else if a 1 = 5 then cmpP (a 4) (sn (wH H)) (a 5)
  else ∃ y, H.2.1 (a 2).toNat = some y ∧ (mpq (wH H) y).2.1 = 1
noncomputable def rAll (one : Nat → RS → RS) (nx : Nat → Nat) (to : Nat) : Nat → Nat → RS → RS
  | 0, _, R => R
  | f + 1, i, R => if to ≤ i ∨ R.2.2.2.2 ≠ 0 then R else rAll one nx to f (nx i) (one i R)
noncomputable def rLoop (body : RS → RS) : Nat → RS → RS
  | 0, R => R
  | k + 1, R => if R.2.2.2.2 ≠ 0 then R else rLoop body k (body R)
def up1 (R : RS) : RS := (R.1, R.2.1 + 1, R.2.2)
/-- a plain step: done, or missed -/
noncomputable def rPl (H : Hs) (R : RS) (a : Nat → Int) : RS := @ite _ (plOk H a) (Classical.propDecidable _) (plH H a, R.2) (H, R.2.1, R.2.2.1 + 1, R.2.2.2)
noncomputable def rOne (s : Scr) : Nat → Nat → RS → RS
  | 0, _, R => R
  | d + 1, i, R => if R.2.1 = 300 then (R.1, R.2.1, R.2.2.1, 1, 1)
    else if s.2 i 0 = 6 then @ite _ (tst R.1 (s.2 i)) (Classical.propDecidable _) (rAll (rOne s d) (nxt s.2) (nxt s.2 i) 31 (i + 1) (up1 R)) (up1 R)
    else if s.2 i 0 = 7 then rLoop (rAll (rOne s d) (nxt s.2) (nxt s.2 i) 31 (i + 1)) (s.2 i 1).toNat (up1 R)
    else if s.2 i 0 = 8 then (R.1, R.2.1 + 1, R.2.2.1, R.2.2.2.1, 1)
    else rPl R.1 (up1 R) (s.2 i)
/-- all of a script -/
noncomputable def rRun (s : Scr) (H : Hs) : RS := rAll (rOne s 8) (nxt s.2) s.1 31 0 (H, 0, 0, 0, 0)
noncomputable def a_run (S : St) : St × Int := match S.1.2.2 with
  | none => (stU S 0 8, -1)
  | some s => (stU (stU (stU (stU (stH S (rRun s S.1).1) 7 (rRun s S.1).2.2.1) 8 (rRun s S.1).2.2.2.1) 6 1) 0 0, (rRun s S.1).2.1)
theorem MR.fld (h : MR M N m S) {k : Nat} (hk : 50 ≤ k ∧ k ≤ 53) (v : Int) : MR M (up2 N m k v) m S := by
  obtain ⟨m0, mt, m1, m2, m3, m4, m5, m6, m7, m8⟩ := h.2.2.2.2.2
  have eo : up2 N m k v (m + 23) = N (m + 23) := funext fun j => if_neg (fun e => by omega)
  exact h.mi (by omega) (by omega) ⟨by rw [upk (by omega)]; exact m0, by rw [upk (by omega)]; exact mt, by rw [upk (by omega)]; exact m1, by rw [upk (by omega)]; exact m2, m3, m4, by rw [upk (by omega)]; exact m5, by rw [upk (by omega)]; exact m6, by rw [eo]; exact m7, by rw [eo]; exact m8⟩
/-- what the model holds of a run -/
def RsM (N : NM) (m : Nat) (R : RS) : Prop := N m 51 = R.2.1 ∧ N m 52 = R.2.2.1 ∧ N m 53 = R.2.2.2.1 ∧ N m 50 = R.2.2.2.2
theorem RsM.fr {R : RS} (h : RsM N m R) (e : ∀ k, 50 ≤ k → k ≤ 53 → N' m k = N m k) : RsM N' m R := ⟨by rw [e 51 (by omega) (by omega)]; exact h.1, by rw [e 52 (by omega) (by omega)]; exact h.2.1, by rw [e 53 (by omega) (by omega)]; exact h.2.2.1, by rw [e 50 (by omega) (by omega)]; exact h.2.2.2⟩
/-- a number of a step -/
theorem m_stp {f : Int32 → JM Mem τ} {Q : τ → Mem → NM → Prop} {s : Scr} {k : Nat} (hR : MR M N m S) (hs : S.1.2.2 = some s) (hO : ScOk s) (hi : i < s.1) (hk : k < 7) (h : GN M N (f (zI (s.2 i k))) Q) : GN M N (jb (jgetA 7 19 m) fun v => jb (jald mI 0 v (zI ((637 + 7 * i + k : Nat) : Int))) f) Q := by
  have hsc := hR.2.1.2.2
  rw [hs] at hsc
  have h30 := hO.1
  refine w_Mf hR.ml rfl ?_
  refine w_ald (hR.ml.ka (o := 5) (d := (0, 3440)) rfl) (by omega) (by omega) ?_
  have := hsc.2.2 i k hi hk
  rw [show ((637 + 7 * i + k : Nat) : Int).toNat = 0 + 637 + 7 * i + k by omega, this]
  exact h
theorem m_compares {f : Int32 → JM Mem τ} {Q : τ → Mem → NM → Prop} {s : Scr} {x : Int} (hR : MR M N m S) (hs : S.1.2.2 = some s) (hO : ScOk s) (hi : i < s.1) (hx : zR x) (ho : zR (s.2 i 4)) (hy : zR (s.2 i 5)) (h : ∀ v, (v = 1 ∧ cmpP (s.2 i 4) x (s.2 i 5) ∨ v = 0 ∧ ¬ cmpP (s.2 i 4) x (s.2 i 5)) → GN M N (f (zI v)) Q) : GN M N (jb (jcall 7 m (f_X8_compares m (zI x) (zI ((637 + 7 * i : Nat) : Int)))) f) Q := by
  refine w_Mc hR.ml ?_
  unfold f_X8_compares
  have st : ∀ {g : Int32 → JM Mem Int32} {Q' : Int32 → Mem → NM → Prop} (k : Nat), k < 7 → GN M N (g (zI (s.2 i k))) Q' → GN M N (jb (jgetA 7 19 m) fun v => jb (jald mI 0 v (zI ((637 + 7 * i : Nat) : Int) + zI (k : Int))) g) Q' := fun k hk hh => by
    rw [zI_add, ← Int.natCast_add]
    exact m_stp hR hs hO hi hk hh
  rw [show (4 : Int32) = zI ((4 : Nat) : Int) from rfl, show (5 : Int32) = zI ((5 : Nat) : Int) from rfl, show (60 : Int32) = zI 60 from rfl, show (62 : Int32) = zI 62 from rfl, z_0, z_1]
  unfold cmpP at h
  refine st 4 (by omega) ?_
  refine w_eq ho ⟨by omega, by omega⟩ (fun e => ?_) (fun e => ?_)
  · rw [if_pos e] at h
    refine st 5 (by omega) ?_
    exact w_le hy hx (fun e2 => w_jp (h 0 (Or.inr ⟨rfl, by omega⟩))) (fun e2 => w_jp (h 1 (Or.inl ⟨rfl, by omega⟩)))
  rw [if_neg e] at h
  refine st 4 (by omega) ?_
  refine w_eq ho ⟨by omega, by omega⟩ (fun e2 => ?_) (fun e2 => ?_)
  · rw [if_pos e2] at h
    refine st 5 (by omega) ?_
    exact w_le hx hy (fun e2 => w_jp (h 0 (Or.inr ⟨rfl, by omega⟩))) (fun e2 => w_jp (h 1 (Or.inl ⟨rfl, by omega⟩)))
  rw [if_neg e2] at h
  refine st 5 (by omega) ?_
  exact w_eq hx hy (fun e3 => w_jp (h 1 (Or.inl ⟨rfl, e3⟩))) (fun e3 => w_jp (h 0 (Or.inr ⟨rfl, e3⟩)))
end OPS33
