/-! THE STATE stays as it should be. -/
set_option maxRecDepth 100000
section STA
variable {S : St} {H : Hs} {R : RS} {x y : Wd} {i k s' : Nat} {v t s a b d e u n z : Int} {p : Int}
/-- a house is as it should be, all its shelves -/
def HsA (H : Hs) : Prop := WdOk H.1 ∧ (∀ j x, H.2.1 j = some x → WdOk x) ∧ ∀ s, H.2.2 = some s → ScOk s
def StA (S : St) : Prop := HsA S.1 ∧ (∀ k, k < S.2.1.1 → HsA (S.2.1.2 k)) ∧ -1 ≤ S.2.2.2.2 5 ∧ S.2.2.2.2 5 ≤ 200000 ∧ (S.2.2.2.2 6 = 0 ∨ S.2.2.2.2 6 = 1)
theorem HsA.ok (h : HsA H) : HsOk H := ⟨h.1, fun j x _ e => h.2.1 j x e, h.2.2⟩
theorem StA.ok (h : StA S) : StOk S := ⟨h.1.ok, fun k hk => (h.2.1 k hk).ok, h.2.2⟩
theorem HsA.w (h : HsA H) (hx : WdOk x) : HsA (x, H.2) := ⟨hx, h.2⟩
theorem HsA.sh (h : HsA H) (hx : WdOk x) : HsA (H.1, (fun k => if k = i then some x else H.2.1 k), H.2.2) := by
  refine ⟨h.1, fun j y e => ?_, h.2.2⟩
  have e : (if j = i then some x else H.2.1 j) = some y := e
  by_cases q : j = i
  · rw [if_pos q] at e
    have e := Option.some.inj e
    rw [← e]; exact hx
  · rw [if_neg q] at e
    exact h.2.1 j y e
theorem StA.un (h : StA S) (h5 : i ≠ 5) (h6 : i ≠ 6) : StA (stU S i v) := by
  have e5 : (stU S i v).2.2.2.2 5 = S.2.2.2.2 5 := if_neg (fun x => h5 x.symm)
  have e6 : (stU S i v).2.2.2.2 6 = S.2.2.2.2 6 := if_neg (fun x => h6 x.symm)
  exact ⟨h.1, h.2.1, by rw [e5]; exact h.2.2.1, by rw [e5]; exact h.2.2.2.1, by rw [e6]; exact h.2.2.2.2⟩
theorem StA.u0 (h : StA S) : StA (stU S 0 v) := h.un (by omega) (by omega)
theorem StA.u5 (h : StA S) (h1 : -1 ≤ v) (h2 : v ≤ 200000) : StA (stU S 5 v) := ⟨h.1, h.2.1, h1, h2, h.2.2.2.2⟩
theorem StA.u6 (h : StA S) (h1 : v = 0 ∨ v = 1) : StA (stU S 6 v) := ⟨h.1, h.2.1, h.2.2.1, h.2.2.2.1, h1⟩
theorem StA.w (h : StA S) (hx : WdOk x) : StA (stW S x) := ⟨h.1.w hx, h.2⟩
theorem StA.tp (h : StA S) {x : Nat × (Nat → Int)} : StA (stP S x) := h
theorem StA.ty (h : StA S) {r : Try} : StA (stY S i r) := h
theorem StA.h (h : StA S) (hH : HsA H) : StA (stH S H) := ⟨hH, h.2⟩
theorem StA.sh (h : StA S) (hx : WdOk x) : StA (shU S i x) := ⟨h.1.sh hx, h.2⟩
-- the ops
theorem ok_keep (h : StA S) : StA (a_keep S s).1 := by
  unfold a_keep
  split
  · exact (h.sh h.1.1).u0
  · exact h.u0
theorem ok_take (h : StA S) : StA (a_take S s).1 := by
  unfold a_take
  split
  · cases e : S.1.2.1 s.toNat with
    | none => exact h.u0
    | some y => exact (h.w (h.1.2.1 _ y e)).u0
  · exact h.u0
theorem ok_sum (h : StA S) : StA (a_sum S s).1 := by
  unfold a_sum
  split
  · rename_i q
    obtain ⟨_, y, e, _, hy⟩ := a_wsum_0 q
    rw [e]
    exact (h.w (x := wsum S y) (show ((sn S + y.2.1 : Nat) : Int) ≤ gst (sp S) by omega)).u0
  · exact h.u0
theorem ok_change (h : StA S) : StA (a_change S t).1 := by
  unfold a_change
  split
  · split
    · exact (h.w (x := wch S _) h.1.1).u0
    · exact h.u0
  · exact h.u0
theorem ok_grow (h : StA S) : StA (a_grow S t).1 := by
  unfold a_grow
  split
  · exact h.u0
  · rename_i q
    split
    · split
      · have h1 : (sn S : Int) ≤ gst (sp S) := h.1.1
        exact (h.w (x := wgr S t) (show ((sn S + 1 : Nat) : Int) ≤ gst (sp S) by omega)).u0
      · exact h.u0
    · exact h.u0
theorem ok_squeeze (h : StA S) : StA (a_squeeze S t).1 := by
  unfold a_squeeze
  split
  · split
    · exact h.u0
    · exact (h.w (x := wsq S t) h.1.1).u0
  · exact h.u0
theorem ok_put (h : StA S) : StA (a_put S a b d v).1 := by
  unfold a_put
  split
  · split
    · exact (h.w (x := wpu S _ _ _ v) h.1.1).u0
    · exact h.u0
  · exact h.u0
theorem ok_out (h : StA S) : StA (a_out S t z).1 := by
  have h1 : (sn S : Int) ≤ gst (sp S) := h.1.1
  unfold a_out
  split
  · split
    · exact h.u0
    · have := dm_le (p := sp S) (n := sn S) (S := mdS S 1 t z)
      exact (h.w (x := wto S (mdS S 1 t z)) (show ((dm (sp S) (sn S) (mdS S 1 t z) : Nat) : Int) ≤ gst (sp S) by omega)).u0
  · exact h.u0
theorem ok_rest (h : StA S) : StA (a_rest S t z).1 := by
  have h1 : (sn S : Int) ≤ gst (sp S) := h.1.1
  unfold a_rest
  split
  · split
    · exact h.u0
    · exact (h.w (x := wre S (mdS S 2 t z)) (show ((sn S - dm (sp S) (sn S) (mdS S 2 t z) : Nat) : Int) ≤ gst (sp S) by omega)).u0
  · exact h.u0
theorem ok_mark (h : StA S) : StA (a_mark S).1 := by
  unfold a_mark
  split
  · exact h.u0
  · refine StA.u0 ⟨h.1, fun k hk => ?_, h.2.2⟩
    show HsA (if k = S.2.1.1 then S.1 else S.2.1.2 k)
    have hk : k < S.2.1.1 + 1 := hk
    by_cases q : k = S.2.1.1
    · rw [if_pos q]; exact h.1
    · rw [if_neg q]; exact h.2.1 k (by omega)
theorem ok_back (h : StA S) : StA (a_back S).1 := by
  unfold a_back
  split
  · exact h.u0
  · refine StA.u0 ⟨h.2.1 _ (by omega), fun k hk => h.2.1 k (by have hk : k < S.2.1.1 - 1 := hk; omega), h.2.2⟩
theorem ok_feed (h : StA S) : StA (a_feed S a b d e u).1 := by
  unfold a_feed
  split
  · exact h.tp
  · exact h
theorem ok_tray (h : StA S) : StA (a_tray S t s n).1 := by
  unfold a_tray
  split
  · exact h.ty.u0
  · exact h.u0
theorem ok_write (h : StA S) {x : Int64} : StA (a_write S t z x).1 := by
  unfold a_write
  split
  · cases S.2.2.1 t.toNat with
    | none => exact h
    | some r => exact h.ty.u0
  · exact h.u0
theorem ok_share (h : StA S) : StA (a_share S) := by
  unfold a_share a_sh
  exact ((h.un (by omega) (by omega)).un (by omega) (by omega)).u0
theorem skL_b {n : Nat} {F T : Nat → Nat → Nat → Int} {first : Prop} : ∀ d (im : Nat → Nat → Int) (st : Sk), st.1 ≤ 200000 → (skL p n F T first d im st).1 ≤ 200000 := by
  intro d
  induction d with
  | zero => intro im st h; exact h
  | succ d ih =>
    intro im st h
    show (skR p n F T first (skL p n F T first d) (n - (d + 1)) im st ((p ^ n).toNat - 1)).1 ≤ 200000
    generalize (p ^ n).toNat - 1 = k
    induction k with
    | zero => exact h
    | succ k ihk =>
      show (skS p n F T first (skL p n F T first d) (n - (d + 1)) im (k + 1) (skR p n F T first (skL p n F T first d) (n - (d + 1)) im st k)).1 ≤ 200000
      generalize skR p n F T first (skL p n F T first d) (n - (d + 1)) im st k = w at *
      unfold skS
      split
      · exact ihk
      · split
        · exact ihk
        · rename_i q
          split
          · exact ih _ _ (by show w.1 + 1 ≤ 200000; omega)
          · show w.1 + 1 ≤ 200000
            omega
theorem mpS_b {n : Nat} {F T : Nat → Nat → Nat → Int} {first : Prop} : (mpS p n F T first).1 ≤ 200000 := skL_b _ _ _ (by show 0 ≤ 200000; omega)
theorem mpq_b : (mpq S y).1 ≤ 200000 := by
  unfold mpq
  split
  · exact mpS_b
  · show 0 ≤ 200000; omega
theorem ok_maps (h : StA S) : StA (stU (stU S 5 (a_maps S).1) 0 v) := by
  have := mpS_b (p := sp S) (n := sn S) (F := sT S) (T := sT S) (first := (0 : Int) = 1)
  exact (h.u5 (by omega) (by show ((mpS (sp S) (sn S) (sT S) (sT S) ((0 : Int) = 1)).1 : Int) ≤ 200000; omega)).u0
theorem ok_sameAs (h : StA S) : StA (a_sameAs S s).1 := by
  unfold a_sameAs
  split
  · cases S.1.2.1 s.toNat with
    | none => exact h.u0
    | some y =>
      have := mpq_b (S := S) (y := y)
      exact (h.u5 (by omega) (by omega)).u0
  · exact h.u0
-- runs
theorem HsA.pl {f : Nat → Int} (h : HsA H) (hp : plOk H f) : HsA (plH H f) := by
  unfold plH
  split
  · exact h.w (x := wch (wH H) _) h.1
  · rename_i q3
    split
    · exact h.sh h.1
    · rename_i q4
      cases e : H.2.1 (f 1).toNat with
      | none => exact h
      | some y =>
        show HsA (if f 0 = 4 then (y, H.2) else (wsum (wH H) y, H.2))
        split
        · exact h.w (h.2.1 _ y e)
        · rename_i q5
          unfold plOk at hp
          rw [if_neg (by omega), if_neg q3, if_neg q4, if_neg q5] at hp
          obtain ⟨_, y2, e2, _, hy⟩ := a_wsum_0 hp
          have e2 : H.2.1 (f 1).toNat = some y2 := e2
          rw [e] at e2
          have e2 := Option.some.inj e2
          rw [e2]
          exact h.w (x := wsum (wH H) y2) (show ((sn (wH H) + y2.2.1 : Nat) : Int) ≤ gst (sp (wH H)) by omega)
theorem rAll_ok {one : Nat → RS → RS} {nx : Nat → Nat} {to : Nat} (h1 : ∀ i R, HsA R.1 → HsA (one i R).1) : ∀ f i R, HsA R.1 → HsA (rAll one nx to f i R).1 := by
  intro f
  induction f with
  | zero => intro i R h; exact h
  | succ f ih =>
    intro i R h
    unfold rAll
    split
    · exact h
    · exact ih _ _ (h1 _ _ h)
theorem rLoop_ok {body : RS → RS} (h1 : ∀ R, HsA R.1 → HsA (body R).1) : ∀ k R, HsA R.1 → HsA (rLoop body k R).1 := by
  intro k
  induction k with
  | zero => intro R h; exact h
  | succ k ih =>
    intro R h
    unfold rLoop
    split
    · exact h
    · exact ih _ (h1 _ h)
theorem rOne_ok {s : Scr} : ∀ d i R, HsA R.1 → HsA (rOne s d i R).1 := by
  intro d
  induction d with
  | zero => intro i R h; exact h
  | succ d ih =>
    intro i R h
    unfold rOne
    split
    · exact h
    split
    · split
      · exact rAll_ok ih _ _ _ h
      · exact h
    split
    · exact rLoop_ok (fun R h => rAll_ok ih _ _ _ h) _ _ h
    split
    · exact h
    · unfold rPl
      split
      · rename_i q
        exact h.pl q
      · exact h
theorem ok_run (h : StA S) : StA (a_run S).1 := by
  unfold a_run
  cases e : S.1.2.2 with
  | none => exact h.u0
  | some s =>
    have hr : HsA (rRun s S.1).1 := rAll_ok (fun i R h => rOne_ok _ i R h) _ _ _ h.1
    exact ((((h.h hr).un (by omega) (by omega)).un (by omega) (by omega)).u6 (Or.inr rfl)).u0
theorem StA.tk (h : StA S) : StA (tkS S) := (h.tp.un (by omega) (by omega)).un (by omega) (by omega)
theorem ok_world (h : StA S) : StA (a_world S n).1 := by
  unfold a_world
  split
  · rcases pWorld_h (tpX S.2.2.2.1 n.toNat) with ⟨er, _, e⟩ | ⟨p, n', u, _, _, _, _, _, hg, e⟩
    · rw [e]
      exact ((h.tk.un (by omega) (by omega)).un (by omega) (by omega)).u0
    · rw [e]
      cases pBrs (tpX S.2.2.2.1 n.toNat) p n' ((tpX S.2.2.2.1 n.toNat).1 + 1) u (fun _ _ _ => 0) (fun _ _ => false) with
      | error er => exact ((h.tk.un (by omega) (by omega)).un (by omega) (by omega)).u0
      | ok T => exact (h.tk.w (x := (p, n', altT p n' T)) hg).u0
  · exact h.u0
theorem ok_script (h : StA S) {g : Arr} : StA (a_script S g n).1 := by
  unfold a_script
  split
  · cases e : pScript (tpX S.2.2.2.1 n.toNat) g with
    | error er => exact ((h.tk.un (by omega) (by omega)).un (by omega) (by omega)).u0
    | ok x =>
      have hs := (pTop_f ((tpX S.2.2.2.1 n.toNat).1 + 1) (tok (tpX S.2.2.2.1 n.toNat) 0, 0, g) x (tok_ok (Nat.zero_le _)).1 (by show 0 ≤ 30; omega) e).2.2.1
      have hs : ScOk (x.2.1, x.2.2) := SegOk.scr hs
      refine (h.tk.h (H := (S.1.1, S.1.2.1, some (x.2.1, x.2.2))) ⟨h.1.1, h.1.2.1, fun s hs2 => ?_⟩).u0
      have hs2 := Option.some.inj hs2
      rw [← hs2]
      exact hs
  · exact h.u0
end STA
