/-! OPS, part 27: trays, the model's. -/
set_option maxRecDepth 100000
section OPS27
variable {α τ ρ : Type} {M M' M1 M2 : Mem} {N N' N1 : NM} {c m i j q r n : Nat} {u v s z a b d e t k : Int} {S S' : St} {x : Int64}
theorem w_astl {a n : Nat} {z : Int} {x : Int64} {f : Unit → JM Mem τ} {Q : τ → Mem → NM → Prop} (hK : mK M a = some (.inr (3, n))) (hz : 0 ≤ z ∧ z < n) (hn : n ≤ 100000) (h : GN (sL M (up2 (mL M) a z.toNat x)) N (f ()) Q) : GN M N (jb (jast_l a (zI z) x) f) Q := by
  have e := zI_toN hz.1
  generalize z.toNat = k at e h
  subst e
  exact go_jb (go_ast_l (M := sN M N) hK (by omega) hn h)
/-- where a number of a tray is wrong -/
def plc (S : St) (t k : Int) : Int := if 0 ≤ t ∧ t < 4 then (match S.2.2.1 t.toNat with | none => 3 | some r => if 0 ≤ k ∧ k < r.2.1 then 0 else 4) else 1
theorem plc_0 (h : plc S t k = 0) : (0 ≤ t ∧ t < 4) ∧ ∃ r, S.2.2.1 t.toNat = some r ∧ 0 ≤ k ∧ k < r.2.1 := by
  unfold plc at h
  by_cases e : 0 ≤ t ∧ t < 4
  · rw [if_pos e] at h
    refine ⟨e, ?_⟩
    cases e2 : S.2.2.1 t.toNat with
    | none => rw [e2] at h; exact absurd h (by show ¬ (3 : Int) = 0; decide)
    | some r =>
      rw [e2] at h
      have h : (if 0 ≤ k ∧ k < r.2.1 then (0 : Int) else 4) = 0 := h
      by_cases c1 : 0 ≤ k ∧ k < r.2.1
      · exact ⟨r, rfl, c1⟩
      · rw [if_neg c1] at h; exact absurd h (by decide)
  · rw [if_neg e] at h; exact absurd h (by decide)
theorem plc_r : 0 ≤ plc S t k ∧ plc S t k ≤ 4 := by
  unfold plc
  by_cases e : 0 ≤ t ∧ t < 4
  · rw [if_pos e]
    cases e2 : S.2.2.1 t.toNat with
    | none => exact ⟨by show (0 : Int) ≤ 3; decide, by show (3 : Int) ≤ 4; decide⟩
    | some r =>
      show 0 ≤ (if 0 ≤ k ∧ k < r.2.1 then (0 : Int) else 4) ∧ (if 0 ≤ k ∧ k < r.2.1 then (0 : Int) else 4) ≤ 4
      by_cases c1 : 0 ≤ k ∧ k < r.2.1
      · rw [if_pos c1]; exact ⟨by decide, by decide⟩
      · rw [if_neg c1]; exact ⟨by decide, by decide⟩
  · rw [if_neg e]; exact ⟨by decide, by decide⟩
theorem m_placed {f : Int32 → JM Mem τ} {Q : τ → Mem → NM → Prop} (hR : MR M N m S) (ht : zR t) (hk : zR k) (h : GN M N (f (zI (plc S t k))) Q) : GN M N (jb (jcall 7 m (f_X8_placed m (zI t) (zI k))) f) Q := by
  have h2 := hR.ml.ka (o := 2) (d := (0, 4)) rfl
  refine w_Mc hR.ml ?_
  unfold f_X8_placed
  refine w_Mc hR.ml ?_
  unfold f_X8_trayed X8_trayed_b9 X8_placed_b28
  unfold plc at h
  rw [z_0, z_1, z_3, z_4]
  by_cases e : 0 ≤ t ∧ t < 4
  case neg =>
    rw [if_neg e] at h
    have hb : GN M N (if zI 1 ≤ zI 0 then (if zI k < zI 0 then jp (zI 4) else jb (jgetA 7 5 m) fun v2 => jb (jald mI 0 v2 (zI t)) fun v3 => if zI k < v3 then jp (zI 0) else jp (zI 4)) else jp (zI 1)) (fun v M1 N1 => GN M1 N1 (f v) Q) :=
      w_le ⟨by omega, by omega⟩ ⟨by omega, by omega⟩ (fun x => absurd x (by decide)) (fun _ => w_jp h)
    refine w_lt ht ⟨by omega, by omega⟩ (fun _ => w_jp hb) (fun e1 => ?_)
    exact w_lt ht ⟨by omega, by omega⟩ (fun x => absurd x (by omega)) (fun _ => w_jp hb)
  rw [if_pos e] at h
  refine w_lt ht ⟨by omega, by omega⟩ (fun x => absurd x (by omega)) (fun _ => ?_)
  refine w_lt ht ⟨by omega, by omega⟩ (fun _ => ?_) (fun x => absurd x (by omega))
  refine w_Mf hR.ml rfl ?_
  refine w_ald h2 (by omega) (by omega) ?_
  have hty := hR.2.2.2.1 t.toNat (by omega)
  cases e2 : S.2.2.1 t.toNat with
  | none =>
    rw [e2] at hty h
    rw [show N (m + 2) t.toNat = -1 from hty]
    refine w_le ⟨by omega, by omega⟩ ⟨by omega, by omega⟩ (fun x => absurd x (by decide)) (fun _ => w_jp ?_)
    exact w_le ⟨by omega, by omega⟩ ⟨by omega, by omega⟩ (fun x => absurd x (by decide)) (fun _ => w_jp h)
  | some r =>
    rw [e2] at hty h
    have h : GN M N (f (zI (if 0 ≤ k ∧ k < r.2.1 then (0 : Int) else 4))) Q := h
    have hl := hty.2.2.1
    have e3 := hty.2.2.2.1
    rw [e3]
    refine w_le ⟨by omega, by omega⟩ ⟨by omega, by omega⟩ (fun _ => w_jp ?_) (fun x => absurd x (by omega))
    refine w_le ⟨by omega, by omega⟩ ⟨by omega, by omega⟩ (fun _ => ?_) (fun x => absurd x (by decide))
    refine w_lt hk ⟨by omega, by omega⟩ (fun e4 => ?_) (fun e4 => ?_)
    · rw [if_neg (show ¬ (0 ≤ k ∧ k < r.2.1) by omega)] at h
      exact w_jp h
    refine w_Mf hR.ml rfl ?_
    refine w_ald h2 (by omega) (by omega) ?_
    rw [e3]
    refine w_lt hk ⟨by omega, by omega⟩ (fun e5 => ?_) (fun e5 => ?_)
    · rw [if_pos (show 0 ≤ k ∧ k < r.2.1 by omega)] at h
      exact w_jp h
    · rw [if_neg (show ¬ (0 ≤ k ∧ k < r.2.1) by omega)] at h
      exact w_jp h
def a_read (S : St) (t k : Int) : Int × Int := if plc S t k = 0 then (trV S t k.toNat, 0) else (-1, plc S t k)
theorem m_read {f : Int64 → JM Mem τ} {Q : τ → Mem → NM → Prop} (hR : MR M N m S) (ht : zR t) (hk : zR k) (h : mPost M N m (stU S 0 (a_read S t k).2) (f (zL (a_read S t k).1)) Q) : GN M N (jb (jcall 7 m (f_X8_read m (zI t) (zI k))) f) Q := by
  have hr := plc_r (S := S) (t := t) (k := k)
  refine w_Mc hR.ml ?_
  unfold f_X8_read
  rw [z_0]
  refine w_Mput hR.ml ?_
  rw [hR.thr]
  refine m_placed hR ht hk ?_
  refine w_Mput hR.ml ?_
  have hR1 := hR.st (plc S t k)
  have hF : MFm m M N M (up2 N m 0 (plc S t k)) := MFm.rf.up
  refine w_MI hR.ml ?_
  rw [upv]
  unfold a_read at h
  by_cases e0 : plc S t k = 0
  case neg =>
    rw [if_neg e0] at h
    refine w_le ⟨by omega, by omega⟩ ⟨by omega, by omega⟩ (fun x => absurd x (by omega)) (fun _ => ?_)
    rw [show (-1 : Int64) = zL (-1) from by decide]
    exact w_jp (h M _ hR1 hF)
  rw [if_pos e0] at h
  obtain ⟨e, r, e2, e3, e4⟩ := plc_0 e0
  refine w_le ⟨by omega, by omega⟩ ⟨by omega, by omega⟩ (fun _ => ?_) (fun x => absurd x (by omega))
  have hty := hR.2.2.2.1 t.toNat (by omega)
  rw [e2] at hty
  have hl := hty.2.2.1
  refine w_Mf hR.ml rfl ?_
  rw [show (60 : Int32) = zI 60 from rfl, zI_mul, zI_add]
  refine w_aldL (hR.ml.ka (o := 3) (d := (3, 240)) rfl) (by omega) (by omega) ?_
  rw [show (60 * t + k).toNat = 60 * t.toNat + k.toNat by omega, (hty.2.2.2.2 k.toNat (by omega)).1]
  rw [e0] at hR1 hF
  have eV : trV S t = r.2.2 := by
    unfold trV
    rw [e2]
  rw [eV] at h
  rw [e0]
  exact w_jp (h M _ hR1 hF)
/-- a tray is another -/
def stY (S : St) (t : Nat) (r : Try) : St := (S.1, S.2.1, (fun t' => if t' = t then some r else S.2.2.1 t'), S.2.2.2)
/-- a number as a sort of tray keeps it -/
def cutL (so : Nat) (x : Int64) : Int64 := if so = 0 then x.toInt32.toInt8.toInt32.toInt64 else if so = 1 then x.toInt32.toInt16.toInt32.toInt64 else if so = 2 then x.toInt32.toInt64 else x
/-- other longs of the model, and its trays' sorts and sizes -/
theorem MR.setY {t : Nat} {r : Try} {L' : Nat → Nat → Int64} (h : MR M N m S) (ht : t < 4) (hN : ∀ b, b ≠ m + 1 → b ≠ m + 2 → N' b = N b) (h1 : ∀ t', t' ≠ t → N' (m + 1) t' = N (m + 1) t') (h2 : ∀ t', t' ≠ t → N' (m + 2) t' = N (m + 2) t') (hL : ∀ b, b ≠ m + 3 → L' b = mL M b) (hL3 : ∀ j, j < 60 * t ∨ 60 * t + 60 ≤ j → L' (m + 3) j = mL M (m + 3) j) (hr : TyM (sL M L') N' m t (some r)) : MR (sL M L') N' m (stY S t r) := by
  obtain ⟨g1, g2, ⟨g3, g3b, g3c⟩, g4, ⟨g5, g5b, g5c⟩, q⟩ := h
  have h5 := hN (m + 5) (by omega) (by omega)
  have h0 := hN m (by omega) (by omega)
  refine ⟨g1.ag (fun b x y => ⟨rfl, rfl⟩), g2.ag h5, ⟨by rw [h0]; exact g3, g3b, fun k hk => (g3c k hk).ag h5⟩, fun t' ht' => ?_, ⟨by rw [h0]; exact g5, g5b, by rw [hN (m + 4) (by omega) (by omega)]; exact g5c⟩, ?_⟩
  · show TyM (sL M L') N' m t' (if t' = t then some r else S.2.2.1 t')
    by_cases e : t' = t
    · rw [if_pos e, e]; exact hr
    · rw [if_neg e]
      have := g4 t' ht'
      cases e2 : S.2.2.1 t' with
      | none =>
        rw [e2] at this
        show N' (m + 2) t' = -1
        rw [h2 t' e]; exact this
      | some r' =>
        rw [e2] at this
        obtain ⟨a0, a1, a2, a3, a4⟩ := this
        refine ⟨by rw [h1 t' e]; exact a0, a1, a2, by rw [h2 t' e]; exact a3, fun i hi => ?_⟩
        show L' (m + 3) (60 * t' + i) = _ ∧ _
        rw [hL3 _ (by omega)]
        exact a4 i hi
  · unfold MiM at q ⊢
    rw [show (stY S t r).2.2.2.2 = S.2.2.2.2 from rfl, h0, hN (m + 23) (by omega) (by omega)]
    refine ⟨q.1, q.2.1, q.2.2.1, q.2.2.2.1, ?_, ?_, q.2.2.2.2.2.2⟩
    · show L' m 2 = _
      rw [hL m (by omega)]; exact q.2.2.2.2.1
    · show L' m 3 = _
      rw [hL m (by omega)]; exact q.2.2.2.2.2.1
theorem MFm.pL3 {L' : Nat → Nat → Int64} (h : MFm m M N M' N') (hL : ∀ b, b < m ∨ m + 36 ≤ b → L' b = mL M' b) : MFm m M N (sL M' L') N' := by
  obtain ⟨h1, R', L1, rfl, h2⟩ := h
  exact ⟨h1, R', L', rfl, fun b hb => ⟨(h2 b hb).1, (hL b hb).trans (h2 b hb).2⟩⟩
def wrT (r : Try) (k : Nat) (x : Int64) : Try := (r.1, r.2.1, fun i => if i = k then (cutL r.1 x).toInt else r.2.2 i)
def a_write (S : St) (t k : Int) (x : Int64) : St × Int := if plc S t k = 0 then (match S.2.2.1 t.toNat with | none => (S, 0) | some r => (stU (stY S t.toNat (wrT r k.toNat x)) 0 0, 1)) else (stU S 0 (plc S t k), 0)
theorem toL_r (x : Int64) : zRL x.toInt := ⟨by have := Int64.le_toInt x; omega, by have := Int64.toInt_lt x; omega⟩
theorem m_write {f : Int32 → JM Mem τ} {Q : τ → Mem → NM → Prop} (hR : MR M N m S) (ht : zR t) (hk : zR k) (hso : ∀ r, S.2.2.1 t.toNat = some r → r.1 ≤ 3) (h : mPost M N m (a_write S t k x).1 (f (zI (a_write S t k x).2)) Q) : GN M N (jb (jcall 7 m (f_X8_write m (zI t) (zI k) x)) f) Q := by
  have hr := plc_r (S := S) (t := t) (k := k)
  refine w_Mc hR.ml ?_
  unfold f_X8_write
  rw [z_0]
  refine w_Mput hR.ml ?_
  rw [hR.thr]
  refine m_placed hR ht hk ?_
  refine w_Mput hR.ml ?_
  have hR1 := hR.st (plc S t k)
  have hF : MFm m M N M (up2 N m 0 (plc S t k)) := MFm.rf.up
  refine w_MI hR.ml ?_
  rw [upv]
  unfold a_write at h
  by_cases e0 : plc S t k = 0
  case neg =>
    rw [if_neg e0] at h
    refine w_le ⟨by omega, by omega⟩ ⟨by omega, by omega⟩ (fun x => absurd x (by omega)) (fun _ => ?_)
    exact w_jp (h M _ hR1 hF)
  rw [if_pos e0] at h
  obtain ⟨e, r, e2, e3, e4⟩ := plc_0 e0
  rw [e2] at h
  have h : mPost M N m (stU (stY S t.toNat (wrT r k.toNat x)) 0 0) (f (zI 1)) Q := h
  have hso := hso r e2
  refine w_le ⟨by omega, by omega⟩ ⟨by omega, by omega⟩ (fun _ => ?_) (fun x => absurd x (by omega))
  rw [e0] at hR1 hF ⊢
  have hty := hR1.2.2.2.1 t.toNat (by omega)
  rw [show (stU S 0 0).2.2.1 t.toNat = S.2.2.1 t.toNat from rfl, e2] at hty
  obtain ⟨y0, y1, y2, y3, y4⟩ := hty
  generalize up2 N m 0 0 = N1 at *
  refine w_Mf hR.ml rfl (w_Mf hR.ml rfl ?_)
  refine w_ald (hR.ml.ka (o := 1) (d := (0, 4)) rfl) (by omega) (by omega) ?_
  rw [y0]
  refine w_jb ?_
  have hcut : GN M N1 (f_X8_cut (zI (r.1 : Nat)) x) (fun v M1 N1' => M1 = M ∧ N1' = N1 ∧ v = cutL r.1 x) := by
    unfold f_X8_cut cutL
    rw [z_0, z_1, z_2]
    refine w_eq ⟨by omega, by omega⟩ ⟨by omega, by omega⟩ (fun q => ?_) (fun q => ?_)
    · rw [if_pos (show r.1 = 0 by omega)]; exact w_jp ⟨rfl, rfl, rfl⟩
    rw [if_neg (show ¬ r.1 = 0 by omega)]
    refine w_eq ⟨by omega, by omega⟩ ⟨by omega, by omega⟩ (fun q => ?_) (fun q => ?_)
    · rw [if_pos (show r.1 = 1 by omega)]; exact w_jp ⟨rfl, rfl, rfl⟩
    rw [if_neg (show ¬ r.1 = 1 by omega)]
    refine w_eq ⟨by omega, by omega⟩ ⟨by omega, by omega⟩ (fun q => ?_) (fun q => ?_)
    · rw [if_pos (show r.1 = 2 by omega)]; exact w_jp ⟨rfl, rfl, rfl⟩
    · rw [if_neg (show ¬ r.1 = 2 by omega)]; exact w_jp ⟨rfl, rfl, rfl⟩
  refine gn_mono hcut (fun v B N' hh => ?_)
  obtain ⟨rfl, rfl, rfl⟩ := hh
  rw [show (60 : Int32) = zI 60 from rfl, zI_mul, zI_add]
  refine w_astl (hR.ml.ka (o := 3) (d := (3, 240)) rfl) (by omega) (by omega) ?_
  rw [show (60 * t + k).toNat = 60 * t.toNat + k.toNat by omega, z_1]
  refine w_jp (h _ N' ?_ (hF.pL3 (fun b hb => funext fun j => if_neg (fun e => by omega))))
  have := hR1.setY (t := t.toNat) (r := wrT r k.toNat x) (L' := up2 (mL B) (m + 3) (60 * t.toNat + k.toNat) (cutL r.1 x)) (N' := N') (by omega) (fun _ _ _ => rfl) (fun _ _ => rfl) (fun _ _ => rfl) (fun b hb => funext fun j => if_neg (fun e => hb e.1)) (fun j hj => upLk (by omega)) ⟨y0, y1, y2, y3, fun i hi => ?_⟩
  · exact this
  · show up2 (mL B) (m + 3) (60 * t.toNat + k.toNat) (cutL r.1 x) (m + 3) (60 * t.toNat + i) = zL (if i = k.toNat then (cutL r.1 x).toInt else r.2.2 i) ∧ zRL (if i = k.toNat then (cutL r.1 x).toInt else r.2.2 i)
    by_cases q : i = k.toNat
    · rw [if_pos q, q, upLv, zL_of]
      exact ⟨rfl, toL_r _⟩
    · rw [if_neg q, upLk (by omega)]
      exact y4 i hi
end OPS27
