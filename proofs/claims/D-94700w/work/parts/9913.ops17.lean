/-! OPS, seventeenth part: kinds of worlds; invariants; parted, barred. -/
set_option maxRecDepth 100000
section OPS17
variable {α τ : Type} {M M' M1 M2 : Mem} {N N' N1 : NM} {c m i j k q w W B : Nat} {u v s t z : Int} {S S' : St} {p : Int} {n many : Nat} {T F G : Nat → Nat → Nat → Int} {y : Wd}
theorem w_swz {ks : List (JM Mem α)} {d : JM Mem α} {Q : α → Mem → NM → Prop} {lo : Int} (hz : zR z) (h1 : z < lo → GN M N d Q) (h2 : ∀ k : Nat, z = lo + k → GN M N (ks[k]?.getD d) Q) : GN M N (jsw (zI z) lo ks d) Q := by
  unfold jsw
  rw [zI_to hz]
  by_cases c : z < lo
  · rw [if_pos c]; exact h1 c
  · rw [if_neg c]
    have h := h2 (z - lo).toNat (by omega)
    cases e : ks[(z - lo).toNat]? with
    | none => rw [e] at h; exact h
    | some g => rw [e] at h; exact h
theorem ser_end (hp : Pr p) (hn : n ≤ 5) {d : Int} : dm p n (Ser p n T Al d 5) = 0 ↔ dm p n (Ser p n T Al d (n + 1)) = 0 := by
  have hS : Sbp p n Al := Al.sb
  have hc : Clo n T False Al := fun _ _ _ _ => trivial
  have hd : ∀ k v, Ser p n T Al d (k + 1) v → Ser p n T Al d k v := Ser.dec hS hc
  have h0 : ∀ N, n ≤ N → (∃ k, dm p n (Ser p n T Al d k) = 0) → dm p n (Ser p n T Al d N) = 0 := fun N hN he =>
    chain_end hp (fun k => Ser.sb hS k) hd (fun k => Ser.st k) (Nat.le_trans dm_le hN) he
  exact ⟨fun e => h0 (n + 1) (by omega) ⟨5, e⟩, fun e => h0 5 hn ⟨n + 1, e⟩⟩
/-- kinds of worlds, by number -/
def isS (p : Int) (n : Nat) (T : Nat → Nat → Nat → Int) (what : Nat) : Prop := match what with
  | 0 => dm p n (DSr p n T Al 1) = 0
  | 1 => dm p n (LSr p n T Al 5) = 0
  | 2 => dm p n (DSr p n T Al 5) = 0
  | 3 => dm p n (DSr p n T Al 1) = n
  | 4 => Smp p n T
  | _ => Uni p n T
theorem w_misSo {f : Int32 → JM Mem τ} {Q : τ → Mem → NM → Prop} {what : Nat} (hM : ML M m) (hA : MA M N m W B p n T) (hw : what ≤ 5)
    (h : ∀ N' v, (v = 1 ∧ isS p n T what ∨ v = 0 ∧ ¬ isS p n T what) → FrC N m N' → GN M N' (f (zI v)) Q) : GN M N (jb (jcall 7 m (f_X8_isSo m (zI what))) f) Q := by
  have hn5 := hA.n5
  have hp := hA.pr
  have h01 : ∀ {v : Int} {P : Prop}, (v = 1 ∧ P ∨ v = 0 ∧ ¬ P) → v = 0 ∨ v = 1 := fun h => by rcases h with ⟨e, _⟩ | ⟨e, _⟩ <;> omega
  have hdd : ∀ (x : Nat) (y : Nat) (N1 : NM) (P : Prop), x ≤ 100 → y ≤ 100 → (x = y ↔ isS p n T what) → FrC N m N1 → GN M N1 (if zI (x : Nat) = zI (y : Nat) then jp 1 else jp 0) (fun v M1 N1 => GN M1 N1 (f v) Q) := fun x y N1 P hx hy he hF => by
    rw [z_1, z_0]
    refine w_eq ⟨by omega, by omega⟩ ⟨by omega, by omega⟩ (fun e => ?_) (fun e => ?_)
    · exact w_jp (h N1 1 (Or.inl ⟨rfl, he.mp (by omega)⟩) hF)
    · exact w_jp (h N1 0 (Or.inr ⟨rfl, fun q => e (by rw [he.mpr q])⟩) hF)
  refine w_Mc hM ?_
  unfold f_X8_isSo
  refine w_sw (by omega) ?_
  rcases (show what = 0 ∨ what = 1 ∨ what = 2 ∨ what = 3 ∨ what = 4 ∨ what = 5 by omega) with rfl | rfl | rfl | rfl | rfl | rfl
  · exact w_misAbelian hM hA (fun N1 v hv hF => w_rze (h01 hv) (h N1 v hv hF))
  · show GN M N (jb (jgetI 7 27 m) _) _
    refine w_MI hM ?_
    rw [hA.ne, z_0, z_1, zI_add]
    refine w_seriesOf (k := n + 1) (d := 1) hM hA (by omega) (Or.inr rfl) (fun N1 g => ?_)
    have hb := dm_le (p := p) (n := n) (S := Ser p n T Al (1 - 1) (n + 1))
    exact hdd _ 0 N1 True (by omega) (by omega) (by
      rw [← ser_end hp hn5, Ser.l (show (1 : Int) - 1 = 0 by decide)]
      exact Iff.rfl) (FrC.ser g)
  · show GN M N (jb (jgetI 7 27 m) _) _
    refine w_MI hM ?_
    rw [hA.ne, z_0, z_1, zI_add]
    refine w_seriesOf (k := n + 1) (d := 0) hM hA (by omega) (Or.inl rfl) (fun N1 g => ?_)
    have hb := dm_le (p := p) (n := n) (S := Ser p n T Al (1 - 0) (n + 1))
    exact hdd _ 0 N1 True (by omega) (by omega) (by
      rw [← ser_end hp hn5, Ser.d (show (1 : Int) - 0 ≠ 0 by decide)]
      exact Iff.rfl) (FrC.ser g)
  · show GN M N (jb (jcall 7 m (f_X8_seriesOf m 1 0)) _) _
    rw [show (1 : Int32) = zI ((1 : Nat) : Int) from rfl, z_0]
    refine w_seriesOf (k := 1) (d := 0) hM hA (by omega) (Or.inl rfl) (fun N1 g => ?_)
    have hb := dm_le (p := p) (n := n) (S := Ser p n T Al (1 - 0) 1)
    refine w_MI hM ?_
    rw [show N1 m 27 = (n : Int) by rw [g m (by omega) (by omega) (by omega)]; exact hA.ne]
    exact hdd _ n N1 True (by omega) (by omega) (by
      rw [Ser.d (show (1 : Int) - 0 ≠ 0 by decide)]
      exact Iff.rfl) (FrC.ser g)
  · exact w_misSimple hM hA (fun N1 v hv hF => w_rze (h01 hv) (h N1 v hv hF))
  · exact w_misUnimodular hM hA (fun v hv => w_rze (h01 hv) (h N v hv FrC.rf))
noncomputable def a_is (S : St) (v : Int) : Int × Int := if 0 ≤ v ∧ v ≤ 5 then (@ite _ (isS (sp S) (sn S) (sT S) v.toNat) (Classical.propDecidable _) 1 0, 0) else (-1, 5)
theorem m_is {f : Int32 → JM Mem τ} {Q : τ → Mem → NM → Prop} (hR : MR M N m S) (hv : zR v) (h : mPost M N m (stU S 0 (a_is S v).2) (f (zI (a_is S v).1)) Q) : GN M N (jb (jcall 7 m (f_X8_is m (zI v))) f) Q := by
  refine w_Mc hR.ml ?_
  unfold f_X8_is
  refine m_beg hR (fun M1 N1 hS hM hA => ?_)
  rw [zL_int hv, show (0 : Int64) = zL 0 from rfl, show (5 : Int64) = zL 5 from rfl]
  refine w_isIn (zRL_of hv) ⟨by omega, by omega⟩ ⟨by omega, by omega⟩ ?_
  rw [z_0]
  by_cases e : 0 ≤ v ∧ v ≤ 5
  case neg =>
    rw [if_neg e]
    refine w_eq ⟨by omega, by omega⟩ ⟨by omega, by omega⟩ (fun _ => ?_) (fun x => absurd rfl x)
    rw [z_5]
    exact m_bad (f := fun v => jp v) hR hS MFr.rf (fun M' N' a b => w_jp (h M' N' a b)) (if_neg e)
  rw [if_pos e]
  refine w_eq ⟨by omega, by omega⟩ ⟨by omega, by omega⟩ (fun x => absurd x (by decide)) (fun _ => ?_)
  obtain ⟨v, rfl⟩ : ∃ d : Nat, v = d := ⟨v.toNat, by omega⟩
  unfold a_is at h
  rw [if_pos e, show ((v : Int).toNat) = v from rfl] at h
  refine w_misSo hM hA (by omega) (fun N2 u hu hF => ?_)
  rw [z_1]
  rcases hu with ⟨rfl, hu⟩ | ⟨rfl, hu⟩
  · rw [if_pos hu] at h
    exact w_eq ⟨by omega, by omega⟩ ⟨by omega, by omega⟩ (fun x => absurd x (by decide)) (fun _ => w_jp (m_fin0 hR hS hF.mf h))
  · rw [if_neg hu] at h
    exact w_eq ⟨by omega, by omega⟩ ⟨by omega, by omega⟩ (fun _ => w_jp (m_fin0 hR hS hF.mf h)) (fun x => absurd rfl x)
theorem c_is {f : Int32 → JM Mem τ} {Q : τ → Mem → NM → Prop} (hR : CR M N c S) (hv : zR v) (h : cPost M N c (stU S 0 (a_is S v).2) (f (zI (a_is S v).1)) Q) : GN M N (jb (jcall 0 c (f_X0_is c (zI v))) f) Q := by
  have hn5 : sn S ≤ 5 := hR.w.n5
  refine w_Cc hR.cl ?_
  unfold f_X0_is
  have hdef : ¬ (0 ≤ v ∧ v ≤ 5) → GN M N (jb (jcall 0 c (f_X0_none c 5)) fun v1 => jp v1) (fun v M1 N1 => GN M1 N1 (f v) Q) := fun e => by
    rw [z_5]
    exact c_bad (f := fun v => jp v) hR (fun M' N' a b => w_jp (h M' N' a b)) (if_neg e)
  -- an answer
  have hans : ∀ (M1 : Mem) (N1 : NM) (u : Int), 0 ≤ v ∧ v ≤ 5 → Bg c M M1 → CFr c N N1 → (u = 1 ∧ isS (sp S) (sn S) (sT S) v.toNat ∨ u = 0 ∧ ¬ isS (sp S) (sn S) (sT S) v.toNat) → GN M1 N1 (X0_is_b161 c (zI u)) (fun v M1 N1 => GN M1 N1 (f v) Q) := fun M1 N1 u e hB hF hu => by
    unfold a_is at h
    rw [if_pos e] at h
    unfold X0_is_b161 X0_is_b171
    rw [z_0, z_1]
    rcases hu with ⟨rfl, hu⟩ | ⟨rfl, hu⟩
    · rw [if_pos hu] at h
      exact w_eq ⟨by omega, by omega⟩ ⟨by omega, by omega⟩ (fun x => absurd x (by decide)) (fun _ => w_gives (hR.cl.bg hB) (w_jp (c_fin hR hB hF h)))
    · rw [if_neg hu] at h
      exact w_eq ⟨by omega, by omega⟩ ⟨by omega, by omega⟩ (fun _ => w_gives (hR.cl.bg hB) (w_jp (c_fin hR hB hF h))) (fun x => absurd rfl x)
  have hdd : ∀ (x : Nat) (y : Nat) (N1 : NM), 0 ≤ v ∧ v ≤ 5 → x ≤ 100 → y ≤ 100 → (x = y ↔ isS (sp S) (sn S) (sT S) v.toNat) → CFr c N N1 → GN M N1 (if zI (x : Nat) = zI (y : Nat) then X0_is_b161 c 1 else X0_is_b161 c 0) (fun v M1 N1 => GN M1 N1 (f v) Q) := fun x y N1 e hx hy he hF => by
    rw [z_1, z_0]
    refine w_eq ⟨by omega, by omega⟩ ⟨by omega, by omega⟩ (fun e1 => ?_) (fun e1 => ?_)
    · exact hans M N1 1 e (Bg.rf hR.cl) hF (Or.inl ⟨rfl, he.mp (by omega)⟩)
    · exact hans M N1 0 e (Bg.rf hR.cl) hF (Or.inr ⟨rfl, fun q => e1 (by rw [he.mpr q])⟩)
  refine w_swz hv (fun e => hdef (by omega)) (fun k hk => ?_)
  obtain rfl : v = k := by omega
  by_cases e : 0 ≤ (k : Int) ∧ (k : Int) ≤ 5
  case neg =>
    rw [List.getElem?_eq_none (by show 6 ≤ k; omega)]
    exact hdef e
  have hF : ∀ N1 : NM, (∀ x, x < c + 72 ∨ c + 117 ≤ x → N1 x = N x) → CFr c N N1 := fun N1 g => CFr.of (fun b hb => g b (by omega))
  rcases (show k = 0 ∨ k = 1 ∨ k = 2 ∨ k = 3 ∨ k = 4 ∨ k = 5 by omega) with rfl | rfl | rfl | rfl | rfl | rfl
  · show GN M N (jb (jgetA 0 2 c) _) _
    refine w_Cf hR.cl rfl ?_
    rw [show (1 : Int32) = zI ((1 : Nat) : Int) from rfl, z_0]
    exact w_derivedOf (k := 1) hR.cl hR.cl.w6 hR.w (by omega) (by omega) (fun N1 g => hdd _ 0 N1 e (Nat.le_trans dm_le (by omega)) (by omega) Iff.rfl (hF N1 g))
  · show GN M N (jb (jgetA 0 2 c) _) _
    refine w_Cf hR.cl rfl ?_
    rw [show (5 : Int32) = zI ((5 : Nat) : Int) from rfl, z_0]
    exact w_lowerOf (k := 5) hR.cl hR.cl.w6 hR.w (by omega) (by omega) (fun N1 g => hdd _ 0 N1 e (Nat.le_trans dm_le (by omega)) (by omega) Iff.rfl (hF N1 g))
  · show GN M N (jb (jgetA 0 2 c) _) _
    refine w_Cf hR.cl rfl ?_
    rw [show (5 : Int32) = zI ((5 : Nat) : Int) from rfl, z_0]
    exact w_derivedOf (k := 5) hR.cl hR.cl.w6 hR.w (by omega) (by omega) (fun N1 g => hdd _ 0 N1 e (Nat.le_trans dm_le (by omega)) (by omega) Iff.rfl (hF N1 g))
  · show GN M N (jb (jgetA 0 2 c) _) _
    refine w_Cf hR.cl rfl ?_
    rw [show (1 : Int32) = zI ((1 : Nat) : Int) from rfl]
    refine w_derivedOf (k := 1) hR.cl hR.cl.w6 hR.w (by omega) (by omega) (fun N1 g => ?_)
    refine w_Cf hR.cl rfl (w_Wp hR.cl.w6 ?_)
    rw [show N1 (c + 6) 2 = (sn S : Int) by rw [g _ (by omega)]; exact hR.w.ne]
    exact hdd _ (sn S) N1 e (Nat.le_trans dm_le (by omega)) (by omega) Iff.rfl (hF N1 g)
  · show GN M N (jb (jgetA 0 2 c) _) _
    refine w_Cf hR.cl rfl ?_
    exact w_isSimple hR.cl hR.cl.w6 hR.w (by omega) (fun M1 N1 u hu hB g => hans M1 N1 u e hB (CFr.rows g) hu)
  · show GN M N (jb (jgetA 0 2 c) _) _
    refine w_Cf hR.cl rfl ?_
    exact w_isUnimodular hR.cl hR.cl.w6 hR.w (fun u hu => hans M N u e (Bg.rf hR.cl) CFr.rf hu)
end OPS17
