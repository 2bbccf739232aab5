/-! THROWS: what ends well or throws; string constants. -/
set_option maxRecDepth 100000
section GES
variable {α τ ρ σ : Type} {M M' : Mem} {N N' : NM} {c b q : Nat} {k : Nat} {Q Q' : α → Mem → NM → Prop} {QT : τ → Mem → NM → Prop} {E E' : Nat → Mem → NM → Prop}
def GE (M : Mem) (N : NM) (f : JM Mem α) (Q : α → Mem → NM → Prop) (E : Nat → Mem → NM → Prop) : Prop :=
  (∃ v M', f (sN M N) = some (.ok v, M') ∧ ∃ B N', M' = sN B N' ∧ Q v B N') ∨ ∃ q M', f (sN M N) = some (.error q, M') ∧ ∃ B N', M' = sN B N' ∧ E q B N'
theorem ge_gn {f : JM Mem α} (h : GN M N f Q) : GE M N f Q E := Or.inl h
theorem ge_mono {f : JM Mem α} (h : GE M N f Q E) (hq : ∀ v B N', Q v B N' → Q' v B N') (he : ∀ q B N', E q B N' → E' q B N') : GE M N f Q' E' := by
  rcases h with ⟨v, M1, e, B, N', rfl, h2⟩ | ⟨q, M1, e, B, N', rfl, h2⟩
  · exact Or.inl ⟨v, _, e, B, N', rfl, hq _ _ _ h2⟩
  · exact Or.inr ⟨q, _, e, B, N', rfl, he _ _ _ h2⟩
theorem ge_b {x : JM Mem α} {f : α → JM Mem τ} (h : GE M N x (fun v M1 N1 => GE M1 N1 (f v) QT E) E) : GE M N (jb x f) QT E := by
  rcases h with ⟨v, M1, e, B, N', rfl, h2⟩ | ⟨q, M1, e, h2⟩
  · rcases h2 with ⟨v2, M2, e2, h3⟩ | ⟨q, M2, e2, h3⟩
    · exact Or.inl ⟨v2, M2, (jb_ok e).trans e2, h3⟩
    · exact Or.inr ⟨q, M2, (jb_ok e).trans e2, h3⟩
  · exact Or.inr ⟨q, M1, jb_err e, h2⟩
/-- what ends well, first -/
theorem ge_p {x : JM Mem α} {f : α → JM Mem τ} (h : GN M N (jb x fun v => jp v) (fun v M1 N1 => GE M1 N1 (f v) QT E)) : GE M N (jb x f) QT E := by
  obtain ⟨v, M1, e, B, N', rfl, h2⟩ := h
  refine ge_b (Or.inl ⟨v, _, ?_, B, N', rfl, h2⟩)
  rcases jb_cases e with ⟨v1, M2, e1, e2⟩ | ⟨q, _, e2⟩
  · have e3 : some (Except.ok v1, M2) = some (Except.ok v, sN B N') := e2
    cases e3
    exact e1
  · cases e2
theorem ge_jp {v : α} (h : Q v M N) : GE M N (jp v) Q E := Or.inl ⟨v, _, rfl, M, N, rfl, h⟩
theorem ge_thr (h : E q M N) : GE M N (jthrow q) Q E := Or.inr ⟨q, _, rfl, M, N, rfl, h⟩
theorem ge_calle {x : JM Mem α} (hK : mK M b = some (.inl c)) (h : GE M N x Q E) : GE M N (jcall c b x) Q E := by
  have e : jcall c b x (sN M N) = x (sN M N) := if_pos (show mK (sN M N) b = some (.inl c) from hK)
  unfold GE
  rw [e]
  exact h
theorem ge_call {x : JM Mem α} {f : α → JM Mem τ} (hK : mK M b = some (.inl c)) (h : GE M N x (fun v M1 N1 => GE M1 N1 (f v) QT E) E) : GE M N (jb (jcall c b x) f) QT E := ge_b (ge_calle hK h)
theorem ge_let {v : α} {f : α → JM Mem τ} (h : GE M N (f v) QT E) : GE M N (jlet v f) QT E := h
theorem ge_ite {C : Prop} [Decidable C] {x y : JM Mem α} (h1 : C → GE M N x Q E) (h2 : ¬ C → GE M N y Q E) : GE M N (if C then x else y) Q E := by
  by_cases h : C
  · rw [if_pos h]; exact h1 h
  · rw [if_neg h]; exact h2 h
theorem ge_le {x y : Int} {A B : JM Mem α} (hx : zR x) (hy : zR y) (h1 : x ≤ y → GE M N A Q E) (h2 : y < x → GE M N B Q E) : GE M N (if zI x ≤ zI y then A else B) Q E :=
  ge_ite (fun h => h1 ((zI_le hx hy).mp h)) (fun h => h2 (Int.not_le.mp (fun q => h ((zI_le hx hy).mpr q))))
theorem ge_lt {x y : Int} {A B : JM Mem α} (hx : zR x) (hy : zR y) (h1 : x < y → GE M N A Q E) (h2 : y ≤ x → GE M N B Q E) : GE M N (if zI x < zI y then A else B) Q E :=
  ge_ite (fun h => h1 ((zI_lt hx hy).mp h)) (fun h => h2 (Int.not_lt.mp (fun q => h ((zI_lt hx hy).mpr q))))
theorem ge_eq {x y : Int} {A B : JM Mem α} (hx : zR x) (hy : zR y) (h1 : x = y → GE M N A Q E) (h2 : x ≠ y → GE M N B Q E) : GE M N (if zI x = zI y then A else B) Q E :=
  ge_ite (fun h => h1 ((zI_inj hx hy).mp h)) (fun h => h2 (fun q => h ((zI_inj hx hy).mpr q)))
theorem ge_inl {x : JM Mem ρ} {R : ρ → Mem → NM → Prop} {K : σ → Mem → NM → Prop} (h : GE M N x R E) : GE M N (jinl x) (LQ R K) E := by
  rcases h with ⟨v, M1, e, h2⟩ | ⟨q, M1, e, h2⟩
  · exact Or.inl ⟨.inl v, M1, jinl_ok e, h2⟩
  · exact Or.inr ⟨q, M1, jinl_err e, h2⟩
theorem ge_cont {t : σ} {R : ρ → Mem → NM → Prop} {K : σ → Mem → NM → Prop} (q : K t M N) : GE M N (jcont t) (LQ R K) E := Or.inl ⟨.inr t, _, rfl, M, N, rfl, q⟩
theorem ge_unroll {b : σ → JM Mem (ρ ⊕ σ)} {t : σ} {R : ρ → Mem → NM → Prop} (h : GE M N (b t) (LQ R (fun t1 M1 N1 => GE M1 N1 (jloop b t1) R E)) E) : GE M N (jloop b t) R E := by
  rcases h with ⟨r, M1, e, B, N', rfl, h2⟩ | ⟨q, M1, e, h2⟩
  · cases r with
    | inl v => exact Or.inl ⟨v, _, jloop_inl e, B, N', rfl, h2⟩
    | inr t1 =>
      rcases h2 with ⟨v, M2, e2, h3⟩ | ⟨q, M2, e2, h3⟩
      · exact Or.inl ⟨v, M2, (jloop_inr e).trans e2, h3⟩
      · exact Or.inr ⟨q, M2, (jloop_inr e).trans e2, h3⟩
  · exact Or.inr ⟨q, M1, jloop_err e, h2⟩
theorem ge_keep {f : JM Mem α} (h : GE M N f (fun v B N' => Q v (sB B (mC M) (mS M)) N') (fun q B N' => E q (sB B (mC M) (mS M)) N')) : GE M N (jkeep f) Q E := by
  rcases h with ⟨v, M', e, B, N', rfl, q⟩ | ⟨q, M', e, B, N', rfl, h2⟩
  · refine Or.inl ⟨v, _, ?_, sB B (mC M) (mS M), N', rfl, q⟩
    unfold jkeep
    rw [e]
    rfl
  · refine Or.inr ⟨q, _, ?_, sB B (mC M) (mS M), N', rfl, h2⟩
    unfold jkeep
    rw [e]
    rfl
theorem ge_pay {mc ms : Nat} {f : JM Mem α} (hr : mc ≤ mC M ∧ ms ≤ mS M) (h : GE (sB M mc ms) N f (fun v B N' => Q v (sB B (mC M - mc) (mS M - ms)) N') (fun q B N' => E q (sB B (mC M - mc) (mS M - ms)) N')) : GE M N (jpay mc ms f) Q E := by
  rcases h with ⟨v, M', e, B, N', rfl, q⟩ | ⟨q, M', e, B, N', rfl, h2⟩
  · refine Or.inl ⟨v, _, ?_, sB B (mC M - mc) (mS M - ms), N', rfl, q⟩
    unfold jpay
    rw [if_pos (show mc ≤ mC (sN M N) ∧ ms ≤ mS (sN M N) from hr), show f (sB (sN M N) mc ms) = _ from e]
    rfl
  · refine Or.inr ⟨q, _, ?_, sB B (mC M - mc) (mS M - ms), N', rfl, h2⟩
    unfold jpay
    rw [if_pos (show mc ≤ mC (sN M N) ∧ ms ≤ mS (sN M N) from hr), show f (sB (sN M N) mc ms) = _ from e]
    rfl
theorem w_tryE {x : JM Mem α} {f : α → JM Mem τ} {g : Nat → JM Mem τ} (h : GE M N x (fun v B N' => GN B N' (f v) QT) (fun q B N' => GN B N' (g q) QT)) : GN M N (jtry x f g) QT := by
  rcases h with ⟨v, M', e, B, N', rfl, v2, M2, e2, q⟩ | ⟨q, M', e, B, N', rfl, v2, M2, e2, q2⟩
  · refine ⟨v2, M2, ?_, q⟩
    unfold jtry
    rw [e]
    exact e2
  · refine ⟨v2, M2, ?_, q2⟩
    unfold jtry
    rw [e]
    exact e2
theorem w_is {f : Unit → JM Mem τ} (hK : mK M b = some (.inl c)) (h : GN M N (f ()) QT) : GN M N (jb (jis c b) f) QT :=
  go_jb ⟨(), sN M N, if_pos (show mK (sN M N) b = some (.inl c) from hK), h⟩
end GES
section STRS
variable {α τ : Type} {M : Mem} {N : NM} {k : Nat} {Q : τ → Mem → NM → Prop}
/-- the two texts are two -/
def TwoT (M : Mem) : Prop := mT M 101 ≠ mT M 100 ∧ mT M 201 ≠ mT M 200
def jtn (j : Nat) : Nat := if j = 0 then 135 else 4
theorem jtn_len : ∀ j, j < 2 → (jtb j).length = jtn j := by decide
theorem jtb_chr : ∀ j, j < 2 → ∀ k, k < jtn j → (((jtb j).getD k 0 &&& 255 : Int32).toUInt32 % 65536).toInt32 = (jtb j).getD k 0 ∧ ((jtb j).getD k 0).toUInt32.toUInt16.toUInt32.toInt32 = (jtb j).getD k 0 := by decide +kernel
def chB (j k : Nat) : Int := ((jtb j).getD k 0).toInt
theorem w_callT {x : JM Mem α} {f : α → JM Mem τ} {j : Nat} (hj : j < 2) (h : GN M N x (fun v M1 N1 => GN M1 N1 (f v) Q)) : GN M N (jb (jcallT (mT M (100 + j)) x) f) Q := by
  refine w_jb ?_
  obtain ⟨v, M1, e, h2⟩ := h
  refine ⟨v, M1, ?_, h2⟩
  unfold jcallT
  rw [if_pos]
  · exact e
  · rcases (show j = 0 ∨ j = 1 by omega) with rfl | rfl
    · exact Or.inl rfl
    · exact Or.inr rfl
theorem w_strV {f : Nat → JM Mem τ} {j : Nat} (hT : TwoT M) (hj : j < 2) (h : GN M N (f (mT M (200 + j))) Q) : GN M N (jb (jstrV (mT M (100 + j))) f) Q := by
  refine go_jb (go_of (v := mT M (200 + j)) (M' := sN M N) ?_ h)
  unfold jstrV
  show (if mT M (100 + j) = mT M 100 then some (Except.ok (mT M 200), sN M N) else if mT M (100 + j) = mT M 101 then some (Except.ok (mT M 201), sN M N) else none) = _
  rcases (show j = 0 ∨ j = 1 by omega) with rfl | rfl
  · exact if_pos rfl
  · exact (if_neg hT.1).trans (if_pos rfl)
theorem strN_j {j : Nat} (hT : TwoT M) (hj : j < 2) : jstrN (sN M N) (mT M (200 + j)) = some j := by
  unfold jstrN
  show (if mT M (200 + j) = mT M 200 then some 0 else if mT M (200 + j) = mT M 201 then some 1 else none) = _
  rcases (show j = 0 ∨ j = 1 by omega) with rfl | rfl
  · exact if_pos rfl
  · exact (if_neg hT.2).trans (if_pos rfl)
theorem w_salen {f : Int32 → JM Mem τ} {j : Nat} (hT : TwoT M) (hj : j < 2) (h : GN M N (f (zI (jtn j))) Q) : GN M N (jb (jsalen (mT M (200 + j))) f) Q := by
  refine go_jb (go_of (v := zI (jtn j)) (M' := sN M N) ?_ h)
  unfold jsalen
  rw [strN_j hT hj]
  show some (Except.ok (Int32.ofNat (jtb j).length), sN M N) = _
  rw [jtn_len j hj]
  rcases (show j = 0 ∨ j = 1 by omega) with rfl | rfl <;> rfl
theorem w_length {f : Int32 → JM Mem τ} {j : Nat} (hT : TwoT M) (hj : j < 2) (h : GN M N (f (zI (jtn j))) Q) : GN M N (jb (jcallT (mT M (100 + j)) (f_J4_length (mT M (100 + j)))) f) Q := by
  refine w_callT hj ?_
  unfold f_J4_length
  refine w_strV hT hj (w_salen hT hj (w_callT hj ?_))
  unfold f_J4_coder
  rw [if_neg (by decide)]
  refine go_jb (go_of (v := (0 : Int32)) (M' := sN M N) ?_ ?_)
  · unfold jstrI
    refine if_pos ?_
    rcases (show j = 0 ∨ j = 1 by omega) with rfl | rfl
    · exact Or.inl rfl
    · exact Or.inr rfl
  · refine go_of (v := (0 : Int32)) (M' := sN M N) ?_ ⟨M, N, rfl, w_jp ?_⟩
    · unfold jrn
      exact if_pos rfl
    · have e : zI (jtn j) >>> ((0 : Int32) &&& 31) = zI (jtn j) := by
        rcases (show j = 0 ∨ j = 1 by omega) with rfl | rfl <;> decide
      rw [e]
      exact h
theorem w_charAt {f : Int32 → JM Mem τ} {j : Nat} {z : Int} (hT : TwoT M) (hj : j < 2) (hz : 0 ≤ z ∧ z < jtn j) (h : GN M N (f (zI (chB j z.toNat))) Q) : GN M N (jb (jcallT (mT M (100 + j)) (f_J4_charAt (mT M (100 + j)) (zI z))) f) Q := by
  have hn : jtn j ≤ 135 := by unfold jtn; split <;> omega
  obtain ⟨k, rfl⟩ : ∃ k : Nat, z = k := ⟨z.toNat, by omega⟩
  rw [show ((k : Int).toNat) = k from rfl] at h
  obtain ⟨c1, c2⟩ := jtb_chr j hj k (by omega)
  refine w_callT hj ?_
  unfold f_J4_charAt
  refine w_callT hj ?_
  unfold f_J4_isLatin1
  rw [if_neg (by decide)]
  refine go_jb (go_of (v := (0 : Int32)) (M' := sN M N) ?_ ?_)
  · unfold jstrI
    refine if_pos ?_
    rcases (show j = 0 ∨ j = 1 by omega) with rfl | rfl
    · exact Or.inl rfl
    · exact Or.inr rfl
  show GN M N (if (0 : Int32) = 0 then jp 1 else jp 0) _
  rw [if_pos rfl]
  refine w_jp ?_
  rw [if_neg (by decide)]
  refine w_strV hT hj (w_jb ?_)
  unfold f_J9_charAt
  refine w_salen hT hj (w_jb ?_)
  unfold f_J4_checkIndex
  refine go_jb (go_of (v := oAd (mT M) 2) (M' := sN M N) rfl ?_)
  show GN M N (jb (f_J10_checkIndex (zI k) (zI (jtn j)) (oAd (mT M) 2)) fun v2 => jp ()) _
  refine w_jb ?_
  unfold f_J10_checkIndex
  rw [z_0]
  refine w_lt ⟨by omega, by omega⟩ ⟨by omega, by omega⟩ (fun x => absurd x (by omega)) (fun _ => ?_)
  refine w_lt ⟨by omega, by omega⟩ ⟨by omega, by omega⟩ (fun _ => w_jp (w_jp ?_)) (fun x => absurd x (by omega))
  refine go_jb (go_of (v := (jtb j).getD k 0) (M' := sN M N) ?_ ?_)
  · unfold jsald
    rw [strN_j hT hj]
    have e1 : (zI (k : Int)).toInt = k := zI_to ⟨by omega, by omega⟩
    have e2 : (zI (k : Int)).toNatClampNeg = k := zI_nat (by omega)
    show (if 0 ≤ (zI (k : Int)).toInt ∧ (zI (k : Int)).toInt < ((jtb j).length : Int) then some (Except.ok ((jtb j).getD (zI (k : Int)).toNatClampNeg 0), sN M N) else none) = _
    rw [e1, e2, jtn_len j hj]
    exact if_pos ⟨by omega, by omega⟩
  · show Go (jrn FieldType.char ((((jtb j).getD k 0 &&& 255 : Int32).toUInt32 % 65536).toInt32)) _ (sN M N)
    rw [c1]
    have e : ∀ {g : Int32 → JM Mem Int32} {R : Int32 → Mem → NM → Prop}, R ((jtb j).getD k 0) M N → GN M N (jrn FieldType.char ((jtb j).getD k 0)) R := fun hR => by
      refine go_of (v := (jtb j).getD k 0) (M' := sN M N) ?_ ⟨M, N, rfl, hR⟩
      unfold jrn
      refine if_pos ?_
      show Value.int _ = _
      rw [c2]
    refine e (g := fun v => jp v) (e (g := fun v => jp v) ?_)
    have : zI (chB j k) = (jtb j).getD k 0 := zI_of _
    rw [← this]
    exact h
end STRS
