/-! TEXTS: the model reads the rest of a step. -/
set_option maxRecDepth 100000
section RSM2
variable {α τ : Type} {M M' M1 M2 : Mem} {N N' N1 N2 : NM} {m a k e b d i j q n : Nat} {z lo kd p v : Int} {t : Tx} {tk tk' u : Tk} {Q : τ → Mem → NM → Prop} {st : Except Er Tk} {r : Nat → Int} {s : Rr}
theorem m_readTest {f : Unit → JM Mem τ} (hM : ML M m) (hs : RrM M N m t i (.ok (u, r))) (hi : i < 30) (h : ∀ M' N', NwM m i M N M' N' → RrM M' N' m t i (pTest t u r) → GN M' N' (f ()) Q) : GN M N (jb (jcall 7 m (f_X8_readTest m (zI ((7 * i : Nat) : Int)))) f) Q := by
  have hx : MRd M N m t u := PSM.at hs.1
  refine w_Mc hM ?_
  unfold f_X8_readTest X8_readTest_b15 X8_readTest_b46 X8_readTest_b56
  rw [z_0, z_1, z_2, z_3, z_4, z_5, z_6]
  refine m_testWord hM hx (fun v hv => ?_)
  unfold pTest at h
  rcases hv with ⟨j, hj, rfl, hk⟩ | ⟨rfl, hn⟩
  · rw [testNo_s hj hk] at h
    have h : ∀ M' N', NwM m i M N M' N' → RrM M' N' m t i (pTest2 t j (nx t u) (upR r 1 j)) → GN M' N' (f ()) Q := h
    refine w_lt ⟨by omega, by omega⟩ ⟨by omega, by omega⟩ (fun x => absurd x (by omega)) (fun _ => ?_)
    refine m_must (good := fun tk2 => ∃ j, j < 7 ∧ kw t tk2 (kwtestWord j)) hM hs.1 (fun tk2 hx2 => Or.inl ⟨rfl, j, hj, hx.kwq hx2 hk⟩) (fun M1 N1 n1 hP1 => ?_)
    have hs1 := hs.ck n1 hP1
    have hM1 := n1.ml hM
    refine m_rec (q := 1) hM1 hs1 hi (by omega) rfl (fun N2 n2 hs2 => ?_)
    have es : (pbd (pbd (Except.ok (u, r)) fun y => pbd (pMust t (fun tk2 => ∃ j, j < 7 ∧ kw t tk2 (kwtestWord j)) y.1) fun u => Except.ok (u, y.2)) fun y => Except.ok (y.1, upR y.2 1 (j : Int))) = (Except.ok (nx t u, upR r 1 j) : Rr) := by
      show pbd (pbd (pMust t (fun tk2 => ∃ j, j < 7 ∧ kw t tk2 (kwtestWord j)) u) _) _ = _
      unfold pMust
      rw [if_pos ⟨j, hj, hk⟩]
      rfl
    rw [es] at hs2
    have n02 := n1.nw.tr n2
    have hM2 := n2.ml hM1
    generalize nx t u = w at *
    clear es
    by_cases c4 : j = 4
    · refine w_eq ⟨by omega, by omega⟩ ⟨by omega, by omega⟩ (fun _ => ?_) (fun x => absurd (by omega) x)
      refine m_cw (q := 2) hM2 hs2 hi (by omega) rfl ⟨by omega, by omega⟩ ⟨by omega, by omega⟩ (fun M3 N3 n3 hs3 => ?_)
      refine w_eq ⟨by omega, by omega⟩ ⟨by omega, by omega⟩ (fun _ => ?_) (fun x => absurd (by omega) x)
      refine m_readSign (n3.ml hM2) hs3 hi (fun M4 N4 n4 hs4 => w_jp (h M4 N4 (n02.tr (n3.tr n4)) ?_))
      unfold pTest2
      rw [if_pos c4]
      simp only [pbd_as, pbd_ok] at hs4
      exact hs4
    refine w_eq ⟨by omega, by omega⟩ ⟨by omega, by omega⟩ (fun x => absurd x (by omega)) (fun _ => ?_)
    refine w_eq ⟨by omega, by omega⟩ ⟨by omega, by omega⟩ (fun x => absurd x (by omega)) (fun _ => ?_)
    by_cases c5 : j = 5
    · refine w_eq ⟨by omega, by omega⟩ ⟨by omega, by omega⟩ (fun _ => ?_) (fun x => absurd (by omega) x)
      refine m_readSign hM2 hs2 hi (fun M4 N4 n4 hs4 => w_jp (h M4 N4 (n02.tr n4) ?_))
      unfold pTest2
      rw [if_neg c4, if_pos c5]
      exact hs4
    refine w_eq ⟨by omega, by omega⟩ ⟨by omega, by omega⟩ (fun x => absurd x (by omega)) (fun _ => ?_)
    by_cases c6 : j = 6
    · refine w_eq ⟨by omega, by omega⟩ ⟨by omega, by omega⟩ (fun _ => ?_) (fun x => absurd (by omega) x)
      refine m_cw (q := 2) hM2 hs2 hi (by omega) rfl ⟨by omega, by omega⟩ ⟨by omega, by omega⟩ (fun M3 N3 n3 hs3 => w_jp (h M3 N3 (n02.tr n3) ?_))
      unfold pTest2
      rw [if_neg c4, if_neg c5, if_pos c6]
      exact hs3
    refine w_eq ⟨by omega, by omega⟩ ⟨by omega, by omega⟩ (fun x => absurd x (by omega)) (fun _ => w_jp (h _ _ n02 ?_))
    unfold pTest2
    rw [if_neg c4, if_neg c5, if_neg c6]
    exact hs2
  · rw [testNo_n hn] at h
    have h : ∀ M' N', NwM m i M N M' N' → RrM M' N' m t i (.error (flt u 2)) → GN M' N' (f ()) Q := h
    refine w_lt ⟨by omega, by omega⟩ ⟨by omega, by omega⟩ (fun _ => ?_) (fun x => absurd x (by omega))
    refine m_must (good := fun tk2 => ∃ j, j < 7 ∧ kw t tk2 (kwtestWord j)) hM hs.1 (fun tk2 hx2 => Or.inr ⟨rfl, fun ⟨j, hj, hk⟩ => hn j hj (hx2.kwq hx hk)⟩) (fun M1 N1 n1 hP1 => ?_)
    have hs1 := hs.ck n1 hP1
    have hM1 := n1.ml hM
    refine m_rec (q := 1) hM1 hs1 hi (by omega) rfl (fun N2 n2 hs2 => ?_)
    have es : (pbd (pbd (Except.ok (u, r)) fun y => pbd (pMust t (fun tk2 => ∃ j, j < 7 ∧ kw t tk2 (kwtestWord j)) y.1) fun u => Except.ok (u, y.2)) fun y => Except.ok (y.1, upR y.2 1 (-1))) = (Except.error (flt u 2) : Rr) := by
      show pbd (pbd (pMust t (fun tk2 => ∃ j, j < 7 ∧ kw t tk2 (kwtestWord j)) u) _) _ = _
      unfold pMust
      rw [if_neg (fun ⟨j, hj, hk⟩ => hn j hj hk)]
      rfl
    rw [es] at hs2
    refine w_eq ⟨by omega, by omega⟩ ⟨by omega, by omega⟩ (fun x => absurd x (by omega)) (fun _ => ?_)
    refine w_eq ⟨by omega, by omega⟩ ⟨by omega, by omega⟩ (fun x => absurd x (by omega)) (fun _ => ?_)
    refine w_eq ⟨by omega, by omega⟩ ⟨by omega, by omega⟩ (fun x => absurd x (by omega)) (fun _ => ?_)
    exact w_eq ⟨by omega, by omega⟩ ⟨by omega, by omega⟩ (fun x => absurd x (by omega)) (fun _ => w_jp (h _ _ (n1.nw.tr n2) hs2))
theorem m_readRest {f : Unit → JM Mem τ} (hM : ML M m) (hs : RrM M N m t i (.ok (u, r))) (hi : i < 30) (hj : j < 9) (h0 : r 0 = j) (h : ∀ M' N', NwM m i M N M' N' → RrM M' N' m t i (pRest t j u r) → GN M' N' (f ()) Q) : GN M N (jb (jcall 7 m (f_X8_readRest m (zI ((7 * i : Nat) : Int)))) f) Q := by
  refine w_Mc hM ?_
  unfold f_X8_readRest
  rw [z_0, z_1, z_2, z_3, z_4, z_6, z_7, show (99 : Int32) = zI 99 from rfl]
  refine w_Mf hM rfl (w_ald (hM.ka (o := 8) (d := (0, 300)) rfl) (by omega) (by omega) ?_)
  rw [show (((7 * i : Nat) : Int).toNat) = 7 * i + 0 from rfl, hs.2 _ rfl 0 (by omega), show ((u, r) : Tk × (Nat → Int)).2 0 = (j : Int) from h0]
  unfold pRest at h
  by_cases c0 : j = 0
  · rw [if_pos c0] at h
    refine w_eq ⟨by omega, by omega⟩ ⟨by omega, by omega⟩ (fun _ => ?_) (fun x => absurd (by omega) x)
    refine m_cw (q := 1) hM hs hi (by omega) rfl ⟨by omega, by omega⟩ ⟨by omega, by omega⟩ (fun M1 N1 n1 hs1 => ?_)
    refine m_cw (q := 2) (n1.ml hM) hs1 hi (by omega) rfl ⟨by omega, by omega⟩ ⟨by omega, by omega⟩ (fun M2 N2 n2 hs2 => w_jp (h M2 N2 (n1.tr n2) ?_))
    simp only [pbd_as, pbd_ok] at hs2
    exact hs2
  rw [if_neg c0] at h
  refine w_eq ⟨by omega, by omega⟩ ⟨by omega, by omega⟩ (fun x => absurd x (by omega)) (fun _ => ?_)
  by_cases c1 : j = 1
  · rw [if_pos c1] at h
    refine w_eq ⟨by omega, by omega⟩ ⟨by omega, by omega⟩ (fun _ => ?_) (fun x => absurd (by omega) x)
    refine m_cw (q := 1) hM hs hi (by omega) rfl ⟨by omega, by omega⟩ ⟨by omega, by omega⟩ (fun M1 N1 n1 hs1 => ?_)
    have hM1 := n1.ml hM
    refine m_must_isBy hM1 hs1.1 (fun M2 N2 n2 hP2 => ?_)
    have hs2 := hs1.ck n2 hP2
    refine m_cw (q := 2) (n2.ml hM1) hs2 hi (by omega) rfl ⟨by omega, by omega⟩ ⟨by omega, by omega⟩ (fun M3 N3 n3 hs3 => w_jp (h M3 N3 (n1.tr (n2.nw.tr n3)) ?_))
    simp only [pbd_as, pbd_ok] at hs3
    exact hs3
  rw [if_neg c1] at h
  refine w_eq ⟨by omega, by omega⟩ ⟨by omega, by omega⟩ (fun x => absurd x (by omega)) (fun _ => ?_)
  by_cases c2 : j = 2
  · rw [if_pos c2] at h
    refine w_eq ⟨by omega, by omega⟩ ⟨by omega, by omega⟩ (fun _ => ?_) (fun x => absurd (by omega) x)
    refine m_cw (q := 3) hM hs hi (by omega) rfl ⟨by omega, by omega⟩ ⟨by omega, by omega⟩ (fun M1 N1 n1 hs1 => ?_)
    have hM1 := n1.ml hM
    refine m_must_isOf hM1 hs1.1 (fun M2 N2 n2 hP2 => ?_)
    have hs2 := hs1.ck n2 hP2
    have hM2 := n2.ml hM1
    refine m_cw (q := 1) hM2 hs2 hi (by omega) rfl ⟨by omega, by omega⟩ ⟨by omega, by omega⟩ (fun M3 N3 n3 hs3 => ?_)
    have hM3 := n3.ml hM2
    refine m_must_isTo hM3 hs3.1 (fun M4 N4 n4 hP4 => ?_)
    have hs4 := hs3.ck n4 hP4
    refine m_cw (q := 2) (n4.ml hM3) hs4 hi (by omega) rfl ⟨by omega, by omega⟩ ⟨by omega, by omega⟩ (fun M5 N5 n5 hs5 => w_jp (h M5 N5 (n1.tr (n2.nw.tr (n3.tr (n4.nw.tr n5)))) ?_))
    simp only [pbd_as, pbd_ok] at hs5
    exact hs5
  rw [if_neg c2] at h
  refine w_eq ⟨by omega, by omega⟩ ⟨by omega, by omega⟩ (fun x => absurd x (by omega)) (fun _ => ?_)
  by_cases c3 : j < 6
  · rw [if_pos c3] at h
    refine w_le ⟨by omega, by omega⟩ ⟨by omega, by omega⟩ (fun x => absurd x (by omega)) (fun _ => ?_)
    refine m_cw (q := 1) hM hs hi (by omega) rfl ⟨by omega, by omega⟩ ⟨by omega, by omega⟩ (fun M1 N1 n1 hs1 => w_jp (h M1 N1 n1 hs1))
  rw [if_neg c3] at h
  refine w_le ⟨by omega, by omega⟩ ⟨by omega, by omega⟩ (fun _ => ?_) (fun x => absurd x (by omega))
  by_cases c6 : j = 6
  · rw [if_pos c6] at h
    refine w_eq ⟨by omega, by omega⟩ ⟨by omega, by omega⟩ (fun _ => ?_) (fun x => absurd (by omega) x)
    exact m_readTest hM hs hi (fun M1 N1 n1 hs1 => w_jp (h M1 N1 n1 hs1))
  rw [if_neg c6] at h
  refine w_eq ⟨by omega, by omega⟩ ⟨by omega, by omega⟩ (fun x => absurd x (by omega)) (fun _ => ?_)
  by_cases c7 : j = 7
  · rw [if_pos c7] at h
    refine w_eq ⟨by omega, by omega⟩ ⟨by omega, by omega⟩ (fun _ => ?_) (fun x => absurd (by omega) x)
    refine m_cw (q := 1) hM hs hi (by omega) rfl ⟨by omega, by omega⟩ ⟨by omega, by omega⟩ (fun M1 N1 n1 hs1 => w_jp (h M1 N1 n1 hs1))
  rw [if_neg c7] at h
  exact w_eq ⟨by omega, by omega⟩ ⟨by omega, by omega⟩ (fun x => absurd x (by omega)) (fun _ => w_jp (h M N NwM.rf hs))
end RSM2
