/-! TEXTS: the model reads a step. -/
set_option maxRecDepth 100000
section RSM4
variable {α τ : Type} {M M' M1 M2 : Mem} {N N' N1 N2 : NM} {m a k e b d i j q n cnt wi : Nat} {z lo kd p v : Int} {t : Tx} {tk tk' u : Tk} {st : Except Er Tk} {r : Nat → Int}
theorem upW_w {a : Arr} {r r' : Nat → Int} : upW (upW a i r) i r' = upW a i r' := by
  funext q
  unfold upW
  by_cases e : q = i
  · rw [if_pos e, if_pos e]
  · rw [if_neg e, if_neg e, if_neg e]
theorem m_readStep : ∀ d wi M N (x : Rd3), 4 ≤ d + wi → wi ≤ 3 → ML M m → StM M N m t (.ok x) → x.2.1 ≤ 30 → ∀ {τ : Type} {f : Unit → JM Mem τ} {Q : τ → Mem → NM → Prop}, (∀ M' N', NtM m M N M' N' → StM M' N' m t (pStep t d wi x) → GN M' N' (f ()) Q) → GN M N (jb (jcall 7 m (f_X8_readStep d m (zI (wi : Nat)))) f) Q := by
  intro d
  induction d with
  | zero => intro wi M N x h1 h2; omega
  | succ d ih =>
    intro wi M N x hd hw hM hs hx30 τ f Q h
    have hx : MRd M N m t x.1 := PSM.at hs.1
    obtain ⟨hcnt, harr⟩ := hs.2 x rfl
    have e1 : pStep t (d + 1) wi x = match stepNo t x.1 with
      | none => .error (flt x.1 2)
      | some j => if x.2.1 = 30 then .error (flt x.1 6) else if (j = 6 ∨ j = 7) ∧ wi = 3 then .error (flt x.1 7) else pStep2 t (pStep t d) wi j x := rfl
    rw [e1] at h
    obtain ⟨xu, xc, xa⟩ := x
    have hcnt : N m 70 = (xc : Nat) := hcnt
    have harr : ∀ i k, k < 7 → N (m + 8) (7 * i + k) = xa i k := harr
    have hx : MRd M N m t xu := hx
    have hx30 : xc ≤ 30 := hx30
    refine w_Mc hM ?_
    show GN M N (e_X8_readStep (f_X8_readStep d) m (zI (wi : Nat))) _
    unfold e_X8_readStep X8_readStep_b17
    -- what is wrong ends it
    have bad83 : ∀ (er : Er) M1 N1 x2 x3, NtM m M N M1 N1 → PSM M1 N1 m t (.error er) → (∀ M' N', NtM m M N M' N' → StM M' N' m t (.error er) → GN M' N' (f ()) Q) → GN M1 N1 (X8_readStep_b83 (f_X8_readStep d) m (zI (wi : Nat)) x2 x3) (fun v M1 N1 => GN M1 N1 (f v) Q) := fun er M1 N1 x2 x3 n1 hP h => by
      unfold X8_readStep_b83
      rw [z_0]
      refine m_badV (n1.ml hM) hP (fun v v1 v2 _ => ?_)
      exact w_le ⟨by omega, by omega⟩ ⟨by omega, by omega⟩ (fun x => absurd x (by omega)) (fun _ => w_jp (h M1 N1 n1 (StM.er hP)))
    have bad57 : ∀ (er : Er) M1 N1 x2 x3, NtM m M N M1 N1 → PSM M1 N1 m t (.error er) → (∀ M' N', NtM m M N M' N' → StM M' N' m t (.error er) → GN M' N' (f ()) Q) → GN M1 N1 (X8_readStep_b57 (f_X8_readStep d) m (zI (wi : Nat)) x2 x3) (fun v M1 N1 => GN M1 N1 (f v) Q) := fun er M1 N1 x2 x3 n1 hP h => by
      unfold X8_readStep_b57
      rw [z_0]
      refine m_badV (n1.ml hM) hP (fun v v1 v2 _ => ?_)
      exact w_eq ⟨by omega, by omega⟩ ⟨by omega, by omega⟩ (fun x => absurd x (by omega)) (fun _ => bad83 er M1 N1 _ _ n1 hP h)
    have bad31 : ∀ (er : Er) M1 N1 x2 x3, NtM m M N M1 N1 → PSM M1 N1 m t (.error er) → (∀ M' N', NtM m M N M' N' → StM M' N' m t (.error er) → GN M' N' (f ()) Q) → GN M1 N1 (X8_readStep_b31 (f_X8_readStep d) m (zI (wi : Nat)) x2 x3) (fun v M1 N1 => GN M1 N1 (f v) Q) := fun er M1 N1 x2 x3 n1 hP h => by
      unfold X8_readStep_b31
      rw [z_0]
      refine m_badV (n1.ml hM) hP (fun v v1 v2 _ => ?_)
      exact w_eq ⟨by omega, by omega⟩ ⟨by omega, by omega⟩ (fun x => absurd x (by omega)) (fun _ => bad57 er M1 N1 _ _ n1 hP h)
    refine m_stepWord hM hx (fun v hv => ?_)
    rw [z_6, z_7]
    rcases hv with ⟨j, hj, rfl, hk⟩ | ⟨rfl, hn⟩
    rotate_left
    · rw [stepNo_n hn] at h
      have h : ∀ M' N', NtM m M N M' N' → StM M' N' m t (.error (flt xu 2)) → GN M' N' (f ()) Q := h
      refine w_eq ⟨by omega, by omega⟩ ⟨by omega, by omega⟩ (fun x => absurd x (by omega)) (fun _ => ?_)
      refine w_eq ⟨by omega, by omega⟩ ⟨by omega, by omega⟩ (fun x => absurd x (by omega)) (fun _ => ?_)
      unfold X8_readStep_b22
      rw [z_0]
      refine w_le ⟨by omega, by omega⟩ ⟨by omega, by omega⟩ (fun x => absurd x (by omega)) (fun _ => ?_)
      obtain ⟨_, _, _, h12⟩ := hs.1
      exact m_wrong hM hx h12 (fun N1 n1 hP => bad31 _ M N1 _ _ n1.nt hP h)
    rw [stepNo_s hj hk] at h
    have h : ∀ M' N', NtM m M N M' N' → StM M' N' m t (if xc = 30 then .error (flt xu 6) else if (j = 6 ∨ j = 7) ∧ wi = 3 then .error (flt xu 7) else pStep2 t (pStep t d) wi j (xu, xc, xa)) → GN M' N' (f ()) Q := h
    have hu1 : xu.2.2.1 ≠ 1 := by rw [hk.1]; omega
    -- a step
    have good : ∀ x3 : Int32, (x3 = zI 1 ∧ (j = 6 ∨ j = 7) ∨ x3 = zI 0 ∧ ¬ (j = 6 ∨ j = 7)) → xc ≠ 30 → ((j = 6 ∨ j = 7) → wi ≠ 3) → (∀ M' N', NtM m M N M' N' → StM M' N' m t (pStep2 t (pStep t d) wi j (xu, xc, xa)) → GN M' N' (f ()) Q) → GN M N (X8_readStep_b83 (f_X8_readStep d) m (zI (wi : Nat)) (zI (j : Nat)) x3) (fun v M1 N1 => GN M1 N1 (f v) Q) := fun x3 hx3 hc hw3 h => by
      have hc30 : xc < 30 := by omega
      rw [pSt_e] at h
      unfold X8_readStep_b83
      rw [z_0, z_7, z_1, show (59 : Int32) = zI 59 from rfl]
      refine m_good hM hs.1 (w_le ⟨by omega, by omega⟩ ⟨by omega, by omega⟩ (fun _ => ?_) (fun x => absurd x (by omega)))
      refine w_MI hM ?_
      rw [hcnt, zI_mul, show (7 * (xc : Int)) = ((7 * xc : Nat) : Int) by omega]
      refine w_jlet (w_MI hM ?_)
      rw [hcnt, zI_add, show ((xc : Int) + 1) = ((xc + 1 : Nat) : Int) by omega]
      refine w_Mput hM ?_
      have hx1 : MRd M (up2 N m 70 ((xc + 1 : Nat) : Int)) m t xu := hx.up (Or.inr (Or.inr (by omega)))
      refine m_next hM hx1.1 hx1.2.2.2.2.1 hx1.2.1.2.1 (fun M2 N2 n2 hx2 => ?_)
      have hM2 := n2.ml hM
      have nt2 : NtM m M N M2 N2 := NtM.rf.u70.tr n2.ny.nt
      have c2 : N2 m 70 = ((xc + 1 : Nat) : Int) := by rw [n2.2.1 70 (Or.inr (by omega)), upv]
      have a2 : N2 (m + 8) = N (m + 8) := by rw [n2.1 (m + 8) (by omega), upb (show m + 8 ≠ m by omega)]
      have z2 : N2 m 12 = 0 := by
        rw [n2.2.1 12 (by omega), upk (by omega)]
        obtain ⟨_, _, _, h12⟩ := hs.1
        exact h12
      refine w_Mf hM2 rfl (w_ast (hM2.ka (o := 8) (d := (0, 300)) rfl) (by omega) (by omega) ?_)
      rw [show (((7 * xc : Nat) : Int).toNat) = 7 * xc from rfl]
      have hs3 : RrM M2 (up2 N2 (m + 8) (7 * xc) (j : Nat)) m t xc (.ok (nx t xu, upR (xa xc) 0 (j : Nat))) := by
        refine ⟨PSM.n8 (N := N2) ⟨_, hx2, rfl, z2⟩ (fun b hb => upb hb), fun y hy k hk => ?_⟩
        have hy := Except.ok.inj hy
        rw [← hy]
        show _ = upR (xa xc) 0 (j : Nat) k
        by_cases e : k = 0
        · rw [e, show 7 * xc + 0 = 7 * xc from rfl, upv, upR_v]
        · rw [upk (by omega), upR_n e, a2]
          exact harr xc k hk
      refine m_readRest hM2 hs3 hc30 hj upR_v (fun M4 N4 n4 hs4 => ?_)
      have hM4 := n4.ml hM2
      refine m_mustSg hM4 hs4.1 (fun M5 N5 n5 hP5 => ?_)
      have hs5 : RrM M5 N5 m t xc (pSt t j xu (upR (xa xc) 0 (j : Nat))) := hs4.ck n5 hP5
      have hM5 := n5.ml hM4
      have n45 := n4.tr n5.nw
      have nt5 : NtM m M N M5 N5 := nt2.tr ((NtM.rf.u8).tr n45.nt)
      have c5 : N5 m 70 = ((xc + 1 : Nat) : Int) := by rw [n45.2.2.1 70 (Or.inr (by omega)), upb (show m ≠ m + 8 by omega)]; exact c2
      have a5 : ∀ l, l < 7 * xc ∨ 7 * xc + 7 ≤ l → N5 (m + 8) l = N (m + 8) l := fun l hl => by rw [n45.2.1 l hl, upk (by omega), a2]
      have hS5 : StM M5 N5 m t (pbd (pSt t j xu (upR (xa xc) 0 (j : Nat))) fun y => .ok (y.1, xc + 1, upW xa xc y.2)) := by
        have e : tkD (pbd (pSt t j xu (upR (xa xc) 0 (j : Nat))) fun y => Except.ok (y.1, xc + 1, upW xa xc y.2)) = tkE (pSt t j xu (upR (xa xc) 0 (j : Nat))) := by cases pSt t j xu (upR (xa xc) 0 (j : Nat)) <;> rfl
        refine ⟨by rw [e]; exact hs5.1, fun y hy => ?_⟩
        obtain ⟨w, g1, g2⟩ := pbd_f hy
        have g2 := Except.ok.inj g2
        rw [← g2]
        refine ⟨c5, fun i k hk => ?_⟩
        show _ = upW xa xc w.2 i k
        by_cases e : i = xc
        · rw [e, upW_v]
          exact hs5.2 w g1 k hk
        · rw [upW_n e, a5 _ (by omega)]
          exact harr i k hk
      rcases hx3 with ⟨rfl, cb⟩ | ⟨rfl, cb⟩
      rotate_left
      · simp only [if_neg cb] at h
        refine w_unroll ?_
        unfold X8_readStep_L138
        rw [z_0]
        refine w_eq ⟨by omega, by omega⟩ ⟨by omega, by omega⟩ (fun _ => w_jinl ?_) (fun x => absurd rfl x)
        unfold X8_readStep_b166 X8_readStep_b188
        rw [z_0, z_6]
        refine w_eq ⟨by omega, by omega⟩ ⟨by omega, by omega⟩ (fun _ => ?_) (fun x => absurd rfl x)
        refine m_end hM5 hS5 hc30 (fun N6 n6 hS6 => w_jp (h M5 N6 (nt5.tr n6) ?_))
        simp only [pbd_as, pbd_ok, upW_v, upW_w] at hS6
        exact hS6
      · simp only [if_pos cb] at h
        have hw4 : wi + 1 ≤ 3 := by have := hw3 cb; omega
        refine m_seq (one := pStep t d (wi + 1)) (fun M N x hM hs hx {f Q} h => ?_) (fun x y a b e => ?_) (t.1 + 1) M5 N5 _ hM5 hS5 (fun x hx => ?_) (fun M6 N6 n6 hS6 => ?_)
        · rw [zI_add, show ((wi : Int) + 1) = ((wi + 1 : Nat) : Int) by omega]
          exact ih (wi + 1) M N x (by omega) hw4 hM hs hx h
        · obtain ⟨k1, _, k3⟩ := pStep_f d (wi + 1) x y hw4 a b e
          exact ⟨k1, k3⟩
        · obtain ⟨w, g1, g2⟩ := pbd_f hx
          have g2 := Except.ok.inj g2
          rw [← g2]
          exact ⟨by show xc + 1 ≤ 30; omega, by show t.1 < t.1 + 1 + w.1.1; omega⟩
        · have hM6 := n6.ml hM5
          unfold X8_readStep_b166 X8_readStep_b188
          rw [z_0, z_6, show (59 : Int32) = zI 59 from rfl]
          refine w_eq ⟨by omega, by omega⟩ ⟨by omega, by omega⟩ (fun x => absurd x (by decide)) (fun _ => ?_)
          refine m_must_isEnd hM6 hS6.1 (fun M7 N7 n7 hP7 => ?_)
          have hS7 := hS6.ck n7 hP7
          have hM7 := n7.ml hM6
          refine m_mustSg hM7 hS7.1 (fun M8 N8 n8 hP8 => ?_)
          have hS8 := hS7.ck n8 hP8
          have hM8 := n8.ml hM7
          refine m_end hM8 hS8 hc30 (fun N9 n9 hS9 => w_jp (h M8 N9 (nt5.tr (n6.tr (n7.nt.tr (n8.nt.tr n9)))) ?_))
          simp only [pbd_as, pbd_ok] at hS9
          exact hS9
    -- how one comes there
    have go31 : ∀ x3 : Int32, (x3 = zI 1 ∧ (j = 6 ∨ j = 7) ∨ x3 = zI 0 ∧ ¬ (j = 6 ∨ j = 7)) → GN M N (X8_readStep_b31 (f_X8_readStep d) m (zI (wi : Nat)) (zI (j : Nat)) x3) (fun v M1 N1 => GN M1 N1 (f v) Q) := fun x3 hx3 => by
      unfold X8_readStep_b31
      rw [z_0, z_6, z_30]
      refine m_good hM hs.1 (w_eq ⟨by omega, by omega⟩ ⟨by omega, by omega⟩ (fun _ => ?_) (fun x => absurd rfl x))
      refine w_MI hM ?_
      rw [hcnt]
      by_cases c1 : xc = 30
      · rw [if_pos c1] at h
        refine w_eq ⟨by omega, by omega⟩ ⟨by omega, by omega⟩ (fun _ => ?_) (fun x => absurd (by omega) x)
        exact m_failP hM hs.1 ⟨by omega, by omega⟩ hu1 (fun N1 n1 hP => bad57 _ M N1 _ _ n1.nt hP h)
      rw [if_neg c1] at h
      refine w_eq ⟨by omega, by omega⟩ ⟨by omega, by omega⟩ (fun x => absurd x (by omega)) (fun _ => ?_)
      unfold X8_readStep_b57
      rw [z_0, z_7, z_3]
      refine m_good hM hs.1 (w_eq ⟨by omega, by omega⟩ ⟨by omega, by omega⟩ (fun _ => ?_) (fun x => absurd rfl x))
      rcases id hx3 with ⟨rfl, cb⟩ | ⟨rfl, cb⟩
      · refine w_eq ⟨by omega, by omega⟩ ⟨by omega, by omega⟩ (fun x => absurd x (by decide)) (fun _ => ?_)
        by_cases c3 : wi = 3
        · rw [if_pos ⟨cb, c3⟩] at h
          refine w_eq ⟨by omega, by omega⟩ ⟨by omega, by omega⟩ (fun _ => ?_) (fun x => absurd (by omega) x)
          exact m_failP hM hs.1 ⟨by omega, by omega⟩ hu1 (fun N1 n1 hP => bad83 _ M N1 _ _ n1.nt hP h)
        · rw [if_neg (fun x => c3 x.2)] at h
          refine w_eq ⟨by omega, by omega⟩ ⟨by omega, by omega⟩ (fun x => absurd x (by omega)) (fun _ => ?_)
          exact good _ hx3 c1 (fun _ => c3) h
      · rw [if_neg (fun x => cb x.1)] at h
        refine w_eq ⟨by omega, by omega⟩ ⟨by omega, by omega⟩ (fun _ => ?_) (fun x => absurd rfl x)
        exact good _ hx3 c1 (fun y => absurd y cb) h
    have go22 : ∀ x3 : Int32, (x3 = zI 1 ∧ (j = 6 ∨ j = 7) ∨ x3 = zI 0 ∧ ¬ (j = 6 ∨ j = 7)) → GN M N (X8_readStep_b22 (f_X8_readStep d) m (zI (wi : Nat)) (zI (j : Nat)) x3) (fun v M1 N1 => GN M1 N1 (f v) Q) := fun x3 hx3 => by
      unfold X8_readStep_b22
      rw [z_0]
      exact w_le ⟨by omega, by omega⟩ ⟨by omega, by omega⟩ (fun _ => go31 x3 hx3) (fun x => absurd x (by omega))
    refine w_eq ⟨by omega, by omega⟩ ⟨by omega, by omega⟩ (fun c => go22 _ (Or.inl ⟨rfl, by omega⟩)) (fun c => ?_)
    exact w_eq ⟨by omega, by omega⟩ ⟨by omega, by omega⟩ (fun c => go22 _ (Or.inl ⟨rfl, by omega⟩)) (fun c2 => go22 _ (Or.inr ⟨rfl, by omega⟩))
end RSM4
