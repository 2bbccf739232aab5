/-! TEXTS: the component's words, and what it asks of a token. -/
set_option maxRecDepth 100000
section TXW
variable {α τ : Type} {M M' : Mem} {N N' : NM} {c k e e0 b d n i : Nat} {z lo hi kd : Int} {t : Tx} {tk : Tk} {Q : τ → Mem → NM → Prop} {E : Nat → Mem → NM → Prop} {res : Except Er α}
/-- where key words stand -/
def kwS : Nat → Nat
  | 0 => 1
  | n + 1 => kwS n + (kwL n).length + 1
theorem kwS_chr : ∀ n, n < 24 → (∀ i, i < (kwL n).length → chB 0 (kwS n + i) = kwA n i) ∧ chB 0 (kwS n + (kwL n).length) = 32 ∧ kwS n + (kwL n).length < 135 := by decide +kernel
theorem kwS_end : kwS 24 = 135 := by decide
theorem kwA_b (hn : n < 24) (hi : i < (kwL n).length) : 97 ≤ kwA n i ∧ kwA n i ≤ 122 := kwL_ltr n hn i hi
theorem c_isWord {f : Int32 → JM Mem τ} (hC : CL M c) (hT : TwoT M) (hx : CRd N c t tk) (h2 : tk.2.2.1 = 2) (hn : n < 24) (h : ∀ v, (v = 1 ∧ kw t tk n ∨ v = 0 ∧ ¬ kw t tk n) → GN M N (f (zI v)) Q) :
    GN M N (jb (jcall 1 (c + 2) (f_X1_isWord (c + 2) (mT M (100 + 0)) (zI (kwS n : Nat)) (zI ((kwS n + (kwL n).length : Nat) : Int)))) f) Q := by
  have hr := hC.rd
  obtain ⟨x1, ⟨k1, k2, k3, k4, k5, k6, k7, k8⟩, x3, x4, x5, x6⟩ := hx
  obtain ⟨s1, s2, s3⟩ := kwS_chr n hn
  have h6 := x1.2.1
  refine w_call hr.1 ?_
  unfold f_X1_isWord
  refine w_getI hr.1 (w_getI hr.1 ?_)
  rw [x4, x5, zI_sub, zI_sub, z_0]
  refine w_eq ⟨by omega, by omega⟩ ⟨by omega, by omega⟩ (fun q => ?_) (fun q => ?_)
  rotate_left
  · exact w_jp (h 0 (Or.inr ⟨rfl, fun x => q (by have := x.2.1; have := k5 (by omega); omega)⟩))
  have hlen : tk.2.1 - tk.1 = (kwL n).length := by omega
  have key : ∀ d i, i + d = (kwL n).length → (∀ j, j < i → t.2 (tk.1 + j) = kwA n j) → GN M N (jloop (fun t => X1_isWord_L20 (c + 2) (mT M (100 + 0)) (zI (kwS n : Nat)) (zI ((kwS n + (kwL n).length : Nat) : Int)) t) (zI ((kwS n + i : Nat) : Int))) (fun v M1 N1 => GN M1 N1 (f v) Q) := by
    intro d
    induction d with
    | zero =>
      intro i hi hh
      refine w_unroll ?_
      unfold X1_isWord_L20
      rw [z_1]
      exact w_le ⟨by omega, by omega⟩ ⟨by omega, by omega⟩ (fun _ => w_jinl (w_jp (h 1 (Or.inl ⟨rfl, h2, hlen, fun j hj => hh j (by omega)⟩)))) (fun x => absurd x (by omega))
    | succ d ih =>
      intro i hi hh
      refine w_unroll ?_
      unfold X1_isWord_L20
      rw [z_0, z_1]
      refine w_le ⟨by omega, by omega⟩ ⟨by omega, by omega⟩ (fun x => absurd x (by omega)) (fun _ => ?_)
      refine w_charAt hT (by omega) ⟨by omega, by show ((kwS n + i : Nat) : Int) < 135; omega⟩ ?_
      rw [show (((kwS n + i : Nat) : Int).toNat) = kwS n + i from rfl, s1 i (by omega)]
      refine w_getI hr.1 ?_
      rw [x4, zI_add, zI_sub, show ((tk.1 : Int) + (kwS n + i : Nat) - (kwS n : Nat)) = ((tk.1 + i : Nat) : Int) by omega]
      refine c_at hC x1 (by omega) ?_
      have hat : atT t (tk.1 + i) = t.2 (tk.1 + i) := if_pos (by omega)
      have hb := x1.bb (show tk.1 + i < t.1 by omega)
      have hb2 := kwA_b hn (show i < (kwL n).length by omega)
      rw [hat]
      refine w_eq ⟨by omega, by omega⟩ ⟨by omega, by omega⟩ (fun e => ?_) (fun e => ?_)
      · rw [zI_add, show (((kwS n + i : Nat) : Int) + 1) = ((kwS n + (i + 1) : Nat) : Int) by omega]
        refine w_jcontB (ih (i + 1) (by omega) (fun j hj => ?_))
        by_cases q2 : j = i
        · rw [q2]; exact e.symm
        · exact hh j (by omega)
      · exact w_jinl (w_jp (h 0 (Or.inr ⟨rfl, fun x => e (x.2.2 i (by omega)).symm⟩)))
  have := key (kwL n).length 0 (by omega) (fun j hj => absurd hj (by omega))
  rw [Nat.add_zero] at this
  exact this
theorem c_key {f : Int32 → JM Mem τ} (hC : CL M c) (hT : TwoT M) (hx : CRd N c t tk) (h : ∀ v : Int, (v = -1 ∧ (∀ n, n < 24 → ¬ kw t tk n) ∨ ∃ n : Nat, n < 24 ∧ v = n ∧ kw t tk n) → GN M N (f (zI v)) Q) : GN M N (jb (jcall 1 (c + 2) (f_X1_key (c + 2))) f) Q := by
  have hr := hC.rd
  have e6 : mR M (c + 2) 6 = some (mT M (100 + 0)) := hr.2.2.2.2.2.1
  have hsort := hx.2.1.2.2.1
  refine w_call hr.1 ?_
  unfold f_X1_key
  refine w_getA hr.1 e6 (w_call hr.1 ?_)
  unfold f_X1_in
  refine w_getI hr.1 ?_
  rw [hx.2.2.1, z_2, z_m1, z_0, z_1]
  refine w_eq ⟨by omega, by omega⟩ ⟨by omega, by omega⟩ (fun e => ?_) (fun e => w_jp (w_jp (h (-1) (Or.inl ⟨rfl, fun n _ x => e (by have := x.1; omega)⟩))))
  have h2 : tk.2.2.1 = 2 := by omega
  have key : ∀ d n, n + d = 24 → (∀ j, j < n → ¬ kw t tk j) → GN M N (jloop (fun (t : Int32 × Int32) => X1_in_L14 (c + 2) (mT M (100 + 0)) t.1 t.2) (zI (n : Nat), zI (kwS n : Nat))) (fun v M1 N1 => GN M1 N1 (jp v) (fun v M1 N1 => GN M1 N1 (f v) Q)) := by
    intro d
    induction d with
    | zero =>
      intro n hn hh
      obtain rfl : n = 24 := by omega
      refine w_unroll ?_
      show GN M N (X1_in_L14 (c + 2) (mT M (100 + 0)) (zI (24 : Nat)) (zI (kwS 24 : Nat))) _
      unfold X1_in_L14
      rw [kwS_end, z_m1]
      refine w_length hT (by omega) ?_
      exact w_le ⟨by show -2147483648 ≤ (135 : Int); omega, by show (135 : Int) < 2147483648; omega⟩ ⟨by omega, by omega⟩ (fun _ => w_jinl (w_jp (w_jp (h (-1) (Or.inl ⟨rfl, hh⟩))))) (fun x => absurd x (by show ¬ ((135 : Nat) : Int) < 135; omega))
    | succ d ih =>
      intro n hn hh
      have hn24 : n < 24 := by omega
      obtain ⟨s1, s2, s3⟩ := kwS_chr n hn24
      have hin : ∀ d i, i + d = (kwL n).length → GN M N (jloop (fun t => X1_in_L25 (c + 2) (mT M (100 + 0)) (zI (n : Nat)) (zI (kwS n : Nat)) t) (zI ((kwS n + i : Nat) : Int))) (LQ (fun v M1 N1 => GN M1 N1 (jp v) (fun v M1 N1 => GN M1 N1 (f v) Q)) (fun t1 M1 N1 => GN M1 N1 (jloop (fun (t : Int32 × Int32) => X1_in_L14 (c + 2) (mT M (100 + 0)) t.1 t.2) t1) (fun v M1 N1 => GN M1 N1 (jp v) (fun v M1 N1 => GN M1 N1 (f v) Q)))) := by
        intro d
        induction d with
        | zero =>
          intro i hi
          refine w_unroll ?_
          unfold X1_in_L25
          rw [z_32]
          refine w_charAt hT (by omega) ⟨by omega, by show ((kwS n + i : Nat) : Int) < 135; omega⟩ ?_
          rw [show (((kwS n + i : Nat) : Int).toNat) = kwS n + (kwL n).length by omega, s2, show kwS n + i = kwS n + (kwL n).length by omega]
          refine w_eq ⟨by omega, by omega⟩ ⟨by omega, by omega⟩ (fun _ => w_jinl ?_) (fun x => absurd rfl x)
          unfold X1_in_b42
          refine c_isWord hC hT hx h2 hn24 (fun v hv => ?_)
          rw [z_0, z_1]
          rcases hv with ⟨rfl, hk⟩ | ⟨rfl, hk⟩
          · refine w_eq ⟨by omega, by omega⟩ ⟨by omega, by omega⟩ (fun x => absurd x (by decide)) (fun _ => ?_)
            exact w_jinl (w_jp (w_jp (h n (Or.inr ⟨n, hn24, rfl, hk⟩))))
          · refine w_eq ⟨by omega, by omega⟩ ⟨by omega, by omega⟩ (fun _ => w_jlet ?_) (fun x => absurd rfl x)
            rw [zI_add, zI_add, show ((n : Int) + 1) = ((n + 1 : Nat) : Int) by omega, show (((kwS n + (kwL n).length : Nat) : Int) + 1) = ((kwS (n + 1) : Nat) : Int) from rfl]
            refine w_jcontB (ih (n + 1) (by omega) (fun j hj => ?_))
            by_cases q : j = n
            · rw [q]; exact hk
            · exact hh j (by omega)
        | succ d ih2 =>
          intro i hi
          refine w_unroll ?_
          unfold X1_in_L25
          rw [z_32, z_1]
          refine w_charAt hT (by omega) ⟨by omega, by show ((kwS n + i : Nat) : Int) < 135; omega⟩ ?_
          rw [show (((kwS n + i : Nat) : Int).toNat) = kwS n + i from rfl, s1 i (by omega)]
          have hb2 := kwA_b hn24 (show i < (kwL n).length by omega)
          refine w_eq ⟨by omega, by omega⟩ ⟨by omega, by omega⟩ (fun x => absurd x (by omega)) (fun _ => ?_)
          rw [zI_add, show (((kwS n + i : Nat) : Int) + 1) = ((kwS n + (i + 1) : Nat) : Int) by omega]
          exact w_jcontB (ih2 (i + 1) (by omega))
      refine w_unroll ?_
      show GN M N (X1_in_L14 (c + 2) (mT M (100 + 0)) (zI (n : Nat)) (zI (kwS n : Nat))) _
      unfold X1_in_L14
      refine w_length hT (by omega) ?_
      refine w_le ⟨by show -2147483648 ≤ (135 : Int); omega, by show (135 : Int) < 2147483648; omega⟩ ⟨by omega, by omega⟩ (fun x => absurd x (by show ¬ ((135 : Nat) : Int) ≤ (kwS n : Nat); omega)) (fun _ => ?_)
      have := hin (kwL n).length 0 (by omega)
      rw [Nat.add_zero] at this
      exact this
  exact key 24 0 (by omega) (fun j hj => absurd hj (by omega))
/-- what is thrown -/
def ThC (c : Nat) (er : Er) (N N' : NM) : Prop := N' (c + 3) 6 = er.1 ∧ N' (c + 3) 7 = er.2 ∧ ∀ b, b ≠ c + 3 → N' b = N b
theorem c_fail {f : Nat → JM Mem τ} (hC : CL M c) (hx : CRd N c t tk) (h : ∀ N', ThC c (flt tk kd) N N' → GN M N' (f (c + 3)) Q) : GN M N (jb (jcall 1 (c + 2) (f_X1_fail (c + 2) (zI kd))) f) Q := by
  obtain ⟨r1, r2, r3, r4, r5, r6, r7⟩ := hC.rd
  have hsort := hx.2.1.2.2.1
  refine w_call r1 ?_
  unfold f_X1_fail
  refine w_getA r1 r4 (w_getI r1 ?_)
  rw [hx.2.2.1, z_1]
  have key : ∀ v : Int, (flt tk kd).1 = v → GN M N (X1_fail_b17 (c + 2) (c + 3) (zI v)) (fun v M1 N1 => GN M1 N1 (f v) Q) := fun v hv => by
    unfold X1_fail_b17
    refine w_getI r1 ?_
    rw [hx.2.2.2.1]
    refine w_call r2 ?_
    unfold f_X3_of
    refine w_putI r2 (w_putI r2 (w_jp (w_jp (h _ ⟨?_, ?_, fun b hb => ?_⟩))))
    · rw [upk (by omega), upv]; exact hv.symm
    · rw [upv]; rfl
    · rw [upb hb, upb hb]
  refine w_eq ⟨by omega, by omega⟩ ⟨by omega, by omega⟩ (fun e => key 1 ?_) (fun e => key kd ?_)
  · exact if_pos (by omega)
  · exact if_neg (by omega)
theorem g_fail {f : Nat → JM Mem τ} (hC : CL M c) (hx : CRd N c t tk) (he : ∀ N', ThC c (flt tk kd) N N' → GE M N' (f (c + 3)) Q E) : GE M N (jb (jcall 1 (c + 2) (f_X1_fail (c + 2) (zI kd))) f) Q E :=
  ge_p (c_fail hC hx (fun N' h => w_jp (he N' h)))
theorem g_need1 {f : Unit → JM Mem τ} (hC : CL M c) (h : GE M N (f ()) Q E) : GE M N (jb (jcall 1 (c + 2) (f_X1_need (c + 2) (zI 1))) f) Q E := by
  refine ge_call hC.rd.1 ?_
  unfold f_X1_need
  rw [z_0]
  exact ge_eq ⟨by omega, by omega⟩ ⟨by omega, by omega⟩ (fun x => absurd x (by decide)) (fun _ => ge_jp h)
theorem g_need0 {f : Unit → JM Mem τ} (hC : CL M c) (hx : CRd N c t tk) (he : ∀ N', ThC c (flt tk 2) N N' → E (c + 3) M N') : GE M N (jb (jcall 1 (c + 2) (f_X1_need (c + 2) (zI 0))) f) Q E := by
  refine ge_call hC.rd.1 ?_
  unfold f_X1_need
  rw [z_0]
  refine ge_eq ⟨by omega, by omega⟩ ⟨by omega, by omega⟩ (fun _ => ?_) (fun x => absurd rfl x)
  rw [z_2]
  exact g_fail hC hx (fun N' h => ge_thr (he N' h))
theorem g_next {f : Unit → JM Mem τ} (hC : CL M c) (hT : TwoT M) (hx : CRd N c t tk) (h : ∀ N', NxF c N N' → CRd N' c t (nx t tk) → GE M N' (f ()) Q E) : GE M N (jb (jcall 1 (c + 2) (f_X1_next (c + 2))) f) Q E :=
  ge_p (c_next hC hT hx.1 hx.2.2.2.2.1 hx.2.1.2.1 (fun N' hF hR => w_jp (h N' hF hR)))
theorem g_word {f : Unit → JM Mem τ} {g : Tk → Except Er α} (hC : CL M c) (hT : TwoT M) (hx : CRd N c t tk) (hk : k < 24) (hres : pbd (pWord t k tk) g = res) (h1 : ∀ N', NxF c N N' → CRd N' c t (nx t tk) → kw t tk k → g (nx t tk) = res → GE M N' (f ()) Q E) (h2 : ∀ N' er, res = .error er → ThC c er N N' → E (c + 3) M N') :
    GE M N (jb (jcall 1 (c + 2) (f_X2_word (c + 2) (zI (k : Nat)))) f) Q E := by
  refine ge_call hC.rd.1 ?_
  unfold f_X2_word X2_word_b14
  refine ge_p (c_key hC hT hx (fun v hv => w_jp ?_))
  have hv' : zR v := by
    rcases hv with ⟨rfl, _⟩ | ⟨n, h1, rfl, _⟩
    · exact ⟨by decide, by decide⟩
    · exact ⟨by omega, by omega⟩
  unfold pWord at hres
  refine ge_eq hv' ⟨by omega, by omega⟩ (fun e => ?_) (fun e => ?_)
  · have hw : kw t tk k := by
      rcases hv with ⟨rfl, _⟩ | ⟨n, _, rfl, hw⟩
      · omega
      · obtain rfl : n = k := by omega
        exact hw
    rw [if_pos hw, pbd_ok] at hres
    rw [z_1]
    exact g_need1 hC (g_next hC hT hx (fun N' hF hR => ge_jp (h1 N' hF hR hw hres)))
  · have hw : ¬ kw t tk k := fun hw => by
      rcases hv with ⟨rfl, hn⟩ | ⟨n, hn, rfl, hw2⟩
      · exact hn k hk hw
      · exact e (by rw [kw_uni hn hk hw2 hw])
    rw [if_neg hw, pbd_er] at hres
    rw [z_0]
    exact g_need0 hC hx (fun N' hT => h2 N' _ hres.symm hT)
theorem g_number {f : Int32 → JM Mem τ} {g : Int → Except Er α} (hC : CL M c) (hx : CRd N c t tk) (hlo : zR lo) (hhi : zR hi) (hres : pbd (pNum lo hi tk) g = res) (h1 : tk.2.2.1 = 3 → lo ≤ tk.2.2.2 → tk.2.2.2 ≤ hi → g tk.2.2.2 = res → GE M N (f (zI tk.2.2.2)) Q E) (h2 : ∀ N' er, res = .error er → ThC c er N N' → E (c + 3) M N') :
    GE M N (jb (jcall 1 (c + 2) (f_X1_number (c + 2) (zI lo) (zI hi))) f) Q E := by
  have hr := hC.rd.1
  have hsort := hx.2.1.2.2.1
  refine ge_call hr ?_
  unfold f_X1_number
  refine ge_p (w_getI hr (w_jp ?_))
  rw [hx.2.2.1, show (3 : Int32) = zI 3 from rfl]
  unfold pNum at hres
  refine ge_eq ⟨by omega, by omega⟩ ⟨by omega, by omega⟩ (fun e => ?_) (fun e => ?_)
  · have e3 : tk.2.2.1 = 3 := by omega
    rw [if_pos e3] at hres
    have hv := hx.2.1.2.2.2.2.2.2.1 e3
    have h5 := hx.2.2.2.2.2 (Or.inl e3)
    unfold X1_number_b14
    rw [z_1]
    refine g_need1 hC (ge_p (w_getI hr (w_jp ?_)))
    rw [h5]
    have hbad : ¬ (lo ≤ tk.2.2.2 ∧ tk.2.2.2 ≤ hi) → GE M N (X1_number_b33 (c + 2)) (fun v M1 N1 => GE M1 N1 (f v) Q E) E := fun q => by
      rw [if_neg q, pbd_er] at hres
      unfold X1_number_b33
      rw [z_4]
      exact g_fail hC hx (fun N' hT => ge_thr (h2 N' _ hres.symm hT))
    refine ge_lt ⟨by omega, by omega⟩ hlo (fun q => hbad (by omega)) (fun q => ?_)
    refine ge_p (w_getI hr (w_jp ?_))
    rw [h5]
    refine ge_le ⟨by omega, by omega⟩ hhi (fun q2 => ?_) (fun q2 => hbad (by omega))
    refine ge_p (w_getI hr (w_jp ?_))
    rw [h5]
    rw [if_pos ⟨q, q2⟩, pbd_ok] at hres
    exact ge_jp (h1 e3 q q2 hres)
  · rw [if_neg (by omega), pbd_er] at hres
    unfold X1_number_b14
    rw [z_0]
    exact g_need0 hC hx (fun N' hT => h2 N' _ hres.symm hT)
theorem g_passed {f : Int32 → JM Mem τ} {g : Int × Tk → Except Er α} (hC : CL M c) (hT : TwoT M) (hx : CRd N c t tk) (hlo : zR lo) (hhi : zR hi) (hres : pbd (pPas t lo hi tk) g = res) (h1 : ∀ N', NxF c N N' → CRd N' c t (nx t tk) → tk.2.2.1 = 3 → lo ≤ tk.2.2.2 → tk.2.2.2 ≤ hi → g (tk.2.2.2, nx t tk) = res → GE M N' (f (zI tk.2.2.2)) Q E) (h2 : ∀ N' er, res = .error er → ThC c er N N' → E (c + 3) M N') :
    GE M N (jb (jcall 1 (c + 2) (f_X1_passed (c + 2) (zI lo) (zI hi))) f) Q E := by
  have hr := hC.rd.1
  refine ge_call hr ?_
  unfold f_X1_passed
  have hres' : pbd (pNum lo hi tk) (fun v => g (v, nx t tk)) = res := by
    rw [← hres]
    unfold pPas
    cases pNum lo hi tk <;> rfl
  refine g_number hC hx hlo hhi hres' (fun e3 q1 q2 hg => ?_) h2
  exact g_next hC hT hx (fun N' hF hR => ge_jp (h1 N' hF hR e3 q1 q2 hg))
theorem c_isS {f : Int32 → JM Mem τ} {x : Int} (hC : CL M c) (hx : CRd N c t tk) (hz : zR x) (h : GN M N (f (zI (if isSg tk x then 1 else 0))) Q) : GN M N (jb (jcall 1 (c + 2) (f_X1_is (c + 2) (zI x))) f) Q := by
  have hr := hC.rd.1
  have hsort := hx.2.1.2.2.1
  refine w_call hr ?_
  unfold f_X1_is
  refine w_getI hr ?_
  rw [hx.2.2.1, show (4 : Int32) = zI 4 from rfl, z_0, z_1]
  refine w_eq ⟨by omega, by omega⟩ ⟨by omega, by omega⟩ (fun e => ?_) (fun e => ?_)
  · have e4 : tk.2.2.1 = 4 := by omega
    have hv := hx.2.1.2.2.2.2.2.2.2 e4
    refine w_getI hr ?_
    rw [hx.2.2.2.2.2 (Or.inr e4)]
    refine w_eq ⟨by omega, by omega⟩ hz (fun q => ?_) (fun q => ?_)
    · rw [if_pos ⟨e4, q⟩] at h; exact w_jp h
    · rw [if_neg (fun x => q x.2)] at h; exact w_jp h
  · rw [if_neg (fun x => e (by have := x.1; omega))] at h
    exact w_jp h
theorem g_closes {f : Unit → JM Mem τ} {g : Tk → Except Er α} (hC : CL M c) (hT : TwoT M) (hx : CRd N c t tk) (hres : pbd (pSgn t tk) g = res) (h1 : ∀ N', NxF c N N' → CRd N' c t (nx t tk) → isSg tk 59 → g (nx t tk) = res → GE M N' (f ()) Q E) (h2 : ∀ N' er, res = .error er → ThC c er N N' → E (c + 3) M N') :
    GE M N (jb (jcall 1 (c + 2) (f_X1_closes (c + 2))) f) Q E := by
  refine ge_call hC.rd.1 ?_
  unfold f_X1_closes
  rw [z_59]
  refine ge_p (c_isS hC hx ⟨by omega, by omega⟩ (w_jp ?_))
  unfold pSgn at hres
  by_cases q : isSg tk 59
  · rw [if_pos q, pbd_ok] at hres
    rw [if_pos q]
    exact g_need1 hC (g_next hC hT hx (fun N' hF hR => ge_jp (h1 N' hF hR q hres)))
  · rw [if_neg q, pbd_er] at hres
    rw [if_neg q]
    exact g_need0 hC hx (fun N' hT => h2 N' _ hres.symm hT)
end TXW
