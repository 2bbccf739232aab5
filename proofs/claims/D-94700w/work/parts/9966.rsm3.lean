/-! TEXTS: the model reads steps. -/
set_option maxRecDepth 100000
section RSM3
variable {α τ : Type} {M M' M1 M2 : Mem} {N N' N1 N2 : NM} {m a k e b d i j q n cnt wi : Nat} {z lo kd p v : Int} {t : Tx} {tk tk' u : Tk} {Q : Unit → Mem → NM → Prop} {st : Except Er Tk} {r : Nat → Int}
variable {s : Except Er Rd3}
def tkD (s : Except Er Rd3) : Except Er Tk := match s with
  | .ok y => .ok y.1
  | .error er => .error er
/-- where the model is in a script -/
def StM (M : Mem) (N : NM) (m : Nat) (t : Tx) (s : Except Er Rd3) : Prop := PSM M N m t (tkD s) ∧ ∀ y, s = .ok y → N m 70 = y.2.1 ∧ ∀ i k, k < 7 → N (m + 8) (7 * i + k) = y.2.2 i k
def NtM (m : Nat) (M : Mem) (N : NM) (M' : Mem) (N' : NM) : Prop := (∀ b, b ≠ m → b ≠ m + 8 → N' b = N b) ∧ (∀ k, k < 12 ∨ 18 < k → k ≠ 70 → N' m k = N m k) ∧ ∃ L', M' = sL M L' ∧ ∀ b k, b ≠ m ∨ k ≠ 18 → L' b k = mL M b k
theorem NwM.nt (h : NwM m i M N M' N') : NtM m M N M' N' := ⟨h.1, fun k hk _ => h.2.2.1 k hk, h.2.2.2⟩
theorem NyM.nt (h : NyM m M N M' N') : NtM m M N M' N' := (h.nw (i := 0)).nt
theorem NtM.rf : NtM m M N M N := NyM.rf.nt
theorem NtM.tr (h : NtM m M N M1 N1) (h2 : NtM m M1 N1 M2 N2) : NtM m M N M2 N2 := by
  obtain ⟨a1, a2, L1, rfl, a3⟩ := h
  obtain ⟨b1, b2, L2, rfl, b3⟩ := h2
  exact ⟨fun b hb h8 => (b1 b hb h8).trans (a1 b hb h8), fun k hk h7 => (b2 k hk h7).trans (a2 k hk h7), L2, rfl, fun b k hk => (b3 b k hk).trans (a3 b k hk)⟩
theorem NtM.ml (h : NtM m M N M' N') (hM : ML M m) : ML M' m := by
  obtain ⟨_, _, L1, rfl, _⟩ := h
  exact hM.ag (fun _ _ _ => ⟨rfl, rfl⟩)
theorem NtM.u70 (h : NtM m M N M' N') : NtM m M N M' (up2 N' m 70 v) := ⟨fun b hb h8 => (upb hb).trans (h.1 b hb h8), fun k hk h7 => (upk h7).trans (h.2.1 k hk h7), h.2.2⟩
theorem NtM.u8 (h : NtM m M N M' N') : NtM m M N M' (up2 N' (m + 8) k v) := ⟨fun b hb h8 => (upb h8).trans (h.1 b hb h8), fun k hk h7 => by rw [upb (show m ≠ m + 8 by omega)]; exact h.2.1 k hk h7, h.2.2⟩
theorem StM.er {er : Er} (h : PSM M N m t (.error er)) : StM M N m t (.error er) := ⟨h, fun y hy => by cases hy⟩
theorem tkD_b {f : Tk → Except Er Tk} : tkD (pbd s fun y => pbd (f y.1) fun u => .ok (u, y.2)) = pbd (tkD s) f := by
  cases s with
  | error er => rfl
  | ok y =>
    show tkD (pbd (f y.1) _) = f y.1
    cases f y.1 <;> rfl
theorem StM.ck {f : Tk → Except Er Tk} (hs : StM M N m t s) (n1 : NyM m M N M' N') (hP : PSM M' N' m t (pbd (tkD s) f)) : StM M' N' m t (pbd s fun y => pbd (f y.1) fun u => .ok (u, y.2)) := by
  refine ⟨by rw [tkD_b]; exact hP, fun w hw => ?_⟩
  cases s with
  | error er => cases hw
  | ok y =>
    obtain ⟨x, e2, e3⟩ := pbd_f (x := f y.1) hw
    have e3 := Except.ok.inj e3
    rw [← e3, n1.1 (m + 8) (by omega), n1.2.1 70 (Or.inr (by omega))]
    exact hs.2 y rfl
/-- where a step leads is set -/
theorem m_end {f : Unit → JM Mem Unit} (hM : ML M m) (hs : StM M N m t s) (h3i : i < 30) (h : ∀ N', NtM m M N M N' → StM M N' m t (pbd s fun y => .ok (y.1, y.2.1, upW y.2.2 i (upR (y.2.2 i) 6 (y.2.1 : Nat)))) → GN M N' (f ()) Q) :
    GN M N (jb (jgetA 7 22 m) fun v10 => jb (jgetI 7 70 m) fun v11 => jb (jast_i v10 (zI ((7 * i : Nat) : Int) + zI 6) v11) f) Q := by
  refine w_Mf hM rfl (w_MI hM ?_)
  rw [zI_add, show (((7 * i : Nat) : Int) + 6) = ((7 * i + 6 : Nat) : Int) by omega]
  refine w_ast (hM.ka (o := 8) (d := (0, 300)) rfl) (by omega) (by omega) ?_
  rw [show (((7 * i + 6 : Nat) : Int).toNat) = 7 * i + 6 from rfl]
  refine h _ NtM.rf.u8 ⟨?_, fun w hw => ?_⟩
  · have e : tkD (pbd s fun y => Except.ok (y.1, y.2.1, upW y.2.2 i (upR (y.2.2 i) 6 (y.2.1 : Nat)))) = tkD s := by cases s <;> rfl
    rw [e]
    exact hs.1.n8 (fun b hb => upb hb)
  · cases s with
    | error er => cases hw
    | ok y =>
      have hw := Except.ok.inj hw
      obtain ⟨g1, g2⟩ := hs.2 y rfl
      rw [← hw]
      refine ⟨by rw [upb (show m ≠ m + 8 by omega)]; exact g1, fun i' k hk => ?_⟩
      show _ = upW y.2.2 i (upR (y.2.2 i) 6 (y.2.1 : Nat)) i' k
      by_cases e : i' = i
      · by_cases e6 : k = 6
        · rw [e, e6, upv, upW_v, upR_v, g1]
        · rw [e, upk (by omega), upW_v, upR_n e6, g2 i k hk]
      · rw [upk (by omega), upW_n e, g2 i' k hk]
/-- steps up to an end -/
theorem m_seq {rs : Nat → Int32 → JM Mem Unit} {one : Rd3 → Except Er Rd3} {y : Int32}
    (hone : ∀ M N (x : Rd3), ML M m → StM M N m t (.ok x) → x.2.1 ≤ 30 → ∀ {f : Unit → JM Mem (Unit ⊕ Unit)} {Q : (Unit ⊕ Unit) → Mem → NM → Prop}, (∀ M' N', NtM m M N M' N' → StM M' N' m t (one x) → GN M' N' (f ()) Q) → GN M N (jb (jcall 7 m (rs m (zI (wi : Nat) + zI 1))) f) Q)
    (h1 : ∀ x y, TkOk t x.1 → x.2.1 ≤ 30 → one x = .ok y → RdOk t (wi + 1) x y ∧ x.1.1 < y.1.1) :
    ∀ f M N (s : Except Er Rd3), ML M m → StM M N m t s → (∀ x, s = .ok x → x.2.1 ≤ 30 ∧ t.1 < f + x.1.1) → (∀ M' N', NtM m M N M' N' → StM M' N' m t (pbd s (pSeq one t f)) → GN M' N' (X8_readStep_b166 rs m (zI 1) y) Q) → GN M N (jloop (fun _ => X8_readStep_L138 rs m (zI (wi : Nat)) (zI 1) y) ()) Q := by
  have err : ∀ (er : Er) M N f, ML M m → StM M N m t (.error er) → (∀ M' N', NtM m M N M' N' → StM M' N' m t (pbd (.error er) (pSeq one t f)) → GN M' N' (X8_readStep_b166 rs m (zI 1) y) Q) → GN M N (jloop (fun _ => X8_readStep_L138 rs m (zI (wi : Nat)) (zI 1) y) ()) Q := fun er M N f hM hs h => by
    refine w_unroll ?_
    unfold X8_readStep_L138
    rw [z_0]
    refine w_eq ⟨by omega, by omega⟩ ⟨by omega, by omega⟩ (fun x => absurd x (by decide)) (fun _ => ?_)
    refine m_badV hM hs.1 (fun v v1 v2 _ => ?_)
    exact w_eq ⟨by omega, by omega⟩ ⟨by omega, by omega⟩ (fun x => absurd x (by omega)) (fun _ => w_jinl (h M N NtM.rf hs))
  intro f
  induction f with
  | zero =>
    intro M N s hM hs hf h
    cases s with
    | error er => exact err er M N 0 hM hs h
    | ok x =>
      have h2 := (hf x rfl).2
      have h3 := (PSM.at hs.1).2.1.1
      have h3 : x.1.1 ≤ t.1 := h3
      omega
  | succ f ih =>
    intro M N s hM hs hf h
    cases s with
    | error er => exact err er M N (f + 1) hM hs h
    | ok x =>
      have hx : MRd M N m t x.1 := PSM.at hs.1
      obtain ⟨f1, f2⟩ := hf x rfl
      refine w_unroll ?_
      unfold X8_readStep_L138
      rw [z_0, z_1]
      refine w_eq ⟨by omega, by omega⟩ ⟨by omega, by omega⟩ (fun x => absurd x (by decide)) (fun _ => ?_)
      refine m_good hM hs.1 (w_eq ⟨by omega, by omega⟩ ⟨by omega, by omega⟩ (fun _ => ?_) (fun x => absurd rfl x))
      have e1 : pSeq one t (f + 1) x = @ite _ (kw t x.1 15) (Classical.propDecidable _) (.ok x) (pbd (one x) (pSeq one t f)) := rfl
      rw [pbd_ok, e1] at h
      refine m_isEnd hM hx (fun v hv => ?_)
      rcases hv with ⟨rfl, c1⟩ | ⟨rfl, c1⟩
      · rw [if_pos c1] at h
        exact w_eq ⟨by omega, by omega⟩ ⟨by omega, by omega⟩ (fun x => absurd x (by decide)) (fun _ => w_jinl (h M N NtM.rf hs))
      · rw [if_neg c1] at h
        refine w_eq ⟨by omega, by omega⟩ ⟨by omega, by omega⟩ (fun _ => ?_) (fun x => absurd rfl x)
        refine hone M N x hM hs f1 (fun M1 N1 n1 hs1 => w_jcontB ?_)
        refine ih M1 N1 (one x) (n1.ml hM) hs1 (fun y hy => ?_) (fun M2 N2 n2 hs2 => h M2 N2 (n1.tr n2) hs2)
        obtain ⟨k1, k2⟩ := h1 x y hx.2.1 f1 hy
        exact ⟨k1.2.2.1.2.1, by omega⟩
end RSM3
