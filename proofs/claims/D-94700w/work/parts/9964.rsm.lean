/-! TEXTS: the model reads what stands in a step. -/
set_option maxRecDepth 100000
section RSM
variable {α τ : Type} {M M' M1 M2 : Mem} {N N' N1 N2 : NM} {m a k e b d i j q n : Nat} {z lo hi kd p v : Int} {t : Tx} {tk tk' u : Tk} {Q : τ → Mem → NM → Prop} {st : Except Er Tk} {r : Nat → Int}
abbrev Rr : Type := Except Er (Tk × (Nat → Int))
variable {s : Rr}
theorem pbd_as {α β γ : Type} {x : Except Er α} {f : α → Except Er β} {g : β → Except Er γ} : pbd (pbd x f) g = pbd x (fun y => pbd (f y) g) := by cases x <;> rfl
def NwM (m i : Nat) (M : Mem) (N : NM) (M' : Mem) (N' : NM) : Prop := (∀ b, b ≠ m → b ≠ m + 8 → N' b = N b) ∧ (∀ l, l < 7 * i ∨ 7 * i + 7 ≤ l → N' (m + 8) l = N (m + 8) l) ∧ (∀ k, k < 12 ∨ 18 < k → N' m k = N m k) ∧ ∃ L', M' = sL M L' ∧ ∀ b k, b ≠ m ∨ k ≠ 18 → L' b k = mL M b k
theorem NyM.nw (h : NyM m M N M' N') : NwM m i M N M' N' := ⟨fun b h1 _ => h.1 b h1, fun l _ => by rw [h.1 (m + 8) (by omega)], h.2⟩
theorem NwM.rf : NwM m i M N M N := NyM.rf.nw
theorem NwM.tr (h : NwM m i M N M1 N1) (h2 : NwM m i M1 N1 M2 N2) : NwM m i M N M2 N2 := by
  obtain ⟨a1, a4, a2, L1, rfl, a3⟩ := h
  obtain ⟨b1, b4, b2, L2, rfl, b3⟩ := h2
  exact ⟨fun b hb h8 => (b1 b hb h8).trans (a1 b hb h8), fun l hl => (b4 l hl).trans (a4 l hl), fun k hk => (b2 k hk).trans (a2 k hk), L2, rfl, fun b k hk => (b3 b k hk).trans (a3 b k hk)⟩
theorem NwM.ml (h : NwM m i M N M' N') (hM : ML M m) : ML M' m := by
  obtain ⟨_, _, _, L1, rfl, _⟩ := h
  exact hM.ag (fun _ _ _ => ⟨rfl, rfl⟩)
theorem NwM.up (h : NwM m i M N M' N') (hq : q < 7) : NwM m i M N M' (up2 N' (m + 8) (7 * i + q) v) := ⟨fun b hb h8 => (upb h8).trans (h.1 b hb h8), fun l hl => (upk (by omega)).trans (h.2.1 l hl), fun k hk => by rw [upb (show m ≠ m + 8 by omega)]; exact h.2.2.1 k hk, h.2.2.2⟩
theorem PSM.n8 (h : PSM M N m t st) (e : ∀ b, b ≠ m + 8 → N' b = N b) : PSM M N' m t st := h.fr (fun k _ _ => by rw [e m (by omega)]) (e _ (by omega)) rfl
def tkE (s : Rr) : Except Er Tk := match s with
  | .ok y => .ok y.1
  | .error er => .error er
/-- where the model is in a step -/
def RrM (M : Mem) (N : NM) (m : Nat) (t : Tx) (i : Nat) (s : Rr) : Prop := PSM M N m t (tkE s) ∧ ∀ y, s = .ok y → ∀ k, k < 7 → N (m + 8) (7 * i + k) = y.2 k
theorem m_cw {f : Unit → JM Mem τ} (hM : ML M m) (hs : RrM M N m t i s) (h3i : i < 30) (hq : q < 7) (hz : z = q) (hlo : zR lo) (hhi : zR hi) (h : ∀ M' N', NwM m i M N M' N' → RrM M' N' m t i (pbd s fun y => pbd (pPas t lo hi y.1) fun x => .ok (x.2, upR y.2 q x.1)) → GN M' N' (f ()) Q) :
    GN M N (jb (jgetA 7 22 m) fun v => jb (jcall 7 m (f_X8_count m (zI lo) (zI hi))) fun w => jb (jast_i v (zI ((7 * i : Nat) : Int) + zI z) w) f) Q := by
  subst hz
  refine w_Mf hM rfl (m_count hM hs.1 hlo hhi (fun M1 N1 n1 hP => ?_))
  have hM1 := n1.ml hM
  rw [zI_add, show (((7 * i : Nat) : Int) + (q : Int)) = ((7 * i + q : Nat) : Int) by omega]
  refine w_ast (hM1.ka (o := 8) (d := (0, 300)) rfl) (by omega) (by omega) ?_
  rw [show (((7 * i + q : Nat) : Int).toNat) = 7 * i + q from rfl]
  refine h M1 _ (n1.nw.up hq) ?_
  have e1 : tkE (pbd s fun y => pbd (pPas t lo hi y.1) fun x => Except.ok (x.2, upR y.2 q x.1)) = pcS (pbd (tkE s) (pPas t lo hi)) := by
    cases s with
    | error er => rfl
    | ok y =>
      show tkE (pbd (pPas t lo hi y.1) _) = pcS (pPas t lo hi y.1)
      cases pPas t lo hi y.1 <;> rfl
  refine ⟨by rw [e1]; exact hP.n8 (fun b hb => upb hb), fun w hw k hk => ?_⟩
  cases s with
  | error er => cases hw
  | ok y =>
    obtain ⟨x, e2, e3⟩ := pbd_f (x := pPas t lo hi y.1) hw
    have e3 := Except.ok.inj e3
    rw [← e3]
    have e4 : pcV (pbd (tkE (.ok y)) (pPas t lo hi)) = x.1 := by
      show pcV (pPas t lo hi y.1) = x.1
      rw [e2]; rfl
    rw [e4]
    show _ = upR y.2 q x.1 k
    by_cases e : k = q
    · rw [e, upv, upR_v]
    · rw [upk (by omega), upR_n e, n1.1 (m + 8) (by omega)]
      exact hs.2 y rfl k hk
theorem tkE_b {f : Tk → Except Er Tk} : tkE (pbd s fun y => pbd (f y.1) fun u => .ok (u, y.2)) = pbd (tkE s) f := by
  cases s with
  | error er => rfl
  | ok y =>
    show tkE (pbd (f y.1) _) = f y.1
    cases f y.1 <;> rfl
/-- a check keeps the record -/
theorem RrM.ck {f : Tk → Except Er Tk} (hs : RrM M N m t i s) (n1 : NyM m M N M' N') (hP : PSM M' N' m t (pbd (tkE s) f)) : RrM M' N' m t i (pbd s fun y => pbd (f y.1) fun u => .ok (u, y.2)) := by
  refine ⟨by rw [tkE_b]; exact hP, fun w hw k hk => ?_⟩
  cases s with
  | error er => cases hw
  | ok y =>
    obtain ⟨x, e2, e3⟩ := pbd_f (x := f y.1) hw
    have e3 := Except.ok.inj e3
    rw [← e3, n1.1 (m + 8) (by omega)]
    exact hs.2 y rfl k hk
/-- a number is put into the record -/
theorem m_rec {f : Unit → JM Mem τ} (hM : ML M m) (hs : RrM M N m t i s) (h3i : i < 30) (hq : q < 7) (hz : z = q) (h : ∀ N', NwM m i M N M N' → RrM M N' m t i (pbd s fun y => .ok (y.1, upR y.2 q v)) → GN M N' (f ()) Q) :
    GN M N (jb (jgetA 7 22 m) fun w => jb (jast_i w (zI ((7 * i : Nat) : Int) + zI z) (zI v)) f) Q := by
  subst hz
  refine w_Mf hM rfl ?_
  rw [zI_add, show (((7 * i : Nat) : Int) + (q : Int)) = ((7 * i + q : Nat) : Int) by omega]
  refine w_ast (hM.ka (o := 8) (d := (0, 300)) rfl) (by omega) (by omega) ?_
  rw [show (((7 * i + q : Nat) : Int).toNat) = 7 * i + q from rfl]
  refine h _ (NwM.rf.up hq) ⟨?_, fun w hw k hk => ?_⟩
  · have e : tkE (pbd s fun y => Except.ok (y.1, upR y.2 q v)) = tkE s := by cases s <;> rfl
    rw [e]
    exact hs.1.n8 (fun b hb => upb hb)
  · cases s with
    | error er => cases hw
    | ok y =>
      have hw : Except.ok (y.1, upR y.2 q v) = Except.ok w := hw
      have hw := Except.ok.inj hw
      rw [← hw]
      show _ = upR y.2 q v k
      by_cases e : k = q
      · rw [e, upv, upR_v]
      · rw [upk (by omega), upR_n e]
        exact hs.2 y rfl k hk
theorem MRd.cs (h : MRd M N m t tk) (h' : MRd M N m t tk') (x : CmpSg tk) : CmpSg tk' := by
  obtain ⟨e1, _, _, e4⟩ := h.eqv h'
  refine ⟨e1.symm.trans x.1, ?_⟩
  rw [← e4 (Or.inr x.1)]
  exact x.2
theorem m_readSign {f : Unit → JM Mem τ} (hM : ML M m) (hs : RrM M N m t i s) (h3i : i < 30) (h : ∀ M' N', NwM m i M N M' N' → RrM M' N' m t i (pbd s fun y => pCmp t y.1 y.2) → GN M' N' (f ()) Q) : GN M N (jb (jcall 7 m (f_X8_readSign m (zI ((7 * i : Nat) : Int)))) f) Q := by
  obtain ⟨tk, hx, hst⟩ := id hs.1
  have hb := mso_b hx.2.1
  have hso := hx.2.1.2.2.1
  refine w_Mc hM ?_
  unfold f_X8_readSign X8_readSign_b16 X8_readSign_b45 X8_readSign_b50
  rw [z_60, z_62, z_61, z_0, z_1, z_3, z_4, z_5]
  refine w_MI hM ?_
  rw [hx.2.2.1]
  -- from the check on
  have tail : ∀ (v8 g : Int), (tk.2.2.1 = 4 → v8 = tk.2.2.2) → (g = 1 ∧ CmpSg tk ∨ g = 0 ∧ ¬ CmpSg tk) → GN M N (jb (jcall 7 m (f_X8_must m (zI g))) fun _ => jb (jgetA 7 22 m) fun v3 => jb (jast_i v3 (zI ((7 * i : Nat) : Int) + zI 4) (zI v8)) fun _ => jb (jgetA 7 22 m) fun v4 => jb (jcall 7 m (f_X8_count m (zI 0) (zI 5))) fun v5 => jb (jast_i v4 (zI ((7 * i : Nat) : Int) + zI 5) v5) fun _ => jp ()) (fun v M1 N1 => GN M1 N1 (f v) Q) := fun v8 g hv hg => by
    refine m_must (good := CmpSg) hM hs.1 (fun tk2 hx2 => ?_) (fun M1 N1 n1 hP1 => ?_)
    · rcases hg with ⟨g1, g2⟩ | ⟨g1, g2⟩
      · exact Or.inl ⟨g1, hx.cs hx2 g2⟩
      · exact Or.inr ⟨g1, fun y => g2 (hx2.cs hx y)⟩
    have hs1 := hs.ck n1 hP1
    have hM1 := n1.ml hM
    refine m_rec (q := 4) hM1 hs1 h3i (by omega) rfl (fun N2 n2 hs2 => ?_)
    refine m_cw (q := 5) (n2.ml hM1) hs2 h3i (by omega) rfl ⟨by omega, by omega⟩ ⟨by omega, by omega⟩ (fun M3 N3 n3 hs3 => w_jp (h M3 N3 (n1.nw.tr (n2.tr n3)) ?_))
    have e : (pbd s fun y => pCmp t y.1 y.2) = (pbd (pbd (pbd s fun y => pbd (pMust t CmpSg y.1) fun u => Except.ok (u, y.2)) fun y => Except.ok (y.1, upR y.2 4 v8)) fun y => pbd (pPas t 0 5 y.1) fun x => Except.ok (x.2, upR y.2 5 x.1)) := by
      cases s with
      | error er => rfl
      | ok y =>
        have ey : y.1 = tk := hst.1
        show pCmp t y.1 y.2 = pbd (pbd (pbd (pMust t CmpSg y.1) _) _) _
        unfold pCmp pMust
        by_cases c : CmpSg y.1
        · rw [if_pos c, if_pos c, hv (by rw [← ey]; exact c.1), ← ey]
          rfl
        · rw [if_neg c, if_neg c]
          rfl
    rw [e]
    exact hs3
  have go : ∀ v8 : Int, (tk.2.2.1 = 4 → v8 = tk.2.2.2) → GN M N (jb (jcall 7 m (f_X8_isSign m (zI 60))) fun v2 => if v2 = zI 0 then (jb (jcall 7 m (f_X8_isSign m (zI 62))) fun v6 => if v6 = zI 0 then (jb (jcall 7 m (f_X8_isSign m (zI 61))) fun v7 => if v7 = zI 0 then (jb (jcall 7 m (f_X8_must m (zI 0))) fun _ => jb (jgetA 7 22 m) fun v3 => jb (jast_i v3 (zI ((7 * i : Nat) : Int) + zI 4) (zI v8)) fun _ => jb (jgetA 7 22 m) fun v4 => jb (jcall 7 m (f_X8_count m (zI 0) (zI 5))) fun v5 => jb (jast_i v4 (zI ((7 * i : Nat) : Int) + zI 5) v5) fun _ => jp ())
      else (jb (jcall 7 m (f_X8_must m (zI 1))) fun _ => jb (jgetA 7 22 m) fun v3 => jb (jast_i v3 (zI ((7 * i : Nat) : Int) + zI 4) (zI v8)) fun _ => jb (jgetA 7 22 m) fun v4 => jb (jcall 7 m (f_X8_count m (zI 0) (zI 5))) fun v5 => jb (jast_i v4 (zI ((7 * i : Nat) : Int) + zI 5) v5) fun _ => jp ()))
      else (jb (jcall 7 m (f_X8_must m (zI 1))) fun _ => jb (jgetA 7 22 m) fun v3 => jb (jast_i v3 (zI ((7 * i : Nat) : Int) + zI 4) (zI v8)) fun _ => jb (jgetA 7 22 m) fun v4 => jb (jcall 7 m (f_X8_count m (zI 0) (zI 5))) fun v5 => jb (jast_i v4 (zI ((7 * i : Nat) : Int) + zI 5) v5) fun _ => jp ()))
      else (jb (jcall 7 m (f_X8_must m (zI 1))) fun _ => jb (jgetA 7 22 m) fun v3 => jb (jast_i v3 (zI ((7 * i : Nat) : Int) + zI 4) (zI v8)) fun _ => jb (jgetA 7 22 m) fun v4 => jb (jcall 7 m (f_X8_count m (zI 0) (zI 5))) fun v5 => jb (jast_i v4 (zI ((7 * i : Nat) : Int) + zI 5) v5) fun _ => jp ())) (fun v M1 N1 => GN M1 N1 (f v) Q) := fun v8 hv => by
    refine m_isSign hM hx ⟨by omega, by omega⟩ (fun v hv1 => ?_)
    rcases hv1 with ⟨rfl, c1⟩ | ⟨rfl, c1⟩
    · exact w_eq ⟨by omega, by omega⟩ ⟨by omega, by omega⟩ (fun x => absurd x (by decide)) (fun _ => tail v8 1 hv (Or.inl ⟨rfl, c1.1, Or.inl c1.2⟩))
    refine w_eq ⟨by omega, by omega⟩ ⟨by omega, by omega⟩ (fun _ => ?_) (fun x => absurd rfl x)
    refine m_isSign hM hx ⟨by omega, by omega⟩ (fun v hv1 => ?_)
    rcases hv1 with ⟨rfl, c2⟩ | ⟨rfl, c2⟩
    · exact w_eq ⟨by omega, by omega⟩ ⟨by omega, by omega⟩ (fun x => absurd x (by decide)) (fun _ => tail v8 1 hv (Or.inl ⟨rfl, c2.1, Or.inr (Or.inl c2.2)⟩))
    refine w_eq ⟨by omega, by omega⟩ ⟨by omega, by omega⟩ (fun _ => ?_) (fun x => absurd rfl x)
    refine m_isSign hM hx ⟨by omega, by omega⟩ (fun v hv1 => ?_)
    rcases hv1 with ⟨rfl, c3⟩ | ⟨rfl, c3⟩
    · exact w_eq ⟨by omega, by omega⟩ ⟨by omega, by omega⟩ (fun x => absurd x (by decide)) (fun _ => tail v8 1 hv (Or.inl ⟨rfl, c3.1, Or.inr (Or.inr c3.2)⟩))
    refine w_eq ⟨by omega, by omega⟩ ⟨by omega, by omega⟩ (fun _ => tail v8 0 hv (Or.inr ⟨rfl, fun x => ?_⟩)) (fun x => absurd rfl x)
    rcases x.2 with y | y | y
    · exact c1 ⟨x.1, y⟩
    · exact c2 ⟨x.1, y⟩
    · exact c3 ⟨x.1, y⟩
  refine w_eq ⟨by omega, by omega⟩ ⟨by omega, by omega⟩ (fun q => ?_) (fun q => ?_)
  · refine w_MI hM ?_
    have e4 : tk.2.2.1 = 4 := by unfold mso at q; split at q; omega; split at q <;> omega
    exact go _ (fun x => hx.2.2.2.2.2.1 (Or.inr x))
  · exact go 0 (fun x => absurd (by rw [x]; rfl) q)
end RSM
