/-! TEXTS: the component's tokens. -/
set_option maxRecDepth 100000
section TXC
variable {α τ : Type} {M M' : Mem} {N N' : NM} {c k e e0 b d : Nat} {z : Int} {t : Tx} {tk : Tk} {Q : τ → Mem → NM → Prop}
/-- a text as the component has it at hand -/
def TxC (N : NM) (c : Nat) (t : Tx) : Prop := N (c + 2) 1 = t.1 ∧ t.1 ≤ 600 ∧ ∀ i, i < t.1 → -128 ≤ N (c + 4) i ∧ N (c + 4) i ≤ 127 ∧ t.2 i = N (c + 4) i % 256
theorem TxC.bb (h : TxC N c t) (hk : k < t.1) : 0 ≤ t.2 k ∧ t.2 k ≤ 255 := by
  obtain ⟨_, _, e⟩ := h.2.2 k hk
  omega
/-- what finding a token writes -/
def NxF (c : Nat) (N N' : NM) : Prop := (∀ b, b ≠ c + 2 → N' b = N b) ∧ ∀ k, k < 2 ∨ 5 < k → N' (c + 2) k = N (c + 2) k
theorem NxF.rf : NxF c N N := ⟨fun _ _ => rfl, fun _ _ => rfl⟩
theorem NxF.tr {N2 : NM} (h : NxF c N N') (h2 : NxF c N' N2) : NxF c N N2 := ⟨fun b hb => (h2.1 b hb).trans (h.1 b hb), fun k hk => (h2.2 k hk).trans (h.2 k hk)⟩
theorem NxF.up {v : Int} (h : NxF c N N') (hk : 2 ≤ k ∧ k ≤ 5) : NxF c N (up2 N' (c + 2) k v) := ⟨fun b hb => (upb hb).trans (h.1 b hb), fun j hj => (upk (by omega)).trans (h.2 j hj)⟩
theorem TxC.fr (h : TxC N c t) (hF : NxF c N N') : TxC N' c t := ⟨(hF.2 1 (by omega)).trans h.1, h.2.1, fun i hi => by rw [hF.1 (c + 4) (by omega)]; exact h.2.2 i hi⟩
/-- the token at hand -/
def CRd (N : NM) (c : Nat) (t : Tx) (tk : Tk) : Prop := TxC N c t ∧ TkOk t tk ∧ N (c + 2) 2 = tk.2.2.1 ∧ N (c + 2) 3 = tk.1 ∧ N (c + 2) 4 = tk.2.1 ∧ (tk.2.2.1 = 3 ∨ tk.2.2.1 = 4 → N (c + 2) 5 = tk.2.2.2)
def atT (t : Tx) (k : Nat) : Int := if k < t.1 then t.2 k else -1
theorem atT_b (h : TxC N c t) : -1 ≤ atT t k ∧ atT t k ≤ 255 := by
  unfold atT
  by_cases q : k < t.1
  · rw [if_pos q]; have := h.bb q; omega
  · rw [if_neg q]; exact ⟨by decide, by decide⟩
theorem and255 : ∀ k : Nat, k < 256 → zI ((k : Int) - 128) &&& 255 = zI (((k : Int) - 128) % 256) := by decide +kernel
theorem zI_255 (h : -128 ≤ z ∧ z ≤ 127) : zI z &&& 255 = zI (z % 256) := by
  have := and255 (z + 128).toNat (by omega)
  rw [show (((z + 128).toNat : Nat) : Int) - 128 = z by omega] at this
  exact this
theorem c_at {f : Int32 → JM Mem τ} (hC : CL M c) (hx : TxC N c t) (hk : k ≤ 100000) (h : GN M N (f (zI (atT t k))) Q) : GN M N (jb (jcall 1 (c + 2) (f_X1_at (c + 2) (zI k))) f) Q := by
  have hr := hC.rd
  have h6 := hx.2.1
  refine w_call hr.1 ?_
  unfold f_X1_at
  refine w_getI hr.1 ?_
  rw [hx.1]
  unfold atT at h
  refine w_le ⟨by omega, by omega⟩ ⟨by omega, by omega⟩ (fun q => ?_) (fun q => ?_)
  · rw [if_neg (by omega)] at h
    rw [z_m1]
    exact w_jp h
  · rw [if_pos (by omega)] at h
    refine w_getA hr.1 hr.2.2.1 (w_ald (hC.ka (o := 4) (d := (1, 600)) rfl) (by omega) (by omega) (w_jp ?_))
    rw [show ((k : Int).toNat) = k from rfl]
    obtain ⟨b1, b2, b3⟩ := hx.2.2 k (by omega)
    rw [zI_255 ⟨b1, b2⟩, ← b3]
    exact h
theorem c_small {f : Int32 → JM Mem τ} (hz : zR z) (h : GN M N (f (zI (if Ltr z then 1 else 0))) Q) : GN M N (jb (f_X1_isSmall (zI z)) f) Q := by
  refine w_jb ?_
  unfold f_X1_isSmall
  rw [z_97, z_122, z_0, z_1]
  refine w_lt hz ⟨by omega, by omega⟩ (fun q => ?_) (fun q => ?_)
  · rw [if_neg (by omega)] at h; exact w_jp h
  refine w_lt ⟨by omega, by omega⟩ hz (fun q2 => ?_) (fun q2 => ?_)
  · rw [if_neg (by omega)] at h; exact w_jp h
  · rw [if_pos (by omega)] at h; exact w_jp h
theorem c_digit {f : Int32 → JM Mem τ} (hz : zR z) (h : GN M N (f (zI (if Dig z then 1 else 0))) Q) : GN M N (jb (f_X1_isDigit (zI z)) f) Q := by
  refine w_jb ?_
  unfold f_X1_isDigit
  rw [z_48, z_57, z_0, z_1]
  refine w_lt hz ⟨by omega, by omega⟩ (fun q => ?_) (fun q => ?_)
  · rw [if_neg (by omega)] at h; exact w_jp h
  refine w_lt ⟨by omega, by omega⟩ hz (fun q2 => ?_) (fun q2 => ?_)
  · rw [if_neg (by omega)] at h; exact w_jp h
  · rw [if_pos (by omega)] at h; exact w_jp h
theorem chB1 : chB 1 0 = 59 ∧ chB 1 1 = 60 ∧ chB 1 2 = 62 ∧ chB 1 3 = 61 := by decide
theorem c_isSign {f : Int32 → JM Mem τ} (hC : CL M c) (hT : TwoT M) (hz : zR z) (h : GN M N (f (zI (if Sgn z then 1 else 0))) Q) : GN M N (jb (jcall 1 (c + 2) (f_X1_isSign (c + 2) (zI z))) f) Q := by
  have hr := hC.rd
  obtain ⟨s0, s1, s2, s3⟩ := chB1
  have e7 : mR M (c + 2) 7 = some (mT M (100 + 1)) := hr.2.2.2.2.2.2
  refine w_call hr.1 ?_
  unfold f_X1_isSign
  rw [z_0]
  refine w_up 4 (fun k N1 => N1 = N ∧ ∀ j, j < k → chB 1 j ≠ z) 0 rfl (by omega) ⟨rfl, fun j hj => absurd hj (by omega)⟩ ?_
  rintro k N1 hk ⟨rfl, hn⟩
  unfold X1_isSign_L2
  refine w_getA hr.1 e7 (w_length hT (by omega) ?_)
  show GN M N1 (if zI ((4 : Nat) : Int) ≤ zI k then _ else _) _
  refine w_le ⟨by omega, by omega⟩ ⟨by omega, by omega⟩ (fun q => ?_) (fun q => ?_)
  · have n0 := hn 0 (by omega)
    have n1 := hn 1 (by omega)
    have n2 := hn 2 (by omega)
    have n3 := hn 3 (by omega)
    rw [s0] at n0
    rw [s1] at n1
    rw [s2] at n2
    rw [s3] at n3
    rw [if_neg (show ¬ Sgn z by omega)] at h
    rw [z_0]
    exact w_jinl (w_jp h)
  · refine w_getA hr.1 e7 (w_charAt hT (by omega) ⟨by omega, by show (k : Int) < 4; omega⟩ ?_)
    rw [show ((k : Int).toNat) = k from rfl]
    have hb : zR (chB 1 k) := by
      rcases (show k = 0 ∨ k = 1 ∨ k = 2 ∨ k = 3 by omega) with rfl | rfl | rfl | rfl <;> exact ⟨by omega, by omega⟩
    refine w_eq hb hz (fun q2 => ?_) (fun q2 => ?_)
    · rw [if_pos (show Sgn z by
        rcases (show k = 0 ∨ k = 1 ∨ k = 2 ∨ k = 3 by omega) with rfl | rfl | rfl | rfl <;> omega)] at h
      rw [z_1]
      exact w_jinl (w_jp h)
    · rw [z_1, zI_add]
      refine w_jcont ⟨by omega, rfl, rfl, fun j hj => ?_⟩
      by_cases q3 : j = k
      · rw [q3]; exact q2
      · exact hn j (by omega)
/-- blanks are gone over -/
theorem c_skip {Q : Unit → Mem → NM → Prop} (hC : CL M c) : ∀ d e (N : NM), TxC N c t → RunE Blk t e (e + d) → e + d ≤ 600 → N (c + 2) 4 = e → (∀ N' : NM, NxF c N N' → N' (c + 2) 4 = (e + d : Nat) → GN M N' (X1_next_b39 (c + 2)) Q) → GN M N (jloop (fun _ => X1_next_L0 (c + 2)) ()) Q := by
  have hr := hC.rd
  intro d
  induction d with
  | zero =>
    intro e N hx hR h6 he h
    have ha : atT t e ≠ 32 ∧ atT t e ≠ 10 := by
      have := hR.2.2
      unfold atT
      by_cases q : e < t.1
      · rw [if_pos q]
        exact ⟨fun x => this ⟨q, Or.inl x⟩, fun x => this ⟨q, Or.inr x⟩⟩
      · rw [if_neg q]; exact ⟨by decide, by decide⟩
    have hb := atT_b (k := e) hx
    refine w_unroll ?_
    unfold X1_next_L0
    rw [z_32, z_10]
    refine w_getI hr.1 ?_
    rw [he]
    refine c_at hC hx (by omega) ?_
    refine w_eq ⟨by omega, by omega⟩ ⟨by omega, by omega⟩ (fun q => absurd q ha.1) (fun _ => ?_)
    refine w_getI hr.1 ?_
    rw [he]
    refine c_at hC hx (by omega) ?_
    refine w_eq ⟨by omega, by omega⟩ ⟨by omega, by omega⟩ (fun q => absurd q ha.2) (fun _ => w_jinl (h N NxF.rf he))
  | succ d ih =>
    intro e N hx hR h6 he h
    obtain ⟨r1, r2⟩ := hR.2.1 e (by omega) (by omega)
    have hae : atT t e = t.2 e := if_pos r1
    have hb := atT_b (k := e) hx
    have hgo : GN M N (X1_next_b26 (c + 2)) (LQ Q (fun t1 M1 N1 => GN M1 N1 (jloop (fun _ => X1_next_L0 (c + 2)) t1) Q)) := by
      unfold X1_next_b26
      refine w_getI hr.1 ?_
      rw [he, z_1, zI_add, show ((e : Int) + 1) = ((e + 1 : Nat) : Int) by omega]
      refine w_putI hr.1 (w_jcontB ?_)
      refine ih (e + 1) _ (hx.fr (NxF.rf.up (by omega))) ⟨by omega, fun j a b => hR.2.1 j (by omega) (by omega), by rw [show e + 1 + d = e + (d + 1) by omega]; exact hR.2.2⟩ (by omega) upv (fun N' hF he' => h N' ((NxF.rf.up (by omega)).tr hF) (by rw [he']; omega))
    refine w_unroll ?_
    unfold X1_next_L0
    rw [z_32, z_10]
    refine w_getI hr.1 ?_
    rw [he]
    refine c_at hC hx (by omega) ?_
    refine w_eq ⟨by omega, by omega⟩ ⟨by omega, by omega⟩ (fun q => hgo) (fun q => ?_)
    refine w_getI hr.1 ?_
    rw [he]
    refine c_at hC hx (by omega) ?_
    refine w_eq ⟨by omega, by omega⟩ ⟨by omega, by omega⟩ (fun q2 => hgo) (fun q2 => ?_)
    rw [hae] at q q2
    exact absurd r2 (by omega)
/-- letters are gone over -/
theorem c_letters {Q : Unit → Mem → NM → Prop} (hC : CL M c) : ∀ d e (N : NM), TxC N c t → RunE Ltr t e (e + d) → e + d ≤ 600 → N (c + 2) 4 = e → (∀ N' : NM, (∀ b, b ≠ c + 2 → N' b = N b) → (∀ k, k ≠ 2 → k ≠ 4 → N' (c + 2) k = N (c + 2) k) → N' (c + 2) 4 = (e + d : Nat) → N' (c + 2) 2 = 2 → Q () M N') → GN M N (jloop (fun _ => X1_next_L81 (c + 2)) ()) Q := by
  have hr := hC.rd
  intro d
  induction d with
  | zero =>
    intro e N hx hR h6 he h
    have ha : ¬ Ltr (atT t e) := by
      have := hR.2.2
      unfold atT
      by_cases q : e < t.1
      · rw [if_pos q]
        exact fun x => this ⟨q, x⟩
      · rw [if_neg q]; decide
    have hb := atT_b (k := e) hx
    refine w_unroll ?_
    unfold X1_next_L81
    refine w_getI hr.1 ?_
    rw [he, z_0]
    refine c_at hC hx (by omega) (c_small ⟨by omega, by omega⟩ ?_)
    rw [if_neg ha]
    refine w_eq ⟨by omega, by omega⟩ ⟨by omega, by omega⟩ (fun _ => ?_) (fun x => absurd rfl x)
    unfold X1_next_b108
    rw [z_2]
    exact w_jinl (w_putI hr.1 (w_jp (h _ (fun b hb => upb hb) (fun k h1 h2 => upk h1) (by rw [upk (by omega)]; exact he) upv)))
  | succ d ih =>
    intro e N hx hR h6 he h
    obtain ⟨r1, r2⟩ := hR.2.1 e (by omega) (by omega)
    have hae : atT t e = t.2 e := if_pos r1
    have hb := atT_b (k := e) hx
    refine w_unroll ?_
    unfold X1_next_L81
    refine w_getI hr.1 ?_
    rw [he, z_0]
    refine c_at hC hx (by omega) (c_small ⟨by omega, by omega⟩ ?_)
    rw [hae, if_pos r2]
    refine w_eq ⟨by omega, by omega⟩ ⟨by omega, by omega⟩ (fun x => absurd x (by decide)) (fun _ => ?_)
    refine w_getI hr.1 ?_
    rw [he, z_1, zI_add, show ((e : Int) + 1) = ((e + 1 : Nat) : Int) by omega]
    refine w_putI hr.1 (w_jcontB ?_)
    refine ih (e + 1) _ (hx.fr (NxF.rf.up (by omega))) ⟨by omega, fun j a b => hR.2.1 j (by omega) (by omega), by rw [show e + 1 + d = e + (d + 1) by omega]; exact hR.2.2⟩ (by omega) upv (fun N' h1 h2 h3 h4 => h N' (fun b hb => (h1 b hb).trans (upb hb)) (fun k a b => (h2 k a b).trans (upk b)) (by rw [h3]; omega) h4)
/-- digits are gone over -/
theorem c_digits {Q : Unit → Mem → NM → Prop} (hC : CL M c) (hb6 : b ≤ 600) : ∀ d e (N : NM), TxC N c t → RunE Dig t (b + e) (b + e + d) → b + e + d ≤ 600 → N (c + 2) 4 = (b + e : Nat) → N (c + 2) 3 = b → (∀ i, i < e → Dig (t.2 (b + i))) → 0 ≤ N (c + 2) 5 ∧ N (c + 2) 5 ≤ 100000 ∧ (e ≤ 4 → N (c + 2) 5 = decV t b e) →
    (∀ N' : NM, (∀ b, b ≠ c + 2 → N' b = N b) → (∀ k, k ≠ 2 → k ≠ 4 → k ≠ 5 → N' (c + 2) k = N (c + 2) k) → N' (c + 2) 4 = (b + e + d : Nat) → N' (c + 2) 2 = (if 4 < e + d then 1 else 3) → (e + d ≤ 4 → N' (c + 2) 5 = decV t b (e + d)) → Q () M N') → GN M N (jloop (fun _ => X1_next_L128 (c + 2)) ()) Q := by
  have hr := hC.rd
  intro d
  induction d with
  | zero =>
    intro e N hx hR h6 he h3 hdg hv h
    have ha : ¬ Dig (atT t (b + e)) := by
      have := hR.2.2
      unfold atT
      by_cases q : b + e < t.1
      · rw [if_pos q]
        exact fun x => this ⟨q, x⟩
      · rw [if_neg q]; decide
    have hb := atT_b (k := b + e) hx
    refine w_unroll ?_
    unfold X1_next_L128
    refine w_getI hr.1 ?_
    rw [he, z_0]
    refine c_at hC hx (by omega) (c_digit ⟨by omega, by omega⟩ ?_)
    rw [if_neg ha]
    refine w_eq ⟨by omega, by omega⟩ ⟨by omega, by omega⟩ (fun _ => ?_) (fun x => absurd rfl x)
    unfold X1_next_b183 X1_next_b202
    refine w_jinl (w_getI hr.1 (w_getI hr.1 ?_))
    rw [he, h3, zI_sub, z_4, z_3, z_1]
    refine w_le ⟨by omega, by omega⟩ ⟨by omega, by omega⟩ (fun q => ?_) (fun q => ?_)
    · exact w_putI hr.1 (w_jp (h _ (fun b hb => upb hb) (fun k a1 a2 a3 => upk a1) (by rw [upk (by omega)]; exact he) (by rw [upv, if_neg (by omega)]) (fun q2 => by rw [upk (by omega)]; exact hv.2.2 q2)))
    · exact w_putI hr.1 (w_jp (h _ (fun b hb => upb hb) (fun k a1 a2 a3 => upk a1) (by rw [upk (by omega)]; exact he) (by rw [upv, if_pos (by omega)]) (fun q2 => by omega)))
  | succ d ih =>
    intro e N hx hR h6 he h3 hdg hv h
    obtain ⟨r1, r2⟩ := hR.2.1 (b + e) (by omega) (by omega)
    have hae : atT t (b + e) = t.2 (b + e) := if_pos r1
    have hb := atT_b (k := b + e) hx
    refine w_unroll ?_
    unfold X1_next_L128
    refine w_getI hr.1 ?_
    rw [he, z_0]
    refine c_at hC hx (by omega) (c_digit ⟨by omega, by omega⟩ ?_)
    rw [hae, if_pos r2]
    refine w_eq ⟨by omega, by omega⟩ ⟨by omega, by omega⟩ (fun x => absurd x (by decide)) (fun _ => ?_)
    obtain ⟨v1, v2, v3⟩ := hv
    refine w_getI hr.1 (w_getI hr.1 ?_)
    rw [he]
    refine c_at hC hx (by omega) ?_
    rw [hae, z_10, z_48, z_100000, z_1, zI_mul, zI_add, zI_sub]
    have hmin : ∀ {g : Int32 → JM Mem (Unit ⊕ Unit)} {Q' : (Unit ⊕ Unit) → Mem → NM → Prop} (x : Int), zR x → GN M N (g (zI (if x < 100000 then x else 100000))) Q' → GN M N (jb (f_J8_min (zI 100000) (zI x)) g) Q' := fun {g Q'} x hx hg => by
      refine w_jb ?_
      unfold f_J8_min
      refine w_lt hx ⟨by omega, by omega⟩ (fun q => ?_) (fun q => ?_)
      · rw [if_pos q] at hg; exact w_jp hg
      · rw [if_neg (by omega)] at hg; exact w_jp hg
    refine hmin (10 * N (c + 2) 5 + t.2 (b + e) - 48) ⟨by omega, by omega⟩ ?_
    refine w_putI hr.1 (w_getI hr.1 ?_)
    rw [upk (by omega), he, zI_add, show (((b + e : Nat) : Int) + 1) = ((b + (e + 1) : Nat) : Int) by omega]
    refine w_putI hr.1 (w_jcontB ?_)
    have hdb := decV_bd (t := t) (b := b) e hdg
    refine ih (e + 1) _ (hx.fr ((NxF.rf.up (by omega)).up (by omega))) ⟨by omega, fun j a b => hR.2.1 j (by omega) (by omega), by rw [show b + (e + 1) + d = b + e + (d + 1) by omega]; exact hR.2.2⟩ (by omega) upv (by rw [upk (by omega), upk (by omega)]; exact h3) (fun i hi => ?_) ?_ (fun N' h1 h2 h3' h4 h5 => h N' (fun b hb => (h1 b hb).trans ((upb hb).trans (upb hb))) (fun k a1 a2 a3 => (h2 k a1 a2 a3).trans ((upk a2).trans (upk a3))) (by rw [h3']; omega) (by rw [h4, show e + 1 + d = e + (d + 1) by omega]) (fun q => by rw [h5 (by omega), show e + 1 + d = e + (d + 1) by omega]))
    · by_cases q : i = e
      · rw [q]; exact r2
      · exact hdg i (by omega)
    · rw [upk (by omega), upv]
      refine ⟨by split <;> omega, by split <;> omega, fun q => ?_⟩
      have e4 : decV t b (e + 1) = 10 * decV t b e + t.2 (b + e) - 48 := rfl
      have h9 : (10 : Int) ^ e ≤ 1000 := by
        rcases (show e = 0 ∨ e = 1 ∨ e = 2 ∨ e = 3 by omega) with q | q | q | q <;> (rw [q]; decide)
      rw [v3 (by omega), e4, if_pos (by omega)]
theorem c_next {f : Unit → JM Mem τ} (hC : CL M c) (hT : TwoT M) (hx : TxC N c t) (he : N (c + 2) 4 = e) (he2 : e ≤ t.1) (h : ∀ N', NxF c N N' → CRd N' c t (tok t e) → GN M N' (f ()) Q) : GN M N (jb (jcall 1 (c + 2) (f_X1_next (c + 2))) f) Q := by
  have hr := hC.rd
  have h6 := hx.2.1
  have hrun : RunE Blk t e (rEnd Blk t e) := rEnd_of
  have hle := hrun.le he2
  have hge := hrun.1
  have hok := (tok_ok (t := t) he2).1
  refine w_call hr.1 ?_
  unfold f_X1_next
  have hB : e + (rEnd Blk t e - e) = rEnd Blk t e := by omega
  refine c_skip hC (rEnd Blk t e - e) e N hx (by rw [hB]; exact hrun) (by omega) he (fun N1 hF1 he1 => ?_)
  rw [hB] at he1
  have hx1 := hx.fr hF1
  have etok : tok t e = if t.1 ≤ rEnd Blk t e then (rEnd Blk t e, rEnd Blk t e, 0, 0) else tokB t (rEnd Blk t e) := rfl
  rw [etok] at hok h
  generalize rEnd Blk t e = b at *
  have hab := atT_b (k := b) hx1
  unfold X1_next_b39
  rw [z_m1, z_0, z_1, show (4 : Int32) = zI 4 from rfl]
  refine w_getI hr.1 ?_
  rw [he1]
  refine w_putI hr.1 (w_getI hr.1 ?_)
  have hF2 := hF1.up (k := 3) (v := (b : Int)) (by omega)
  have hx2 := hx.fr hF2
  rw [upk (by omega), he1]
  refine c_at hC hx2 (by omega) (w_putI hr.1 ?_)
  have hF3 := hF2.up (k := 5) (v := atT t b) (by omega)
  have hx3 := hx.fr hF3
  have g3 : up2 (up2 N1 (c + 2) 3 b) (c + 2) 5 (atT t b) (c + 2) 3 = b := by rw [upk (by omega), upv]
  have g4 : up2 (up2 N1 (c + 2) 3 b) (c + 2) 5 (atT t b) (c + 2) 4 = b := by rw [upk (by omega), upk (by omega)]; exact he1
  have g5 : up2 (up2 N1 (c + 2) 3 b) (c + 2) 5 (atT t b) (c + 2) 5 = atT t b := upv
  generalize up2 (up2 N1 (c + 2) 3 b) (c + 2) 5 (atT t b) = N3 at hF3 hx3 g3 g4 g5
  by_cases c1 : t.1 ≤ b
  · rw [if_pos c1] at hok h
    rw [show atT t b = -1 from if_neg (by omega)]
    refine w_eq ⟨by omega, by omega⟩ ⟨by omega, by omega⟩ (fun _ => ?_) (fun x => absurd rfl x)
    refine w_putI hr.1 (w_jp (h _ (hF3.up (by omega)) ⟨hx.fr (hF3.up (by omega)), hok, upv, by rw [upk (by omega)]; exact g3, by rw [upk (by omega)]; exact g4, fun x => ?_⟩))
    have x : (0 : Nat) = 3 ∨ (0 : Nat) = 4 := x
    omega
  rw [if_neg c1] at hok h
  have hab2 : atT t b = t.2 b := if_pos (by omega)
  have h0b := hx.bb (show b < t.1 by omega)
  rw [hab2]
  rw [hab2] at g5 hab
  refine w_eq ⟨by omega, by omega⟩ ⟨by omega, by omega⟩ (fun x => absurd x (by omega)) (fun _ => ?_)
  refine c_small ⟨by omega, by omega⟩ ?_
  unfold tokB at hok h
  by_cases c2 : Ltr (t.2 b)
  · rw [if_pos c2] at hok h
    rw [if_pos c2]
    refine w_eq ⟨by omega, by omega⟩ ⟨by omega, by omega⟩ (fun x => absurd x (by decide)) (fun _ => ?_)
    have hrl : RunE Ltr t b (rEnd Ltr t b) := rEnd_of
    have hll := hrl.le (by omega)
    have hlg := hrl.1
    have hL : b + (rEnd Ltr t b - b) = rEnd Ltr t b := by omega
    refine c_letters hC (rEnd Ltr t b - b) b N3 hx3 (by rw [hL]; exact hrl) (by omega) g4 (fun N4 y1 y2 y3 y4 => ?_)
    have hF4 : NxF c N N4 := hF3.tr ⟨y1, fun k hk => y2 k (by omega) (by omega)⟩
    refine h N4 hF4 ⟨hx.fr hF4, hok, y4, by rw [y2 3 (by omega) (by omega)]; exact g3, by rw [y3, hL], fun x => ?_⟩
    have x : (2 : Nat) = 3 ∨ (2 : Nat) = 4 := x
    omega
  rw [if_neg c2] at hok h
  rw [if_neg c2]
  refine w_eq ⟨by omega, by omega⟩ ⟨by omega, by omega⟩ (fun _ => ?_) (fun x => absurd rfl x)
  refine c_digit ⟨by omega, by omega⟩ ?_
  by_cases c3 : Dig (t.2 b)
  · rw [if_pos c3] at hok h
    rw [if_pos c3]
    refine w_eq ⟨by omega, by omega⟩ ⟨by omega, by omega⟩ (fun x => absurd x (by decide)) (fun _ => ?_)
    have hrl : RunE Dig t b (rEnd Dig t b) := rEnd_of
    have hll := hrl.le (by omega)
    have hlg := hrl.1
    have hL : b + 0 + (rEnd Dig t b - b) = rEnd Dig t b := by omega
    refine w_putI hr.1 ?_
    refine c_digits (b := b) hC (by omega) (rEnd Dig t b - b) 0 _ (hx.fr (hF3.up (by omega))) (by rw [hL]; exact hrl) (by omega) (by rw [upk (by omega)]; exact g4) (by rw [upk (by omega)]; exact g3) (fun i hi => absurd hi (by omega)) (by rw [upv]; exact ⟨by omega, by omega, fun _ => rfl⟩) (fun N4 y1 y2 y3 y4 y5 => ?_)
    have hF4 : NxF c N N4 := (hF3.up (k := 5) (v := 0) (by omega)).tr ⟨y1, fun k hk => y2 k (by omega) (by omega) (by omega)⟩
    rw [Nat.zero_add] at y4 y5
    refine h N4 hF4 ⟨hx.fr hF4, hok, ?_, by rw [y2 3 (by omega) (by omega) (by omega), upk (by omega)]; exact g3, by rw [y3, hL], fun x => ?_⟩
    · rw [y4]
      show (if 4 < rEnd Dig t b - b then (1 : Int) else 3) = ((if 4 < rEnd Dig t b - b then 1 else 3 : Nat) : Int)
      split <;> rfl
    · have x : (if 4 < rEnd Dig t b - b then 1 else 3 : Nat) = 3 ∨ (if 4 < rEnd Dig t b - b then 1 else 3 : Nat) = 4 := x
      exact y5 (by
        by_cases q : 4 < rEnd Dig t b - b
        · rw [if_pos q] at x; omega
        · omega)
  · rw [if_neg c3] at hok h
    rw [if_neg c3]
    refine w_eq ⟨by omega, by omega⟩ ⟨by omega, by omega⟩ (fun _ => ?_) (fun x => absurd rfl x)
    refine w_getI hr.1 ?_
    rw [g4, zI_add, show ((b : Int) + 1) = ((b + 1 : Nat) : Int) by omega]
    refine w_putI hr.1 ?_
    have hF4 := hF3.up (k := 4) (v := ((b + 1 : Nat) : Int)) (by omega)
    refine c_isSign hC hT ⟨by omega, by omega⟩ ?_
    unfold X1_next_b232
    by_cases c4 : Sgn (t.2 b)
    · rw [if_pos c4] at hok h
      rw [if_pos c4]
      refine w_eq ⟨by omega, by omega⟩ ⟨by omega, by omega⟩ (fun x => absurd x (by decide)) (fun _ => ?_)
      exact w_putI hr.1 (w_jp (h _ (hF4.up (by omega)) ⟨hx.fr (hF4.up (by omega)), hok, upv, by rw [upk (by omega), upk (by omega)]; exact g3, by rw [upk (by omega), upv], fun _ => by rw [upk (by omega), upk (by omega)]; exact g5⟩))
    · rw [if_neg c4] at hok h
      rw [if_neg c4]
      refine w_eq ⟨by omega, by omega⟩ ⟨by omega, by omega⟩ (fun _ => ?_) (fun x => absurd rfl x)
      refine w_putI hr.1 (w_jp (h _ (hF4.up (by omega)) ⟨hx.fr (hF4.up (by omega)), hok, upv, by rw [upk (by omega), upk (by omega)]; exact g3, by rw [upk (by omega), upv], fun x => ?_⟩))
      have x : (1 : Nat) = 3 ∨ (1 : Nat) = 4 := x
      omega
end TXC
