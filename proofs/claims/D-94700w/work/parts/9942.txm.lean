/-! TEXTS: the model's tokens. -/
set_option maxRecDepth 100000
section TXM
variable {α τ : Type} {M M' M0 : Mem} {N N' N0 : NM} {m k e e0 b d : Nat} {z : Int} {t : Tx} {tk : Tk} {Q : τ → Mem → NM → Prop}
def TxM (N : NM) (m : Nat) (t : Tx) : Prop := N m 9 = t.1 ∧ t.1 ≤ 600 ∧ ∀ i, i < t.1 → -128 ≤ N (m + 4) i ∧ N (m + 4) i ≤ 127 ∧ t.2 i = N (m + 4) i % 256
theorem TxM.bb (h : TxM N m t) (hk : k < t.1) : 0 ≤ t.2 k ∧ t.2 k ≤ 255 := by
  obtain ⟨_, _, e⟩ := h.2.2 k hk
  omega
/-- what finding a token writes, the model -/
def NxM (m : Nat) (M : Mem) (N : NM) (M' : Mem) (N' : NM) : Prop := (∀ b, b ≠ m → N' b = N b) ∧ (∀ k, k < 14 ∨ 18 < k → N' m k = N m k) ∧ ∃ L', M' = sL M L' ∧ ∀ b k, b ≠ m ∨ k ≠ 18 → L' b k = mL M b k
theorem NxM.rf : NxM m M N M N := ⟨fun _ _ => rfl, fun _ _ => rfl, mL M, rfl, fun _ _ _ => rfl⟩
theorem NxM.tr {M2 : Mem} {N2 : NM} (h : NxM m M N M' N') (h2 : NxM m M' N' M2 N2) : NxM m M N M2 N2 := by
  obtain ⟨a1, a2, L1, rfl, a3⟩ := h
  obtain ⟨b1, b2, L2, rfl, b3⟩ := h2
  exact ⟨fun b hb => (b1 b hb).trans (a1 b hb), fun k hk => (b2 k hk).trans (a2 k hk), L2, rfl, fun b k hk => (b3 b k hk).trans (a3 b k hk)⟩
theorem NxM.up {v : Int} (h : NxM m M N M' N') (hk : 14 ≤ k ∧ k ≤ 18) : NxM m M N M' (up2 N' m k v) := ⟨fun b hb => (upb hb).trans (h.1 b hb), fun j hj => (upk (by omega)).trans (h.2.1 j hj), h.2.2⟩
theorem NxM.pL {v : Int64} (h : NxM m M N M' N') : NxM m M N (sL M' (up2 (mL M') m 18 v)) N' := by
  obtain ⟨a1, a2, L1, rfl, a3⟩ := h
  exact ⟨a1, a2, _, rfl, fun b k hk => (if_neg (fun e => by omega)).trans (a3 b k hk)⟩
theorem NxM.ml (h : NxM m M N M' N') (hM : ML M m) : ML M' m := by
  obtain ⟨_, _, L1, rfl, _⟩ := h
  exact hM.ag (fun _ _ _ => ⟨rfl, rfl⟩)
theorem TxM.fr (h : TxM N m t) (hF : NxM m M N M' N') : TxM N' m t := ⟨(hF.2.1 9 (by omega)).trans h.1, h.2.1, fun i hi => by rw [hF.1 (m + 4) (by omega)]; exact h.2.2 i hi⟩
/-- a sort as the model numbers it -/
def mso (s : Nat) : Int := if s = 0 then 0 else if s = 1 then 4 else (s : Int) - 1
def MRd (M : Mem) (N : NM) (m : Nat) (t : Tx) (tk : Tk) : Prop := TxM N m t ∧ TkOk t tk ∧ N m 14 = mso tk.2.2.1 ∧ N m 15 = tk.1 ∧ N m 16 = tk.2.1 ∧ (tk.2.2.1 = 3 ∨ tk.2.2.1 = 4 → N m 17 = tk.2.2.2) ∧ (tk.2.2.1 = 2 → mL M m 18 = zL (wcd t tk.1 (tk.2.1 - tk.1)))
def lkT (t : Tx) (k : Nat) : Int := if k < t.1 then t.2 k else 0
theorem lkT_b (h : TxM N m t) : 0 ≤ lkT t k ∧ lkT t k ≤ 255 := by
  unfold lkT
  by_cases q : k < t.1
  · rw [if_pos q]; have := h.bb q; omega
  · rw [if_neg q]; exact ⟨by decide, by decide⟩
theorem m_look {f : Int32 → JM Mem τ} (hM : ML M m) (hx : TxM N m t) (hk : k ≤ 100000) (h : GN M N (f (zI (lkT t k))) Q) : GN M N (jb (jcall 7 m (f_X8_look2 m (zI k))) f) Q := by
  have h6 := hx.2.1
  refine w_Mc hM ?_
  unfold f_X8_look2
  refine w_MI hM ?_
  rw [hx.1, z_0]
  unfold lkT at h
  refine w_le ⟨by omega, by omega⟩ ⟨by omega, by omega⟩ (fun q => ?_) (fun q => ?_)
  · rw [if_neg (by omega)] at h
    exact w_jp h
  · rw [if_pos (by omega)] at h
    refine w_Mf hM rfl (w_ald (hM.ka (o := 4) (d := (1, 600)) rfl) (by omega) (by omega) (w_jp ?_))
    rw [show ((k : Int).toNat) = k from rfl]
    obtain ⟨b1, b2, b3⟩ := hx.2.2 k (by omega)
    rw [zI_255 ⟨b1, b2⟩, ← b3]
    exact h
theorem m_letter {f : Int32 → JM Mem τ} (hz : zR z) (h : GN M N (f (zI (if Ltr z then 1 else 0))) Q) : GN M N (jb (f_X8_isLetter (zI z)) f) Q := by
  refine w_jb ?_
  unfold f_X8_isLetter
  rw [z_97, z_122, z_0, z_1]
  refine w_lt hz ⟨by omega, by omega⟩ (fun q => ?_) (fun q => ?_)
  · rw [if_neg (by omega)] at h; exact w_jp h
  refine w_lt ⟨by omega, by omega⟩ hz (fun q2 => ?_) (fun q2 => ?_)
  · rw [if_neg (by omega)] at h; exact w_jp h
  · rw [if_pos (by omega)] at h; exact w_jp h
theorem m_digit {f : Int32 → JM Mem τ} (hz : zR z) (h : GN M N (f (zI (if Dig z then 1 else 0))) Q) : GN M N (jb (f_X8_isDigit (zI z)) f) Q := by
  refine w_jb ?_
  unfold f_X8_isDigit
  rw [z_48, z_57, z_0, z_1]
  refine w_lt hz ⟨by omega, by omega⟩ (fun q => ?_) (fun q => ?_)
  · rw [if_neg (by omega)] at h; exact w_jp h
  refine w_lt ⟨by omega, by omega⟩ hz (fun q2 => ?_) (fun q2 => ?_)
  · rw [if_neg (by omega)] at h; exact w_jp h
  · rw [if_pos (by omega)] at h; exact w_jp h
theorem m_signByte {f : Int32 → JM Mem τ} (hM : ML M m) (hz : zR z) (h : GN M N (f (zI (if Sgn z then 1 else 0))) Q) : GN M N (jb (jcall 7 m (f_X8_isSignByte m (zI z))) f) Q := by
  refine w_Mc hM ?_
  unfold f_X8_isSignByte X8_isSignByte_b24
  rw [z_59, z_60, z_62, z_61, z_0, z_1]
  refine w_eq hz ⟨by omega, by omega⟩ (fun q => ?_) (fun q => ?_)
  · rw [if_pos (by omega)] at h; exact w_jp h
  refine w_eq hz ⟨by omega, by omega⟩ (fun q => ?_) (fun q => ?_)
  · rw [if_pos (by omega)] at h; exact w_jp h
  refine w_eq hz ⟨by omega, by omega⟩ (fun q => ?_) (fun q => ?_)
  · rw [if_pos (by omega)] at h; exact w_jp h
  refine w_eq hz ⟨by omega, by omega⟩ (fun q => ?_) (fun q => ?_)
  · rw [if_pos (by omega)] at h; exact w_jp h
  · rw [if_neg (by omega)] at h; exact w_jp h
theorem m_skip {Q : Unit → Mem → NM → Prop} (hM : ML M m) : ∀ d e (N : NM), TxM N m t → e ≤ t.1 → RunE Blk t e (e + d) → N m 15 = e → (∀ N', NxM m M N M N' → N' m 15 = (e + d : Nat) → GN M N' (X8_next_b58 m) Q) → GN M N (jloop (fun _ => X8_next_L8 m) ()) Q := by
  intro d
  induction d with
  | zero =>
    intro e N hx het hR he h
    have h6 := hx.2.1
    refine w_unroll ?_
    unfold X8_next_L8
    rw [z_32, z_10]
    refine w_MI hM (w_MI hM ?_)
    rw [he, hx.1]
    refine w_le ⟨by omega, by omega⟩ ⟨by omega, by omega⟩ (fun q => w_jinl (h N NxM.rf he)) (fun q => ?_)
    have hb := lkT_b (k := e) hx
    have ha : lkT t e ≠ 32 ∧ lkT t e ≠ 10 := by
      have := hR.2.2
      unfold lkT
      rw [if_pos (by omega)]
      exact ⟨fun x => this ⟨by show e + 0 < t.1; omega, Or.inl x⟩, fun x => this ⟨by show e + 0 < t.1; omega, Or.inr x⟩⟩
    refine w_MI hM ?_
    rw [he]
    refine m_look hM hx (by omega) ?_
    refine w_eq ⟨by omega, by omega⟩ ⟨by omega, by omega⟩ (fun q => absurd q ha.2) (fun _ => ?_)
    refine w_MI hM ?_
    rw [he]
    refine m_look hM hx (by omega) ?_
    exact w_eq ⟨by omega, by omega⟩ ⟨by omega, by omega⟩ (fun q => absurd q ha.1) (fun _ => w_jinl (h N NxM.rf he))
  | succ d ih =>
    intro e N hx het hR he h
    have h6 := hx.2.1
    obtain ⟨r1, r2⟩ := hR.2.1 e (by omega) (by omega)
    have hae : lkT t e = t.2 e := if_pos r1
    have hb := lkT_b (k := e) hx
    have hgo : GN M N (X8_next_b45 m) (LQ Q (fun t1 M1 N1 => GN M1 N1 (jloop (fun _ => X8_next_L8 m) t1) Q)) := by
      unfold X8_next_b45
      refine w_MI hM ?_
      rw [he, z_1, zI_add, show ((e : Int) + 1) = ((e + 1 : Nat) : Int) by omega]
      refine w_Mput hM (w_jcontB ?_)
      have hF : NxM m M N M (up2 N m 15 ((e + 1 : Nat) : Int)) := NxM.rf.up (by omega)
      refine ih (e + 1) _ (hx.fr hF) (by omega) ⟨by omega, fun j a b => hR.2.1 j (by omega) (by omega), by rw [show e + 1 + d = e + (d + 1) by omega]; exact hR.2.2⟩ upv (fun N' hF' he' => h N' (hF.tr hF') (by rw [he']; omega))
    refine w_unroll ?_
    unfold X8_next_L8
    rw [z_32, z_10]
    refine w_MI hM (w_MI hM ?_)
    rw [he, hx.1]
    refine w_le ⟨by omega, by omega⟩ ⟨by omega, by omega⟩ (fun q => absurd q (by omega)) (fun q => ?_)
    refine w_MI hM ?_
    rw [he]
    refine m_look hM hx (by omega) ?_
    refine w_eq ⟨by omega, by omega⟩ ⟨by omega, by omega⟩ (fun q => hgo) (fun q => ?_)
    refine w_MI hM ?_
    rw [he]
    refine m_look hM hx (by omega) ?_
    refine w_eq ⟨by omega, by omega⟩ ⟨by omega, by omega⟩ (fun q2 => hgo) (fun q2 => ?_)
    rw [hae] at q q2
    exact absurd r2 (by omega)
theorem wcd_s : wcd t b (d + 1) = if 9 ≤ d then -1 else wcd t b d * 32 + t.2 (b + d) - 96 := by
  unfold wcd
  by_cases q : 9 ≤ d
  · rw [if_neg (by omega), if_pos q]
  · rw [if_pos (by omega), if_neg q, if_pos (by omega)]
    rfl
theorem wcd_r : ∀ d, (∀ i, i < d → Ltr (t.2 (b + i))) → -1 ≤ wcd t b d ∧ wcd t b d < 35184372088832 := by
  intro d hw
  unfold wcd
  by_cases c : d ≤ 9
  · rw [if_pos c]
    have := cdW_bd (a := fun i => t.2 (b + i)) d hw
    have h9 : (32 : Int) ^ d ≤ 35184372088832 := by
      rcases (show d = 0 ∨ d = 1 ∨ d = 2 ∨ d = 3 ∨ d = 4 ∨ d = 5 ∨ d = 6 ∨ d = 7 ∨ d = 8 ∨ d = 9 by omega) with q | q | q | q | q | q | q | q | q | q <;> (rw [q]; decide)
    omega
  · rw [if_neg c]; exact ⟨by decide, by decide⟩
theorem m_letters {Q : Unit → Mem → NM → Prop} (hb6 : b ≤ 600) : ∀ d e (M : Mem) (N : NM), ML M m → TxM N m t → RunE Ltr t (b + e) (b + e + d) → b + e + d ≤ 600 → N m 16 = (b + e : Nat) → N m 15 = b → (∀ i, i < e → Ltr (t.2 (b + i))) → mL M m 18 = zL (wcd t b e) →
    (∀ M' N', NxM m M N M' N' → (∀ k, k ≠ 16 → N' m k = N m k) → N' m 16 = (b + e + d : Nat) → mL M' m 18 = zL (wcd t b (e + d)) → Q () M' N') → GN M N (jloop (fun _ => X8_next_L109 m) ()) Q := by
  intro d
  induction d with
  | zero =>
    intro e M N hM hx hR h6 he h15 hl hL h
    have ha : ¬ Ltr (lkT t (b + e)) := by
      have := hR.2.2
      unfold lkT
      by_cases q : b + e < t.1
      · rw [if_pos q]
        exact fun x => this ⟨q, x⟩
      · rw [if_neg q]; decide
    have hb := lkT_b (k := b + e) hx
    refine w_unroll ?_
    unfold X8_next_L109
    refine w_MI hM ?_
    rw [he, z_0]
    refine m_look hM hx (by omega) (m_letter ⟨by omega, by omega⟩ ?_)
    rw [if_neg ha]
    refine w_eq ⟨by omega, by omega⟩ ⟨by omega, by omega⟩ (fun _ => ?_) (fun x => absurd rfl x)
    exact w_jinl (w_jp (h M N NxM.rf (fun _ _ => rfl) he hL))
  | succ d ih =>
    intro e M N hM hx hR h6 he h15 hl hL h
    obtain ⟨r1, r2⟩ := hR.2.1 (b + e) (by omega) (by omega)
    have hae : lkT t (b + e) = t.2 (b + e) := if_pos r1
    have hb := lkT_b (k := b + e) hx
    have hwb := wcd_r (t := t) (b := b) e hl
    refine w_unroll ?_
    unfold X8_next_L109
    refine w_MI hM ?_
    rw [he, z_0]
    refine m_look hM hx (by omega) (m_letter ⟨by omega, by omega⟩ ?_)
    rw [hae, if_pos r2]
    refine w_eq ⟨by omega, by omega⟩ ⟨by omega, by omega⟩ (fun x => absurd x (by decide)) (fun _ => ?_)
    refine w_MI hM (w_MI hM ?_)
    rw [he, h15, zI_sub, z_9]
    have hgo : ∀ v : Int, v = wcd t b (e + 1) → GN M N (X8_next_b166 m m (zL v)) (LQ Q (fun t1 M1 N1 => GN M1 N1 (jloop (fun _ => X8_next_L109 m) t1) Q)) := fun v hv => by
      unfold X8_next_b166
      refine w_putL hM.km ?_
      have hF1 : NxM m M N (sL M (up2 (mL M) m 18 (zL v))) N := NxM.rf.pL
      have hM1 := hF1.ml hM
      have hF2 := hF1.up (k := 16) (v := ((b + (e + 1) : Nat) : Int)) (by omega)
      have hL2 : mL (sL M (up2 (mL M) m 18 (zL v))) m 18 = zL (wcd t b (e + 1)) := by rw [← hv]; exact if_pos ⟨rfl, rfl⟩
      generalize sL M (up2 (mL M) m 18 (zL v)) = M1 at *
      refine w_MI hM1 ?_
      rw [he, z_1, zI_add, show (((b + e : Nat) : Int) + 1) = ((b + (e + 1) : Nat) : Int) by omega]
      refine w_Mput hM1 (w_jcontB ?_)
      refine ih (e + 1) M1 _ hM1 (hx.fr hF2) ⟨by omega, fun j a b => hR.2.1 j (by omega) (by omega), by rw [show b + (e + 1) + d = b + e + (d + 1) by omega]; exact hR.2.2⟩ (by omega) upv (by rw [upk (by omega)]; exact h15) (fun i hi => ?_) hL2 (fun M' N' g1 g2 g3 g4 => h M' N' (hF2.tr g1) (fun k hk => (g2 k hk).trans (upk hk)) (by rw [g3]; omega) (by rw [g4, show e + 1 + d = e + (d + 1) by omega]))
      by_cases q : i = e
      · rw [q]; exact r2
      · exact hl i (by omega)
    refine w_le ⟨by omega, by omega⟩ ⟨by omega, by omega⟩ (fun q => ?_) (fun q => ?_)
    · rw [show (-1 : Int64) = zL (-1) by decide]
      exact hgo (-1) (by rw [wcd_s, if_pos (by omega)])
    · refine w_getL hM.km ?_
      refine w_MI hM ?_
      rw [he, hL]
      refine m_look hM hx (by omega) ?_
      rw [hae, show (32 : Int64) = zL 32 from rfl, show (96 : Int64) = zL 96 from rfl, zL_int ⟨by omega, by omega⟩, zL_mul, zL_add, zL_sub]
      exact hgo _ (by rw [wcd_s, if_neg (by omega)])
theorem m_digits {Q : Unit → Mem → NM → Prop} (hM : ML M m) (hb6 : b ≤ 600) : ∀ d e (N : NM), TxM N m t → RunE Dig t (b + e) (b + e + d) → b + e + d ≤ 600 → N m 16 = (b + e : Nat) → N m 15 = b → (∀ i, i < e → Dig (t.2 (b + i))) → (e ≤ 4 → N m 17 = decV t b e) →
    (∀ N' : NM, (∀ b, b ≠ m → N' b = N b) → (∀ k, k ≠ 14 → k ≠ 16 → k ≠ 17 → N' m k = N m k) → N' m 16 = (b + e + d : Nat) → N' m 14 = (if 4 < e + d then 4 else 2) → (e + d ≤ 4 → N' m 17 = decV t b (e + d)) → Q () M N') → GN M N (jloop (fun _ => X8_next_L194 m) ()) Q := by
  intro d
  induction d with
  | zero =>
    intro e N hx hR h6 he h3 hdg hv h
    have ha : ¬ Dig (lkT t (b + e)) := by
      have := hR.2.2
      unfold lkT
      by_cases q : b + e < t.1
      · rw [if_pos q]
        exact fun x => this ⟨q, x⟩
      · rw [if_neg q]; decide
    have hb := lkT_b (k := b + e) hx
    refine w_unroll ?_
    unfold X8_next_L194
    refine w_MI hM ?_
    rw [he, z_0]
    refine m_look hM hx (by omega) (m_digit ⟨by omega, by omega⟩ ?_)
    rw [if_neg ha]
    refine w_eq ⟨by omega, by omega⟩ ⟨by omega, by omega⟩ (fun _ => ?_) (fun x => absurd rfl x)
    unfold X8_next_b257 X8_next_b276
    refine w_jinl (w_MI hM (w_MI hM ?_))
    rw [he, h3, zI_sub, z_4, z_2]
    refine w_le ⟨by omega, by omega⟩ ⟨by omega, by omega⟩ (fun q => ?_) (fun q => ?_)
    · exact w_Mput hM (w_jp (h _ (fun b hb => upb hb) (fun k a1 a2 a3 => upk a1) (by rw [upk (by omega)]; exact he) (by rw [upv, if_neg (by omega)]) (fun q2 => by rw [upk (by omega)]; exact hv q2)))
    · exact w_Mput hM (w_jp (h _ (fun b hb => upb hb) (fun k a1 a2 a3 => upk a1) (by rw [upk (by omega)]; exact he) (by rw [upv, if_pos (by omega)]) (fun q2 => by omega)))
  | succ d ih =>
    intro e N hx hR h6 he h3 hdg hv h
    obtain ⟨r1, r2⟩ := hR.2.1 (b + e) (by omega) (by omega)
    have hae : lkT t (b + e) = t.2 (b + e) := if_pos r1
    have hb := lkT_b (k := b + e) hx
    refine w_unroll ?_
    unfold X8_next_L194
    refine w_MI hM ?_
    rw [he, z_0]
    refine m_look hM hx (by omega) (m_digit ⟨by omega, by omega⟩ ?_)
    rw [hae, if_pos r2]
    refine w_eq ⟨by omega, by omega⟩ ⟨by omega, by omega⟩ (fun x => absurd x (by decide)) (fun _ => ?_)
    refine w_MI hM (w_MI hM ?_)
    rw [he, h3, zI_sub, z_4]
    have hgo : ∀ N1 : NM, (∀ b, b ≠ m → N1 b = N b) → (∀ k, k ≠ 17 → N1 m k = N m k) → (e + 1 ≤ 4 → N1 m 17 = decV t b (e + 1)) → GN M N1 (X8_next_b244 m) (LQ Q (fun t1 M1 N1 => GN M1 N1 (jloop (fun _ => X8_next_L194 m) t1) Q)) := fun N1 n1 n2 n3 => by
      unfold X8_next_b244
      refine w_MI hM ?_
      rw [n2 16 (by omega), he, z_1, zI_add, show (((b + e : Nat) : Int) + 1) = ((b + (e + 1) : Nat) : Int) by omega]
      refine w_Mput hM (w_jcontB ?_)
      have hF : NxM m M N M (up2 N1 m 16 ((b + (e + 1) : Nat) : Int)) := ⟨fun b hb => (upb hb).trans (n1 b hb), fun k hk => (upk (by omega)).trans (n2 k (by omega)), mL M, rfl, fun _ _ _ => rfl⟩
      refine ih (e + 1) _ (hx.fr hF) ⟨by omega, fun j a b => hR.2.1 j (by omega) (by omega), by rw [show b + (e + 1) + d = b + e + (d + 1) by omega]; exact hR.2.2⟩ (by omega) upv (by rw [upk (by omega), n2 15 (by omega)]; exact h3) (fun i hi => ?_) (fun q => by rw [upk (by omega)]; exact n3 q) (fun N' g1 g2 g3 g4 g5 => h N' (fun b hb => (g1 b hb).trans ((upb hb).trans (n1 b hb))) (fun k a1 a2 a3 => (g2 k a1 a2 a3).trans ((upk a2).trans (n2 k a3))) (by rw [g3]; omega) (by rw [g4, show e + 1 + d = e + (d + 1) by omega]) (fun q => by rw [g5 (by omega), show e + 1 + d = e + (d + 1) by omega]))
      by_cases q : i = e
      · rw [q]; exact r2
      · exact hdg i (by omega)
    refine w_le ⟨by omega, by omega⟩ ⟨by omega, by omega⟩ (fun q => hgo N (fun _ _ => rfl) (fun _ _ => rfl) (fun q2 => by omega)) (fun q => ?_)
    refine w_MI hM (w_MI hM ?_)
    rw [he]
    refine m_look hM hx (by omega) ?_
    rw [hae, z_10, z_48, zI_mul, zI_add, zI_sub]
    refine w_Mput hM (hgo _ (fun b hb => upb hb) (fun k hk => upk hk) (fun q2 => ?_))
    rw [upv, hv (by omega)]
    rfl
theorem m_next {f : Unit → JM Mem τ} (hM : ML M m) (hx : TxM N m t) (he : N m 16 = e) (he2 : e ≤ t.1) (h : ∀ M' N', NxM m M N M' N' → MRd M' N' m t (tok t e) → GN M' N' (f ()) Q) : GN M N (jb (jcall 7 m (f_X8_next m)) f) Q := by
  have h6 := hx.2.1
  have hrun : RunE Blk t e (rEnd Blk t e) := rEnd_of
  have hle := hrun.le he2
  have hge := hrun.1
  have hok := (tok_ok (t := t) he2).1
  refine w_Mc hM ?_
  unfold f_X8_next
  refine w_MI hM ?_
  rw [he]
  refine w_Mput hM ?_
  have hF0 : NxM m M N M (up2 N m 15 e) := NxM.rf.up (by omega)
  have hB : e + (rEnd Blk t e - e) = rEnd Blk t e := by omega
  refine m_skip hM (rEnd Blk t e - e) e _ (hx.fr hF0) he2 (by rw [hB]; exact hrun) upv (fun N1 hF1 he1 => ?_)
  rw [hB] at he1
  replace hF1 := hF0.tr hF1
  have hx1 := hx.fr hF1
  have etok : tok t e = if t.1 ≤ rEnd Blk t e then (rEnd Blk t e, rEnd Blk t e, 0, 0) else tokB t (rEnd Blk t e) := rfl
  rw [etok] at hok h
  generalize rEnd Blk t e = b at *
  unfold X8_next_b58
  rw [z_0, z_1, z_4, z_3]
  refine w_MI hM ?_
  rw [he1]
  refine w_Mput hM (w_MI hM (w_MI hM ?_))
  have hF2 := hF1.up (k := 16) (v := (b : Int)) (by omega)
  have hx2 := hx.fr hF2
  have g3 : up2 N1 m 16 b m 15 = b := by rw [upk (by omega)]; exact he1
  have g4 : up2 N1 m 16 b m 16 = b := upv
  have g9 : up2 N1 m 16 b m 9 = t.1 := hx2.1
  generalize up2 N1 m 16 b = N3 at hF2 hx2 g3 g4 g9
  rw [g3, g9]
  by_cases c1 : t.1 ≤ b
  · rw [if_pos c1] at hok h
    refine w_lt ⟨by omega, by omega⟩ ⟨by omega, by omega⟩ (fun x => absurd x (by omega)) (fun _ => ?_)
    refine w_Mput hM (w_jp (h M _ (hF2.up (by omega)) ⟨hx.fr (hF2.up (k := 14) (v := 0) (by omega)), hok, upv, by rw [upk (by omega)]; exact g3, by rw [upk (by omega)]; exact g4, fun x => ?_, fun x => absurd x (by show ¬ (0 : Nat) = 2; omega)⟩))
    have x : (0 : Nat) = 3 ∨ (0 : Nat) = 4 := x
    omega
  rw [if_neg c1] at hok h
  have hab2 : lkT t b = t.2 b := if_pos (by omega)
  have h0b := hx.bb (show b < t.1 by omega)
  refine w_lt ⟨by omega, by omega⟩ ⟨by omega, by omega⟩ (fun _ => ?_) (fun x => absurd x (by omega))
  refine w_MI hM ?_
  rw [g3]
  refine m_look hM hx2 (by omega) ?_
  rw [hab2]
  refine m_letter ⟨by omega, by omega⟩ ?_
  unfold tokB at hok h
  by_cases c2 : Ltr (t.2 b)
  · rw [if_pos c2] at hok h
    rw [if_pos c2]
    refine w_eq ⟨by omega, by omega⟩ ⟨by omega, by omega⟩ (fun x => absurd x (by decide)) (fun _ => ?_)
    have hrl : RunE Ltr t b (rEnd Ltr t b) := rEnd_of
    have hll := hrl.le (by omega)
    have hlg := hrl.1
    have hL : b + 0 + (rEnd Ltr t b - b) = rEnd Ltr t b := by omega
    refine w_Mput hM (w_putL hM.km ?_)
    have hF3 := (hF2.up (k := 14) (v := 1) (by omega)).pL (v := 0)
    have hM3 := hF3.ml hM
    have hL3 : mL (sL M (up2 (mL M) m 18 0)) m 18 = zL (wcd t b 0) := (if_pos ⟨rfl, rfl⟩).trans rfl
    generalize sL M (up2 (mL M) m 18 0) = M3 at *
    refine m_letters (b := b) (by omega) (rEnd Ltr t b - b) 0 M3 _ hM3 (hx.fr hF3) (by rw [hL]; exact hrl) (by omega) (by rw [upk (by omega)]; exact g4) (by rw [upk (by omega)]; exact g3) (fun i hi => absurd hi (by omega)) hL3 (fun M4 N4 y1 y2 y3 y4 => ?_)
    have hF4 := hF3.tr y1
    rw [Nat.zero_add] at y4
    refine h M4 N4 hF4 ⟨hx.fr hF4, hok, by rw [y2 14 (by omega), upv]; rfl, by rw [y2 15 (by omega), upk (by omega)]; exact g3, by rw [y3, hL], fun x => ?_, fun _ => y4⟩
    have x : (2 : Nat) = 3 ∨ (2 : Nat) = 4 := x
    omega
  rw [if_neg c2] at hok h
  rw [if_neg c2]
  refine w_eq ⟨by omega, by omega⟩ ⟨by omega, by omega⟩ (fun _ => ?_) (fun x => absurd rfl x)
  refine m_digit ⟨by omega, by omega⟩ ?_
  by_cases c3 : Dig (t.2 b)
  · rw [if_pos c3] at hok h
    rw [if_pos c3]
    refine w_eq ⟨by omega, by omega⟩ ⟨by omega, by omega⟩ (fun x => absurd x (by decide)) (fun _ => ?_)
    have hrl : RunE Dig t b (rEnd Dig t b) := rEnd_of
    have hll := hrl.le (by omega)
    have hlg := hrl.1
    have hL : b + 0 + (rEnd Dig t b - b) = rEnd Dig t b := by omega
    refine w_Mput hM ?_
    have hF3 := hF2.up (k := 17) (v := 0) (by omega)
    refine m_digits (b := b) hM (by omega) (rEnd Dig t b - b) 0 _ (hx.fr hF3) (by rw [hL]; exact hrl) (by omega) (by rw [upk (by omega)]; exact g4) (by rw [upk (by omega)]; exact g3) (fun i hi => absurd hi (by omega)) (fun _ => by rw [upv]; rfl) (fun N4 y1 y2 y3 y4 y5 => ?_)
    have hF4 : NxM m M N M N4 := hF3.tr ⟨y1, fun k hk => y2 k (by omega) (by omega) (by omega), mL M, rfl, fun _ _ _ => rfl⟩
    rw [Nat.zero_add] at y4 y5
    refine h M N4 hF4 ⟨hx.fr hF4, hok, ?_, by rw [y2 15 (by omega) (by omega) (by omega), upk (by omega)]; exact g3, by rw [y3, hL], fun x => ?_, fun x => ?_⟩
    · rw [y4]
      show (if 4 < rEnd Dig t b - b then (4 : Int) else 2) = mso (if 4 < rEnd Dig t b - b then 1 else 3)
      split <;> rfl
    · have x : (if 4 < rEnd Dig t b - b then 1 else 3 : Nat) = 3 ∨ (if 4 < rEnd Dig t b - b then 1 else 3 : Nat) = 4 := x
      exact y5 (by
        by_cases q : 4 < rEnd Dig t b - b
        · rw [if_pos q] at x; omega
        · omega)
    · have x : (if 4 < rEnd Dig t b - b then 1 else 3 : Nat) = 2 := x
      exfalso
      split at x <;> omega
  · rw [if_neg c3] at hok h
    rw [if_neg c3]
    refine w_eq ⟨by omega, by omega⟩ ⟨by omega, by omega⟩ (fun _ => ?_) (fun x => absurd rfl x)
    refine w_MI hM ?_
    rw [g3, zI_add, show ((b : Int) + 1) = ((b + 1 : Nat) : Int) by omega]
    refine w_Mput hM (w_Mput hM ?_)
    have hF4 := (hF2.up (k := 16) (v := ((b + 1 : Nat) : Int)) (by omega)).up (k := 17) (v := t.2 b) (by omega)
    refine m_signByte hM ⟨by omega, by omega⟩ ?_
    unfold X8_next_b311
    by_cases c4 : Sgn (t.2 b)
    · rw [if_pos c4] at hok h
      rw [if_pos c4]
      refine w_eq ⟨by omega, by omega⟩ ⟨by omega, by omega⟩ (fun x => absurd x (by decide)) (fun _ => ?_)
      exact w_Mput hM (w_jp (h M _ (hF4.up (by omega)) ⟨hx.fr (hF4.up (k := 14) (v := 3) (by omega)), hok, by rw [upv]; rfl, by rw [upk (by omega), upk (by omega), upk (by omega)]; exact g3, by rw [upk (by omega), upk (by omega), upv], fun _ => by rw [upk (by omega), upv], fun x => absurd x (by show ¬ (4 : Nat) = 2; omega)⟩))
    · rw [if_neg c4] at hok h
      rw [if_neg c4]
      refine w_eq ⟨by omega, by omega⟩ ⟨by omega, by omega⟩ (fun _ => ?_) (fun x => absurd rfl x)
      refine w_Mput hM (w_jp (h M _ (hF4.up (by omega)) ⟨hx.fr (hF4.up (k := 14) (v := 4) (by omega)), hok, by rw [upv]; rfl, by rw [upk (by omega), upk (by omega), upk (by omega)]; exact g3, by rw [upk (by omega), upk (by omega), upv], fun x => ?_, fun x => absurd x (by show ¬ (1 : Nat) = 2; omega)⟩))
      have x : (1 : Nat) = 3 ∨ (1 : Nat) = 4 := x
      omega
end TXM
