/-! OPS, part 24: marks, the model's; back. -/
set_option maxRecDepth 100000
section OPS24
variable {α τ ρ : Type} {M M' M1 M2 : Mem} {N N' N1 : NM} {c m i j k q w W B B' e o a b : Nat} {u v s t z d : Int} {S S' : St} {p p2 : Int} {n n2 many : Nat} {T F G T2 : Nat → Nat → Nat → Int} {y : Wd} {H : Hs}
theorem w_mcopy {f : Unit → JM Mem τ} {Q : τ → Mem → NM → Prop} (hM : ML M m) (ha : a ≤ 3) (hb : b ≤ 3) (hab : a ≠ b)
    (h : ∀ N', (∀ l, l < 860 → N' (m + 5) (860 * b + l) = N (m + 5) (860 * a + l)) → (∀ x, x ≠ m + 5 → N' x = N x) → (∀ l, l < 860 * b ∨ 860 * b + 860 ≤ l → N' (m + 5) l = N (m + 5) l) → GN M N' (f ()) Q) : GN M N (jb (jcall 7 m (f_X8_copy m (zI a) (zI b))) f) Q := by
  have h5 := hM.ka (o := 5) (d := (0, 3440)) rfl
  refine w_Mc hM ?_
  unfold f_X8_copy
  rw [z_0]
  refine w_up 860 (fun k N1 => (∀ l, l < k → N1 (m + 5) (860 * b + l) = N (m + 5) (860 * a + l)) ∧ (∀ x, x ≠ m + 5 → N1 x = N x) ∧ ∀ l, l < 860 * b ∨ 860 * b + k ≤ l → N1 (m + 5) l = N (m + 5) l) 0 rfl (by omega) ⟨fun l hl => absurd hl (by omega), fun _ _ => rfl, fun _ _ => rfl⟩ ?_
  rintro k N1 hk ⟨g1, g2, g3⟩
  unfold X8_copy_L2
  rw [show (860 : Int32) = zI 860 from rfl]
  refine w_le ⟨by omega, by omega⟩ ⟨by omega, by omega⟩ (fun hc => ?_) (fun hc => ?_)
  · obtain rfl : k = 860 := by omega
    exact w_jinl (w_jp (h N1 g1 g2 g3))
  refine w_Mf hM rfl (w_Mf hM rfl ?_)
  rw [zI_mul, zI_mul, zI_add, zI_add]
  refine w_ald h5 (by omega) (by omega) ?_
  refine w_ast h5 (by omega) (by omega) ?_
  rw [z_1, zI_add, show (860 * (a : Int) + (k : Int)).toNat = 860 * a + k by omega, show (860 * (b : Int) + (k : Int)).toNat = 860 * b + k by omega, g3 (860 * a + k) (by omega)]
  refine w_jcont ⟨by omega, rfl, fun l hl => ?_, fun x hx => by rw [upb hx]; exact g2 x hx, fun l hl => by rw [upk (by omega)]; exact g3 l (by omega)⟩
  by_cases e : l = k
  · rw [e]; exact upv
  · rw [upk (by omega)]; exact g1 l (by omega)
theorem HsM.mv (h : HsM N W B H) (hs : ∀ s, H.2.2 = some s → ScOk s) (e : ∀ l, l < 860 → N' W (B' + l) = N W (B + l)) : HsM N' W B' H := by
  have e' : ∀ x l, l < 860 → x = B' + l → N' W x = N W (B + l) := fun x l hl hx => by rw [hx]; exact e l hl
  have hw : ∀ (B1 : Nat) {p : Int} {n : Nat} {T : Nat → Nat → Nat → Int}, B1 + 127 ≤ 860 → WC N W (B + B1) p n T → WC N' W (B' + B1) p n T := fun B1 p n T hB ⟨c1, c2, c3⟩ => ⟨by rw [e' _ B1 (by omega) rfl]; exact c1, by rw [e' _ (B1 + 1) (by omega) (by omega)]; exact c2, fun i j k hi hj hk => by
    rw [e' _ (B1 + 2 + 25 * i + 5 * j + k) (by omega) (by omega), ← c3 i j k hi hj hk]
    congr 1
    omega⟩
  refine ⟨⟨hw 0 (by omega) h.1.1, h.1.2⟩, fun j hj => ?_, ?_⟩
  · have := h.2.1 j hj
    cases e2 : H.2.1 j with
    | none =>
      rw [e2] at this
      show N' W (B' + 127 * (j + 1)) = 0
      rw [e' _ (127 * (j + 1)) (by omega) rfl]
      exact this
    | some y =>
      rw [e2] at this
      exact ⟨hw _ (by omega) this.1, this.2⟩
  · have := h.2.2
    cases e2 : H.2.2 with
    | none =>
      rw [e2] at this
      show N' W (B' + 635) = 0
      rw [e' _ 635 (by omega) rfl]
      exact this
    | some s =>
      rw [e2] at this
      obtain ⟨c1, c2, c3⟩ := this
      have hs30 := (hs s e2).1
      refine ⟨by rw [e' _ 635 (by omega) rfl]; exact c1, by rw [e' _ 636 (by omega) rfl]; exact c2, fun i k hi hk => ?_⟩
      rw [e' _ (637 + 7 * i + k) (by omega) (by omega), ← c3 i k hi hk]
      congr 1
      omega
theorem m_mark {f : Int32 → JM Mem τ} {Q : τ → Mem → NM → Prop} (hR : MR M N m S) (hO : StOk S) (h : mPost M N m (a_mark S).1 (f (zI (a_mark S).2)) Q) : GN M N (jb (jcall 7 m (f_X8_mark m)) f) Q := by
  refine w_Mc hR.ml ?_
  unfold f_X8_mark
  refine m_beg0 hR (fun N1 hR1 hF1 => ?_)
  obtain ⟨m1, m2, m3⟩ := hR1.2.2.1
  have m1 : N1 m 23 = (S.2.1.1 : Nat) := m1
  have m2 : S.2.1.1 ≤ 3 := m2
  unfold a_mark at h
  refine w_MI hR.ml ?_
  rw [m1, z_3]
  refine w_eq ⟨by omega, by omega⟩ ⟨by omega, by omega⟩ (fun e => ?_) (fun e => ?_)
  · rw [if_pos (by omega)] at h
    rw [show (7 : Int32) = zI 7 from rfl]
    refine w_refuse hR.ml (w_jp (h M _ ?_ hF1.up))
    have := hR1.st 7
    rw [stU_2] at this
    exact this
  rw [if_neg (by omega)] at h
  refine w_MI hR.ml ?_
  rw [m1, z_1, zI_add]
  refine w_Mput hR.ml ?_
  refine w_MI hR.ml ?_
  rw [upv, z_0, show ((S.2.1.1 : Nat) : Int) + 1 = ((S.2.1.1 + 1 : Nat) : Int) by omega]
  refine w_mcopy (a := 0) (b := S.2.1.1 + 1) hR.ml (by omega) (by omega) (by omega) (fun N2 g2 f2 l2 => ?_)
  have hm2 : ∀ j, j ≠ 23 → N2 m j = N1 m j := fun j hj => by rw [f2 m (by omega), upk hj]
  have ho : ∀ x, x ≠ m → x ≠ m + 5 → N2 x = N1 x := fun x h1 h2 => by rw [f2 x h2, upb h1]
  have g2 : ∀ l, l < 860 → N2 (m + 5) (860 * (S.2.1.1 + 1) + l) = N1 (m + 5) l := fun l hl => by
    rw [g2 l hl, upb (by omega)]
    congr 1
    omega
  have l2 : ∀ l, l < 860 * (S.2.1.1 + 1) ∨ 860 * (S.2.1.1 + 1) + 860 ≤ l → N2 (m + 5) l = N1 (m + 5) l := fun l hl => by rw [l2 l hl, upb (by omega)]
  have h23 : N2 m 23 = ((S.2.1.1 + 1 : Nat) : Int) := by rw [f2 m (by omega), upv]
  refine w_MI hR.ml ?_
  rw [h23]
  refine w_jp (h M N2 ?_ (hF1.tr ⟨fun x hx => ho x (by omega) (by omega), mR M, mL M, rfl, fun _ _ => ⟨rfl, rfl⟩⟩))
  obtain ⟨q1, q2, _, q4, ⟨q5, q5b, q5c⟩, qm⟩ := hR1
  have hw := fun (B : Nat) (H : Hs) (hB : B + 860 ≤ 860 * (S.2.1.1 + 1)) (hs : ∀ s, H.2.2 = some s → ScOk s) (hh : HsM N1 (m + 5) B H) => hh.mv (B' := B) hs (N' := N2) (fun l hl => l2 _ (by omega))
  refine ⟨q1, hw 0 _ (by omega) (fun s e => hO.1.2.2 s e) q2, ⟨h23, by show S.2.1.1 + 1 ≤ 3; omega, fun k hk => ?_⟩, fun t ht => (q4 t ht).ag (ho _ (by omega) (by omega)) (ho _ (by omega) (by omega)) rfl, ⟨by rw [hm2 8 (by omega)]; exact q5, q5b, by rw [ho _ (by omega) (by omega)]; exact q5c⟩, ?_⟩
  · have hk : k < S.2.1.1 + 1 := hk
    show HsM N2 (m + 5) (860 * (k + 1)) (if k = S.2.1.1 then S.1 else S.2.1.2 k)
    by_cases x : k = S.2.1.1
    · rw [if_pos x, x]
      exact q2.mv (fun s e => hO.1.2.2 s e) (fun l hl => by rw [g2 l hl, Nat.zero_add])
    · rw [if_neg x]
      exact hw _ _ (by omega) (fun s e => (hO.2.1 k (by omega)).2.2 s e) (m3 k (by show k < S.2.1.1; omega))
  · unfold MiM at qm ⊢
    rw [hm2 0 (by omega), hm2 1 (by omega), hm2 10 (by omega), hm2 11 (by omega), hm2 44 (by omega), hm2 49 (by omega), ho (m + 23) (by omega) (by omega)]
    exact qm
def bkU (S : St) : St := (S.2.1.2 (S.2.1.1 - 1), (S.2.1.1 - 1, S.2.1.2), S.2.2)
def a_back (S : St) : St × Int := if S.2.1.1 = 0 then (stU S 0 8, -1) else (stU (bkU S) 0 0, ((S.2.1.1 - 1 : Nat) : Int))
theorem m_back {f : Int32 → JM Mem τ} {Q : τ → Mem → NM → Prop} (hR : MR M N m S) (hO : StOk S) (h : mPost M N m (a_back S).1 (f (zI (a_back S).2)) Q) : GN M N (jb (jcall 7 m (f_X8_back m)) f) Q := by
  refine w_Mc hR.ml ?_
  unfold f_X8_back
  refine m_beg0 hR (fun N1 hR1 hF1 => ?_)
  obtain ⟨m1, m2, m3⟩ := hR1.2.2.1
  have m1 : N1 m 23 = (S.2.1.1 : Nat) := m1
  have m2 : S.2.1.1 ≤ 3 := m2
  unfold a_back at h
  refine w_MI hR.ml ?_
  rw [m1, z_0]
  refine w_eq ⟨by omega, by omega⟩ ⟨by omega, by omega⟩ (fun e => ?_) (fun e => ?_)
  · rw [if_pos (by omega)] at h
    rw [show (8 : Int32) = zI 8 from rfl]
    refine w_refuse hR.ml (w_jp (h M _ ?_ hF1.up))
    have := hR1.st 8
    rw [stU_2] at this
    exact this
  rw [if_neg (by omega)] at h
  refine w_MI hR.ml ?_
  rw [m1]
  refine w_mcopy (a := S.2.1.1) (b := 0) hR.ml (by omega) (by omega) (by omega) (fun N2 g2 f2 l2 => ?_)
  refine w_MI hR.ml ?_
  rw [f2 m (by omega), m1, z_1, zI_sub]
  refine w_Mput hR.ml ?_
  refine w_MI hR.ml ?_
  rw [upv, show ((S.2.1.1 : Nat) : Int) - 1 = ((S.2.1.1 - 1 : Nat) : Int) by omega]
  have hm2 : ∀ j, j ≠ 23 → up2 N2 m 23 ((S.2.1.1 - 1 : Nat) : Int) m j = N1 m j := fun j hj => by rw [upk hj, f2 m (by omega)]
  have ho : ∀ x, x ≠ m → x ≠ m + 5 → up2 N2 m 23 ((S.2.1.1 - 1 : Nat) : Int) x = N1 x := fun x h1 h2 => by rw [upb h1, f2 x h2]
  have h23 : up2 N2 m 23 ((S.2.1.1 - 1 : Nat) : Int) m 23 = ((S.2.1.1 - 1 : Nat) : Int) := upv
  have g2 : ∀ l, l < 860 → up2 N2 m 23 ((S.2.1.1 - 1 : Nat) : Int) (m + 5) l = N1 (m + 5) (860 * S.2.1.1 + l) := fun l hl => by
    have := g2 l hl
    rw [Nat.mul_zero, Nat.zero_add] at this
    rw [upb (by omega), this]
  have l2 : ∀ l, 860 ≤ l → up2 N2 m 23 ((S.2.1.1 - 1 : Nat) : Int) (m + 5) l = N1 (m + 5) l := fun l hl => by rw [upb (by omega), l2 l (by omega)]
  generalize up2 N2 m 23 ((S.2.1.1 - 1 : Nat) : Int) = N3 at hm2 ho h23 g2 l2
  refine w_jp (h M N3 ?_ (hF1.tr ⟨fun x hx => ho x (by omega) (by omega), mR M, mL M, rfl, fun _ _ => ⟨rfl, rfl⟩⟩))
  obtain ⟨q1, q2, _, q4, ⟨q5, q5b, q5c⟩, qm⟩ := hR1
  have ek : S.2.1.1 - 1 + 1 = S.2.1.1 := by omega
  refine ⟨q1, ?_, ⟨h23, by show S.2.1.1 - 1 ≤ 3; omega, fun k hk => ?_⟩, fun t ht => (q4 t ht).ag (ho _ (by omega) (by omega)) (ho _ (by omega) (by omega)) rfl, ⟨by rw [hm2 8 (by omega)]; exact q5, q5b, by rw [ho _ (by omega) (by omega)]; exact q5c⟩, ?_⟩
  · have := m3 (S.2.1.1 - 1) (by show S.2.1.1 - 1 < S.2.1.1; omega)
    rw [ek] at this
    exact this.mv (fun s e => (hO.2.1 (S.2.1.1 - 1) (by omega)).2.2 s e) (fun l hl => by rw [Nat.zero_add]; exact g2 l hl)
  · have hk : k < S.2.1.1 - 1 := hk
    exact (m3 k (by show k < S.2.1.1; omega)).mv (fun s e => (hO.2.1 k (by omega)).2.2 s e) (fun l hl => l2 _ (by omega))
  · unfold MiM at qm ⊢
    rw [hm2 0 (by omega), hm2 1 (by omega), hm2 10 (by omega), hm2 11 (by omega), hm2 44 (by omega), hm2 49 (by omega), ho (m + 23) (by omega) (by omega)]
    exact qm
end OPS24
