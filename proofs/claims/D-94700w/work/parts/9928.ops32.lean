/-! OPS, part 32: write of trays, the component's. -/
set_option maxRecDepth 100000
section OPS32
variable {α τ ρ : Type} {M M' M1 M2 : Mem} {N N' N1 : NM} {c m i j q n A : Nat} {u v s z a b d e t k : Int} {S S' : St} {x : Int64} {r : Try}
/-- a number of a tray is another -/
theorem CR.wrY {t k : Nat} {L' : Nat → Nat → Int64} (h : CR M N c S) (ht : t < 4) (e2 : S.2.2.1 t = some r) (hA : mR M (c + 258 + t) 0 = some A) (hN : ∀ b, b ≠ A → N' b = N b) (hL : ∀ b, b ≠ A → L' b = mL M b) (hr : TrR (sL M L') N' (c + 258 + t) r.2.1 (wrT r k x).2.2) : CR (sL M L') N' c (stY S t (wrT r k x)) := by
  have hy := h.2.2.2.1.1 t ht
  rw [e2] at hy
  obtain ⟨y1, y2, y3, y4, y5⟩ := hy
  have hA1 := y5 A hA
  refine h.setY (A := A) ht (h.cl.ag (fun _ _ _ => ⟨rfl, rfl⟩) rfl) h.2.2.2.2.2.2 (fun _ _ e => e) (fun _ _ _ => rfl) ⟨hA1, ?_, fun t' h1 h2 h3 => h2 (h.2.2.2.1.2 t' t A h1 ht h3 hA)⟩ (fun b h1 _ => hN b h1) hL ⟨?_, y2, y3, hr, fun a e => y5 a e⟩ hA
  · obtain ⟨a, a1, a2, a3⟩ := y4
    rw [hA] at a1
    cases a1
    rcases a3 with ⟨_, q, _⟩ | ⟨_, q, _⟩ | ⟨_, q, _⟩ | ⟨_, q, _⟩ <;> (rw [q]; exact fun x => (nomatch x))
  · show N' (c + 258 + t) 1 = (r.1 : Nat)
    rw [hN _ (by omega)]
    exact y1
theorem w_iput {a n : Nat} {z : Int} {x : Int32} {f : Unit → JM Mem τ} {Q : τ → Mem → NM → Prop} (hK : mK M a = some (.inr (0, n))) (hz : 0 ≤ z ∧ z < n) (hn : n ≤ 100000) (h : GN M (up2 N a z.toNat x.toInt) (f ()) Q) : GN M N (jb (jast_i a (zI z) x) f) Q := by
  rw [show x = zI x.toInt from (zI_of x).symm]
  exact w_ast hK hz hn h
theorem cut_0 : (cutL 0 x).toInt = x.toInt32.toInt8.toInt32.toInt8.toInt32.toInt := by
  show (x.toInt32.toInt8.toInt32.toInt64).toInt = _
  rw [Int32.toInt_toInt64, Int8.toInt8_toInt32]
theorem cut_1 : (cutL 1 x).toInt = x.toInt32.toInt16.toInt32.toInt16.toInt32.toInt := by
  show (x.toInt32.toInt16.toInt32.toInt64).toInt = _
  rw [Int32.toInt_toInt64, Int16.toInt16_toInt32]
theorem cut_2 : (cutL 2 x).toInt = x.toInt32.toInt := by
  show (x.toInt32.toInt64).toInt = _
  rw [Int32.toInt_toInt64]
theorem i32_r (x : Int32) : zR x.toInt := ⟨by have := Int32.le_toInt x; omega, by have := Int32.toInt_lt x; omega⟩
theorem CFm.wrY {t : Nat} {L' : Nat → Nat → Int64} (h : CFm c M N M N1) (hA : c + 1603 ≤ A) (hN : ∀ b, b ≠ A → N' b = N1 b) (hL : ∀ b, b ≠ A → L' b = mL M b) : CFm c M N (sL M L') N' :=
  ⟨fun b hb => ⟨(hN b (by omega)).trans (h.1 b hb).1, rfl, rfl, hL b (by omega)⟩, rfl, h.2.2⟩
theorem c_write {f : Int32 → JM Mem τ} {Q : τ → Mem → NM → Prop} (hR : CR M N c S) (ht : zR t) (hk : zR k) (hC : 10 ≤ mC M ∧ 1300 ≤ mS M) (h : cPost M N c (a_write S t k x).1 (f (zI (a_write S t k x).2)) Q) : GN M N (jb (jcall 0 c (f_X0_write c (zI t) (zI k) x)) f) Q := by
  refine w_Cc hR.cl ?_
  unfold f_X0_write
  rw [z_0, z_1, z_3, z_4]
  refine w_isTrayk ht ?_
  have hb : ∀ v, plc S t k = v → v ≠ 0 → a_write S t k x = (stU S 0 v, 0) := fun v e1 e2 => by
    unfold a_write
    rw [if_neg (by rw [e1]; exact e2), e1]
  by_cases et : 0 ≤ t ∧ t < 4
  case neg =>
    rw [if_neg et]
    refine w_eq ⟨by omega, by omega⟩ ⟨by omega, by omega⟩ (fun e => ?_) (fun e => absurd rfl e)
    rw [hb 1 (if_neg et) (by decide)] at h
    refine w_is0k hR.cl ⟨by omega, by omega⟩ ?_
    rw [if_neg (by decide)]
    exact w_rze (Or.inl rfl) (c_fin0 hR h)
  rw [if_pos et]
  refine w_eq ⟨by omega, by omega⟩ ⟨by omega, by omega⟩ (fun e => absurd e (by decide)) (fun _ => ?_)
  obtain ⟨t, rfl⟩ : ∃ k : Nat, t = k := ⟨t.toNat, by omega⟩
  obtain ⟨tr1, tr2⟩ := hR.cl.tr (k := t) (by omega)
  refine w_Cf hR.cl rfl ?_
  refine w_aldA (hR.cl.ka (o := 1) (d := (9, 4)) rfl) (by omega) (by omega) tr1 ?_
  refine w_pure ?_
  have hF : CFm c M N M N := CFm.of (Bg.rf hR.cl) CFr.rf
  rcases tr_place (i := t) (k := k) hR (by omega) with ⟨p1, p2, p3, p4⟩ | ⟨r, p2, p3, p4⟩
  · rw [row_n p3]
    rw [hb 3 p1 (by decide)] at h
    rw [if_pos rfl]
    refine w_guard ⟨tr2, by show zI (N (c + 258 + t) 1) = 0; rw [p4]; rfl, p3⟩ ?_
    refine w_call tr2 ?_
    refine go_of (v := mZ M + 0) (M' := sN M N) rfl ⟨M, N, rfl, ?_⟩
    refine w_bump ⟨by omega, by omega⟩ ?_
    have q := hR.bump (zz := 1) (cc := 1) (ss := 8)
    refine w_is0k q.cl ⟨by omega, by omega⟩ ?_
    rw [if_neg (by decide)]
    exact w_rze (Or.inl rfl) (h _ _ (q.st 3) ((hF.bmp (by omega) (by omega)).st 3))
  · rw [row_k p3 hk]
    rcases p4 with ⟨p1, p5⟩ | ⟨p1, p5⟩
    rotate_left
    · rw [if_neg p5, if_neg (by decide), if_pos rfl]
      rw [hb 4 p1 (by decide)] at h
      refine w_guard (row_CX tr2 p3 hk p5) ?_
      refine w_call tr2 ?_
      refine go_of (v := mZ M + 2) (M' := sN M N) rfl ⟨M, N, rfl, ?_⟩
      refine w_bump ⟨by omega, by omega⟩ ?_
      have q := hR.bump (zz := 3) (cc := 3) (ss := 230)
      refine w_is0k q.cl ⟨by omega, by omega⟩ ?_
      rw [if_neg (by decide)]
      exact w_rze (Or.inl rfl) (h _ _ (q.st 4) ((hF.bmp (by omega) (by omega)).st 4))
    rw [if_pos p5]
    rw [if_neg (by decide), if_neg (by decide)]
    have e9 : a_write S t k x = (stU (stY S t (wrT r k.toNat x)) 0 0, 1) := by
      unfold a_write
      rw [if_pos p1, show S.2.2.1 ((t : Int).toNat) = some r from p2]
      rfl
    rw [e9] at h
    obtain ⟨k, rfl⟩ : ∃ i : Nat, k = i := ⟨k.toNat, by omega⟩
    rw [show ((k : Int).toNat) = k from rfl] at h
    refine w_try (w_calle tr2 (w_keep ?_))
    obtain ⟨y1, y2, y3, ⟨A, hA, hl, y4⟩, y5⟩ := p3
    have hA1 := y5 A hA
    have fin : ∀ (L' : Nat → Nat → Int64) (N' : NM), (∀ b, b ≠ A → N' b = N b) → (∀ b, b ≠ A → L' b = mL M b) → TrR (sL M L') N' (c + 258 + t) r.2.1 (wrT r k x).2.2 → GN (sL M L') N' (jb (jcall 0 c (jkeep (f_X0_is0 c (zI 0)))) fun v4 => jrz v4) (fun v M1 N1 => GN M1 N1 (f v) Q) := fun L' N' h1 h2 h3 => by
      have hq := hR.wrY (t := t) (by omega) p2 hA h1 h2 h3
      refine w_is0k hq.cl ⟨by omega, by omega⟩ ?_
      rw [if_pos rfl]
      exact w_rze (Or.inr rfl) (h _ _ (hq.st 0) ((hF.wrY (t := t) hA1 h1 h2).st 0))
    have old : ∀ (T : Nat), T = r.1 → N (c + 258 + t) 1 = T := fun T e => by rw [y1, e]
    have sor : ∀ N' : NM, (∀ b, b ≠ A → N' b = N b) → N' (c + 258 + t) 1 = r.1 := fun N' h1 => by rw [h1 _ (by omega)]; exact y1
    have vals : ∀ (w : Int), (cutL r.1 x).toInt = w → zR w → (∀ i, i < r.2.1 → N A i = r.2.2 i ∧ zR (r.2.2 i)) → ∀ i, i < r.2.1 → up2 N A k w A i = (wrT r k x).2.2 i ∧ zR ((wrT r k x).2.2 i) := fun w hw hz hv i hi => by
      show up2 N A k w A i = (if i = k then (cutL r.1 x).toInt else r.2.2 i) ∧ zR (if i = k then (cutL r.1 x).toInt else r.2.2 i)
      by_cases e : i = k
      · rw [if_pos e, hw, e, upv]; exact ⟨rfl, hz⟩
      · rw [if_neg e, upk e]; exact hv i hi
    unfold f_X6_set
    rw [z_0, z_1, z_2]
    rcases y4 with ⟨e, hKa, hv⟩ | ⟨e, hKa, hv⟩ | ⟨e, hKa, hv⟩ | ⟨e, hKa, hv⟩
    · refine w_getI tr2 ?_
      rw [e]
      refine w_eq ⟨by omega, by omega⟩ ⟨by omega, by omega⟩ (fun _ => ?_) (fun x => absurd rfl x)
      refine w_getA tr2 hA (w_cast hKa (w_astb hKa (by omega) (by omega) (w_jp ?_)))
      have er : r.1 = 0 := by omega
      refine fin (mL M) _ (fun b hb => upb hb) (fun _ _ => rfl) ⟨A, hA, hl, Or.inl ⟨?_, hKa, vals _ (by rw [er]; exact cut_0) (i32_r _) hv⟩⟩
      rw [sor _ (fun b hb => upb hb), er]; rfl
    · refine w_getI tr2 ?_
      rw [e]
      refine w_eq ⟨by omega, by omega⟩ ⟨by omega, by omega⟩ (fun x => absurd x (by omega)) (fun _ => ?_)
      refine w_getI tr2 ?_
      rw [e]
      refine w_eq ⟨by omega, by omega⟩ ⟨by omega, by omega⟩ (fun _ => ?_) (fun x => absurd rfl x)
      refine w_getA tr2 hA (w_cast hKa (w_asts hKa (by omega) (by omega) (w_jp ?_)))
      have er : r.1 = 1 := by omega
      refine fin (mL M) _ (fun b hb => upb hb) (fun _ _ => rfl) ⟨A, hA, hl, Or.inr (Or.inl ⟨?_, hKa, vals _ (by rw [er]; exact cut_1) (i32_r _) hv⟩)⟩
      rw [sor _ (fun b hb => upb hb), er]; rfl
    · refine w_getI tr2 ?_
      rw [e]
      refine w_eq ⟨by omega, by omega⟩ ⟨by omega, by omega⟩ (fun x => absurd x (by omega)) (fun _ => ?_)
      refine w_getI tr2 ?_
      rw [e]
      refine w_eq ⟨by omega, by omega⟩ ⟨by omega, by omega⟩ (fun x => absurd x (by omega)) (fun _ => ?_)
      refine w_getI tr2 ?_
      rw [e]
      refine w_eq ⟨by omega, by omega⟩ ⟨by omega, by omega⟩ (fun _ => ?_) (fun x => absurd rfl x)
      refine w_getA tr2 hA (w_cast hKa (w_iput hKa (by omega) (by omega) (w_jp ?_)))
      have er : r.1 = 2 := by omega
      refine fin (mL M) _ (fun b hb => upb hb) (fun _ _ => rfl) ⟨A, hA, hl, Or.inr (Or.inr (Or.inl ⟨?_, hKa, vals _ (by rw [er]; exact cut_2) (i32_r _) hv⟩))⟩
      rw [sor _ (fun b hb => upb hb), er]; rfl
    · refine w_getI tr2 ?_
      rw [e]
      refine w_eq ⟨by omega, by omega⟩ ⟨by omega, by omega⟩ (fun x => absurd x (by omega)) (fun _ => ?_)
      refine w_getI tr2 ?_
      rw [e]
      refine w_eq ⟨by omega, by omega⟩ ⟨by omega, by omega⟩ (fun x => absurd x (by omega)) (fun _ => ?_)
      refine w_getI tr2 ?_
      rw [e]
      refine w_eq ⟨by omega, by omega⟩ ⟨by omega, by omega⟩ (fun x => absurd x (by omega)) (fun _ => ?_)
      refine w_getA tr2 hA (w_cast hKa (w_astl hKa (by omega) (by omega) (w_jp ?_)))
      have er : r.1 = 3 := by omega
      refine fin (up2 (mL M) A k x) N (fun b hb => rfl) (fun b hb => funext fun j => if_neg (fun e => hb e.1)) ⟨A, hA, hl, Or.inr (Or.inr (Or.inr ⟨?_, hKa, fun i hi => ?_⟩))⟩
      · rw [y1, er]; rfl
      · show up2 (mL M) A k x A i = zL (if i = k then (cutL r.1 x).toInt else r.2.2 i) ∧ zRL (if i = k then (cutL r.1 x).toInt else r.2.2 i)
        by_cases e : i = k
        · rw [if_pos e, er, e, upLv, show cutL 3 x = x from rfl, zL_of]
          exact ⟨rfl, toL_r _⟩
        · rw [if_neg e, upLk (by omega)]
          exact hv i hi
end OPS32
