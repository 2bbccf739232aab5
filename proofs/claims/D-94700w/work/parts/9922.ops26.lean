/-! OPS, part 26: feed. -/
set_option maxRecDepth 100000
section OPS26
variable {α τ ρ : Type} {M M' M1 M2 : Mem} {N N' N1 : NM} {c m i j k q r n t : Nat} {u v s z a b d e : Int} {S S' : St} {x : Nat × (Nat → Int)}
theorem w_astb {a n : Nat} {z : Int} {x : Int32} {f : Unit → JM Mem τ} {Q : τ → Mem → NM → Prop} (hK : mK M a = some (.inr (1, n))) (hz : 0 ≤ z ∧ z < n) (hn : n ≤ 100000) (h : GN M (up2 N a z.toNat x.toInt8.toInt32.toInt) (f ()) Q) : GN M N (jb (jast_b a (zI z) x) f) Q := by
  have e := zI_toN hz.1
  generalize z.toNat = k at e h
  subst e
  refine go_jb ?_
  unfold jast_b
  refine go_ast (M := sN M N) hK (by omega) hn rfl ?_
  have e2 : x.toInt8.toInt32 = zI x.toInt8.toInt32.toInt := (zI_of _).symm
  rw [zI_nat (by omega), e2, sN_up]
  exact h
/-- a byte of a number -/
def byt (v : Int) (t : Nat) : Int := ((zI v >>> (zI (24 - 8 * (t : Int)) &&& 31)).toInt8.toInt32).toInt8.toInt32.toInt
theorem byt_r (v : Int) (t : Nat) : -128 ≤ byt v t ∧ byt v t ≤ 127 := by
  unfold byt
  rw [Int8.toInt_toInt32]
  have h1 := Int8.le_toInt ((zI v >>> (zI (24 - 8 * (t : Int)) &&& 31)).toInt8.toInt32).toInt8
  have h2 := Int8.toInt_lt ((zI v >>> (zI (24 - 8 * (t : Int)) &&& 31)).toInt8.toInt32).toInt8
  omega
/-- t bytes of a number are laid -/
def tpA (x : Nat × (Nat → Int)) (v : Int) (t : Nat) : Nat × (Nat → Int) := (x.1 + t, fun i => if x.1 ≤ i ∧ i < x.1 + t then byt v (i - x.1) else x.2 i)
theorem tpA_0 : tpA x v 0 = x := by
  unfold tpA
  refine Prod.ext rfl ?_
  funext i
  exact if_neg (by omega)
theorem tpA_st {N : NM} {r a k : Nat} (h : TpC N r a k (tpA x v t)) (ht : x.1 + t < 600) (hra : r ≠ a) : TpC (up2 (up2 N a (x.1 + t) (byt v t)) r k ((x.1 : Int) + t + 1)) r a k (tpA x v (t + 1)) := by
  obtain ⟨h1, h2, h3⟩ := h
  refine ⟨?_, by show x.1 + (t + 1) ≤ 600; omega, fun i hi => ?_⟩
  · rw [upv]
    show (x.1 : Int) + t + 1 = ((x.1 + (t + 1) : Nat) : Int)
    omega
  · have hi : i < x.1 + (t + 1) := hi
    rw [upb (fun e => hra e.symm)]
    show up2 N a (x.1 + t) (byt v t) a i = (if x.1 ≤ i ∧ i < x.1 + (t + 1) then byt v (i - x.1) else x.2 i) ∧ -128 ≤ (if x.1 ≤ i ∧ i < x.1 + (t + 1) then byt v (i - x.1) else x.2 i) ∧ (if x.1 ≤ i ∧ i < x.1 + (t + 1) then byt v (i - x.1) else x.2 i) ≤ 127
    by_cases e : i = x.1 + t
    · subst e
      rw [upv, if_pos (by omega), Nat.add_sub_cancel_left]
      exact ⟨rfl, byt_r v t⟩
    · rw [upk e]
      have := h3 i (by show i < x.1 + t; omega)
      have this : N a i = (if x.1 ≤ i ∧ i < x.1 + t then byt v (i - x.1) else x.2 i) ∧ -128 ≤ (if x.1 ≤ i ∧ i < x.1 + t then byt v (i - x.1) else x.2 i) ∧ (if x.1 ≤ i ∧ i < x.1 + t then byt v (i - x.1) else x.2 i) ≤ 127 := this
      by_cases e2 : x.1 ≤ i ∧ i < x.1 + t
      · rw [if_pos e2] at this
        rw [if_pos (by omega)]
        exact this
      · rw [if_neg e2] at this
        rw [if_neg (by omega)]
        exact this
def stP (S : St) (x : Nat × (Nat → Int)) : St := (S.1, S.2.1, S.2.2.1, x, S.2.2.2.2)
theorem CR.setT (h : CR M N c S) (hN : ∀ b, b ≠ c + 2 → b ≠ c + 4 → N' b = N b) (hT : TpC N' (c + 2) (c + 4) 9 x) : CR M N' c (stP S x) := by
  obtain ⟨h1, h2, ⟨h3, h3b, h3c⟩, ⟨h4, h4b⟩, _, hm, h6⟩ := h
  have tK : ∀ b d, c + 1603 ≤ b → mK M b = some d → mK M b = some d := fun _ _ _ x => x
  have tR : ∀ b, c + 1603 ≤ b → mK M b ≠ none → mR M b = mR M b := fun _ _ _ => rfl
  have tN : ∀ b, c + 1603 ≤ b → mK M b = some (.inl 8) → ∀ j, j < 7 → N' b j = N b j := fun b hb _ j _ => by rw [hN b (by omega) (by omega)]
  have ec := hN c (by omega) (by omega)
  refine ⟨h1, h2.ag tK tR tN rfl (by rw [ec]) (hN _ (by omega) (by omega)) (fun b x y => hN b (by omega) (by omega)) (fun j hj b (x : c + 262 + 32 * j ≤ b) y => hN b (by omega) (by omega)), ⟨by rw [ec]; exact h3, h3b, fun k hk => ?_⟩, ⟨fun t ht => (h4 t ht).ag rfl (hN _ (by omega) (by omega)) (fun a g1 g2 => ⟨hN a (by omega) (by omega), rfl, rfl⟩), h4b⟩, hT, ?_, h6⟩
  · have hk : k < S.2.1.1 := hk
    have := h3c k hk
    have hkk : kpl c k = c + 390 + 163 * k := rfl
    show HsC M N' (c + 1603) (kpl c k + 1) (kpl c k + 34) (fun j => kpl c k + 35 + 32 * j) (kpl c k) 3 (S.2.1.2 k)
    generalize kpl c k = K2 at this hkk
    exact this.ag tK tR tN rfl (by rw [hN _ (by omega) (by omega)]) (hN _ (by omega) (by omega)) (fun b x y => hN b (by omega) (by omega)) (fun j hj b (x : K2 + 35 + 32 * j ≤ b) y => hN b (by omega) (by omega))
  · unfold MiC at hm ⊢
    rw [show (stP S x).2.2.2.2 = S.2.2.2.2 from rfl, ec]
    exact hm
theorem MR.setT (h : MR M N m S) (hN : ∀ b, b ≠ m → b ≠ m + 4 → N' b = N b) (hm : ∀ k, k = 0 ∨ k = 1 ∨ k = 10 ∨ k = 11 ∨ k = 23 ∨ k = 44 ∨ 49 ≤ k ∧ k ≤ 53 → N' m k = N m k) (hT : TpC N' m (m + 4) 8 x) : MR M N' m (stP S x) := by
  obtain ⟨g1, g2, ⟨g3, g3b, g3c⟩, g4, _, q⟩ := h
  have h5 := hN (m + 5) (by omega) (by omega)
  refine ⟨g1, g2.ag h5, ⟨by rw [hm 23 (by omega)]; exact g3, g3b, fun k hk => (g3c k hk).ag h5⟩, fun t ht => (g4 t ht).ag (hN _ (by omega) (by omega)) (hN _ (by omega) (by omega)) rfl, hT, ?_⟩
  unfold MiM at q ⊢
  rw [show (stP S x).2.2.2.2 = S.2.2.2.2 from rfl, hm 0 (by omega), hm 1 (by omega), hm 10 (by omega), hm 11 (by omega), hm 44 (by omega), hm 49 (by omega), hN (m + 23) (by omega) (by omega)]
  exact q
theorem c_four {f : Unit → JM Mem τ} {Q : τ → Mem → NM → Prop} (hC : CL M c) (hT : TpC N (c + 2) (c + 4) 9 x) (hx : x.1 + 4 ≤ 600) (h : ∀ N', TpC N' (c + 2) (c + 4) 9 (tpA x v 4) → (∀ b, b ≠ c + 2 → b ≠ c + 4 → N' b = N b) → GN M N' (f ()) Q) : GN M N (jb (jcall 0 c (f_X0_four c (zI v))) f) Q := by
  obtain ⟨r1, r2, r3, r4, r5, r6, r7⟩ := hC.rd
  have h4 := hC.ka (o := 4) (d := (1, 600)) rfl
  refine w_Cc hC ?_
  unfold f_X0_four
  rw [show (24 : Int32) = zI 24 from rfl]
  refine w_loop (fun d s N1 => ∃ t : Nat, d = 4 - t ∧ t ≤ 4 ∧ s = zI (24 - 8 * (t : Int)) ∧ TpC N1 (c + 2) (c + 4) 9 (tpA x v t) ∧ ∀ b, b ≠ c + 2 → b ≠ c + 4 → N1 b = N b) 4 _ ⟨0, rfl, by omega, rfl, by rw [tpA_0]; exact hT, fun _ _ _ => rfl⟩ ?_
  rintro d s N1 ⟨t, rfl, ht, rfl, g1, g2⟩
  have e1 : N1 (c + 2) 9 = ((x.1 + t : Nat) : Int) := g1.1
  unfold X0_four_L3
  rw [z_0]
  refine w_lt ⟨by omega, by omega⟩ ⟨by omega, by omega⟩ (fun e => ?_) (fun e => ?_)
  · obtain rfl : t = 4 := by omega
    exact w_jinl (w_jp (h N1 g1 g2))
  refine w_Cf hC rfl (w_getA r1 r3 ?_)
  refine w_Cf hC rfl (w_getI r1 ?_)
  rw [e1]
  refine w_astb h4 (by omega) (by omega) ?_
  refine w_Cf hC rfl (w_getI r1 ?_)
  rw [upb (by omega), e1, z_1, zI_add]
  refine w_putI r1 ?_
  rw [show (-8 : Int32) = zI (-8) from by decide, zI_add]
  have := tpA_st g1 (by omega) (show c + 2 ≠ c + 4 by omega)
  refine w_jcont ⟨4 - (t + 1), by omega, t + 1, rfl, by omega, by congr 1; omega, ?_, fun b h1 h2 => by rw [upb h1, upb h2, g2 b h1 h2]⟩
  rw [show ((x.1 + t : Nat) : Int) + 1 = (x.1 : Int) + t + 1 by omega]
  exact this
theorem m_lay {f : Unit → JM Mem τ} {Q : τ → Mem → NM → Prop} (hM : ML M m) (hT : TpC N m (m + 4) 8 x) (hx : x.1 + 4 ≤ 600) (h : ∀ N', TpC N' m (m + 4) 8 (tpA x v 4) → (∀ b, b ≠ m → b ≠ m + 4 → N' b = N b) → (∀ k, k ≠ 8 → N' m k = N m k) → GN M N' (f ()) Q) : GN M N (jb (jcall 7 m (f_X8_lay m (zI v))) f) Q := by
  have h4 := hM.ka (o := 4) (d := (1, 600)) rfl
  refine w_Mc hM ?_
  unfold f_X8_lay
  rw [z_3]
  refine w_loop (fun d s N1 => ∃ t : Nat, d = 4 - t ∧ t ≤ 4 ∧ s = zI (3 - (t : Int)) ∧ TpC N1 m (m + 4) 8 (tpA x v t) ∧ (∀ b, b ≠ m → b ≠ m + 4 → N1 b = N b) ∧ ∀ k, k ≠ 8 → N1 m k = N m k) 4 _ ⟨0, rfl, by omega, rfl, by rw [tpA_0]; exact hT, fun _ _ _ => rfl, fun _ _ => rfl⟩ ?_
  rintro d s N1 ⟨t, rfl, ht, rfl, g1, g2, g3⟩
  have e1 : N1 m 8 = ((x.1 + t : Nat) : Int) := g1.1
  unfold X8_lay_L2
  rw [z_0]
  refine w_lt ⟨by omega, by omega⟩ ⟨by omega, by omega⟩ (fun e => ?_) (fun e => ?_)
  · obtain rfl : t = 4 := by omega
    exact w_jinl (w_jp (h N1 g1 g2 g3))
  refine w_Mf hM rfl (w_MI hM ?_)
  rw [e1, show (8 : Int32) = zI 8 from rfl, zI_mul, show (8 * (3 - (t : Int))) = 24 - 8 * (t : Int) by omega]
  refine w_astb h4 (by omega) (by omega) ?_
  refine w_MI hM ?_
  rw [upb (by omega), e1, z_1, zI_add]
  refine w_Mput hM ?_
  rw [zI_neg, zI_add]
  have := tpA_st g1 (by omega) (show m ≠ m + 4 by omega)
  refine w_jcont ⟨4 - (t + 1), by omega, t + 1, rfl, by omega, by congr 1; omega, ?_, fun b h1 h2 => by rw [upb h1, upb h2, g2 b h1 h2], fun k hk => by rw [upk hk, upb (by omega), g3 k hk]⟩
  rw [show ((x.1 + t : Nat) : Int) + 1 = (x.1 : Int) + t + 1 by omega]
  exact this
/-- five numbers are laid -/
def tpF (x : Nat × (Nat → Int)) (a b d e u : Int) : Nat × (Nat → Int) := tpA (tpA (tpA (tpA (tpA x a 4) b 4) d 4) e 4) u 4
def a_feed (S : St) (a b d e u : Int) : St × Int := if S.2.2.2.1.1 + 20 ≤ 600 then (stP S (tpF S.2.2.2.1 a b d e u), ((S.2.2.2.1.1 + 20 : Nat) : Int)) else (S, -1)
theorem c_feed {f : Int32 → JM Mem τ} {Q : τ → Mem → NM → Prop} (hR : CR M N c S) (h : cPost M N c (a_feed S a b d e u).1 (f (zI (a_feed S a b d e u).2)) Q) : GN M N (jb (jcall 0 c (f_X0_feed c (zI a) (zI b) (zI d) (zI e) (zI u))) f) Q := by
  obtain ⟨r1, r2, r3, r4, r5, r6, r7⟩ := hR.cl.rd
  have hT := hR.2.2.2.2.1
  generalize hx : S.2.2.2.1 = x at *
  have e1 := hT.1
  have e2 := hT.2.1
  refine w_Cc hR.cl ?_
  unfold f_X0_feed
  unfold a_feed at h
  rw [hx] at h
  refine w_Cf hR.cl rfl (w_getI r1 ?_)
  rw [e1, show (20 : Int32) = zI 20 from rfl, show (600 : Int32) = zI 600 from rfl, zI_add]
  refine w_le ⟨by omega, by omega⟩ ⟨by omega, by omega⟩ (fun ec => ?_) (fun ec => ?_)
  · rw [if_pos (by omega)] at h
    refine c_four hR.cl hT (by omega) (fun N1 t1 f1 => ?_)
    refine c_four hR.cl t1 (by show x.1 + 4 + 4 ≤ 600; omega) (fun N2 t2 f2 => ?_)
    refine c_four hR.cl t2 (by show x.1 + 4 + 4 + 4 ≤ 600; omega) (fun N3 t3 f3 => ?_)
    refine c_four hR.cl t3 (by show x.1 + 4 + 4 + 4 + 4 ≤ 600; omega) (fun N4 t4 f4 => ?_)
    refine c_four hR.cl t4 (by show x.1 + 4 + 4 + 4 + 4 + 4 ≤ 600; omega) (fun N5 t5 f5 => ?_)
    have ff : ∀ b, b ≠ c + 2 → b ≠ c + 4 → N5 b = N b := fun b h1 h2 => by rw [f5 b h1 h2, f4 b h1 h2, f3 b h1 h2, f2 b h1 h2, f1 b h1 h2]
    refine w_Cf hR.cl rfl (w_getI r1 ?_)
    rw [show N5 (c + 2) 9 = ((x.1 + 20 : Nat) : Int) from t5.1]
    exact w_jp (h M N5 (hR.setT ff t5) (CFm.sc (Bg.rf hR.cl) (fun b hb => ff b (by omega) (by omega))))
  · rw [if_neg (by omega)] at h
    rw [z_m1]
    exact w_jp (h M N hR (CFm.of (Bg.rf hR.cl) CFr.rf))
theorem m_feed {f : Int32 → JM Mem τ} {Q : τ → Mem → NM → Prop} (hR : MR M N m S) (h : mPost M N m (a_feed S a b d e u).1 (f (zI (a_feed S a b d e u).2)) Q) : GN M N (jb (jcall 7 m (f_X8_feed m (zI a) (zI b) (zI d) (zI e) (zI u))) f) Q := by
  have hT := hR.2.2.2.2.1
  generalize hx : S.2.2.2.1 = x at *
  have e1 := hT.1
  have e2 := hT.2.1
  have hM := hR.ml
  refine w_Mc hM ?_
  unfold f_X8_feed
  unfold a_feed at h
  rw [hx] at h
  rw [z_0]
  refine w_Mput hM ?_
  rw [hR.thr]
  refine w_MI hM ?_
  rw [e1, show (20 : Int32) = zI 20 from rfl, show (600 : Int32) = zI 600 from rfl, zI_add]
  refine w_le ⟨by omega, by omega⟩ ⟨by omega, by omega⟩ (fun ec => ?_) (fun ec => ?_)
  · rw [if_pos (by omega)] at h
    refine m_lay hM hT (by omega) (fun N1 t1 f1 k1 => ?_)
    refine m_lay hM t1 (by show x.1 + 4 + 4 ≤ 600; omega) (fun N2 t2 f2 k2 => ?_)
    refine m_lay hM t2 (by show x.1 + 4 + 4 + 4 ≤ 600; omega) (fun N3 t3 f3 k3 => ?_)
    refine m_lay hM t3 (by show x.1 + 4 + 4 + 4 + 4 ≤ 600; omega) (fun N4 t4 f4 k4 => ?_)
    refine m_lay hM t4 (by show x.1 + 4 + 4 + 4 + 4 + 4 ≤ 600; omega) (fun N5 t5 f5 k5 => ?_)
    have ff : ∀ b, b ≠ m → b ≠ m + 4 → N5 b = N b := fun b h1 h2 => by rw [f5 b h1 h2, f4 b h1 h2, f3 b h1 h2, f2 b h1 h2, f1 b h1 h2]
    have kk : ∀ k, k ≠ 8 → N5 m k = N m k := fun k hk => by rw [k5 k hk, k4 k hk, k3 k hk, k2 k hk, k1 k hk]
    refine w_MI hM ?_
    rw [show N5 m 8 = ((x.1 + 20 : Nat) : Int) from t5.1]
    exact w_jp (h M N5 (hR.setT ff (fun k hk => kk k (by omega)) t5) ⟨fun b hb => ff b (by omega) (by omega), mR M, mL M, rfl, fun _ _ => ⟨rfl, rfl⟩⟩)
  · rw [if_neg (by omega)] at h
    rw [z_m1]
    exact w_jp (h M N hR MFm.rf)
end OPS26
