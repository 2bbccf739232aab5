/-! OPS, part 29: rules for what is made, kept, tried; a tray, the component's. -/
set_option maxRecDepth 100000
section OPS29
variable {α τ ρ : Type} {M M' M1 M2 : Mem} {N N' N1 : NM} {c m i j q r n A : Nat} {u v s z a b d e t k : Int} {S S' : St} {x : Int64}
theorem w_keep {f : JM Mem α} {Q : α → Mem → NM → Prop} (h : GN M N f (fun v B N' => Q v (sB B (mC M) (mS M)) N')) : GN M N (jkeep f) Q := by
  obtain ⟨v, M', e, B, N', rfl, q⟩ := h
  refine ⟨v, _, ?_, sB B (mC M) (mS M), N', rfl, q⟩
  unfold jkeep
  rw [e]
  rfl
theorem w_pay {mc ms : Nat} {f : JM Mem α} {Q : α → Mem → NM → Prop} (hr : mc ≤ mC M ∧ ms ≤ mS M) (h : GN (sB M mc ms) N f (fun v B N' => Q v (sB B (mC M - mc) (mS M - ms)) N')) : GN M N (jpay mc ms f) Q := by
  obtain ⟨v, M', e, B, N', rfl, q⟩ := h
  refine ⟨v, _, ?_, sB B (mC M - mc) (mS M - ms), N', rfl, q⟩
  unfold jpay
  rw [if_pos (show mc ≤ mC (sN M N) ∧ ms ≤ mS (sN M N) from hr), show f (sB (sN M N) mc ms) = _ from e]
  rfl
theorem w_try {x : JM Mem α} {f : α → JM Mem τ} {g : Nat → JM Mem τ} {Q : τ → Mem → NM → Prop} (h : GN M N x (fun v B N' => GN B N' (f v) Q)) : GN M N (jtry x f g) Q := by
  obtain ⟨v, M', e, B, N', rfl, v2, M2, e2, q⟩ := h
  refine ⟨v2, M2, ?_, q⟩
  unfold jtry
  rw [e]
  exact e2
theorem w_guard {C : Mem → Prop} {f : Unit → JM Mem τ} {Q : τ → Mem → NM → Prop} (hC : C (sN M N)) (h : GN M N (f ()) Q) : GN M N (jb (jguard C) f) Q :=
  go_jb ⟨(), sN M N, jguard_ok hC, h⟩
theorem w_bump {zz cc ss : Nat} {f : Unit → JM Mem τ} {Q : τ → Mem → NM → Prop} (hr : cc ≤ mC M ∧ ss ≤ mS M) (h : GN (jbumpM M zz cc ss) N (f ()) Q) : GN M N (jb (jbump zz cc ss) f) Q :=
  go_jb ⟨(), sN (jbumpM M zz cc ss) N, if_pos hr, h⟩
theorem w_pure {g : Mem → α} {f : α → JM Mem τ} {Q : τ → Mem → NM → Prop} (h : GN M N (f (g (sN M N))) Q) : GN M N (jb (jpure g) f) Q :=
  go_jb ⟨g (sN M N), sN M N, rfl, h⟩
def upZ (N : NM) (a : Nat) : NM := fun b k => if b = a then 0 else N b k
theorem w_newN {t n : Nat} {f : Nat → JM Mem τ} {Q : τ → Mem → NM → Prop} (hn : n ≤ 1000) (hr : 1 ≤ mC M ∧ n ≤ mS M) (h : GN (jnewM M (.inr (t, n)) n) (upZ N (mZ M)) (f (mZ M)) Q) : GN M N (jb (jnewN t (zI n)) f) Q := by
  have e1 : (zI (n : Int)).toInt = n := zI_to ⟨by omega, by omega⟩
  have e2 : (zI (n : Int)).toNatClampNeg = n := by show (zI (n : Int)).toInt.toNat = n; rw [e1]; rfl
  refine go_jb ⟨mZ M, sN (jnewM M (.inr (t, n)) n) (upZ N (mZ M)), ?_, h⟩
  unfold jnewN
  rw [if_pos (by rw [e1]; omega), e2]
  unfold jnew
  rw [if_pos (show 1 ≤ mC (sN M N) ∧ n ≤ mS (sN M N) from hr)]
  have e : jnewM (sN M N) (.inr (t, n)) n = sN (jnewM M (.inr (t, n)) n) (upZ N (mZ M)) := by
    have eI : upA (mI (sN M N)) (mZ M) (fun _ => 0) = fun a k => zI (upZ N (mZ M) a k) := by
      funext a k
      show (if a = mZ M then (0 : Int32) else zI (N a k)) = zI (if a = mZ M then 0 else N a k)
      by_cases q : a = mZ M
      · rw [if_pos q, if_pos q]; rfl
      · rw [if_neg q, if_neg q]
    show (_, upA (mI (sN M N)) (mZ M) (fun _ => 0), _, _, _, _, _, _) = _
    rw [eI]
    rfl
  rw [e]
  rfl
/-- the kind of a sort's array -/
def tyk (so : Nat) : Nat := if so = 0 then 1 else if so = 1 then 2 else if so = 2 then 0 else 3
theorem w_make {T so n : Nat} {f : Unit → JM Mem τ} {Q : τ → Mem → NM → Prop} (hT : mK M T = some (.inl 5)) (hTz : T ≠ mZ M) (hs : so ≤ 3) (hn : n ≤ 60) (hr : 1 ≤ mC M ∧ 1000 ≤ mS M)
    (h : GN (sB (sR (jnewM (sB M 1 1000) (.inr (tyk so, n)) n) (up2 (mR (jnewM M (.inr (tyk so, n)) n)) T 0 (some (mZ M)))) (mC M - 1) (mS M - 1000)) (up2 (upZ N (mZ M)) T 1 so) (f ()) Q) : GN M N (jtry (jcall 5 T (jpay 1 1000 (f_X6_make T (zI so) (zI n)))) f (fun _ => jfail)) Q := by
  refine w_try (w_calle hT (w_pay hr ?_))
  have hK : ∀ d, mK (jnewM (sB M 1 1000) d n) T = some (.inl 5) := fun d => (if_neg hTz).trans hT
  unfold f_X6_make
  rw [z_0, z_1, z_2]
  unfold X6_make_b35
  refine w_eq ⟨by omega, by omega⟩ ⟨by omega, by omega⟩ (fun q => ?_) (fun q => ?_)
  · obtain rfl : so = 0 := by omega
    exact w_newN (by omega) ⟨by show 1 ≤ 1; omega, by show n ≤ 1000; omega⟩ (w_putO (hK _) (w_putI (hK _) (w_jp h)))
  refine w_eq ⟨by omega, by omega⟩ ⟨by omega, by omega⟩ (fun q => ?_) (fun q => ?_)
  · obtain rfl : so = 1 := by omega
    exact w_newN (by omega) ⟨by show 1 ≤ 1; omega, by show n ≤ 1000; omega⟩ (w_putO (hK _) (w_putI (hK _) (w_jp h)))
  refine w_eq ⟨by omega, by omega⟩ ⟨by omega, by omega⟩ (fun q => ?_) (fun q => ?_)
  · obtain rfl : so = 2 := by omega
    exact w_newN (by omega) ⟨by show 1 ≤ 1; omega, by show n ≤ 1000; omega⟩ (w_putO (hK _) (w_putI (hK _) (w_jp h)))
  · obtain rfl : so = 3 := by omega
    exact w_newN (by omega) ⟨by show 1 ≤ 1; omega, by show n ≤ 1000; omega⟩ (w_putO (hK _) (w_putI (hK _) (w_jp h)))
theorem w_is0k {f : Int32 → JM Mem τ} {Q : τ → Mem → NM → Prop} (hC : CL M c) (hv : zR v) (h : GN M (up2 N c 8 v) (f (zI (if v = 0 then 1 else 0))) Q) : GN M N (jb (jcall 0 c (jkeep (f_X0_is0 c (zI v)))) f) Q := by
  refine w_Cc hC (w_keep ?_)
  unfold f_X0_is0
  refine w_Cput hC ?_
  rw [z_0, z_1]
  refine w_eq hv ⟨by omega, by omega⟩ (fun e => ?_) (fun e => ?_)
  · rw [if_pos e] at h
    exact w_jp h
  · rw [if_neg e] at h
    exact w_jp h
theorem w_isTrayk {f : Int32 → JM Mem τ} {Q : τ → Mem → NM → Prop} (hz : zR z) (h : GN M N (f (zI (if 0 ≤ z ∧ z < 4 then 1 else 0))) Q) : GN M N (jb (jkeep (f_X0_isTray (zI z))) f) Q := by
  refine w_jb (w_keep ?_)
  unfold f_X0_isTray
  rw [z_0, show (4 : Int32) = zI 4 from rfl, z_1]
  refine w_lt hz ⟨by omega, by omega⟩ (fun hc => ?_) (fun hc => ?_)
  · rw [if_neg (by omega)] at h; exact w_jp h
  refine w_le ⟨by omega, by omega⟩ hz (fun hd => ?_) (fun hd => ?_)
  · rw [if_neg (by omega)] at h; exact w_jp h
  · rw [if_pos (by omega)] at h; exact w_jp h
theorem CR.bump {zz cc ss : Nat} (h : CR M N c S) : CR (jbumpM M zz cc ss) N c S := by
  obtain ⟨h1, h2, h3, h4, h5, h6, z1, z2⟩ := h
  exact ⟨h1, h2, h3, h4, h5, h6, by show c + 1603 ≤ mZ M + zz; omega, fun b hb => z2 b (by have : mZ M + zz ≤ b := hb; omega)⟩
theorem CFm.bump {zz cc ss : Nat} (hc : cc ≤ 64) (hs : ss ≤ 1300) : CFm c M N (jbumpM M zz cc ss) N := ⟨fun _ _ => ⟨rfl, rfl, rfl, rfl⟩, rfl, by show mC M ≤ mC M - cc + 64; omega, by show mS M ≤ mS M - ss + 1300; omega⟩
/-- a tray of the component is another -/
theorem CR.setY {t : Nat} {r : Try} (h : CR M N c S) (ht : t < 4) (hC : CL M' c) (hZ : c + 1603 ≤ mZ M' ∧ ∀ b, mZ M' ≤ b → mK M' b = none) (hK : ∀ b d, mK M b = some d → mK M' b = some d) (hR : ∀ b, b ≠ c + 258 + t → (mK M b ≠ none ∨ b < c + 1603) → mR M' b = mR M b)
    (hA : c + 1603 ≤ A ∧ mK M A ≠ some (.inl 8) ∧ ∀ t', t' < 4 → t' ≠ t → mR M (c + 258 + t') 0 ≠ some A) (hN : ∀ b, b ≠ A → b ≠ c + 258 + t → N' b = N b) (hL : ∀ b, b ≠ A → mL M' b = mL M b) (hr : TyC M' N' (c + 1603) (c + 258 + t) (some r)) (hi : mR M' (c + 258 + t) 0 = some A) : CR M' N' c (stY S t r) := by
  obtain ⟨g1, g2, ⟨g3, g3b, g3c⟩, ⟨g4, g4b⟩, ⟨g5, g5b, g5c⟩, ⟨q1, q2, q3, q4, q5, q6, q7, q8, q9⟩, _⟩ := h
  have hK' : ∀ b d, c + 1603 ≤ b → mK M b = some d → mK M' b = some d := fun b d _ e => hK b d e
  have hR' : ∀ b, c + 1603 ≤ b → mK M b ≠ none → mR M' b = mR M b := fun b h1 h2 => hR b (by omega) (Or.inl h2)
  have hN' : ∀ b, c + 1603 ≤ b → mK M b = some (.inl 8) → ∀ k, k < 7 → N' b k = N b k := fun b h1 h2 k _ => by rw [hN b (fun e => hA.2.1 (by rw [← e]; exact h2)) (by omega)]
  have hc : N' c = N c := hN c (by omega) (by omega)
  refine ⟨hC, g2.ag hK' hR' hN' (by rw [hR c (by omega) (Or.inr (by omega))]) (by rw [hc]) (hN _ (by omega) (by omega)) (fun b x y => hN b (by omega) (by omega)) (fun j hj b x y => hN b (by omega) (by omega)), ⟨by rw [hc]; exact g3, g3b, fun k hk => ?_⟩, ⟨fun t' ht' => ?_, fun t1 t2 a h1 h2 e1 e2 => ?_⟩, ⟨by rw [hN _ (by omega) (by omega)]; exact g5, g5b, by rw [hN _ (by omega) (by omega)]; exact g5c⟩, ⟨by rw [hc]; exact q1, by rw [hc]; exact q2, by rw [hc]; exact q3, by rw [hL c (by omega)]; exact q4, by rw [hL c (by omega)]; exact q5, by rw [hc]; exact q6, by rw [hc]; exact q7, by rw [hc]; exact q8, by rw [hc]; exact q9⟩, hZ⟩
  · have hk : k < S.2.1.1 := hk
    have hk3 : k < 3 := by omega
    have := g3c k hk
    unfold kpl at this ⊢
    exact this.ag hK' hR' hN' (by rw [hR _ (by omega) (Or.inr (by omega))]) (by rw [hN _ (by omega) (by omega)]) (hN _ (by omega) (by omega)) (fun b x y => hN b (by omega) (by omega)) (fun j hj b x y => hN b (by omega) (by omega))
  · show TyC M' N' (c + 1603) (c + 258 + t') (if t' = t then some r else S.2.2.1 t')
    by_cases e : t' = t
    · rw [if_pos e, e]; exact hr
    · rw [if_neg e]
      have hq := g4 t' ht'
      cases e3 : S.2.2.1 t' with
      | none =>
        rw [e3] at hq
        show mR M' (c + 258 + t') 0 = none ∧ N' (c + 258 + t') 1 = 0
        rw [hR _ (by omega) (Or.inr (by omega)), hN _ (by omega) (by omega)]
        exact hq
      | some r' =>
        rw [e3] at hq
        obtain ⟨y1, y2, y3, y4, y5⟩ := hq
        have er : mR M' (c + 258 + t') = mR M (c + 258 + t') := hR _ (by omega) (Or.inr (by omega))
        have en : N' (c + 258 + t') = N (c + 258 + t') := hN _ (by omega) (by omega)
        refine ⟨by rw [en]; exact y1, y2, y3, ?_, by rw [er]; exact y5⟩
        obtain ⟨a, a1, a2, a3⟩ := y4
        have haA : a ≠ A := fun e4 => hA.2.2 t' ht' e (by rw [a1, e4])
        have ha := y5 a a1
        refine ⟨a, by rw [er]; exact a1, a2, ?_⟩
        rw [en, hN a haA (by omega), hL a haA]
        rcases a3 with ⟨z1, z2, z3⟩ | ⟨z1, z2, z3⟩ | ⟨z1, z2, z3⟩ | ⟨z1, z2, z3⟩
        · exact Or.inl ⟨z1, hK _ _ z2, z3⟩
        · exact Or.inr (Or.inl ⟨z1, hK _ _ z2, z3⟩)
        · exact Or.inr (Or.inr (Or.inl ⟨z1, hK _ _ z2, z3⟩))
        · exact Or.inr (Or.inr (Or.inr ⟨z1, hK _ _ z2, z3⟩))
  · by_cases c1 : t1 = t
    · by_cases c2 : t2 = t
      · rw [c1, c2]
      · rw [c1, hi] at e1
        rw [hR _ (by omega) (Or.inr (by omega))] at e2
        cases e1
        exact absurd e2 (hA.2.2 t2 h2 c2)
    · by_cases c2 : t2 = t
      · rw [c2, hi] at e2
        rw [hR _ (by omega) (Or.inr (by omega))] at e1
        cases e2
        exact absurd e1 (hA.2.2 t1 h1 c1)
      · rw [hR _ (by omega) (Or.inr (by omega))] at e1 e2
        exact g4b t1 t2 a h1 h2 e1 e2
end OPS29
