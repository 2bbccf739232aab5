/-! OPS, part 23: marks. -/
set_option maxRecDepth 100000
section OPS23
variable {α τ ρ : Type} {M M' M1 M2 : Mem} {N N' N1 : NM} {c m i j k q w W B e o : Nat} {u v s t z a b d : Int} {S S' : St} {p p2 : Int} {n n2 many : Nat} {T F G T2 : Nat → Nat → Nat → Int} {y : Wd} {H : Hs}
theorem w_copyZ4 {a b : Nat} {f : Unit → JM Mem τ} {Q : τ → Mem → NM → Prop} (h1 : mK M a = some (.inr (4, 4))) (h2 : mK M b = some (.inr (4, 4))) (hz : ∀ i, i < 4 → N a i = 0 ∨ N a i = 1)
    (h : GN M (fun c k => if c = b ∧ k < 4 then N a k else N c k) (f ()) Q) : GN M N (jb (jcopy 4 a (zI 0) b (zI 0) (zI 4)) f) Q := by
  have e1 : ∀ x : Nat, x ≤ 100000 → (zI x).toInt = x := fun x hx => zI_to ⟨by omega, by omega⟩
  have e2 : ∀ x : Nat, x ≤ 100000 → (zI x).toNatClampNeg = x := fun x hx => zI_nat (by omega)
  have e0 : (zI 0).toNatClampNeg = 0 := e2 0 (by omega)
  have e4 : (zI 4).toNatClampNeg = 4 := e2 4 (by omega)
  refine go_jb (go_of (M' := sN M (fun c k => if c = b ∧ k < 4 then N a k else N c k)) (v := ()) ?_ h)
  unfold jcopy
  rw [if_pos]
  · congr 2
    show sI M _ = sI M _
    congr 1
    funext c k
    rw [e0, e4]
    show (if c = b then va_cpy _ _ 0 0 4 k else zI (N c k)) = zI (if c = b ∧ k < 4 then N a k else N c k)
    unfold va_cpy
    by_cases hc : c = b
    · subst hc
      by_cases hk : k < 4
      · rw [if_pos rfl, if_pos (show 0 ≤ k ∧ k < 0 + 4 by omega), if_pos ⟨rfl, hk⟩]
        show zI (N a (0 + (k - 0))) = _
        rw [Nat.zero_add, Nat.sub_zero]
      · rw [if_pos rfl, if_neg (show ¬ (0 ≤ k ∧ k < 0 + 4) by omega), if_neg (fun q => hk q.2)]; rfl
    · rw [if_neg hc, if_neg (fun q => hc q.1)]
  · show jcopyOk (sN M N) 4 a b (zI 0) (zI 0) (zI 4) = true
    unfold jcopyOk
    rw [show mK (sN M N) a = _ from h1, show mK (sN M N) b = _ from h2]
    simp only [e0, e4, show (zI 0).toInt = 0 from e1 0 (by omega), show (zI 4).toInt = 4 from e1 4 (by omega)]
    have hz0 := hz 0 (by omega)
    have hz1 := hz 1 (by omega)
    have hz2 := hz 2 (by omega)
    have hz3 := hz 3 (by omega)
    have hb : ∀ i, i < 4 → mI (sN M N) a (0 + i) = 0 ∨ mI (sN M N) a (0 + i) = 1 := fun i hi => by
      rw [Nat.zero_add]
      show zI (N a i) = 0 ∨ zI (N a i) = 1
      rcases hz i hi with x | x
      · rw [x]; exact Or.inl rfl
      · rw [x]; exact Or.inr rfl
    have : ((List.range 4).all fun i => decide (mI (sN M N) a (0 + i) = 0 ∨ mI (sN M N) a (0 + i) = 1)) = true := by
      rw [List.all_eq_true]
      intro i hi
      rw [List.mem_range] at hi
      exact decide_eq_true (hb i hi)
    rw [this]
    decide
/-- the layout doesn't tell of a few fields -/
theorem CL.ag3 (h : CL M c) (gK : ∀ b, mK M' b = mK M b) (gR : ∀ b j, ¬ (b = c ∧ j = 6) → ¬ (j = 3 ∧ ∃ k, k < 3 ∧ b = kpl c k) → mR M' b j = mR M b j) (ht : mT M' = mT M) : CL M' c := by
  obtain ⟨h1, h2, h3, h4, h5, h6, h7, h8, h9, ⟨i1, i2, i3, i4⟩, h10, h11, h12, h13⟩ := h
  have gF : ∀ b, b ≠ c → (∀ k, k < 3 → b ≠ c + 390 + 163 * k) → mR M' b = mR M b := fun b b1 b2 => funext fun j => gR b j (fun x => b1 x.1) (fun ⟨_, k, hk, e⟩ => b2 k hk e)
  have g : ∀ b, b ≠ c → (∀ k, k < 3 → b ≠ c + 390 + 163 * k) → mK M' b = mK M b ∧ mR M' b = mR M b := fun b b1 b2 => ⟨gK b, gF b b1 b2⟩
  have gC : ∀ j, j ≠ 6 → mR M' c j = mR M c j := fun j hj => gR c j (fun x => hj x.2) (fun ⟨_, k, hk, e⟩ => by unfold kpl at e; omega)
  refine ⟨by rw [gK]; exact h1, fun k o e => by rw [gC k (fun x => by subst x; exact absurd (show (none : Option Nat) = some o from e) (fun q => by cases q))]; exact h2 k o e, fun o d e => by rw [gK]; exact h3 o d e, fun o e => (h4 o e).ag ?_, fun o e => (h5 o e).ag ?_, fun k hk => ?_, fun k hk => ?_, fun k hk => ?_, fun k hk => ?_, ⟨i1.ag ?_, i2.ag ?_, i3.ag ?_, i4.ag ?_⟩, h10.ag ?_, h11.ag ?_, fun k hk => ?_, ?_⟩
  · have : o = 6 ∨ o = 38 ∨ o = 224 := by simpa [CLw] using e
    exact fun b x y => g b (by omega) (fun k hk => by omega)
  · have : o = 77 ∨ o = 85 ∨ o = 93 ∨ o = 101 ∨ o = 109 ∨ o = 182 := by simpa [CLs] using e
    exact fun b x y => g b (by omega) (fun k hk => by omega)
  · rw [gF _ (by omega) (fun k hk => by omega)]; exact ⟨(h6 k hk).1, (h6 k hk).2.ag (fun b x y => g b (by omega) (fun k' hk' => by omega))⟩
  · rw [gF _ (by omega) (fun k hk => by omega)]; exact ⟨(h7 k hk).1, (h7 k hk).2.ag (fun b x y => g b (by omega) (fun k' hk' => by omega))⟩
  · rw [gF _ (by omega) (fun k hk => by omega)]; exact ⟨(h8 k hk).1, (h8 k hk).2.ag (fun b x y => g b (by omega) (fun k' hk' => by omega))⟩
  · rw [gF _ (by omega) (fun k hk => by omega)]
    obtain ⟨g0, g1, g2, g3, g4, g5, g6, g7, g8⟩ := h9 k hk
    have gP : ∀ j, j ≠ 3 → mR M' (c + 390 + 163 * k) j = mR M (c + 390 + 163 * k) j := fun j hj => gR _ j (fun x => by omega) (fun x => hj x.1)
    refine ⟨g0, by rw [gK]; exact g1, by rw [gP 0 (by omega)]; exact g2, by rw [gP 1 (by omega)]; exact g3, by rw [gP 2 (by omega)]; exact g4, g5.ag (fun b x y => g b (by omega) (fun k' hk' => by omega)), by rw [gK]; exact g6, by rw [gK]; exact g7, fun j hj => ?_⟩
    rw [gF _ (by omega) (fun k' hk' => by omega)]; exact ⟨(g8 j hj).1, (g8 j hj).2.ag (fun b x y => g b (by omega) (fun k' hk' => by rcases (show k = 0 ∨ k = 1 ∨ k = 2 by omega) with rfl | rfl | rfl <;> rcases (show k' = 0 ∨ k' = 1 ∨ k' = 2 by omega) with rfl | rfl | rfl <;> omega))⟩
  all_goals first | exact fun b x y => g b (by omega) (fun k hk => by omega) | skip
  · rw [gK, gF _ (by omega) (fun k hk => by omega)]; exact h12 k hk
  · rw [gK, gK, gF _ (by omega) (fun k hk => by omega), ht]; exact h13
theorem ScC.mv {x : Option Scr} {o' k' : Nat} (h : ScC M N e o k x) (hK : ∀ b d, e ≤ b → mK M b = some d → mK M' b = some d) (hR : ∀ b, e ≤ b → mK M b ≠ none → mR M' b = mR M b) (hN : ∀ b, e ≤ b → mK M b = some (.inl 8) → ∀ k, k < 7 → N' b k = N b k) (h1 : mR M' o' k' = mR M o k) (h2 : N' o' (k' + 1) = N o (k + 1)) : ScC M' N' e o' k' x := by
  cases x with
  | none => show mR M' o' k' = none; rw [h1]; exact h
  | some s =>
    obtain ⟨a, L, F, g1, g2, g3, g4⟩ := h
    exact ⟨a, L, F, by rw [h1]; exact g1, by rw [h2]; exact g2, g3.ag hK hR hN, g4⟩
theorem ShC.zz {x : Option Wd} {hd sh : Nat} (h : ShC N hd sh j x) : N hd j = 0 ∨ N hd j = 1 := by
  cases x with
  | none => exact Or.inl h
  | some y => exact Or.inr h.1
def mkU (S : St) : St := (S.1, (S.2.1.1 + 1, fun k => if k = S.2.1.1 then S.1 else S.2.1.2 k), S.2.2)
def a_mark (S : St) : St × Int := if S.2.1.1 = 3 then (stU S 0 7, -1) else (stU (mkU S) 0 0, ((S.2.1.1 + 1 : Nat) : Int))
theorem c_mark {f : Int32 → JM Mem τ} {Q : τ → Mem → NM → Prop} (hR : CR M N c S) (h : cPost M N c (a_mark S).1 (f (zI (a_mark S).2)) Q) : GN M N (jb (jcall 0 c (f_X0_mark c)) f) Q := by
  obtain ⟨m1, m2, m3⟩ := hR.2.2.1
  refine w_Cc hR.cl ?_
  unfold f_X0_mark
  unfold a_mark at h
  refine w_CI hR.cl ?_
  rw [m1, z_3]
  refine w_eq ⟨by omega, by omega⟩ ⟨by omega, by omega⟩ (fun e => ?_) (fun e => ?_)
  · rw [if_pos (by omega)] at h
    rw [show (7 : Int32) = zI 7 from rfl]
    exact w_none hR.cl (w_jp (c_fin0 hR h))
  rw [if_neg (by omega)] at h
  obtain ⟨k1, kl⟩ := hR.cl.mk (show S.2.1.1 < 3 by omega)
  have hC := hR.cl
  generalize hq : S.2.1.1 = q at *
  generalize hK : c + 390 + 163 * q = K at *
  obtain ⟨l1, l2, l3, l4, l5, l6, l7, l8⟩ := kl
  refine w_Cf hC rfl (w_CI hC ?_)
  rw [m1]
  refine w_aldA (hC.ka (o := 257) (d := (10, 3)) rfl) (by omega) (by omega) k1 ?_
  refine w_getA l1 l2 ?_
  refine w_Cf hC rfl ?_
  refine w_wcopy l5 hC.w6 (by omega) (fun N1 t1 t2 t3 f1 => ?_)
  have hD := hR.w
  have w1 : WdC N1 (K + 1) S.1.1 := ⟨by rw [t2]; exact hD.pe, by rw [t3]; exact hD.ne, fun i j k hi hj hk => by rw [t1 i j k hi hj hk]; exact hD.t hi hj hk, hD.ok⟩
  rw [z_0]
  refine w_up 4 (fun j N2 => (∀ i y, i < j → S.1.2.1 i = some y → WdC N2 (K + 35 + 32 * i) y) ∧ WdC N2 (K + 1) S.1.1 ∧ ∀ b, b < K + 1 ∨ b = K + 33 ∨ b = K + 34 ∨ K + 163 ≤ b → N2 b = N b) 0 rfl (by omega) ⟨fun i y hi => absurd hi (by omega), w1, fun b hb => f1 b (by omega)⟩ ?_
  rintro j N2 hj ⟨g2, w2, f2⟩
  unfold X0_mark_L38
  rw [z_4]
  refine w_le ⟨by omega, by omega⟩ ⟨by omega, by omega⟩ (fun hc => ?_) (fun hc => ?_)
  rotate_left
  · have hj4 : j < 4 := by omega
    obtain ⟨a1, a2⟩ := l8 j hj4
    obtain ⟨s1, s2⟩ := hC.sh hj4
    refine w_getA l1 l3 ?_
    refine w_aldA l6 (by omega) (by omega) a1 ?_
    refine w_shelf hC hj4 ?_
    refine w_wcopy a2 s2 (by omega) (fun N3 t1 t2 t3 f3 => ?_)
    rw [z_1, zI_add]
    refine w_jcont ⟨by omega, rfl, fun i y hi ey => ?_, w2.fr (fun b x y => f3 b (by omega)), fun b hb => by rw [f3 b (by omega), f2 b hb]⟩
    by_cases e : i = j
    · subst e
      obtain ⟨hE, _⟩ := hR.shw hj4 ey
      have hE2 : WD N2 (c + 262 + 32 * i) y.1 y.2.1 y.2.2 := hE.fr (fun b x y => f2 b (by omega))
      exact ⟨by rw [t2]; exact hE2.pe, by rw [t3]; exact hE2.ne, fun i j k hi hj hk => by rw [t1 i j k hi hj hk]; exact hE2.t hi hj hk, hE2.ok⟩
    · exact (g2 i y (by omega) ey).fr (fun b x y => f3 b (by omega))
  refine w_jinl ?_
  unfold X0_mark_b64
  have hz : ∀ i, i < 4 → N2 (c + 71) i = 0 ∨ N2 (c + 71) i = 1 := fun i hi => by
    rw [f2 _ (by omega)]
    exact ShC.zz (hR.2.1.2.1 i hi)
  refine w_Cf hC rfl (w_getA l1 l4 ?_)
  rw [z_0, z_4]
  refine w_copyZ4 (hC.ka (o := 71) (d := (4, 4)) rfl) l7 hz ?_
  have f3 : ∀ b, b < K + 1 ∨ b = K + 33 ∨ K + 163 ≤ b → (fun b k => if b = K + 34 ∧ k < 4 then N2 (c + 71) k else N2 b k : NM) b = N b := fun b hb => funext fun k => by
    show (if b = K + 34 ∧ k < 4 then N2 (c + 71) k else N2 b k) = N b k
    rw [if_neg (by omega), f2 b (by omega)]
  have h3 : ∀ i, i < 4 → (fun b k => if b = K + 34 ∧ k < 4 then N2 (c + 71) k else N2 b k : NM) (K + 34) i = N (c + 71) i := fun i hi => by
    show (if K + 34 = K + 34 ∧ i < 4 then N2 (c + 71) i else N2 (K + 34) i) = _
    rw [if_pos ⟨rfl, hi⟩, f2 _ (by omega)]
  have g3 : ∀ i y, i < 4 → S.1.2.1 i = some y → WdC (fun b k => if b = K + 34 ∧ k < 4 then N2 (c + 71) k else N2 b k : NM) (K + 35 + 32 * i) y := fun i y hi ey => (g2 i y (by omega) ey).fr (fun b x y => funext fun k => if_neg (by omega))
  have w3 : WdC (fun b k => if b = K + 34 ∧ k < 4 then N2 (c + 71) k else N2 b k : NM) (K + 1) S.1.1 := w2.fr (fun b x y => funext fun k => if_neg (by omega))
  generalize (fun b k => if b = K + 34 ∧ k < 4 then N2 (c + 71) k else N2 b k : NM) = N3 at f3 h3 g3 w3
  refine w_getO hC.kc ?_
  refine w_putO l1 ?_
  have eR : ∀ b j, ¬ (b = K ∧ j = 3) → mR (sR M (up2 (mR M) K 3 (mR M c 6))) b j = mR M b j := fun b j hb => if_neg hb
  have eR3 : mR (sR M (up2 (mR M) K 3 (mR M c 6))) K 3 = mR M c 6 := if_pos ⟨rfl, rfl⟩
  have hC2 : CL (sR M (up2 (mR M) K 3 (mR M c 6))) c := hC.ag3 (fun b => rfl) (fun b j x y => eR b j (fun z => y ⟨z.2, q, by omega, by rw [z.1, ← hK]; rfl⟩)) rfl
  have hZ : mK (sR M (up2 (mR M) K 3 (mR M c 6))) = mK M := rfl
  have hL : mL (sR M (up2 (mR M) K 3 (mR M c 6))) = mL M := rfl
  have hT : mT (sR M (up2 (mR M) K 3 (mR M c 6))) = mT M := rfl
  have hz2 : mZ (sR M (up2 (mR M) K 3 (mR M c 6))) = mZ M ∧ mC (sR M (up2 (mR M) K 3 (mR M c 6))) = mC M ∧ mS (sR M (up2 (mR M) K 3 (mR M c 6))) = mS M := ⟨rfl, rfl, rfl⟩
  generalize sR M (up2 (mR M) K 3 (mR M c 6)) = M4 at eR eR3 hC2 hZ hL hT hz2
  refine w_CI hC2 ?_
  have l1' : mK M4 K = some (.inl 6) := by rw [hZ]; exact l1
  refine w_putI l1' ?_
  refine w_CI hC2 ?_
  have ek : c ≠ K := by omega
  have e7 : N3 c 7 = N c 7 := by rw [f3 c (by omega)]
  have e47 : N3 c 47 = N c 47 := by rw [f3 c (by omega)]
  have n47 : up2 N3 K 4 (N3 c 7) c 47 = (q : Int) := by rw [upb ek, e47]; exact m1
  rw [n47, z_1, zI_add]
  refine w_Cput hC2 ?_
  refine w_CI hC2 ?_
  rw [upv, e7]
  -- the numbers now
  have f5 : ∀ b, b ≠ c → b < K ∨ b = K + 33 ∨ K + 163 ≤ b → up2 (up2 N3 K 4 (N c 7)) c 47 ((q : Int) + 1) b = N b := fun b h1 h2 => by rw [upb h1, upb (by omega), f3 b (by omega)]
  have c5 : ∀ j, j ≠ 47 → up2 (up2 N3 K 4 (N c 7)) c 47 ((q : Int) + 1) c j = N c j := fun j hj => by rw [upk hj, upb ek, f3 c (by omega)]
  have c47 : up2 (up2 N3 K 4 (N c 7)) c 47 ((q : Int) + 1) c 47 = (q : Int) + 1 := upv
  have K4 : up2 (up2 N3 K 4 (N c 7)) c 47 ((q : Int) + 1) K 4 = N c 7 := by rw [upb (fun x => ek x.symm), upv]
  have h5 : ∀ i, i < 4 → up2 (up2 N3 K 4 (N c 7)) c 47 ((q : Int) + 1) (K + 34) i = N (c + 71) i := fun i hi => by rw [upb (by omega), upb (by omega)]; exact h3 i hi
  have g5 : ∀ i y, i < 4 → S.1.2.1 i = some y → WdC (up2 (up2 N3 K 4 (N c 7)) c 47 ((q : Int) + 1)) (K + 35 + 32 * i) y := fun i y hi ey => (g3 i y hi ey).fr (fun b x y => by rw [upb (by omega), upb (by omega)])
  have w5 : WdC (up2 (up2 N3 K 4 (N c 7)) c 47 ((q : Int) + 1)) (K + 1) S.1.1 := w3.fr (fun b x y => by rw [upb (by omega), upb (by omega)])
  generalize up2 (up2 N3 K 4 (N c 7)) c 47 ((q : Int) + 1) = N5 at f5 c5 c47 K4 h5 g5 w5
  obtain ⟨q1, q2, q3, ⟨q4, q4b⟩, ⟨q5, q5b, q5c⟩, qm, q6⟩ := hR
  have tK : ∀ b d, c + 1603 ≤ b → mK M b = some d → mK M4 b = some d := fun b d _ x => by rw [hZ]; exact x
  have tR : ∀ b, c + 1603 ≤ b → mK M b ≠ none → mR M4 b = mR M b := fun b hb _ => funext fun j => eR b j (fun x => by omega)
  have tN : ∀ b, c + 1603 ≤ b → mK M b = some (.inl 8) → ∀ j, j < 7 → N5 b j = N b j := fun b hb _ j _ => by rw [f5 b (by omega) (by omega)]
  have hR5 : CR M4 N5 c (mkU S) := by
    refine ⟨hC2, q2.ag tK tR tN (eR c 6 (fun x => ek x.1)) (c5 7 (by omega)) (f5 _ (by omega) (by omega)) (fun b x y => f5 b (by omega) (by omega)) (fun j hj b (x : c + 262 + 32 * j ≤ b) (y : b < c + 262 + 32 * j + 32) => f5 b (by omega) (by omega)), ⟨?_, ?_, fun k hk => ?_⟩, ⟨fun t ht => (q4 t ht).ag (funext fun j => eR _ j (fun x => by omega)) (f5 _ (by omega) (by omega)) (fun a g1 g2 => ⟨f5 a (by omega) (by omega), by rw [hZ], by rw [hL]⟩), fun t t' a ht ht' => ?_⟩, ⟨by rw [f5 _ (by omega) (by omega)]; exact q5, q5b, by rw [f5 _ (by omega) (by omega)]; exact q5c⟩, ?_, by rw [hz2.1, hZ]; exact q6⟩
    · show N5 c 47 = ((S.2.1.1 + 1 : Nat) : Int)
      rw [c47, hq]; omega
    · show S.2.1.1 + 1 ≤ 3
      omega
    · have hk : k < S.2.1.1 + 1 := hk
      show HsC M4 N5 (c + 1603) (kpl c k + 1) (kpl c k + 34) (fun j => kpl c k + 35 + 32 * j) (kpl c k) 3 (if k = S.2.1.1 then S.1 else S.2.1.2 k)
      by_cases x : k = q
      · rw [if_pos (by omega), show kpl c k = K by rw [← hK, x]; rfl]
        refine ⟨w5, fun j hj => ?_, q2.2.2.mv tK tR tN eR3 K4⟩
        have := q2.2.1 j hj
        cases e3 : S.1.2.1 j with
        | none =>
          rw [e3] at this
          show N5 (K + 34) j = 0
          rw [h5 j hj]; exact this
        | some y =>
          rw [e3] at this
          exact ⟨by rw [h5 j hj]; exact this.1, g5 j y hj e3⟩
      · rw [if_neg (by omega)]
        have := q3.2.2 k (by omega)
        have hkk : kpl c k = c + 390 + 163 * k := rfl
        have h1 : kpl c k + 163 ≤ K ∨ K + 163 ≤ kpl c k := by omega
        have h2 : kpl c k + 163 ≤ c + 879 := by omega
        generalize kpl c k = K2 at this h1 h2 hkk
        exact this.ag tK tR tN (eR _ _ (fun z => by omega)) (by rw [f5 _ (by omega) (by omega)]) (f5 _ (by omega) (by omega)) (fun b x y => f5 b (by omega) (by omega)) (fun j hj b (x : K2 + 35 + 32 * j ≤ b) (y : b < K2 + 35 + 32 * j + 32) => f5 b (by omega) (by omega))
    · rw [eR _ _ (fun x => by omega), eR _ _ (fun x => by omega)]
      exact q4b t t' a ht ht'
    · unfold MiC at qm ⊢
      rw [show (mkU S).2.2.2.2 = S.2.2.2.2 from rfl, hL, c5 8 (by omega), c5 9 (by omega), c5 10 (by omega), c5 30 (by omega), c5 43 (by omega), c5 44 (by omega), c5 45 (by omega)]
      exact qm
  have hF : CFm c M N M4 N5 := ⟨fun b hb => ⟨f5 b (by omega) (by omega), by rw [hZ], funext fun j => eR b j (fun x => by omega), by rw [hL]⟩, hT, by omega, by omega⟩
  rw [show ((q : Int) + 1) = ((q + 1 : Nat) : Int) by omega]
  exact w_gives hR5.cl (w_jp (h M4 _ (hR5.st 0) (hF.st 0)))
end OPS23
