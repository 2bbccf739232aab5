/-! OPS, part 25: back, the component. -/
set_option maxRecDepth 100000
section OPS25
variable {α τ ρ : Type} {M M' M1 M2 : Mem} {N N' N1 : NM} {c m i j k q w W B B' e o a b : Nat} {u v s t z d : Int} {S S' : St} {p p2 : Int} {n n2 many : Nat} {T F G T2 : Nat → Nat → Nat → Int} {y : Wd} {H : Hs}
theorem c_back {f : Int32 → JM Mem τ} {Q : τ → Mem → NM → Prop} (hR : CR M N c S) (h : cPost M N c (a_back S).1 (f (zI (a_back S).2)) Q) : GN M N (jb (jcall 0 c (f_X0_back c)) f) Q := by
  obtain ⟨m1, m2, m3⟩ := hR.2.2.1
  refine w_Cc hR.cl ?_
  unfold f_X0_back
  unfold a_back at h
  refine w_CI hR.cl ?_
  rw [m1, z_0]
  refine w_eq ⟨by omega, by omega⟩ ⟨by omega, by omega⟩ (fun e => ?_) (fun e => ?_)
  · rw [if_pos (by omega)] at h
    rw [show (8 : Int32) = zI 8 from rfl]
    exact w_none hR.cl (w_jp (c_fin0 hR h))
  rw [if_neg (by omega)] at h
  obtain ⟨q, hq⟩ : ∃ q, S.2.1.1 = q + 1 := ⟨S.2.1.1 - 1, by omega⟩
  rw [hq, Nat.add_sub_cancel] at h
  obtain ⟨k1, kl⟩ := hR.cl.mk (show q < 3 by omega)
  have hC := hR.cl
  have hB := m3 q (by omega)
  unfold kpl at hB
  have eH : (bkU S).1 = S.2.1.2 q := by
    show S.2.1.2 (S.2.1.1 - 1) = _
    rw [hq, Nat.add_sub_cancel]
  generalize hK : c + 390 + 163 * q = K at *
  obtain ⟨l1, l2, l3, l4, l5, l6, l7, l8⟩ := kl
  refine w_CI hC ?_
  rw [m1, hq, z_1, zI_sub, show (((q + 1 : Nat) : Int) - 1) = (q : Int) by omega]
  refine w_Cput hC ?_
  refine w_Cf hC rfl (w_CI hC ?_)
  rw [upv]
  have ek : c ≠ K := by omega
  have f0 : ∀ b, b ≠ c → up2 N c 47 (q : Int) b = N b := fun b hb => upb hb
  have c0 : ∀ j, j ≠ 47 → up2 N c 47 (q : Int) c j = N c j := fun j hj => upk hj
  have c47 : up2 N c 47 (q : Int) c 47 = (q : Int) := upv
  generalize up2 N c 47 (q : Int) = N0 at f0 c0 c47
  refine w_aldA (hC.ka (o := 257) (d := (10, 3)) rfl) (by omega) (by omega) k1 ?_
  refine w_Cf hC rfl ?_
  refine w_getA l1 l2 ?_
  refine w_wcopy hC.w6 l5 (by omega) (fun N1 t1 t2 t3 f1 => ?_)
  have hD : WD N0 (K + 1) (S.2.1.2 q).1.1 (S.2.1.2 q).1.2.1 (S.2.1.2 q).1.2.2 := hB.1.fr (fun b x y => f0 b (by omega))
  have w1 : WdC N1 (c + 6) (S.2.1.2 q).1 := ⟨by rw [t2]; exact hD.pe, by rw [t3]; exact hD.ne, fun i j k hi hj hk => by rw [t1 i j k hi hj hk]; exact hD.t hi hj hk, hD.ok⟩
  refine w_up 4 (fun j N2 => (∀ i y, i < j → (S.2.1.2 q).2.1 i = some y → WdC N2 (c + 262 + 32 * i) y) ∧ WdC N2 (c + 6) (S.2.1.2 q).1 ∧ ∀ b, b < c + 6 ∨ c + 38 ≤ b ∧ b < c + 262 ∨ c + 390 ≤ b → N2 b = N0 b) 0 rfl (by omega) ⟨fun i y hi => absurd hi (by omega), w1, fun b hb => f1 b (by omega)⟩ ?_
  rintro j N2 hj ⟨g2, w2, f2⟩
  unfold X0_back_L47
  rw [z_4]
  refine w_le ⟨by omega, by omega⟩ ⟨by omega, by omega⟩ (fun hc => ?_) (fun hc => ?_)
  rotate_left
  · have hj4 : j < 4 := by omega
    obtain ⟨a1, a2⟩ := l8 j hj4
    obtain ⟨s1, s2⟩ := hC.sh hj4
    refine w_shelf hC hj4 ?_
    refine w_getA l1 l3 ?_
    refine w_aldA l6 (by omega) (by omega) a1 ?_
    refine w_wcopy s2 a2 (by omega) (fun N3 t1 t2 t3 f3 => ?_)
    rw [z_1, zI_add]
    refine w_jcont ⟨by omega, rfl, fun i y hi ey => ?_, w2.fr (fun b x y => f3 b (by omega)), fun b hb => by rw [f3 b (by omega), f2 b hb]⟩
    by_cases e : i = j
    · subst e
      have := hB.2.1 i hj4
      rw [ey] at this
      have hE2 : WD N2 (K + 35 + 32 * i) y.1 y.2.1 y.2.2 := this.2.fr (fun b (x : K + 35 + 32 * i ≤ b) y => by rw [f2 b (by omega), f0 b (by omega)])
      exact ⟨by rw [t2]; exact hE2.pe, by rw [t3]; exact hE2.ne, fun i j k hi hj hk => by rw [t1 i j k hi hj hk]; exact hE2.t hi hj hk, hE2.ok⟩
    · exact (g2 i y (by omega) ey).fr (fun b x y => f3 b (by omega))
  refine w_jinl ?_
  unfold X0_back_b73
  have hz : ∀ i, i < 4 → N2 (K + 34) i = 0 ∨ N2 (K + 34) i = 1 := fun i hi => by
    rw [f2 _ (by omega), f0 _ (by omega)]
    exact ShC.zz (hB.2.1 i hi)
  refine w_getA l1 l4 (w_Cf hC rfl ?_)
  rw [z_0, z_4]
  refine w_copyZ4 l7 (hC.ka (o := 71) (d := (4, 4)) rfl) hz ?_
  have f3 : ∀ b, b < c + 6 ∨ c + 38 ≤ b ∧ b < c + 71 ∨ c + 72 ≤ b ∧ b < c + 262 ∨ c + 390 ≤ b → (fun b k => if b = c + 71 ∧ k < 4 then N2 (K + 34) k else N2 b k : NM) b = N0 b := fun b hb => funext fun k => by
    show (if b = c + 71 ∧ k < 4 then N2 (K + 34) k else N2 b k) = N0 b k
    rw [if_neg (by omega), f2 b (by omega)]
  have h3 : ∀ i, i < 4 → (fun b k => if b = c + 71 ∧ k < 4 then N2 (K + 34) k else N2 b k : NM) (c + 71) i = N (K + 34) i := fun i hi => by
    show (if c + 71 = c + 71 ∧ i < 4 then N2 (K + 34) i else N2 (c + 71) i) = _
    rw [if_pos ⟨rfl, hi⟩, f2 _ (by omega), f0 _ (by omega)]
  have g3 : ∀ i y, i < 4 → (S.2.1.2 q).2.1 i = some y → WdC (fun b k => if b = c + 71 ∧ k < 4 then N2 (K + 34) k else N2 b k : NM) (c + 262 + 32 * i) y := fun i y hi ey => (g2 i y (by omega) ey).fr (fun b x y => funext fun k => if_neg (by omega))
  have w3 : WdC (fun b k => if b = c + 71 ∧ k < 4 then N2 (K + 34) k else N2 b k : NM) (c + 6) (S.2.1.2 q).1 := w2.fr (fun b x y => funext fun k => if_neg (by omega))
  generalize (fun b k => if b = c + 71 ∧ k < 4 then N2 (K + 34) k else N2 b k : NM) = N3 at f3 h3 g3 w3
  refine w_getO l1 ?_
  refine w_putO hC.kc ?_
  have eR : ∀ b j, ¬ (b = c ∧ j = 6) → mR (sR M (up2 (mR M) c 6 (mR M K 3))) b j = mR M b j := fun b j hb => if_neg hb
  have eR3 : mR (sR M (up2 (mR M) c 6 (mR M K 3))) c 6 = mR M K 3 := if_pos ⟨rfl, rfl⟩
  have hC2 : CL (sR M (up2 (mR M) c 6 (mR M K 3))) c := hC.ag3 (fun b => rfl) (fun b j x _ => eR b j x) rfl
  have hZ : mK (sR M (up2 (mR M) c 6 (mR M K 3))) = mK M := rfl
  have hL : mL (sR M (up2 (mR M) c 6 (mR M K 3))) = mL M := rfl
  have hT : mT (sR M (up2 (mR M) c 6 (mR M K 3))) = mT M := rfl
  have hz2 : mZ (sR M (up2 (mR M) c 6 (mR M K 3))) = mZ M ∧ mC (sR M (up2 (mR M) c 6 (mR M K 3))) = mC M ∧ mS (sR M (up2 (mR M) c 6 (mR M K 3))) = mS M := ⟨rfl, rfl, rfl⟩
  generalize sR M (up2 (mR M) c 6 (mR M K 3)) = M4 at eR eR3 hC2 hZ hL hT hz2
  have l1' : mK M4 K = some (.inl 6) := by rw [hZ]; exact l1
  refine w_getI l1' ?_
  refine w_Cput hC2 ?_
  refine w_CI hC2 ?_
  have e4 : N3 K 4 = N K 4 := by rw [f3 _ (by omega), f0 _ (by omega)]
  rw [upk (show 47 ≠ 7 by omega), show N3 c 47 = (q : Int) by rw [f3 _ (by omega)]; exact c47, e4]
  have f5 : ∀ b, b ≠ c → b < c + 6 ∨ c + 38 ≤ b ∧ b < c + 71 ∨ c + 72 ≤ b ∧ b < c + 262 ∨ c + 390 ≤ b → up2 N3 c 7 (N K 4) b = N b := fun b h1 h2 => by rw [upb h1, f3 b h2, f0 b h1]
  have c5 : ∀ j, j ≠ 47 → j ≠ 7 → up2 N3 c 7 (N K 4) c j = N c j := fun j hj h7 => by rw [upk h7, f3 c (by omega), c0 j hj]
  have c5' : up2 N3 c 7 (N K 4) c 47 = (q : Int) := by rw [upk (by omega), f3 _ (by omega)]; exact c47
  have c7 : up2 N3 c 7 (N K 4) c 7 = N K 4 := upv
  have h5 : ∀ i, i < 4 → up2 N3 c 7 (N K 4) (c + 71) i = N (K + 34) i := fun i hi => by rw [upb (by omega)]; exact h3 i hi
  have g5 : ∀ i y, i < 4 → (S.2.1.2 q).2.1 i = some y → WdC (up2 N3 c 7 (N K 4)) (c + 262 + 32 * i) y := fun i y hi ey => (g3 i y hi ey).fr (fun b x y => by rw [upb (by omega)])
  have w5 : WdC (up2 N3 c 7 (N K 4)) (c + 6) (S.2.1.2 q).1 := w3.fr (fun b x y => by rw [upb (by omega)])
  generalize up2 N3 c 7 (N K 4) = N5 at f5 c5 c5' c7 h5 g5 w5
  obtain ⟨q1, q2, q3, ⟨q4, q4b⟩, ⟨q5, q5b, q5c⟩, qm, q6⟩ := hR
  have tK : ∀ b d, c + 1603 ≤ b → mK M b = some d → mK M4 b = some d := fun b d _ x => by rw [hZ]; exact x
  have tR : ∀ b, c + 1603 ≤ b → mK M b ≠ none → mR M4 b = mR M b := fun b hb _ => funext fun j => eR b j (fun x => by omega)
  have tN : ∀ b, c + 1603 ≤ b → mK M b = some (.inl 8) → ∀ j, j < 7 → N5 b j = N b j := fun b hb _ j _ => by rw [f5 b (by omega) (by omega)]
  have hR5 : CR M4 N5 c (bkU S) := by
    refine ⟨hC2, ?_, ⟨?_, ?_, fun k hk => ?_⟩, ⟨fun t ht => (q4 t ht).ag (funext fun j => eR _ j (fun x => by omega)) (f5 _ (by omega) (by omega)) (fun a g1 g2 => ⟨f5 a (by omega) (by omega), by rw [hZ], by rw [hL]⟩), fun t t' a ht ht' => ?_⟩, ⟨by rw [f5 _ (by omega) (by omega)]; exact q5, q5b, by rw [f5 _ (by omega) (by omega)]; exact q5c⟩, ?_, by rw [hz2.1, hZ]; exact q6⟩
    · rw [eH]
      refine ⟨w5, fun j hj => ?_, hB.2.2.mv tK tR tN eR3 c7⟩
      have := hB.2.1 j hj
      cases e3 : (S.2.1.2 q).2.1 j with
      | none =>
        rw [e3] at this
        show N5 (c + 71) j = 0
        rw [h5 j hj]; exact this
      | some y =>
        rw [e3] at this
        exact ⟨by rw [h5 j hj]; exact this.1, g5 j y hj e3⟩
    · show N5 c 47 = ((S.2.1.1 - 1 : Nat) : Int)
      rw [c5', hq, Nat.add_sub_cancel]
    · show S.2.1.1 - 1 ≤ 3
      omega
    · have hk : k < S.2.1.1 - 1 := hk
      have := m3 k (by omega)
      have hkk : kpl c k = c + 390 + 163 * k := rfl
      have h2 : kpl c k + 163 ≤ c + 879 := by omega
      show HsC M4 N5 (c + 1603) (kpl c k + 1) (kpl c k + 34) (fun j => kpl c k + 35 + 32 * j) (kpl c k) 3 (S.2.1.2 k)
      generalize kpl c k = K2 at this h2 hkk
      exact this.ag tK tR tN (eR _ _ (fun z => by omega)) (by rw [f5 _ (by omega) (by omega)]) (f5 _ (by omega) (by omega)) (fun b x y => f5 b (by omega) (by omega)) (fun j hj b (x : K2 + 35 + 32 * j ≤ b) (y : b < K2 + 35 + 32 * j + 32) => f5 b (by omega) (by omega))
    · rw [eR _ _ (fun x => by omega), eR _ _ (fun x => by omega)]
      exact q4b t t' a ht ht'
    · unfold MiC at qm ⊢
      rw [show (bkU S).2.2.2.2 = S.2.2.2.2 from rfl, hL, c5 8 (by omega) (by omega), c5 9 (by omega) (by omega), c5 10 (by omega) (by omega), c5 30 (by omega) (by omega), c5 43 (by omega) (by omega), c5 44 (by omega) (by omega), c5 45 (by omega) (by omega)]
      exact qm
  have hF : CFm c M N M4 N5 := ⟨fun b hb => ⟨f5 b (by omega) (by omega), by rw [hZ], funext fun j => eR b j (fun x => by omega), by rw [hL]⟩, hT, by omega, by omega⟩
  exact w_gives hR5.cl (w_jp (h M4 _ (hR5.st 0) (hF.st 0)))
end OPS25
