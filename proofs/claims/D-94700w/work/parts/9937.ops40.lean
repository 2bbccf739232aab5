/-! RUN: one step of the component; the op on both sides. -/
set_option maxRecDepth 100000
section OPS40
variable {α τ ρ σ : Type} {M M' M0 M1 M2 : Mem} {N N' N0 N1 : NM} {c m i j q n A : Nat} {u v z b d e t : Int} {k : Nat} {S S' : St} {H : Hs} {a : Nat → Int} {s : Scr} {ad : Nat → Nat} {Q : Int32 → Mem → NM → Prop}
theorem RkC.up {R R' : RS} {v : Int} (h : RkC M0 N0 M N c S s R) (hk : 40 ≤ k ∧ k ≤ 42) (e : R'.1 = R.1) (e1 : RsC (up2 N c k v) c R') (e2 : R'.2.1 ≤ 300 ∧ (R'.2.2.2.2 = 0 → R'.2.2.2.1 = 0)) : RkC M0 N0 M (up2 N c k v) c S s R' :=
  ⟨by rw [e]; exact h.1, by rw [e]; exact h.2.1.fld hk v, e1, ⟨h.2.2.2.1.1, fun b hb => by rw [upb (by omega)]; exact h.2.2.2.1.2 b hb⟩, e2⟩
theorem RsC.cq {R : RS} (h : RsC N c R) (hQ : CQ c M N M' N') : RsC N' c R := ⟨by rw [hQ.2.2 41 (by omega) (by omega)]; exact h.1, by rw [hQ.2.2 40 (by omega) (by omega)]; exact h.2.1, by rw [hQ.2.2 42 (by omega) (by omega)]; exact h.2.2⟩
theorem RkC.cq {R R' : RS} (h : RkC M0 N0 M N c S s R) (hQ : CQ c M N M' N') (e1 : R'.1.2.2 = some s) (hR : CR M' N' c (stH S R'.1)) (e2 : R'.2 = R.2) : RkC M0 N0 M' N' c S s R' := by
  obtain ⟨h1, h2, h3, ⟨h4, h4b⟩, h5⟩ := h
  have h6 := h3.cq hQ
  refine ⟨e1, hR, ?_, ⟨h4.tr hQ.1, fun b hb => (hQ.2.1 b (by omega)).trans (h4b b hb)⟩, by rw [e2]; exact h5⟩
  unfold RsC at h6 ⊢
  rw [e2]
  exact h6
theorem c_one (hA : PgC M0 c s A ad) (hO : ScOk s) : ∀ d, OneC M0 N0 c S s ad (rOne s d) (fun i => 8 ≤ d + dpt s i) := by
  have h30 := hO.1
  intro d
  induction d with
  | zero =>
    intro i hi hP
    have := dpt_3 hO hi
    have hP : 8 ≤ 0 + dpt s i := hP
    omega
  | succ d ih =>
    intro i hi hP R M N Q hR hov k1 k2
    have hP : 8 ≤ d + 1 + dpt s i := hP
    have hk0 := hO.2 i hi
    have hl := hO.lt hi
    have eR : rOne s (d + 1) i R = if R.2.1 = 300 then (R.1, R.2.1, R.2.2.1, 1, 1)
      else if s.2 i 0 = 6 then @ite _ (tst R.1 (s.2 i)) (Classical.propDecidable _) (rAll (rOne s d) (nxt s.2) (nxt s.2 i) 31 (i + 1) (up1 R)) (up1 R)
      else if s.2 i 0 = 7 then rLoop (rAll (rOne s d) (nxt s.2) (nxt s.2 i) 31 (i + 1)) (s.2 i 1).toNat (up1 R)
      else if s.2 i 0 = 8 then (R.1, R.2.1 + 1, R.2.2.1, R.2.2.2.1, 1)
      else rPl R.1 (up1 R) (s.2 i) := rfl
    rw [eR] at k1 k2
    obtain ⟨a1, a2, a3⟩ := hR.2.2.1
    have hC := hR.2.1.cl
    have hPg := hA.bg hR.2.2.2.1.1
    obtain ⟨s1, _, s3⟩ := hPg.st hR.2.1 hR.1
    obtain ⟨s4, s5, s6⟩ := s3 i hi
    have h60 := hPg.2.2.1
    obtain ⟨p1, p2, p3⟩ := hPg.2.2.2.2.1 _ s4
    have hdn := hR.2.2.2.2.1
    have hlf := hR.2.2.2.2.2 hov
    unfold Hd
    refine w_unroll ?_
    unfold X0_run_L31
    refine w_CI hC ?_
    rw [s1, z_0, z_1, z_14, z_300]
    refine w_le ⟨by omega, by omega⟩ ⟨by omega, by omega⟩ (fun x => absurd x (by omega)) (fun _ => ?_)
    refine w_CI hC ?_
    rw [a3, hlf]
    refine w_eq ⟨by omega, by omega⟩ ⟨by omega, by omega⟩ (fun _ => ?_) (fun x => absurd rfl x)
    refine w_CI hC ?_
    rw [a1]
    refine w_eq ⟨by omega, by omega⟩ ⟨by omega, by omega⟩ (fun e => ?_) (fun e => ?_)
    · rw [if_pos (by omega)] at k1 k2
      refine w_Cput hC (w_jcontB ?_)
      refine w_unroll ?_
      refine w_CI hC ?_
      rw [upk (by omega), s1]
      refine w_le ⟨by omega, by omega⟩ ⟨by omega, by omega⟩ (fun x => absurd x (by omega)) (fun _ => ?_)
      refine w_CI hC ?_
      rw [upv]
      refine w_eq ⟨by omega, by omega⟩ ⟨by omega, by omega⟩ (fun x => absurd x (by decide)) (fun _ => w_jinl ?_)
      exact k2 M _ (hR.up (k := 42) (by omega) rfl ⟨by rw [upk (by omega)]; exact a1, by rw [upk (by omega)]; exact a2, by rw [upv]; rfl⟩ ⟨hdn, fun x => absurd (show (1 : Nat) = 0 from x) (by decide)⟩) (show (1 : Nat) ≠ 0 by decide)
    rw [if_neg (show ¬ R.2.1 = 300 by omega)] at k1 k2
    refine w_getA hC.kc hPg.1 (w_aldA hPg.2.1 (by omega) (by omega) p1 ?_)
    refine w_CI hC ?_
    rw [a1, zI_add, show ((R.2.1 : Int) + 1) = ((R.2.1 + 1 : Nat) : Int) by omega]
    refine w_Cput hC ?_
    have hq0 : up2 N c 41 (R.2.1 + 1 : Nat) (ad (fpo s.2 i)) = N (ad (fpo s.2 i)) := upb (by omega)
    have hrd1 : ∀ j, j < s.1 → rd (up2 N c 41 (R.2.1 + 1 : Nat)) ad s j = rd N ad s j := fun j hj => by
      have := hPg.2.2.2.2.1 _ (s3 j hj).1
      unfold rd
      rw [upb (by omega)]
    have hR1 : RkC M0 N0 M (up2 N c 41 (R.2.1 + 1 : Nat)) c S s (up1 R) := hR.up (k := 41) (by omega) rfl ⟨by rw [upv]; rfl, by rw [upk (by omega)]; exact a2, by rw [upk (by omega)]; exact a3⟩ ⟨by show R.2.1 + 1 ≤ 300; omega, fun _ => hlf⟩
    have hov1 : (up1 R).2.2.2.2 = 0 := hov
    generalize up2 N c 41 (R.2.1 + 1 : Nat) = N1 at hq0 hrd1 hR1
    obtain ⟨b1, b2, b3⟩ := hR1.2.2.1
    refine w_getI p3 ?_
    rw [hq0, s5.2.1]
    refine w_eq ⟨by omega, by omega⟩ ⟨by omega, by omega⟩ (fun e8 => ?_) (fun e8 => ?_)
    · rw [if_neg (show ¬ s.2 i 0 = 6 by omega), if_neg (show ¬ s.2 i 0 = 7 by omega), if_pos (show s.2 i 0 = 8 by omega)] at k2
      refine w_jinl (k2 M N1 ⟨hR1.1, hR1.2.1, hR1.2.2.1, hR1.2.2.2.1, hR1.2.2.2.2.1, fun x => absurd (show (1 : Nat) = 0 from x) (by decide)⟩ (show (1 : Nat) ≠ 0 by decide))
    rw [if_neg (show ¬ s.2 i 0 = 8 by omega)] at k1 k2
    refine w_CI hC ?_
    rw [b2]
    have hst1 : StC M N1 (ad (fpo s.2 i)) (s.2 i) := ⟨p3, by rw [hq0]; exact s5.2.1, s5.2.2.cg (fun k _ => by rw [hq0])⟩
    refine c_does hR1.2.1 hst1 p2 (hO.arg hi) (by omega) (fun M2 N2 v hv hQ => ?_)
    have hC2 : CL M2 c := hC.bg hQ.1
    have hk2 : mK M2 = mK M := hQ.1.ke
    have hq2 : N2 (ad (fpo s.2 i)) = N (ad (fpo s.2 i)) := (hQ.2.1 _ (by omega)).trans hq0
    have hst2 : StC M2 N2 (ad (fpo s.2 i)) (s.2 i) := ⟨by rw [hk2]; exact p3, by rw [hq2]; exact s5.2.1, s5.2.2.cg (fun k _ => by rw [hq2])⟩
    have hrd2 : ∀ j, j < s.1 → rd N2 ad s j = rd N ad s j := fun j hj => by
      have := hPg.2.2.2.2.1 _ (s3 j hj).1
      rw [← hrd1 j hj]
      unfold rd
      rw [hQ.2.1 _ (by omega)]
    by_cases e6 : s.2 i 0 < 6
    · -- a plain step
      have hnb : ¬ isBl s.2 i := fun x => by unfold isBl at x; omega
      rw [if_neg (show ¬ s.2 i 0 = 6 by omega), if_neg (show ¬ s.2 i 0 = 7 by omega)] at k1 k2
      rw [aft_n hnb] at k1
      have hplain : ∀ (w : Int) (R' : RS), RkC M0 N0 M2 (up2 N2 c 40 ((up1 R).2.2.1 + w)) c S s R' → R'.2.2.2.2 = 0 → R' = rPl R.1 (up1 R) (s.2 i) → GN M2 N2 (X0_run_b111 c (zI (fpo s.2 i : Nat)) (ad (fpo s.2 i)) c (zI ((up1 R).2.2.1 : Nat)) (zI w)) (LQ Q (fun t1 M1 N1 => GN M1 N1 (jloop (fun t => X0_run_L31 c t) t1) Q)) := fun w R' hR' hov' e => by
        unfold X0_run_b111 X0_run_b132 X0_run_b159
        rw [zI_add, z_1, z_13, z_12]
        refine w_Cput hC2 (w_getI hst2.1 ?_)
        rw [upb (by omega), hst2.2.1]
        refine w_eq ⟨by omega, by omega⟩ ⟨by omega, by omega⟩ (fun x => absurd x (by omega)) (fun _ => ?_)
        refine w_getI hst2.1 ?_
        rw [upb (by omega), hst2.2.1]
        refine w_eq ⟨by omega, by omega⟩ ⟨by omega, by omega⟩ (fun x => absurd x (by omega)) (fun _ => ?_)
        rw [zI_add, show ((fpo s.2 i : Nat) : Int) + 1 = ((fpo s.2 i + 1 : Nat) : Int) by omega]
        refine tl_of hC2 (k1 M2 _ (by rw [← e]; exact hR') (by rw [← e]; exact hov') (fun j hj => ?_))
        rw [← hrd2 j (by omega)]
        have := hPg.2.2.2.2.1 _ (s3 j (by omega)).1
        unfold rd
        rw [upb (by omega)]
      obtain ⟨y1, y2, y3⟩ := hR1.2.2.1.cq hQ
      rcases hv with ⟨_, rfl, ok, hR2⟩ | ⟨_, rfl, ok, hR2⟩ | ⟨x, _⟩
      · refine w_eq ⟨by omega, by omega⟩ ⟨by omega, by omega⟩ (fun x => absurd x (by decide)) (fun _ => ?_)
        have ok : plOk R.1 (s.2 i) := ok
        have e : rPl R.1 (up1 R) (s.2 i) = (plH R.1 (s.2 i), (up1 R).2) := by unfold rPl; rw [if_pos ok]
        have h1 : RkC M0 N0 M2 N2 c S s (plH R.1 (s.2 i), (up1 R).2) := hR1.cq hQ (plH_sc.trans hR.1) hR2 rfl
        refine hplain 0 _ (h1.up (k := 40) (by omega) rfl ⟨by rw [upk (by omega)]; exact y1, by rw [upv]; exact Int.add_zero _, by rw [upk (by omega)]; exact y3⟩ h1.2.2.2.2) hov1 e.symm
      · refine w_eq ⟨by omega, by omega⟩ ⟨by omega, by omega⟩ (fun _ => ?_) (fun x => absurd rfl x)
        have ok : ¬ plOk R.1 (s.2 i) := ok
        have e : rPl R.1 (up1 R) (s.2 i) = (R.1, (up1 R).2.1, (up1 R).2.2.1 + 1, (up1 R).2.2.2) := by unfold rPl; rw [if_neg ok]
        have h1 : RkC M0 N0 M2 N2 c S s (up1 R) := hR1.cq hQ hR.1 hR2 rfl
        refine hplain 1 (R.1, (up1 R).2.1, (up1 R).2.2.1 + 1, (up1 R).2.2.2) (h1.up (k := 40) (by omega) rfl ⟨by rw [upk (by omega)]; exact y1, by rw [upv]; rfl, by rw [upk (by omega)]; exact y3⟩ h1.2.2.2.2) hov1 e.symm
      · omega
    -- a block
    have hb : isBl s.2 i := by unfold isBl; omega
    obtain ⟨w1, w2, w3, w4⟩ := s6 hb
    rw [aft_b hb] at k1
    rcases hv with ⟨x, _⟩ | ⟨x, _⟩ | ⟨_, rfl, hR2⟩
    · omega
    · omega
    refine w_eq ⟨by omega, by omega⟩ ⟨by omega, by omega⟩ (fun x => absurd x (by decide)) (fun _ => ?_)
    have h1 : RkC M0 N0 M2 N2 c S s (up1 R) := hR1.cq hQ hR.1 hR2 rfl
    obtain ⟨y1, y2, y3⟩ := h1.2.2.1
    have h2 : RkC M0 N0 M2 (up2 N2 c 40 ((up1 R).2.2.1 + 0)) c S s (up1 R) := h1.up (k := 40) (by omega) rfl ⟨by rw [upk (by omega)]; exact y1, by rw [upv]; exact Int.add_zero _, by rw [upk (by omega)]; exact y3⟩ h1.2.2.2.2
    unfold X0_run_b111
    rw [zI_add, z_13]
    refine w_Cput hC2 ?_
    have hrd3 : ∀ j, j < s.1 → rd (up2 N2 c 40 ((up1 R).2.2.1 + 0)) ad s j = rd N ad s j := fun j hj => by
      have := hPg.2.2.2.2.1 _ (s3 j hj).1
      rw [← hrd2 j hj]
      unfold rd
      rw [upb (by omega)]
    have hq3 : up2 N2 c 40 ((up1 R).2.2.1 + 0) (ad (fpo s.2 i)) = N (ad (fpo s.2 i)) := (upb (by omega)).trans hq2
    generalize up2 N2 c 40 ((up1 R).2.2.1 + 0) = N3 at h2 hrd3 hq3
    have hst3 : StC M2 N3 (ad (fpo s.2 i)) (s.2 i) := ⟨by rw [hk2]; exact p3, by rw [hq3]; exact s5.2.1, s5.2.2.cg (fun k _ => by rw [hq3])⟩
    refine w_getI hst3.1 ?_
    rw [hst3.2.1]
    refine w_eq ⟨by omega, by omega⟩ ⟨by omega, by omega⟩ (fun e7 => ?_) (fun e7 => ?_)
    · -- a loop
      have e7 : s.2 i 0 = 7 := by omega
      rw [if_neg (show ¬ s.2 i 0 = 6 by omega), if_pos e7] at k1 k2
      obtain ⟨z1, z2, z3⟩ := hst3.2.2.2.2.2.2.2 e7
      refine w_getI hst3.1 ?_
      rw [z1]
      refine w_putI hst3.1 ?_
      unfold X0_run_b132 X0_run_b159
      rw [z_12, z_1]
      refine w_getI hst3.1 ?_
      rw [upk (by omega), hst3.2.1]
      refine w_eq ⟨by omega, by omega⟩ ⟨by omega, by omega⟩ (fun x => absurd x (by omega)) (fun _ => ?_)
      rw [zI_add, show ((fpo s.2 i : Nat) : Int) + 1 = ((fpo s.2 i + 1 : Nat) : Int) by omega]
      obtain ⟨r, er⟩ : ∃ r : Nat, (s.2 i 1).toNat = r + 1 := ⟨(s.2 i 1).toNat - 1, by omega⟩
      rw [er] at k1 k2
      have hR3 : RkC M0 N0 M2 (up2 N3 (ad (fpo s.2 i)) 7 (s.2 i 1)) c S s (up1 R) := by
        obtain ⟨x1, x2, ⟨x3, x4, x5⟩, x6, x7⟩ := h2
        have ec : up2 N3 (ad (fpo s.2 i)) 7 (s.2 i 1) c = N3 c := upb (by omega)
        exact ⟨x1, x2.rnd hst3.1 p2 _, ⟨by rw [ec]; exact x3, by rw [ec]; exact x4, by rw [ec]; exact x5⟩, ⟨x6.1, fun b hb => by rw [upb (by omega)]; exact x6.2 b hb⟩, x7⟩
      refine tl_of hC2 (c_rounds hO hA ih hi e7 hP r (by omega) (up1 R) M2 _ Q hR3 hov1 (by unfold rd; rw [upv]; omega) (fun M' N' x y w => k1 M' N' x y (fun j hj => ?_)) k2)
      rw [w j hj, ← hrd3 j (by omega)]
      have hj4 := (s3 j (by omega)).1
      have hne : ad (fpo s.2 j) ≠ ad (fpo s.2 i) := fun x => by
        have x := hPg.2.2.2.2.2 _ _ hj4 s4 x
        have := fpo_lt (A := s.2) hj
        omega
      unfold rd
      rw [upb hne]
    · -- if it is so
      have e6 : s.2 i 0 = 6 := by omega
      rw [if_pos e6] at k1 k2
      unfold X0_run_b132 X0_run_b159
      rw [z_12, z_1, z_0]
      refine w_getI hst3.1 ?_
      rw [hst3.2.1]
      refine w_eq ⟨by omega, by omega⟩ ⟨by omega, by omega⟩ (fun _ => ?_) (fun x => absurd x (by omega))
      refine c_holds h2.2.1 hst3 p2 (hO.arg hi) e6 (fun N4 v hv hR4 hQ4 => ?_)
      have h4 : RkC M0 N0 M2 N4 c S s (up1 R) := h2.cq hQ4 hR.1 hR4 rfl
      have hq4 : N4 (ad (fpo s.2 i)) = N (ad (fpo s.2 i)) := (hQ4.2.1 _ (by omega)).trans hq3
      have hrd4 : ∀ j, j < s.1 → rd N4 ad s j = rd N ad s j := fun j hj => by
        have := hPg.2.2.2.2.1 _ (s3 j hj).1
        rw [← hrd3 j hj]
        unfold rd
        rw [hQ4.2.1 _ (by omega)]
      rcases hv with ⟨rfl, ht⟩ | ⟨rfl, ht⟩
      · have ht : tst R.1 (s.2 i) := ht
        rw [if_pos ht] at k1 k2
        refine w_eq ⟨by omega, by omega⟩ ⟨by omega, by omega⟩ (fun x => absurd x (by decide)) (fun _ => ?_)
        rw [zI_add, show ((fpo s.2 i : Nat) : Int) + 1 = ((fpo s.2 i + 1 : Nat) : Int) by omega]
        refine tl_of hC2 (c_body hO hA ih hi hb hP (up1 R) M2 N4 Q h4 hov1 (fun M' N' x y w => ?_) k2)
        have hPg' := hA.bg x.2.2.2.1.1
        obtain ⟨t1, _, t3⟩ := hPg'.st x.2.1 x.1
        obtain ⟨t4, t5, t6⟩ := t3 i hi
        obtain ⟨x1, x2, x3, x4⟩ := t6 hb
        refine tl_close x.2.1.cl hPg' t1 x1 x3 t4 x4 (kd := 12) (by rw [t5.2.1]; omega) ⟨by omega, by omega⟩ (fun _ => k1 M' N' x y (fun j hj => (w j (by omega)).trans (hrd4 j (by omega)))) (fun x => absurd x (by decide)) (fun x => absurd x (by decide))
      · have ht : ¬ tst R.1 (s.2 i) := ht
        rw [if_neg ht] at k1 k2
        refine w_eq ⟨by omega, by omega⟩ ⟨by omega, by omega⟩ (fun _ => ?_) (fun x => absurd rfl x)
        refine w_getI hst3.1 ?_
        rw [hq4, w2, zI_add, show ((fcl s i : Nat) : Int) + 1 = ((fcl s i + 1 : Nat) : Int) by omega]
        exact tl_of hC2 (k1 M2 N4 h4 hov1 (fun j hj => hrd4 j (by omega)))
theorem stU_at {i : Nat} : stU (stU S i u) j v = if i = j then stU S i v else stU (stU S i u) j v := by
  by_cases e : i = j
  · rw [if_pos e, ← e, stU_2]
  · rw [if_neg e]
theorem c_run {f : Int32 → JM Mem τ} {Q : τ → Mem → NM → Prop} (hR : CR M N c S) (h : cPost M N c (a_run S).1 (f (zI (a_run S).2)) Q) : GN M N (jb (jcall 0 c (f_X0_run c)) f) Q := by
  have hC := hR.cl
  have hsc := hR.2.1.2.2
  refine w_Cc hC ?_
  unfold f_X0_run
  refine w_getO hC.kc ?_
  unfold a_run at h
  cases e : S.1.2.2 with
  | none =>
    rw [e] at h hsc
    have h : cPost M N c (stU S 0 8) (f (zI (-1))) Q := h
    rw [show mR M c 6 = none from hsc, if_pos rfl, show (8 : Int32) = zI 8 from rfl]
    exact w_none hC (w_jp (c_fin0 hR h))
  | some s =>
    rw [e] at h
    obtain ⟨A, ad, hA⟩ := PgC.of hR e
    obtain ⟨s1, hO, _⟩ := hA.st hR e
    have h30 := hO.1
    have h60 := hA.2.2.1
    rw [hA.1, if_neg (fun x => nomatch x), z_0]
    refine w_Cput hC (w_Cput hC (w_Cput hC ?_))
    have hR3 := ((hR.fld (k := 40) (by omega) 0).fld (k := 41) (by omega) 0).fld (k := 42) (by omega) 0
    generalize hN3 : up2 (up2 (up2 N c 40 0) c 41 0) c 42 0 = N3 at hR3
    have hk : RkC M N3 M N3 c S s (S.1, 0, 0, 0, 0) := ⟨e, hR3, ⟨by rw [← hN3, upk (by omega), upv]; rfl, by rw [← hN3, upk (by omega), upk (by omega), upv]; rfl, by rw [← hN3, upv]; rfl⟩, ⟨Bg.rf hC, fun _ _ => rfl⟩, by show 0 ≤ 300; omega, fun _ => rfl⟩
    have s13 : N3 c 7 = (lnF s : Nat) := by rw [← hN3, upk (by omega), upk (by omega), upk (by omega)]; exact s1
    have hfin : ∀ M' N', RkC M N3 M' N' c S s (rRun s S.1) → GN M' N' (X0_run_b169 c) (fun v M1 N1 => GN M1 N1 (f v) Q) := fun M' N' hk' => by
      obtain ⟨x1, x2, ⟨x3, x4, x5⟩, ⟨x6, x6b⟩, x7, x8⟩ := hk'
      have hC' := x2.cl
      unfold X0_run_b169
      rw [z_1]
      refine w_CI hC' (w_Cput hC' ?_)
      refine w_CI hC' (w_Cput hC' ?_)
      refine w_CputZ hC' (Or.inr rfl) (w_CI hC' ?_)
      rw [x4, upk (by omega), x5, upk (by omega), upk (by omega), upk (by omega), x3]
      refine w_gives hC' (w_jp ?_)
      refine h M' _ (CR.st (S := stU (stU (stU (stH S (rRun s S.1).1) 7 (rRun s S.1).2.2.1) 8 (rRun s S.1).2.2.2.1) 6 1) ?_ 0) ?_
      · obtain ⟨m0, m1, m2, m3, m4, m5, m6, m7, m8⟩ := x2.2.2.2.2.2.1
        have q1 : CR M' (up2 N' c 44 (rRun s S.1).2.2.1) c (stU (stH S (rRun s S.1).1) 7 (rRun s S.1).2.2.1) := x2.mi (by omega) (by omega) ⟨by rw [upk (by omega)]; exact m0, by rw [upk (by omega)]; exact m1, by rw [upk (by omega)]; exact m2, m3, m4, by rw [upk (by omega)]; exact m5, by rw [upk (by omega)]; exact m6, upv, by rw [upk (by omega)]; exact m8⟩
        obtain ⟨m0, m1, m2, m3, m4, m5, m6, m7, m8⟩ := q1.2.2.2.2.2.1
        have q2 : CR M' (up2 (up2 N' c 44 (rRun s S.1).2.2.1) c 45 (rRun s S.1).2.2.2.1) c (stU (stU (stH S (rRun s S.1).1) 7 (rRun s S.1).2.2.1) 8 (rRun s S.1).2.2.2.1) := q1.mi (by omega) (by omega) ⟨by rw [upk (by omega)]; exact m0, by rw [upk (by omega)]; exact m1, by rw [upk (by omega)]; exact m2, m3, m4, by rw [upk (by omega)]; exact m5, by rw [upk (by omega)]; exact m6, by rw [upk (by omega)]; exact m7, upv⟩
        obtain ⟨m0, m1, m2, m3, m4, m5, m6, m7, m8⟩ := q2.2.2.2.2.2.1
        exact q2.mi (by omega) (by omega) ⟨by rw [upk (by omega)]; exact m0, by rw [upk (by omega)]; exact m1, by rw [upk (by omega)]; exact m2, m3, m4, by rw [upk (by omega)]; exact m5, upv, by rw [upk (by omega)]; exact m7, by rw [upk (by omega)]; exact m8⟩
      · refine CFm.sc x6 (fun b hb => ?_)
        rw [upb (by omega), upb (by omega), upb (by omega), upb (by omega), x6b b hb, ← hN3, upb (by omega), upb (by omega), upb (by omega)]
    show GN M N3 (jloop (fun t => X0_run_L31 c t) (zI ((0 : Nat) : Int))) _
    by_cases e0 : s.1 = 0
    · have eL : lnF s = 0 := by unfold lnF; rw [e0]; rfl
      refine hd_end hC (by rw [s13, eL]) (by omega) (hfin M N3 ?_)
      rw [show rRun s S.1 = (S.1, 0, 0, 0, 0) from rAll_end (by omega)]
      exact hk
    · have hD : Dir s 0 0 s.1 := Dir.top (by omega)
      refine c_all (M0 := M) (N0 := N3) (E := lnF s) (b1 := 0) (to := s.1) (P := fun i => 8 ≤ 8 + dpt s i) hO hA (c_one hA hO 8) (fun j _ b => (hO.lt b).2) (fun j _ b e2 => aft_C hO b e2) 31 0 (by omega) (Nat.le_refl _) hD (fun j _ _ => by show 8 ≤ 8 + dpt s j; omega) (S.1, 0, 0, 0, 0) M N3 _ hk rfl (fun M' N' x _ _ => ?_) (fun M' N' x _ => hfin M' N' x)
      have hPg' := hA.bg x.2.2.2.1.1
      obtain ⟨t1, _, _⟩ := hPg'.st x.2.1 x.1
      exact tl_end x.2.1.cl t1 (by omega) (hfin M' N' x)
theorem m_run {f : Int32 → JM Mem τ} {Q : τ → Mem → NM → Prop} (hR : MR M N m S) (hO : ∀ s, S.1.2.2 = some s → ScOk s) (h : mPost M N m (a_run S).1 (f (zI (a_run S).2)) Q) : GN M N (jb (jcall 7 m (f_X8_run m)) f) Q := by
  have hM := hR.ml
  refine w_Mc hM ?_
  unfold f_X8_run
  refine m_beg0 hR (fun N1 hR1 hF1 => ?_)
  have h5 := hM.ka (o := 5) (d := (0, 3440)) rfl
  have hsc := hR1.2.1.2.2
  refine w_Mf hM rfl ?_
  rw [z_635, z_636, z_0, z_1]
  refine w_ald h5 (by omega) (by omega) ?_
  unfold a_run at h
  cases e : S.1.2.2 with
  | none =>
    rw [e] at h
    rw [show (stU S 0 0).1.2.2 = none from e] at hsc
    have hsc : N1 (m + 5) (0 + 635) = 0 := hsc
    rw [show ((635 : Int).toNat) = 0 + 635 from rfl, hsc]
    refine w_eq ⟨by omega, by omega⟩ ⟨by omega, by omega⟩ (fun _ => ?_) (fun x => absurd rfl x)
    rw [show (8 : Int32) = zI 8 from rfl]
    refine w_refuse hM (w_jp (h M _ ?_ hF1.up))
    have := hR1.st 8
    rw [stU_2] at this
    exact this
  | some s =>
    rw [e] at h
    have hO := hO s e
    have h30 := hO.1
    rw [show (stU S 0 0).1.2.2 = some s from e] at hsc
    obtain ⟨x1, x2, x3⟩ := hsc
    rw [show ((635 : Int).toNat) = 0 + 635 from rfl, x1]
    refine w_eq ⟨by omega, by omega⟩ ⟨by omega, by omega⟩ (fun x => absurd x (by decide)) (fun _ => ?_)
    refine w_Mput hM (w_Mput hM (w_Mput hM (w_MputZ hM (Or.inl rfl) ?_)))
    have hR4 := (((hR1.fld (k := 51) (by omega) 0).fld (k := 52) (by omega) 0).fld (k := 53) (by omega) 0).fld (k := 50) (by omega) 0
    have hF4 : MFm m M N M (up2 (up2 (up2 (up2 N1 m 51 0) m 52 0) m 53 0) m 50 0) := hF1.up.up.up.up
    have hk : RkM M (up2 (up2 (up2 (up2 N1 m 51 0) m 52 0) m 53 0) m 50 0) m (stU S 0 0) s (S.1, 0, 0, 0, 0) := ⟨e, hR4, ⟨by rw [upk (by omega), upk (by omega), upk (by omega), upv]; rfl, by rw [upk (by omega), upk (by omega), upv]; rfl, by rw [upk (by omega), upv]; rfl, by rw [upv]; rfl⟩, by show 0 ≤ 300; omega, by show 0 ≤ 1; omega⟩
    have x2' : up2 (up2 (up2 (up2 N1 m 51 0) m 52 0) m 53 0) m 50 0 (m + 5) 636 = s.1 := by rw [upb (by omega), upb (by omega), upb (by omega), upb (by omega)]; exact x2
    generalize up2 (up2 (up2 (up2 N1 m 51 0) m 52 0) m 53 0) m 50 0 = N4 at hF4 hk x2'
    refine w_Mf hM rfl (w_ald h5 (by omega) (by omega) ?_)
    rw [show ((636 : Int).toNat) = 636 from rfl, x2']
    refine w_Mc hM ?_
    have hone := m_one (m := m) (S := stU S 0 0) hO 8
    have hdo := m_doAll (to := s.1) hO hone (Nat.le_refl _) 31 0 (by omega) (by omega) (fun j _ _ => by show 8 ≤ 8 + dpt s j; omega) (S.1, 0, 0, 0, 0) M N4 hk
    refine gn_mono (Q := fun _ M' N' => RkM M' N' m (stU S 0 0) s (rRun s S.1) ∧ MFm m M N4 M' N') hdo (fun _ M5 N5 q => ?_)
    obtain ⟨⟨y1, y2, ⟨y3, y4, y5, y6⟩, y7, y8⟩, hF5⟩ := q
    have hM5 := y2.ml
    have h23 := hM5.ka (o := 23) (d := (0, 2)) rfl
    refine w_Mf hM5 rfl (w_MI hM5 (w_ast h23 (by omega) (by omega) ?_))
    refine w_Mf hM5 rfl (w_MI hM5 (w_ast h23 (by omega) (by omega) ?_))
    refine w_MputZ hM5 (Or.inr rfl) (w_MI hM5 (w_jp ?_))
    rw [y4, upb (show m ≠ m + 23 by omega), y5, upk (by omega), upb (show m ≠ m + 23 by omega), upb (show m ≠ m + 23 by omega), y3]
    have h : mPost M N m (stU (stU (stU (stU (stH S (rRun s S.1).1) 7 (rRun s S.1).2.2.1) 8 (rRun s S.1).2.2.2.1) 6 1) 0 0) (f (zI (rRun s S.1).2.1)) Q := h
    show GN M5 (up2 (up2 (up2 N5 (m + 23) 0 (rRun s S.1).2.2.1) (m + 23) 1 (rRun s S.1).2.2.2.1) m 49 1) (f (zI (rRun s S.1).2.1)) Q
    generalize hN6 : up2 (up2 (up2 N5 (m + 23) 0 (rRun s S.1).2.2.1) (m + 23) 1 (rRun s S.1).2.2.2.1) m 49 1 = N6
    have eb : ∀ b, b ≠ m → b ≠ m + 23 → N6 b = N5 b := fun b h1 h2 => by rw [← hN6, upb h1, upb h2, upb h2]
    have ek : ∀ k, k ≠ 49 → N6 m k = N5 m k := fun k h1 => by rw [← hN6, upk h1, upb (show m ≠ m + 23 by omega), upb (show m ≠ m + 23 by omega)]
    refine h M5 N6 ?_ ((hF4.tr hF5).tr ⟨fun b hb => eb b (by omega) (by omega), mR M5, mL M5, rfl, fun _ _ => ⟨rfl, rfl⟩⟩)
    obtain ⟨g1, g2, ⟨g3, g3b, g3c⟩, g4, ⟨g5, g5b, g5c⟩, ⟨m0, mt, m1, m2, m3, m4, m5, m6, m7, m8⟩⟩ := y2
    have h5' := eb (m + 5) (by omega) (by omega)
    refine ⟨g1, g2.ag h5', ⟨by rw [ek 23 (by omega)]; exact g3, g3b, fun k hk => (g3c k hk).ag h5'⟩, fun t ht => (g4 t ht).ag (eb _ (by omega) (by omega)) (eb _ (by omega) (by omega)) rfl, ⟨by rw [ek 8 (by omega)]; exact g5, g5b, by rw [eb (m + 4) (by omega) (by omega)]; exact g5c⟩, by rw [ek 0 (by omega)]; exact m0, by rw [ek 1 (by omega)]; exact mt, by rw [ek 10 (by omega)]; exact m1, by rw [ek 11 (by omega)]; exact m2, m3, m4, by rw [ek 44 (by omega)]; exact m5, ?_, ?_, ?_⟩
    · rw [← hN6, upv]; rfl
    · rw [← hN6, upb (show m + 23 ≠ m by omega), upk (by omega), upv]; rfl
    · rw [← hN6, upb (show m + 23 ≠ m by omega), upv]; rfl
end OPS40
