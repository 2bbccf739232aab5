/-! TEXTS: a script is read, the component's op. -/
set_option maxRecDepth 100000
section OPS41
variable {α β τ : Type} {M M' M0 M1 : Mem} {N N' N0 N1 : NM} {c k i j L A o cnt : Nat} {z n most : Int} {Q : τ → Mem → NM → Prop} {S S' : St} {t : Tx} {u : Tk} {ad op : Nat → Nat} {F : Nat → Nat → Int} {g : Arr} {s : Scr}
/-- what the reader of a script leaves -/
theorem CR.sf (h : CR M N0 c S) (hF : SF c (mZ M) M N0 M' N) {B : Mem} (hB : B = sB M' k j) : CR B N c S := by
  subst hB
  obtain ⟨h1, h2, ⟨h3, h3b, h3c⟩, ⟨h4, h4b⟩, ⟨h5, h5b, h5c⟩, ⟨q1, q2, q3, q4, q5, q6, q7, q8, q9⟩, hZ1, hZ2⟩ := h
  obtain ⟨f1, f2, f3, f4, f5, f6, f7⟩ := hF
  have lt : ∀ b, mK M b ≠ none → b < mZ M := fun b hb => Classical.byContradiction fun x => hb (hZ2 b (by omega))
  have gK : ∀ b, b < mZ M → mK M' b = mK M b := fun b hb => (f3 b hb).1
  have gL : ∀ b, b < mZ M → mL M' b = mL M b := fun b hb => (f3 b hb).2.1
  have gR : ∀ b, b < mZ M → b ≠ c + 2 → mR M' b = mR M b := fun b hb h2 => (f3 b hb).2.2 h2
  have hK' : ∀ b d, c + 1603 ≤ b → mK M b = some d → mK M' b = some d := fun b d _ e => (gK b (lt b (by rw [e]; exact fun x => nomatch x))).trans e
  have hR' : ∀ b, c + 1603 ≤ b → mK M b ≠ none → mR M' b = mR M b := fun b h1 h2 => gR b (lt b h2) (by omega)
  have hN' : ∀ b, c + 1603 ≤ b → mK M b = some (.inl 8) → ∀ k, k < 7 → N b k = N0 b k := fun b h1 h2 k _ => by rw [f4 b (lt b (by rw [h2]; exact fun x => nomatch x)) (by omega) (by omega) (by omega)]
  have hn : ∀ b, b < c + 1603 → b ≠ c + 2 → b ≠ c + 3 → b ≠ c + 5 → N b = N0 b := fun b b1 b2 b3 b4 => f4 b (by omega) b2 b3 b4
  have hr : ∀ b, b < c + 1603 → b ≠ c + 2 → mR M' b = mR M b := fun b b1 b2 => gR b (by omega) b2
  have ec : N c = N0 c := hn c (by omega) (by omega) (by omega) (by omega)
  refine ⟨f7, h2.ag hK' hR' hN' (by rw [show mR (sB M' k j) = mR M' from rfl, hr c (by omega) (by omega)]) (by rw [ec]) (hn _ (by omega) (by omega) (by omega) (by omega)) (fun b x y => hn b (by omega) (by omega) (by omega) (by omega)) (fun j hj b (x : c + 262 + 32 * j ≤ b) y => hn b (by omega) (by omega) (by omega) (by omega)), ⟨by rw [ec]; exact h3, h3b, fun k hk => ?_⟩, ⟨fun t ht => (h4 t ht).ag (hr _ (by omega) (by omega)) (hn _ (by omega) (by omega) (by omega) (by omega)) (fun a g1 g2 => ⟨f4 a (lt a g2) (by omega) (by omega) (by omega), gK a (lt a g2), gL a (lt a g2)⟩), fun t t' a ht ht' => ?_⟩, ⟨by rw [f5]; exact h5, h5b, by rw [hn (c + 4) (by omega) (by omega) (by omega) (by omega)]; exact h5c⟩, ⟨by rw [ec]; exact q1, by rw [ec]; exact q2, by rw [ec]; exact q3, ?_, ?_, by rw [ec]; exact q6, by rw [ec]; exact q7, by rw [ec]; exact q8, by rw [ec]; exact q9⟩, Nat.le_trans hZ1 f1, f2⟩
  · have := h3c k hk
    unfold kpl at this ⊢
    exact this.ag hK' hR' hN' (by rw [show mR (sB M' _ j) = mR M' from rfl, hr _ (by omega) (by omega)]) (by rw [hn _ (by omega) (by omega) (by omega) (by omega)]) (hn _ (by omega) (by omega) (by omega) (by omega)) (fun b x y => hn b (by omega) (by omega) (by omega) (by omega)) (fun j hj b x y => hn b (by omega) (by omega) (by omega) (by omega))
  · rw [show mR (sB M' k j) = mR M' from rfl, hr _ (by omega) (by omega), hr (c + 258 + t') (by omega) (by omega)]
    exact h4b t t' a ht ht'
  · rw [show mL (sB M' k j) = mL M' from rfl, gL c (by omega)]; exact q4
  · rw [show mL (sB M' k j) = mL M' from rfl, gL c (by omega)]; exact q5
/-- a script is set -/
theorem CR.scr (h : CR M N c S) (hs : ScC (sR M (up2 (mR M) c 6 (some A))) (up2 N c 7 (L : Nat)) (c + 1603) c 6 (some s)) : CR (sR M (up2 (mR M) c 6 (some A))) (up2 N c 7 (L : Nat)) c (stH S (S.1.1, S.1.2.1, some s)) := by
  obtain ⟨h1, h2, ⟨h3, h3b, h3c⟩, ⟨h4, h4b⟩, ⟨h5, h5b, h5c⟩, ⟨q1, q2, q3, q4, q5, q6, q7, q8, q9⟩, hZ⟩ := h
  have hR : ∀ b, b ≠ c → mR (sR M (up2 (mR M) c 6 (some A))) b = mR M b := fun b hb => upb' hb
  have hn : ∀ b, b ≠ c → up2 N c 7 (L : Nat) b = N b := fun b hb => upb hb
  have hk : ∀ k, k ≠ 7 → up2 N c 7 (L : Nat) c k = N c k := fun k hk => upk hk
  have hR' : ∀ b, c + 1603 ≤ b → mK M b ≠ none → mR (sR M (up2 (mR M) c 6 (some A))) b = mR M b := fun b h1 _ => hR b (by omega)
  have hN' : ∀ b, c + 1603 ≤ b → mK M b = some (.inl 8) → ∀ k, k < 7 → up2 N c 7 (L : Nat) b k = N b k := fun b h1 h2 k _ => by rw [hn b (by omega)]
  refine ⟨h1.ag3 (fun _ => rfl) (fun b j hb _ => if_neg hb) rfl, ⟨h2.1.fr (fun b x y => hn b (by omega)), fun j hj => (h2.2.1 j hj).ag (hn _ (by omega)) (fun b (x : c + 262 + 32 * j ≤ b) y => hn b (by omega)), hs⟩, ⟨by rw [hk 47 (by omega)]; exact h3, h3b, fun k hk => ?_⟩, ⟨fun t ht => (h4 t ht).ag (hR _ (by omega)) (hn _ (by omega)) (fun a g1 g2 => ⟨hn a (by omega), rfl, rfl⟩), fun t t' a ht ht' => ?_⟩, ⟨by rw [hn _ (by omega)]; exact h5, h5b, by rw [hn (c + 4) (by omega)]; exact h5c⟩, ⟨by rw [hk 8 (by omega)]; exact q1, by rw [hk 9 (by omega)]; exact q2, by rw [hk 10 (by omega)]; exact q3, q4, q5, by rw [hk 30 (by omega)]; exact q6, by rw [hk 43 (by omega)]; exact q7, by rw [hk 44 (by omega)]; exact q8, by rw [hk 45 (by omega)]; exact q9⟩, hZ⟩
  · have := h3c k hk
    unfold kpl at this ⊢
    exact this.ag (fun _ _ _ e => e) hR' hN' (by rw [hR _ (by omega)]) (by rw [hn _ (by omega)]) (hn _ (by omega)) (fun b x y => hn b (by omega)) (fun j hj b x y => hn b (by omega))
  · rw [hR _ (by omega), hR (c + 258 + t') (by omega)]
    exact h4b t t' a ht ht'
noncomputable def a_script (S : St) (g : Arr) (n : Int) : St × Int := @ite _ (tkOk S n 300) (Classical.propDecidable _) (match pScript (tpX S.2.2.2.1 n.toNat) g with
  | .ok x => (stU (stH (tkS S) (S.1.1, S.1.2.1, some (x.2.1, x.2.2))) 0 0, (x.2.1 : Int))
  | .error er => (stU (stU (stU (tkS S) 1 er.1) 2 er.2) 0 10, -1)) (stU S 0 5, -1)
theorem CFm.sf (hF : SF c (mZ M) M N1 M' N') (hz : c + 1603 ≤ mZ M) (hN : ∀ b, b ≠ c → b ≠ c + 2 → N1 b = N b) (hr : 62 ≤ mC M ∧ 600 ≤ mS M) {B : Mem} {N2 : NM} (hB : ∀ b, b ≠ c → mK B b = mK M' b ∧ mR B b = mR M' b ∧ mL B b = mL M' b) (ht : mT B = mT M') (hc : mC M ≤ mC B + 62 ∧ mS M ≤ mS B + 600) (h2 : ∀ b, b ≠ c → N2 b = N' b) : CFm c M N B N2 := by
  obtain ⟨f1, f2, f3, f4, f5, f6, f7⟩ := hF
  refine ⟨fun b hb => ?_, ht.trans f6, by omega, by omega⟩
  obtain ⟨a1, a2, a3⟩ := hB b (by omega)
  obtain ⟨g1, g2, g3⟩ := f3 b (by omega)
  exact ⟨by rw [h2 b (by omega), f4 b (by omega) (by omega) (by omega) (by omega), hN b (by omega) (by omega)], a1.trans g1, a2.trans (g3 (by omega)), a3.trans g2⟩
theorem w_kp {x : JM Mem α} {f : α → JM Mem τ} {cl a : Nat} (h : GN M N (jb (jcall cl a x) fun v => jp v) (fun v B N' => B = M ∧ GN M N' (f v) Q)) : GN M N (jb (jcall cl a (jkeep x)) f) Q := by
  have h2 : GE M N (jb (jcall cl a (jkeep x)) f) Q (fun _ _ _ => False) := ge_kp (ge_gn (gn_mono h (fun v B N' ⟨a, b⟩ => ⟨a, ge_gn b⟩)))
  rcases h2 with h2 | ⟨_, _, _, _, _, _, h3⟩
  · exact h2
  · exact h3.elim
theorem c_script {f : Int32 → JM Mem τ} (hR : CR M N c S) (hT : TwoT M) (hn : zR n) (hrm : 62 ≤ mC M ∧ 600 ≤ mS M) (h : cPost M N c (a_script S g n).1 (f (zI (a_script S g n).2)) Q) : GN M N (jb (jcall 0 c (f_X0_script c (zI n))) f) Q := by
  have hC := hR.cl
  have hr := hC.rd.1
  obtain ⟨t1, t2, t3⟩ := hR.2.2.2.2.1
  refine w_Cc hC ?_
  unfold f_X0_script
  rw [show (300 : Int32) = zI 300 from rfl, z_0]
  unfold a_script at h
  refine w_kp (w_takes hR hn ⟨by omega, by omega⟩ (fun q => w_jp ⟨rfl, ?_⟩) (fun q => w_jp ⟨rfl, ?_⟩))
  · rw [if_neg q] at h
    rw [z_5]
    refine w_eq ⟨by omega, by omega⟩ ⟨by omega, by omega⟩ (fun _ => w_kp (w_none hC (w_jp ⟨rfl, w_jp (c_fin0 hR h)⟩))) (fun x => absurd rfl x)
  rw [if_pos q] at h
  refine w_eq ⟨by omega, by omega⟩ ⟨by omega, by omega⟩ (fun x => absurd x (by decide)) (fun _ => ?_)
  obtain ⟨q1, q2, q3⟩ := q
  obtain ⟨n, rfl⟩ : ∃ k : Nat, n = k := ⟨n.toNat, by omega⟩
  rw [show ((n : Int).toNat) = n from rfl] at h
  have hR1 := hR.tk
  have hF1 : ∀ b, b ≠ c → b ≠ c + 2 → tkN N c b = N b := fun b h1 h2 => tkN_b h1 h2
  have htp : ∀ i, i < n → tkN N c (c + 4) i = S.2.2.2.1.2 i ∧ -128 ≤ S.2.2.2.1.2 i ∧ S.2.2.2.1.2 i ≤ 127 := fun i hi => by
    rw [hF1 _ (by omega) (by omega)]
    exact t3 i (by omega)
  generalize tkN N c = N1 at *
  have hz := hR.2.2.2.2.2.2
  refine w_Cf hC rfl ?_
  refine w_tryE (ge_calle hr (g_script (g := g) (n := n) (t := tpX S.2.2.2.1 n) hC hT hz (by omega) rfl (fun i hi => by rw [(htp i hi).1]; exact ⟨(htp i hi).2.1, (htp i hi).2.2, rfl⟩) hrm (fun M2 N2 u cnt a A ad op F e1 g1 g2 g3 => ?_) (fun er e1 M2 N2 g3 g4 g5 => ?_)))
  · rw [e1] at h
    have h : cPost M N c (stU (stH (tkS S) (S.1.1, S.1.2.1, some (cnt, a))) 0 0) (f (zI (cnt : Int))) Q := h
    have hR2 : CR (sB M2 (mC M - 62) (mS M - 600)) N2 c (tkS S) := hR1.sf g2.1 rfl
    have hC2 := hR2.cl
    have hr2 := hC2.rd.1
    obtain ⟨f10, f11, f12, _⟩ := g2.2.2.1
    generalize hB : sB M2 (mC M - 62) (mS M - 600) = B at *
    have hC3 : CL (sR B (up2 (mR B) c 6 (some A))) c := hC2.ag3 (fun _ => rfl) (fun b j hb _ => if_neg hb) rfl
    obtain ⟨a1, a2, a3⟩ := g2.2.2.2.1
    obtain ⟨b1, b2, b3, _⟩ := g2.2.2.2.2
    have r3 := g2.2.2.2.2.2.2.2
    have hAc : A ≠ c := by omega
    have eA : up2 (mR B) c 6 (some A) A = mR B A := upb' hAc
    have eB : mR B = mR M2 ∧ mK B = mK M2 := by rw [← hB]; exact ⟨rfl, rfl⟩
    refine w_putO hC2.kc (w_Cf (M := sR B (up2 (mR B) c 6 (some A))) hC3 rfl ?_)
    refine w_getI hr2 ?_
    rw [f10]
    refine w_Cput hC3 (w_Cf hC3 rfl (w_getI hr2 ?_))
    rw [upb (show c + 2 ≠ c by omega), f11]
    refine w_kp (w_gives hC3 (w_jp ⟨rfl, w_jp (h _ _ ((CR.scr hR2 ⟨A, lnS a 0 cnt, F, if_pos ⟨rfl, rfl⟩, upv, ⟨by omega, by rw [show mK (sR B (up2 (mR B) c 6 (some A))) = mK B from rfl, eB.2]; exact a2, by omega, fun i hi => ?_, fun i j s hi hj e1 e2 => ?_⟩, g3.scr, g1.scr⟩).st 0) ?_)⟩))
    · obtain ⟨k1, k2, k3, k4⟩ := b1 i hi
      refine ⟨ad i, ?_, by omega, by rw [show mK (sR B (up2 (mR B) c 6 (some A))) = mK B from rfl, eB.2]; exact k3, fun k hk => ?_⟩
      · show up2 (mR B) c 6 (some A) A i = _
        rw [eA, eB.1]; exact k1
      · rw [upb (by omega)]; exact k4 k hk
    · have e1 : up2 (mR B) c 6 (some A) A i = some s := e1
      have e2 : up2 (mR B) c 6 (some A) A j = some s := e2
      rw [eA, eB.1, (b1 i hi).1] at e1
      rw [eA, eB.1, (b1 j hj).1] at e2
      have e1 := Option.some.inj e1
      have e2 := Option.some.inj e2
      exact b2 i j hi hj (e1.trans e2.symm)
    · exact CFm.sf g2.1 hz.1 hF1 hrm (fun b hb => ⟨by rw [← hB]; rfl, (upb' hb).trans (by rw [eB.1]), by rw [← hB]; rfl⟩) (by rw [← hB]; rfl) ⟨by rw [← hB]; show mC M ≤ mC M - 62 + 62; omega, by rw [← hB]; show mS M ≤ mS M - 600 + 600; omega⟩ (fun b hb => by rw [upb hb, upb hb])
  · rw [e1] at h
    have h : cPost M N c (stU (stU (stU (tkS S) 1 er.1) 2 er.2) 0 10) (f (zI (-1))) Q := h
    have hR2 : CR (sB M2 (mC M - 62) (mS M - 600)) N2 c (tkS S) := hR1.sf g5 rfl
    have hC2 := hR2.cl
    refine w_is hC2.rd.2.1 (w_kp (w_refused hC2 g3 g4 (w_jp ⟨rfl, w_jp (h _ _ (((hR2.fl1 _).fl2 _).st 10) ?_)⟩)))
    exact CFm.sf g5 hz.1 hF1 hrm (fun b _ => ⟨rfl, rfl, rfl⟩) rfl ⟨by show mC M ≤ mC M - 62 + 62; omega, by show mS M ≤ mS M - 600 + 600; omega⟩ (fun b hb => by rw [upb hb, upb hb, upb hb])
end OPS41
