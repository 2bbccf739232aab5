/-! TEXTS: a world is read, the component's op. -/
set_option maxRecDepth 100000
section OPW
variable {α β τ : Type} {M M' : Mem} {N N' N0 N1 : NM} {c k i j m : Nat} {z n most : Int} {Q : τ → Mem → NM → Prop} {S S' : St} {x : Nat × (Nat → Int)}
/-- reading leaves the state, but for how long the tape is -/
theorem CR.rdF (h : CR M N c S) (hN : ∀ b, b ≠ c + 2 → b ≠ c + 3 → b < c + 38 ∨ c + 70 ≤ b → N' b = N b) (h9 : N' (c + 2) 9 = N (c + 2) 9) : CR M N' c S := by
  obtain ⟨h1, h2, ⟨h3, h3b, h3c⟩, ⟨h4, h4b⟩, ⟨h5, h5b, h5c⟩, hm, h6⟩ := h
  have tK : ∀ b d, c + 1603 ≤ b → mK M b = some d → mK M b = some d := fun _ _ _ x => x
  have tR : ∀ b, c + 1603 ≤ b → mK M b ≠ none → mR M b = mR M b := fun _ _ _ => rfl
  have tN : ∀ b, c + 1603 ≤ b → mK M b = some (.inl 8) → ∀ j, j < 7 → N' b j = N b j := fun b hb _ j _ => by rw [hN b (by omega) (by omega) (by omega)]
  have ec := hN c (by omega) (by omega) (by omega)
  refine ⟨h1, h2.ag tK tR tN rfl (by rw [ec]) (hN _ (by omega) (by omega) (by omega)) (fun b x y => hN b (by omega) (by omega) (by omega)) (fun j hj b (x : c + 262 + 32 * j ≤ b) y => hN b (by omega) (by omega) (by omega)), ⟨by rw [ec]; exact h3, h3b, fun k hk => ?_⟩, ⟨fun t ht => (h4 t ht).ag rfl (hN _ (by omega) (by omega) (by omega)) (fun a g1 g2 => ⟨hN a (by omega) (by omega) (by omega), rfl, rfl⟩), h4b⟩, ⟨by rw [h9]; exact h5, h5b, by rw [hN (c + 4) (by omega) (by omega) (by omega)]; exact h5c⟩, ?_, h6⟩
  · have := h3c k hk
    unfold kpl at this ⊢
    exact this.ag tK tR tN rfl (by rw [hN _ (by omega) (by omega) (by omega)]) (hN _ (by omega) (by omega) (by omega)) (fun b x y => hN b (by omega) (by omega) (by omega)) (fun j hj b x y => hN b (by omega) (by omega) (by omega))
  · unfold MiC at hm ⊢
    rw [ec]
    exact hm
/-- a text is taken -/
def tkS (S : St) : St := stU (stU (stP S (0, S.2.2.2.1.2)) 1 0) 2 (-1)
def tkOk (S : St) (n most : Int) : Prop := 0 ≤ n ∧ n ≤ S.2.2.2.1.1 ∧ n ≤ most
theorem CR.fl1 (h : CR M N c S) (v : Int) : CR M (up2 N c 9 v) c (stU S 1 v) := by
  obtain ⟨m0, m1, m2, m3, m4, m5, m6, m7, m8⟩ := h.2.2.2.2.2.1
  exact h.mi (by omega) (by omega) ⟨by rw [upk (by omega)]; exact m0, upv, by rw [upk (by omega)]; exact m2, m3, m4, by rw [upk (by omega)]; exact m5, by rw [upk (by omega)]; exact m6, by rw [upk (by omega)]; exact m7, by rw [upk (by omega)]; exact m8⟩
theorem CR.fl2 (h : CR M N c S) (v : Int) : CR M (up2 N c 10 v) c (stU S 2 v) := by
  obtain ⟨m0, m1, m2, m3, m4, m5, m6, m7, m8⟩ := h.2.2.2.2.2.1
  exact h.mi (by omega) (by omega) ⟨by rw [upk (by omega)]; exact m0, by rw [upk (by omega)]; exact m1, upv, m3, m4, by rw [upk (by omega)]; exact m5, by rw [upk (by omega)]; exact m6, by rw [upk (by omega)]; exact m7, by rw [upk (by omega)]; exact m8⟩
/-- the memory when a text is taken -/
def tkN (N : NM) (c : Nat) : NM := up2 (up2 (up2 N (c + 2) 9 0) c 9 0) c 10 (-1)
theorem tkN_b {b : Nat} (h1 : b ≠ c) (h2 : b ≠ c + 2) : tkN N c b = N b := by unfold tkN; rw [upb h1, upb h1, upb h2]
theorem CR.tk (h : CR M N c S) : CR M (tkN N c) c (tkS S) := by
  refine ((CR.setT (x := (0, S.2.2.2.1.2)) h (N' := up2 N (c + 2) 9 0) (fun b h1 _ => upb h1) ⟨upv, by show 0 ≤ 600; omega, fun i hi => absurd hi (by show ¬ i < 0; omega)⟩).fl1 0).fl2 (-1)
theorem w_takes {f : Int32 → JM Mem τ} (hR : CR M N c S) (hn : zR n) (hm : zR most) (h0 : ¬ tkOk S n most → GN M N (f (zI 0)) Q) (h1 : tkOk S n most → GN M (tkN N c) (f (zI 1)) Q) : GN M N (jb (jcall 0 c (f_X0_takes c (zI n) (zI most))) f) Q := by
  have hC := hR.cl
  have hr := hC.rd.1
  obtain ⟨t1, t2, _⟩ := hR.2.2.2.2.1
  refine w_Cc hC ?_
  unfold f_X0_takes
  rw [z_m1, z_0, z_1]
  refine w_lt hn ⟨by omega, by omega⟩ (fun q => w_jp (h0 (fun x => by have := x.1; omega))) (fun q => ?_)
  refine w_Cf hC rfl (w_getI hr ?_)
  rw [t1]
  refine w_lt ⟨by omega, by omega⟩ hn (fun q2 => w_jp (h0 (fun x => by have := x.2.1; omega))) (fun q2 => ?_)
  refine w_le hn hm (fun q3 => ?_) (fun q3 => w_jp (h0 (fun x => by have := x.2.2; omega)))
  refine w_Cf hC rfl (w_putI hr (w_Cput hC (w_Cput hC (w_jp (h1 ⟨q, q2, q3⟩)))))
theorem w_refused {f : Int32 → JM Mem τ} (hC : CL M c) {er : Er} (e6 : N (c + 3) 6 = er.1) (e7 : N (c + 3) 7 = er.2) (h : GN M (up2 (up2 (up2 N c 9 er.1) c 10 er.2) c 8 10) (f (zI (-1))) Q) : GN M N (jb (jcall 0 c (f_X0_refused c (c + 3))) f) Q := by
  have hw := hC.rd.2.1
  refine w_Cc hC ?_
  unfold f_X0_refused
  refine w_getI hw ?_
  rw [e6]
  refine w_Cput hC (w_getI hw ?_)
  rw [upb (by omega), e7, show (10 : Int32) = zI 10 from rfl]
  exact w_Cput hC (w_none hC (w_jp h))
noncomputable def a_world (S : St) (n : Int) : St × Int := @ite _ (tkOk S n 600) (Classical.propDecidable _) (match pWorld (tpX S.2.2.2.1 n.toNat) with
  | .ok x => (stU (stW (tkS S) x) 0 0, (x.2.1 : Int))
  | .error er => (stU (stU (stU (tkS S) 1 er.1) 2 er.2) 0 10, -1)) (stU S 0 5, -1)
theorem c_world {f : Int32 → JM Mem τ} (hR : CR M N c S) (hT : TwoT M) (hn : zR n) (h : cPost M N c (a_world S n).1 (f (zI (a_world S n).2)) Q) : GN M N (jb (jcall 0 c (f_X0_world c (zI n))) f) Q := by
  have hC := hR.cl
  have hr := hC.rd.1
  obtain ⟨t1, t2, t3⟩ := hR.2.2.2.2.1
  refine w_Cc hC ?_
  unfold f_X0_world
  rw [show (600 : Int32) = zI 600 from rfl, z_0]
  unfold a_world at h
  refine w_takes hR hn ⟨by omega, by omega⟩ (fun q => ?_) (fun q => ?_)
  · rw [if_neg q] at h
    rw [z_5]
    exact w_eq ⟨by omega, by omega⟩ ⟨by omega, by omega⟩ (fun _ => w_none hC (w_jp (c_fin0 hR h))) (fun x => absurd rfl x)
  rw [if_pos q] at h
  refine w_eq ⟨by omega, by omega⟩ ⟨by omega, by omega⟩ (fun x => absurd x (by decide)) (fun _ => ?_)
  obtain ⟨q1, q2, q3⟩ := q
  obtain ⟨n, rfl⟩ : ∃ k : Nat, n = k := ⟨n.toNat, by omega⟩
  rw [show ((n : Int).toNat) = n from rfl] at h
  have hR1 := hR.tk
  have hF1 : ∀ b, b ≠ c → b ≠ c + 2 → tkN N c b = N b := fun b h1 h2 => tkN_b h1 h2
  have htp : ∀ i, i < n → tkN N c (c + 4) i = S.2.2.2.1.2 i ∧ -128 ≤ S.2.2.2.1.2 i ∧ S.2.2.2.1.2 i ≤ 127 := fun i hi => by
    rw [hF1 _ (by omega) (by omega)]
    exact t3 i (by omega)
  generalize tkN N c = N1 at *
  refine w_Cf hC rfl (w_Cf hC rfl ?_)
  refine w_tryE (ge_calle hr (g_world (n := n) (t := tpX S.2.2.2.1 n) hC hT (by omega) rfl (fun i hi => by rw [(htp i hi).1]; exact ⟨(htp i hi).2.1, (htp i hi).2.2, rfl⟩) (fun N2 x e1 g1 g2 g3 => ?_) (fun N2 er e1 g1 g2 g3 g4 => ?_)))
  · rw [e1] at h
    have h : cPost M N c (stU (stW (tkS S) x) 0 0) (f (zI (x.2.1 : Int))) Q := h
    have hR2 : CR M N2 c (tkS S) := hR1.rdF g1 (g2 9 (by omega))
    refine w_Cf hC rfl (w_Cf hC rfl ?_)
    refine w_wcopy hC.w6 hC.w38 (by omega) (fun N3 y1 y2 y3 y4 => ?_)
    have hW3 : WdC N3 (c + 6) x := ⟨by rw [y2]; exact g3.pe, by rw [y3]; exact g3.ne, fun i j k hi hj hk => by rw [y1 i j k hi hj hk]; exact g3.t hi hj hk, g3.ok⟩
    refine w_Cf hC rfl (w_Wp hC.w6 ?_)
    rw [show N3 (c + 6) 2 = (x.2.1 : Int) from hW3.ne]
    refine w_gives hC (w_jp (h M _ ((hR2.setW (y := x) (Bg.rf hC) (CFw.of (fun b hb => y4 b (by omega))) hW3).st 0) (CFm.st (CFm.sc (Bg.rf hC) (fun b hb => ?_)) 0)))
    rw [y4 b (by omega), g1 b (by omega) (by omega) (by omega), hF1 b (by omega) (by omega)]
  · rw [e1] at h
    have h : cPost M N c (stU (stU (stU (tkS S) 1 er.1) 2 er.2) 0 10) (f (zI (-1))) Q := h
    have hR2 : CR M N2 c (tkS S) := hR1.rdF g1 (g2 9 (by omega))
    refine w_is hC.rd.2.1 (w_refused hC g3 g4 (w_jp (h M _ (((hR2.fl1 _).fl2 _).st 10) ?_)))
    refine CFm.sc (Bg.rf hC) (fun b hb => ?_)
    rw [upb (by omega), upb (by omega), upb (by omega), g1 b (by omega) (by omega) (by omega), hF1 b (by omega) (by omega)]
end OPW
