/-! OPS, part 30: a tray, the component's. -/
set_option maxRecDepth 100000
section OPS30
variable {α τ ρ : Type} {M M' M1 M2 : Mem} {N N' N1 : NM} {c m i j q r n A : Nat} {u v s z a b d e t k : Int} {S S' : St} {x : Int64}
theorem CL.agY (h : CL M c) (gK : ∀ b, c ≤ b → b < c + 1567 → mK M' b = mK M b) (gR : ∀ b, c ≤ b → b < c + 1567 → (b < c + 258 ∨ c + 262 ≤ b) → mR M' b = mR M b) (ht : mT M' = mT M) : CL M' c := by
  obtain ⟨h1, h2, h3, h4, h5, h6, h7, h8, h9, ⟨i1, i2, i3, i4⟩, h10, h11, h12, h13⟩ := h
  have g : ∀ b, c ≤ b → b < c + 1567 → (b < c + 258 ∨ c + 262 ≤ b) → mK M' b = mK M b ∧ mR M' b = mR M b := fun b x y z => ⟨gK b x y, gR b x y z⟩
  refine ⟨by rw [gK c (by omega) (by omega)]; exact h1, fun k o e => by rw [gR c (by omega) (by omega) (by omega)]; exact h2 k o e, fun o d e => by have := CLk_lt e; rw [gK _ (by omega) (by omega)]; exact h3 o d e, fun o e => (h4 o e).ag ?_, fun o e => (h5 o e).ag ?_, fun k hk => ?_, fun k hk => ?_, fun k hk => ?_, fun k hk => ?_, ⟨i1.ag ?_, i2.ag ?_, i3.ag ?_, i4.ag ?_⟩, h10.ag ?_, h11.ag ?_, fun k hk => ?_, ?_⟩
  · have : o = 6 ∨ o = 38 ∨ o = 224 := by simpa [CLw] using e
    exact fun b x y => g b (by omega) (by omega) (by omega)
  · have : o = 77 ∨ o = 85 ∨ o = 93 ∨ o = 101 ∨ o = 109 ∨ o = 182 := by simpa [CLs] using e
    exact fun b x y => g b (by omega) (by omega) (by omega)
  · rw [gR _ (by omega) (by omega) (by omega)]; exact ⟨(h6 k hk).1, (h6 k hk).2.ag (fun b x y => g b (by omega) (by omega) (by omega))⟩
  · rw [gR _ (by omega) (by omega) (by omega)]; exact ⟨(h7 k hk).1, (h7 k hk).2.ag (fun b x y => g b (by omega) (by omega) (by omega))⟩
  · rw [gR _ (by omega) (by omega) (by omega)]; exact ⟨(h8 k hk).1, (h8 k hk).2.ag (fun b x y => g b (by omega) (by omega) (by omega))⟩
  · rw [gR _ (by omega) (by omega) (by omega)]
    obtain ⟨g0, g1, g2, g3, g4, g5, g6, g7, g8⟩ := h9 k hk
    refine ⟨g0, by rw [gK _ (by omega) (by omega)]; exact g1, by rw [gR _ (by omega) (by omega) (by omega)]; exact g2, by rw [gR _ (by omega) (by omega) (by omega)]; exact g3, by rw [gR _ (by omega) (by omega) (by omega)]; exact g4, g5.ag (fun b x y => g b (by omega) (by omega) (by omega)), by rw [gK _ (by omega) (by omega)]; exact g6, by rw [gK _ (by omega) (by omega)]; exact g7, fun j hj => ?_⟩
    rw [gR _ (by omega) (by omega) (by omega)]; exact ⟨(g8 j hj).1, (g8 j hj).2.ag (fun b x y => g b (by omega) (by omega) (by omega))⟩
  all_goals first | exact fun b x y => g b (by omega) (by omega) (by omega) | skip
  · rw [gK _ (by omega) (by omega), gR _ (by omega) (by omega) (by omega)]; exact h12 k hk
  · rw [gK _ (by omega) (by omega), gK (c + 3) (by omega) (by omega), gR _ (by omega) (by omega) (by omega), ht]; exact h13

/-- in memories that are alike where they must be, but for a tray -/
theorem CFm.setY {t : Nat} (ht : t < 4) (hA : c + 1603 ≤ A) (hK : ∀ b, b < c + 1603 → mK M' b = mK M b) (hR : ∀ b, b ≠ c + 258 + t → b < c + 1603 → mR M' b = mR M b) (hN : ∀ b, b ≠ A → b ≠ c + 258 + t → N' b = N b) (hL : ∀ b, b ≠ A → mL M' b = mL M b) (hT : mT M' = mT M) (hr : mC M ≤ mC M' + 64 ∧ mS M ≤ mS M' + 1300) : CFm c M N M' N' :=
  ⟨fun b hb => ⟨hN b (by omega) (by omega), hK b (by omega), hR b (by omega) (by omega), hL b (by omega)⟩, hT, hr⟩
theorem c_tray {f : Int32 → JM Mem τ} {Q : τ → Mem → NM → Prop} (hR : CR M N c S) (ht : zR t) (hs : zR s) (ha : zR a) (hC : 10 ≤ mC M ∧ 1300 ≤ mS M) (h : cPost M N c (a_tray S t s a).1 (f (zI (a_tray S t s a).2)) Q) : GN M N (jb (jcall 0 c (f_X0_tray c (zI t) (zI s) (zI a))) f) Q := by
  refine w_Cc hR.cl ?_
  unfold f_X0_tray X0_tray_b16
  rw [z_0, z_1, z_3, show (60 : Int32) = zI 60 from rfl, show (6 : Int32) = zI 6 from rfl, show (5 : Int32) = zI 5 from rfl]
  have hb : ∀ v, whyT t s a = v → v ≠ 0 → a_tray S t s a = (stU S 0 v, 0) := fun v e1 e2 => by
    unfold a_tray
    rw [if_neg (by rw [e1]; exact e2), e1]
  have hno : ∀ v, zR v → v ≠ 0 → a_tray S t s a = (stU S 0 v, 0) → GN M N (jb (jcall 0 c (jkeep (f_X0_is0 c (zI v)))) fun x => jrz x) (fun v M1 N1 => GN M1 N1 (f v) Q) := fun v hv e0 e => by
    rw [e] at h
    refine w_is0k hR.cl hv ?_
    rw [if_neg e0]
    exact w_rze (Or.inl rfl) (c_fin0 hR h)
  refine w_isTrayk ht ?_
  by_cases et : 0 ≤ t ∧ t < 4
  case neg =>
    rw [if_neg et]
    exact w_eq ⟨by omega, by omega⟩ ⟨by omega, by omega⟩ (fun e => hno 1 ⟨by omega, by omega⟩ (by decide) (hb 1 (if_neg (by omega)) (by decide))) (fun e => absurd rfl e)
  rw [if_pos et]
  refine w_eq ⟨by omega, by omega⟩ ⟨by omega, by omega⟩ (fun e => absurd e (by decide)) (fun _ => ?_)
  refine w_lt hs ⟨by omega, by omega⟩ (fun e => hno 1 ⟨by omega, by omega⟩ (by decide) (hb 1 (if_neg (by omega)) (by decide))) (fun e => ?_)
  refine w_le hs ⟨by omega, by omega⟩ (fun e => ?_) (fun e => hno 1 ⟨by omega, by omega⟩ (by decide) (hb 1 (if_neg (by omega)) (by decide)))
  refine w_le ha ⟨by omega, by omega⟩ (fun e => ?_) (fun e => hno 5 ⟨by omega, by omega⟩ (by decide) (hb 5 ((if_pos (by omega)).trans (if_pos (by omega))) (by decide)))
  obtain ⟨k, rfl⟩ : ∃ k : Nat, t = k := ⟨t.toNat, by omega⟩
  obtain ⟨tr1, tr2⟩ := hR.cl.tr (k := k) (by omega)
  refine w_Cf hR.cl rfl ?_
  refine w_aldA (hR.cl.ka (o := 1) (d := (9, 4)) rfl) (by omega) (by omega) tr1 ?_
  obtain ⟨hz1, hz2⟩ := hR.2.2.2.2.2.2
  refine w_lt ha ⟨by omega, by omega⟩ (fun e => ?_) (fun e => ?_)
  · refine w_guard trivial ?_
    refine w_call tr2 ?_
    refine go_of (v := mZ M + 2) (M' := sN M N) rfl ⟨M, N, rfl, ?_⟩
    refine w_bump ⟨by omega, by omega⟩ ?_
    have hC' : CL (jbumpM M 3 3 60) c := hR.bump.cl
    refine w_is0k hC' ⟨by omega, by omega⟩ ?_
    rw [if_neg (by decide)]
    refine w_rze (Or.inl rfl) ?_
    rw [hb 6 ((if_pos (by omega)).trans ((if_neg (by omega)).trans (if_pos (by omega)))) (by decide)] at h
    exact h _ _ (hR.bump.st 6) ((CFm.bump (by omega) (by omega)).st 6)
  · have e0 : whyT (k : Int) s a = 0 := (if_pos (by omega)).trans ((if_neg (by omega)).trans (if_neg (by omega)))
    rw [show a_tray S k s a = (stU (stY S k (s.toNat, a.toNat, fun _ => 0)) 0 0, 1) from if_pos e0] at h
    obtain ⟨n, rfl⟩ : ∃ n : Nat, a = n := ⟨a.toNat, by omega⟩
    obtain ⟨so, rfl⟩ : ∃ n : Nat, s = n := ⟨s.toNat, by omega⟩
    rw [show (so : Int).toNat = so from rfl, show (n : Int).toNat = n from rfl] at h
    have hTz : c + 258 + k ≠ mZ M := by omega
    refine w_make tr2 hTz (by omega) (by omega) ⟨by omega, by omega⟩ ?_
    have hkz : mK M (mZ M) = none := hz2 _ (Nat.le_refl _)
    generalize hM' : sB (sR (jnewM (sB M 1 1000) (.inr (tyk so, n)) n) (up2 (mR (jnewM M (.inr (tyk so, n)) n)) (c + 258 + k) 0 (some (mZ M)))) (mC M - 1) (mS M - 1000) = M'
    generalize hN' : up2 (upZ N (mZ M)) (c + 258 + k) 1 so = N'
    have eK : mK M' = fun b => if b = mZ M then some (.inr (tyk so, n)) else mK M b := by rw [← hM']; rfl
    have eR : mR M' = up2 (upA (mR M) (mZ M) (fun _ => none)) (c + 258 + k) 0 (some (mZ M)) := by rw [← hM']; rfl
    have eL : mL M' = upA (mL M) (mZ M) (fun _ => 0) := by rw [← hM']; rfl
    have eZ : mZ M' = mZ M + 1 := by rw [← hM']; rfl
    have eT : mT M' = mT M := by rw [← hM']; rfl
    have eC : mC M' = mC M - 1 := by rw [← hM']; rfl
    have eS : mS M' = mS M - 1000 := by rw [← hM']; rfl
    have gK : ∀ b, b ≠ mZ M → mK M' b = mK M b := fun b hb => by rw [eK]; exact if_neg hb
    have gR : ∀ b, b ≠ mZ M → b ≠ c + 258 + k → mR M' b = mR M b := fun b h1 h2 => by
      rw [eR]
      funext j
      show (if b = c + 258 + k ∧ j = 0 then _ else if b = mZ M then none else mR M b j) = _
      rw [if_neg (by omega), if_neg h1]
    have gN : ∀ b, b ≠ mZ M → b ≠ c + 258 + k → N' b = N b := fun b h1 h2 => by
      rw [← hN', upb h2]
      funext j
      exact if_neg h1
    have gL : ∀ b, b ≠ mZ M → mL M' b = mL M b := fun b h1 => by
      rw [eL]
      funext j
      exact if_neg h1
    have gi : mR M' (c + 258 + k) 0 = some (mZ M) := by rw [eR]; exact if_pos ⟨rfl, rfl⟩
    have hC2 : CL M' c := hR.cl.agY (fun b x y => gK b (by omega)) (fun b x y z => gR b (by omega) (by omega)) eT
    have hKz : mK M' (mZ M) = some (.inr (tyk so, n)) := by rw [eK]; exact if_pos rfl
    have gZ : ∀ i, N' (mZ M) i = 0 := fun i => by
      rw [← hN', upb (by omega)]
      exact if_pos rfl
    have hR2 : CR M' N' c (stY S k (so, n, fun _ => 0)) := by
      refine hR.setY (A := mZ M) (by omega) hC2 ⟨by omega, fun b hb => by rw [gK b (by omega)]; exact hz2 b (by omega)⟩ (fun b d hd => by rw [gK b (fun e => by rw [e, hkz] at hd; cases hd)]; exact hd) (fun b h1 h2 => gR b (fun e => by rcases h2 with h2 | h2; exact h2 (by rw [e]; exact hkz); omega) h1) ⟨hz1, (by rw [hkz]; exact fun x => (nomatch x)), fun t' h1 h2 h3 => ?_⟩ gN gL ?_ gi
      · have := hR.2.2.2.1.1 t' h1
        cases e3 : S.2.2.1 t' with
        | none => rw [e3] at this; rw [this.1] at h3; cases h3
        | some r =>
          rw [e3] at this
          obtain ⟨_, _, _, ⟨a, a1, a2, a3⟩, _⟩ := this
          rw [h3] at a1
          cases a1
          rcases a3 with ⟨_, q, _⟩ | ⟨_, q, _⟩ | ⟨_, q, _⟩ | ⟨_, q, _⟩ <;> (rw [hkz] at q; cases q)
      · have y1 : N' (c + 258 + k) 1 = so := by rw [← hN']; exact upv
        refine ⟨y1, by show so ≤ 3; omega, by show n ≤ 60; omega, ⟨mZ M, gi, by show n ≤ 100000; omega, ?_⟩, fun a e => by rw [gi] at e; cases e; exact hz1⟩
        rw [y1, hKz]
        have hv : ∀ i, i < n → N' (mZ M) i = 0 ∧ zR 0 := fun i _ => ⟨gZ i, ⟨by decide, by decide⟩⟩
        have : so = 0 ∨ so = 1 ∨ so = 2 ∨ so = 3 := by omega
        rcases this with rfl | rfl | rfl | rfl
        · exact Or.inl ⟨rfl, rfl, hv⟩
        · exact Or.inr (Or.inl ⟨rfl, rfl, hv⟩)
        · exact Or.inr (Or.inr (Or.inl ⟨rfl, rfl, hv⟩))
        · refine Or.inr (Or.inr (Or.inr ⟨rfl, rfl, fun i _ => ⟨?_, ⟨by show -9223372036854775808 ≤ (0 : Int); decide, by show (0 : Int) < 9223372036854775808; decide⟩⟩⟩))
          rw [eL]
          exact if_pos rfl
    have hF2 : CFm c M N M' N' := CFm.setY (t := k) (A := mZ M) (by omega) hz1 (fun b hb => gK b (by omega)) (fun b h1 h2 => gR b (by omega) h1) gN gL eT ⟨by omega, by omega⟩
    refine w_is0k hC2 ⟨by omega, by omega⟩ ?_
    rw [if_pos rfl]
    exact w_rze (Or.inr rfl) (h _ _ (hR2.st 0) (hF2.st 0))
end OPS30
