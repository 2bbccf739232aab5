/-! TEXTS: the component reads steps. -/
set_option maxRecDepth 100000
section RSC3
variable {α β τ : Type} {M M' M0 M1 : Mem} {N N' N0 N1 : NM} {c k e b d n i j q E0 A L o cnt wi : Nat} {z lo hi kd p s : Int} {t : Tx} {tk u u' : Tk} {E : Nat → Mem → NM → Prop} {Q : Nat → Mem → NM → Prop} {r r' : Nat → Int} {ad ad' op : Nat → Nat} {F F' : Nat → Nat → Int}
/-- what is old stays, when a script is read -/
def SF (c E0 : Nat) (M0 : Mem) (N0 : NM) (M : Mem) (N : NM) : Prop := E0 ≤ mZ M ∧ (∀ b, mZ M ≤ b → mK M b = none) ∧ (∀ b, b < E0 → mK M b = mK M0 b ∧ mL M b = mL M0 b ∧ (b ≠ c + 2 → mR M b = mR M0 b)) ∧ (∀ b, b < E0 → b ≠ c + 2 → b ≠ c + 3 → b ≠ c + 5 → N b = N0 b) ∧ N (c + 2) 9 = N0 (c + 2) 9 ∧ mT M = mT M0 ∧ CL M c
/-- the reader of a script -/
def SS (c E0 : Nat) (M0 : Mem) (N0 : NM) (M : Mem) (N : NM) (t : Tx) (u : Tk) (cnt A : Nat) (ad : Nat → Nat) (L o : Nat) (op : Nat → Nat) (F : Nat → Nat → Int) : Prop :=
  SF c E0 M0 N0 M N ∧ CRd N c t u ∧ (N (c + 2) 10 = L ∧ N (c + 2) 11 = cnt ∧ N (c + 2) 12 = o ∧ ∀ k, k < o → N (c + 5) k = op k) ∧ (mR M (c + 2) 13 = some A ∧ mK M A = some (.inr (11, 60)) ∧ E0 ≤ A) ∧
  (∀ i, i < L → mR M A i = some (ad i) ∧ E0 ≤ ad i ∧ mK M (ad i) = some (.inl 8) ∧ ∀ k, k < 7 → N (ad i) k = F i k) ∧ (∀ i j, i < L → j < L → ad i = ad j → i = j) ∧ (61 ≤ mC M + L ∧ 540 ≤ mS M + 8 * L) ∧ L + o ≤ 2 * cnt ∧ cnt ≤ 30 ∧ o ≤ 3
def ThX (c E0 : Nat) (M0 : Mem) (N0 : NM) (er : Er) (E : Nat → Mem → NM → Prop) : Prop := ∀ M' N', N' (c + 3) 6 = er.1 → N' (c + 3) 7 = er.2 → SF c E0 M0 N0 M' N' → E (c + 3) M' N'
theorem SF.th {er : Er} (h : SF c E0 M0 N0 M N) (hc : c + 1603 ≤ E0) (hT : ThC c er N N') : SF c E0 M0 N0 M N' := by
  obtain ⟨h1, h2, h3, h4, h5, h6, h7⟩ := h
  exact ⟨h1, h2, h3, fun b b1 b2 b3 b4 => (hT.2.2 b b3).trans (h4 b b1 b2 b3 b4), (by rw [hT.2.2 (c + 2) (by omega)]; exact h5), h6, h7⟩
theorem ThX.th {er : Er} (h : ThX c E0 M0 N0 er E) (hS : SF c E0 M0 N0 M N) (hc : c + 1603 ≤ E0) (hT : ThC c er N N') : E (c + 3) M N' := h M N' hT.1 hT.2.1 (hS.th hc hT)
theorem SF.fs (h : SF c E0 M0 N0 M N) (hF : FrS c q N N') (hq : E0 ≤ q) (hc : c + 1603 ≤ E0) : SF c E0 M0 N0 M N' := by
  obtain ⟨h1, h2, h3, h4, h5, h6, h7⟩ := h
  exact ⟨h1, h2, h3, fun b b1 b2 b3 b4 => (hF.1 b b2 (by omega)).trans (h4 b b1 b2 b3 b4), (hF.2 9 (by omega)).trans h5, h6, h7⟩
/-- a new step -/
def nwM (M : Mem) : Mem := jnewM (sB M 1 8) (.inl 8) 8
theorem SF.nw (h : SF c E0 M0 N0 M N) (hc : c + 1603 ≤ E0) : SF c E0 M0 N0 (nwM M) (upZ N (mZ M)) ∧ mK (nwM M) (mZ M) = some (.inl 8) ∧ ∀ b, b ≠ mZ M → mK (nwM M) b = mK M b ∧ mR (nwM M) b = mR M b := by
  obtain ⟨h1, h2, h3, h4, h5, h6, h7⟩ := h
  have hK : ∀ b, b ≠ mZ M → mK (nwM M) b = mK M b := fun b hb => if_neg hb
  have hR : ∀ b, b ≠ mZ M → mR (nwM M) b = mR M b := fun b hb => funext fun j => if_neg hb
  have hL : ∀ b, b ≠ mZ M → mL (nwM M) b = mL M b := fun b hb => funext fun j => if_neg hb
  have hN : ∀ b, b ≠ mZ M → upZ N (mZ M) b = N b := fun b hb => funext fun j => if_neg hb
  refine ⟨⟨by show E0 ≤ mZ M + 1; omega, fun b hb => ?_, fun b hb => ?_, fun b b1 b2 b3 b4 => ?_, ?_, h6, ?_⟩, if_pos rfl, fun b hb => ⟨hK b hb, hR b hb⟩⟩
  · have hb : mZ M + 1 ≤ b := hb
    rw [hK b (by omega)]
    exact h2 b (by omega)
  · rw [hK b (by omega), hR b (by omega), hL b (by omega)]
    exact h3 b hb
  · rw [hN b (by omega)]
    exact h4 b b1 b2 b3 b4
  · rw [hN _ (by omega)]; exact h5
  · exact h7.ag (fun b x y => ⟨hK b (by omega), hR b (by omega)⟩) rfl
theorem CRd.kk {v : Int} (h : CRd N c t tk) (hk : 5 < k) : CRd (up2 N (c + 2) k v) c t tk := by
  obtain ⟨⟨a1, a2, a3⟩, b2, b3, b4, b5, b6⟩ := h
  exact ⟨⟨by rw [upk (by omega)]; exact a1, a2, fun i hi => by rw [upb (show c + 4 ≠ c + 2 by omega)]; exact a3 i hi⟩, b2, by rw [upk (by omega)]; exact b3, by rw [upk (by omega)]; exact b4, by rw [upk (by omega)]; exact b5, fun x => by rw [upk (by omega)]; exact b6 x⟩
theorem CRd.bb {v : Int} {a : Nat} (h : CRd N c t tk) (h1 : a ≠ c + 2) (h2 : a ≠ c + 4) : CRd (up2 N a k v) c t tk := by
  obtain ⟨⟨a1, a2, a3⟩, b2, b3, b4, b5, b6⟩ := h
  have e1 : up2 N a k v (c + 2) = N (c + 2) := upb (fun e => h1 e.symm)
  have e2 : up2 N a k v (c + 4) = N (c + 4) := upb (fun e => h2 e.symm)
  exact ⟨⟨by rw [e1]; exact a1, a2, by rw [e2]; exact a3⟩, b2, by rw [e1]; exact b3, by rw [e1]; exact b4, by rw [e1]; exact b5, by rw [e1]; exact b6⟩
theorem upb' {α : Type} {R : Nat → Nat → α} {a b k : Nat} {v : α} (h : b ≠ a) : up2 R a k v b = R b := funext fun _ => if_neg (fun e => h e.1)
theorem w_asta {a v l : Nat} {f : Unit → JM Mem τ} {Q : τ → Mem → NM → Prop} (hK : mK M a = some (.inr (11, n))) (hr : l < n) (hn : n ≤ 100) (hv : mK M v = some (.inl 8)) (h : GN (sR M (up2 (mR M) a l (some v))) N (f ()) Q) : GN M N (jb (jast_a 11 8 a (zI l) v) f) Q := by
  refine go_jb ?_
  unfold jast_a
  refine go_ast (M := sN M N) hK hr (by omega) (by show decide (mK M v = some (.inl 8)) = true; rw [hv]; exact decide_eq_true rfl) ?_
  rw [zI_nat (by omega)]
  exact h
/-- the head of the loop -/
noncomputable def hdS (c : Nat) : JM Mem Nat := jloop (fun _ => X2_script_L29 (c + 2)) ()
/-- a step in the loop -/
theorem g_head {u : Tk} (hS : SS c E0 M0 N0 M N t u cnt A ad L o op F) (h0 : u.2.2.1 ≠ 0) (h : GE (sB M 1 8) N (f_X2_step (c + 2)) (fun _ B N' => GE (sB B (mC M - 1) (mS M - 8)) N' (hdS c) Q E) (fun w B N' => E w (sB B (mC M - 1) (mS M - 8)) N')) : GE M N (hdS c) Q E := by
  have hr := hS.1.2.2.2.2.2.2.rd.1
  have hs := hS.2.1.2.1.2.2.1
  have e2 := hS.2.1.2.2.1
  obtain ⟨r1, r2⟩ := hS.2.2.2.2.2.2.1
  obtain ⟨r3, r4, r5⟩ := hS.2.2.2.2.2.2.2
  refine ge_unroll ?_
  unfold X2_script_L29
  refine ge_p (w_getI hr (w_jp ?_))
  rw [e2, z_0]
  refine ge_eq ⟨by omega, by omega⟩ ⟨by omega, by omega⟩ (fun q => absurd q (by omega)) (fun _ => ?_)
  refine ge_b (ge_calle hr (ge_pay ⟨by omega, by omega⟩ (ge_mono h (fun v B N' hh => ge_cont hh) (fun w B N' hh => hh))))
/-- the end of a step that is read: it is put behind the others -/
theorem g_b374 {kz s : Int} (hc : c + 1603 ≤ E0) (hS : SS c E0 M0 N0 M N t u cnt A ad L o op F) (hL : L < 60) (hq : q = mZ M)
    {o' : Nat} {op' : Nat → Nat} (hF1 : SF c E0 M0 N0 (nwM M) N1) (hx : CRd N1 c t u') (hz : zR kz) (hks : kz = 15 ∧ s = 0 ∨ kz ≠ 15 ∧ s = 1) (f10 : N1 (c + 2) 10 = L) (f11 : N1 (c + 2) 11 = cnt) (f12 : N1 (c + 2) 12 = o') (f5 : ∀ k, k < o' → N1 (c + 5) k = op' k)
    (fq : ∀ i, i < L → ∀ k, k < 7 → N1 (ad i) k = F' i k) (fn : ∀ k, k < 7 → N1 q k = F' L k) (hb : L + 1 + o' ≤ 2 * (cnt + s.toNat) ∧ cnt + s.toNat ≤ 30 ∧ o' ≤ 3)
    (h : ∀ M' N', SS c E0 M0 N0 (sB M' (mC M - 1) (mS M - 8)) N' t u' (cnt + s.toNat) A (fun i => if i = L then q else ad i) (L + 1) o' op' F' → GE (sB M' (mC M - 1) (mS M - 8)) N' (hdS c) Q E) :
    GE (nwM M) N1 (X2_step_b374 (c + 2) (zI kz) q) (fun _ B N' => GE (sB B (mC M - 1) (mS M - 8)) N' (hdS c) Q E) (fun w B N' => E w (sB B (mC M - 1) (mS M - 8)) N') := by
  obtain ⟨s1, s2, s3, ⟨a1, a2, a3⟩, s5, s6, ⟨s7, s7b⟩, s8⟩ := hS
  have hE0 := s1.1
  obtain ⟨_, nK, nO⟩ := s1.nw hc
  have hz0 := s1.2.1 (mZ M) (Nat.le_refl _)
  have hAz : A ≠ mZ M := fun e => by rw [e, hz0] at a2; cases a2
  have hCL := hF1.2.2.2.2.2.2
  have hr := hCL.rd.1
  have kA : mK (nwM M) A = some (.inr (11, 60)) := (nO A hAz).1.trans a2
  have rA : mR (nwM M) (c + 2) 13 = some A := by rw [(nO (c + 2) (by omega)).2]; exact a1
  subst hq
  unfold X2_step_b374
  refine ge_p (w_getI hr (w_jp ?_))
  rw [f11, z_15, z_0, z_1]
  have fin : ∀ s : Int, (kz = 15 ∧ s = 0 ∨ kz ≠ 15 ∧ s = 1) → L + 1 + o' ≤ 2 * (cnt + s.toNat) ∧ cnt + s.toNat ≤ 30 ∧ o' ≤ 3 → (∀ M' N', SS c E0 M0 N0 (sB M' (mC M - 1) (mS M - 8)) N' t u' (cnt + s.toNat) A (fun i => if i = L then mZ M else ad i) (L + 1) o' op' F' → GE (sB M' (mC M - 1) (mS M - 8)) N' (hdS c) Q E) → GE (nwM M) N1 (X2_step_b390 (c + 2) (mZ M) (c + 2) (zI (cnt : Nat)) (zI s)) (fun _ B N' => GE (sB B (mC M - 1) (mS M - 8)) N' (hdS c) Q E) (fun w B N' => E w (sB B (mC M - 1) (mS M - 8)) N') := fun s hks hb h => by
    unfold X2_step_b390
    rw [zI_add, show ((cnt : Int) + s) = ((cnt + s.toNat : Nat) : Int) by omega, z_1]
    refine ge_p (w_putI hr (w_jp ?_))
    refine ge_p (w_getA hr rA (w_jp ?_))
    refine ge_p (w_getI hr (w_jp ?_))
    rw [upk (by omega), f10]
    refine ge_p (w_asta kA hL (by omega) nK (w_jp ?_))
    have hr2 : mK (sR (nwM M) (up2 (mR (nwM M)) A L (some (mZ M)))) (c + 2) = some (.inl 1) := hr
    refine ge_p (w_getI hr2 (w_jp ?_))
    rw [upk (by omega), f10, zI_add, show ((L : Int) + 1) = ((L + 1 : Nat) : Int) by omega]
    refine ge_p (w_putI hr2 (w_jp (ge_jp (h _ _ ?_))))
    obtain ⟨g1, g2, g3, g4, g5, g6, g7⟩ := hF1
    have eo : ∀ b, b ≠ c + 2 → up2 (up2 N1 (c + 2) 11 ((cnt + s.toNat : Nat) : Int)) (c + 2) 10 ((L + 1 : Nat) : Int) b = N1 b := fun b hb => by rw [upb hb, upb hb]
    have ek : ∀ k, k ≠ 10 → k ≠ 11 → up2 (up2 N1 (c + 2) 11 ((cnt + s.toNat : Nat) : Int)) (c + 2) 10 ((L + 1 : Nat) : Int) (c + 2) k = N1 (c + 2) k := fun k k1 k2 => by rw [upk k1, upk k2]
    have eR : ∀ b, b ≠ A → up2 (mR (nwM M)) A L (some (mZ M)) b = mR (nwM M) b := fun b hb => upb' hb
    refine ⟨⟨g1, g2, fun b hb => ?_, fun b b1 b2 b3 b4 => (eo b b2).trans (g4 b b1 b2 b3 b4), (ek 9 (by omega) (by omega)).trans g5, g6, ?_⟩, (hx.kk (by omega)).kk (by omega), ⟨?_, ?_, (ek 12 (by omega) (by omega)).trans f12, fun k hk => by rw [eo (c + 5) (by omega)]; exact f5 k hk⟩, ⟨?_, kA, a3⟩, fun i hi => ?_, fun i j hi hj e => ?_, ⟨by show 61 ≤ mC M - 1 + (L + 1); omega, by show 540 ≤ mS M - 8 + 8 * (L + 1); omega⟩, hb⟩
    · obtain ⟨k1, k2, k3⟩ := g3 b hb
      exact ⟨k1, k2, fun hb2 => by
        show up2 (mR (nwM M)) A L (some (mZ M)) b = _
        rw [eR b (by omega)]
        exact k3 hb2⟩
    · exact g7.ag (fun b x y => ⟨rfl, eR b (by omega)⟩) rfl
    · rw [upv]
    · rw [upk (by omega), upv]
    · show up2 (mR (nwM M)) A L (some (mZ M)) (c + 2) 13 = some A
      rw [eR (c + 2) (by omega)]
      exact rA
    · by_cases e : i = L
      · have ei : (fun i => if i = L then mZ M else ad i) i = mZ M := if_pos e
        rw [ei]
        refine ⟨if_pos ⟨rfl, e⟩, hE0, nK, fun k hk => ?_⟩
        rw [eo _ (by omega), e]
        exact fn k hk
      · have ei : (fun i => if i = L then mZ M else ad i) i = ad i := if_neg e
        rw [ei]
        obtain ⟨k1, k2, k3, k4⟩ := s5 i (by omega)
        have hne : ad i ≠ mZ M := fun e => by rw [e, hz0] at k3; cases k3
        refine ⟨?_, k2, (nO _ hne).1.trans k3, fun k hk => ?_⟩
        · show up2 (mR (nwM M)) A L (some (mZ M)) A i = some (ad i)
          rw [show up2 (mR (nwM M)) A L (some (mZ M)) A i = mR (nwM M) A i from if_neg (fun x => e x.2), (nO A hAz).2]
          exact k1
        · rw [eo _ (by omega)]
          exact fq i (by omega) k hk
    · have e : (if i = L then mZ M else ad i) = (if j = L then mZ M else ad j) := e
      have hne : ∀ i, i < L → ad i ≠ mZ M := fun i hi e => by
        have := (s5 i hi).2.2.1
        rw [e, hz0] at this
        cases this
      by_cases e1 : i = L
      · by_cases e2 : j = L
        · omega
        · rw [if_pos e1, if_neg e2] at e
          exact absurd e.symm (hne j (by omega))
      · by_cases e2 : j = L
        · rw [if_neg e1, if_pos e2] at e
          exact absurd e (hne i (by omega))
        · rw [if_neg e1, if_neg e2] at e
          exact s6 i j (by omega) (by omega) e
  refine ge_eq hz ⟨by omega, by omega⟩ (fun e => ?_) (fun e => ?_)
  · obtain rfl : s = 0 := by omega
    exact fin 0 (Or.inl ⟨e, rfl⟩) hb h
  · obtain rfl : s = 1 := by omega
    exact fin 1 (Or.inr ⟨e, rfl⟩) hb h
end RSC3
