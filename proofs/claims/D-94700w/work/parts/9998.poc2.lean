/-! POUR, the component's op. -/
set_option maxRecDepth 100000
section POC2
variable {τ : Type} {M M' : Mem} {N N' N1 : NM} {c n k A B : Nat} {S S' : St} {t u i j z : Int} {r r' : Try}
theorem rwk_lt {so : Nat} : rwk so < 4 := by
  unfold rwk
  split
  · omega
  · split
    · omega
    · split <;> omega
theorem c_pour {f : Int32 → JM Mem τ} {Q : τ → Mem → NM → Prop} (hR : CR M N c S) (hY : TyA S.2.2.1) (ht : zR t) (hi : zR i) (hu : zR u) (hj : zR j) (hz : zR z) (hC : 10 ≤ mC M ∧ 1300 ≤ mS M) (h : cPost M N c (a_pour S t i u j z).1 (f (zI (a_pour S t i u j z).2)) Q) : GN M N (jb (jcall 0 c (f_X0_pour c (zI t) (zI i) (zI u) (zI j) (zI z))) f) Q := by
  refine w_Cc hR.cl ?_
  unfold f_X0_pour X0_pour_b80 X0_pour_is
  rw [z_0, z_1, z_3, show (11 : Int32) = zI 11 from rfl]
  have hF0 : CFm c M N M N := CFm.of (Bg.rf hR.cl) CFr.rf
  have ha : ∀ v, whyP S t i u j z = v → v ≠ 0 → a_pour S t i u j z = (stU S 0 v, 0) := fun v e e0 => by
    unfold a_pour
    rw [if_neg (by rw [e]; exact e0), e]
  have no : ∀ v, zR v → whyP S t i u j z = v → v ≠ 0 → GN M N (jb (jcall 0 c (jkeep (f_X0_is0 c (zI v)))) fun y => jrz y) (fun v M1 N1 => GN M1 N1 (f v) Q) := fun v hv e e0 => by
    rw [ha v e e0] at h
    refine w_is0k hR.cl hv ?_
    rw [if_neg e0]
    exact w_rze (Or.inl rfl) (c_fin0 hR h)
  have noB : ∀ zz cc ss v, cc ≤ 64 → ss ≤ 1300 → zR v → whyP S t i u j z = v → v ≠ 0 → GN (jbumpM M zz cc ss) N (jb (jcall 0 c (jkeep (f_X0_is0 c (zI v)))) fun y => jrz y) (fun v M1 N1 => GN M1 N1 (f v) Q) := fun zz cc ss v h1 h2 hv e e0 => by
    rw [ha v e e0] at h
    have q := hR.bump (zz := zz) (cc := cc) (ss := ss)
    refine w_is0k q.cl hv ?_
    rw [if_neg e0]
    exact w_rze (Or.inl rfl) (h _ _ (q.st v) ((hF0.bmp h1 h2).st v))
  refine w_isTrayk ht ?_
  by_cases et : 0 ≤ t ∧ t < 4
  case neg =>
    rw [if_neg et]
    exact w_eq ⟨by omega, by omega⟩ ⟨by omega, by omega⟩ (fun _ => no 1 ⟨by omega, by omega⟩ (if_neg (by omega)) (by decide)) (fun x => absurd rfl x)
  rw [if_pos et]
  refine w_eq ⟨by omega, by omega⟩ ⟨by omega, by omega⟩ (fun x => absurd x (by decide)) (fun _ => ?_)
  refine w_isTrayk hu ?_
  by_cases eu : 0 ≤ u ∧ u < 4
  case neg =>
    rw [if_neg eu]
    exact w_eq ⟨by omega, by omega⟩ ⟨by omega, by omega⟩ (fun _ => no 1 ⟨by omega, by omega⟩ (if_neg (by omega)) (by decide)) (fun x => absurd rfl x)
  rw [if_pos eu]
  refine w_eq ⟨by omega, by omega⟩ ⟨by omega, by omega⟩ (fun x => absurd x (by decide)) (fun _ => ?_)
  have hin : 0 ≤ t ∧ t < 4 ∧ 0 ≤ u ∧ u < 4 := by omega
  obtain ⟨t, rfl⟩ : ∃ k : Nat, t = k := ⟨t.toNat, by omega⟩
  obtain ⟨u, rfl⟩ : ∃ k : Nat, u = k := ⟨u.toNat, by omega⟩
  obtain ⟨tr1, tr2⟩ := hR.cl.tr (k := t) (by omega)
  obtain ⟨ur1, ur2⟩ := hR.cl.tr (k := u) (by omega)
  have k1 := hR.cl.ka (o := 1) (d := (9, 4)) rfl
  refine w_Cf hR.cl rfl (w_aldA k1 (by omega) (by omega) tr1 (w_getO tr2 ?_))
  refine w_Cf hR.cl rfl (w_aldA k1 (by omega) (by omega) ur1 (w_getO ur2 ?_))
  have hT := hR.2.2.2.1.1 t (by omega)
  have hU := hR.2.2.2.1.1 u (by omega)
  have hwhy : whyP S t i u j z = (match S.2.2.1 t, S.2.2.1 u with
    | some r, some r' => if r.1 ≠ r'.1 then 11 else if z < 0 then 6 else if i < 0 ∨ j < 0 ∨ (r.2.1 : Int) < i + z ∨ (r'.2.1 : Int) < j + z then 4 else 0
    | _, _ => 3) := if_pos hin
  have hpour : whyP S t i u j z = 0 → a_pour S t i u j z = (match S.2.2.1 t, S.2.2.1 u with
    | some r, some r' => (stU (stY S u (pourV r r' i.toNat j.toNat z.toNat)) 0 0, 1)
    | _, _ => (S, 0)) := fun e => if_pos e
  cases eT : S.2.2.1 t with
  | none =>
    rw [eT] at hT hwhy
    rw [show mR M (c + 258 + t) 0 = none from hT.1, if_pos rfl, if_pos (Or.inl rfl)]
    exact w_pure (w_bump ⟨by omega, by omega⟩ (noB 1 1 8 3 (by omega) (by omega) ⟨by omega, by omega⟩ hwhy (by decide)))
  | some r =>
    have hYr := hY t r (by omega) eT
    rw [eT] at hT hwhy hpour
    obtain ⟨_, _, _, ⟨A, hA, _, _⟩, _⟩ := id hT
    obtain ⟨rk1, rk2, rk3, rk4⟩ := hT.row hA
    have hs : r.1 ≤ 3 := hT.2.1
    have hl : r.2.1 ≤ 60 := hT.2.2.1
    rw [hA, if_neg (fun x => nomatch x)]
    cases eU : S.2.2.1 u with
    | none =>
      rw [eU] at hU hwhy
      rw [show mR M (c + 258 + u) 0 = none from hU.1, if_pos rfl, if_pos (Or.inr rfl)]
      exact w_pure (w_bump ⟨by omega, by omega⟩ (noB 1 1 8 3 (by omega) (by omega) ⟨by omega, by omega⟩ hwhy (by decide)))
    | some r' =>
      rw [eU] at hU hwhy hpour
      obtain ⟨_, _, _, ⟨B, hB, _, _⟩, _⟩ := id hU
      obtain ⟨sk1, sk2, sk3, sk4⟩ := hU.row hB
      have hl2 : r'.2.1 ≤ 60 := hU.2.2.1
      have hs2 : r'.1 ≤ 3 := hU.2.1
      have hwhy : whyP S t i u j z = if r.1 ≠ r'.1 then 11 else if z < 0 then 6 else if i < 0 ∨ j < 0 ∨ (r.2.1 : Int) < i + z ∨ (r'.2.1 : Int) < j + z then 4 else 0 := hwhy
      have hpour : whyP S t i u j z = 0 → a_pour S t i u j z = (stU (stY S u (pourV r r' i.toNat j.toNat z.toNat)) 0 0, 1) := hpour
      rw [hB, if_neg (fun x => nomatch x)]
      refine w_Cf hR.cl rfl (w_aldA k1 (by omega) (by omega) tr1 (w_getI tr2 ?_))
      refine w_Cf hR.cl rfl (w_aldA k1 (by omega) (by omega) ur1 (w_getI ur2 ?_))
      rw [show N (c + 258 + t) 1 = r.1 from hT.1, show N (c + 258 + u) 1 = r'.1 from hU.1]
      refine w_eq ⟨by omega, by omega⟩ ⟨by omega, by omega⟩ (fun e5 => ?_) (fun e => no 11 ⟨by omega, by omega⟩ (by rw [hwhy, if_pos (by omega)]) (by decide))
      have e5 : r.1 = r'.1 := by omega
      rw [if_neg (by omega)] at hwhy
      rw [if_neg (fun x => x.elim (fun y => nomatch y) (fun y => nomatch y))]
      show GN M N (X0_pour_cp c (zI i) (zI j) (zI z) A B) (fun v M1 N1 => GN M1 N1 (f v) Q)
      unfold X0_pour_cp X0_pour_is
      rw [z_0, show (4 : Int32) = zI 4 from rfl, show (6 : Int32) = zI 6 from rfl]
      refine w_pure ?_
      by_cases hbad : i < 0 ∨ j < 0 ∨ z < 0 ∨ (r.2.1 : Int) < i + z ∨ (r'.2.1 : Int) < j + z
      · have hb : cpBad A (zI i) B (zI j) (zI z) (sN M N) := ⟨rwk r.1, r.2.1, r'.2.1, rk1, by rw [e5]; exact sk1, rwk_lt, by omega, by omega, by rw [zI_to hi, zI_to hj, zI_to hz]; omega⟩
        rw [show jcpk A (zI i) B (zI j) (zI z) (sN M N) = 4 from if_pos hb, if_pos rfl]
        refine w_guard hb (w_pure (w_bump ⟨by omega, by omega⟩ ?_))
        refine w_le ⟨by omega, by omega⟩ hz (fun e => ?_) (fun e => ?_)
        · exact noB 3 3 610 4 (by omega) (by omega) ⟨by omega, by omega⟩ (by rw [hwhy, if_neg (by omega), if_pos (by omega)]) (by decide)
        · exact noB 3 3 610 6 (by omega) (by omega) ⟨by omega, by omega⟩ (by rw [hwhy, if_pos (by omega)]) (by decide)
      · have hg : ¬ cpBad A (zI i) B (zI j) (zI z) (sN M N) := by
          rintro ⟨t', n0, n1, q1, q2, _, _, _, hb⟩
          have q1 : mK M A = some (.inr (t', n0)) := q1
          have q2 : mK M B = some (.inr (t', n1)) := q2
          have a1 : r.2.1 = n0 := (Prod.mk.inj (Sum.inr.inj (Option.some.inj (rk1.symm.trans q1)))).2
          have a2 : r'.2.1 = n1 := (Prod.mk.inj (Sum.inr.inj (Option.some.inj (sk1.symm.trans q2)))).2
          rw [zI_to hi, zI_to hj, zI_to hz] at hb
          omega
        have hk : jcpk A (zI i) B (zI j) (zI z) (sN M N) = rwk r.1 := by
          unfold jcpk
          rw [if_neg hg]
          unfold jkd
          rw [show mK (sN M N) A = some (.inr (rwk r.1, r.2.1)) from rk1]
        rw [hk]
        rw [if_neg (by omega), if_neg (by omega)] at hwhy
        rw [hpour hwhy] at h
        obtain ⟨i, rfl⟩ : ∃ k : Nat, i = k := ⟨i.toNat, by omega⟩
        obtain ⟨j, rfl⟩ : ∃ k : Nat, j = k := ⟨j.toNat, by omega⟩
        obtain ⟨z, rfl⟩ : ∃ k : Nat, z = k := ⟨z.toNat, by omega⟩
        rw [show ((i : Int).toNat) = i from rfl, show ((j : Int).toNat) = j from rfl, show ((z : Int).toNat) = z from rfl] at h
        have fin : ∀ (L' : Nat → Nat → Int64) (N' : NM), (∀ b, b ≠ B → N' b = N b) → (∀ b, b ≠ B → L' b = mL M b) → TrR (sL M L') N' (c + 258 + u) r'.2.1 (pourV r r' i j z).2.2 → GN (sL M L') N' (jb (jcall 0 c (jkeep (f_X0_is0 c (zI 0)))) fun v4 => jrz v4) (fun v M1 N1 => GN M1 N1 (f v) Q) := fun L' N' h1 h2 h3 => by
          have hq := hR.poY (t := u) (r' := pourV r r' i j z) (by omega) eU ⟨rfl, rfl⟩ hB h1 h2 h3
          refine w_is0k hq.cl ⟨by omega, by omega⟩ ?_
          rw [if_pos rfl]
          exact w_rze (Or.inr rfl) (h _ _ (hq.st 0) ((hF0.wrY (t := u) sk2 h1 h2).st 0))
        by_cases e3 : r.1 = 3
        · have ek : rwk r.1 = 3 := by rw [e3]; rfl
          have ek' : rwk r'.1 = 3 := by rw [← e5]; exact ek
          rw [ek] at rk1 ⊢
          rw [ek'] at sk1
          rw [if_neg (by decide), if_pos rfl]
          refine w_cpL rk1 sk1 ⟨by omega, by omega⟩ ⟨by omega, by omega⟩ ?_
          refine fin _ N (fun _ _ => rfl) (fun b hb => funext fun q => if_neg (fun x => hb x.1)) ⟨B, hB, by omega, Or.inr (Or.inr (Or.inr ⟨?_, sk1, fun k hk => ?_⟩))⟩
          · rw [show N (c + 258 + u) 1 = r'.1 from hU.1, ← e5, e3]; rfl
          · show (if B = B ∧ j ≤ k ∧ k < j + z then mL M A (i + (k - j)) else mL M B k) = zL (if j ≤ k ∧ k < j + z then r.2.2 (i + (k - j)) else r'.2.2 k) ∧ zRL (if j ≤ k ∧ k < j + z then r.2.2 (i + (k - j)) else r'.2.2 k)
            by_cases q : j ≤ k ∧ k < j + z
            · rw [if_pos ⟨rfl, q⟩, if_pos q]
              exact rk4 e3 _ (by omega)
            · rw [if_neg (fun x => q x.2), if_neg q]
              exact sk4 (by omega) _ hk
        · have hr2 : r.1 ≤ 2 := by omega
          have ek4 : rwk r.1 ≠ 4 := by have := rwk_lt (so := r.1); omega
          have ek3 : rwk r.1 ≠ 3 ∧ (rwk r.1 = 0 ∨ rwk r.1 = 1 ∨ rwk r.1 = 2) := by
            have : r.1 = 0 ∨ r.1 = 1 ∨ r.1 = 2 := by omega
            rcases this with e | e | e <;> (rw [e]; decide)
          rw [if_neg ek4, if_neg ek3.1, if_pos ek3.2]
          rw [← e5] at sk1
          refine w_cpI rk1 sk1 ⟨by omega, by omega⟩ ⟨by omega, by omega⟩ (fun k hk => ?_) ?_
          · obtain ⟨v1, v2⟩ := rk3 hr2 (i + k) (by omega)
            rw [v1]
            exact fits_r hr2 v2 (fun e => hYr.2.1 e _ (by omega)) (fun e => hYr.2.2 e _ (by omega))
          have vals : ∀ k, k < r'.2.1 → (if B = B ∧ j ≤ k ∧ k < j + z then N A (i + (k - j)) else N B k) = (if j ≤ k ∧ k < j + z then r.2.2 (i + (k - j)) else r'.2.2 k) ∧ zR (if j ≤ k ∧ k < j + z then r.2.2 (i + (k - j)) else r'.2.2 k) := fun k hk => by
            by_cases q : j ≤ k ∧ k < j + z
            · rw [if_pos ⟨rfl, q⟩, if_pos q]
              exact rk3 hr2 _ (by omega)
            · rw [if_neg (fun x => q x.2), if_neg q]
              exact sk3 (by omega) _ hk
          have sor : (fun c' k => if c' = B ∧ j ≤ k ∧ k < j + z then N A (i + (k - j)) else N c' k : NM) (c + 258 + u) 1 = r.1 := by
            show (if c + 258 + u = B ∧ _ then _ else N (c + 258 + u) 1) = _
            rw [if_neg (fun x => by omega), show N (c + 258 + u) 1 = r'.1 from hU.1, e5]
          refine fin (mL M) _ (fun b hb => funext fun q => if_neg (fun x => hb x.1)) (fun _ _ => rfl) ⟨B, hB, by omega, ?_⟩
          have : r.1 = 0 ∨ r.1 = 1 ∨ r.1 = 2 := by omega
          rcases this with e | e | e
          · exact Or.inl ⟨by rw [sor, e]; rfl, by rw [e] at sk1; exact sk1, vals⟩
          · exact Or.inr (Or.inl ⟨by rw [sor, e]; rfl, by rw [e] at sk1; exact sk1, vals⟩)
          · exact Or.inr (Or.inr (Or.inl ⟨by rw [sor, e]; rfl, by rw [e] at sk1; exact sk1, vals⟩))
end POC2
