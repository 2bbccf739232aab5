/-! OPS, part 31: read, write of trays, the component's. -/
set_option maxRecDepth 100000
section OPS31
variable {α τ ρ : Type} {M M' M1 M2 : Mem} {N N' N1 : NM} {c m i j q n A : Nat} {u v s z a b d e t k : Int} {S S' : St} {x : Int64} {r : Try}
theorem w_asts {a n : Nat} {z : Int} {x : Int32} {f : Unit → JM Mem τ} {Q : τ → Mem → NM → Prop} (hK : mK M a = some (.inr (2, n))) (hz : 0 ≤ z ∧ z < n) (hn : n ≤ 100000) (h : GN M (up2 N a z.toNat x.toInt16.toInt32.toInt) (f ()) Q) : GN M N (jb (jast_s a (zI z) x) f) Q := by
  have e := zI_toN hz.1
  generalize z.toNat = k at e h
  subst e
  refine go_jb ?_
  unfold jast_s
  refine go_ast (M := sN M N) hK (by omega) hn rfl ?_
  have e2 : x.toInt16.toInt32 = zI x.toInt16.toInt32.toInt := (zI_of _).symm
  rw [zI_nat (by omega), e2, sN_up]
  exact h
theorem CFm.bmp {zz cc ss : Nat} (h : CFm c M N M N') (hc : cc ≤ 64) (hs : ss ≤ 1300) : CFm c M N (jbumpM M zz cc ss) N' := ⟨h.1, rfl, by show mC M ≤ mC M - cc + 64; omega, by show mS M ≤ mS M - ss + 1300; omega⟩
/-- where a tray's number is missing -/
theorem tr_place (hR : CR M N c S) (ht : i < 4) : (plc S i k = 3 ∧ S.2.2.1 i = none ∧ mR M (c + 258 + i) 0 = none ∧ N (c + 258 + i) 1 = 0) ∨ ∃ r, S.2.2.1 i = some r ∧ TyC M N (c + 1603) (c + 258 + i) (some r) ∧ (plc S i k = 0 ∧ 0 ≤ k ∧ k < r.2.1 ∨ plc S i k = 4 ∧ ¬ (0 ≤ k ∧ k < r.2.1)) := by
  have hy := hR.2.2.2.1.1 i (by omega)
  have e0 : plc S i k = (match S.2.2.1 i with | none => 3 | some r => if 0 ≤ k ∧ k < r.2.1 then 0 else 4) := if_pos ⟨by omega, by omega⟩
  cases e : S.2.2.1 i with
  | none =>
    rw [e] at hy e0
    exact Or.inl ⟨e0, rfl, hy.1, hy.2⟩
  | some r =>
    rw [e] at hy e0
    refine Or.inr ⟨r, rfl, hy, ?_⟩
    have e0 : plc S i k = if 0 ≤ k ∧ k < r.2.1 then 0 else 4 := e0
    by_cases h : 0 ≤ k ∧ k < r.2.1
    · exact Or.inl ⟨e0.trans (if_pos h), h⟩
    · exact Or.inr ⟨e0.trans (if_neg h), h⟩
theorem row_k {T : Nat} {e : Nat} (h : TyC M N e T (some r)) (hk : zR k) : jrowk T (zI k) (sN M N) = if 0 ≤ k ∧ k < r.2.1 then 0 else 2 := by
  obtain ⟨_, _, hl, ⟨a, a1, a2, a3⟩, _⟩ := h
  have hm : ∃ ty, mK M a = some (.inr (ty, r.2.1)) := by
    rcases a3 with ⟨_, h, _⟩ | ⟨_, h, _⟩ | ⟨_, h, _⟩ | ⟨_, h, _⟩ <;> exact ⟨_, h⟩
  obtain ⟨ty, hm⟩ := hm
  unfold jrowk
  rw [show mR (sN M N) T 0 = some a from a1]
  show (match mK (sN M N) a with | some (.inr (_, n)) => if 0 ≤ (zI k).toInt ∧ (zI k).toInt < (n : Int) then 0 else 2 | _ => 0) = _
  rw [show mK (sN M N) a = _ from hm, zI_to hk]
theorem row_n {T : Nat} (h : mR M T 0 = none) : jrowk T (zI k) (sN M N) = 1 := by
  unfold jrowk
  rw [show mR (sN M N) T 0 = none from h]
theorem row_CX {T : Nat} {e : Nat} (hT : mK M T = some (.inl 5)) (h : TyC M N e T (some r)) (hk : zR k) (hn : ¬ (0 ≤ k ∧ k < r.2.1)) : CX T (zI k) (sN M N) := by
  obtain ⟨_, _, hl, ⟨a, a1, a2, a3⟩, _⟩ := h
  have hv : ¬ vp_in (zI k) r.2.1 := fun x => by
    have := vp_in_iff.mp x
    rw [zI_to hk] at this
    exact hn this
  refine ⟨a, r.2.1, ?_⟩
  rcases a3 with ⟨s, h, _⟩ | ⟨s, h, _⟩ | ⟨s, h, _⟩ | ⟨s, h, _⟩
  · exact Or.inl ⟨hT, by show zI (N T 1) = 0; rw [s]; rfl, a1, h, by omega, hv⟩
  · exact Or.inr (Or.inl ⟨hT, by show zI (N T 1) = 1; rw [s]; rfl, a1, h, by omega, hv⟩)
  · exact Or.inr (Or.inr (Or.inl ⟨hT, by show zI (N T 1) = 2; rw [s]; rfl, a1, h, by omega, hv⟩))
  · exact Or.inr (Or.inr (Or.inr ⟨hT, by show zI (N T 1) = 3; rw [s]; rfl, a1, h, by omega, hv⟩))
theorem c_read {f : Int64 → JM Mem τ} {Q : τ → Mem → NM → Prop} (hR : CR M N c S) (ht : zR t) (hk : zR k) (hC : 10 ≤ mC M ∧ 1300 ≤ mS M) (h : cPost M N c (stU S 0 (a_read S t k).2) (f (zL (a_read S t k).1)) Q) : GN M N (jb (jcall 0 c (f_X0_read c (zI t) (zI k))) f) Q := by
  refine w_Cc hR.cl ?_
  unfold f_X0_read X0_read_b45
  rw [z_0, show (-1 : Int64) = zL (-1) from by decide, z_1, z_3, z_4]
  refine w_isTrayk ht ?_
  have hb : ∀ v, plc S t k = v → v ≠ 0 → a_read S t k = (-1, v) := fun v e1 e2 => by
    unfold a_read
    rw [if_neg (by rw [e1]; exact e2), e1]
  by_cases et : 0 ≤ t ∧ t < 4
  case neg =>
    rw [if_neg et]
    refine w_eq ⟨by omega, by omega⟩ ⟨by omega, by omega⟩ (fun e => ?_) (fun e => absurd rfl e)
    rw [hb 1 (if_neg et) (by decide)] at h
    refine w_Cc hR.cl (w_keep ?_)
    unfold f_X0_none
    refine w_Cput hR.cl ?_
    rw [z_m1]
    refine w_jp ?_
    rw [zL_int ⟨by omega, by omega⟩]
    exact w_jp (c_fin0 hR h)
  rw [if_pos et]
  refine w_eq ⟨by omega, by omega⟩ ⟨by omega, by omega⟩ (fun e => absurd e (by decide)) (fun _ => ?_)
  obtain ⟨k', rfl⟩ : ∃ k : Nat, t = k := ⟨t.toNat, by omega⟩
  obtain ⟨tr1, tr2⟩ := hR.cl.tr (k := k') (by omega)
  refine w_Cput hR.cl ?_
  have hR1 := hR.st 0
  have hF1 : CFm c M N M (up2 N c 8 0) := CFm.st (CFm.of (Bg.rf hR.cl) CFr.rf) 0
  refine w_Cf hR.cl rfl ?_
  refine w_aldA (hR.cl.ka (o := 1) (d := (9, 4)) rfl) (by omega) (by omega) tr1 ?_
  refine w_pure ?_
  generalize up2 N c 8 0 = N1 at *
  rcases tr_place (i := k') (k := k) hR1 (by omega) with ⟨p1, p2, p3, p4⟩ | ⟨r, p2, p3, p4⟩
  · rw [row_n p3]
    have p1 : plc S k' k = 3 := p1
    rw [hb 3 p1 (by decide)] at h
    rw [if_pos rfl]
    refine w_guard ⟨tr2, by show zI (N1 (c + 258 + k') 1) = 0; rw [show N1 (c + 258 + k') 1 = 0 from p4]; rfl, p3⟩ ?_
    refine w_call tr2 ?_
    refine go_of (v := mZ M + 0) (M' := sN M N1) rfl ⟨M, N1, rfl, ?_⟩
    refine w_bump ⟨by omega, by omega⟩ ?_
    refine w_Cput (hR.bump (zz := 1) (cc := 1) (ss := 8)).cl ?_
    have q := hR1.bump (zz := 1) (cc := 1) (ss := 8) |>.st 3
    rw [stU_2] at q
    exact w_jp (h _ _ q ((hF1.bmp (by omega) (by omega)).st 3))
  · rw [row_k p3 hk]
    rcases p4 with ⟨p1, p5⟩ | ⟨p1, p5⟩
    · rw [if_pos p5]
      rw [if_neg (by decide), if_neg (by decide)]
      have p1 : plc S k' k = 0 := p1
      rw [show a_read S k' k = (trV S k' k.toNat, 0) from if_pos p1] at h
      refine w_try (w_calle tr2 (w_keep ?_))
      have hg : GN M N1 (jb (jcall 5 (c + 258 + k') (f_X6_get (c + 258 + k') (zI k))) (fun v => jp v)) (fun v B N' => B = M ∧ N' = N1 ∧ v = zL (r.2.2 k.toNat)) := w_get tr2 p3.2.2.2.1 (by omega) (w_jp ⟨rfl, rfl, rfl⟩)
      have hg2 : GN M N1 (f_X6_get (c + 258 + k') (zI k)) (fun v B N' => B = M ∧ N' = N1 ∧ v = zL (r.2.2 k.toNat)) := by
        obtain ⟨v, M2, e, B, N', rfl, q⟩ := hg
        refine ⟨v, _, ?_, B, N', rfl, q⟩
        rcases jb_cases e with ⟨v2, M1, e1, e2⟩ | ⟨q, e1, e2⟩
        · unfold jcall at e1
          rw [if_pos (show mK (sN M N1) (c + 258 + k') = some (.inl 5) from tr2)] at e1
          rw [e1]
          exact e2
        · cases e2
      refine gn_mono hg2 (fun v B N' hh => ?_)
      obtain ⟨rfl, rfl, rfl⟩ := hh
      refine w_jp ?_
      have eV : trV S k' = r.2.2 := by
        unfold trV
        rw [show S.2.2.1 ((k' : Int).toNat) = some r from p2]
      rw [eV] at h
      exact h B N' hR1 hF1
    · rw [if_neg p5, if_neg (by decide), if_pos rfl]
      have p1 : plc S k' k = 4 := p1
      rw [hb 4 p1 (by decide)] at h
      refine w_guard (row_CX tr2 p3 hk p5) ?_
      refine w_call tr2 ?_
      refine go_of (v := mZ M + 2) (M' := sN M N1) rfl ⟨M, N1, rfl, ?_⟩
      refine w_bump ⟨by omega, by omega⟩ ?_
      refine w_Cput (hR.bump (zz := 3) (cc := 3) (ss := 230)).cl ?_
      have q := hR1.bump (zz := 3) (cc := 3) (ss := 230) |>.st 4
      rw [stU_2] at q
      exact w_jp (h _ _ q ((hF1.bmp (by omega) (by omega)).st 4))
end OPS31
