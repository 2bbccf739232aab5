/-! OPS, part 28: a tray, the model's. -/
set_option maxRecDepth 100000
section OPS28
variable {α τ ρ : Type} {M M' M1 M2 : Mem} {N N' N1 : NM} {c m i j q r n : Nat} {u v s z a b d e t k : Int} {S S' : St} {x : Int64}
/-- why not -/
def whyT (t so n : Int) : Int := if 0 ≤ t ∧ t < 4 ∧ 0 ≤ so ∧ so ≤ 3 then (if 60 < n then 5 else if n < 0 then 6 else 0) else 1
def a_tray (S : St) (t so n : Int) : St × Int := if whyT t so n = 0 then (stU (stY S t.toNat (so.toNat, n.toNat, fun _ => 0)) 0 0, 1) else (stU S 0 (whyT t so n), 0)
theorem whyT_0 (h : whyT t s a = 0) : 0 ≤ t ∧ t < 4 ∧ 0 ≤ s ∧ s ≤ 3 ∧ 0 ≤ a ∧ a ≤ 60 := by
  unfold whyT at h
  by_cases e : 0 ≤ t ∧ t < 4 ∧ 0 ≤ s ∧ s ≤ 3
  · rw [if_pos e] at h
    by_cases e2 : 60 < a
    · rw [if_pos e2] at h; exact absurd h (by decide)
    rw [if_neg e2] at h
    by_cases e3 : a < 0
    · rw [if_pos e3] at h; exact absurd h (by decide)
    omega
  · rw [if_neg e] at h; exact absurd h (by decide)
theorem m_trayO {f : Int32 → JM Mem τ} {Q : τ → Mem → NM → Prop} (hR : MR M N m S) (ht : zR t) (hs : zR s) (ha : zR a) (h : mPost M N m (a_tray S t s a).1 (f (zI (a_tray S t s a).2)) Q) : GN M N (jb (jcall 7 m (f_X8_tray m (zI t) (zI s) (zI a))) f) Q := by
  refine w_Mc hR.ml ?_
  unfold f_X8_tray X8_tray_b28
  refine m_beg0 hR (fun N1 hR1 hF => ?_)
  rw [z_0, z_1, z_3, z_4, show (60 : Int32) = zI 60 from rfl, show (6 : Int32) = zI 6 from rfl, show (5 : Int32) = zI 5 from rfl]
  have hno : ∀ v, a_tray S t s a = (stU S 0 v, 0) → GN M N1 (jb (jcall 7 m (f_X8_no m (zI v))) fun x => jrz x) (fun v M1 N1 => GN M1 N1 (f v) Q) := fun v e => m_no (S := stU S 0 0) hR1.ml hR1 hF h (by rw [stU_2]; exact e)
  have hb : ∀ v, whyT t s a = v → v ≠ 0 → a_tray S t s a = (stU S 0 v, 0) := fun v e1 e2 => by
    unfold a_tray
    rw [if_neg (by rw [e1]; exact e2), e1]
  refine w_lt ht ⟨by omega, by omega⟩ (fun e => hno 1 (hb 1 (if_neg (by omega)) (by decide))) (fun e => ?_)
  refine w_le ⟨by omega, by omega⟩ ht (fun e => hno 1 (hb 1 (if_neg (by omega)) (by decide))) (fun e => ?_)
  refine w_lt hs ⟨by omega, by omega⟩ (fun e => hno 1 (hb 1 (if_neg (by omega)) (by decide))) (fun e => ?_)
  refine w_le hs ⟨by omega, by omega⟩ (fun e => ?_) (fun e => hno 1 (hb 1 (if_neg (by omega)) (by decide)))
  refine w_le ha ⟨by omega, by omega⟩ (fun e => ?_) (fun e => hno 5 (hb 5 ((if_pos (by omega)).trans (if_pos (by omega))) (by decide)))
  refine w_le ⟨by omega, by omega⟩ ha (fun e => ?_) (fun e => hno 6 (hb 6 ((if_pos (by omega)).trans ((if_neg (by omega)).trans (if_pos (by omega)))) (by decide)))
  have e0 : whyT t s a = 0 := (if_pos (by omega)).trans ((if_neg (by omega)).trans (if_neg (by omega)))
  rw [show a_tray S t s a = (stU (stY S t.toNat (s.toNat, a.toNat, fun _ => 0)) 0 0, 1) from if_pos e0] at h
  refine w_Mf hR.ml rfl ?_
  refine w_ast (hR.ml.ka (o := 1) (d := (0, 4)) rfl) (by omega) (by omega) ?_
  refine w_Mf hR.ml rfl ?_
  refine w_ast (hR.ml.ka (o := 2) (d := (0, 4)) rfl) (by omega) (by omega) ?_
  generalize hN2 : up2 (up2 N1 (m + 1) t.toNat s) (m + 2) t.toNat a = N2
  have eN : ∀ b, b ≠ m + 1 → b ≠ m + 2 → N2 b = N1 b := fun b h1 h2 => by rw [← hN2]; exact (upb h2).trans (upb h1)
  obtain ⟨n, rfl⟩ : ∃ n : Nat, a = n := ⟨a.toNat, by omega⟩
  obtain ⟨k, rfl⟩ : ∃ k : Nat, t = k := ⟨t.toNat, by omega⟩
  refine w_upB n (fun l M1 N' => N' = N2 ∧ ∃ L', M1 = sL M L' ∧ (∀ b, b ≠ m + 3 → L' b = mL M b) ∧ (∀ j, j < 60 * k ∨ 60 * k + 60 ≤ j → L' (m + 3) j = mL M (m + 3) j) ∧ ∀ j, j < l → L' (m + 3) (60 * k + j) = 0) 0 rfl (by omega) ⟨rfl, mL M, rfl, fun _ _ => rfl, fun _ _ => rfl, fun j hj => absurd hj (by omega)⟩ ?_
  rintro l M1 N' hl ⟨rfl, L', rfl, g1, g2, g3⟩
  unfold X8_tray_L74
  rw [show (60 : Int32) = zI 60 from rfl, z_1]
  refine w_le ⟨by omega, by omega⟩ ⟨by omega, by omega⟩ (fun e => ?_) (fun e => ?_)
  · obtain rfl : l = n := by omega
    refine w_jinl (w_jp (h _ N' ?_ ?_))
    · have q := hR1.setY (t := k) (r := (s.toNat, l, fun _ => 0)) (L' := L') (N' := N') (by omega) eN (fun t' h' => by
        rw [← hN2, upb (by omega), upk (by omega)]) (fun t' h' => by rw [← hN2, upk (by omega), upb (by omega)]) g1 g2 ⟨by rw [← hN2, upb (by omega), show ((k : Int).toNat) = k by omega, upv]; show s = (s.toNat : Nat); omega, by omega, by show l ≤ 60; omega, by rw [← hN2, show ((k : Int).toNat) = k by omega, upv], fun i hi => ⟨(g3 i hi).trans rfl, ⟨by show -9223372036854775808 ≤ (0 : Int); decide, by show (0 : Int) < 9223372036854775808; decide⟩⟩⟩
      exact q
    · have hF2 : MFm m M N M N' := ⟨fun b hb => (eN b (by omega) (by omega)).trans (hF.1 b hb), hF.2⟩
      exact hF2.pL3 (fun b hb => g1 b (by omega))
  · refine w_Mf (hR.ml.ag (fun _ _ _ => ⟨rfl, rfl⟩)) rfl ?_
    rw [zI_mul, zI_add, zI_add, show (0 : Int64) = zL 0 from rfl]
    refine w_astl (hR.ml.ka (o := 3) (d := (3, 240)) rfl) (by omega) (by omega) ?_
    refine w_jcontB ⟨by omega, rfl, rfl, up2 L' (m + 3) (60 * k + l) (zL 0), ?_, fun b hb => ?_, fun j hj => ?_, fun j hj => ?_⟩
    · rw [show (60 * (k : Int) + l).toNat = 60 * k + l by omega]; rfl
    · rw [← g1 b hb]; exact funext fun j => if_neg (fun e => hb e.1)
    · rw [upLk (by omega)]; exact g2 j hj
    · by_cases e2 : j = l
      · rw [e2, upLv]
      · rw [upLk (by omega)]; exact g3 j (by omega)
end OPS28
