/-! OPS, tenth part: sum, tables filled, grow. -/
set_option maxRecDepth 100000
section OPS10
variable {α τ : Type} {M M' M1 M2 : Mem} {N N' N1 : NM} {c m i j : Nat} {u v w k s t : Int} {S S' : St} {p : Int} {n many : Nat} {T F G : Nat → Nat → Nat → Int} {y : Wd}
theorem w_widest {f : Int32 → JM Mem τ} {Q : τ → Mem → NM → Prop} (hp : Pr p) (h : GN M N (f (zI (gst p))) Q) : GN M N (jb (f_X0_widest (zI p)) f) Q := by
  have h2 := hp.pos
  have h7 := hp.le7
  refine w_jb ?_
  unfold f_X0_widest
  unfold gst at h
  rw [z_5, z_4, z_3]
  refine w_le ⟨by omega, by omega⟩ ⟨by omega, by omega⟩ (fun e => ?_) (fun e => ?_)
  · refine w_eq ⟨by omega, by omega⟩ ⟨by omega, by omega⟩ (fun e2 => ?_) (fun e2 => ?_)
    · rw [if_pos e2] at h
      exact w_jp h
    · have e7 : p = 7 := by rcases hp with h | h | h | h <;> omega
      rw [if_neg e2, if_pos e7] at h
      exact w_jp h
  · rw [if_neg (show ¬ p = 5 by omega), if_neg (show ¬ p = 7 by omega)] at h
    exact w_jp h
def a_wsum (S : St) (s : Int) : Int := if 0 ≤ s ∧ s < 4 then (match S.1.2.1 s.toNat with | none => 8 | some y => if y.1 ≠ sp S then 5 else if gst (sp S) < sn S + y.2.1 then 7 else 0) else 2
theorem a_wsum_0 (h : a_wsum S s = 0) : (0 ≤ s ∧ s < 4) ∧ ∃ y, S.1.2.1 s.toNat = some y ∧ y.1 = sp S ∧ (sn S : Int) + y.2.1 ≤ gst (sp S) := by
  unfold a_wsum at h
  by_cases e : 0 ≤ s ∧ s < 4
  · rw [if_pos e] at h
    refine ⟨e, ?_⟩
    cases e2 : S.1.2.1 s.toNat with
    | none => rw [e2] at h; exact absurd h (by show ¬ (8 : Int) = 0; decide)
    | some y =>
      rw [e2] at h
      have h : (if y.1 ≠ sp S then (5 : Int) else if gst (sp S) < sn S + y.2.1 then 7 else 0) = 0 := h
      by_cases c1 : y.1 ≠ sp S
      · rw [if_pos c1] at h; exact absurd h (by decide)
      rw [if_neg c1] at h
      by_cases c2 : gst (sp S) < sn S + y.2.1
      · rw [if_pos c2] at h; exact absurd h (by decide)
      · exact ⟨y, rfl, by simpa using c1, by omega⟩
  · rw [if_neg e] at h; exact absurd h (by decide)
theorem a_wsum_r : 0 ≤ a_wsum S s ∧ a_wsum S s ≤ 8 := by
  unfold a_wsum
  by_cases e : 0 ≤ s ∧ s < 4
  · rw [if_pos e]
    cases e2 : S.1.2.1 s.toNat with
    | none => exact ⟨by show (0 : Int) ≤ 8; decide, by show (8 : Int) ≤ 8; decide⟩
    | some y =>
      show 0 ≤ (if y.1 ≠ sp S then (5 : Int) else if gst (sp S) < sn S + y.2.1 then 7 else 0) ∧ (if y.1 ≠ sp S then (5 : Int) else if gst (sp S) < sn S + y.2.1 then 7 else 0) ≤ 8
      by_cases c1 : y.1 ≠ sp S
      · rw [if_pos c1]; exact ⟨by decide, by decide⟩
      rw [if_neg c1]
      by_cases c2 : gst (sp S) < sn S + y.2.1
      · rw [if_pos c2]; exact ⟨by decide, by decide⟩
      · rw [if_neg c2]; exact ⟨by decide, by decide⟩
  · rw [if_neg e]; exact ⟨by decide, by decide⟩
theorem c_wrongSum {f : Int32 → JM Mem τ} {Q : τ → Mem → NM → Prop} (hR : CR M N c S) (hs : zR s) (h : GN M N (f (zI (a_wsum S s))) Q) : GN M N (jb (jcall 0 c (f_X0_wrongSum c (zI s))) f) Q := by
  have hpb := hR.w.pb
  have hn5 : sn S ≤ 5 := hR.w.n5
  refine w_Cc hR.cl ?_
  unfold f_X0_wrongSum
  refine c_noShelf hR hs ?_
  unfold a_shelf
  unfold a_wsum at h
  rw [z_0]
  by_cases e : 0 ≤ s ∧ s < 4
  case neg =>
    rw [if_neg e] at h ⊢
    exact w_le ⟨by omega, by omega⟩ ⟨by omega, by omega⟩ (fun x => absurd x (by decide)) (fun _ => w_jp h)
  rw [if_pos e] at h ⊢
  obtain ⟨s, rfl⟩ : ∃ d : Nat, s = d := ⟨s.toNat, by omega⟩
  rw [show ((s : Int).toNat) = s from rfl] at h ⊢
  cases e2 : S.1.2.1 s with
  | none =>
    rw [e2] at h
    show GN M N (if zI 8 ≤ zI 0 then _ else _) _
    exact w_le ⟨by omega, by omega⟩ ⟨by omega, by omega⟩ (fun x => absurd x (by decide)) (fun _ => w_jp h)
  | some y =>
    rw [e2] at h
    have h : GN M N (f (zI (if y.1 ≠ sp S then 5 else if gst (sp S) < sn S + y.2.1 then 7 else 0))) Q := h
    show GN M N (if zI 0 ≤ zI 0 then _ else _) _
    refine w_le ⟨by omega, by omega⟩ ⟨by omega, by omega⟩ (fun _ => ?_) (fun x => absurd x (by decide))
    obtain ⟨hE, hV⟩ := hR.shw (show s < 4 by omega) e2
    have hqb := hE.pb
    have hm5 := hE.n5
    refine w_shelf hR.cl (by omega) ?_
    refine w_Wp hV ?_
    refine w_Cf hR.cl rfl (w_Wp hR.cl.w6 ?_)
    rw [hE.pe, hR.w.pe]
    refine w_eq ⟨by omega, by omega⟩ ⟨by omega, by omega⟩ (fun e3 => ?_) (fun e3 => ?_)
    · rw [if_neg (fun x => x e3)] at h
      refine w_Cf hR.cl rfl (w_Wp hR.cl.w6 ?_)
      refine w_shelf hR.cl (by omega) ?_
      refine w_Wp hV ?_
      refine w_Cf hR.cl rfl (w_Wp hR.cl.w6 ?_)
      rw [hE.ne, hR.w.ne, hR.w.pe, zI_add]
      refine w_widest hR.w.pr ?_
      have hg := gst_le (p := sp S)
      refine w_le ⟨by omega, by omega⟩ ⟨by omega, by omega⟩ (fun e4 => ?_) (fun e4 => ?_)
      · rw [if_neg (by omega)] at h
        exact w_jp h
      · rw [if_pos e4] at h
        exact w_jp h
    · rw [if_pos e3] at h
      rw [z_5]
      exact w_jp h
/-- the sum of the world now and another -/
def wsum (S : St) (y : Wd) : Wd := (sp S, sn S + y.2.1, altT (sp S) (sn S + y.2.1) (smT (sn S) (sT S) y.2.2))
def a_sum (S : St) (s : Int) : St × Int := if a_wsum S s = 0 then (match S.1.2.1 s.toNat with | none => (S, 0) | some y => (stU (stW S (wsum S y)) 0 0, (sn S : Int) + y.2.1)) else (stU S 0 (a_wsum S s), -1)
/-- the sum is made -/
theorem c_sums {f : Unit → JM Mem τ} {Q : τ → Mem → NM → Prop} {s : Nat} (hR : CR M N c S) (h0 : a_wsum S s = 0) {y : Wd} (ey : S.1.2.1 s = some y) (h : ∀ N', CFw c N N' → WdC N' (c + 6) (wsum S y) → GN M N' (f ()) Q) : GN M N (jb (jgetA 0 4 c) fun a => jb (jaldA 7 a (zI s)) fun b => jb (jcall 0 c (f_X0_sums c b)) f) Q := by
  obtain ⟨e, y', e2, e3, e4⟩ := a_wsum_0 h0
  rw [show ((s : Int).toNat) = s from rfl, ey] at e2
  obtain rfl := Option.some.inj e2
  have hg := gst_le (p := sp S)
  obtain ⟨hE, hV⟩ := hR.shw (show s < 4 by omega) ey
  refine w_shelf hR.cl (by omega) ?_
  rw [e3] at hE
  exact w_sums hR.cl hR.w hV hE (by omega) (by omega) (fun N1 g1 g2 => h N1 (CFw.of (fun b hb => g2 b (by omega))) g1)
theorem c_sum {f : Int32 → JM Mem τ} {Q : τ → Mem → NM → Prop} (hR : CR M N c S) (hs : zR s) (h : cPost M N c (a_sum S s).1 (f (zI (a_sum S s).2)) Q) : GN M N (jb (jcall 0 c (f_X0_sum c (zI s))) f) Q := by
  have hr := a_wsum_r (S := S) (s := s)
  refine w_Cc hR.cl ?_
  unfold f_X0_sum
  refine c_wrongSum hR hs ?_
  rw [z_0]
  unfold a_sum at h
  by_cases e : a_wsum S s = 0
  · rw [if_pos e] at h
    have e' := e
    rw [e]
    obtain ⟨a, y, e2, e3, e4⟩ := a_wsum_0 e
    rw [e2] at h
    have h : cPost M N c (stU (stW S (wsum S y)) 0 0) (f (zI ((sn S : Int) + y.2.1))) Q := h
    refine w_le ⟨by omega, by omega⟩ ⟨by omega, by omega⟩ (fun _ => ?_) (fun x => absurd x (by decide))
    obtain ⟨s, rfl⟩ : ∃ d : Nat, s = d := ⟨s.toNat, by omega⟩
    refine c_sums hR e' e2 (fun N1 g1 g2 => ?_)
    refine w_Cf hR.cl rfl (w_Wp hR.cl.w6 ?_)
    rw [show N1 (c + 6) 2 = ((sn S + y.2.1 : Nat) : Int) from g2.ne, Int.natCast_add]
    exact w_gives hR.cl (w_jp (c_finW hR (Bg.rf hR.cl) g1 g2 h))
  · rw [if_neg e] at h
    exact w_le ⟨by omega, by omega⟩ ⟨by omega, by omega⟩ (fun x => absurd x (by omega)) (fun _ => w_none hR.cl (w_jp (c_fin0 hR h)))
/-- the model's sum -/
theorem m_sumWith {f : Int32 → JM Mem τ} {Q : τ → Mem → NM → Prop} {s : Nat} (hR : MR M N m S) (hA : MA M N m (m + 5) 0 (sp S) (sn S) (sT S)) (hs : s < 4) {y : Wd} (ey : S.1.2.1 s = some y)
    (h : ∀ N' , (a_wsum S s ≠ 0 ∧ N' = N ∨ a_wsum S s = 0 ∧ WdM N' (m + 5) 0 (wsum S y)) → MFw m N N' → GN M N' (f (zI (a_wsum S s))) Q) : GN M N (jb (jcall 7 m (f_X8_sumWith m (zI s))) f) Q := by
  have hsh := hR.2.1.2.1 s hs
  rw [ey, Nat.zero_add] at hsh
  obtain ⟨hC, hU⟩ := hsh
  have hg := gst_le (p := sp S)
  have ew : a_wsum S s = (if y.1 ≠ sp S then (5 : Int) else if gst (sp S) < sn S + y.2.1 then 7 else 0) := by
    unfold a_wsum
    rw [if_pos ⟨by omega, by omega⟩, show ((s : Int).toNat) = s from rfl, ey]
  refine w_sumWith hR.ml hA hR.wm hC hU (by omega) (fun N1 v hv f1 f2 => ?_)
  have hF : MFw m N N1 := MFw.of (fun b h1 _ => f1 b h1) f2
  rcases hv with ⟨h1, rfl, rfl⟩ | ⟨h1, h2, rfl, rfl⟩ | ⟨h1, h2, rfl, h3⟩
  · rw [if_pos h1] at ew
    have := h N1 (Or.inl ⟨by rw [ew]; decide, rfl⟩) hF
    rw [ew] at this
    exact this
  · rw [if_neg (fun x => x h1), if_pos h2] at ew
    have := h N1 (Or.inl ⟨by rw [ew]; decide, rfl⟩) hF
    rw [ew] at this
    exact this
  · rw [if_neg (fun x => x h1), if_neg (by omega)] at ew
    have := h N1 (Or.inr ⟨ew, h3, altT_ok hA.pr ⟨show 1 ≤ sn S + y.2.1 by have := hA.n1; omega, show sn S + y.2.1 ≤ 5 by omega⟩⟩) hF
    rw [ew] at this
    exact this
theorem m_sum {f : Int32 → JM Mem τ} {Q : τ → Mem → NM → Prop} (hR : MR M N m S) (hs : zR s) (h : mPost M N m (a_sum S s).1 (f (zI (a_sum S s).2)) Q) : GN M N (jb (jcall 7 m (f_X8_sum m (zI s))) f) Q := by
  refine w_Mc hR.ml ?_
  unfold f_X8_sum
  refine m_beg hR (fun M1 N1 hS hM hA => ?_)
  have hR1 := hR.be hS
  have hr := a_wsum_r (S := S) (s := s)
  unfold a_sum at h
  refine m_isShelf hs ?_
  rw [z_0]
  by_cases e : 0 ≤ s ∧ s < 4
  case neg =>
    have ew : a_wsum S s = 2 := if_neg e
    rw [ew, if_neg (by decide)] at h
    rw [if_neg e, z_2]
    exact w_eq ⟨by omega, by omega⟩ ⟨by omega, by omega⟩ (fun _ => w_refuse hM (w_jp (m_fin hR hS MFr.rf h))) (fun x => absurd rfl x)
  rw [if_pos e]
  refine w_eq ⟨by omega, by omega⟩ ⟨by omega, by omega⟩ (fun x => absurd x (by decide)) (fun _ => ?_)
  refine m_isEmpty hR1 e ?_
  obtain ⟨s, rfl⟩ : ∃ d : Nat, s = d := ⟨s.toNat, by omega⟩
  rw [show ((s : Int).toNat) = s from rfl] at h ⊢
  rw [show (stU S 0 0).1.2.1 s = S.1.2.1 s from rfl]
  cases e2 : S.1.2.1 s with
  | none =>
    have ew : a_wsum S s = 8 := by
      unfold a_wsum
      rw [if_pos e, show ((s : Int).toNat) = s from rfl, e2]
    rw [ew, if_neg (by decide)] at h
    rw [if_pos rfl, show (8 : Int32) = zI 8 from rfl]
    exact w_eq ⟨by omega, by omega⟩ ⟨by omega, by omega⟩ (fun x => absurd x (by decide)) (fun _ => w_refuse hM (w_jp (m_fin hR hS MFr.rf h)))
  | some y =>
    rw [if_neg (show ¬ (some y = none) from fun x => nomatch x)]
    refine w_eq ⟨by omega, by omega⟩ ⟨by omega, by omega⟩ (fun _ => ?_) (fun x => absurd rfl x)
    refine m_sumWith hR1 hA (by omega) e2 (fun N2 hN2 hF => ?_)
    rw [show a_wsum (stU S 0 0) s = a_wsum S s from rfl, show wsum (stU S 0 0) y = wsum S y from rfl] at hN2
    rw [show a_wsum (stU S 0 0) s = a_wsum S s from rfl]
    rcases hN2 with ⟨e0, rfl⟩ | ⟨e0, hW⟩
    · rw [if_neg e0] at h
      exact w_le ⟨by omega, by omega⟩ ⟨by omega, by omega⟩ (fun x => absurd x (by omega)) (fun _ => w_refuse hM (w_jp (m_fin hR hS MFr.rf h)))
    · rw [if_pos e0, e2] at h
      have h : mPost M N m (stU (stW S (wsum S y)) 0 0) (f (zI ((sn S : Int) + y.2.1))) Q := h
      rw [e0]
      refine w_le ⟨by omega, by omega⟩ ⟨by omega, by omega⟩ (fun _ => ?_) (fun x => absurd x (by decide))
      refine w_Mf hM rfl ?_
      rw [z_1]
      refine w_ald (hM.ka (o := 5) (d := (0, 3440)) rfl) (by omega) (by omega) ?_
      rw [show (1 : Int).toNat = 0 + 1 from rfl, show N2 (m + 5) (0 + 1) = ((sn S + y.2.1 : Nat) : Int) from hW.1.2.1, Int.natCast_add]
      exact w_jp (m_finW hR hS hF hW h)
end OPS10
