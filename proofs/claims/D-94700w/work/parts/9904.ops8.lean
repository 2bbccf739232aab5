/-! OPS, eighth part: keep, take, sum. -/
set_option maxRecDepth 100000
section OPS8
variable {α τ : Type} {M M' M1 M2 : Mem} {N N' N1 : NM} {c m i : Nat} {u v w k s : Int} {S S' : St} {p : Int} {n : Nat} {T F : Nat → Nat → Nat → Int} {y : Wd}
theorem c_is0 {f : Int32 → JM Mem τ} {Q : τ → Mem → NM → Prop} {x : St × Int} (hR : CR M N c S) (h : cPost M N c x.1 (f (zI x.2)) Q) (hv : zR v) (hv0 : v ≠ 0) (e : x = (stU S 0 v, 0)) : GN M N (jb (jcall 0 c (f_X0_is0 c (zI v))) fun x => jrz x) (fun v M1 N1 => GN M1 N1 (f v) Q) := by
  subst e
  refine w_is0 hR.cl hv ?_
  rw [if_neg hv0]
  exact w_rze (Or.inl rfl) (c_fin0 hR h)
theorem c_is00 {f : Int32 → JM Mem τ} {Q : τ → Mem → NM → Prop} (hC : CL M c) (h : GN M (up2 N c 8 0) (f (zI 1)) Q) : GN M N (jb (jcall 0 c (f_X0_is0 c (zI 0))) fun x => jrz x) (fun v M1 N1 => GN M1 N1 (f v) Q) := by
  refine w_is0 hC ⟨by omega, by omega⟩ ?_
  rw [if_pos rfl]
  exact w_rze (Or.inr rfl) h
theorem m_no {f : Int32 → JM Mem τ} {Q : τ → Mem → NM → Prop} {x : St × Int} (hM : ML M1 m) (hR : MR M1 N1 m S) (hF : MFm m M N M1 N1) (h : mPost M N m x.1 (f (zI x.2)) Q) (e : x = (stU S 0 v, 0)) : GN M1 N1 (jb (jcall 7 m (f_X8_no m (zI v))) fun x => jrz x) (fun v M1 N1 => GN M1 N1 (f v) Q) := by
  subst e
  exact w_no hM (w_rze (Or.inl rfl) (h M1 _ (hR.st v) hF.up))
theorem w_astZ {a n : Nat} {z v : Int} {f : Unit → JM Mem τ} {Q : τ → Mem → NM → Prop} (hK : mK M a = some (.inr (4, n))) (hz : 0 ≤ z ∧ z < n) (hn : n ≤ 100000) (hv : v = 0 ∨ v = 1) (h : GN M (up2 N a z.toNat v) (f ()) Q) : GN M N (jb (jast_z a (zI z) (zI v)) f) Q := by
  have e := zI_toN hz.1
  generalize z.toNat = k at e h
  subst e
  refine go_jb ?_
  unfold jast_z
  refine go_ast (M := sN M N) hK (by omega) hn (by rcases hv with rfl | rfl <;> decide) ?_
  rw [zI_nat (by omega), sN_up]
  exact h
noncomputable def a_keep (S : St) (s : Int) : St × Int := if 0 ≤ s ∧ s < 4 then (stU (shU S s.toNat S.1.1) 0 0, 1) else (stU S 0 2, 0)
theorem c_keep {f : Int32 → JM Mem τ} {Q : τ → Mem → NM → Prop} (hR : CR M N c S) (hs : zR s) (h : cPost M N c (a_keep S s).1 (f (zI (a_keep S s).2)) Q) : GN M N (jb (jcall 0 c (f_X0_keep c (zI s))) f) Q := by
  refine w_Cc hR.cl ?_
  unfold f_X0_keep
  refine c_isShelf hs ?_
  rw [z_0]
  by_cases e : 0 ≤ s ∧ s < 4
  case neg =>
    rw [if_neg e, z_2]
    exact w_eq ⟨by omega, by omega⟩ ⟨by omega, by omega⟩ (fun _ => c_is0 hR h ⟨by omega, by omega⟩ (by omega) (if_neg e)) (fun x => absurd rfl x)
  rw [if_pos e]
  rw [show a_keep S s = _ from if_pos e] at h
  refine w_eq ⟨by omega, by omega⟩ ⟨by omega, by omega⟩ (fun x => absurd x (by decide)) (fun _ => ?_)
  obtain ⟨s, rfl⟩ : ∃ d : Nat, s = d := ⟨s.toNat, by omega⟩
  rw [show ((s : Int).toNat) = s from rfl] at h
  have hV := (hR.cl.sh (show s < 4 by omega)).2
  have h71 := hR.cl.ka (o := 71) (d := (4, 4)) rfl
  refine w_Cc hR.cl ?_
  unfold f_X0_keeps
  refine w_shelf hR.cl (by omega) ?_
  refine w_Cf hR.cl rfl ?_
  refine w_wcopy hV hR.cl.w6 (by omega) (fun N1 t1 t2 t3 g1 => ?_)
  refine w_Cf hR.cl rfl ?_
  rw [z_1]
  refine w_astZ h71 (by omega) (by omega) (Or.inr rfl) (w_jp ?_)
  rw [show ((s : Int).toNat) = s from rfl]
  have hR1 : CR M (up2 N1 (c + 71) s 1) c (shU S s S.1.1) := by
    refine hR.setS (by omega) (fun b h1 h2 => by rw [upb h1, g1 b (by omega)]) (fun k => ?_) ?_
    · show (if c + 71 = c + 71 ∧ k = s then (1 : Int) else N1 (c + 71) k) = _
      by_cases e : k = s
      · rw [if_pos ⟨rfl, e⟩, if_pos e]
      · rw [if_neg (fun x => e x.2), if_neg e, g1 _ (by omega)]
    · have hD := hR.w
      have eo : ∀ b, b ≠ c + 71 → up2 N1 (c + 71) s 1 b = N1 b := fun b hb => upb hb
      exact ⟨by rw [eo _ (by omega), t2]; exact hD.pe, by rw [eo _ (by omega), t3]; exact hD.ne, fun i j k hi hj hk => by rw [eo _ (by omega), t1 i j k hi hj hk]; exact hD.t hi hj hk, hD.ok⟩
  have hF : CFm c M N M (up2 N1 (c + 71) s 1) := CFm.sc (Bg.rf hR.cl) (fun b hb => by rw [upb (by omega), g1 b (by omega)])
  exact c_is00 hR.cl (h M _ (hR1.st 0) (hF.st _))
theorem m_keep {f : Int32 → JM Mem τ} {Q : τ → Mem → NM → Prop} (hR : MR M N m S) (hs : zR s) (h : mPost M N m (a_keep S s).1 (f (zI (a_keep S s).2)) Q) : GN M N (jb (jcall 7 m (f_X8_keep m (zI s))) f) Q := by
  refine w_Mc hR.ml ?_
  unfold f_X8_keep
  refine m_beg0 hR (fun N1 hR1 hF1 => ?_)
  refine m_isShelf hs ?_
  rw [z_0]
  by_cases e : 0 ≤ s ∧ s < 4
  case neg =>
    rw [if_neg e, z_2]
    exact w_eq ⟨by omega, by omega⟩ ⟨by omega, by omega⟩ (fun _ => m_no hR.ml hR1 hF1 h (by rw [stU_2]; exact if_neg e)) (fun x => absurd rfl x)
  rw [if_pos e]
  rw [show a_keep S s = _ from if_pos e] at h
  refine w_eq ⟨by omega, by omega⟩ ⟨by omega, by omega⟩ (fun x => absurd x (by decide)) (fun _ => ?_)
  obtain ⟨s, rfl⟩ : ∃ d : Nat, s = d := ⟨s.toNat, by omega⟩
  rw [show ((s : Int).toNat) = s from rfl] at h
  have h5 := hR.ml.ka (o := 5) (d := (0, 3440)) rfl
  refine w_Mf hR.ml rfl (w_Mf hR.ml rfl ?_)
  rw [z_1, show (127 : Int32) = zI 127 from rfl, zI_add, zI_mul, show 127 * ((s : Int) + 1) = ((127 * (s + 1) : Nat) : Int) by omega]
  refine w_mmove (B := 0) (D := 127 * (s + 1)) hR.ml h5 (by omega) h5 (by omega) (Or.inr (Or.inl (by omega))) (fun N2 e2 g2 l2 => w_jp ?_)
  have hW : WC N2 (m + 5) (127 * (s + 1)) (sp S) (sn S) (sT S) := WC.mv (hR1.wm) e2
  refine h M N2 ?_ (hF1.tr ⟨fun b hb => g2 b (by omega), mR M, mL M, rfl, fun _ _ => ⟨rfl, rfl⟩⟩)
  exact hR1.setS (by omega) g2 l2 ⟨hW, hR.ok⟩
noncomputable def a_take (S : St) (s : Int) : St × Int := if 0 ≤ s ∧ s < 4 then (match S.1.2.1 s.toNat with | none => (stU S 0 8, 0) | some y => (stU (stW S y) 0 0, 1)) else (stU S 0 2, 0)
theorem c_take {f : Int32 → JM Mem τ} {Q : τ → Mem → NM → Prop} (hR : CR M N c S) (hs : zR s) (h : cPost M N c (a_take S s).1 (f (zI (a_take S s).2)) Q) : GN M N (jb (jcall 0 c (f_X0_take c (zI s))) f) Q := by
  refine w_Cc hR.cl ?_
  unfold f_X0_take
  refine c_noShelf hR hs ?_
  unfold a_shelf
  unfold a_take at h
  rw [z_0]
  unfold X0_take_b23
  by_cases e : 0 ≤ s ∧ s < 4
  case neg =>
    rw [if_neg e] at h ⊢
    exact w_eq ⟨by omega, by omega⟩ ⟨by omega, by omega⟩ (fun x => absurd x (by decide)) (fun _ => c_is0 hR h ⟨by omega, by omega⟩ (by omega) rfl)
  rw [if_pos e] at h ⊢
  obtain ⟨s, rfl⟩ : ∃ d : Nat, s = d := ⟨s.toNat, by omega⟩
  rw [show ((s : Int).toNat) = s from rfl] at h ⊢
  cases e2 : S.1.2.1 s with
  | none =>
    rw [e2] at h
    have h : cPost M N c (stU S 0 8) (f (zI 0)) Q := h
    show GN M N (if zI 8 = zI 0 then _ else _) _
    exact w_eq ⟨by omega, by omega⟩ ⟨by omega, by omega⟩ (fun x => absurd x (by decide)) (fun _ => c_is0 (v := 8) (x := (stU S 0 8, 0)) hR h ⟨by omega, by omega⟩ (by omega) rfl)
  | some y =>
    rw [e2] at h
    have h : cPost M N c (stU (stW S y) 0 0) (f (zI 1)) Q := h
    show GN M N (if zI 0 = zI 0 then _ else _) _
    refine w_eq ⟨by omega, by omega⟩ ⟨by omega, by omega⟩ (fun _ => ?_) (fun x => absurd rfl x)
    obtain ⟨hE, hV⟩ := hR.shw (show s < 4 by omega) e2
    refine w_Cf hR.cl rfl ?_
    refine w_shelf hR.cl (by omega) ?_
    refine w_wcopy hR.cl.w6 hV (by omega) (fun N1 t1 t2 t3 g1 => ?_)
    exact c_is00 hR.cl (c_finW hR (Bg.rf hR.cl) (CFw.of (fun b hb => g1 b (by omega))) ⟨by rw [t2]; exact hE.pe, by rw [t3]; exact hE.ne, fun i j k hi hj hk => by rw [t1 i j k hi hj hk]; exact hE.t hi hj hk, hE.ok⟩ h)
theorem m_take {f : Int32 → JM Mem τ} {Q : τ → Mem → NM → Prop} (hR : MR M N m S) (hs : zR s) (h : mPost M N m (a_take S s).1 (f (zI (a_take S s).2)) Q) : GN M N (jb (jcall 7 m (f_X8_take m (zI s))) f) Q := by
  refine w_Mc hR.ml ?_
  unfold f_X8_take
  refine m_beg0 hR (fun N1 hR1 hF1 => ?_)
  refine m_isShelf hs ?_
  unfold a_take at h
  rw [z_0]
  by_cases e : 0 ≤ s ∧ s < 4
  case neg =>
    rw [if_neg e] at h ⊢
    rw [z_2]
    exact w_eq ⟨by omega, by omega⟩ ⟨by omega, by omega⟩ (fun _ => m_no (x := (stU S 0 2, 0)) hR.ml hR1 hF1 h (by rw [stU_2])) (fun x => absurd rfl x)
  rw [if_pos e] at h ⊢
  refine w_eq ⟨by omega, by omega⟩ ⟨by omega, by omega⟩ (fun x => absurd x (by decide)) (fun _ => ?_)
  refine m_isEmpty hR1 e ?_
  obtain ⟨s, rfl⟩ : ∃ d : Nat, s = d := ⟨s.toNat, by omega⟩
  rw [show ((s : Int).toNat) = s from rfl] at h ⊢
  rw [show (stU S 0 0).1.2.1 s = S.1.2.1 s from rfl]
  cases e2 : S.1.2.1 s with
  | none =>
    rw [e2] at h
    have h : mPost M N m (stU S 0 8) (f (zI 0)) Q := h
    rw [if_pos rfl, show (8 : Int32) = zI 8 from rfl]
    exact w_eq ⟨by omega, by omega⟩ ⟨by omega, by omega⟩ (fun x => absurd x (by decide)) (fun _ => m_no (x := (stU S 0 8, 0)) hR.ml hR1 hF1 h (by rw [stU_2]))
  | some y =>
    rw [e2] at h
    have h : mPost M N m (stU (stW S y) 0 0) (f (zI 1)) Q := h
    rw [if_neg (show ¬ (some y = none) from fun x => nomatch x)]
    refine w_eq ⟨by omega, by omega⟩ ⟨by omega, by omega⟩ (fun _ => ?_) (fun x => absurd rfl x)
    have hsh := hR1.2.1.2.1 s (by omega)
    rw [show (stU S 0 0).1.2.1 s = S.1.2.1 s from rfl, e2, Nat.zero_add] at hsh
    have h5 := hR.ml.ka (o := 5) (d := (0, 3440)) rfl
    refine w_Mf hR.ml rfl (w_Mf hR.ml rfl ?_)
    rw [z_1, show (127 : Int32) = zI 127 from rfl, zI_add, zI_mul, show 127 * ((s : Int) + 1) = ((127 * (s + 1) : Nat) : Int) by omega]
    refine w_mmove (B := 127 * (s + 1)) (D := 0) hR.ml h5 (by omega) h5 (by omega) (Or.inr (Or.inr (by omega))) (fun N2 e3 g2 l2 => w_jp ?_)
    refine h M N2 ?_ (hF1.tr ⟨fun b hb => g2 b (by omega), mR M, mL M, rfl, fun _ _ => ⟨rfl, rfl⟩⟩)
    exact hR1.setW (MFw.of (fun b h1 _ => g2 b h1) (fun l hl => l2 l (by omega))) ⟨WC.mv hsh.1 e3, hsh.2⟩
end OPS8
