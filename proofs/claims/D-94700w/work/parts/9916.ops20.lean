/-! OPS, twentieth part: constant, put, bracket, many. -/
set_option maxRecDepth 100000
section OPS20
variable {α τ : Type} {M M' M1 M2 : Mem} {N N' N1 : NM} {c m i j k q w W B : Nat} {u v s t z a b d : Int} {S S' : St} {p p2 : Int} {n n2 many : Nat} {T F G T2 : Nat → Nat → Nat → Int} {y : Wd}
theorem c_isBase {f : Int32 → JM Mem τ} {Q : τ → Mem → NM → Prop} (hR : CR M N c S) (hz : zR z) (h : GN M N (f (zI (if 0 ≤ z ∧ z < sn S then 1 else 0))) Q) : GN M N (jb (jcall 0 c (f_X0_isBase c (zI z))) f) Q := by
  have hn5 : sn S ≤ 5 := hR.w.n5
  refine w_Cc hR.cl ?_
  unfold f_X0_isBase
  rw [z_0, z_1]
  refine w_lt hz ⟨by omega, by omega⟩ (fun e => ?_) (fun e => ?_)
  · rw [if_neg (show ¬ (0 ≤ z ∧ z < sn S) by omega)] at h
    exact w_jp h
  refine w_Cf hR.cl rfl (w_Wp hR.cl.w6 ?_)
  rw [hR.w.ne]
  refine w_le ⟨by omega, by omega⟩ hz (fun e2 => ?_) (fun e2 => ?_)
  · rw [if_neg (show ¬ (0 ≤ z ∧ z < sn S) by omega)] at h
    exact w_jp h
  · rw [if_pos (show 0 ≤ z ∧ z < sn S by omega)] at h
    exact w_jp h
theorem m_isBase {f : Int32 → JM Mem τ} {Q : τ → Mem → NM → Prop} (hM : ML M m) (hn : N m 27 = n) (hn5 : n ≤ 5) (hz : zR z) (h : GN M N (f (zI (if 0 ≤ z ∧ z < n then 1 else 0))) Q) : GN M N (jb (jcall 7 m (f_X8_isBase m (zI z))) f) Q := by
  refine w_Mc hM ?_
  unfold f_X8_isBase
  refine w_MI hM ?_
  rw [hn, z_1, zI_sub, zL_int hz, zL_int ⟨by omega, by omega⟩, show (0 : Int64) = zL 0 from rfl]
  refine w_isIn (zRL_of hz) ⟨by omega, by omega⟩ ⟨by omega, by omega⟩ ?_
  by_cases e : 0 ≤ z ∧ z < n
  · rw [if_pos (show 0 ≤ z ∧ z ≤ (n : Int) - 1 by omega)]
    rw [if_pos e] at h
    exact w_rze (Or.inr rfl) h
  · rw [if_neg (show ¬ (0 ≤ z ∧ z ≤ (n : Int) - 1) by omega)]
    rw [if_neg e] at h
    exact w_rze (Or.inl rfl) h
/-- three base vectors, on both sides -/
theorem c_bases {α : Type} {bad good : JM Mem α} {Q : α → Mem → NM → Prop} (hR : CR M N c S) (ha : zR a) (hb : zR b) (hd : zR d) (h0 : ¬ ((0 ≤ a ∧ a < sn S) ∧ (0 ≤ b ∧ b < sn S) ∧ 0 ≤ d ∧ d < sn S) → GN M N bad Q) (h : (0 ≤ a ∧ a < sn S) ∧ (0 ≤ b ∧ b < sn S) ∧ 0 ≤ d ∧ d < sn S → GN M N good Q) :
    GN M N (jb (jcall 0 c (f_X0_isBase c (zI a))) fun v1 => if v1 = 0 then bad else jb (jcall 0 c (f_X0_isBase c (zI b))) fun v3 => if v3 = 0 then bad else jb (jcall 0 c (f_X0_isBase c (zI d))) fun v4 => if v4 = 0 then bad else good) Q := by
  refine c_isBase hR ha ?_
  rw [z_0]
  by_cases e1 : 0 ≤ a ∧ a < sn S
  case neg => rw [if_neg e1]; exact w_eq ⟨by omega, by omega⟩ ⟨by omega, by omega⟩ (fun _ => h0 (fun x => e1 x.1)) (fun x => absurd rfl x)
  rw [if_pos e1]
  refine w_eq ⟨by omega, by omega⟩ ⟨by omega, by omega⟩ (fun x => absurd x (by decide)) (fun _ => ?_)
  refine c_isBase hR hb ?_
  by_cases e2 : 0 ≤ b ∧ b < sn S
  case neg => rw [if_neg e2]; exact w_eq ⟨by omega, by omega⟩ ⟨by omega, by omega⟩ (fun _ => h0 (fun x => e2 x.2.1)) (fun x => absurd rfl x)
  rw [if_pos e2]
  refine w_eq ⟨by omega, by omega⟩ ⟨by omega, by omega⟩ (fun x => absurd x (by decide)) (fun _ => ?_)
  refine c_isBase hR hd ?_
  by_cases e3 : 0 ≤ d ∧ d < sn S
  case neg => rw [if_neg e3]; exact w_eq ⟨by omega, by omega⟩ ⟨by omega, by omega⟩ (fun _ => h0 (fun x => e3 x.2.2)) (fun x => absurd rfl x)
  rw [if_pos e3]
  exact w_eq ⟨by omega, by omega⟩ ⟨by omega, by omega⟩ (fun x => absurd x (by decide)) (fun _ => h ⟨e1, e2, e3⟩)
theorem m_bases {α : Type} {bad good : JM Mem α} {Q : α → Mem → NM → Prop} (hM : ML M m) (hn : N m 27 = n) (hn5 : n ≤ 5) (ha : zR a) (hb : zR b) (hd : zR d) (h0 : ¬ ((0 ≤ a ∧ a < n) ∧ (0 ≤ b ∧ b < n) ∧ 0 ≤ d ∧ d < n) → GN M N bad Q) (h : (0 ≤ a ∧ a < n) ∧ (0 ≤ b ∧ b < n) ∧ 0 ≤ d ∧ d < n → GN M N good Q) :
    GN M N (jb (jcall 7 m (f_X8_isBase m (zI a))) fun v1 => if v1 = 0 then bad else jb (jcall 7 m (f_X8_isBase m (zI b))) fun v3 => if v3 = 0 then bad else jb (jcall 7 m (f_X8_isBase m (zI d))) fun v4 => if v4 = 0 then bad else good) Q := by
  refine m_isBase hM hn hn5 ha ?_
  rw [z_0]
  by_cases e1 : 0 ≤ a ∧ a < n
  case neg => rw [if_neg e1]; exact w_eq ⟨by omega, by omega⟩ ⟨by omega, by omega⟩ (fun _ => h0 (fun x => e1 x.1)) (fun x => absurd rfl x)
  rw [if_pos e1]
  refine w_eq ⟨by omega, by omega⟩ ⟨by omega, by omega⟩ (fun x => absurd x (by decide)) (fun _ => ?_)
  refine m_isBase hM hn hn5 hb ?_
  by_cases e2 : 0 ≤ b ∧ b < n
  case neg => rw [if_neg e2]; exact w_eq ⟨by omega, by omega⟩ ⟨by omega, by omega⟩ (fun _ => h0 (fun x => e2 x.2.1)) (fun x => absurd rfl x)
  rw [if_pos e2]
  refine w_eq ⟨by omega, by omega⟩ ⟨by omega, by omega⟩ (fun x => absurd x (by decide)) (fun _ => ?_)
  refine m_isBase hM hn hn5 hd ?_
  by_cases e3 : 0 ≤ d ∧ d < n
  case neg => rw [if_neg e3]; exact w_eq ⟨by omega, by omega⟩ ⟨by omega, by omega⟩ (fun _ => h0 (fun x => e3 x.2.2)) (fun x => absurd rfl x)
  rw [if_pos e3]
  exact w_eq ⟨by omega, by omega⟩ ⟨by omega, by omega⟩ (fun x => absurd x (by decide)) (fun _ => h ⟨e1, e2, e3⟩)
def a_con (S : St) (a b d : Int) : Int × Int := if (0 ≤ a ∧ a < sn S) ∧ (0 ≤ b ∧ b < sn S) ∧ 0 ≤ d ∧ d < sn S then (sT S a.toNat b.toNat d.toNat, 0) else (-1, 2)
theorem c_constant {f : Int32 → JM Mem τ} {Q : τ → Mem → NM → Prop} (hR : CR M N c S) (ha : zR a) (hb : zR b) (hd : zR d) (h : cPost M N c (stU S 0 (a_con S a b d).2) (f (zI (a_con S a b d).1)) Q) : GN M N (jb (jcall 0 c (f_X0_constant c (zI a) (zI b) (zI d))) f) Q := by
  have hn5 : sn S ≤ 5 := hR.w.n5
  refine w_Cc hR.cl ?_
  unfold f_X0_constant
  refine c_bases hR ha hb hd (fun e => ?_) (fun e => ?_)
  · unfold X0_constant_b44
    rw [z_2]
    exact c_bad (f := fun v => jp v) hR (fun M' N' a b => w_jp (h M' N' a b)) (if_neg e)
  · rw [show a_con S a b d = _ from if_pos e] at h
    obtain ⟨a, rfl⟩ : ∃ x : Nat, a = x := ⟨a.toNat, by omega⟩
    obtain ⟨b, rfl⟩ : ∃ x : Nat, b = x := ⟨b.toNat, by omega⟩
    obtain ⟨d, rfl⟩ : ∃ x : Nat, d = x := ⟨d.toNat, by omega⟩
    refine w_Cf hR.cl rfl ?_
    refine w_tab hR.cl.w6 (by omega) (by omega) ?_
    refine w_Wk hR.cl.w6 (by omega) (by omega) (by omega) ?_
    rw [hR.w.t (by omega) (by omega) (by omega)]
    exact w_gives hR.cl (w_jp (c_fin0 hR h))
theorem m_constant {f : Int32 → JM Mem τ} {Q : τ → Mem → NM → Prop} (hR : MR M N m S) (ha : zR a) (hb : zR b) (hd : zR d) (h : mPost M N m (stU S 0 (a_con S a b d).2) (f (zI (a_con S a b d).1)) Q) : GN M N (jb (jcall 7 m (f_X8_constant m (zI a) (zI b) (zI d))) f) Q := by
  refine w_Mc hR.ml ?_
  unfold f_X8_constant
  refine m_beg hR (fun M1 N1 hS hM hA => ?_)
  have hn5 := hA.n5
  refine m_bases hM hA.ne hn5 ha hb hd (fun e => ?_) (fun e => ?_)
  · unfold X8_constant_b48
    rw [z_2]
    exact m_bad (f := fun v => jp v) hR hS MFr.rf (fun M' N' a b => w_jp (h M' N' a b)) (if_neg e)
  · rw [show a_con S a b d = _ from if_pos e] at h
    obtain ⟨a, rfl⟩ : ∃ x : Nat, a = x := ⟨a.toNat, by omega⟩
    obtain ⟨b, rfl⟩ : ∃ x : Nat, b = x := ⟨b.toNat, by omega⟩
    obtain ⟨d, rfl⟩ : ∃ x : Nat, d = x := ⟨d.toNat, by omega⟩
    exact w_mtable hM hA (by omega) (by omega) (by omega) (w_jp (m_fin0 hR hS MFr.rf h))
def wpu (S : St) (a b d : Nat) (v : Int) : Wd := (sp S, sn S, altT (sp S) (sn S) (stT (sT S) a b d v))
def a_put (S : St) (a b d v : Int) : St × Int := if (0 ≤ a ∧ a < sn S) ∧ (0 ≤ b ∧ b < sn S) ∧ 0 ≤ d ∧ d < sn S then (if a < b ∧ 0 ≤ v ∧ v < sp S then (stU (stW S (wpu S a.toNat b.toNat d.toNat v)) 0 0, 1) else (stU S 0 5, 0)) else (stU S 0 2, 0)
theorem c_put {f : Int32 → JM Mem τ} {Q : τ → Mem → NM → Prop} (hR : CR M N c S) (ha : zR a) (hb : zR b) (hd : zR d) (hv : zR v) (h : cPost M N c (a_put S a b d v).1 (f (zI (a_put S a b d v).2)) Q) : GN M N (jb (jcall 0 c (f_X0_put c (zI a) (zI b) (zI d) (zI v))) f) Q := by
  have hn5 : sn S ≤ 5 := hR.w.n5
  have hpb := hR.w.pb
  refine w_Cc hR.cl ?_
  unfold f_X0_put
  refine c_bases hR ha hb hd (fun e => ?_) (fun e => ?_)
  · unfold X0_put_b24
    rw [z_2]
    exact c_is0 hR h ⟨by omega, by omega⟩ (by omega) (if_neg e)
  · unfold a_put at h
    rw [if_pos e] at h
    have h5 : ¬ (a < b ∧ 0 ≤ v ∧ v < sp S) → GN M N (X0_put_b52 c) (fun v M1 N1 => GN M1 N1 (f v) Q) := fun x => by
      unfold X0_put_b52
      rw [z_5]
      exact c_is0 hR h ⟨by omega, by omega⟩ (by omega) (if_neg x)
    rw [z_0]
    refine w_le hb ha (fun e1 => h5 (by omega)) (fun e1 => ?_)
    refine w_lt hv ⟨by omega, by omega⟩ (fun e2 => h5 (by omega)) (fun e2 => ?_)
    refine w_Cf hR.cl rfl (w_Wp hR.cl.w6 ?_)
    rw [hR.w.pe]
    refine w_lt hv ⟨by omega, by omega⟩ (fun e3 => ?_) (fun e3 => h5 (by omega))
    rw [if_pos ⟨e1, e2, e3⟩] at h
    obtain ⟨a, rfl⟩ : ∃ x : Nat, a = x := ⟨a.toNat, by omega⟩
    obtain ⟨b, rfl⟩ : ∃ x : Nat, b = x := ⟨b.toNat, by omega⟩
    obtain ⟨d, rfl⟩ : ∃ x : Nat, d = x := ⟨d.toNat, by omega⟩
    refine w_Cf hR.cl rfl ?_
    have hD : WD N (c + 6) (sp S) (sn S) (altT (sp S) (sn S) (sT S)) := by
      rw [altT_self hR.w.ok]
      exact hR.w
    refine w_cset hR.cl.w6 hD (by omega) (by omega) (by omega) (by omega) (fun N1 d1 f1 => ?_)
    exact c_is00 hR.cl (c_finW (y := wpu S a b d v) hR (Bg.rf hR.cl) (CFw.of (fun x hx => f1 x (by omega))) d1 h)
theorem m_put {f : Int32 → JM Mem τ} {Q : τ → Mem → NM → Prop} (hR : MR M N m S) (ha : zR a) (hb : zR b) (hd : zR d) (hv : zR v) (h : mPost M N m (a_put S a b d v).1 (f (zI (a_put S a b d v).2)) Q) : GN M N (jb (jcall 7 m (f_X8_put m (zI a) (zI b) (zI d) (zI v))) f) Q := by
  refine w_Mc hR.ml ?_
  unfold f_X8_put
  refine m_beg hR (fun M1 N1 hS hM hA => ?_)
  have hR1 := hR.be hS
  have hFm : MFm m M N M1 N1 := MFm.stw hS MFr.rf.tw
  have hn5 := hA.n5
  have hpb := hA.pb
  refine m_bases hM hA.ne hn5 ha hb hd (fun e => ?_) (fun e => ?_)
  · unfold X8_put_b38
    rw [z_2]
    exact m_no hM hR1 hFm h (by rw [stU_2]; exact if_neg e)
  · unfold a_put at h
    rw [if_pos e] at h
    have h5 : ¬ (a < b ∧ 0 ≤ v ∧ v < sp S) → GN M1 N1 (X8_put_b66 m) (fun v M1 N1 => GN M1 N1 (f v) Q) := fun x => by
      unfold X8_put_b66
      rw [z_5]
      exact m_no hM hR1 hFm h (by rw [stU_2]; exact if_neg x)
    refine w_le hb ha (fun e1 => h5 (by omega)) (fun e1 => ?_)
    refine w_MI hM ?_
    rw [hA.pe, z_1, zI_sub, zL_int hv, zL_int ⟨by omega, by omega⟩, show (0 : Int64) = zL 0 from rfl]
    refine w_isIn (zRL_of hv) ⟨by omega, by omega⟩ ⟨by omega, by omega⟩ ?_
    rw [z_0]
    by_cases e2 : 0 ≤ v ∧ v ≤ sp S - 1
    case neg =>
      rw [if_neg e2]
      exact w_eq ⟨by omega, by omega⟩ ⟨by omega, by omega⟩ (fun _ => h5 (by omega)) (fun x => absurd rfl x)
    rw [if_pos e2]
    refine w_eq ⟨by omega, by omega⟩ ⟨by omega, by omega⟩ (fun x => absurd x (by decide)) (fun _ => ?_)
    rw [if_pos ⟨e1, e2.1, by omega⟩] at h
    obtain ⟨a, rfl⟩ : ∃ x : Nat, a = x := ⟨a.toNat, by omega⟩
    obtain ⟨b, rfl⟩ : ∃ x : Nat, b = x := ⟨b.toNat, by omega⟩
    obtain ⟨d, rfl⟩ : ∃ x : Nat, d = x := ⟨d.toNat, by omega⟩
    have h5' := hM.ka (o := 5) (d := (0, 3440)) rfl
    have hW : WC N1 (m + 5) 0 (sp S) (sn S) (altT (sp S) (sn S) (sT S)) := by
      rw [altT_self hA.ok]
      exact hR1.wm
    refine w_Mf hM rfl ?_
    refine w_mset (B := 0) h5' (by omega) hW hA.pr hn5 (by omega) (by omega) (by omega) (by omega) (fun N2 d2 f2 l2 => ?_)
    exact w_jp (m_finW (y := wpu S a b d v) hR hS (MFw.of (fun x h1 _ => f2 x h1) (fun l hl => l2 l (by omega))) ⟨d2, altT_ok hA.pr ⟨hA.n1, hn5⟩⟩ h)
noncomputable def a_brk (S : St) (u v : Int) : Int × Int := if (0 ≤ u ∧ u < sp S ^ sn S) ∧ 0 ≤ v ∧ v < sp S ^ sn S then (evu (sp S) (bkm (sp S) (sn S) (sT S) (dgv (sp S) (sn S) u) (dgv (sp S) (sn S) v)) (sn S) 0, 0) else (-1, 2)
theorem c_bracket {f : Int32 → JM Mem τ} {Q : τ → Mem → NM → Prop} (hR : CR M N c S) (hu : zR u) (hv : zR v) (h : cPost M N c (stU S 0 (a_brk S u v).2) (f (zI (a_brk S u v).1)) Q) : GN M N (jb (jcall 0 c (f_X0_bracket c (zI u) (zI v))) f) Q := by
  have hpb := hR.w.pb
  have hn5 : sn S ≤ 5 := hR.w.n5
  have h72 := hR.cl.ka (o := 72) (d := (0, 5)) rfl
  have h73 := hR.cl.ka (o := 73) (d := (0, 5)) rfl
  have h74 := hR.cl.ka (o := 74) (d := (0, 5)) rfl
  refine w_Cc hR.cl ?_
  unfold f_X0_bracket
  have hbad : ¬ ((0 ≤ u ∧ u < sp S ^ sn S) ∧ 0 ≤ v ∧ v < sp S ^ sn S) → GN M N (X0_bracket_b18 c) (fun v M1 N1 => GN M1 N1 (f v) Q) := fun e => by
    unfold X0_bracket_b18
    rw [z_2]
    exact c_bad (f := fun v => jp v) hR (fun M' N' a b => w_jp (h M' N' a b)) (if_neg e)
  refine c_vec (f := f) hR hu (fun e => hbad (fun x => e x.1)) (fun e1 e1' => ?_)
  refine c_vec (f := f) hR hv (fun e => hbad (fun x => e x.2)) (fun e2 e2' => ?_)
  rw [show a_brk S u v = _ from if_pos ⟨e1, e2⟩] at h
  refine w_Cf hR.cl rfl (w_Cf hR.cl rfl ?_)
  refine w_parts hR.cl.w6 hR.w (by omega) h72 (by omega) (by omega) ?_
  have f1 : ∀ b, b ≠ c + 72 → b ≠ c + 73 → b ≠ c + 74 → wr5 N (c + 72) (fun k => if k < sn S then dg (sp S) u k else 0) b = N b := fun b a1 _ _ => wr5_ne a1
  have x1 : VD (wr5 N (c + 72) (fun k => if k < sn S then dg (sp S) u k else 0)) (c + 72) (sp S) (sn S) (dgv (sp S) (sn S) u) := ⟨fun k hk => wr5_at hk, fun k => dgv_bd (by omega) k⟩
  generalize wr5 N (c + 72) (fun k => if k < sn S then dg (sp S) u k else 0) = N1 at f1 x1
  have hD : ∀ N1 : NM, (∀ b, b ≠ c + 72 → b ≠ c + 73 → b ≠ c + 74 → N1 b = N b) → WD N1 (c + 6) (sp S) (sn S) (sT S) := fun N1 g => hR.w.fr (fun b h1 h2 => g b (by omega) (by omega) (by omega))
  refine w_Cf hR.cl rfl (w_Cf hR.cl rfl ?_)
  refine w_parts hR.cl.w6 (hD N1 f1) (by omega) h73 (by omega) (by omega) ?_
  have f2 : ∀ b, b ≠ c + 72 → b ≠ c + 73 → b ≠ c + 74 → wr5 N1 (c + 73) (fun k => if k < sn S then dg (sp S) v k else 0) b = N b := fun b a1 a2 a3 => by rw [wr5_ne a2, f1 b a1 a2 a3]
  have y2 : VD (wr5 N1 (c + 73) (fun k => if k < sn S then dg (sp S) v k else 0)) (c + 73) (sp S) (sn S) (dgv (sp S) (sn S) v) := ⟨fun k hk => wr5_at hk, fun k => dgv_bd (by omega) k⟩
  have x2 : VD (wr5 N1 (c + 73) (fun k => if k < sn S then dg (sp S) v k else 0)) (c + 72) (sp S) (sn S) (dgv (sp S) (sn S) u) := x1.fr (wr5_ne (by omega))
  generalize wr5 N1 (c + 73) (fun k => if k < sn S then dg (sp S) v k else 0) = N2 at f2 x2 y2
  refine w_Cf hR.cl rfl (w_Cf hR.cl rfl (w_Cf hR.cl rfl (w_Cf hR.cl rfl ?_)))
  refine w_wbracket hR.cl.w6 (hD N2 f2) h72 (by omega) h73 (by omega) h74 (by omega) x2 y2 (by omega) (by omega) (by omega) ?_
  have f3 : ∀ b, b ≠ c + 72 → b ≠ c + 73 → b ≠ c + 74 → wr5 N2 (c + 74) (fun k => bk (sn S) (sT S) (dgv (sp S) (sn S) u) (dgv (sp S) (sn S) v) k % sp S) b = N b := fun b a1 a2 a3 => by rw [wr5_ne a3, f2 b a1 a2 a3]
  have z3 : VD (wr5 N2 (c + 74) (fun k => bk (sn S) (sT S) (dgv (sp S) (sn S) u) (dgv (sp S) (sn S) v) k % sp S)) (c + 74) (sp S) (sn S) (bkm (sp S) (sn S) (sT S) (dgv (sp S) (sn S) u) (dgv (sp S) (sn S) v)) := ⟨fun k hk => wr5_at hk, bkm_bd hR.w.ok⟩
  generalize wr5 N2 (c + 74) (fun k => bk (sn S) (sT S) (dgv (sp S) (sn S) u) (dgv (sp S) (sn S) v) k % sp S) = N3 at f3 z3
  refine w_Cf hR.cl rfl (w_Cf hR.cl rfl ?_)
  refine w_vector hR.cl.w6 (hD N3 f3) h74 (by omega) z3 ?_
  exact w_gives hR.cl (w_jp (c_fin hR (Bg.rf hR.cl) (CFr.of (fun b hb => f3 b (by omega) (by omega) (by omega))) h))
theorem m_bracket {f : Int32 → JM Mem τ} {Q : τ → Mem → NM → Prop} (hR : MR M N m S) (hu : zR u) (hv : zR v) (h : mPost M N m (stU S 0 (a_brk S u v).2) (f (zI (a_brk S u v).1)) Q) : GN M N (jb (jcall 7 m (f_X8_bracket m (zI u) (zI v))) f) Q := by
  refine w_Mc hR.ml ?_
  unfold f_X8_bracket
  refine m_beg hR (fun M1 N1 hS hM hA => ?_)
  have hpb := hA.pb
  have hn5 := hA.n5
  have h14 := hM.ka (o := 14) (d := (0, 5)) rfl
  have h15 := hM.ka (o := 15) (d := (0, 5)) rfl
  have h16 := hM.ka (o := 16) (d := (0, 5)) rfl
  have hbad : ¬ ((0 ≤ u ∧ u < sp S ^ sn S) ∧ 0 ≤ v ∧ v < sp S ^ sn S) → GN M1 N1 (X8_bracket_b32 m) (fun v M1 N1 => GN M1 N1 (f v) Q) := fun e => by
    unfold X8_bracket_b32
    rw [z_2]
    exact m_bad (f := fun v => jp v) hR hS MFr.rf (fun M' N' a b => w_jp (h M' N' a b)) (if_neg e)
  refine m_vec (f := f) hM hA hu (fun e => hbad (fun x => e x.1)) (fun e1 e1' => ?_)
  refine m_vec (f := f) hM hA hv (fun e => hbad (fun x => e x.2)) (fun e2 e2' => ?_)
  rw [show a_brk S u v = _ from if_pos ⟨e1, e2⟩] at h
  refine w_Mf hM rfl ?_
  rw [z_0]
  refine w_parts2 (o := 0) hM hA (by omega) h14 (by omega) (by omega) ?_
  have f1 : ∀ b, b ≠ m + 14 → b ≠ m + 15 → b ≠ m + 16 → wro N1 (m + 14) 0 (sn S) (dg (sp S) u) b = N1 b := fun b a1 _ _ => wro_ne a1
  have x1 : VM (wro N1 (m + 14) 0 (sn S) (dg (sp S) u)) (m + 14) 0 (sp S) (sn S) (dgv (sp S) (sn S) u) := ⟨fun k hk => by rw [wro_at hk]; exact (if_pos hk).symm, fun k => dgv_bd (by omega) k⟩
  generalize wro N1 (m + 14) 0 (sn S) (dg (sp S) u) = N2 at f1 x1
  have hA' : ∀ N2 : NM, (∀ b, b ≠ m + 14 → b ≠ m + 15 → b ≠ m + 16 → N2 b = N1 b) → MA M1 N2 m (m + 5) 0 (sp S) (sn S) (sT S) := fun N2 g => hA.fr (g _ (by omega) (by omega) (by omega)) (g _ (by omega) (by omega) (by omega))
  refine w_Mf hM rfl ?_
  refine w_parts2 (o := 0) hM (hA' N2 f1) (by omega) h15 (by omega) (by omega) ?_
  have f2 : ∀ b, b ≠ m + 14 → b ≠ m + 15 → b ≠ m + 16 → wro N2 (m + 15) 0 (sn S) (dg (sp S) v) b = N1 b := fun b a1 a2 a3 => by rw [wro_ne a2, f1 b a1 a2 a3]
  have y2 : VM (wro N2 (m + 15) 0 (sn S) (dg (sp S) v)) (m + 15) 0 (sp S) (sn S) (dgv (sp S) (sn S) v) := ⟨fun k hk => by rw [wro_at hk]; exact (if_pos hk).symm, fun k => dgv_bd (by omega) k⟩
  have x2 : VM (wro N2 (m + 15) 0 (sn S) (dg (sp S) v)) (m + 14) 0 (sp S) (sn S) (dgv (sp S) (sn S) u) := x1.fr (wro_ne (by omega))
  generalize wro N2 (m + 15) 0 (sn S) (dg (sp S) v) = N3 at f2 x2 y2
  refine w_Mf hM rfl (w_Mf hM rfl (w_Mf hM rfl ?_))
  refine w_bracketOf (oa := 0) (ob := 0) hM (hA' N3 f2) h14 (by omega) h15 (by omega) h16 (by omega) x2 y2 (by omega) (by omega) (by omega) (by omega) ?_
  have f3 : ∀ b, b ≠ m + 14 → b ≠ m + 15 → b ≠ m + 16 → wro N3 (m + 16) 0 (sn S) (fun k => bk (sn S) (sT S) (dgv (sp S) (sn S) u) (dgv (sp S) (sn S) v) k % sp S) b = N1 b := fun b a1 a2 a3 => by rw [wro_ne a3, f2 b a1 a2 a3]
  have z3 : VM (wro N3 (m + 16) 0 (sn S) (fun k => bk (sn S) (sT S) (dgv (sp S) (sn S) u) (dgv (sp S) (sn S) v) k % sp S)) (m + 16) 0 (sp S) (sn S) (bkm (sp S) (sn S) (sT S) (dgv (sp S) (sn S) u) (dgv (sp S) (sn S) v)) := ⟨fun k hk => wro_at hk, bkm_bd hA.ok⟩
  generalize wro N3 (m + 16) 0 (sn S) (fun k => bk (sn S) (sT S) (dgv (sp S) (sn S) u) (dgv (sp S) (sn S) v) k % sp S) = N4 at f3 z3
  refine w_Mf hM rfl ?_
  refine w_numberOfVector (o := 0) hM (hA' N4 f3) h16 (by omega) z3 ?_
  exact w_jp (m_fin0 hR hS (MFr.of (fun b hb => f3 b (by omega) (by omega) (by omega))) h)
end OPS20
