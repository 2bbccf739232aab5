/-! OPS, first part. -/
set_option maxRecDepth 100000
section OPS1
variable {α τ : Type} {M M' M1 : Mem} {N N' N1 : NM} {c m i : Nat} {u v : Int} {S S' : St} {p : Int} {n : Nat} {T : Nat → Nat → Nat → Int}
abbrev sp (S : St) : Int := S.1.1.1
abbrev sn (S : St) : Nat := S.1.1.2.1
abbrev sT (S : St) : Nat → Nat → Nat → Int := S.1.1.2.2
theorem CR.w (h : CR M N c S) : WD N (c + 6) (sp S) (sn S) (sT S) := h.2.1.1
/-- what follows an op, for all that the op may leave -/
abbrev cPost (M : Mem) (N : NM) (c : Nat) (S' : St) (g : JM Mem τ) (Q : τ → Mem → NM → Prop) : Prop := ∀ M' N', CR M' N' c S' → CFm c M N M' N' → GN M' N' g Q
abbrev mPost (M : Mem) (N : NM) (m : Nat) (S' : St) (g : JM Mem τ) (Q : τ → Mem → NM → Prop) : Prop := ∀ M' N', MR M' N' m S' → MFm m M N M' N' → GN M' N' g Q
theorem stU_2 : stU (stU S i u) i v = stU S i v := by
  unfold stU
  congr
  funext k
  show (if k = i then v else if k = i then u else S.2.2.2.2 k) = _
  split <;> rfl
theorem stU_self (h : S.2.2.2.2 i = v) : stU S i v = S := by
  obtain ⟨a, b, d, e, f⟩ := S
  show (a, b, d, e, fun k => if k = i then v else f k) = (a, b, d, e, f)
  congr
  funext k
  by_cases hk : k = i
  · rw [if_pos hk, hk]; exact h.symm
  · rw [if_neg hk]
theorem c_fin {g : JM Mem τ} {Q : τ → Mem → NM → Prop} (hR : CR M N c S) (hB : Bg c M M') (hF : CFr c N N') (h : cPost M N c (stU S 0 v) g Q) : GN M' (up2 N' c 8 v) g Q :=
  h M' _ ((hR.sc hB hF).st v) ((CFm.of hB hF).st v)
theorem c_fin0 {g : JM Mem τ} {Q : τ → Mem → NM → Prop} (hR : CR M N c S) (h : cPost M N c (stU S 0 v) g Q) : GN M (up2 N c 8 v) g Q := c_fin hR (Bg.rf hR.cl) CFr.rf h
theorem MFm.st (hS : MSt M N m p n T M1 N1) (hF : MFr m N1 N') : MFm m M N M1 N' := MFm.bg hS.1 (fun b hb => by rw [hF.1 b (by omega), hS.2.2.2.1 b (by omega)])
theorem MFm.up (h : MFm m M N M' N') {k : Nat} : MFm m M N M' (up2 N' m k v) := ⟨fun b hb => by
  rw [← h.1 b hb]
  exact funext fun k => if_neg (fun e => by omega), h.2⟩
theorem m_fin0 {g : JM Mem τ} {Q : τ → Mem → NM → Prop} (hR : MR M N m S) (hS : MSt M N m (sp S) (sn S) (sT S) M1 N1) (hF : MFr m N1 N') (h : mPost M N m (stU S 0 0) g Q) : GN M1 N' g Q :=
  h M1 N' ((hR.be hS).sc hF) (MFm.st hS hF)
theorem m_fin {g : JM Mem τ} {Q : τ → Mem → NM → Prop} (hR : MR M N m S) (hS : MSt M N m (sp S) (sn S) (sT S) M1 N1) (hF : MFr m N1 N') (h : mPost M N m (stU S 0 v) g Q) : GN M1 (up2 N' m 0 v) g Q :=
  h M1 _ (by have := ((hR.be hS).sc hF).st v; rw [stU_2] at this; exact this) (MFm.st hS hF).up
theorem m_beg {f : Unit → JM Mem τ} {Q : τ → Mem → NM → Prop} (hR : MR M N m S) (h : ∀ M' N', MSt M N m (sp S) (sn S) (sT S) M' N' → ML M' m → MA M' N' m (m + 5) 0 (sp S) (sn S) (sT S) → GN M' N' (f ()) Q) : GN M N (jb (jputI 7 1 m 0) fun _ => jb (jputI 7 0 m 0) fun _ => jb (jcall 7 m (f_X8_askNow m)) f) Q :=
  w_mbegin hR.ml hR.wm hR.ok (fun M' N' hS => h M' N' hS (hR.ml.bg hS.1) hS.2.2.1)
/-- an op that asks no world -/
theorem m_beg0 {f : Unit → JM Mem τ} {Q : τ → Mem → NM → Prop} (hR : MR M N m S) (h : ∀ N', MR M N' m (stU S 0 0) → MFm m M N M N' → GN M N' (f ()) Q) : GN M N (jb (jputI 7 1 m 0) fun _ => jb (jputI 7 0 m 0) f) Q := by
  rw [z_0]
  refine w_Mput hR.ml (w_Mput hR.ml ?_)
  rw [hR.thr]
  exact h _ (hR.st 0) MFm.rf.up
-- single numbers
theorem c_status {f : Int32 → JM Mem τ} {Q : τ → Mem → NM → Prop} (hR : CR M N c S) (h : cPost M N c S (f (zI (S.2.2.2.2 0))) Q) : GN M N (jb (jcall 0 c (f_X0_status c)) f) Q := by
  refine w_Cc hR.cl ?_
  unfold f_X0_status
  refine w_CI hR.cl (w_jp ?_)
  rw [hR.2.2.2.2.2.1.1]
  exact h M N hR (CFm.of (Bg.rf hR.cl) CFr.rf)
theorem m_status {f : Int32 → JM Mem τ} {Q : τ → Mem → NM → Prop} (hR : MR M N m S) (h : mPost M N m S (f (zI (S.2.2.2.2 0))) Q) : GN M N (jb (jcall 7 m (f_X8_status m)) f) Q := by
  refine w_Mc hR.ml ?_
  unfold f_X8_status
  rw [z_0]
  refine w_Mput hR.ml ?_
  rw [hR.thr]
  refine w_MI hR.ml (w_jp ?_)
  rw [hR.2.2.2.2.2.1]
  exact h M N hR MFm.rf
theorem c_top {f : Int64 → JM Mem τ} {Q : τ → Mem → NM → Prop} (hR : CR M N c S) (h : cPost M N c S (f (zL (S.2.2.2.2 3))) Q) : GN M N (jb (jcall 0 c (f_X0_top c)) f) Q := by
  refine w_Cc hR.cl ?_
  unfold f_X0_top
  refine w_getL hR.cl.kc (w_jp ?_)
  rw [hR.2.2.2.2.2.1.2.2.2.1]
  exact h M N hR (CFm.of (Bg.rf hR.cl) CFr.rf)
theorem m_top {f : Int64 → JM Mem τ} {Q : τ → Mem → NM → Prop} (hR : MR M N m S) (h : mPost M N m S (f (zL (S.2.2.2.2 3))) Q) : GN M N (jb (jcall 7 m (f_X8_top m)) f) Q := by
  refine w_Mc hR.ml ?_
  unfold f_X8_top
  rw [z_0]
  refine w_Mput hR.ml ?_
  rw [hR.thr]
  refine w_getL hR.ml.km (w_jp ?_)
  rw [hR.2.2.2.2.2.2.2.2.2.1]
  exact h M N hR MFm.rf
theorem c_bottom {f : Int64 → JM Mem τ} {Q : τ → Mem → NM → Prop} (hR : CR M N c S) (h : cPost M N c S (f (zL (S.2.2.2.2 4))) Q) : GN M N (jb (jcall 0 c (f_X0_bottom c)) f) Q := by
  refine w_Cc hR.cl ?_
  unfold f_X0_bottom
  refine w_getL hR.cl.kc (w_jp ?_)
  rw [hR.2.2.2.2.2.1.2.2.2.2.1]
  exact h M N hR (CFm.of (Bg.rf hR.cl) CFr.rf)
theorem m_bottom {f : Int64 → JM Mem τ} {Q : τ → Mem → NM → Prop} (hR : MR M N m S) (h : mPost M N m S (f (zL (S.2.2.2.2 4))) Q) : GN M N (jb (jcall 7 m (f_X8_bottom m)) f) Q := by
  refine w_Mc hR.ml ?_
  unfold f_X8_bottom
  rw [z_0]
  refine w_Mput hR.ml ?_
  rw [hR.thr]
  refine w_getL hR.ml.km (w_jp ?_)
  rw [hR.2.2.2.2.2.2.2.2.2.2.1]
  exact h M N hR MFm.rf
def a_fault (S : St) (v : Int) : Int := if v = 0 then S.2.2.2.2 1 else if v = 1 then S.2.2.2.2 2 else -1
theorem c_fault {f : Int32 → JM Mem τ} {Q : τ → Mem → NM → Prop} (hR : CR M N c S) (hv : zR v) (h : cPost M N c S (f (zI (a_fault S v))) Q) : GN M N (jb (jcall 0 c (f_X0_fault c (zI v))) f) Q := by
  have := h M N hR (CFm.of (Bg.rf hR.cl) CFr.rf)
  unfold a_fault at this
  refine w_Cc hR.cl ?_
  unfold f_X0_fault
  rw [z_m1, z_0, z_1]
  refine w_eq hv ⟨by omega, by omega⟩ (fun e => ?_) (fun e => ?_)
  · rw [if_pos e] at this
    refine w_CI hR.cl (w_jp ?_)
    rw [hR.2.2.2.2.2.1.2.1]
    exact this
  rw [if_neg e] at this
  refine w_eq hv ⟨by omega, by omega⟩ (fun e => ?_) (fun e => ?_)
  · rw [if_pos e] at this
    refine w_CI hR.cl (w_jp ?_)
    rw [hR.2.2.2.2.2.1.2.2.1]
    exact this
  · rw [if_neg e] at this
    exact w_jp this
theorem m_fault {f : Int32 → JM Mem τ} {Q : τ → Mem → NM → Prop} (hR : MR M N m S) (hv : zR v) (h : mPost M N m S (f (zI (a_fault S v))) Q) : GN M N (jb (jcall 7 m (f_X8_fault m (zI v))) f) Q := by
  have := h M N hR MFm.rf
  unfold a_fault at this
  refine w_Mc hR.ml ?_
  unfold f_X8_fault
  rw [z_m1, z_0, z_1]
  refine w_Mput hR.ml ?_
  rw [hR.thr]
  refine w_eq hv ⟨by omega, by omega⟩ (fun e => ?_) (fun e => ?_)
  · rw [if_pos e] at this
    refine w_MI hR.ml (w_jp ?_)
    rw [hR.2.2.2.2.2.2.2.1]
    exact this
  rw [if_neg e] at this
  refine w_eq hv ⟨by omega, by omega⟩ (fun e => ?_) (fun e => ?_)
  · rw [if_pos e] at this
    refine w_MI hR.ml (w_jp ?_)
    rw [hR.2.2.2.2.2.2.2.2.1]
    exact this
  · rw [if_neg e] at this
    exact w_jp this
theorem c_tries {f : Int32 → JM Mem τ} {Q : τ → Mem → NM → Prop} (hR : CR M N c S) (hO : StOk S) (h : cPost M N c (stU S 0 (if S.2.2.2.2 5 = -1 then 8 else 0)) (f (zI (S.2.2.2.2 5))) Q) : GN M N (jb (jcall 0 c (f_X0_tries c)) f) Q := by
  obtain ⟨_, _, h1, h2, _⟩ := hO
  refine w_Cc hR.cl ?_
  unfold f_X0_tries
  refine w_CI hR.cl ?_
  rw [hR.2.2.2.2.2.1.2.2.2.2.2.1, z_m1, show (8 : Int32) = zI 8 from rfl]
  refine w_eq ⟨by omega, by omega⟩ ⟨by omega, by omega⟩ (fun e => ?_) (fun e => ?_)
  · rw [if_pos e, e] at h
    exact w_none hR.cl (w_jp (c_fin0 hR h))
  · rw [if_neg e] at h
    refine w_CI hR.cl ?_
    rw [hR.2.2.2.2.2.1.2.2.2.2.2.1]
    exact w_gives hR.cl (w_jp (c_fin0 hR h))
theorem m_tries {f : Int32 → JM Mem τ} {Q : τ → Mem → NM → Prop} (hR : MR M N m S) (hO : StOk S) (h : mPost M N m (stU S 0 (if S.2.2.2.2 5 = -1 then 8 else 0)) (f (zI (S.2.2.2.2 5))) Q) : GN M N (jb (jcall 7 m (f_X8_tries m)) f) Q := by
  obtain ⟨_, _, h1, h2, _⟩ := hO
  refine w_Mc hR.ml ?_
  unfold f_X8_tries
  refine m_beg0 hR (fun N1 hR1 hF => ?_)
  refine w_MI hR.ml ?_
  rw [hR1.2.2.2.2.2.2.2.2.2.2.2.1, show (stU S 0 0).2.2.2.2 5 = S.2.2.2.2 5 from rfl, z_0, show (8 : Int32) = zI 8 from rfl]
  refine w_le ⟨by omega, by omega⟩ ⟨by omega, by omega⟩ (fun e => ?_) (fun e => ?_)
  · rw [if_neg (by omega)] at h
    refine w_MI hR.ml (w_jp ?_)
    rw [hR1.2.2.2.2.2.2.2.2.2.2.2.1]
    exact h M N1 hR1 hF
  · have e5 : S.2.2.2.2 5 = -1 := by omega
    rw [if_pos e5, e5] at h
    refine w_refuse hR.ml (w_jp (h M _ ?_ hF.up))
    have := hR1.st 8
    rw [stU_2] at this
    exact this
end OPS1
