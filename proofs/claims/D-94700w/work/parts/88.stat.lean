/-! STATUS, on both sides. -/
set_option maxRecDepth 100000
section STAT
variable {α τ : Type} {M : Mem} {N : NM} {c m : Nat} {v : Int}
theorem w_gives {f : Int32 → JM Mem τ} {Q : τ → Mem → NM → Prop} (hC : CL M c) (h : GN M (up2 N c 8 0) (f (zI v)) Q) : GN M N (jb (jcall 0 c (f_X0_gives c (zI v))) f) Q := by
  refine w_Cc hC ?_
  unfold f_X0_gives
  rw [z_0]
  exact w_Cput hC (w_jp h)
theorem w_none {f : Int32 → JM Mem τ} {Q : τ → Mem → NM → Prop} (hC : CL M c) (h : GN M (up2 N c 8 v) (f (zI (-1))) Q) : GN M N (jb (jcall 0 c (f_X0_none c (zI v))) f) Q := by
  refine w_Cc hC ?_
  unfold f_X0_none
  exact w_Cput hC (w_jp h)
theorem w_is0 {f : Int32 → JM Mem τ} {Q : τ → Mem → NM → Prop} (hC : CL M c) (hv : zR v) (h : GN M (up2 N c 8 v) (f (zI (if v = 0 then 1 else 0))) Q) : GN M N (jb (jcall 0 c (f_X0_is0 c (zI v))) f) Q := by
  refine w_Cc hC ?_
  unfold f_X0_is0
  refine w_Cput hC ?_
  rw [z_0, z_1]
  refine w_eq hv ⟨by omega, by omega⟩ (fun e => ?_) (fun e => ?_)
  · rw [if_pos e] at h; exact w_jp h
  · rw [if_neg e] at h; exact w_jp h
theorem w_refuse {f : Int32 → JM Mem τ} {Q : τ → Mem → NM → Prop} (hM : ML M m) (h : GN M (up2 N m 0 v) (f (zI (-1))) Q) : GN M N (jb (jcall 7 m (f_X8_refuse m (zI v))) f) Q := by
  refine w_Mc hM ?_
  unfold f_X8_refuse
  exact w_Mput hM (w_jp h)
theorem w_no {f : Int32 → JM Mem τ} {Q : τ → Mem → NM → Prop} (hM : ML M m) (h : GN M (up2 N m 0 v) (f (zI 0)) Q) : GN M N (jb (jcall 7 m (f_X8_no m (zI v))) f) Q := by
  refine w_Mc hM ?_
  unfold f_X8_no
  rw [z_0]
  exact w_Mput hM (w_jp h)
end STAT
