/-! J rows over the typed memory: fields, arrays. -/
set_option maxRecDepth 100000
section JMEM
/-- the invariant of a walk; β: cells may be made -/
def jstd (D : va_G) (dA : Nat → ClassId) (β : Bool) (R : Room) (A : Nat → Prop) (H0 : Heap) : Mem → Heap → List Loc → Nat → Nat → Prop := fun M H locs cells slots =>
  Rel D dA M H ∧ va_S A H0 H locs ∧ (∀ a, (mK M a).isSome = true → A a) ∧ (match β with
    | true => cells + mC M ≤ R.cells ∧ slots + mS M ≤ R.slots
    | false => cells = 0 ∧ slots = 0)
def PM (D : va_G) (dA : Nat → ClassId) (β : Bool) (Γ : JC Mem) : Prop := ∃ (A : Nat → Prop) (H0 : Heap), jcI Γ = jstd D dA β (jcR Γ) A H0 ∧ KK D dA (jcS Γ) ∧ (∀ q, H0.size ≤ q → A q) ∧ FG dA A (jcS Γ) H0
theorem rel_P {D : va_G} {dA : Nat → ClassId} {M : Mem} {H : Heap} (h : Rel D dA M H) {a : Nat} {d : Kd} (ha : mK M a = some d) : va_P D jcl [(a, jent dA M a d)] H := by
  intro k q hq
  cases k with
  | zero => cases hq; exact (h.2.2 a d ha).2
  | succ k => simp at hq
theorem rel_P2 {D : va_G} {dA : Nat → ClassId} {M : Mem} {H : Heap} (h : Rel D dA M H) {a b : Nat} {d d2 : Kd} (ha : mK M a = some d) (hb : mK M b = some d2) : va_P D jcl [(a, jent dA M a d), (b, jent dA M b d2)] H := by
  intro k q hq
  match k, hq with
  | 0, hq => cases hq; exact (h.2.2 a d ha).2
  | 1, hq => cases hq; exact (h.2.2 b d2 hb).2
  | k + 2, hq => simp at hq
theorem rel_upd {D : va_G} {dA : Nat → ClassId} {M M' : Mem} {H H' : Heap} {a : Nat} {d : Kd} (h : Rel D dA M H) (ha : mK M a = some d) (hz : H'.size = H.size) (he : ∀ q, q ≠ a → H'[q]? = H[q]?) (hc : va_at D jcl (a, jent dA M' a d) H') (hK : mK M' = mK M) (hZ : mZ M' = mZ M) (hT : mT M' = mT M) (ho : ∀ b d2, b ≠ a → jent dA M' b d2 = jent dA M b d2) : Rel D dA M' H' := by
  refine ⟨by rw [hz, hZ]; exact h.1, by rw [hT]; exact h.2.1, fun b d2 hb => ?_⟩
  rw [hK] at hb
  obtain ⟨h1, h2⟩ := h.2.2 b d2 hb
  refine ⟨h1, ?_⟩
  by_cases e : b = a
  · subst e
    cases Option.some.inj (hb.symm.trans ha)
    exact hc
  · rw [ho b d2 e]
    exact h2.kept (he b e)
theorem std_upd {D : va_G} {dA : Nat → ClassId} {β : Bool} {R : Room} {A : Nat → Prop} {H0 : Heap} {M M' : Mem} {H H' : Heap} {locs : List Loc} {cells slots : Nat} {a i : Nat} {d : Kd} (h : jstd D dA β R A H0 M H locs cells slots) (ha : mK M a = some d) (hz : H'.size = H.size) (he : ∀ q, q ≠ a → H'[q]? = H[q]?) (hc : va_at D jcl (a, jent dA M' a d) H') (hK : mK M' = mK M) (hZ : M'.2.2.2.2 = M.2.2.2.2) (ho : ∀ b d2, b ≠ a → jent dA M' b d2 = jent dA M b d2) : jstd D dA β R A H0 M' H' (locs ++ [⟨a, i⟩]) cells slots := by
  obtain ⟨h1, h2, h3, h4⟩ := h
  refine ⟨rel_upd h1 ha hz he hc hK (by show M'.2.2.2.2.1 = _; rw [hZ]) (by show M'.2.2.2.2.2.2.2 = _; rw [hZ]) ho, h2.put hz he (h3 a (by rw [ha]; rfl)), by rw [hK]; exact h3, ?_⟩
  cases β with
  | false => exact h4
  | true => show _ + M'.2.2.2.2.2.1 ≤ _ ∧ _ + M'.2.2.2.2.2.2.1 ≤ _; rw [hZ]; exact h4
variable {τ : Type} {D : va_G} {dA : Nat → ClassId} {β : Bool} {Y : JY} {env env' : List (Nat × Value)} {pu : List Value} {pc : Nat} {F : JF Mem τ}
/-- a field's entry in a class's pool: field k of class c -/
def JFL (own : String) (idx c k : Nat) : Prop := c < 9 ∧ k < jN c ∧ ∃ ref : String,
  (∀ (args : Array Value) (s : State), (∀ w ∈ lw_all, w.before args s = true) → ∀ x, s.fieldFound? (jT c k).1 (jT c k).2.1 (jT c k).2.2.1 = some x → s.fieldFound? ref (jT c k).2.1 (jT c k).2.2.1 = some x) ∧
  (Cond.fieldLink own idx ref (jT c k).2.1 (jT c k).2.2.1 ∈ lw_all ∨ ∃ host, Cond.fieldLinkNest own idx ref (jT c k).2.1 (jT c k).2.2.1 host ∈ jnw)
theorem jfl {own : String} {idx c k : Nat} (hc : c < 9) (hk : k < jN c) (h : Cond.fieldLink own idx (jT c k).1 (jT c k).2.1 (jT c k).2.2.1 ∈ lw_all) : JFL own idx c k := ⟨hc, hk, _, fun _ _ _ _ h => h, Or.inl h⟩
theorem jflS {own ref : String} {idx c k : Nat} (hc : c < 9) (hk : k < jN c) (hs : Cond.sameField ref (jT c k).1 (jT c k).2.1 (jT c k).2.2.1 ∈ lw_all) (h : Cond.fieldLink own idx ref (jT c k).2.1 (jT c k).2.2.1 ∈ lw_all) : JFL own idx c k := ⟨hc, hk, ref, fun _ _ ht x hx => u_same (ht _ hs) x hx, Or.inl h⟩
theorem jflN {own host : String} {idx c k : Nat} (hc : c < 9) (hk : k < jN c) (h : Cond.fieldLinkNest own idx (jT c k).1 (jT c k).2.1 (jT c k).2.2.1 host ∈ lw_tbl) : JFL own idx c k := ⟨hc, hk, _, fun _ _ _ _ h => h, Or.inr ⟨host, jnw_in h rfl⟩⟩
theorem jent_get {M : Mem} {a c k : Nat} (hk : k < jN c) : ((List.range (jN c)).map fun k => jval (jtag (jty c k)) M a k)[k]? = some (jval (jtag (jty c k)) M a k) := by
  rw [List.getElem?_map, List.getElem?_range hk]
  rfl
/-- a getfield as the machine does it -/
theorem J_getf {idx c k a : Nat} {f : JM Mem τ} {x : Mem} {v : Value} {Γ : JC Mem} (ok : JOk Y Γ) (hP : PM D dA β Γ) {H : Heap} {locs : List Loc} {cells slots : Nat} {ls : Array Slot} (hi : jcI Γ x H locs cells slots) (fl : JFL Y.2.1 idx c k) (hK : mK x a = some (.inl c)) (hv : jval (jtag (jty c k)) x a k = v) (hd : decode Y.1 pc = .ok (.getfield idx, 3))
    (h : W (jcP Γ) (jcL Γ) (jcE Γ) (jcR Γ) (jcS Γ) (jcM Γ) (jcA Γ) (jcB Γ) (jcH Γ) (jcC Γ) H locs cells slots (jcQ Γ) (F0 (jcM Γ) (pc + 3) ls (v :: pu))) : W (jcP Γ) (jcL Γ) (jcE Γ) (jcR Γ) (jcS Γ) (jcM Γ) (jcA Γ) (jcB Γ) (jcH Γ) (jcC Γ) H locs cells slots (jcQ Γ) (F0 (jcM Γ) pc ls (.ref a :: pu)) := by
  obtain ⟨A, H0, hI, hKK, hA, hFG⟩ := hP
  rw [hI] at hi
  obtain ⟨hc, hk, ref, hsame, hl⟩ := fl
  subst hv
  rcases hl with hl | ⟨host, hl⟩
  · exact va_get ok.exec ok.code ok.hts (jin hc) ok.own hKK.1 (rel_P hi.1 hK) 0 rfl (jcl_at hc) k hk (ok.hts _ hl) (hsame _ _ ok.hts) (jent_get hk) hd h
  · exact va_getN ok.exec ok.code ok.hts (jin hc) ok.own hKK.1 (rel_P hi.1 hK) 0 rfl (jcl_at hc) k hk (va_Nw.use rfl (hKK.2 _ hl)) (hsame _ _ ok.hts) (jent_get hk) hd h
def jgetI (c k a : Nat) : JM Mem Int32 := fun M => if mK M a = some (.inl c) then some (.ok (mI M a k), M) else none
def jgetL (c k a : Nat) : JM Mem Int64 := fun M => if mK M a = some (.inl c) then some (.ok (mL M a k), M) else none
def jgetO (c k a : Nat) : JM Mem (Option Nat) := fun M => if mK M a = some (.inl c) then some (.ok (mR M a k), M) else none
def jgetA (c k a : Nat) : JM Mem Nat := fun M => if mK M a = some (.inl c) then (match mR M a k with | some b => some (.ok b, M) | none => none) else none
theorem J_getI {idx c k a : Nat} {f : Int32 → JM Mem τ} (hd : decode Y.1 pc = .ok (.getfield idx, 3)) (fl : JFL Y.2.1 idx c k) (ht : jtag (jty c k) = 0) (h : ∀ v, J (PM D dA β) Y env (.int v :: pu) (pc + 3) (f v) F) : J (PM D dA β) Y env (.ref a :: pu) pc (jb (jgetI c k a) f) F := by
  intro Γ ok hP M r M' hk hv hq H locs cells slots ls hi hl
  by_cases hK : mK M a = some (.inl c)
  · rw [jb_ok (show jgetI c k a M = some (.ok (mI M a k), M) from if_pos hK)] at hk
    exact J_getf (f := f 0) ok hP hi fl hK (by rw [ht]; rfl) hd (h _ Γ ok hP M r M' hk hv hq H locs cells slots ls hi hl)
  · rw [jb_none (show jgetI c k a M = none from if_neg hK)] at hk
    cases hk
theorem J_getL {idx c k a : Nat} {f : Int64 → JM Mem τ} (hd : decode Y.1 pc = .ok (.getfield idx, 3)) (fl : JFL Y.2.1 idx c k) (ht : jtag (jty c k) = 1) (h : ∀ v, J (PM D dA β) Y env (.long v :: pu) (pc + 3) (f v) F) : J (PM D dA β) Y env (.ref a :: pu) pc (jb (jgetL c k a) f) F := by
  intro Γ ok hP M r M' hk hv hq H locs cells slots ls hi hl
  by_cases hK : mK M a = some (.inl c)
  · rw [jb_ok (show jgetL c k a M = some (.ok (mL M a k), M) from if_pos hK)] at hk
    exact J_getf (f := f 0) ok hP hi fl hK (by rw [ht]; rfl) hd (h _ Γ ok hP M r M' hk hv hq H locs cells slots ls hi hl)
  · rw [jb_none (show jgetL c k a M = none from if_neg hK)] at hk
    cases hk
theorem J_getO {idx c k a : Nat} {f : Option Nat → JM Mem τ} (hd : decode Y.1 pc = .ok (.getfield idx, 3)) (fl : JFL Y.2.1 idx c k) (ht : jtag (jty c k) = 2) (h : ∀ v, J (PM D dA β) Y env (va_rf v :: pu) (pc + 3) (f v) F) : J (PM D dA β) Y env (.ref a :: pu) pc (jb (jgetO c k a) f) F := by
  intro Γ ok hP M r M' hk hv hq H locs cells slots ls hi hl
  by_cases hK : mK M a = some (.inl c)
  · rw [jb_ok (show jgetO c k a M = some (.ok (mR M a k), M) from if_pos hK)] at hk
    exact J_getf (f := f none) ok hP hi fl hK (by rw [ht]; rfl) hd (h _ Γ ok hP M r M' hk hv hq H locs cells slots ls hi hl)
  · rw [jb_none (show jgetO c k a M = none from if_neg hK)] at hk
    cases hk
theorem J_getA {idx c k a : Nat} {f : Nat → JM Mem τ} (hd : decode Y.1 pc = .ok (.getfield idx, 3)) (fl : JFL Y.2.1 idx c k) (ht : jtag (jty c k) = 2) (h : ∀ v, J (PM D dA β) Y env (.ref v :: pu) (pc + 3) (f v) F) : J (PM D dA β) Y env (.ref a :: pu) pc (jb (jgetA c k a) f) F := by
  intro Γ ok hP M r M' hk hv hq H locs cells slots ls hi hl
  by_cases hK : mK M a = some (.inl c)
  · cases hR : mR M a k with
    | none =>
      rw [jb_none (show jgetA c k a M = none by unfold jgetA; rw [if_pos hK, hR])] at hk
      cases hk
    | some b =>
      rw [jb_ok (show jgetA c k a M = some (.ok b, M) by unfold jgetA; rw [if_pos hK, hR])] at hk
      exact J_getf (f := f 0) ok hP hi fl hK (by rw [ht]; show va_rf (mR M a k) = _; rw [hR]; rfl) hd (h _ Γ ok hP M r M' hk hv hq H locs cells slots ls hi hl)
  · rw [jb_none (show jgetA c k a M = none from if_neg hK)] at hk
    cases hk
/-- a putfield: as JFL, and the field may be written here -/
def JFP (Y : JY) (idx c k : Nat) : Prop := JFL Y.2.1 idx c k ∧ ((jT c k).2.2.2 = false ∨ ((jT c k).2.2.2 = true ∧ Y.2.2.2.2.1 = "<init>" ∧ (jT c k).1 = Y.2.1 ∧ Cond.fieldLink Y.2.1 idx (jT c k).1 (jT c k).2.1 (jT c k).2.2.1 ∈ lw_all))
theorem jent_set {M : Mem} {a c k : Nat} {v : Value} (hk : k < jN c) {V : Nat → Value} (h1 : V k = v) (h2 : ∀ j, j ≠ k → V j = jval (jtag (jty c j)) M a j) : ∀ j, j < jN c → updV (vp_V ((List.range (jN c)).map fun k => jval (jtag (jty c k)) M a k)) k v j = V j := by
  intro j hj
  by_cases e : j = k
  · subst e
    simp [updV, h1]
  · simp only [updV, if_neg e, vp_V, List.getD_eq_getElem?_getD, jent_get hj, Option.getD_some, h2 j e]
theorem J_putf {idx c k a : Nat} {M M' : Mem} {v : Value} {Γ : JC Mem} (ok : JOk Y Γ) (hP : PM D dA β Γ) {H : Heap} {locs : List Loc} {cells slots : Nat} {ls : Array Slot} (hi : jcI Γ M H locs cells slots) (fp : JFP Y idx c k) (hK : mK M a = some (.inl c)) (hn : narrow (jty c k) v = v) (hfit : fits (jty c k) v = true)
    (hV : jval (jtag (jty c k)) M' a k = v) (hV2 : ∀ j, j ≠ k → jval (jtag (jty c j)) M' a j = jval (jtag (jty c j)) M a j) (hK2 : mK M' = mK M) (hZ : M'.2.2.2.2 = M.2.2.2.2) (ho : ∀ b d2, b ≠ a → jent dA M' b d2 = jent dA M b d2) (hd : decode Y.1 pc = .ok (.putfield idx, 3))
    (h : ∀ (H' : Heap) (locs' : List Loc), jcI Γ M' H' locs' cells slots → W (jcP Γ) (jcL Γ) (jcE Γ) (jcR Γ) (jcS Γ) (jcM Γ) (jcA Γ) (jcB Γ) (jcH Γ) (jcC Γ) H' locs' cells slots (jcQ Γ) (F0 (jcM Γ) (pc + 3) ls pu)) : W (jcP Γ) (jcL Γ) (jcE Γ) (jcR Γ) (jcS Γ) (jcM Γ) (jcA Γ) (jcB Γ) (jcH Γ) (jcC Γ) H locs cells slots (jcQ Γ) (F0 (jcM Γ) pc ls (v :: .ref a :: pu)) := by
  obtain ⟨A, H0, hI, hKK, hA, hFG⟩ := hP
  rw [hI] at hi
  obtain ⟨⟨hc, hk, ref, hsame, hl⟩, hfin⟩ := fp
  have hap := va_apart (own := Y.2.1) ok.hts (jin hc) (jty c) (jtyok hc) (jnm hc) hKK.1 (jcl_at hc)
  obtain ⟨r, h1, cell, q1, q2, q3, q4⟩ := (hi.1.2.2 a _ hK).2
  have hr : r = (jC c, jT c, jN c) := Option.some.inj (h1.symm.trans (jcl_at hc))
  subst hr
  obtain ⟨hS, hfc, kC, hkC, hkind⟩ := hKK.1.1 c _ (jcl_at hc)
  obtain ⟨cf, kf, fi, f, hfi, hsl⟩ := hS k hk
  have hlay := ok.hts _ (jin hc _ (u_in_lay hk))
  unfold u_lay at hlay
  have hst := (u_facts hfc hkC (u_lays ok.hts (jin hc) hk) hfi).1
  have fin : ∀ H' : Heap, H'[a]? = some (cell.setSlot f.slot v) → H'.size = H.size → (∀ q, q ≠ a → H'[q]? = H[q]?) → jcI Γ M' H' (locs ++ [⟨a, f.slot⟩]) cells slots := by
    intro H' e1 e2 e3
    rw [hI]
    rw [hsl] at e1 ⊢
    refine std_upd hi hK e2 e3 ⟨_, jcl_at hc, t_OB.to (V := updV (vp_V ((List.range (jN c)).map fun k => jval (jtag (jty c k)) M a k)) k v) ⟨_, e1, q2, q3, t_set q4 hap hk v⟩ (fun j hj => ?_)⟩ hK2 hZ ho
    rw [jent_set (V := fun j => jval (jtag (jty c j)) M' a j) hk hV hV2 j hj]
    simp only [vp_V, List.getD_eq_getElem?_getD, jent_get hj, Option.getD_some]
  rcases hfin with hfin | ⟨hfin, hin2, hdecl, hl2⟩
  · rw [if_neg (by rw [hfin]; decide)] at hlay
    have h6 := u_store hfc hkC hkind hlay hfi (jtyok hc k hk) hn hfit
    rcases hl with hl | ⟨host, hl⟩
    · exact W.putK ok.exec ok.code (f := f) ⟨ok.own, ok.hts _ hl, ⟨_, _, _, hsame _ _ ok.hts _ hfi⟩, hst⟩ (by rw [q2]; exact h6) q1 q3 (by rw [hsl]; exact k2_hasslot (q4 k hk)) rfl rfl hd fun H' e1 e2 e3 => h H' _ (fin H' e1 e2 e3)
    · exact va_WputK ok.exec ok.code (f := f) ok.own (va_Nw.use rfl (hKK.2 _ hl)) (hsame _ _ ok.hts _ hfi) hst (by rw [q2]; exact h6) q1 q3 (by rw [hsl]; exact k2_hasslot (q4 k hk)) rfl rfl hd fun H' e1 e2 e3 => h H' _ (fin H' e1 e2 e3)
  · rw [if_pos hfin] at hlay
    have hcf : (jcM Γ).cls = cf := by
      obtain ⟨_, _, c', _, _, _, -, -, hf', -, -, -, hown2, -⟩ := Cond.laysFinal_spec hlay
      have e1 : c' = cf := by have := hfi.symm.trans hf'; simp at this; exact this.1.symm
      rw [hdecl] at hown2
      rw [← e1]; exact Option.some.inj (ok.own.symm.trans hown2)
    have h6 := u_fits hfc hkC hkind (Or.inr hlay) hfi (jtyok hc k hk) hn hfit
    exact W.putFinK ok.exec ok.code ok.own (ok.hts _ hl2) hfi hst hcf (ok.nm.trans hin2) (by rw [q2]; exact h6) q1 q3 (by rw [hsl]; exact k2_hasslot (q4 k hk)) rfl rfl hd fun H' e1 e2 e3 => h H' _ (fin H' e1 e2 e3)
theorem up2_at {α : Type} {f : Nat → Nat → α} {a k : Nat} {v : α} : up2 f a k v a k = v := by simp [up2]
theorem up2_k {α : Type} {f : Nat → Nat → α} {a k j : Nat} {v : α} (h : j ≠ k) : up2 f a k v a j = f a j := by simp [up2, h]
theorem up2_a {α : Type} {f : Nat → Nat → α} {a k b : Nat} {v : α} (h : b ≠ a) : up2 f a k v b = f b := by funext j; simp [up2, h]
theorem jent_I {M : Mem} {I : Nat → Nat → Int32} {b : Nat} (h : I b = mI M b) (d : Kd) : jent dA (sI M I) b d = jent dA M b d := by
  cases d with
  | inl c => simp only [jent, jval, sI, mI, mL, mR] at h ⊢; rw [h]
  | inr t => obtain ⟨t, n⟩ := t; simp only [jent, sI, mI, mL, mR] at h ⊢; rw [h]
theorem jent_L {M : Mem} {L : Nat → Nat → Int64} {b : Nat} (h : L b = mL M b) (d : Kd) : jent dA (sL M L) b d = jent dA M b d := by
  cases d with
  | inl c => simp only [jent, jval, sL, mI, mL, mR] at h ⊢; rw [h]
  | inr t => obtain ⟨t, n⟩ := t; simp only [jent, sL, mI, mL, mR] at h ⊢; rw [h]
theorem jent_R {M : Mem} {R : Nat → Nat → Option Nat} {b : Nat} (h : R b = mR M b) (d : Kd) : jent dA (sR M R) b d = jent dA M b d := by
  cases d with
  | inl c => simp only [jent, jval, sR, mI, mL, mR] at h ⊢; rw [h]
  | inr t => obtain ⟨t, n⟩ := t; simp only [jent, sR, mI, mL, mR] at h ⊢; rw [h]
def jputI (c k a : Nat) (v : Int32) : JM Mem Unit := fun M => if mK M a = some (.inl c) then some (.ok (), sI M (up2 (mI M) a k v)) else none
/-- a boolean field -/
def jputZ (c k a : Nat) (v : Int32) : JM Mem Unit := fun M => if mK M a = some (.inl c) ∧ (v = 0 ∨ v = 1) then some (.ok (), sI M (up2 (mI M) a k v)) else none
def jputL (c k a : Nat) (v : Int64) : JM Mem Unit := fun M => if mK M a = some (.inl c) then some (.ok (), sL M (up2 (mL M) a k v)) else none
def jputO (c k a : Nat) (v : Option Nat) : JM Mem Unit := fun M => if mK M a = some (.inl c) then some (.ok (), sR M (up2 (mR M) a k v)) else none
theorem jval_I {M : Mem} {a k j : Nat} {v : Int32} (t : Nat) (h : j ≠ k) : jval t (sI M (up2 (mI M) a k v)) a j = jval t M a j := by
  match t with
  | 0 => simp [jval, sI, mI, up2_k h]
  | 1 => rfl
  | t + 2 => rfl
theorem jval_L {M : Mem} {a k j : Nat} {v : Int64} (t : Nat) (h : j ≠ k) : jval t (sL M (up2 (mL M) a k v)) a j = jval t M a j := by
  match t with
  | 0 => rfl
  | 1 => simp [jval, sL, mL, up2_k h]
  | t + 2 => rfl
theorem jval_R {M : Mem} {a k j : Nat} {v : Option Nat} (t : Nat) (h : j ≠ k) : jval t (sR M (up2 (mR M) a k v)) a j = jval t M a j := by
  match t with
  | 0 => rfl
  | 1 => rfl
  | t + 2 => simp [jval, sR, mR, up2_k h]
theorem J_putI {idx c k a : Nat} {x : Int32} {f : Unit → JM Mem τ} (hd : decode Y.1 pc = .ok (.putfield idx, 3)) (fp : JFP Y idx c k) (ht : jty c k = .int) (h : J (PM D dA β) Y env pu (pc + 3) (f ()) F) : J (PM D dA β) Y env (.int x :: .ref a :: pu) pc (jb (jputI c k a x) f) F := by
  intro Γ ok hP M r M' hk hv hq H locs cells slots ls hi hl
  by_cases hK : mK M a = some (.inl c)
  · rw [jb_ok (show jputI c k a x M = some (.ok (), sI M (up2 (mI M) a k x)) from if_pos hK)] at hk
    exact J_putf ok hP hi fp hK (by rw [ht]; rfl) (by rw [ht]; rfl) (by rw [ht]; show Value.int (up2 (mI M) a k x a k) = _; rw [up2_at]) (fun j hj => jval_I _ hj) rfl rfl (fun b d2 hb => jent_I (up2_a hb) d2) hd (fun H' locs' hi' => h Γ ok hP _ r M' hk hv hq H' locs' cells slots ls hi' hl)
  · rw [jb_none (show jputI c k a x M = none from if_neg hK)] at hk
    cases hk
theorem J_putZ {idx c k a : Nat} {x : Int32} {f : Unit → JM Mem τ} (hd : decode Y.1 pc = .ok (.putfield idx, 3)) (fp : JFP Y idx c k) (ht : jty c k = .boolean) (h : J (PM D dA β) Y env pu (pc + 3) (f ()) F) : J (PM D dA β) Y env (.int x :: .ref a :: pu) pc (jb (jputZ c k a x) f) F := by
  intro Γ ok hP M r M' hk hv hq H locs cells slots ls hi hl
  by_cases hK : mK M a = some (.inl c) ∧ (x = 0 ∨ x = 1)
  · rw [jb_ok (show jputZ c k a x M = some (.ok (), sI M (up2 (mI M) a k x)) from if_pos hK)] at hk
    exact J_putf ok hP hi fp hK.1 (by rw [ht]; rcases hK.2 with e | e <;> subst e <;> rfl) (by rw [ht]; rcases hK.2 with e | e <;> subst e <;> rfl) (by rw [ht]; show Value.int (up2 (mI M) a k x a k) = _; rw [up2_at]) (fun j hj => jval_I _ hj) rfl rfl (fun b d2 hb => jent_I (up2_a hb) d2) hd (fun H' locs' hi' => h Γ ok hP _ r M' hk hv hq H' locs' cells slots ls hi' hl)
  · rw [jb_none (show jputZ c k a x M = none from if_neg hK)] at hk
    cases hk
theorem J_putL {idx c k a : Nat} {x : Int64} {f : Unit → JM Mem τ} (hd : decode Y.1 pc = .ok (.putfield idx, 3)) (fp : JFP Y idx c k) (ht : jty c k = .long) (h : J (PM D dA β) Y env pu (pc + 3) (f ()) F) : J (PM D dA β) Y env (.long x :: .ref a :: pu) pc (jb (jputL c k a x) f) F := by
  intro Γ ok hP M r M' hk hv hq H locs cells slots ls hi hl
  by_cases hK : mK M a = some (.inl c)
  · rw [jb_ok (show jputL c k a x M = some (.ok (), sL M (up2 (mL M) a k x)) from if_pos hK)] at hk
    exact J_putf ok hP hi fp hK (by rw [ht]; rfl) (by rw [ht]; rfl) (by rw [ht]; show Value.long (up2 (mL M) a k x a k) = _; rw [up2_at]) (fun j hj => jval_L _ hj) rfl rfl (fun b d2 hb => jent_L (up2_a hb) d2) hd (fun H' locs' hi' => h Γ ok hP _ r M' hk hv hq H' locs' cells slots ls hi' hl)
  · rw [jb_none (show jputL c k a x M = none from if_neg hK)] at hk
    cases hk
theorem rf_fits {ty : FieldType} (ht : jtag ty = 2) (x : Option Nat) : narrow ty (va_rf x) = va_rf x ∧ fits ty (va_rf x) = true := by
  cases ty <;> first | (exact absurd ht (by decide)) | (cases x <;> exact ⟨rfl, rfl⟩)
theorem J_putO {idx c k a : Nat} {x : Option Nat} {f : Unit → JM Mem τ} (hd : decode Y.1 pc = .ok (.putfield idx, 3)) (fp : JFP Y idx c k) (ht : jtag (jty c k) = 2) (h : J (PM D dA β) Y env pu (pc + 3) (f ()) F) : J (PM D dA β) Y env (va_rf x :: .ref a :: pu) pc (jb (jputO c k a x) f) F := by
  intro Γ ok hP M r M' hk hv hq H locs cells slots ls hi hl
  by_cases hK : mK M a = some (.inl c)
  · rw [jb_ok (show jputO c k a x M = some (.ok (), sR M (up2 (mR M) a k x)) from if_pos hK)] at hk
    exact J_putf ok hP hi fp hK (rf_fits ht x).1 (rf_fits ht x).2 (by rw [ht]; show va_rf (up2 (mR M) a k x a k) = _; rw [up2_at]) (fun j hj => jval_R _ hj) rfl rfl (fun b d2 hb => jent_R (up2_a hb) d2) hd (fun H' locs' hi' => h Γ ok hP _ r M' hk hv hq H' locs' cells slots ls hi' hl)
  · rw [jb_none (show jputO c k a x M = none from if_neg hK)] at hk
    cases hk
end JMEM
