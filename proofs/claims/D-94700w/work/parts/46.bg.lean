/-! THE RANK of the component's rows (their places may be exchanged). -/
set_option maxRecDepth 100000
section BGR
variable {τ : Type} {M M' : Mem} {N N' : NM} {c a n k : Nat}
/-- the background but for the order of rows -/
def Bg (c : Nat) (M M' : Mem) : Prop := (∃ R', M' = sR M R' ∧ ∀ b, b ≠ c + 117 → b ≠ c + 211 → R' b = mR M b) ∧ RP M' (c + 117) 64 32 ∧ RP M' (c + 211) 5 10
theorem Bg.rf (h : CL M c) : Bg c M M := ⟨⟨mR M, rfl, fun _ _ _ => rfl⟩, h.ro, h.sq⟩
theorem Bg.tr {M2 : Mem} (h : Bg c M M') (h2 : Bg c M' M2) : Bg c M M2 := by
  obtain ⟨⟨R', rfl, e⟩, _⟩ := h
  obtain ⟨⟨R2, rfl, e2⟩, h3⟩ := h2
  exact ⟨⟨R2, rfl, fun b h1 h2 => (e2 b h1 h2).trans (e b h1 h2)⟩, h3⟩
theorem Bg.ke (h : Bg c M M') : mK M' = mK M := by obtain ⟨⟨R', rfl, e⟩, _⟩ := h; rfl
theorem Bg.r (h : Bg c M M') {b : Nat} (h1 : b ≠ c + 117) (h2 : b ≠ c + 211) : mR M' b = mR M b := by obtain ⟨⟨R', rfl, e⟩, _⟩ := h; exact e b h1 h2
theorem Bg.l (h : Bg c M M') : mL M' = mL M := by obtain ⟨⟨R', rfl, e⟩, _⟩ := h; rfl
theorem Bg.t (h : Bg c M M') : mT M' = mT M := by obtain ⟨⟨R', rfl, e⟩, _⟩ := h; rfl
theorem WL.bg {w : Nat} (h : WL M w) (hb : Bg c M M') (hw : w + 32 ≤ c + 117 ∨ c + 212 ≤ w) : WL M' w := by
  obtain ⟨h1, h2, h3, h4, h5⟩ := h
  refine ⟨by rw [hb.ke]; exact h1, by rw [hb.r (by omega) (by omega)]; exact h2, by rw [hb.ke]; exact h3, fun i hi => ?_, fun i j hi hj => ?_⟩
  · rw [hb.ke, hb.r (by omega) (by omega)]; exact h4 i hi
  · rw [hb.ke, hb.r (by omega) (by omega)]; exact h5 i j hi hj
theorem SL.bg {s : Nat} (h : SL M s) (hb : Bg c M M') (hw : s + 8 ≤ c + 117 ∨ c + 118 ≤ s ∧ s + 8 ≤ c + 211 ∨ c + 212 ≤ s) : SL M' s := by
  obtain ⟨h1, h2, h3, h4, h5, h6⟩ := h
  refine ⟨by rw [hb.ke]; exact h1, by rw [hb.r (by omega) (by omega)]; exact h2, by rw [hb.ke]; exact h3, fun i hi => ?_, by rw [hb.r (by omega) (by omega)]; exact h5, by rw [hb.ke]; exact h6⟩
  rw [hb.ke, hb.r (by omega) (by omega)]; exact h4 i hi
theorem RL.bg {a n k : Nat} (h : RL M a n k) (hb : Bg c M M') (h1 : a ≠ c + 117) (h2 : a ≠ c + 211) : RL M' a n k := fun r hr => by
  rw [hb.ke, hb.r h1 h2]; exact h r hr
theorem CL.bg (h : CL M c) (hb : Bg c M M') : CL M' c := by
  obtain ⟨h1, h2, h3, h4, h5, h6, h7, h8, h9, ⟨i1, i2, i3, i4⟩, h10, h11, h12, h13⟩ := h
  refine ⟨by rw [hb.ke]; exact h1, fun k o e => by rw [hb.r (by omega) (by omega)]; exact h2 k o e, fun o d e => by rw [hb.ke]; exact h3 o d e, fun o e => (h4 o e).bg hb ?_, fun o e => (h5 o e).bg hb ?_, fun k hk => ?_, fun k hk => ?_, fun k hk => ?_, fun k hk => ?_, ⟨i1.bg hb (by omega) (by omega), i2.bg hb (by omega) (by omega), i3.bg hb (by omega) (by omega), i4.bg hb (by omega) (by omega)⟩, hb.2.1, hb.2.2, fun k hk => ?_, ?_⟩
  · have : o = 6 ∨ o = 38 ∨ o = 224 := by simpa [CLw] using e
    omega
  · have : o = 77 ∨ o = 85 ∨ o = 93 ∨ o = 101 ∨ o = 109 ∨ o = 182 := by simpa [CLs] using e
    omega
  · rw [hb.r (by omega) (by omega)]; exact ⟨(h6 k hk).1, (h6 k hk).2.bg hb (by omega)⟩
  · rw [hb.r (by omega) (by omega)]; exact ⟨(h7 k hk).1, (h7 k hk).2.bg hb (by omega)⟩
  · rw [hb.r (by omega) (by omega)]; exact ⟨(h8 k hk).1, (h8 k hk).2.bg hb (by omega)⟩
  · rw [hb.r (by omega) (by omega)]
    obtain ⟨g0, g1, g2, g3, g4, g5, g6, g7, g8⟩ := h9 k hk
    refine ⟨g0, by rw [hb.ke]; exact g1, by rw [hb.r (by omega) (by omega)]; exact g2, by rw [hb.r (by omega) (by omega)]; exact g3, by rw [hb.r (by omega) (by omega)]; exact g4, g5.bg hb (by omega), by rw [hb.ke]; exact g6, by rw [hb.ke]; exact g7, fun j hj => ?_⟩
    rw [hb.r (by omega) (by omega)]; exact ⟨(g8 j hj).1, (g8 j hj).2.bg hb (by omega)⟩
  · rw [hb.ke, hb.r (by omega) (by omega)]; exact h12 k hk
  · rw [hb.ke, hb.t, hb.r (by omega) (by omega)]; exact h13
/-- the place of a row -/
def rpl (M : Mem) (a r : Nat) : Nat := (mR M a r).getD 0
theorem RP.ra (h : RP M a n k) {r : Nat} (hr : r < n) : mR M a r = some (rpl M a r) ∧ a < rpl M a r ∧ rpl M a r ≤ a + n ∧ mK M (rpl M a r) = some (.inr (0, k)) := by
  obtain ⟨h1, σ, h2, h3⟩ := h
  have e := (h2 r hr).2
  have e2 : rpl M a r = a + 1 + σ r := by
    show (mR M a r).getD 0 = _
    rw [e]; rfl
  have := (h2 r hr).1
  rw [e2]
  exact ⟨e, by omega, by omega, h1 _ this⟩
theorem RP.inj (h : RP M a n k) {r q : Nat} (hr : r < n) (hq : q < n) (e : rpl M a r = rpl M a q) : r = q := by
  obtain ⟨h1, σ, h2, h3⟩ := h
  have e1 : rpl M a r = a + 1 + σ r := by
    show (mR M a r).getD 0 = _
    rw [(h2 r hr).2]; rfl
  have e2 : rpl M a q = a + 1 + σ q := by
    show (mR M a q).getD 0 = _
    rw [(h2 q hq).2]; rfl
  exact h3 r q hr hq (by omega)
/-- a row of rows that may be exchanged -/
theorem w_Rp {f : Nat → JM Mem τ} {Q : τ → Mem → NM → Prop} {r : Nat} (hK : mK M a = some (.inr (5, n))) (hR : RP M a n k) (hr : r < n) (hn : n ≤ 100) (h : GN M N (f (rpl M a r)) Q) : GN M N (jb (jaldA 5 a (zI r)) f) Q :=
  w_aldA hK (by omega) (by omega) (hR.ra hr).1 h
theorem w_astr {f : Unit → JM Mem τ} {Q : τ → Mem → NM → Prop} {r v l : Nat} (hK : mK M a = some (.inr (5, n))) (hr : r < n) (hn : n ≤ 100) (hv : mK M v = some (.inr (0, l))) (h : GN (sR M (up2 (mR M) a r (some v))) N (f ()) Q) : GN M N (jb (jast_r a (zI r) v) f) Q := by
  refine go_jb ?_
  unfold jast_r
  refine go_ast (M := sN M N) hK hr (by omega) (by show (match mK M v with | some (.inr (0, _)) => true | _ => false) = true; rw [hv]; rfl) ?_
  rw [zI_nat (by omega)]
  exact h
/-- two rows are exchanged -/
theorem RP.swap (h : RP M a n k) {r q : Nat} (hr : r < n) (hq : q < n) (hna : ∀ r, r < n → rpl M a r ≠ a) :
    RP (sR M (up2 (up2 (mR M) a r (some (rpl M a q))) a q (some (rpl M a r)))) a n k ∧
      ∀ i, i < n → rpl (sR M (up2 (up2 (mR M) a r (some (rpl M a q))) a q (some (rpl M a r)))) a i = rpl M a (if i = q then r else if i = r then q else i) := by
  have hmr : ∀ i, mR (sR M (up2 (up2 (mR M) a r (some (rpl M a q))) a q (some (rpl M a r)))) a i = if i = q then mR M a r else if i = r then mR M a q else mR M a i := by
    intro i
    show (if a = a ∧ i = q then _ else if a = a ∧ i = r then _ else mR M a i) = _
    by_cases c1 : i = q
    · rw [if_pos ⟨rfl, c1⟩, if_pos c1, (h.ra hr).1]
    · rw [if_neg (fun x => c1 x.2), if_neg c1]
      by_cases c2 : i = r
      · rw [if_pos ⟨rfl, c2⟩, if_pos c2, (h.ra hq).1]
      · rw [if_neg (fun x => c2 x.2), if_neg c2]
  refine ⟨?_, fun i hi => ?_⟩
  · obtain ⟨h1, σ, h2, h3⟩ := h
    refine ⟨h1, fun i => if i = q then σ r else if i = r then σ q else σ i, fun i hi => ?_, fun i j hi hj e => ?_⟩
    · rw [hmr]
      show (if i = q then σ r else if i = r then σ q else σ i) < n ∧ _ = some (a + 1 + (if i = q then σ r else if i = r then σ q else σ i))
      split
      · exact h2 r hr
      · split
        · exact h2 q hq
        · exact h2 i hi
    · have e : (if i = q then σ r else if i = r then σ q else σ i) = (if j = q then σ r else if j = r then σ q else σ j) := e
      have g1 := fun x y hx hy => h3 x y hx hy
      (repeat' split at e) <;> first | omega | (have := h3 _ _ (by assumption) (by assumption) e; omega)
  · show (mR _ a i).getD 0 = (mR M a _).getD 0
    rw [hmr]
    split
    · rfl
    · split <;> rfl
end BGR
