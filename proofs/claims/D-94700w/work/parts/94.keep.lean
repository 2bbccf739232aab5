/-! THE STATE is kept by what doesn't touch it. -/
set_option maxRecDepth 100000
section KEEP
variable {α τ : Type} {M M' : Mem} {N N' : NM} {c m e a L w hd o k B W t len : Nat} {sh : Nat → Nat} {F : Nat → Nat → Int} {S : St} {H : Hs} {p : Int} {n : Nat} {T : Nat → Nat → Nat → Int} {V : Nat → Int}
theorem upk {a j : Nat} {v : Int} (h : j ≠ k) : up2 N a k v a j = N a j := if_neg (fun e => h e.2)
theorem upv {a : Nat} {v : Int} : up2 N a k v a k = v := if_pos ⟨rfl, rfl⟩
theorem upb {a b : Nat} {v : Int} (h : b ≠ a) : up2 N a k v b = N b := funext fun _ => if_neg (fun e => h e.1)
theorem WL.ag (h : WL M w) (g : ∀ b, w ≤ b → b < w + 32 → mK M' b = mK M b ∧ mR M' b = mR M b) : WL M' w := by
  obtain ⟨h1, h2, h3, h4, h5⟩ := h
  refine ⟨by rw [(g w (by omega) (by omega)).1]; exact h1, by rw [(g w (by omega) (by omega)).2]; exact h2, by rw [(g _ (by omega) (by omega)).1]; exact h3, fun i hi => ?_, fun i j hi hj => ?_⟩
  · rw [(g _ (by omega) (by omega)).1, (g (w + 1) (by omega) (by omega)).2]; exact h4 i hi
  · rw [(g _ (by omega) (by omega)).1, (g (w + 2 + 6 * i) (by omega) (by omega)).2]; exact h5 i j hi hj
theorem SL.ag {s : Nat} (h : SL M s) (g : ∀ b, s ≤ b → b < s + 8 → mK M' b = mK M b ∧ mR M' b = mR M b) : SL M' s := by
  obtain ⟨h1, h2, h3, h4, h5, h6⟩ := h
  refine ⟨by rw [(g _ (by omega) (by omega)).1]; exact h1, by rw [(g _ (by omega) (by omega)).2]; exact h2, by rw [(g _ (by omega) (by omega)).1]; exact h3, fun i hi => ?_, by rw [(g _ (by omega) (by omega)).2]; exact h5, by rw [(g _ (by omega) (by omega)).1]; exact h6⟩
  rw [(g _ (by omega) (by omega)).1, (g _ (by omega) (by omega)).2]; exact h4 i hi
theorem RL.ag {a n k : Nat} (h : RL M a n k) (g : ∀ b, a ≤ b → b ≤ a + n → mK M' b = mK M b ∧ mR M' b = mR M b) : RL M' a n k := fun r hr => by
  rw [(g (a + 1 + r) (by omega) (by omega)).1, (g a (by omega) (by omega)).2]; exact h r hr
theorem RP.ag {a n k : Nat} (h : RP M a n k) (g : ∀ b, a ≤ b → b ≤ a + n → mK M' b = mK M b ∧ mR M' b = mR M b) : RP M' a n k := by
  obtain ⟨h1, σ, h2, h3⟩ := h
  refine ⟨fun r hr => by rw [(g (a + 1 + r) (by omega) (by omega)).1]; exact h1 r hr, σ, fun r hr => ?_, h3⟩
  rw [(g a (by omega) (by omega)).2]; exact h2 r hr
theorem CLk_lt {o : Nat} {d : Nat × Nat} (h : CLk o = some d) : o < 258 := by
  unfold CLk at h
  split at h <;> first | omega | exact absurd h (by simp)
theorem CL.ag (h : CL M c) (g : ∀ b, c ≤ b → b < c + 1567 → mK M' b = mK M b ∧ mR M' b = mR M b) (ht : mT M' = mT M) : CL M' c := by
  obtain ⟨h1, h2, h3, h4, h5, h6, h7, h8, h9, ⟨i1, i2, i3, i4⟩, h10, h11, h12, h13⟩ := h
  have gK : ∀ b, c ≤ b → b < c + 1567 → mK M' b = mK M b := fun b x y => (g b x y).1
  have gR : ∀ b, c ≤ b → b < c + 1567 → mR M' b = mR M b := fun b x y => (g b x y).2
  refine ⟨by rw [gK c (by omega) (by omega)]; exact h1, fun k o e => by rw [gR c (by omega) (by omega)]; exact h2 k o e, fun o d e => by have := CLk_lt e; rw [gK _ (by omega) (by omega)]; exact h3 o d e, fun o e => (h4 o e).ag ?_, fun o e => (h5 o e).ag ?_, fun k hk => ?_, fun k hk => ?_, fun k hk => ?_, fun k hk => ?_, ⟨i1.ag ?_, i2.ag ?_, i3.ag ?_, i4.ag ?_⟩, h10.ag ?_, h11.ag ?_, fun k hk => ?_, ?_⟩
  · have : o = 6 ∨ o = 38 ∨ o = 224 := by simpa [CLw] using e
    exact fun b x y => g b (by omega) (by omega)
  · have : o = 77 ∨ o = 85 ∨ o = 93 ∨ o = 101 ∨ o = 109 ∨ o = 182 := by simpa [CLs] using e
    exact fun b x y => g b (by omega) (by omega)
  · rw [gR _ (by omega) (by omega)]; exact ⟨(h6 k hk).1, (h6 k hk).2.ag (fun b x y => g b (by omega) (by omega))⟩
  · rw [gR _ (by omega) (by omega)]; exact ⟨(h7 k hk).1, (h7 k hk).2.ag (fun b x y => g b (by omega) (by omega))⟩
  · rw [gR _ (by omega) (by omega)]; exact ⟨(h8 k hk).1, (h8 k hk).2.ag (fun b x y => g b (by omega) (by omega))⟩
  · rw [gR _ (by omega) (by omega)]
    obtain ⟨g0, g1, g2, g3, g4, g5, g6, g7, g8⟩ := h9 k hk
    refine ⟨g0, by rw [gK _ (by omega) (by omega)]; exact g1, by rw [gR _ (by omega) (by omega)]; exact g2, by rw [gR _ (by omega) (by omega)]; exact g3, by rw [gR _ (by omega) (by omega)]; exact g4, g5.ag (fun b x y => g b (by omega) (by omega)), by rw [gK _ (by omega) (by omega)]; exact g6, by rw [gK _ (by omega) (by omega)]; exact g7, fun j hj => ?_⟩
    rw [gR _ (by omega) (by omega)]; exact ⟨(g8 j hj).1, (g8 j hj).2.ag (fun b x y => g b (by omega) (by omega))⟩
  all_goals first | exact fun b x y => g b (by omega) (by omega) | skip
  · rw [gK _ (by omega) (by omega), gR _ (by omega) (by omega)]; exact h12 k hk
  · rw [gK _ (by omega) (by omega), gK (c + 3) (by omega) (by omega), gR _ (by omega) (by omega), ht]; exact h13
theorem MLk_lt {o : Nat} {d : Nat × Nat} (h : MLk o = some d) : o < 36 := by
  unfold MLk at h
  split at h <;> first | omega | exact absurd h (by simp)
theorem ML.ag (h : ML M m) (g : ∀ b, m ≤ b → b < m + 36 → mK M' b = mK M b ∧ mR M' b = mR M b) : ML M' m := by
  obtain ⟨h1, h2, h3⟩ := h
  refine ⟨by rw [(g m (by omega) (by omega)).1]; exact h1, fun k o e => by rw [(g m (by omega) (by omega)).2]; exact h2 k o e, fun o d e => ?_⟩
  have := MLk_lt e
  rw [(g (m + o) (by omega) (by omega)).1]; exact h3 o d e
theorem TrR.ag (h : TrR M N t len V) (h1 : N' t = N t) (h0 : mR M' t = mR M t) (h2 : ∀ a, mR M t 0 = some a → mK M a ≠ none → N' a = N a ∧ mK M' a = mK M a ∧ mL M' a = mL M a) : TrR M' N' t len V := by
  obtain ⟨a, e, hl, q⟩ := h
  have hk : mK M a ≠ none := by
    rcases q with q | q | q | q <;> (rw [q.2.1]; exact fun x => nomatch x)
  obtain ⟨g1, g2, g3⟩ := h2 a e hk
  refine ⟨a, by rw [h0]; exact e, hl, ?_⟩
  rw [g1, h1, g2, g3]
  exact q
theorem FlC.ag (h : FlC M N e a L F) (hK : ∀ b d, e ≤ b → mK M b = some d → mK M' b = some d) (hR : ∀ b, e ≤ b → mK M b ≠ none → mR M' b = mR M b) (hN : ∀ b, e ≤ b → mK M b = some (.inl 8) → ∀ k, k < 7 → N' b k = N b k) : FlC M' N' e a L F := by
  obtain ⟨h1, h2, h3, h4, h5⟩ := h
  have r : mR M' a = mR M a := hR a h1 (by rw [h2]; exact fun x => nomatch x)
  refine ⟨h1, hK a _ h1 h2, h3, fun i hi => ?_, by rw [r]; exact h5⟩
  obtain ⟨s, s1, s2, s3, s4⟩ := h4 i hi
  exact ⟨s, by rw [r]; exact s1, s2, hK s _ s2 s3, fun k hk => by rw [hN s s2 s3 k hk]; exact s4 k hk⟩
theorem ScC.ag {x : Option Scr} (h : ScC M N e o k x) (hK : ∀ b d, e ≤ b → mK M b = some d → mK M' b = some d) (hR : ∀ b, e ≤ b → mK M b ≠ none → mR M' b = mR M b) (hN : ∀ b, e ≤ b → mK M b = some (.inl 8) → ∀ k, k < 7 → N' b k = N b k) (h1 : mR M' o k = mR M o k) (h2 : N' o (k + 1) = N o (k + 1)) : ScC M' N' e o k x := by
  cases x with
  | none => show mR M' o k = none; rw [h1]; exact h
  | some s =>
    obtain ⟨a, L, F, g1, g2, g3, g4⟩ := h
    exact ⟨a, L, F, by rw [h1]; exact g1, by rw [h2]; exact g2, g3.ag hK hR hN, g4⟩
theorem ShC.ag {x : Option Wd} {j s : Nat} (h : ShC N hd s j x) (h1 : N' hd = N hd) (h2 : ∀ b, s ≤ b → b < s + 32 → N' b = N b) : ShC N' hd s j x := by
  cases x with
  | none => show N' hd j = 0; rw [h1]; exact h
  | some y => exact ⟨by rw [h1]; exact h.1, h.2.fr h2⟩
theorem HsC.ag (h : HsC M N e w hd sh o k H) (hK : ∀ b d, e ≤ b → mK M b = some d → mK M' b = some d) (hR : ∀ b, e ≤ b → mK M b ≠ none → mR M' b = mR M b) (hN : ∀ b, e ≤ b → mK M b = some (.inl 8) → ∀ k, k < 7 → N' b k = N b k) (h1 : mR M' o k = mR M o k) (h2 : N' o (k + 1) = N o (k + 1))
    (h3 : N' hd = N hd) (h4 : ∀ b, w ≤ b → b < w + 32 → N' b = N b) (h5 : ∀ j, j < 4 → ∀ b, sh j ≤ b → b < sh j + 32 → N' b = N b) : HsC M' N' e w hd sh o k H :=
  ⟨h.1.fr h4, fun j hj => (h.2.1 j hj).ag h3 (h5 j hj), h.2.2.ag hK hR hN h1 h2⟩
theorem TyC.ag {x : Option Try} (h : TyC M N e t x) (hR : mR M' t = mR M t) (hN : N' t = N t) (h2 : ∀ a, e ≤ a → mK M a ≠ none → N' a = N a ∧ mK M' a = mK M a ∧ mL M' a = mL M a) : TyC M' N' e t x := by
  cases x with
  | none => show mR M' t 0 = none ∧ N' t 1 = 0; rw [hR, hN]; exact h
  | some r =>
    obtain ⟨g1, g2, g3, g4, g5⟩ := h
    exact ⟨by rw [hN]; exact g1, g2, g3, g4.ag hN hR (fun a e' hk => h2 a (g5 a e') hk), by rw [hR]; exact g5⟩
/-- an address of the start, or of what was made since -/
def ExM (M : Mem) (c b : Nat) : Prop := b < c + 1567 ∨ c + 1603 ≤ b ∧ mK M b ≠ none
theorem CR.ag (h : CR M N c S) (hC : CL M' c) (hZ : c + 1603 ≤ mZ M' ∧ ∀ b, mZ M' ≤ b → mK M' b = none) (hK : ∀ b d, c + 1603 ≤ b → mK M b = some d → mK M' b = some d) (hR : ∀ b, ExM M c b → b ≠ c + 117 → b ≠ c + 211 → mR M' b = mR M b) (hL : ∀ b, ExM M c b → mL M' b = mL M b) (hF : CFr c N (fun b k => if b < c + 1567 then N' b k else N b k)) (hN : ∀ b, c + 1603 ≤ b → mK M b ≠ none → N' b = N b) : CR M' N' c S := by
  obtain ⟨_, h2, ⟨h3, h3b, h3c⟩, ⟨h4, h4b⟩, ⟨h5, h5b, h5c⟩, ⟨m0, m1, m2, m3, m4, m5, m6, m7, m8⟩, _⟩ := h
  have hP : ∀ b, b < c ∨ c < b ∧ b ≤ c + 4 ∨ c + 6 ≤ b ∧ b < c + 38 ∨ b = c + 70 ∨ b = c + 71 ∨ c + 256 ≤ b ∧ b < c + 879 → N' b = N b := fun b hb => funext fun k => by
    have := congrFun (hF.1 b (by omega)) k
    rw [← this]
    exact (if_pos (by omega)).symm
  have hPc : ∀ k, k ≠ 29 → k ≠ 31 → k ≠ 32 → k ≠ 40 → k ≠ 41 → k ≠ 42 → N' c k = N c k := fun k a1 a2 a3 a4 a5 a6 => by
    rw [← hF.2 k a1 a2 a3 a4 a5 a6]
    exact (if_pos (by omega)).symm
  have hR' : ∀ b, c + 1603 ≤ b → mK M b ≠ none → mR M' b = mR M b := fun b h1 h2 => hR b (Or.inr ⟨h1, h2⟩) (by omega) (by omega)
  have hN' : ∀ b, c + 1603 ≤ b → mK M b = some (.inl 8) → ∀ k, k < 7 → N' b k = N b k := fun b h1 h2 k _ => by rw [hN b h1 (by rw [h2]; exact fun x => nomatch x)]
  refine ⟨hC, h2.ag hK hR' hN' (by rw [hR c (Or.inl (by omega)) (by omega) (by omega)]) (hPc 7 (by omega) (by omega) (by omega) (by omega) (by omega) (by omega)) (hP _ (by omega)) (fun b x y => hP b (by omega)) (fun j hj b x y => hP b (by omega)), ⟨by rw [hPc 47 (by omega) (by omega) (by omega) (by omega) (by omega) (by omega)]; exact h3, h3b, fun k hk => ?_⟩, ⟨fun t ht => (h4 t ht).ag (hR _ (Or.inl (by omega)) (by omega) (by omega)) (hP _ (by omega)) (fun a g1 g2 => ⟨hN a g1 g2, ?_, hL a (Or.inr ⟨g1, g2⟩)⟩), fun t t' a ht ht' => ?_⟩, ⟨by rw [hP _ (by omega)]; exact h5, h5b, by rw [hP _ (by omega)]; exact h5c⟩, ⟨?_, ?_, ?_, ?_, ?_, ?_, ?_, ?_, ?_⟩, hZ⟩
  · have hk3 : k < 3 := by omega
    have := h3c k hk
    unfold kpl at this ⊢
    exact this.ag hK hR' hN' (by rw [hR _ (Or.inl (by omega)) (by omega) (by omega)]) (by rw [hP _ (by omega)]) (hP _ (by omega)) (fun b x y => hP b (by omega)) (fun j hj b x y => hP b (by omega))
  · cases e : mK M a with
    | none => exact absurd e g2
    | some d => exact hK a d g1 e
  · rw [hR (c + 258 + t) (Or.inl (by omega)) (by omega) (by omega), hR (c + 258 + t') (Or.inl (by omega)) (by omega) (by omega)]
    exact h4b t t' a ht ht'
  · rw [hPc 8 (by omega) (by omega) (by omega) (by omega) (by omega) (by omega)]; exact m0
  · rw [hPc 9 (by omega) (by omega) (by omega) (by omega) (by omega) (by omega)]; exact m1
  · rw [hPc 10 (by omega) (by omega) (by omega) (by omega) (by omega) (by omega)]; exact m2
  · rw [hL c (Or.inl (by omega))]; exact m3
  · rw [hL c (Or.inl (by omega))]; exact m4
  · rw [hPc 30 (by omega) (by omega) (by omega) (by omega) (by omega) (by omega)]; exact m5
  · rw [hPc 43 (by omega) (by omega) (by omega) (by omega) (by omega) (by omega)]; exact m6
  · rw [hPc 44 (by omega) (by omega) (by omega) (by omega) (by omega) (by omega)]; exact m7
  · rw [hPc 45 (by omega) (by omega) (by omega) (by omega) (by omega) (by omega)]; exact m8
theorem CR.cl (h : CR M N c S) : CL M c := h.1
theorem CR.wd (h : CR M N c S) : WD N (c + 6) S.1.1.1 S.1.1.2.1 S.1.1.2.2 := h.2.1.1
theorem Bg.z (h : Bg c M M') : mZ M' = mZ M ∧ mC M' = mC M ∧ mS M' = mS M := by obtain ⟨⟨R', rfl, e⟩, _⟩ := h; exact ⟨rfl, rfl, rfl⟩
/-- inner work keeps the state -/
theorem CR.sc (h : CR M N c S) (hB : Bg c M M') (hF : CFr c N N') : CR M' N' c S := by
  have hz := h.2.2.2.2.2.2
  refine h.ag (h.1.bg hB) ⟨by rw [hB.z.1]; exact hz.1, by rw [hB.z.1, hB.ke]; exact hz.2⟩ (fun b d _ e => by rw [hB.ke]; exact e) (fun b _ h1 h2 => hB.r h1 h2) (fun b _ => by rw [hB.l]) ⟨fun b hb => funext fun k => ?_, fun k a1 a2 a3 a4 a5 a6 => ?_⟩ (fun b hb _ => hF.1 b (by omega))
  · show (if b < c + 1567 then N' b k else N b k) = N b k
    split
    · rw [hF.1 b hb]
    · rfl
  · show (if c < c + 1567 then N' c k else N c k) = N c k
    rw [if_pos (by omega)]
    exact hF.2 k a1 a2 a3 a4 a5 a6
theorem CFm.sc (hB : Bg c M M') (hF : ∀ b, b < c ∨ c + 1567 ≤ b ∧ b < c + 1603 → N' b = N b) : CFm c M N M' N' :=
  ⟨fun b hb => ⟨hF b hb, by rw [hB.ke], hB.r (by omega) (by omega), by rw [hB.l]⟩, hB.t, by rw [hB.z.2.1]; omega, by rw [hB.z.2.2]; omega⟩
theorem CFm.of (hB : Bg c M M') (hF : CFr c N N') : CFm c M N M' N' := CFm.sc hB (fun b hb => hF.1 b (by omega))
theorem MR.ml (h : MR M N m S) : ML M m := h.1
theorem MR.wm (h : MR M N m S) : WC N (m + 5) 0 S.1.1.1 S.1.1.2.1 S.1.1.2.2 := h.2.1.1.1
theorem MR.ok (h : MR M N m S) : WOk S.1.1.1 S.1.1.2.1 S.1.1.2.2 := h.2.1.1.2
theorem ScM.ag {x : Option Scr} (h : ScM N W B x) (h1 : N' W = N W) : ScM N' W B x := by
  cases x with
  | none => show N' W _ = 0; rw [h1]; exact h
  | some s =>
    obtain ⟨g1, g2, g3⟩ := h
    exact ⟨by rw [h1]; exact g1, by rw [h1]; exact g2, by rw [h1]; exact g3⟩
theorem ShM.ag {x : Option Wd} (h : ShM N W B x) (h1 : N' W = N W) : ShM N' W B x := by
  cases x with
  | none => show N' W _ = 0; rw [h1]; exact h
  | some s => exact ⟨h.1.fr h1, h.2⟩
theorem HsM.ag (h : HsM N W B H) (h1 : N' W = N W) : HsM N' W B H := ⟨⟨h.1.1.fr h1, h.1.2⟩, fun j hj => (h.2.1 j hj).ag h1, h.2.2.ag h1⟩
theorem TyM.ag {x : Option Try} (h : TyM M N m t x) (h1 : N' (m + 1) = N (m + 1)) (h2 : N' (m + 2) = N (m + 2)) (h3 : mL M' (m + 3) = mL M (m + 3)) : TyM M' N' m t x := by
  cases x with
  | none => show N' (m + 2) _ = -1; rw [h2]; exact h
  | some s =>
    obtain ⟨g0, g1, g2, g3, g4⟩ := h
    exact ⟨by rw [h1]; exact g0, g1, g2, by rw [h2]; exact g3, by rw [h3]; exact g4⟩
theorem MR.ag (h : MR M N m S) (hM : ML M' m) (h1 : ∀ b, m < b → b ≤ m + 5 → N' b = N b) (h2 : N' (m + 23) = N (m + 23)) (h3 : ∀ k, k = 0 ∨ k = 1 ∨ k = 8 ∨ k = 10 ∨ k = 11 ∨ k = 23 ∨ k = 44 ∨ 49 ≤ k ∧ k ≤ 53 → N' m k = N m k) (h4 : mL M' m 2 = mL M m 2 ∧ mL M' m 3 = mL M m 3 ∧ mL M' (m + 3) = mL M (m + 3)) : MR M' N' m S := by
  obtain ⟨_, g2, ⟨g3, g3b, g3c⟩, g4, ⟨g5, g5b, g5c⟩, ⟨m0, mt, m1, m2, m3, m4, m5, m6, m7, m8⟩⟩ := h
  have h5 := h1 (m + 5) (by omega) (by omega)
  refine ⟨hM, g2.ag h5, ⟨by rw [h3 23 (by omega)]; exact g3, g3b, fun k hk => (g3c k hk).ag h5⟩, fun t ht => (g4 t ht).ag (h1 _ (by omega) (by omega)) (h1 _ (by omega) (by omega)) h4.2.2, ⟨by rw [h3 8 (by omega)]; exact g5, g5b, by rw [h1 (m + 4) (by omega) (by omega)]; exact g5c⟩, ?_⟩
  unfold MiM
  rw [h3 0 (by omega), h3 1 (by omega), h3 10 (by omega), h3 11 (by omega), h3 44 (by omega), h3 49 (by omega), h2, h4.1, h4.2.1]
  exact ⟨m0, mt, m1, m2, m3, m4, m5, m6, m7, m8⟩
/-- an op of the component keeps the model's state; an op of the model keeps the component's -/
theorem MR.cf (h : MR M N (c + 1567) S) (hF : CFm c M N M' N') : MR M' N' (c + 1567) S := by
  have g := fun b (hb : c + 1567 ≤ b ∧ b < c + 1603) => hF.1 b (Or.inr hb)
  refine h.ag (h.1.ag (fun b x y => ⟨(g b (by omega)).2.1, (g b (by omega)).2.2.1⟩)) (fun b x y => (g b (by omega)).1) (g _ (by omega)).1 (fun k _ => by rw [(g _ (by omega)).1]) ⟨by rw [(g _ (by omega)).2.2.2], by rw [(g _ (by omega)).2.2.2], (g _ (by omega)).2.2.2⟩
theorem CR.mf (h : CR M N c S) (hF : MFm (c + 1567) M N M' N') : CR M' N' c S := by
  obtain ⟨h1, R', L', rfl, h2⟩ := hF
  have hz := h.2.2.2.2.2.2
  have e : ∀ b, b < c + 1567 ∨ c + 1603 ≤ b → R' b = mR M b ∧ L' b = mL M b := fun b hb => h2 b (by omega)
  have eN : ∀ b, b < c + 1567 ∨ c + 1603 ≤ b → N' b = N b := fun b hb => h1 b (by omega)
  have eE : ∀ b, ExM M c b → b < c + 1567 ∨ c + 1603 ≤ b := fun b hb => hb.imp id (fun x => x.1)
  refine h.ag (h.1.ag (fun b x y => ⟨rfl, (e b (by omega)).1⟩) rfl) hz (fun b d _ x => x) (fun b hb _ _ => (e b (eE b hb)).1) (fun b hb => (e b (eE b hb)).2) ⟨fun b hb => funext fun k => ?_, fun k a1 a2 a3 a4 a5 a6 => ?_⟩ (fun b hb _ => eN b (by omega))
  · show (if b < c + 1567 then N' b k else N b k) = N b k
    split
    · rw [eN b (by omega)]
    · rfl
  · show (if c < c + 1567 then N' c k else N c k) = N c k
    rw [if_pos (by omega), eN c (by omega)]
/-- single numbers -/
theorem CR.mi (h : CR M N c S) {k : Nat} {v : Int} (k7 : k ≠ 7) (k47 : k ≠ 47) {f : Nat → Int} (hm : MiC M (up2 N c k v) c f) : CR M (up2 N c k v) c (S.1, S.2.1, S.2.2.1, S.2.2.2.1, f) := by
  have eo : ∀ b, b ≠ c → up2 N c k v b = N b := fun b hb => funext fun j => if_neg (fun e => hb e.1)
  have ec : ∀ j, j ≠ k → up2 N c k v c j = N c j := fun j hj => if_neg (fun e => hj e.2)
  obtain ⟨h1, h2, ⟨h3, h3b, h3c⟩, ⟨h4, h4b⟩, ⟨h5, h5b, h5c⟩, _, h6⟩ := h
  have tK : ∀ b d, c + 1603 ≤ b → mK M b = some d → mK M b = some d := fun _ _ _ x => x
  have tR : ∀ b, c + 1603 ≤ b → mK M b ≠ none → mR M b = mR M b := fun _ _ _ => rfl
  have tN : ∀ b, c + 1603 ≤ b → mK M b = some (.inl 8) → ∀ j, j < 7 → up2 N c k v b j = N b j := fun b hb _ j _ => by rw [eo b (by omega)]
  refine ⟨h1, h2.ag tK tR tN rfl (ec 7 (fun e => k7 e.symm)) (eo _ (by omega)) (fun b x y => eo b (by omega)) (fun j hj b x y => eo b (by omega)), ⟨by rw [ec 47 (fun e => k47 e.symm)]; exact h3, h3b, fun k hk => ?_⟩, ⟨fun t ht => (h4 t ht).ag rfl (eo _ (by omega)) (fun a g1 g2 => ⟨eo a (by omega), rfl, rfl⟩), h4b⟩, ⟨by rw [eo _ (by omega)]; exact h5, h5b, by rw [eo _ (by omega)]; exact h5c⟩, hm, h6⟩
  have := h3c k hk
  unfold kpl at this ⊢
  exact this.ag tK tR tN rfl (by rw [eo _ (by omega)]) (eo _ (by omega)) (fun b x y => eo b (by omega)) (fun j hj b x y => eo b (by omega))
/-- the status -/
theorem CR.st (h : CR M N c S) (v : Int) : CR M (up2 N c 8 v) c (stU S 0 v) := by
  obtain ⟨m0, m1, m2, m3, m4, m5, m6, m7, m8⟩ := h.2.2.2.2.2.1
  exact h.mi (by omega) (by omega) ⟨upv, by rw [upk (by omega)]; exact m1, by rw [upk (by omega)]; exact m2, m3, m4, by rw [upk (by omega)]; exact m5, by rw [upk (by omega)]; exact m6, by rw [upk (by omega)]; exact m7, by rw [upk (by omega)]; exact m8⟩
theorem CR.tri (h : CR M N c S) (v : Int) : CR M (up2 N c 30 v) c (stU S 5 v) := by
  obtain ⟨m0, m1, m2, m3, m4, m5, m6, m7, m8⟩ := h.2.2.2.2.2.1
  exact h.mi (by omega) (by omega) ⟨by rw [upk (by omega)]; exact m0, by rw [upk (by omega)]; exact m1, by rw [upk (by omega)]; exact m2, m3, m4, upv, by rw [upk (by omega)]; exact m6, by rw [upk (by omega)]; exact m7, by rw [upk (by omega)]; exact m8⟩
theorem CFm.st (hF : CFm c M N M' N') {k : Nat} (v : Int) : CFm c M N M' (up2 N' c k v) := ⟨fun b hb => ⟨by
  rw [← (hF.1 b hb).1]
  exact funext fun k => if_neg (fun e => by omega), (hF.1 b hb).2⟩, hF.2⟩
theorem StOk.st (h : StOk S) (v : Int) : StOk (stU S 0 v) := ⟨h.1, h.2.1, by
  show -1 ≤ (if 5 = 0 then v else S.2.2.2.2 5)
  rw [if_neg (by omega)]; exact h.2.2.1, by
  show (if 5 = 0 then v else S.2.2.2.2 5) ≤ _
  rw [if_neg (by omega)]; exact h.2.2.2.1, by
  show (if 6 = 0 then v else S.2.2.2.2 6) = 0 ∨ (if 6 = 0 then v else S.2.2.2.2 6) = 1
  rw [if_neg (by omega)]; exact h.2.2.2.2⟩
theorem MFm.rf : MFm m M N M N := ⟨fun _ _ => rfl, mR M, mL M, rfl, fun _ _ => ⟨rfl, rfl⟩⟩
theorem MFm.tr {M2 : Mem} {N2 : NM} (h : MFm m M N M' N') (h2 : MFm m M' N' M2 N2) : MFm m M N M2 N2 := by
  obtain ⟨a1, R', L', rfl, a2⟩ := h
  obtain ⟨b1, R2, L2, rfl, b2⟩ := h2
  exact ⟨fun b hb => (b1 b hb).trans (a1 b hb), R2, L2, rfl, fun b hb => ⟨(b2 b hb).1.trans (a2 b hb).1, (b2 b hb).2.trans (a2 b hb).2⟩⟩
theorem MFm.bg (h : BgM m M M') (hN : ∀ b, b < m ∨ m + 36 ≤ b → N' b = N b) : MFm m M N M' N' := by
  obtain ⟨R', L', rfl, e, g⟩ := h
  exact ⟨hN, R', L', rfl, fun b hb => ⟨funext fun k => e b k (Or.inl (by omega)), g b⟩⟩
/-- the model's status and what an op of it begins with -/
theorem MR.be (h : MR M N m S) (hS : MSt M N m S.1.1.1 S.1.1.2.1 S.1.1.2.2 M' N') : MR M' N' m (stU S 0 0) := by
  obtain ⟨hB, hr, hA, e1, e2, e3, e4⟩ := hS
  obtain ⟨_, g2, ⟨g3, g3b, g3c⟩, g4, ⟨g5, g5b, g5c⟩, ⟨m0, mt, m1, m2, m3, m4, m5, m6, m7, m8⟩⟩ := h
  have h5 := e1 (m + 5) (by omega)
  refine ⟨ML.bg (by assumption) hB, g2.ag h5, ⟨by rw [e2 23 (by omega) (by omega) (by omega) (by omega) (by omega)]; exact g3, g3b, fun k hk => (g3c k hk).ag h5⟩, fun t ht => (g4 t ht).ag (e1 _ (by omega)) (e1 _ (by omega)) hB.l, ⟨by rw [e2 8 (by omega) (by omega) (by omega) (by omega) (by omega)]; exact g5, g5b, by rw [e1 (m + 4) (by omega)]; exact g5c⟩, ?_⟩
  refine ⟨e3, e4, ?_, ?_, by rw [hB.l]; exact m3, by rw [hB.l]; exact m4, ?_, ?_, by rw [e1 _ (by omega)]; exact m7, by rw [e1 _ (by omega)]; exact m8⟩
  · rw [e2 10 (by omega) (by omega) (by omega) (by omega) (by omega)]; exact m1
  · rw [e2 11 (by omega) (by omega) (by omega) (by omega) (by omega)]; exact m2
  · rw [e2 44 (by omega) (by omega) (by omega) (by omega) (by omega)]; exact m5
  · rw [e2 49 (by omega) (by omega) (by omega) (by omega) (by omega)]; exact m6
/-- inner work of the model -/
theorem MR.sc (h : MR M N m S) (hF : MFr m N N') : MR M N' m S :=
  h.ag h.1 (fun b x y => hF.1 b (by omega)) (hF.1 _ (by omega)) (fun k hk => hF.2 k hk) ⟨rfl, rfl, rfl⟩
theorem MR.mi (h : MR M N m S) {k : Nat} {v : Int} (k8 : k ≠ 8) (k23 : k ≠ 23) {f : Nat → Int} (hm : MiM M (up2 N m k v) m f) : MR M (up2 N m k v) m (S.1, S.2.1, S.2.2.1, S.2.2.2.1, f) := by
  have eo : ∀ b, b ≠ m → up2 N m k v b = N b := fun b hb => funext fun j => if_neg (fun e => hb e.1)
  have ec : ∀ j, j ≠ k → up2 N m k v m j = N m j := fun j hj => if_neg (fun e => hj e.2)
  obtain ⟨g1, g2, ⟨g3, g3b, g3c⟩, g4, ⟨g5, g5b, g5c⟩, _⟩ := h
  have h5 := eo (m + 5) (by omega)
  exact ⟨g1, g2.ag h5, ⟨by rw [ec 23 (fun e => k23 e.symm)]; exact g3, g3b, fun k hk => (g3c k hk).ag h5⟩, fun t ht => (g4 t ht).ag (eo _ (by omega)) (eo _ (by omega)) rfl, ⟨by rw [ec 8 (fun e => k8 e.symm)]; exact g5, g5b, by rw [eo (m + 4) (by omega)]; exact g5c⟩, hm⟩
theorem MR.st (h : MR M N m S) (v : Int) : MR M (up2 N m 0 v) m (stU S 0 v) := by
  obtain ⟨m0, mt, m1, m2, m3, m4, m5, m6, m7, m8⟩ := h.2.2.2.2.2
  have eo : up2 N m 0 v (m + 23) = N (m + 23) := funext fun j => if_neg (fun e => by omega)
  exact h.mi (by omega) (by omega) ⟨upv, by rw [upk (by omega)]; exact mt, by rw [upk (by omega)]; exact m1, by rw [upk (by omega)]; exact m2, m3, m4, by rw [upk (by omega)]; exact m5, by rw [upk (by omega)]; exact m6, by rw [eo]; exact m7, by rw [eo]; exact m8⟩
theorem MR.tri (h : MR M N m S) (v : Int) : MR M (up2 N m 44 v) m (stU S 5 v) := by
  obtain ⟨m0, mt, m1, m2, m3, m4, m5, m6, m7, m8⟩ := h.2.2.2.2.2
  have eo : up2 N m 44 v (m + 23) = N (m + 23) := funext fun j => if_neg (fun e => by omega)
  exact h.mi (by omega) (by omega) ⟨by rw [upk (by omega)]; exact m0, by rw [upk (by omega)]; exact mt, by rw [upk (by omega)]; exact m1, by rw [upk (by omega)]; exact m2, m3, m4, upv, by rw [upk (by omega)]; exact m6, by rw [eo]; exact m7, by rw [eo]; exact m8⟩
theorem MR.thr (h : MR M N m S) : up2 N m 1 0 = N := by
  funext b k
  show (if b = m ∧ k = 1 then 0 else N b k) = N b k
  by_cases e : b = m ∧ k = 1
  · rw [if_pos e, e.1, e.2]; exact h.2.2.2.2.2.2.1.symm
  · rw [if_neg e]
end KEEP
