/-! OPS, seventh part: another world; keep, take, sum. -/
set_option maxRecDepth 100000
section OPS7
variable {α τ : Type} {M M' M1 M2 : Mem} {N N' N1 : NM} {c m i : Nat} {u v w k s : Int} {S S' : St} {p : Int} {n : Nat} {T F : Nat → Nat → Nat → Int} {y : Wd}
/-- but for the world now -/
def CFw (c : Nat) (N N' : NM) : Prop := (∀ b, b < c ∨ c < b ∧ b ≤ c + 4 ∨ b = c + 70 ∨ b = c + 71 ∨ c + 256 ≤ b ∧ b < c + 879 ∨ c + 1567 ≤ b → N' b = N b) ∧ ∀ k, k ≠ 29 → k ≠ 31 → k ≠ 32 → k ≠ 40 → k ≠ 41 → k ≠ 42 → N' c k = N c k
theorem CFr.tw (h : CFr c N N') : CFw c N N' := ⟨fun b hb => h.1 b (by omega), h.2⟩
theorem CFw.tr {N2 : NM} (h : CFw c N N') (h2 : CFw c N' N2) : CFw c N N2 := ⟨fun b hb => (h2.1 b hb).trans (h.1 b hb), fun k a1 a2 a3 a4 a5 a6 => (h2.2 k a1 a2 a3 a4 a5 a6).trans (h.2 k a1 a2 a3 a4 a5 a6)⟩
theorem CFw.of (h : ∀ b, b ≤ c + 4 ∨ b = c + 70 ∨ b = c + 71 ∨ c + 256 ≤ b ∧ b < c + 879 ∨ c + 1567 ≤ b → N' b = N b) : CFw c N N' := ⟨fun b hb => h b (by omega), fun k _ _ _ _ _ _ => by rw [h c (by omega)]⟩
theorem CR.wset (h : CR M N c S) (hN : ∀ b, b < c + 6 ∨ c + 38 ≤ b → N' b = N b) (hW : WdC N' (c + 6) y) : CR M N' c (stW S y) := by
  obtain ⟨h1, h2, ⟨h3, h3b, h3c⟩, ⟨h4, h4b⟩, ⟨h5, h5b, h5c⟩, hm, h6⟩ := h
  have tK : ∀ b d, c + 1603 ≤ b → mK M b = some d → mK M b = some d := fun _ _ _ x => x
  have tR : ∀ b, c + 1603 ≤ b → mK M b ≠ none → mR M b = mR M b := fun _ _ _ => rfl
  have tN : ∀ b, c + 1603 ≤ b → mK M b = some (.inl 8) → ∀ j, j < 7 → N' b j = N b j := fun b hb _ j _ => by rw [hN b (by omega)]
  have e2 := hN (c + 2) (by omega)
  have e4 := hN (c + 4) (by omega)
  have ec := hN c (by omega)
  refine ⟨h1, ⟨hW, fun j hj => (h2.2.1 j hj).ag (hN _ (by omega)) (fun b (x : c + 262 + 32 * j ≤ b) (y : b < c + 262 + 32 * j + 32) => hN b (by omega)), h2.2.2.ag tK tR tN rfl (by rw [ec])⟩, ⟨by rw [ec]; exact h3, h3b, fun k hk => ?_⟩, ⟨fun t ht => (h4 t ht).ag rfl (hN _ (by omega)) (fun a g1 g2 => ⟨hN a (by omega), rfl, rfl⟩), h4b⟩, ⟨by rw [e2]; exact h5, h5b, by rw [e4]; exact h5c⟩, ?_, h6⟩
  · have := h3c k hk
    unfold kpl at this ⊢
    exact this.ag tK tR tN rfl (by rw [hN _ (by omega)]) (hN _ (by omega)) (fun b x y => hN b (by omega)) (fun j hj b x y => hN b (by omega))
  · unfold MiC at hm ⊢
    rw [show (stW S y).2.2.2.2 = S.2.2.2.2 from rfl, ec]
    exact hm
theorem CR.setW (h : CR M N c S) (hB : Bg c M M') (hF : CFw c N N') (hW : WdC N' (c + 6) y) : CR M' N' c (stW S y) := by
  have hF' : CFr c N (fun b k => if c + 6 ≤ b ∧ b < c + 38 then N b k else N' b k) := ⟨fun b hb => funext fun k => by
    show (if c + 6 ≤ b ∧ b < c + 38 then N b k else N' b k) = N b k
    split
    · rfl
    · rw [hF.1 b (by omega)], fun k a1 a2 a3 a4 a5 a6 => by
    show (if c + 6 ≤ c ∧ c < c + 38 then N c k else N' c k) = N c k
    rw [if_neg (by omega)]
    exact hF.2 k a1 a2 a3 a4 a5 a6⟩
  refine (h.sc hB hF').wset (fun b hb => funext fun k => ?_) hW
  exact (if_neg (by omega)).symm
theorem CFm.ofw (hB : Bg c M M') (hF : CFw c N N') : CFm c M N M' N' := CFm.sc hB (fun b hb => hF.1 b (by omega))
theorem c_finW {g : JM Mem τ} {Q : τ → Mem → NM → Prop} (hR : CR M N c S) (hB : Bg c M M') (hF : CFw c N N') (hW : WdC N' (c + 6) y) (h : cPost M N c (stU (stW S y) 0 v) g Q) : GN M' (up2 N' c 8 v) g Q :=
  h M' _ ((hR.setW hB hF hW).st v) ((CFm.ofw hB hF).st v)
def MFw (m : Nat) (N N' : NM) : Prop := (∀ b, b < m ∨ m < b ∧ b ≤ m + 4 ∨ b = m + 23 ∨ m + 36 ≤ b → N' b = N b) ∧ (∀ k, k = 0 ∨ k = 1 ∨ k = 8 ∨ k = 10 ∨ k = 11 ∨ k = 23 ∨ k = 44 ∨ 49 ≤ k ∧ k ≤ 53 → N' m k = N m k) ∧ ∀ l, 127 ≤ l → N' (m + 5) l = N (m + 5) l
theorem MFr.tw (h : MFr m N N') : MFw m N N' := ⟨fun b hb => h.1 b (by omega), h.2, fun l _ => by rw [h.1 _ (by omega)]⟩
theorem MFw.tr {N2 : NM} (h : MFw m N N') (h2 : MFw m N' N2) : MFw m N N2 := ⟨fun b hb => (h2.1 b hb).trans (h.1 b hb), fun k hk => (h2.2.1 k hk).trans (h.2.1 k hk), fun l hl => (h2.2.2 l hl).trans (h.2.2 l hl)⟩
theorem MFw.of (h : ∀ b, b ≠ m + 5 → b < m + 6 ∨ b = m + 23 ∨ m + 36 ≤ b → N' b = N b) (h2 : ∀ l, 127 ≤ l → N' (m + 5) l = N (m + 5) l) : MFw m N N' := ⟨fun b hb => h b (by omega) (by omega), fun k _ => by rw [h m (by omega) (by omega)], h2⟩
theorem WC.ag {W B : Nat} (h : WC N W B p n T) (e : ∀ l, B ≤ l → l < B + 127 → N' W l = N W l) : WC N' W B p n T := by
  obtain ⟨h1, h2, h3⟩ := h
  exact ⟨by rw [e _ (by omega) (by omega)]; exact h1, by rw [e _ (by omega) (by omega)]; exact h2, fun i j k hi hj hk => by rw [e _ (by omega) (by omega)]; exact h3 i j k hi hj hk⟩
theorem ShM.ag2 {x : Option Wd} {W B : Nat} (h : ShM N W B x) (e : ∀ l, B ≤ l → l < B + 127 → N' W l = N W l) : ShM N' W B x := by
  cases x with
  | none => show N' W _ = 0; rw [e _ (by omega) (by omega)]; exact h
  | some s => exact ⟨h.1.ag e, h.2⟩
theorem ScM.ag2 {x : Option Scr} {W B : Nat} (h : ScM N W B x) (e : ∀ l, B + 635 ≤ l → N' W l = N W l) : ScM N' W B x := by
  cases x with
  | none => show N' W _ = 0; rw [e _ (by omega)]; exact h
  | some s =>
    obtain ⟨g1, g2, g3⟩ := h
    exact ⟨by rw [e _ (by omega)]; exact g1, by rw [e _ (by omega)]; exact g2, fun i k hi hk => by rw [e _ (by omega)]; exact g3 i k hi hk⟩
theorem HsM.ag2 {H : Hs} {W B : Nat} (h : HsM N W B H) (e : ∀ l, B ≤ l → N' W l = N W l) : HsM N' W B H := ⟨⟨h.1.1.ag (fun l a _ => e l a), h.1.2⟩, fun j hj => (h.2.1 j hj).ag2 (fun l a _ => e l (by omega)), h.2.2.ag2 (fun l a => e l (by omega))⟩
theorem MR.setW (h : MR M N m S) (hF : MFw m N N') (hW : WdM N' (m + 5) 0 y) : MR M N' m (stW S y) := by
  obtain ⟨g1, g2, ⟨g3, g3b, g3c⟩, g4, ⟨g5, g5b, g5c⟩, hm⟩ := h
  obtain ⟨f1, f2, f3⟩ := hF
  refine ⟨g1, ⟨hW, fun j hj => (g2.2.1 j hj).ag2 (fun l a _ => f3 l (by omega)), g2.2.2.ag2 (fun l a => f3 l (by omega))⟩, ⟨by rw [f2 23 (by omega)]; exact g3, g3b, fun k hk => (g3c k hk).ag2 (fun l a => f3 l (by omega))⟩, fun t ht => (g4 t ht).ag (f1 _ (by omega)) (f1 _ (by omega)) rfl, ⟨by rw [f2 8 (by omega)]; exact g5, g5b, by rw [f1 (m + 4) (by omega)]; exact g5c⟩, ?_⟩
  unfold MiM at hm ⊢
  rw [show (stW S y).2.2.2.2 = S.2.2.2.2 from rfl, f2 0 (by omega), f2 1 (by omega), f2 10 (by omega), f2 11 (by omega), f2 44 (by omega), f2 49 (by omega), f1 (m + 23) (by omega)]
  exact hm
theorem MFm.stw (hS : MSt M N m p n T M1 N1) (hF : MFw m N1 N') : MFm m M N M1 N' := MFm.bg hS.1 (fun b hb => by rw [hF.1 b (by omega), hS.2.2.2.1 b (by omega)])
theorem m_finW {g : JM Mem τ} {Q : τ → Mem → NM → Prop} (hR : MR M N m S) (hS : MSt M N m (sp S) (sn S) (sT S) M1 N1) (hF : MFw m N1 N') (hW : WdM N' (m + 5) 0 y) (h : mPost M N m (stU (stW S y) 0 0) g Q) : GN M1 N' g Q :=
  h M1 N' ((hR.be hS).setW hF hW) (MFm.stw hS hF)
/-- a shelf has a world -/
def shU (S : St) (s : Nat) (y : Wd) : St := ((S.1.1, (fun k => if k = s then some y else S.1.2.1 k), S.1.2.2), S.2)
theorem CR.setS {s : Nat} (h : CR M N c S) (hs : s < 4) (hN : ∀ b, b ≠ c + 71 → b < c + 262 + 32 * s ∨ c + 262 + 32 * s + 32 ≤ b → N' b = N b) (h71 : ∀ k, N' (c + 71) k = if k = s then 1 else N (c + 71) k) (hW : WdC N' (c + 262 + 32 * s) y) : CR M N' c (shU S s y) := by
  obtain ⟨h1, h2, ⟨h3, h3b, h3c⟩, ⟨h4, h4b⟩, ⟨h5, h5b, h5c⟩, hm, h6⟩ := h
  have tK : ∀ b d, c + 1603 ≤ b → mK M b = some d → mK M b = some d := fun _ _ _ x => x
  have tR : ∀ b, c + 1603 ≤ b → mK M b ≠ none → mR M b = mR M b := fun _ _ _ => rfl
  have tN : ∀ b, c + 1603 ≤ b → mK M b = some (.inl 8) → ∀ j, j < 7 → N' b j = N b j := fun b hb _ j _ => by rw [hN b (by omega) (by omega)]
  have e2 := hN (c + 2) (by omega) (by omega)
  have e4 := hN (c + 4) (by omega) (by omega)
  have ec := hN c (by omega) (by omega)
  refine ⟨h1, ⟨h2.1.fr (fun b x y => hN b (by omega) (by omega)), fun j hj => ?_, h2.2.2.ag tK tR tN rfl (by rw [ec])⟩, ⟨by rw [ec]; exact h3, h3b, fun k hk => ?_⟩, ⟨fun t ht => (h4 t ht).ag rfl (hN _ (by omega) (by omega)) (fun a g1 g2 => ⟨hN a (by omega) (by omega), rfl, rfl⟩), h4b⟩, ⟨by rw [e2]; exact h5, h5b, by rw [e4]; exact h5c⟩, ?_, h6⟩
  · show ShC N' (c + 71) (c + 262 + 32 * j) j (if j = s then some y else S.1.2.1 j)
    by_cases e : j = s
    · rw [if_pos e, e]
      exact ⟨by rw [h71, if_pos rfl], hW⟩
    · rw [if_neg e]
      have := h2.2.1 j hj
      cases e3 : S.1.2.1 j with
      | none =>
        rw [e3] at this
        show N' (c + 71) j = 0
        rw [h71, if_neg e]; exact this
      | some z =>
        rw [e3] at this
        exact ⟨by rw [h71, if_neg e]; exact this.1, this.2.fr (fun b (x : c + 262 + 32 * j ≤ b) (y : b < c + 262 + 32 * j + 32) => hN b (by omega) (by omega))⟩
  · have hk : k < S.2.1.1 := hk
    have hk3 : k < 3 := by omega
    have := h3c k hk
    unfold kpl at this ⊢
    exact this.ag tK tR tN rfl (by rw [hN _ (by omega) (by omega)]) (hN _ (by omega) (by omega)) (fun b x y => hN b (by omega) (by omega)) (fun j hj b x y => hN b (by omega) (by omega))
  · unfold MiC at hm ⊢
    rw [show (shU S s y).2.2.2.2 = S.2.2.2.2 from rfl, ec]
    exact hm
theorem MR.setS {s : Nat} (h : MR M N m S) (hs : s < 4) (hN : ∀ b, b ≠ m + 5 → N' b = N b) (hl : ∀ l, l < 127 * (s + 1) ∨ 127 * (s + 1) + 127 ≤ l → N' (m + 5) l = N (m + 5) l) (hW : WdM N' (m + 5) (127 * (s + 1)) y) : MR M N' m (shU S s y) := by
  obtain ⟨g1, g2, ⟨g3, g3b, g3c⟩, g4, ⟨g5, g5b, g5c⟩, hm⟩ := h
  have e := fun b hb => hN b hb
  refine ⟨g1, ⟨⟨g2.1.1.ag (fun l a b => hl l (by omega)), g2.1.2⟩, fun j hj => ?_, g2.2.2.ag2 (fun l a => hl l (by omega))⟩, ⟨by rw [hN m (by omega)]; exact g3, g3b, fun k hk => (g3c k hk).ag2 (fun l a => hl l (by omega))⟩, fun t ht => (g4 t ht).ag (hN _ (by omega)) (hN _ (by omega)) rfl, ⟨by rw [hN m (by omega)]; exact g5, g5b, by rw [hN (m + 4) (by omega)]; exact g5c⟩, ?_⟩
  · show ShM N' (m + 5) (0 + 127 * (j + 1)) (if j = s then some y else S.1.2.1 j)
    by_cases e : j = s
    · rw [if_pos e, e, Nat.zero_add]
      exact hW
    · rw [if_neg e]
      exact (g2.2.1 j hj).ag2 (fun l a b => hl l (by omega))
  · unfold MiM at hm ⊢
    rw [show (shU S s y).2.2.2.2 = S.2.2.2.2 from rfl, hN m (by omega), hN (m + 23) (by omega)]
    exact hm
end OPS7
