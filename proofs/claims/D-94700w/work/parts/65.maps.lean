/-! THE COMPONENT: maps of one world to another. -/
set_option maxRecDepth 100000
section CMP11
variable {α τ ρ : Type} {M : Mem} {N N' : NM} {c w u : Nat} {p p2 : Int} {n n2 m : Nat} {T F : Nat → Nat → Nat → Int} {im : Nat → Nat → Int} {lev : Nat}
/-- what is found -/
noncomputable def mpS (p : Int) (n : Nat) (F T : Nat → Nat → Nat → Int) (first : Prop) : Sk := skL p n F T first n (fun _ _ => 0) (0, 0, 0)
/-- what finding maps writes -/
def MpF (N : NM) (c : Nat) (N' : NM) : Prop := (∀ b, b ≠ c → b ≠ c + 74 → b ≠ c + 75 → b < c + 193 ∨ c + 198 ≤ b → b < c + 1519 ∨ c + 1567 ≤ b → N' b = N b) ∧ ∀ k, k ≠ 29 → k ≠ 31 → k ≠ 32 → N' c k = N c k
theorem SkF.mp (h : SkF N c lev N') : MpF N c N' := ⟨fun b a1 a2 a3 a4 a5 => h.1 b a1 a2 a3 (by omega) (by omega), h.2⟩
theorem MpF.tr {N2 : NM} (h : MpF N c N') (h2 : MpF N' c N2) : MpF N c N2 := ⟨fun b a1 a2 a3 a4 a5 => (h2.1 b a1 a2 a3 a4 a5).trans (h.1 b a1 a2 a3 a4 a5), fun k a1 a2 a3 => (h2.2 k a1 a2 a3).trans (h.2 k a1 a2 a3)⟩
theorem w_maps2 {f : Int32 → JM Mem τ} {Q : τ → Mem → NM → Prop} (hC : CL M c) (hU : WL M u) (hW : WL M w) (hw : w + 32 ≤ c + 72 ∨ c + 212 ≤ w) (hu : u + 32 ≤ c + 72 ∨ c + 212 ≤ u) (hwc : c < w ∧ c < u ∧ w + 32 ≤ c + 1519 ∧ u + 32 ≤ c + 1519) {fst : Int} (hfst : fst = 0 ∨ fst = 1)
    (hE : WD N u p n F) (hD : WD N w p2 n2 T)
    (h : ∀ N' st, SkN N' c st → SkB st → (st = if p = p2 ∧ n = n2 then mpS p n F T (fst = 1) else (0, 0, 0)) → MpF N c N' → GN M N' (f (zI st.2.1)) Q) : GN M N (jb (jcall 0 c (f_X0_maps_2 c u w (zI fst))) f) Q := by
  have hpb := hD.pb
  have hn5 := hD.n5
  have h198 := hC.ka (o := 198) (d := (8, 6)) rfl
  refine w_Cc hC ?_
  unfold f_X0_maps_2
  rw [z_0]
  refine w_Cput hC (w_Cput hC (w_CputZ hC (Or.inl rfl) ?_))
  generalize hN1 : up2 (up2 (up2 N c 29 0) c 31 0) c 32 0 = N1
  have hn1 : ∀ b, b ≠ c → N1 b = N b := fun b hb => by
    subst hN1
    funext k
    show (if b = c ∧ _ then _ else if b = c ∧ _ then _ else if b = c ∧ _ then _ else N b k) = _
    rw [if_neg (fun e => hb e.1), if_neg (fun e => hb e.1), if_neg (fun e => hb e.1)]
  have hn2 : ∀ k, k ≠ 29 → k ≠ 31 → k ≠ 32 → N1 c k = N c k := fun k a1 a2 a3 => by
    subst hN1
    show (if c = c ∧ k = 32 then _ else if c = c ∧ k = 31 then _ else if c = c ∧ k = 29 then _ else N c k) = _
    rw [if_neg (fun e => a3 e.2), if_neg (fun e => a2 e.2), if_neg (fun e => a1 e.2)]
  have hst : SkN N1 c (0, 0, 0) := by
    subst hN1
    refine ⟨?_, ?_, ?_⟩
    · show (if c = c ∧ 29 = 32 then _ else if c = c ∧ 29 = 31 then _ else if c = c ∧ 29 = 29 then (0 : Int) else N c 29) = _
      rw [if_neg (by omega), if_neg (by omega), if_pos ⟨rfl, rfl⟩]; rfl
    · show (if c = c ∧ 31 = 32 then _ else if c = c ∧ 31 = 31 then (0 : Int) else _) = _
      rw [if_neg (by omega), if_pos ⟨rfl, rfl⟩]; rfl
    · show (if c = c ∧ 32 = 32 then (0 : Int) else _) = _
      rw [if_pos ⟨rfl, rfl⟩]; rfl
  have hF1 : SkF N c 0 N1 := ⟨fun b a1 _ _ _ _ => hn1 b a1, hn2⟩
  have hE1 : WD N1 u p n F := hE.fr (fun b h1 h2 => hn1 b (by omega))
  have hD1 : WD N1 w p2 n2 T := hD.fr (fun b h1 h2 => hn1 b (by omega))
  refine w_isLike hU hW hE1 hD1 ?_
  by_cases hl : p = p2 ∧ n = n2
  case neg =>
    rw [if_neg hl]
    refine w_eq ⟨by omega, by omega⟩ ⟨by omega, by omega⟩ (fun _ => ?_) (fun hc => absurd rfl hc)
    exact w_jp (h N1 (0, 0, 0) hst ⟨by show 0 ≤ 200000; omega, by show 0 ≤ 0; omega, by show 0 ≤ 1; omega⟩ (by rw [if_neg hl]) hF1.mp)
  rw [if_pos hl]
  obtain ⟨rfl, rfl⟩ := hl
  refine w_eq ⟨by omega, by omega⟩ ⟨by omega, by omega⟩ (fun hc => absurd hc (by omega)) (fun _ => ?_)
  have ha0 := hC.ah (k := 0) (by omega)
  have hS0 : SL M (c + 1519 + 8 * 0) := ha0.2
  refine w_Cf hC rfl ?_
  refine w_aldA h198 (by omega) (by omega) ha0.1 ?_
  refine w_putI hS0.1 ?_
  have hF2 : MpF N c (up2 N1 (c + 1519 + 8 * 0) 2 0) := hF1.mp.tr ⟨fun b _ _ _ _ a5 => by
    funext k
    show (if b = c + 1519 + 8 * 0 ∧ _ then _ else N1 b k) = _
    rw [if_neg (fun e => by omega)], fun k _ _ _ => by
    show (if c = c + 1519 + 8 * 0 ∧ _ then _ else N1 c k) = _
    rw [if_neg (fun e => by omega)]⟩
  have hst2 : SkN (up2 N1 (c + 1519 + 8 * 0) 2 0) c (0, 0, 0) := by
    have e : ∀ k, up2 N1 (c + 1519 + 8 * 0) 2 0 c k = N1 c k := fun k => by
      show (if c = c + 1519 + 8 * 0 ∧ _ then _ else N1 c k) = _
      rw [if_neg (fun e => by omega)]
    unfold SkN at hst ⊢
    rw [e, e, e]
    exact hst
  have hsp : SpD (up2 N1 (c + 1519 + 8 * 0) 2 0) (c + 1519 + 8 * 0) p n 0 (fun _ _ => 0) (fun _ => 0) (Zs p n) := SpD.nil (by
    show (if c + 1519 + 8 * 0 = c + 1519 + 8 * 0 ∧ 2 = 2 then (0 : Int) else _) = _
    rw [if_pos ⟨rfl, rfl⟩]) hD.pr
  have hz : Rs p n 0 (fun _ _ => 0) = Zs p n := by
    rw [← Gn.nil]
    exact congrArg (Gn p n) (vs_anti (fun _ ⟨r, hr, _⟩ => by omega) (fun _ h => h.elim))
  have hfa : ∀ b, (c < b ∧ b < c + 72 ∨ c + 212 ≤ b) → b < c + 1519 → up2 N1 (c + 1519 + 8 * 0) 2 0 b = N1 b := fun b _ hb => by
    funext k
    show (if b = c + 1519 + 8 * 0 ∧ _ then _ else N1 b k) = _
    rw [if_neg (fun e => by omega)]
  refine w_Cc hC ?_
  refine gn_mono (w_seeks hC hU hW hw hu hwc hfst n 8 0 (fun _ _ => 0) (0, 0, 0) _ (by omega) (by omega) (hE1.fr (fun b h1 h2 => hfa b (by omega) (by omega))) (hD1.fr (fun b h1 h2 => hfa b (by omega) (by omega))) hst2 (by show 0 ≤ 200000; omega) (by show 0 ≤ 0; omega) (fun e => absurd hD.n1 (by omega)) rfl
    (fun k hk => absurd hk (by omega)) (fun k hk => ?_)) (fun _ B N7 hq => ?_)
  · obtain rfl : k = 0 := by omega
    exact ⟨0, _, _, by rw [hz]; exact hsp⟩
  obtain ⟨rfl, h1, h2, h3⟩ := hq
  refine w_CI hC ?_
  rw [h1.2.1]
  exact w_jp (h N7 _ h1 h2 (by rw [if_pos ⟨rfl, rfl⟩]; rfl) (hF2.tr h3.mp))
end CMP11
