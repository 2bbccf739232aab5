/-! THE MODEL: its background may change; asking a world; maps of one world to another. -/
set_option maxRecDepth 100000
section MOD10
variable {α τ : Type} {M M' : Mem} {N N' : NM} {m a b o W B U D : Nat} {p : Int} {n q lev : Nat} {T F : Nat → Nat → Nat → Int} {im : Nat → Nat → Int}
/-- the background but for the two worlds that are looked at -/
def BgM (m : Nat) (M M' : Mem) : Prop := ∃ R' L', M' = sL (sR M R') L' ∧ (∀ b k, b ≠ m ∨ k ≠ 24 ∧ k ≠ 64 → R' b k = mR M b k) ∧ ∀ b, L' b = mL M b
theorem BgM.rf : BgM m M M := ⟨mR M, mL M, rfl, fun _ _ _ => rfl, fun _ => rfl⟩
theorem BgM.tr {M2 : Mem} (h : BgM m M M') (h2 : BgM m M' M2) : BgM m M M2 := by
  obtain ⟨R', L', rfl, e, g⟩ := h
  obtain ⟨R2, L2, rfl, e2, g2⟩ := h2
  exact ⟨R2, L2, rfl, fun b k h => (e2 b k h).trans (e b k h), fun b => (g2 b).trans (g b)⟩
theorem BgM.ke (h : BgM m M M') : mK M' = mK M := by obtain ⟨R', L', rfl, e, g⟩ := h; rfl
theorem BgM.r (h : BgM m M M') {b k : Nat} (h1 : b ≠ m ∨ k ≠ 24 ∧ k ≠ 64) : mR M' b k = mR M b k := by obtain ⟨R', L', rfl, e, g⟩ := h; exact e b k h1
theorem BgM.l (h : BgM m M M') {b : Nat} : mL M' b = mL M b := by obtain ⟨R', L', rfl, e, g⟩ := h; exact g b
theorem BgM.z (h : BgM m M M') : mZ M' = mZ M ∧ mC M' = mC M ∧ mS M' = mS M := by obtain ⟨R', L', rfl, e, g⟩ := h; exact ⟨rfl, rfl, rfl⟩
theorem BgM.t (h : BgM m M M') : mT M' = mT M := by obtain ⟨R', L', rfl, e, g⟩ := h; rfl
theorem ML.bg (h : ML M m) (hb : BgM m M M') : ML M' m := by
  refine ⟨by rw [hb.ke]; exact h.1, fun k o e => ?_, fun o d e => by rw [hb.ke]; exact h.2.2 o d e⟩
  rw [hb.r (Or.inr ⟨fun x => ?_, fun x => ?_⟩)]
  · exact h.2.1 k o e
  · subst x; exact absurd (show (none : Option Nat) = some o from e) (fun q => by cases q)
  · subst x; exact absurd (show (none : Option Nat) = some o from e) (fun q => by cases q)
theorem BgM.put {k : Nat} {v : Option Nat} (hk : k = 24 ∨ k = 64) : BgM m M (sR M (up2 (mR M) m k v)) := ⟨up2 (mR M) m k v, mL M, rfl, fun b j hx => if_neg (fun e => by omega), fun _ => rfl⟩
theorem w_putO {c k a : Nat} {v : Option Nat} {f : Unit → JM Mem τ} {Q : τ → Mem → NM → Prop} (hK : mK M a = some (.inl c)) (h : GN (sR M (up2 (mR M) a k v)) N (f ()) Q) : GN M N (jb (jputO c k a v) f) Q :=
  go_jb (go_putO (M := sN M N) hK h)
/-- what asking leaves -/
theorem w_ask {f : Unit → JM Mem τ} {Q : τ → Mem → NM → Prop} {L : Nat} (hM : ML M m) (hW : W = m + 5 ∨ W = m + 35) (hK : mK M W = some (.inr (0, L))) (hL : B + 127 ≤ L ∧ L ≤ 4000) (hC : WC N W B p n T) (hT : WOk p n T)
    (h : ∀ M' N', BgM m M M' → (mR M' m 64 = mR M m 64) → MA M' N' m W B p n T → (∀ b, b ≠ m → N' b = N b) → (∀ k, k ≠ 25 → k ≠ 26 → k ≠ 27 → N' m k = N m k) → GN M' N' (f ()) Q) : GN M N (jb (jcall 7 m (f_X8_ask m W (zI B))) f) Q := by
  obtain ⟨c1, c2, c3⟩ := hC
  refine w_Mc hM ?_
  unfold f_X8_ask
  refine w_putO hM.km ?_
  have hb : BgM m M (sR M (up2 (mR M) m 24 (some W))) := BgM.put (Or.inl rfl)
  have hr : mR (sR M (up2 (mR M) m 24 (some W))) m 24 = some W := if_pos ⟨rfl, rfl⟩
  have hr64 : mR (sR M (up2 (mR M) m 24 (some W))) m 64 = mR M m 64 := if_neg (fun e => by omega)
  generalize sR M (up2 (mR M) m 24 (some W)) = M1 at hb hr hr64
  have hM1 := hM.bg hb
  have hK1 : mK M1 W = some (.inr (0, L)) := by rw [hb.ke]; exact hK
  refine w_Mput hM1 ?_
  refine w_ald hK1 (by omega) (by omega) ?_
  rw [show (B : Int).toNat = B from rfl, show up2 N m 25 (B : Int) W B = N W B by
    show (if W = m ∧ _ then _ else _) = _
    rw [if_neg (fun e => by omega)], c1]
  refine w_Mput hM1 ?_
  rw [z_1, zI_add]
  refine w_ald hK1 (by omega) (by omega) ?_
  rw [show ((B : Int) + 1).toNat = B + 1 by omega, show up2 (up2 N m 25 (B : Int)) m 26 p W (B + 1) = N W (B + 1) by
    show (if W = m ∧ _ then _ else if W = m ∧ _ then _ else _) = _
    rw [if_neg (fun e => by omega), if_neg (fun e => by omega)], c2]
  refine w_Mput hM1 (w_jp ?_)
  have eo : ∀ b, b ≠ m → up2 (up2 (up2 N m 25 (B : Int)) m 26 p) m 27 n b = N b := fun b hb => by
    funext k
    show (if b = m ∧ _ then _ else if b = m ∧ _ then _ else if b = m ∧ _ then _ else N b k) = _
    rw [if_neg (fun e => hb e.1), if_neg (fun e => hb e.1), if_neg (fun e => hb e.1)]
  refine h M1 _ hb hr64 ⟨hr, ?_, ?_, ?_, ⟨L, hK1, hL⟩, hT, fun i j k hi hj hk => by rw [eo W (by omega)]; exact c3 i j k hi hj hk, hW⟩ eo (fun k h1 h2 h3 => ?_)
  · show (if m = m ∧ 25 = 27 then _ else if m = m ∧ 25 = 26 then _ else if m = m ∧ 25 = 25 then (B : Int) else _) = _
    rw [if_neg (by omega), if_neg (by omega), if_pos ⟨rfl, rfl⟩]
  · show (if m = m ∧ 26 = 27 then _ else if m = m ∧ 26 = 26 then p else _) = _
    rw [if_neg (by omega), if_pos ⟨rfl, rfl⟩]
  · show (if m = m ∧ 27 = 27 then (n : Int) else _) = _
    rw [if_pos ⟨rfl, rfl⟩]
  · show (if m = m ∧ k = 27 then _ else if m = m ∧ k = 26 then _ else if m = m ∧ k = 25 then _ else N m k) = _
    rw [if_neg (fun e => h3 e.2), if_neg (fun e => h2 e.2), if_neg (fun e => h1 e.2)]
theorem MA.bg (h : MA M N m W B p n T) (hb : BgM m M M') (h24 : mR M' m 24 = mR M m 24) : MA M' N m W B p n T := by
  obtain ⟨h1, h2, h3, h4, h5, h6⟩ := h
  exact ⟨h24.trans h1, h2, h3, h4, by rw [hb.ke]; exact h5, h6⟩
/-- what finding maps writes -/
def FmF (N : NM) (m : Nat) (N' : NM) : Prop := (∀ b, b ≠ m → b ≠ m + 10 → b ≠ m + 17 → b ≠ m + 20 → b ≠ m + 21 → b ≠ m + 22 → b ≠ m + 24 → N' b = N b) ∧ (∀ k, k ≠ 43 → k ≠ 45 → k ≠ 46 → k ≠ 47 → k ≠ 65 → N' m k = N m k)
theorem w_findMaps {f : Unit → JM Mem τ} {Q : τ → Mem → NM → Prop} {fst : Int} (hfst : fst = 0 ∨ fst = 1) (hM : ML M m) (hA : MA M N m W B p n T) (hC : WC N (m + 5) D p n F) (hD : D + 127 ≤ 3440) (hF : WOk p n F)
    (h : ∀ M' N', BgM m M M' → mR M' m 24 = mR M m 24 → SkM N' m (mpS p n F T (fst = 1)) → SkB (mpS p n F T (fst = 1)) → FmF N m N' → GN M' N' (f ()) Q) : GN M N (jb (jcall 7 m (f_X8_findMaps m (m + 5) (zI D) (zI fst))) f) Q := by
  have h22 := hM.ka (o := 22) (d := (0, 6)) rfl
  have h5 := hM.ka (o := 5) (d := (0, 3440)) rfl
  have hWe := hA.We
  have hn5 := hA.n5
  refine w_Mc hM ?_
  unfold f_X8_findMaps
  refine w_putO hM.km ?_
  have hb : BgM m M (sR M (up2 (mR M) m 64 (some (m + 5)))) := BgM.put (Or.inr rfl)
  have hr : mR (sR M (up2 (mR M) m 64 (some (m + 5)))) m 64 = some (m + 5) := if_pos ⟨rfl, rfl⟩
  have hr24 : mR (sR M (up2 (mR M) m 64 (some (m + 5)))) m 24 = mR M m 24 := if_neg (fun e => by omega)
  generalize sR M (up2 (mR M) m 64 (some (m + 5))) = M1 at hb hr hr24
  have hM1 := hM.bg hb
  have hA1 := hA.bg hb hr24
  have h221 : mK M1 (m + 22) = some (.inr (0, 6)) := by rw [hb.ke]; exact h22
  refine w_Mput hM1 (w_putZ hM1.km hfst ?_)
  rw [z_0]
  refine w_Mput hM1 (w_Mput hM1 (w_putZ hM1.km (Or.inl rfl) ?_))
  refine w_Mf hM1 rfl ?_
  refine w_ast h221 (by omega) (by omega) ?_
  rw [show (0 : Int).toNat = 0 from rfl]
  generalize hN1 : up2 (up2 (up2 (up2 (up2 (up2 N m 65 (D : Int)) m 47 fst) m 45 0) m 43 0) m 46 0) (m + 22) 0 0 = N1
  have ev : ∀ b k, N1 b k = if b = m + 22 ∧ k = 0 then 0 else if b = m ∧ k = 46 then 0 else if b = m ∧ k = 43 then 0 else if b = m ∧ k = 45 then 0 else if b = m ∧ k = 47 then fst else if b = m ∧ k = 65 then (D : Int) else N b k := fun b k => by rw [← hN1]; rfl
  have eo : ∀ b, b ≠ m → b ≠ m + 22 → N1 b = N b := fun b h1 h2 => by
    funext k
    rw [ev, if_neg (fun e => h2 e.1), if_neg (fun e => h1 e.1), if_neg (fun e => h1 e.1), if_neg (fun e => h1 e.1), if_neg (fun e => h1 e.1), if_neg (fun e => h1 e.1)]
  have em : ∀ k, k ≠ 43 → k ≠ 45 → k ≠ 46 → k ≠ 47 → k ≠ 65 → N1 m k = N m k := fun k a1 a2 a3 a4 a5 => by
    rw [ev, if_neg (fun e => by omega), if_neg (fun e => a3 e.2), if_neg (fun e => a1 e.2), if_neg (fun e => a2 e.2), if_neg (fun e => a4 e.2), if_neg (fun e => a5 e.2)]
  have v46 : N1 m 46 = 0 := by rw [ev, if_neg (by omega), if_pos ⟨rfl, rfl⟩]
  have v43 : N1 m 43 = 0 := by rw [ev, if_neg (by omega), if_neg (by omega), if_pos ⟨rfl, rfl⟩]
  have v45 : N1 m 45 = 0 := by rw [ev, if_neg (by omega), if_neg (by omega), if_neg (by omega), if_pos ⟨rfl, rfl⟩]
  have v47 : N1 m 47 = fst := by rw [ev, if_neg (by omega), if_neg (by omega), if_neg (by omega), if_neg (by omega), if_pos ⟨rfl, rfl⟩]
  have v65 : N1 m 65 = (D : Int) := by rw [ev, if_neg (by omega), if_neg (by omega), if_neg (by omega), if_neg (by omega), if_neg (by omega), if_pos ⟨rfl, rfl⟩]
  have v22 : N1 (m + 22) 0 = 0 := by rw [ev, if_pos ⟨rfl, rfl⟩]
  have hA2 : MA M1 N1 m W B p n T := hA1.fr2 (fun k h1 h2 => em k (by omega) (by omega) (by omega) (by omega) (by omega)) (eo W (by omega) (by omega))
  have hS2 : MSr M1 N1 m (m + 5) D p n F := ⟨hr, v65, ⟨3440, by rw [hb.ke]; exact h5, by omega, by omega⟩, hF, fun i j k hi hj hk => by rw [eo (m + 5) (by omega) (by omega)]; exact hC.2.2 i j k hi hj hk, rfl⟩
  clear hN1 ev
  refine w_Mc hM1 ?_
  refine gn_mono (w_goMaps hM1 hfst n 8 0 (fun _ _ => 0) (0, 0, 0) N1 (by omega) (by omega) hA2 hS2 v47 ⟨v43, v45, v46⟩ (by show 0 ≤ 200000; omega) (by show 0 ≤ 0; omega) (fun e => absurd hA.n1 (by omega)) rfl
    (fun k hk => absurd hk (by omega)) (fun k hk _ => ?_)) (fun _ B2 N7 hq => ?_)
  · obtain rfl : k = 0 := by omega
    have hz : Rs p n 0 (fun _ _ => 0) = Zs p n := by
      rw [← Gn.nil]
      exact congrArg (Gn p n) (vs_anti (fun _ ⟨r, hr, _⟩ => by omega) (fun _ h => h.elim))
    rw [hz]
    exact ⟨0, fun _ _ => 0, fun _ => 0, v22, fun r j hr _ => absurd hr (by omega), fun _ _ => ⟨Int.le_refl 0, by have := hA.pr.pos; show (0 : Int) < p; omega, fun _ => rfl⟩, fun r q _ hq => absurd hq (by omega), Ech.nil⟩
  obtain ⟨rfl, h1, h2, h3⟩ := hq
  exact w_jp (h B2 N7 hb hr24 h1 h2 ⟨fun b a1 a2 a3 a4 a5 a6 a7 => (h3.1 b a1 a2 a3 a4 a5 a6 a7).trans (eo b a1 a6), fun k a1 a2 a3 a4 a5 => (h3.2.1 k a1 a2 a3).trans (em k a1 a2 a3 a4 a5)⟩)
end MOD10
