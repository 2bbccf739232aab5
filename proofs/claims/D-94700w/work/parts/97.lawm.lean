/-! THE MODEL: lawful worlds. -/
set_option maxRecDepth 100000
section LAWM
variable {α τ : Type} {M M' : Mem} {N N' : NM} {m W B i j k : Nat} {p : Int} {n : Nat} {T : Nat → Nat → Nat → Int} {Y J : Nat → Int}
theorem bk_u1 (hi : i < n) (k : Nat) : bk n T (un i) Y k = sm n (fun j => Y j * T i j k) := by
  unfold bk
  rw [← sm_one hi (fun a => sm n (fun j => Y j * T a j k))]
  refine sm_congr (fun a ha => ?_)
  show sm n (fun b => (if a = i then 1 else 0) * Y b * T a b k) = if a = i then _ else 0
  by_cases e : a = i
  · rw [if_pos e, if_pos e]
    refine sm_congr (fun b hb => ?_)
    rw [Int.one_mul]
  · rw [if_neg e, if_neg e]
    exact (sm_congr (g := fun _ => 0) (fun b hb => by rw [Int.zero_mul, Int.zero_mul])).trans (sm_zero n)
theorem bk_uu (hi : i < n) (hj : j < n) (k : Nat) : bk n T (un i) (un j) k = T i j k := by
  rw [bk_u1 hi, ← sm_one hj (fun j => T i j k)]
  refine sm_congr (fun a ha => ?_)
  show (if a = j then 1 else 0) * T i a k = if a = j then T i a k else 0
  split
  · rw [Int.one_mul]
  · rw [Int.zero_mul]
/-- one bracket of a base vector with that of two others -/
def jc (p : Int) (n : Nat) (T : Nat → Nat → Nat → Int) (i j k : Nat) : Nat → Int := bkm p n T (un i) (bkm p n T (un j) (un k))
theorem jc_cg (hi : i < n) (hj : j < n) (hk : k < n) (x : Nat) : Cg p (jc p n T i j k x) (sm n (fun l => T j k l * T i l x)) := by
  unfold jc bkm
  refine (Cg.mod p _).tr ?_
  rw [bk_u1 hi]
  refine Cg.sm (fun l hl => ?_)
  rw [bk_uu hj hk]
  exact (Cg.mod p _).mul Cg.rf
theorem jc_sum (hi : i < n) (hj : j < n) (hk : k < n) (x : Nat) : Cg p (((0 + jc p n T i j k x) % p + jc p n T j k i x) % p + jc p n T k i j x) (JS n T i j k x) := by
  unfold JS
  rw [sm_add, sm_add]
  refine Cg.add (Cg.tr (Cg.mod p _) (Cg.add (Cg.tr (Cg.mod p _) ?_) (jc_cg hj hk hi x))) (jc_cg hk hi hj x)
  rw [Int.zero_add]
  exact jc_cg hi hj hk x
theorem jc_bd (hT : WOk p n T) (x : Nat) : 0 ≤ jc p n T i j k x ∧ jc p n T i j k x < p := ⟨(bkm_bd hT x).1, (bkm_bd hT x).2.1⟩
/-- what is written -/
def JcF (m : Nat) (N N' : NM) : Prop := ∀ b, b ≠ m + 14 → b ≠ m + 15 → b ≠ m + 16 → b ≠ m + 17 → b ≠ m + 25 → N' b = N b
theorem JcF.ma (h : JcF m N N') (hA : MA M N m W B p n T) : MA M N' m W B p n T := by
  have := hA.We
  exact hA.fr (h m (by omega) (by omega) (by omega) (by omega) (by omega)) (h W (by omega) (by omega) (by omega) (by omega) (by omega))
theorem JcF.tr {N2 : NM} (h : JcF m N N') (h2 : JcF m N' N2) : JcF m N N2 := fun b a1 a2 a3 a4 a5 => (h2 b a1 a2 a3 a4 a5).trans (h b a1 a2 a3 a4 a5)
theorem JcF.mf (h : JcF m N N') : MFr m N N' := MFr.of (fun b hb => h b (by omega) (by omega) (by omega) (by omega) (by omega))
theorem w_addJacobi {f : Unit → JM Mem τ} {Q : τ → Mem → NM → Prop} (hM : ML M m) (hA : MA M N m W B p n T) (hi : i < n) (hj : j < n) (hk : k < n) (hJ : ∀ x, x < n → N (m + 25) x = J x ∧ 0 ≤ J x ∧ J x < p)
    (h : ∀ N', (∀ x, x < n → N' (m + 25) x = (J x + jc p n T i j k x) % p) → JcF m N N' → GN M N' (f ()) Q) : GN M N (jb (jcall 7 m (f_X8_addJacobi m (zI i) (zI j) (zI k) (m + 25))) f) Q := by
  have hpb := hA.pb
  have hn5 := hA.n5
  have hp := hA.pr
  have hWe := hA.We
  have hT := hA.ok
  have h14 := hM.ka (o := 14) (d := (0, 5)) rfl
  have h15 := hM.ka (o := 15) (d := (0, 5)) rfl
  have h16 := hM.ka (o := 16) (d := (0, 5)) rfl
  have h17 := hM.ka (o := 17) (d := (0, 5)) rfl
  have h25 := hM.ka (o := 25) (d := (0, 5)) rfl
  have vu : ∀ (N1 : NM) a q, q < n → VM (wro N1 a 0 n (un q)) a 0 p n (un q) := fun N1 a q hq => ⟨fun k hk => wro_at hk, fun k => by
    unfold un
    split <;> omega⟩
  refine w_Mc hM ?_
  unfold f_X8_addJacobi
  refine w_Mf hM rfl ?_
  refine w_unit hM hA (by omega) h14 (by omega) (by omega) ?_
  have j1 : wro N (m + 14) 0 n (un j) (m + 25) = N (m + 25) := wro_ne (by omega)
  have f1 : JcF m N (wro N (m + 14) 0 n (un j)) := fun b a1 _ _ _ _ => wro_ne a1
  have v1 := vu N (m + 14) j hj
  generalize wro N (m + 14) 0 n (un j) = N1 at f1 v1 j1
  refine w_Mf hM rfl ?_
  refine w_unit hM (f1.ma hA) (by omega) h15 (by omega) (by omega) ?_
  have j2 : wro N1 (m + 15) 0 n (un k) (m + 25) = N (m + 25) := (wro_ne (by omega)).trans j1
  have f2 : JcF m N (wro N1 (m + 15) 0 n (un k)) := f1.tr (fun b _ a2 _ _ _ => wro_ne a2)
  have v2 := vu N1 (m + 15) k hk
  have u2 : VM (wro N1 (m + 15) 0 n (un k)) (m + 14) 0 p n (un j) := v1.fr (wro_ne (by omega))
  generalize wro N1 (m + 15) 0 n (un k) = N2 at f2 v2 u2 j2
  refine w_Mf hM rfl (w_Mf hM rfl (w_Mf hM rfl ?_))
  rw [z_0]
  refine w_bracketOf (oa := 0) (ob := 0) hM (f2.ma hA) h14 (by omega) h15 (by omega) h16 (by omega) u2 v2 (by omega) (by omega) (by omega) (by omega) ?_
  have j3 : wro N2 (m + 16) 0 n (fun x => bk n T (un j) (un k) x % p) (m + 25) = N (m + 25) := (wro_ne (by omega)).trans j2
  have f3 : JcF m N (wro N2 (m + 16) 0 n (fun x => bk n T (un j) (un k) x % p)) := f2.tr (fun b _ _ a3 _ _ => wro_ne a3)
  have v3 : VM (wro N2 (m + 16) 0 n (fun x => bk n T (un j) (un k) x % p)) (m + 16) 0 p n (bkm p n T (un j) (un k)) := ⟨fun k hk => wro_at hk, bkm_bd hT⟩
  generalize wro N2 (m + 16) 0 n (fun x => bk n T (un j) (un k) x % p) = N3 at f3 v3 j3
  refine w_Mf hM rfl ?_
  refine w_unit hM (f3.ma hA) (by omega) h14 (by omega) (by omega) ?_
  have j4 : wro N3 (m + 14) 0 n (un i) (m + 25) = N (m + 25) := (wro_ne (by omega)).trans j3
  have f4 : JcF m N (wro N3 (m + 14) 0 n (un i)) := f3.tr (fun b a1 _ _ _ _ => wro_ne a1)
  have v4 := vu N3 (m + 14) i hi
  have u4 : VM (wro N3 (m + 14) 0 n (un i)) (m + 16) 0 p n (bkm p n T (un j) (un k)) := v3.fr (wro_ne (by omega))
  generalize wro N3 (m + 14) 0 n (un i) = N4 at f4 v4 u4 j4
  have hJ4 : ∀ x, x < n → N4 (m + 25) x = J x := fun x hx => by rw [j4]; exact (hJ x hx).1
  refine w_Mf hM rfl (w_Mf hM rfl (w_Mf hM rfl ?_))
  refine w_bracketOf (oa := 0) (ob := 0) hM (f4.ma hA) h14 (by omega) h16 (by omega) h17 (by omega) v4 u4 (by omega) (by omega) (by omega) (by omega) ?_
  have f5 : JcF m N (wro N4 (m + 17) 0 n (fun x => bk n T (un i) (bkm p n T (un j) (un k)) x % p)) := f4.tr (fun b _ _ _ a4 _ => wro_ne a4)
  have e5 : ∀ x, x < n → wro N4 (m + 17) 0 n (fun x => bk n T (un i) (bkm p n T (un j) (un k)) x % p) (m + 17) x = jc p n T i j k x := fun x hx => by
    have := wro_at (N := N4) (a := m + 17) (o := 0) (g := fun x => bk n T (un i) (bkm p n T (un j) (un k)) x % p) hx
    rw [Nat.zero_add] at this
    exact this
  have g5 : wro N4 (m + 17) 0 n (fun x => bk n T (un i) (bkm p n T (un j) (un k)) x % p) (m + 25) = N4 (m + 25) := wro_ne (by omega)
  generalize wro N4 (m + 17) 0 n (fun x => bk n T (un i) (bkm p n T (un j) (un k)) x % p) = N5 at f5 e5 g5
  refine w_up n (fun l N6 => (∀ x, x < n → N6 (m + 25) x = if x < l then (J x + jc p n T i j k x) % p else J x) ∧ ∀ b, b ≠ m + 25 → N6 b = N5 b) 0 rfl (by omega) ⟨fun x hx => by rw [if_neg (by omega), g5]; exact hJ4 x hx, fun _ _ => rfl⟩ ?_
  rintro l N6 hl ⟨g1, g2⟩
  have f6 : JcF m N N6 := f5.tr (fun b _ _ _ _ a5 => g2 b a5)
  have hA6 := f6.ma hA
  unfold X8_addJacobi_L66
  refine w_MI hM ?_
  rw [hA6.ne]
  refine w_le ⟨by omega, by omega⟩ ⟨by omega, by omega⟩ (fun hc => ?_) (fun hc => ?_)
  · exact w_jinl (w_jp (h N6 (fun x hx => by rw [g1 x hx, if_pos (by omega)]) f6))
  have hln : l < n := by omega
  have q1 := hJ l hln
  have q2 := jc_bd (i := i) (j := j) (k := k) hT l
  refine w_ald h25 (by omega) (by omega) ?_
  refine w_Mf hM rfl ?_
  refine w_ald h17 (by omega) (by omega) ?_
  rw [show ((l : Int).toNat) = l from rfl, g1 l hln, if_neg (Nat.lt_irrefl l), g2 _ (by omega), e5 l hln, zI_add]
  refine w_MI hM ?_
  rw [hA6.pe]
  refine w_remP ⟨by omega, by omega, by omega⟩ ⟨by omega, by omega, by omega⟩ ?_
  refine w_ast h25 (by omega) (by omega) ?_
  rw [z_1, zI_add, show ((l : Int).toNat) = l from rfl]
  refine w_jcont ⟨hln, rfl, fun x hx => ?_, fun b hb => ?_⟩
  · show (if m + 25 = m + 25 ∧ x = l then (J l + jc p n T i j k l) % p else N6 (m + 25) x) = _
    by_cases e : x = l
    · rw [if_pos ⟨rfl, e⟩, if_pos (by omega), e]
    · rw [if_neg (fun x => e x.2), g1 x hx]
      by_cases e2 : x < l
      · rw [if_pos e2, if_pos (by omega)]
      · rw [if_neg e2, if_neg (by omega)]
  · funext x
    show (if b = m + 25 ∧ _ then _ else N6 b x) = _
    rw [if_neg (fun e => hb e.1), g2 b hb]
theorem w_breaks {f : Int32 → JM Mem τ} {Q : τ → Mem → NM → Prop} (hM : ML M m) (hA : MA M N m W B p n T) (hi : i < n) (hj : j < n) (hk : k < n)
    (h : ∀ N' v, (v = 0 ∧ Kl p n T i j k ∨ v = 1 ∧ ¬ Kl p n T i j k) → JcF m N N' → GN M N' (f (zI v)) Q) : GN M N (jb (jcall 7 m (f_X8_breaks m (zI i) (zI j) (zI k))) f) Q := by
  have hpb := hA.pb
  have hn5 := hA.n5
  have hT := hA.ok
  have h25 := hM.ka (o := 25) (d := (0, 5)) rfl
  refine w_Mc hM ?_
  unfold f_X8_breaks
  rw [z_0]
  refine w_up 5 (fun l N1 => (∀ x, x < l → N1 (m + 25) x = 0) ∧ JcF m N N1) 0 rfl (by omega) ⟨fun x hx => absurd hx (by omega), fun _ _ _ _ _ _ => rfl⟩ ?_
  rintro l N1 hl ⟨g1, f1⟩
  unfold X8_breaks_L3
  rw [z_5]
  refine w_le ⟨by omega, by omega⟩ ⟨by omega, by omega⟩ (fun hc => ?_) (fun hc => ?_)
  rotate_left
  · refine w_Mf hM rfl ?_
    rw [z_0]
    refine w_ast h25 (by omega) (by omega) ?_
    rw [z_1, zI_add, show ((l : Int).toNat) = l from rfl]
    refine w_jcont ⟨by omega, rfl, fun x hx => ?_, f1.tr (fun b _ _ _ _ a5 => funext fun k => if_neg (fun e => a5 e.1))⟩
    show (if m + 25 = m + 25 ∧ x = l then (0 : Int) else N1 (m + 25) x) = 0
    by_cases e : x = l
    · rw [if_pos ⟨rfl, e⟩]
    · rw [if_neg (fun x => e x.2)]; exact g1 x (by omega)
  refine w_jinl ?_
  unfold X8_breaks_b23
  refine w_Mf hM rfl ?_
  refine w_addJacobi (J := fun _ => 0) hM (f1.ma hA) hi hj hk (fun x hx => ⟨g1 x (by omega), by omega, by omega⟩) (fun N2 g2 f2 => ?_)
  have f2' := f1.tr f2
  refine w_Mf hM rfl ?_
  refine w_addJacobi (J := fun x => (0 + jc p n T i j k x) % p) hM (f2'.ma hA) hj hk hi (fun x hx => ⟨g2 x hx, Int.emod_nonneg _ (by omega), Int.emod_lt_of_pos _ (by omega)⟩) (fun N3 g3 f3 => ?_)
  have f3' := f2'.tr f3
  refine w_Mf hM rfl ?_
  refine w_addJacobi (J := fun x => ((0 + jc p n T i j k x) % p + jc p n T j k i x) % p) hM (f3'.ma hA) hk hi hj (fun x hx => ⟨g3 x hx, Int.emod_nonneg _ (by omega), Int.emod_lt_of_pos _ (by omega)⟩) (fun N4 g4 f4 => ?_)
  have f4' := f3'.tr f4
  have hcg : ∀ x, x < n → (N4 (m + 25) x = 0 ↔ Cg p (JS n T i j k x) 0) := fun x hx => by
    rw [g4 x hx, ← Cg.zero_iff]
    exact ⟨fun q => (jc_sum hi hj hk x).sy.tr q, fun q => (jc_sum hi hj hk x).tr q⟩
  have hX : VM N4 (m + 25) 0 p n (fun x => if x < n then N4 (m + 25) x else 0) := ⟨fun x hx => by
    show N4 (m + 25) (0 + x) = if x < n then N4 (m + 25) x else 0
    rw [if_pos hx, Nat.zero_add], fun x => by
    by_cases c : x < n
    · show 0 ≤ (if x < n then N4 (m + 25) x else 0) ∧ (if x < n then N4 (m + 25) x else 0) < p ∧ _
      rw [if_pos c, g4 x c]
      exact ⟨Int.emod_nonneg _ (by omega), Int.emod_lt_of_pos _ (by omega), fun h => absurd c (by omega)⟩
    · show 0 ≤ (if x < n then N4 (m + 25) x else 0) ∧ (if x < n then N4 (m + 25) x else 0) < p ∧ (n ≤ x → (if x < n then N4 (m + 25) x else 0) = 0)
      rw [if_neg c]
      exact ⟨by omega, by omega, fun _ => rfl⟩⟩
  refine w_Mf hM rfl ?_
  rw [z_0]
  refine w_leadOf (o := 0) hM ⟨(f4'.ma hA).ne, hn5⟩ hA.pr.le7 h25 (by omega) hX (fun l hln he hz => ?_) (fun h2 => ?_)
  · refine w_lt ⟨by omega, by omega⟩ ⟨by omega, by omega⟩ (fun hd => by omega) (fun hd => ?_)
    rw [z_1]
    refine w_jp (h N4 1 (Or.inr ⟨rfl, fun hk => he ?_⟩) f4')
    rw [if_pos hln]
    exact (hcg l hln).mpr (hk l hln)
  · refine w_lt ⟨by omega, by omega⟩ ⟨by omega, by omega⟩ (fun hd => ?_) (fun hd => by omega)
    refine w_jp (h N4 0 (Or.inl ⟨rfl, fun x hx => (hcg x hx).mp ?_⟩) f4')
    have := h2 x hx
    rw [if_pos hx] at this
    exact this
theorem w_misLawful {f : Int32 → JM Mem τ} {Q : τ → Mem → NM → Prop} (hM : ML M m) (hA : MA M N m W B p n T)
    (h : ∀ N' v, (v = 1 ∧ Lw p n T ∨ v = 0 ∧ ¬ Lw p n T) → JcF m N N' → GN M N' (f (zI v)) Q) : GN M N (jb (jcall 7 m (f_X8_isLawful m)) f) Q := by
  have hn5 := hA.n5
  refine w_Mc hM ?_
  unfold f_X8_isLawful
  rw [z_0]
  refine w_up n (fun i N1 => JcF m N N1 ∧ ∀ a b c, a < i → a < b → b < c → c < n → Kl p n T a b c) 0 rfl (by omega) ⟨fun _ _ _ _ _ _ => rfl, fun a b c h => absurd h (by omega)⟩ ?_
  rintro i N1 hi ⟨f1, g1⟩
  unfold X8_isLawful_L2
  refine w_MI hM ?_
  rw [(f1.ma hA).ne]
  refine w_le ⟨by omega, by omega⟩ ⟨by omega, by omega⟩ (fun hc => ?_) (fun hc => ?_)
  · rw [z_1]
    exact w_jinl (w_jp (h N1 1 (Or.inl ⟨rfl, fun a b c h1 h2 h3 => g1 a b c (by omega) h1 h2 h3⟩) f1))
  rw [z_1, zI_add]
  refine w_jlet ?_
  refine w_up n (fun j N2 => i < j ∧ JcF m N N2 ∧ ∀ a b c, a < i ∨ a = i ∧ b < j → a < b → b < c → c < n → Kl p n T a b c) (i + 1) (by rfl) (by omega) ⟨by omega, f1, fun a b c h h1 h2 h3 => g1 a b c (by omega) h1 h2 h3⟩ ?_
  rintro j N2 hj ⟨hij, f2, g2⟩
  unfold X8_isLawful_L14
  refine w_MI hM ?_
  rw [(f2.ma hA).ne]
  refine w_le ⟨by omega, by omega⟩ ⟨by omega, by omega⟩ (fun hd => ?_) (fun hd => ?_)
  · unfold X8_isLawful_b58
    rw [z_1, zI_add]
    exact w_jinl (w_jcont ⟨by omega, rfl, f2, fun a b c h h1 h2 h3 => g2 a b c (by omega) h1 h2 h3⟩)
  rw [z_1, zI_add]
  refine w_jlet ?_
  refine w_up n (fun k N3 => j < k ∧ JcF m N N3 ∧ ∀ a b c, a < i ∨ a = i ∧ (b < j ∨ b = j ∧ c < k) → a < b → b < c → c < n → Kl p n T a b c) (j + 1) (by rfl) (by omega) ⟨by omega, f2, fun a b c h h1 h2 h3 => g2 a b c (by omega) h1 h2 h3⟩ ?_
  rintro k N3 hk ⟨hjk, f3, g3⟩
  unfold X8_isLawful_L26
  refine w_MI hM ?_
  rw [(f3.ma hA).ne]
  refine w_le ⟨by omega, by omega⟩ ⟨by omega, by omega⟩ (fun he => ?_) (fun he => ?_)
  · unfold X8_isLawful_b52
    rw [z_1, zI_add]
    exact w_jinl (w_jcont ⟨by omega, rfl, by omega, f3, fun a b c h h1 h2 h3 => g3 a b c (by omega) h1 h2 h3⟩)
  refine w_breaks hM (f3.ma hA) (by omega) (by omega) (by omega) (fun N4 v hv f4 => ?_)
  have f4' := f3.tr f4
  rw [z_0]
  rcases hv with ⟨rfl, hv⟩ | ⟨rfl, hv⟩
  · refine w_eq ⟨by omega, by omega⟩ ⟨by omega, by omega⟩ (fun _ => ?_) (fun x => absurd rfl x)
    rw [z_1, zI_add]
    refine w_jcont ⟨by omega, rfl, by omega, f4', fun a b c h h1 h2 h3 => ?_⟩
    by_cases e : a = i ∧ b = j ∧ c = k
    · rw [e.1, e.2.1, e.2.2]; exact hv
    · exact g3 a b c (by omega) h1 h2 h3
  · refine w_eq ⟨by omega, by omega⟩ ⟨by omega, by omega⟩ (fun x => absurd x (by decide)) (fun _ => ?_)
    exact w_jinl (w_jinl (w_jinl (w_jp (h N4 0 (Or.inr ⟨rfl, fun x => hv (x i j k hij hjk (by omega))⟩) f4'))))
end LAWM
