/-! THE MODEL: a vector comes to a span. -/
set_option maxRecDepth 100000
section MJOIN
variable {α τ : Type} {M : Mem} {N N' : NM} {m a b o W B L : Nat} {p : Int} {n q : Nat} {T : Nat → Nat → Nat → Int} {R : Nat → Nat → Int} {ld : Nat → Nat} {S : VS} {X Y : Nat → Int}
theorem w_join {L2 : Nat} {f : Int32 → JM Mem τ} {Q : τ → Mem → NM → Prop} (hM : ML M m) (hA : MA M N m W B p n T) (hK : mK M a = some (.inr (0, L))) (hL : 25 ≤ L ∧ L ≤ 2000) (hs : SpM N a p n q R ld S) (hK2 : mK M b = some (.inr (0, L2))) (hL2 : o + 5 ≤ L2 ∧ L2 ≤ 2000) (hX : VM N b o p n X)
    (ha : a ≠ m + 24) (hb : b ≠ m + 24) (ham : a ≠ m) (haW : a ≠ W)
    (h : ∀ N' q' R' ld', SpM N' a p n q' R' ld' (Ad S X) → (q' = q ∧ S X ∨ q' = q + 1 ∧ ¬ S X) → (∀ c, c ≠ a → c ≠ m + 24 → N' c = N c) → GN M N' (f (zI (q' : Nat))) Q) :
    GN M N (jb (jcall 7 m (f_X8_join m a (zI q) b (zI o))) f) Q := by
  have hpb := hA.pb
  have hn5 := hA.n5
  have hqn := hs.qn hA.pr
  have hWm := hA.We
  refine w_Mc hM ?_
  unfold f_X8_join
  refine w_mreduce hM hA hK hL hs hK2 hL2 hX ha hb (fun Y hY hSY hYz => ?_)
  have hin := red_in hs.ech hSY hYz (fun k => ⟨(hY k).1, (hY k).2.1⟩)
  have frA : ∀ j g, MA M (wro N (m + 24) 0 j g) m W B p n T := fun j g => hA.fr (wro_ne (by omega)) (wro_ne (by omega))
  have frS : ∀ j g, SpM (wro N (m + 24) 0 j g) a p n q R ld S := fun j g => hs.fr (wro_ne ha)
  have eY : ∀ g j, j < n → wro N (m + 24) 0 n g (m + 24) j = g j := fun g j hj => by
    have := wro_at (N := N) (a := m + 24) (o := 0) (j := n) (k := j) (g := g) hj
    rwa [Nat.zero_add] at this
  refine w_Mf hM rfl ?_
  rw [z_0]
  refine w_leadOf (p := p) (o := 0) (X := Y) hM ⟨(frA n Y).ne, hn5⟩ hA.pr.le7 (hM.ka rfl) (by omega) ⟨fun k hk => wro_at hk, hY⟩ (fun l hln he hz => ?_) (fun h2 => ?_)
  rotate_left
  · refine w_le ⟨by omega, by omega⟩ ⟨by omega, by omega⟩ (fun hc => by omega) (fun hc => ?_)
    have hx : S X := hin.mpr h2
    exact w_jp (h _ q R ld (by rw [Ad.same hs.ech.sb hx]; exact frS n Y) (Or.inl ⟨rfl, hx⟩) (fun c h1 h2 => wro_ne h2))
  refine w_le ⟨by omega, by omega⟩ ⟨by omega, by omega⟩ (fun hc => ?_) (fun hc => by omega)
  have hx : ¬ S X := fun hx => he (hin.mp hx l hln)
  have hYl := hY l
  refine w_Mf hM rfl ?_
  refine w_ald (hM.ka rfl) (by omega) (by omega) ?_
  rw [show ((l : Int).toNat) = l from rfl, eY Y l hln]
  refine w_minverse hM (frA n Y) (by omega) (fun x ha' => ?_)
  have hab := ha'.1
  have hab2 := ha'.2.1
  refine w_up n (fun k N1 => N1 = wro N (m + 24) 0 n (fun j => if j < k then Y j * x % p else Y j)) 0 rfl (by omega) (by congr 1) ?_
  rintro k N1 hk rfl
  unfold X8_join_L43
  refine w_MI hM ?_
  rw [(frA _ _).ne]
  refine w_le ⟨by omega, by omega⟩ ⟨by omega, by omega⟩ (fun hf => ?_) (fun hf => ?_)
  rotate_left
  · refine w_Mf hM rfl ?_
    refine w_Mf hM rfl ?_
    refine w_ald (hM.ka rfl) (by omega) (by omega) ?_
    rw [show ((k : Int).toNat) = k from rfl, eY _ k (by omega), if_neg (Nat.lt_irrefl k)]
    refine w_MI hM ?_
    rw [(frA _ _).pe, zI_mul]
    have hYk := hY k
    have hmb := mul_bd (x := Y k) (y := x) (a := 7) (b := 7) (by omega) (by omega)
    refine w_remP ⟨hmb.1, by omega, by omega⟩ ⟨by omega, by omega, by omega⟩ ?_
    refine w_ast (hM.ka rfl) (by omega) (by omega) ?_
    rw [show ((k : Int).toNat) = k from rfl, z_1, zI_add]
    refine w_jcont ⟨by omega, rfl, ?_⟩
    funext c j
    show (if c = m + 24 ∧ j = k then _ else if c = m + 24 ∧ 0 ≤ j ∧ j < 0 + n then (if j - 0 < k then _ else _) else N c j) = (if c = m + 24 ∧ 0 ≤ j ∧ j < 0 + n then (if j - 0 < k + 1 then _ else _) else N c j)
    rw [Nat.sub_zero]
    by_cases e : c = m + 24 ∧ j = k
    · rw [if_pos e, if_pos (by omega), if_pos (by omega), e.2]
    · rw [if_neg e]
      by_cases e2 : c = m + 24 ∧ 0 ≤ j ∧ j < 0 + n
      · rw [if_pos e2, if_pos e2]
        by_cases e3 : j < k
        · rw [if_pos e3, if_pos (by omega)]
        · rw [if_neg e3, if_neg (by omega)]
      · rw [if_neg e2, if_neg e2]
  have hkn : k = n := by omega
  subst hkn
  refine w_jinl ?_
  unfold X8_join_b80
  generalize hU : (fun j => if j < k then Y j * x % p else Y j) = U
  have hU1 : ∀ j, j < k → U j = Y j * x % p := fun j hj => by rw [← hU]; exact if_pos hj
  have hU2 : ∀ j, k ≤ j → U j = 0 := fun j hj => by rw [← hU]; exact (if_neg (by omega)).trans ((hY j).2.2 hj)
  have hUb : ∀ j, 0 ≤ U j ∧ U j < p := fun j => by
    by_cases hj : j < k
    · rw [hU1 j hj]; exact ⟨Int.emod_nonneg _ (by omega), Int.emod_lt_of_pos _ (by omega)⟩
    · rw [hU2 j (by omega)]; exact ⟨by omega, by omega⟩
  generalize hR1 : (fun (q j : Nat) => if j < k then (R q j - R q l * U j) % p else R q j) = R1
  have hR1a : ∀ q j, j < k → R1 q j = (R q j - R q l * U j) % p := fun q j hj => by rw [← hR1]; exact if_pos hj
  have hR1b : ∀ q j, k ≤ j → R1 q j = R q j := fun q j hj => by rw [← hR1]; exact if_neg (by omega)
  have hR1d : ∀ q j, 0 ≤ R1 q j ∧ R1 q j < p ∧ (k ≤ j → R1 q j = 0) := fun q j => by
    by_cases hj : j < k
    · rw [hR1a q j hj]; exact ⟨Int.emod_nonneg _ (by omega), Int.emod_lt_of_pos _ (by omega), fun h => by omega⟩
    · rw [hR1b q j (by omega)]; exact hs.bd q j
  have hne : ∀ r, r < q → ld r ≠ l := fun r hr e => he (by rw [← e]; exact hYz r hr)
  -- the echelon with the vector at its end, for the leads of rows
  have hlv : Ldv p k Y l := ⟨hln, fun e => he (e.eq ⟨(hY l).1, (hY l).2.1⟩ ⟨Int.le_refl 0, by omega⟩), fun j hj => Cg.of (hz j hj)⟩
  have hJ := hs.ech.join hA.pr (v := X) (w := Y) (u := U) (R' := R1) (a := x) hSY (fun r hr => Cg.of (hYz r hr)) hlv ha'.2.2 (fun j hj => by rw [hU1 j hj, Int.mul_comm]; exact Cg.mod p _) (fun r hr j hj => by rw [hR1a r j hj]; exact Cg.mod p _)
  have hq4 : q + 1 ≤ k := by
    have := hJ.dm hA.pr
    have := dm_le (p := p) (n := k) (S := Ad S X)
    omega
  have hRl : ∀ r, r < q → R1 r (ld r) = 1 ∧ ∀ j, j < ld r → R1 r j = 0 := fun r hr => by
    have h1 := hJ.on (show r < q + 1 by omega)
    simp only [if_pos hr] at h1
    refine ⟨h1.eq ⟨(hR1d r _).1, (hR1d r _).2.1⟩ ⟨by omega, by omega⟩, fun j hj => ?_⟩
    have h2 := hJ.lo (show r < q + 1 by omega) (k := j) (by simp only [if_pos hr]; exact hj)
    simp only [if_pos hr] at h2
    exact h2.eq ⟨(hR1d r _).1, (hR1d r _).2.1⟩ ⟨by omega, by omega⟩
  rw [z_0]
  refine w_up2 q (fun r pl N1 => ∃ pn : Nat, pl = pn ∧ pn ≤ r ∧ (∀ s, s < pn → ld s ≤ l) ∧ (∀ s, pn ≤ s → s < r → l < ld s) ∧ (∀ j, j < k → N1 (m + 24) j = U j) ∧ (∀ s j, s < q → j < k → N1 a (5 * s + j) = if s < r then R1 s j else R s j) ∧ ∀ c, c ≠ a → c ≠ m + 24 → N1 c = N c) 0 0 rfl (by omega)
    ⟨0, rfl, by omega, fun s hs => by omega, fun s _ hs => by omega, fun j hj => eY U j hj, fun s j hs2 hj => by rw [if_neg (by omega), wro_ne ha]; exact hs.1 s j hs2 hj, fun c h1 h2 => wro_ne h2⟩ ?_
  rintro r pl N1 hr ⟨pn, rfl, hpn, p1, p2, g1, g2, g3⟩
  show GN M N1 (X8_join_L86 m a (zI _) (zI _) (zI _) (zI _)) _
  have gA : ∀ N1 : NM, (∀ c, c ≠ a → c ≠ m + 24 → N1 c = N c) → MA M N1 m W B p k T := fun N1 g => hA.fr (g m (by omega) (by omega)) (g W (fun e => haW e.symm) (by omega))
  unfold X8_join_L86
  refine w_le ⟨by omega, by omega⟩ ⟨by omega, by omega⟩ (fun hf2 => ?_) (fun hf2 => ?_)
  rotate_left
  · have hrq : r < q := by omega
    rw [z_5, zI_mul, zI_add]
    refine w_ald hK (by omega) (by omega) ?_
    rw [show (5 * (r : Int) + (l : Int)).toNat = 5 * r + l by omega, g2 r l hrq hln, if_neg (Nat.lt_irrefl r), z_0]
    have hRb := hs.bd r l
    refine w_up k (fun i N2 => (∀ j, j < k → N2 (m + 24) j = U j) ∧ (∀ s j, s < q → j < k → N2 a (5 * s + j) = if s < r ∨ s = r ∧ j < i then R1 s j else R s j) ∧ ∀ c, c ≠ a → c ≠ m + 24 → N2 c = N c) 0 rfl (by omega)
      ⟨g1, fun s j hs2 hj => by rw [g2 s j hs2 hj]; by_cases c : s < r; rw [if_pos c, if_pos (Or.inl c)]; rw [if_neg c, if_neg (by omega)], g3⟩ ?_
    rintro i N2 hi ⟨k1, k2, k3⟩
    unfold X8_join_L106
    refine w_MI hM ?_
    rw [(gA N2 k3).ne]
    refine w_le ⟨by omega, by omega⟩ ⟨by omega, by omega⟩ (fun hg => ?_) (fun hg => ?_)
    · have hik : i = k := by omega
      subst hik
      have k2' : ∀ s j, s < q → j < i → N2 a (5 * s + j) = if s < r + 1 then R1 s j else R s j := fun s j hs2 hj => by
        rw [k2 s j hs2 hj]
        by_cases c : s < r + 1
        · rw [if_pos c, if_pos (by omega)]
        · rw [if_neg c, if_neg (by omega)]
      unfold X8_join_b157
      refine w_jinl ?_
      rw [z_5, zI_mul, show (5 * (r : Int)) = ((5 * r : Nat) : Int) by omega]
      refine w_leadOf (p := p) (X := R1 r) hM ⟨(gA N2 k3).ne, hn5⟩ hA.pr.le7 hK (by omega) ⟨fun j hj => by rw [k2' r j hrq hj, if_pos (by omega)], fun j => hR1d r j⟩ (fun l2 hl2 e1 e2 => ?_) (fun e2 => ?_)
      rotate_left
      · have := (hRl r hrq).1
        have := e2 (ld r) (hs.ech.ldn hrq)
        omega
      have el : l2 = ld r := by
        rcases Nat.lt_trichotomy l2 (ld r) with c | c | c
        · exact absurd ((hRl r hrq).2 l2 c) e1
        · exact c
        · have := e2 (ld r) c
          have := (hRl r hrq).1
          omega
      subst el
      have hner := hne r hrq
      refine w_le ⟨by omega, by omega⟩ ⟨by omega, by omega⟩ (fun hc1 => ?_) (fun hc1 => ?_)
      · unfold X8_join_b177
        rw [z_1, zI_add]
        exact w_jcont ⟨hrq, _, rfl, pn, rfl, by omega, p1, fun s h1 h2 => by
          by_cases c : s = r
          · rw [c]; omega
          · exact p2 s h1 (by omega), k1, k2', k3⟩
      · unfold X8_join_b177
        rw [z_1, zI_add]
        refine w_jlet (w_jcont ⟨hrq, _, rfl, r + 1, by omega, by omega, fun s h1 => ?_, fun s h1 h2 => by omega, k1, k2', k3⟩)
        rcases Nat.lt_or_eq_of_le (show s ≤ r by omega) with c | c
        · have := hs.so s r c hrq
          omega
        · rw [c]; omega
    rw [z_5, zI_mul, zI_add]
    refine w_ald hK (by omega) (by omega) ?_
    rw [show (5 * (r : Int) + (i : Int)).toNat = 5 * r + i by omega, k2 r i hrq (by omega), if_neg (show ¬ (r < r ∨ r = r ∧ i < i) by omega)]
    refine w_Mf hM rfl ?_
    refine w_ald (hM.ka rfl) (by omega) (by omega) ?_
    rw [show ((i : Int).toNat) = i from rfl, k1 i (by omega)]
    refine w_MI hM ?_
    rw [(gA N2 k3).pe, zI_mul, zI_sub]
    have hRi := hs.bd r i
    have hUi := hUb i
    have hmb := mul_bd (x := R r l) (y := U i) (a := 7) (b := 7) (by omega) (by omega)
    refine w_left (by omega) (by omega) ?_
    refine w_ast hK (by omega) (by omega) ?_
    rw [show (5 * (r : Int) + (i : Int)).toNat = 5 * r + i by omega, z_1, zI_add]
    refine w_jcont ⟨by omega, rfl, fun j hj => ?_, fun s j hs2 hj => ?_, fun c h1 h2 => ?_⟩
    · show (if m + 24 = a ∧ _ then _ else N2 (m + 24) j) = U j
      rw [if_neg (fun e => ha e.1.symm)]; exact k1 j hj
    · show (if a = a ∧ 5 * s + j = 5 * r + i then (R r i - R r l * U i) % p else N2 a (5 * s + j)) = _
      by_cases c : s = r ∧ j = i
      · rw [if_pos (by omega), if_pos (by omega), c.1, c.2, hR1a r i (by omega)]
      · rw [if_neg (by omega), k2 s j hs2 hj]
        by_cases c2 : s < r ∨ s = r ∧ j < i
        · rw [if_pos c2, if_pos (by omega)]
        · rw [if_neg c2, if_neg (by omega)]
    · funext j
      show (if c = a ∧ _ then _ else N2 c j) = N c j
      rw [if_neg (fun e => h1 e.1), k3 c h1 h2]
  have hrq : r = q := by omega
  subst hrq
  refine w_jinl ?_
  unfold X8_join_b183
  rw [z_5, zI_mul, z_1, zI_sub]
  refine w_jlet ?_
  have gR : ∀ s j, s < r → j < k → N1 a (5 * s + j) = R1 s j := fun s j hs2 hj => by rw [g2 s j hs2 hj, if_pos hs2]
  refine w_loop (fun d t N2 => d ≤ 5 * r - 5 * pn ∧ t = zI ((5 * pn + d : Nat) - 1 : Int) ∧ (∀ j, N2 a j = if 5 * pn + d + 5 ≤ j ∧ j < 5 * r + 5 then N1 a (j - 5) else N1 a j) ∧ ∀ c, c ≠ a → N2 c = N1 c) (5 * r - 5 * pn) _
    ⟨Nat.le_refl _, by congr 1; omega, fun j => by rw [if_neg (by omega)], fun c _ => rfl⟩ ?_
  rintro d t N2 ⟨hd, rfl, k1, k2⟩
  unfold X8_join_L190
  rw [z_5, zI_mul]
  refine w_lt ⟨by omega, by omega⟩ ⟨by omega, by omega⟩ (fun hg => ?_) (fun hg => ?_)
  rotate_left
  · refine w_ald hK (by omega) (by omega) ?_
    rw [zI_add]
    refine w_ast hK (by omega) (by omega) ?_
    rw [show (((5 * pn + d : Nat) : Int) - 1).toNat = 5 * pn + d - 1 by omega, show (((5 * pn + d : Nat) : Int) - 1 + 5).toNat = 5 * pn + d + 4 by omega, k1 (5 * pn + d - 1), if_neg (by omega), z_m1, zI_add]
    refine w_jcont ⟨d - 1, by omega, by omega, by congr 1; omega, fun j => ?_, fun c hc2 => ?_⟩
    · show (if a = a ∧ j = 5 * pn + d + 4 then N1 a (5 * pn + d - 1) else N2 a j) = _
      by_cases c : j = 5 * pn + d + 4
      · rw [if_pos ⟨rfl, c⟩, if_pos (by omega), c]
        congr 1
      · rw [if_neg (fun e => c e.2), k1 j]
        by_cases c2 : 5 * pn + d + 5 ≤ j ∧ j < 5 * r + 5
        · rw [if_pos c2, if_pos (by omega)]
        · rw [if_neg c2, if_neg (by omega)]
    · funext j
      show (if c = a ∧ _ then _ else N2 c j) = N1 c j
      rw [if_neg (fun e => hc2 e.1), k2 c hc2]
  have hd0 : d = 0 := by omega
  subst hd0
  refine w_jinl ?_
  unfold X8_join_b215
  rw [z_0]
  have g3' : ∀ c, c ≠ a → c ≠ m + 24 → N2 c = N c := fun c h1 h2 => (k2 c h1).trans (g3 c h1 h2)
  refine w_up k (fun i N3 => (∀ j, N3 a j = if 5 * pn ≤ j ∧ j < 5 * pn + i then U (j - 5 * pn) else N2 a j) ∧ ∀ c, c ≠ a → N3 c = N2 c) 0 rfl (by omega) ⟨fun j => by rw [if_neg (by omega)], fun c _ => rfl⟩ ?_
  rintro i N3 hi ⟨l1, l2⟩
  have gA3 : MA M N3 m W B p k T := gA N3 (fun c h1 h2 => (l2 c h1).trans (g3' c h1 h2))
  unfold X8_join_L218
  refine w_MI hM ?_
  rw [gA3.ne]
  refine w_le ⟨by omega, by omega⟩ ⟨by omega, by omega⟩ (fun hg2 => ?_) (fun hg2 => ?_)
  rotate_left
  · refine w_Mf hM rfl ?_
    refine w_ald (hM.ka rfl) (by omega) (by omega) ?_
    rw [z_5, zI_mul, zI_add]
    refine w_ast hK (by omega) (by omega) ?_
    rw [show ((i : Int).toNat) = i from rfl, l2 _ (fun e => ha e.symm), k2 _ (fun e => ha e.symm), g1 i (by omega), show (5 * (pn : Int) + (i : Int)).toNat = 5 * pn + i by omega, z_1, zI_add]
    refine w_jcont ⟨by omega, rfl, fun j => ?_, fun c hc2 => ?_⟩
    · show (if a = a ∧ j = 5 * pn + i then U i else N3 a j) = _
      by_cases c : j = 5 * pn + i
      · rw [if_pos ⟨rfl, c⟩, if_pos (by omega), c]
        congr 1
        omega
      · rw [if_neg (fun e => c e.2), l1 j]
        by_cases c2 : 5 * pn ≤ j ∧ j < 5 * pn + i
        · rw [if_pos c2, if_pos (by omega)]
        · rw [if_neg c2, if_neg (by omega)]
    · funext j
      show (if c = a ∧ _ then _ else N3 c j) = N2 c j
      rw [if_neg (fun e => hc2 e.1), l2 c hc2]
  have hik : i = k := by omega
  subst hik
  unfold X8_join_b249
  rw [z_1, zI_add]
  obtain ⟨hE, hso⟩ := ech_ins hA.pr hs.ech hs.so hSY hYz hY hln he hz ha' hU1 (fun s j _ hj => hR1a s j hj) hpn p1 p2
  refine w_jinl (w_jp ?_)
  have := h N3 (r + 1) _ _ ⟨fun s j hs2 hj => ?_, fun s j => ?_, hso, hE⟩ (Or.inr ⟨rfl, hx⟩) (fun c h1 h2 => (l2 c h1).trans (g3' c h1 h2))
  · exact this
  · rw [l1 (5 * s + j), k1 (5 * s + j)]
    show _ = (if s < pn then R1 s else if s = pn then U else R1 (s - 1)) j
    by_cases c : s < pn
    · rw [if_pos c, if_neg (by omega), if_neg (by omega), gR s j (by omega) hj]
    · rw [if_neg c]
      by_cases c2 : s = pn
      · rw [if_pos c2, if_pos (by omega)]
        congr 1
        omega
      · rw [if_neg c2, if_neg (by omega), if_pos (by omega), show 5 * s + j - 5 = 5 * (s - 1) + j by omega, gR (s - 1) j (by omega) hj]
  · show 0 ≤ (if s < pn then R1 s else if s = pn then U else R1 (s - 1)) j ∧ (if s < pn then R1 s else if s = pn then U else R1 (s - 1)) j < p ∧ (i ≤ j → (if s < pn then R1 s else if s = pn then U else R1 (s - 1)) j = 0)
    by_cases c2 : s < pn
    · rw [if_pos c2]; exact hR1d s j
    · rw [if_neg c2]
      by_cases c : s = pn
      · rw [if_pos c]; exact ⟨(hUb j).1, (hUb j).2, hU2 j⟩
      · rw [if_neg c]; exact hR1d (s - 1) j
end MJOIN
