/-! THE MODEL: a base is turned back. -/
set_option maxRecDepth 100000
section MOD11
variable {α τ : Type} {M M' : Mem} {N N' : NM} {m a b o W B U D L : Nat} {p : Int} {n q lev c r : Nat} {T F : Nat → Nat → Nat → Int} {im : Nat → Nat → Int} {E A : Nat → Nat → Int}
/-- the two squares as one -/
def vM (N : NM) (m n i j : Nat) : Int := if j < n then N (m + 29) (5 * i + j) else N (m + 33) (5 * i + (j - n))
theorem vM_st {v w : Int} {i k i' j : Nat} (hi : i < n) (hk : k < n) (hi' : i' < n) (hj : j < 2 * n) (hn : n ≤ 5) :
    vM (up2 (up2 N (m + 29) (5 * i + k) v) (m + 33) (5 * i + k) w) m n i' j = if i' = i ∧ j = k then v else if i' = i ∧ j = n + k then w else vM N m n i' j := by
  unfold vM
  by_cases c1 : j < n
  · rw [if_pos c1, if_pos c1]
    show (if m + 29 = m + 33 ∧ _ then _ else if m + 29 = m + 29 ∧ 5 * i' + j = 5 * i + k then v else N (m + 29) (5 * i' + j)) = _
    rw [if_neg (by omega)]
    by_cases c2 : i' = i ∧ j = k
    · rw [if_pos c2, if_pos ⟨rfl, by rw [c2.1, c2.2]⟩]
    · rw [if_neg c2, if_neg (fun e => by omega), if_neg (fun e => by omega)]
  · rw [if_neg c1, if_neg c1]
    show (if m + 33 = m + 33 ∧ 5 * i' + (j - n) = 5 * i + k then w else if m + 33 = m + 29 ∧ _ then _ else N (m + 33) (5 * i' + (j - n))) = _
    by_cases c2 : i' = i ∧ j = n + k
    · rw [if_neg (show ¬ (i' = i ∧ j = k) by omega), if_pos c2, if_pos ⟨rfl, by omega⟩]
    · rw [if_neg (fun e => by omega), if_neg (fun e => by omega), if_neg (show ¬ (i' = i ∧ j = k) by omega), if_neg c2]
theorem w_exchange {f : Unit → JM Mem τ} {Q : τ → Mem → NM → Prop} (hM : ML M m) (hA : MA M N m W B p n T) (hK : mK M a = some (.inr (0, L))) (hL : 25 ≤ L ∧ L ≤ 100) (ha : a ≠ m) (haW : a ≠ W) (hr : r < n) (hc : c < n)
    (h : ∀ N', (∀ i k, i < n → k < n → N' a (5 * i + k) = N a (5 * (if i = c then r else if i = r then c else i) + k)) → (∀ b, b ≠ a → N' b = N b) → GN M N' (f ()) Q) : GN M N (jb (jcall 7 m (f_X8_exchange m a (zI r) (zI c))) f) Q := by
  have hn5 := hA.n5
  refine w_Mc hM ?_
  unfold f_X8_exchange
  rw [z_0]
  refine w_up n (fun k N1 => (∀ i j, i < n → j < n → N1 a (5 * i + j) = N a (5 * (if j < k then (if i = c then r else if i = r then c else i) else i) + j)) ∧ ∀ b, b ≠ a → N1 b = N b) 0 rfl (by omega) ⟨fun i j _ _ => by rw [if_neg (by omega)], fun _ _ => rfl⟩ ?_
  rintro k N1 hk ⟨g1, g2⟩
  unfold X8_exchange_L3
  refine w_MI hM ?_
  rw [(hA.fr (N' := N1) (g2 m (fun e => ha e.symm)) (g2 W (fun e => haW e.symm))).ne]
  refine w_le ⟨by omega, by omega⟩ ⟨by omega, by omega⟩ (fun hd => ?_) (fun hd => ?_)
  · exact w_jinl (w_jp (h N1 (fun i j hi hj => by rw [g1 i j hi hj, if_pos (by omega)]) g2))
  have hkn : k < n := by omega
  rw [z_5, zI_mul, zI_mul, zI_add, zI_add]
  refine w_ald hK (by omega) (by omega) ?_
  refine w_ald hK (by omega) (by omega) ?_
  rw [show ((5 * (r : Int) + (k : Int)).toNat) = 5 * r + k by omega, show ((5 * (c : Int) + (k : Int)).toNat) = 5 * c + k by omega, g1 r k hr hkn, g1 c k hc hkn, if_neg (by omega), if_neg (by omega)]
  refine w_ast hK (by omega) (by omega) ?_
  refine w_ast hK (by omega) (by omega) ?_
  rw [show ((5 * (r : Int) + (k : Int)).toNat) = 5 * r + k by omega, show ((5 * (c : Int) + (k : Int)).toNat) = 5 * c + k by omega, z_1, zI_add]
  refine w_jcont ⟨hkn, rfl, fun i j hi hj => ?_, fun b hb => ?_⟩
  · show (if a = a ∧ 5 * i + j = 5 * c + k then N a (5 * r + k) else if a = a ∧ 5 * i + j = 5 * r + k then N a (5 * c + k) else N1 a (5 * i + j)) = _
    by_cases c1 : i = c ∧ j = k
    · obtain ⟨rfl, rfl⟩ := c1
      rw [if_pos ⟨rfl, rfl⟩, if_pos (show j < j + 1 by omega), if_pos rfl]
    · rw [if_neg (show ¬ (a = a ∧ 5 * i + j = 5 * c + k) by omega)]
      by_cases c2 : i = r ∧ j = k
      · obtain ⟨rfl, rfl⟩ := c2
        rw [if_pos ⟨rfl, rfl⟩, if_pos (show j < j + 1 by omega), if_neg (by omega), if_pos rfl]
      · rw [if_neg (show ¬ (a = a ∧ 5 * i + j = 5 * r + k) by omega), g1 i j hi hj]
        by_cases c3 : j < k
        · rw [if_pos c3, if_pos (show j < k + 1 by omega)]
        · rw [if_neg c3]
          by_cases c4 : j < k + 1
          · rw [if_pos c4, if_neg (by omega), if_neg (by omega)]
          · rw [if_neg c4]
  · funext j
    show (if b = a ∧ _ then _ else if b = a ∧ _ then _ else N1 b j) = _
    rw [if_neg (fun e => hb e.1), if_neg (fun e => hb e.1), g2 b hb]
/-- what turning back writes -/
def TbF (N : NM) (m : Nat) (N' : NM) : Prop := ∀ b, b ≠ m + 29 → b ≠ m + 33 → N' b = N b
theorem w_mturnsBack {f : Int32 → JM Mem τ} {Q : τ → Mem → NM → Prop} {Bm : Nat → Nat → Int} (hM : ML M m) (hA : MA M N m W B p n T) (hB : ∀ i k, i < n → k < n → N (m + 32) (5 * i + k) = Bm i k) (hBb : ∀ i k, 0 ≤ Bm i k ∧ Bm i k < p)
    (h : ∀ N' v, (v = 1 ∧ gjB p n Bm ∧ (∀ i k, i < n → k < n → N' (m + 33) (5 * i + k) = gjC p n Bm i k) ∨ v = 0 ∧ ¬ gjB p n Bm) → TbF N m N' → GN M N' (f (zI v)) Q) : GN M N (jb (jcall 7 m (f_X8_turnsBack m)) f) Q := by
  have hpb := hA.pb
  have hp := hA.pr
  have hn5 := hA.n5
  have hWe := hA.We
  have h29 := hM.ka (o := 29) (d := (0, 25)) rfl
  have h32 := hM.ka (o := 32) (d := (0, 25)) rfl
  have h33 := hM.ka (o := 33) (d := (0, 25)) rfl
  have fra : ∀ N1 : NM, TbF N m N1 → MA M N1 m W B p n T := fun N1 g => hA.fr (g m (by omega) (by omega)) (g W (by omega) (by omega))
  refine w_Mc hM ?_
  unfold f_X8_turnsBack
  refine w_Mf hM rfl ?_
  refine w_Mf hM rfl ?_
  refine w_copySpan hM h32 h29 (by omega) (by omega) (fun N1 e1 f1 => ?_)
  refine w_Mf hM rfl ?_
  have hF1 : TbF N m N1 := fun b a1 _ => f1 b a1
  refine w_wholeSpan hM (fra N1 hF1) h33 (by omega) (by omega) (fun N2 e2 f2 => ?_)
  have hF2 : TbF N m N2 := fun b a1 a2 => (f2 b a2).trans (f1 b a1)
  have hv2 : ∀ i j, i < n → j < 2 * n → vM N2 m n i j = gj0 n Bm i j := fun i j hi hj => by
    unfold vM gj0
    by_cases c1 : j < n
    · rw [if_pos c1, if_pos c1, f2 _ (by omega), e1 _ (by omega)]
      exact hB i j hi c1
    · rw [if_neg c1, if_neg c1, e2 i (j - n) hi (by omega)]
      unfold un
      by_cases c2 : j = n + i
      · rw [if_pos c2, if_pos (by omega)]
      · rw [if_neg c2, if_neg (by omega)]
  rw [z_0]
  refine w_up n (fun c N3 => (∀ i j, i < n → j < 2 * n → vM N3 m n i j = gja p n (gj0 n Bm) c i j) ∧ (∀ c', c' < c → pvt n c' (gja p n (gj0 n Bm) c') < n) ∧ TbF N m N3) 0 rfl (by omega) ⟨hv2, fun c' hc => absurd hc (by omega), hF2⟩ ?_
  rintro c N3 hc ⟨g1, g2, g3⟩
  have hbd := gja_bd (n := n) hp.pos (gj0_bd (n := n) hp.pos hBb) c
  generalize hAg : gja p n (gj0 n Bm) c = A at g1 hbd
  have hnx : gja p n (gj0 n Bm) (c + 1) = gjN p c (pvt n c A) A := by rw [← hAg]; rfl
  unfold X8_turnsBack_L23
  refine w_MI hM ?_
  rw [(fra N3 g3).ne]
  refine w_le ⟨by omega, by omega⟩ ⟨by omega, by omega⟩ (fun hd => ?_) (fun hd => ?_)
  · obtain rfl : c = n := by omega
    rw [z_1]
    refine w_jinl (w_jp (h N3 1 (Or.inl ⟨rfl, g2, fun i k hi hk => ?_⟩) g3))
    have := g1 i (c + k) hi (by omega)
    unfold vM at this
    rw [if_neg (by omega), show c + k - c = k by omega] at this
    rw [this]
    unfold gjC
    rw [hAg]
  have hcn : c < n := by omega
  refine w_up n (fun r N4 => N4 = N3 ∧ c ≤ r ∧ ∀ q, c ≤ q → q < r → A q c = 0) c rfl hc ⟨rfl, Nat.le_refl _, fun q h1 h2 => absurd h2 (by omega)⟩ ?_
  rintro r N4 hr ⟨rfl, hcr, hz⟩
  have hA4 := fra N4 g3
  unfold X8_turnsBack_L33
  refine w_MI hM ?_
  rw [hA4.ne]
  have hrd : ∀ i k, i < n → k < n → N4 (m + 29) (5 * i + k) = A i k := fun i k hi hk => by
    have := g1 i k hi (by omega)
    unfold vM at this
    rw [if_pos hk] at this
    exact this
  have hgo : (r < n → A r c ≠ 0) → GN M N4 (X8_turnsBack_b60 m (zI c) (zI r)) (LQ (fun v M1 N1 => GN M1 N1 (f v) Q) (KF M (fun t N1 => c < n ∧ t = zI ((c : Int) + 1) ∧ (∀ i j, i < n → j < 2 * n → vM N1 m n i j = gja p n (gj0 n Bm) (c + 1) i j) ∧ (∀ c', c' < c + 1 → pvt n c' (gja p n (gj0 n Bm) c') < n) ∧ TbF N m N1))) := by
    intro hnz
    unfold X8_turnsBack_b60
    refine w_MI hM ?_
    rw [hA4.ne]
    refine w_eq ⟨by omega, by omega⟩ ⟨by omega, by omega⟩ (fun he => ?_) (fun he => ?_)
    · rw [z_0]
      refine w_jinl (w_jp (h N4 0 (Or.inr ⟨rfl, fun hgb => ?_⟩) g3))
      have := hgb c hcn
      rw [hAg, pvt_no (fun q h1 h2 => hz q h1 (by omega))] at this
      omega
    have hrn : r < n := by omega
    have hne := hnz hrn
    have hpv : pvt n c A = r := pvt_eq ⟨hcr, hrn, hne, hz⟩
    rw [hpv] at hnx
    have hAb := hbd r c
    refine w_Mf hM rfl ?_
    refine w_exchange hM hA4 h29 (by omega) (by omega) (by omega) hrn hcn (fun N5 e5 f5 => ?_)
    have hF5 : TbF N m N5 := fun b a1 a2 => (f5 b a1).trans (g3 b a1 a2)
    refine w_Mf hM rfl ?_
    refine w_exchange hM (fra N5 hF5) h33 (by omega) (by omega) (by omega) hrn hcn (fun N6 e6 f6 => ?_)
    have hF6 : TbF N m N6 := fun b a1 a2 => (f6 b a2).trans (hF5 b a1 a2)
    have hS6 : ∀ i j, i < n → j < 2 * n → vM N6 m n i j = gjS c r A i j := fun i j hi hj => by
      have hperm : (if i = c then r else if i = r then c else i) < n := by split; omega; split <;> omega
      have e0 : gjS c r A i j = A (if i = c then r else if i = r then c else i) j := by
        unfold gjS
        split
        · rfl
        · split <;> rfl
      rw [e0, ← g1 _ j hperm hj]
      unfold vM
      by_cases c1 : j < n
      · rw [if_pos c1, if_pos c1, f6 _ (by omega), e5 i j hi c1]
      · rw [if_neg c1, if_neg c1, e6 i (j - n) hi (by omega), f5 _ (by omega)]
    refine w_Mf hM rfl ?_
    rw [z_5, zI_mul, zI_add]
    refine w_ald h29 (by omega) (by omega) ?_
    have h6c := hS6 c c hcn (by omega)
    unfold vM at h6c
    rw [if_pos hcn] at h6c
    rw [show ((5 * (c : Int) + (c : Int)).toNat) = 5 * c + c by omega, h6c, show gjS c r A c c = A r c by unfold gjS; rw [if_pos rfl]]
    refine w_minverse hM (fra N6 hF6) (by omega) (fun v hv => ?_)
    have hiv := ivn_eq hv
    have hv1 := hv.1
    have hv2 := hv.2.1
    have hSb : ∀ i k, 0 ≤ gjS c r A i k ∧ gjS c r A i k < p := fun i k => gjS_bd hbd
    have hLe : ∀ k, gjL p c r A k = A r k * v % p := fun k => by unfold gjL; rw [hiv]
    have hLb : ∀ k, 0 ≤ gjL p c r A k ∧ gjL p c r A k < p := fun k => by rw [hLe]; exact ⟨Int.emod_nonneg _ (by omega), Int.emod_lt_of_pos _ (by omega)⟩
    have hNb : ∀ i k, 0 ≤ gjN p c r A i k ∧ gjN p c r A i k < p := fun i k => by
      unfold gjN
      split
      · exact hLb k
      · exact ⟨Int.emod_nonneg _ (by omega), Int.emod_lt_of_pos _ (by omega)⟩
    rw [z_0]
    refine w_up n (fun k N7 => (∀ i j, i < n → j < 2 * n → vM N7 m n i j = if i = c ∧ (j < k ∨ n ≤ j ∧ j < n + k) then gjL p c r A j else gjS c r A i j) ∧ TbF N m N7) 0 rfl (by omega)
      ⟨fun i j hi hj => by rw [if_neg (by omega)]; exact hS6 i j hi hj, hF6⟩ ?_
    rintro k N7 hk ⟨k1, k2⟩
    unfold X8_turnsBack_L108
    refine w_MI hM ?_
    rw [(fra N7 k2).ne]
    refine w_le ⟨by omega, by omega⟩ ⟨by omega, by omega⟩ (fun hf => ?_) (fun hf => ?_)
    rotate_left
    · have hkn : k < n := by omega
      refine w_Mf hM rfl ?_
      refine w_Mf hM rfl ?_
      rw [z_5, zI_mul, zI_add]
      refine w_ald h29 (by omega) (by omega) ?_
      have q1 := k1 c k hcn (by omega)
      have q2 := k1 c (n + k) hcn (by omega)
      rw [if_neg (by omega)] at q1 q2
      unfold vM at q1 q2
      rw [if_pos hkn] at q1
      rw [if_neg (by omega), show n + k - n = k by omega] at q2
      have q3 := hSb c k
      have q4 := hSb c (n + k)
      rw [show ((5 * (c : Int) + (k : Int)).toNat) = 5 * c + k by omega, q1]
      refine w_MI hM ?_
      rw [(fra N7 k2).pe, zI_mul]
      have b1 := mul_bd (x := gjS c r A c k) (y := v) (a := 7) (b := 7) (by omega) (by omega)
      refine w_remP ⟨b1.1, by omega, by omega⟩ ⟨by omega, by omega, by omega⟩ ?_
      refine w_ast h29 (by omega) (by omega) ?_
      rw [show ((5 * (c : Int) + (k : Int)).toNat) = 5 * c + k by omega]
      refine w_Mf hM rfl ?_
      refine w_Mf hM rfl ?_
      refine w_ald h33 (by omega) (by omega) ?_
      rw [show ((5 * (c : Int) + (k : Int)).toNat) = 5 * c + k by omega, show up2 N7 (m + 29) (5 * c + k) (gjS c r A c k * v % p) (m + 33) (5 * c + k) = N7 (m + 33) (5 * c + k) by
        show (if m + 33 = m + 29 ∧ _ then _ else _) = _
        rw [if_neg (by omega)], q2]
      refine w_MI hM ?_
      rw [show up2 N7 (m + 29) (5 * c + k) (gjS c r A c k * v % p) m 26 = N7 m 26 by
        show (if m = m + 29 ∧ _ then _ else _) = _
        rw [if_neg (by omega)], (fra N7 k2).pe, zI_mul]
      have b2 := mul_bd (x := gjS c r A c (n + k)) (y := v) (a := 7) (b := 7) (by omega) (by omega)
      refine w_remP ⟨b2.1, by omega, by omega⟩ ⟨by omega, by omega, by omega⟩ ?_
      refine w_ast h33 (by omega) (by omega) ?_
      rw [show ((5 * (c : Int) + (k : Int)).toNat) = 5 * c + k by omega, z_1, zI_add]
      have hsc : ∀ j, gjS c r A c j * v % p = gjL p c r A j := fun j => by
        rw [hLe, show gjS c r A c j = A r j by unfold gjS; rw [if_pos rfl]]
      refine w_jcont ⟨hkn, rfl, fun i j hi hj => ?_, fun b a1 a2 => ?_⟩
      · rw [vM_st hcn hkn hi hj hn5, hsc, hsc, k1 i j hi hj]
        by_cases d1 : i = c ∧ j = k
        · rw [if_pos d1, if_pos (by omega), d1.2]
        · rw [if_neg d1]
          by_cases d2 : i = c ∧ j = n + k
          · rw [if_pos d2, if_pos (by omega), d2.2]
          · rw [if_neg d2]
            by_cases d3 : i = c ∧ (j < k ∨ n ≤ j ∧ j < n + k)
            · rw [if_pos d3, if_pos (by omega)]
            · rw [if_neg d3, if_neg (by omega)]
      · funext j
        show (if b = m + 33 ∧ _ then _ else if b = m + 29 ∧ _ then _ else N7 b j) = _
        rw [if_neg (fun e => a2 e.1), if_neg (fun e => a1 e.1), k2 b a1 a2]
    obtain rfl : k = n := by omega
    refine w_jinl ?_
    unfold X8_turnsBack_b181
    rw [z_0]
    refine w_up k (fun i N8 => (∀ i' j, i' < k → j < 2 * k → vM N8 m k i' j = if i' = c ∨ i' < i then gjN p c r A i' j else gjS c r A i' j) ∧ TbF N m N8) 0 rfl (by omega)
      ⟨fun i' j hi hj => by
        rw [k1 i' j hi hj]
        by_cases d1 : i' = c
        · rw [if_pos ⟨d1, by omega⟩, if_pos (Or.inl d1), d1]
          unfold gjN
          rw [if_pos rfl]
        · rw [if_neg (fun e => d1 e.1), if_neg (by omega)], k2⟩ ?_
    rintro i N8 hi ⟨l1, l2⟩
    unfold X8_turnsBack_L184
    refine w_MI hM ?_
    rw [(fra N8 l2).ne]
    refine w_le ⟨by omega, by omega⟩ ⟨by omega, by omega⟩ (fun hg => ?_) (fun hg => ?_)
    · obtain rfl : i = k := by omega
      unfold X8_turnsBack_b337
      rw [z_1, zI_add]
      refine w_jinl (w_jcont ⟨hcn, rfl, fun i' j hi' hj => ?_, fun c' hc' => ?_, l2⟩)
      · rw [l1 i' j hi' hj, if_pos (Or.inr hi'), hnx]
      · by_cases e : c' = c
        · rw [e, hAg, hpv]; exact hrn
        · exact g2 c' (by omega)
    have hik : i < k := by omega
    have hin : ∀ N9 : NM, ∀ x : Int, (x = 0 ∧ (∀ j, j < 2 * k → gjN p c r A i j = if i = c then gjN p c r A i j else gjS c r A i j) ∨ i ≠ c ∧ x = gjS c r A i c) → N9 = N8 → GN M N9 (X8_turnsBack_b214 m (zI c) (zI i) (zI x)) (LQ (LQ (fun v M1 N1 => GN M1 N1 (f v) Q) (KF M (fun t N1 => c < k ∧ t = zI ((c : Int) + 1) ∧ (∀ i j, i < k → j < 2 * k → vM N1 m k i j = gja p k (gj0 k Bm) (c + 1) i j) ∧ (∀ c', c' < c + 1 → pvt k c' (gja p k (gj0 k Bm) c') < k) ∧ TbF N m N1)))
        (KF M (fun t N1 => i < k ∧ t = zI ((i : Int) + 1) ∧ (∀ i' j, i' < k → j < 2 * k → vM N1 m k i' j = if i' = c ∨ i' < i + 1 then gjN p c r A i' j else gjS c r A i' j) ∧ TbF N m N1))) := by
      rintro N9 x hx rfl
      have hxb : 0 ≤ x ∧ x < 7 := by
        rcases hx with ⟨e, _⟩ | ⟨_, e⟩
        · omega
        · have := hSb i c
          omega
      have hfin : ∀ N10 : NM, (∀ j, j < 2 * k → vM N10 m k i j = gjN p c r A i j) → (∀ i' j, i' < k → j < 2 * k → i' ≠ i → vM N10 m k i' j = vM N9 m k i' j) → TbF N m N10 → GN M N10 (X8_turnsBack_b331 m (zI c) (zI i)) (LQ (LQ (fun v M1 N1 => GN M1 N1 (f v) Q) (KF M (fun t N1 => c < k ∧ t = zI ((c : Int) + 1) ∧ (∀ i j, i < k → j < 2 * k → vM N1 m k i j = gja p k (gj0 k Bm) (c + 1) i j) ∧ (∀ c', c' < c + 1 → pvt k c' (gja p k (gj0 k Bm) c') < k) ∧ TbF N m N1)))
        (KF M (fun t N1 => i < k ∧ t = zI ((i : Int) + 1) ∧ (∀ i' j, i' < k → j < 2 * k → vM N1 m k i' j = if i' = c ∨ i' < i + 1 then gjN p c r A i' j else gjS c r A i' j) ∧ TbF N m N1))) := by
        intro N10 t1 t2 t3
        unfold X8_turnsBack_b331
        rw [z_1, zI_add]
        refine w_jcont ⟨hik, rfl, fun i' j hi' hj => ?_, t3⟩
        by_cases e : i' = i
        · rw [e, t1 j hj, if_pos (Or.inr (by omega))]
        · rw [t2 i' j hi' hj e, l1 i' j hi' hj]
          by_cases e2 : i' = c ∨ i' < i
          · rw [if_pos e2, if_pos (by omega)]
          · rw [if_neg e2, if_neg (by omega)]
      unfold X8_turnsBack_b214
      rw [z_0]
      refine w_up k (fun l N10 => (∀ j, j < 2 * k → vM N10 m k i j = if j < l ∨ k ≤ j ∧ j < k + l then gjN p c r A i j else vM N9 m k i j) ∧ (∀ i' j, i' < k → j < 2 * k → i' ≠ i → vM N10 m k i' j = vM N9 m k i' j) ∧ TbF N m N10) 0 rfl (by omega)
        ⟨fun j hj => by rw [if_neg (by omega)], fun _ _ _ _ _ => rfl, l2⟩ ?_
      rintro l N10 hl ⟨t1, t2, t3⟩
      unfold X8_turnsBack_L219
      refine w_MI hM ?_
      rw [(fra N10 t3).ne]
      refine w_le ⟨by omega, by omega⟩ ⟨by omega, by omega⟩ (fun ho => ?_) (fun ho => ?_)
      · exact w_jinl (hfin N10 (fun j hj => by rw [t1 j hj, if_pos (by omega)]) t2 t3)
      rw [z_0]
      refine w_eq ⟨by omega, by omega⟩ ⟨by omega, by omega⟩ (fun hq => ?_) (fun hq => ?_)
      · refine w_jinl (hfin N10 (fun j hj => ?_) t2 t3)
        rw [t1 j hj]
        split
        · rfl
        · rw [l1 i j hik hj]
          by_cases e : i = c
          · rw [if_pos (Or.inl e)]
          · rw [if_neg (by omega)]
            rcases hx with ⟨_, e2⟩ | ⟨_, e2⟩
            · have := e2 j hj
              rw [if_neg e] at this
              exact this.symm
            · unfold gjN
              rw [if_neg e, ← e2, hq, Int.zero_mul, Int.sub_zero, Int.emod_eq_of_lt (hSb i j).1 (hSb i j).2]
      have hic : i ≠ c := by
        rcases hx with ⟨e, _⟩ | ⟨e, _⟩
        · omega
        · exact e
      have hxs : x = gjS c r A i c := by
        rcases hx with ⟨e, _⟩ | ⟨_, e⟩
        · omega
        · exact e
      have hlk : l < k := by omega
      have rd : ∀ j, j < 2 * k → ¬ (j < l ∨ k ≤ j ∧ j < k + l) → vM N10 m k i j = gjS c r A i j ∧ vM N10 m k c j = gjL p c r A j := fun j hj hnj => by
        refine ⟨?_, ?_⟩
        · rw [t1 j hj, if_neg hnj, l1 i j hik hj, if_neg (by omega)]
        · rw [t2 c j hcn hj (fun e => hic e.symm), l1 c j hcn hj, if_pos (Or.inl rfl)]
          unfold gjN
          rw [if_pos rfl]
      obtain ⟨r1, r2⟩ := rd l (by omega) (by omega)
      obtain ⟨r3, r4⟩ := rd (k + l) (by omega) (by omega)
      unfold vM at r1 r2 r3 r4
      rw [if_pos hlk] at r1 r2
      rw [if_neg (by omega), show k + l - k = l by omega] at r3 r4
      have s1 := hSb i l
      have s2 := hLb l
      have s3 := hSb i (k + l)
      have s4 := hLb (k + l)
      have b1 := mul_bd (x := x) (y := gjL p c r A l) (a := 7) (b := 7) (by omega) (by omega)
      have b2 := mul_bd (x := x) (y := gjL p c r A (k + l)) (a := 7) (b := 7) (by omega) (by omega)
      refine w_Mf hM rfl ?_
      refine w_Mf hM rfl ?_
      rw [z_5, zI_mul, zI_mul, zI_add, zI_add]
      refine w_ald h29 (by omega) (by omega) ?_
      rw [show ((5 * (i : Int) + (l : Int)).toNat) = 5 * i + l by omega, r1]
      refine w_Mf hM rfl ?_
      refine w_ald h29 (by omega) (by omega) ?_
      rw [show ((5 * (c : Int) + (l : Int)).toNat) = 5 * c + l by omega, r2]
      refine w_MI hM ?_
      rw [(fra N10 t3).pe, zI_mul, zI_sub]
      refine w_left (by omega) (by omega) ?_
      refine w_ast h29 (by omega) (by omega) ?_
      rw [show ((5 * (i : Int) + (l : Int)).toNat) = 5 * i + l by omega]
      have eo : ∀ b k', b ≠ m + 29 → up2 N10 (m + 29) (5 * i + l) ((gjS c r A i l - x * gjL p c r A l) % p) b k' = N10 b k' := fun b k' hb => if_neg (fun e => hb e.1)
      refine w_Mf hM rfl ?_
      refine w_Mf hM rfl ?_
      refine w_ald h33 (by omega) (by omega) ?_
      rw [show ((5 * (i : Int) + (l : Int)).toNat) = 5 * i + l by omega, eo _ _ (by omega), r3]
      refine w_Mf hM rfl ?_
      refine w_ald h33 (by omega) (by omega) ?_
      rw [show ((5 * (c : Int) + (l : Int)).toNat) = 5 * c + l by omega, eo _ _ (by omega), r4]
      refine w_MI hM ?_
      rw [eo _ _ (by omega), (fra N10 t3).pe, zI_mul, zI_sub]
      refine w_left (by omega) (by omega) ?_
      refine w_ast h33 (by omega) (by omega) ?_
      rw [show ((5 * (i : Int) + (l : Int)).toNat) = 5 * i + l by omega, z_1, zI_add]
      have hgn : ∀ j, (gjS c r A i j - x * gjL p c r A j) % p = gjN p c r A i j := fun j => by
        unfold gjN
        rw [if_neg hic, hxs]
      rw [hgn, hgn]
      refine w_jcont ⟨hlk, rfl, fun j hj => ?_, fun i' j hi' hj hne => ?_, fun b a1 a2 => ?_⟩
      · rw [vM_st hik hlk hik hj hn5, t1 j hj]
        by_cases d1 : i = i ∧ j = l
        · rw [if_pos d1, if_pos (by omega), d1.2]
        · rw [if_neg d1]
          by_cases d2 : i = i ∧ j = k + l
          · rw [if_pos d2, if_pos (by omega), d2.2]
          · rw [if_neg d2]
            by_cases d3 : j < l ∨ k ≤ j ∧ j < k + l
            · rw [if_pos d3, if_pos (by omega)]
            · rw [if_neg d3, if_neg (by omega)]
      · rw [vM_st hik hlk hi' hj hn5, if_neg (fun e => hne e.1), if_neg (fun e => hne e.1), t2 i' j hi' hj hne]
      · funext j
        show (if b = m + 33 ∧ _ then _ else if b = m + 29 ∧ _ then _ else N10 b j) = _
        rw [if_neg (fun e => a2 e.1), if_neg (fun e => a1 e.1), t3 b a1 a2]
    refine w_eq ⟨by omega, by omega⟩ ⟨by omega, by omega⟩ (fun hq => ?_) (fun hq => ?_)
    · obtain rfl : i = c := by omega
      rw [z_0]
      exact hin N8 0 (Or.inl ⟨rfl, fun j _ => by rw [if_pos rfl]⟩) rfl
    · have hic : i ≠ c := by omega
      refine w_Mf hM rfl ?_
      rw [z_5, zI_mul, zI_add]
      refine w_ald h29 (by omega) (by omega) ?_
      have q1 := l1 i c hik (by omega)
      rw [if_neg (by omega)] at q1
      unfold vM at q1
      rw [if_pos hcn] at q1
      rw [show ((5 * (i : Int) + (c : Int)).toNat) = 5 * i + c by omega, q1]
      exact hin N8 _ (Or.inr ⟨hic, rfl⟩) rfl
  refine w_le ⟨by omega, by omega⟩ ⟨by omega, by omega⟩ (fun he => ?_) (fun he => ?_)
  · exact w_jinl (hgo (fun e => by omega))
  refine w_Mf hM rfl ?_
  rw [z_5, zI_mul, zI_add]
  refine w_ald h29 (by omega) (by omega) ?_
  rw [show ((5 * (r : Int) + (c : Int)).toNat) = 5 * r + c by omega, hrd r c (by omega) hcn, z_0]
  have hAb := hbd r c
  refine w_eq ⟨by omega, by omega⟩ ⟨by omega, by omega⟩ (fun hf => ?_) (fun hf => ?_)
  · rw [z_1, zI_add]
    refine w_jcont ⟨by omega, rfl, rfl, by omega, fun q h1 h2 => ?_⟩
    by_cases e : q = r
    · rw [e]; exact hf
    · exact hz q h1 (by omega)
  · exact w_jinl (hgo (fun _ => hf))
end MOD11
