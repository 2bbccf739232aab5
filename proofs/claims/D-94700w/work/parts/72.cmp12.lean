/-! THE COMPONENT: a base is turned back. -/
set_option maxRecDepth 100000
section CMP12
variable {α τ ρ : Type} {M : Mem} {N N' : NM} {c w u : Nat} {p p2 : Int} {n n2 m : Nat} {T F : Nat → Nat → Nat → Int} {Bm A : Nat → Nat → Int}
theorem w_cturnsBack {f : Int32 → JM Mem τ} {Q : τ → Mem → NM → Prop} (hC : CL M c) (hW : WL M w) (hD : WD N w p n T) (hw : w + 32 ≤ c + 117 ∨ c + 217 ≤ w) (hB : ∀ i k, i < n → k < n → N (c + 199 + 1 + i) k = Bm i k) (hBb : ∀ i k, 0 ≤ Bm i k ∧ Bm i k < p)
    (h : ∀ M' N' v, Bg c M M' → (v = 1 ∧ gjB p n Bm ∧ (∀ i k, i < n → k < n → N' (c + 205 + 1 + i) k = gjC p n Bm i k) ∨ v = 0 ∧ ¬ gjB p n Bm) → (∀ b, b < c + 206 ∨ c + 217 ≤ b → N' b = N b) → GN M' N' (f (zI v)) Q) : GN M N (jb (jcall 0 c (f_X0_turnsBack c w)) f) Q := by
  have hpb := hD.pb
  have hp := hD.pr
  have hn5 := hD.n5
  have hRP := hC.sq
  have h211 := hC.ka (o := 211) (d := (5, 5)) rfl
  have h199 := hC.ka (o := 199) (d := (5, 5)) rfl
  have frw : ∀ N1 : NM, (∀ b, b < c + 206 ∨ c + 217 ≤ b → N1 b = N b) → WD N1 w p n T := fun N1 g => hD.fr (fun b h1 h2 => g b (by omega))
  refine w_Cc hC ?_
  unfold f_X0_turnsBack
  refine w_Wp hW ?_
  rw [hD.ne]
  have hin0 : ∀ q, q < 5 → c + 211 < rpl M (c + 211) q ∧ rpl M (c + 211) q ≤ c + 216 ∧ mK M (rpl M (c + 211) q) = some (.inr (0, 10)) := fun q hq => ⟨(hRP.ra hq).2.1, by have := (hRP.ra hq).2.2.1; omega, (hRP.ra hq).2.2.2⟩
  have hne0 : ∀ q s, q < 5 → s < 5 → q ≠ s → rpl M (c + 211) q ≠ rpl M (c + 211) s := fun q s hq hs hqs e => hqs (hRP.inj hq hs e)
  rw [z_0]
  refine w_up n (fun i N1 => (∀ i' j, i' < i → j < 2 * n → N1 (rpl M (c + 211) i') j = gj0 n Bm i' j) ∧ ∀ b, b < c + 206 ∨ c + 217 ≤ b → N1 b = N b) 0 rfl (by omega) ⟨fun i' j hi => absurd hi (by omega), fun _ _ => rfl⟩ ?_
  rintro i N1 hi ⟨g1, g2⟩
  unfold X0_turnsBack_L7
  refine w_le ⟨by omega, by omega⟩ ⟨by omega, by omega⟩ (fun hd => ?_) (fun hd => ?_)
  rotate_left
  · have hin : i < n := by omega
    have hai := hin0 i (by omega)
    rw [z_0]
    refine w_up 10 (fun k N2 => (∀ j, j < k → N2 (rpl M (c + 211) i) j = 0) ∧ ∀ b, b ≠ rpl M (c + 211) i → N2 b = N1 b) 0 rfl (by omega) ⟨fun j hj => absurd hj (by omega), fun _ _ => rfl⟩ ?_
    rintro k N2 hk ⟨k1, k2⟩
    unfold X0_turnsBack_L15
    rw [show (10 : Int32) = zI 10 from rfl]
    refine w_le ⟨by omega, by omega⟩ ⟨by omega, by omega⟩ (fun he => ?_) (fun he => ?_)
    · refine w_jinl ?_
      unfold X0_turnsBack_b38
      refine w_Cf hC rfl ?_
      refine w_R1 h199 hC.ba (by omega) (by omega) ?_
      refine w_Cf hC rfl ?_
      refine w_Rp h211 hRP (by omega) (by omega) ?_
      rw [z_0]
      have hb1 := (hC.ba i (show i < 5 by omega)).2
      refine w_copy (sp := 0) (dp := 0) (n := n) hb1 hai.2.2 (by omega) (by omega) ?_
      refine w_Cf hC rfl ?_
      refine w_Rp h211 hRP (by omega) (by omega) ?_
      rw [z_1, zI_add]
      refine w_ast hai.2.2 (by omega) (by omega) ?_
      rw [show (((n : Int) + (i : Int)).toNat) = n + i by omega, zI_add]
      refine w_jcont ⟨hin, rfl, fun i' j hi' hj => ?_, fun b hb => ?_⟩
      · show (if rpl M (c + 211) i' = rpl M (c + 211) i ∧ j = n + i then (1 : Int) else if rpl M (c + 211) i' = rpl M (c + 211) i ∧ 0 ≤ j ∧ j < 0 + n then N2 (c + 199 + 1 + i) (0 + (j - 0)) else N2 (rpl M (c + 211) i') j) = _
        by_cases e : i' = i
        · subst e
          unfold gj0
          by_cases c1 : j < n
          · rw [if_neg (by omega), if_pos ⟨rfl, by omega, by omega⟩, if_pos c1, k2 _ (by omega), g2 _ (by omega), show 0 + (j - 0) = j by omega]
            exact hB i' j hin c1
          · by_cases c2 : j = n + i'
            · rw [if_pos ⟨rfl, c2⟩, if_neg c1, if_pos c2]
            · rw [if_neg (fun x => c2 x.2), if_neg (by omega), if_neg c1, if_neg c2]
              exact k1 j (by omega)
        · have hne := hne0 i' i (by omega) (by omega) e
          rw [if_neg (fun x => hne x.1), if_neg (fun x => hne x.1), k2 _ hne]
          exact g1 i' j (by omega) hj
      · funext j
        show (if b = rpl M (c + 211) i ∧ _ then _ else if b = rpl M (c + 211) i ∧ _ then _ else N2 b j) = _
        rw [if_neg (by omega), if_neg (by omega), k2 b (by omega), g2 b hb]
    refine w_Cf hC rfl ?_
    refine w_Rp h211 hRP (by omega) (by omega) ?_
    rw [z_0]
    refine w_ast hai.2.2 (by omega) (by omega) ?_
    rw [show ((k : Int).toNat) = k from rfl, z_1, zI_add]
    refine w_jcont ⟨by omega, rfl, fun j hj => ?_, fun b hb => ?_⟩
    · show (if rpl M (c + 211) i = rpl M (c + 211) i ∧ j = k then (0 : Int) else N2 (rpl M (c + 211) i) j) = 0
      by_cases e : j = k
      · rw [if_pos ⟨rfl, e⟩]
      · rw [if_neg (fun x => e x.2)]; exact k1 j (by omega)
    · funext j
      show (if b = rpl M (c + 211) i ∧ _ then _ else N2 b j) = _
      rw [if_neg (fun x => hb x.1), k2 b hb]
  obtain rfl : i = n := by omega
  refine w_jinl ?_
  unfold X0_turnsBack_b73
  clear hin0 hne0
  rw [z_0]
  refine w_upB i (fun l M1 N2 => Bg c M M1 ∧ (∀ i' j, i' < i → j < 2 * i → N2 (rpl M1 (c + 211) i') j = gja p i (gj0 i Bm) l i' j) ∧ (∀ l', l' < l → pvt i l' (gja p i (gj0 i Bm) l') < i) ∧ ∀ b, b < c + 206 ∨ c + 217 ≤ b → N2 b = N b) 0 rfl (by omega) ⟨Bg.rf hC, g1, fun c' hc => absurd hc (by omega), g2⟩ ?_
  clear g1 g2 N1 hRP h211 hB
  rintro l M1 N3 hl ⟨hb, g1, g2, g3⟩
  have hC1 := hC.bg hb
  have hW1 := hW.bg hb (by omega)
  have hRP := hC1.sq
  have h211 := hC1.ka (o := 211) (d := (5, 5)) rfl
  have h205 := hC1.ka (o := 205) (d := (5, 5)) rfl
  have hbd := gja_bd (n := i) hp.pos (gj0_bd (n := i) hp.pos hBb) l
  generalize hAg : gja p i (gj0 i Bm) l = A at g1 hbd
  have hnx : gja p i (gj0 i Bm) (l + 1) = gjN p l (pvt i l A) A := by rw [← hAg]; rfl
  unfold X0_turnsBack_L75
  refine w_le ⟨by omega, by omega⟩ ⟨by omega, by omega⟩ (fun hd => ?_) (fun hd => ?_)
  · obtain rfl : l = i := by omega
    unfold X0_turnsBack_b287
    refine w_jinl ?_
    rw [z_0]
    refine w_up l (fun q N4 => (∀ i' k, i' < q → k < l → N4 (c + 205 + 1 + i') k = gjC p l Bm i' k) ∧ (∀ b, b < c + 206 ∨ c + 211 ≤ b → N4 b = N3 b)) 0 rfl (by omega) ⟨fun i' k hq => absurd hq (by omega), fun _ _ => rfl⟩ ?_
    rintro q N4 hq ⟨k1, k2⟩
    unfold X0_turnsBack_L289
    refine w_le ⟨by omega, by omega⟩ ⟨by omega, by omega⟩ (fun he => ?_) (fun he => ?_)
    · obtain rfl : q = l := by omega
      rw [z_1]
      exact w_jinl (w_jp (h M1 N4 1 hb (Or.inl ⟨rfl, g2, k1⟩) (fun b hb' => by rw [k2 b (by omega), g3 b hb'])))
    have hai : c + 211 < rpl M1 (c + 211) q ∧ rpl M1 (c + 211) q ≤ c + 216 ∧ mK M1 (rpl M1 (c + 211) q) = some (.inr (0, 10)) := ⟨(hRP.ra (show q < 5 by omega)).2.1, by have := (hRP.ra (show q < 5 by omega)).2.2.1; omega, (hRP.ra (show q < 5 by omega)).2.2.2⟩
    refine w_Cf hC1 rfl ?_
    refine w_Rp h211 hRP (by omega) (by omega) ?_
    refine w_Cf hC1 rfl ?_
    refine w_R1 h205 hC1.bk (by omega) (by omega) ?_
    rw [z_0]
    have hb1 := (hC1.bk q (show q < 5 by omega)).2
    refine w_copy (sp := l) (dp := 0) (n := l) hai.2.2 hb1 (by omega) (by omega) ?_
    rw [z_1, zI_add]
    refine w_jcont ⟨by omega, rfl, fun i' k hi' hk => ?_, fun b hb' => ?_⟩
    · show (if c + 205 + 1 + i' = c + 205 + 1 + q ∧ 0 ≤ k ∧ k < 0 + l then N4 (rpl M1 (c + 211) q) (l + (k - 0)) else N4 (c + 205 + 1 + i') k) = _
      by_cases e : i' = q
      · rw [e, if_pos ⟨rfl, by omega, by omega⟩, k2 _ (by omega), g1 q _ (by omega) (by omega), ← hAg]
        rfl
      · rw [if_neg (by omega)]
        exact k1 i' k (by omega) hk
    · funext j
      show (if b = c + 205 + 1 + q ∧ _ then _ else N4 b j) = _
      rw [if_neg (by omega), k2 b hb']
  have hcn : l < i := by omega
  refine w_upB i (fun r M2 N4 => M2 = M1 ∧ N4 = N3 ∧ l ≤ r ∧ ∀ q, l ≤ q → q < r → A q l = 0) l rfl hl ⟨rfl, rfl, Nat.le_refl _, fun q h1 h2 => absurd h2 (by omega)⟩ ?_
  rintro r M2 N4 hr ⟨rfl, rfl, hcr, hz⟩
  have hgo : (r < i → A r l ≠ 0) → GN M2 N4 (X0_turnsBack_b107 c w (zI i) (zI l) (zI r)) (LQ (fun v M1 N1 => GN M1 N1 (f v) Q) (fun t M1 N2 => l < i ∧ t = zI ((l : Int) + 1) ∧ Bg c M M1 ∧ (∀ i' j, i' < i → j < 2 * i → N2 (rpl M1 (c + 211) i') j = gja p i (gj0 i Bm) (l + 1) i' j) ∧ (∀ l', l' < l + 1 → pvt i l' (gja p i (gj0 i Bm) l') < i) ∧ ∀ b, b < c + 206 ∨ c + 217 ≤ b → N2 b = N b)) := by
    intro hnz
    unfold X0_turnsBack_b107
    refine w_eq ⟨by omega, by omega⟩ ⟨by omega, by omega⟩ (fun he => ?_) (fun he => ?_)
    · rw [z_0]
      refine w_jinl (w_jp (h M2 N4 0 hb (Or.inr ⟨rfl, fun hgb => ?_⟩) g3))
      have := hgb l hcn
      rw [hAg, pvt_no (fun q h1 h2 => hz q h1 (by omega))] at this
      omega
    have hrn : r < i := by omega
    have hne := hnz hrn
    have hpv : pvt i l A = r := pvt_eq ⟨hcr, hrn, hne, hz⟩
    rw [hpv] at hnx
    have hAb := hbd r l
    refine w_Cf hC1 rfl ?_
    refine w_Rp h211 hRP (by omega) (by omega) ?_
    refine w_Cf hC1 rfl ?_
    refine w_Cf hC1 rfl ?_
    refine w_Rp h211 hRP (by omega) (by omega) ?_
    refine w_astr h211 (by omega) (by omega) (hRP.ra (show l < 5 by omega)).2.2.2 ?_
    have hmf : ∀ R', R' c = mR M2 c → mR (sR M2 R') c 35 = some (c + 211) := fun R' e => by
      show R' c 35 = _
      rw [e]
      exact hC1.f rfl
    refine w_getA (M := sR M2 _) hC1.kc (hmf _ (by
      funext j
      show (if c = c + 211 ∧ _ then _ else mR M2 c j) = _
      rw [if_neg (by omega)])) ?_
    refine w_astr (M := sR M2 _) h211 (by omega) (by omega) (hRP.ra (show r < 5 by omega)).2.2.2 ?_
    have hsw := RP.swap hRP (r := r) (q := l) (by omega) (by omega) (fun q hq => by have := (hRP.ra hq).2.1; omega)
    have hb2 : Bg c M2 (sR M2 (up2 (up2 (mR M2) (c + 211) r (some (rpl M2 (c + 211) l))) (c + 211) l (some (rpl M2 (c + 211) r)))) := by
      refine ⟨⟨_, rfl, fun b h1 h2 => ?_⟩, hC1.ro.fr ?_, hsw.1⟩
      · funext j
        show (if b = c + 211 ∧ _ then _ else if b = c + 211 ∧ _ then _ else mR M2 b j) = _
        rw [if_neg (by omega), if_neg (by omega)]
      · funext j
        show (if c + 117 = c + 211 ∧ _ then _ else if c + 117 = c + 211 ∧ _ then _ else mR M2 (c + 117) j) = _
        rw [if_neg (by omega), if_neg (by omega)]
    show GN (sR M2 (up2 (up2 (mR M2) (c + 211) r (some (rpl M2 (c + 211) l))) (c + 211) l (some (rpl M2 (c + 211) r)))) N4 _ _
    obtain ⟨hRP2, had⟩ := hsw
    generalize sR M2 (up2 (up2 (mR M2) (c + 211) r (some (rpl M2 (c + 211) l))) (c + 211) l (some (rpl M2 (c + 211) r))) = M3 at hb2 hRP2 had
    have hC3 := hC1.bg hb2
    have hW3 := hW1.bg hb2 (by omega)
    have hbb := hb.tr hb2
    have hL : rpl M2 (c + 211) r = rpl M3 (c + 211) l := by rw [had l (by omega), if_pos rfl]
    rw [hL]
    have hrow : ∀ q k, q < i → k < 2 * i → N4 (rpl M3 (c + 211) q) k = gjS l r A q k := by
      intro q k hq hk
      rw [had q (by omega)]
      unfold gjS
      by_cases c1 : q = l
      · rw [if_pos c1, if_pos c1]; exact g1 r k hrn hk
      · rw [if_neg c1, if_neg c1]
        by_cases c2 : q = r
        · rw [if_pos c2, if_pos c2]; exact g1 l k hcn hk
        · rw [if_neg c2, if_neg c2]; exact g1 q k hq hk
    have hin : ∀ q, q < 5 → c + 211 < rpl M3 (c + 211) q ∧ rpl M3 (c + 211) q ≤ c + 216 ∧ mK M3 (rpl M3 (c + 211) q) = some (.inr (0, 10)) := fun q hq => ⟨(hRP2.ra hq).2.1, by have := (hRP2.ra hq).2.2.1; omega, (hRP2.ra hq).2.2.2⟩
    have hne2 : ∀ q s, q < 5 → s < 5 → q ≠ s → rpl M3 (c + 211) q ≠ rpl M3 (c + 211) s := fun q s hq hs hqs e => hqs (hRP2.inj hq hs e)
    have h211' := hC3.ka (o := 211) (d := (5, 5)) rfl
    have hrp : ∀ {τ' : Type} {g : Nat → JM Mem τ'} {Q' : τ' → Mem → NM → Prop} {q : Nat} {N' : NM}, q < 5 → GN M3 N' (g (rpl M3 (c + 211) q)) Q' → GN M3 N' (jb (jaldA 5 (c + 211) (zI q)) g) Q' := fun hq hg => w_Rp h211' hRP2 hq (by omega) hg
    generalize hadd : rpl M3 (c + 211) = ad at hrow hin hne2 hL hrp
    have hLi := hin l (by omega)
    refine w_ald hLi.2.2 (by omega) (by omega) ?_
    rw [show ((l : Int).toNat) = l from rfl, hrow l l hcn (by omega), show gjS l r A l l = A r l by unfold gjS; rw [if_pos rfl]]
    refine w_inverse hW3 (by rw [(frw N4 g3).pe]; exact hp) (by rw [(frw N4 g3).pe]; omega) (fun v hv => ?_)
    rw [(frw N4 g3).pe] at hv
    have hiv := ivn_eq hv
    have hv1 := hv.1
    have hv2 := hv.2.1
    have hSb : ∀ i k, 0 ≤ gjS l r A i k ∧ gjS l r A i k < p := fun i k => gjS_bd hbd
    have hLe : ∀ k, gjL p l r A k = A r k * v % p := fun k => by unfold gjL; rw [hiv]
    have hLb : ∀ k, 0 ≤ gjL p l r A k ∧ gjL p l r A k < p := fun k => by rw [hLe]; exact ⟨Int.emod_nonneg _ (by omega), Int.emod_lt_of_pos _ (by omega)⟩
    rw [z_0]
    refine w_up (2 * i) (fun k N5 => (∀ j, j < 2 * i → N5 (ad l) j = if j < k then gjL p l r A j else gjS l r A l j) ∧ ∀ b, b ≠ ad l → N5 b = N4 b) 0 rfl (by omega)
      ⟨fun j hj => by rw [if_neg (by omega)]; exact hrow l j hcn hj, fun _ _ => rfl⟩ ?_
    rintro k N5 hk ⟨k1, k2⟩
    have hfr5 : ∀ b, b < c + 206 ∨ c + 217 ≤ b → N5 b = N b := fun b hb9 => (k2 b (by omega)).trans (g3 b hb9)
    unfold X0_turnsBack_L158
    rw [z_2, zI_mul]
    refine w_le ⟨by omega, by omega⟩ ⟨by omega, by omega⟩ (fun hf => ?_) (fun hf => ?_)
    rotate_left
    · refine w_ald hLi.2.2 (by omega) (by omega) ?_
      rw [show ((k : Int).toNat) = k from rfl, k1 k (by omega), if_neg (Nat.lt_irrefl k)]
      refine w_Wp hW3 ?_
      have q3 := hSb l k
      have hmb := mul_bd (x := gjS l r A l k) (y := v) (a := 7) (b := 7) (by omega) (by omega)
      rw [(frw N5 hfr5).pe, zI_mul]
      refine w_remP ⟨hmb.1, by omega, by omega⟩ ⟨by omega, by omega, by omega⟩ ?_
      refine w_ast hLi.2.2 (by omega) (by omega) ?_
      rw [show ((k : Int).toNat) = k from rfl, z_1, zI_add]
      refine w_jcont ⟨by omega, rfl, fun j hj => ?_, fun b hb9 => ?_⟩
      · show (if ad l = ad l ∧ j = k then gjS l r A l k * v % p else N5 (ad l) j) = _
        by_cases e : j = k
        · rw [if_pos ⟨rfl, e⟩, if_pos (by omega), e, hLe, show gjS l r A l k = A r k by unfold gjS; rw [if_pos rfl]]
        · rw [if_neg (fun x => e x.2), k1 j hj]
          by_cases e2 : j < k
          · rw [if_pos e2, if_pos (by omega)]
          · rw [if_neg e2, if_neg (by omega)]
      · funext j
        show (if b = ad l ∧ _ then _ else N5 b j) = _
        rw [if_neg (fun x => hb9 x.1), k2 b hb9]
    obtain rfl : k = 2 * i := by omega
    refine w_jinl ?_
    unfold X0_turnsBack_b190
    rw [z_0]
    refine w_up i (fun x N6 => (∀ i' j, i' < i → j < 2 * i → N6 (ad i') j = if i' = l ∨ i' < x then gjN p l r A i' j else gjS l r A i' j) ∧ ∀ b, b < c + 206 ∨ c + 217 ≤ b → N6 b = N b) 0 rfl (by omega)
      ⟨fun i' j hi hj => by
        by_cases d1 : i' = l
        · rw [d1, if_pos (Or.inl rfl), k1 j hj, if_pos hj]
          unfold gjN
          rw [if_pos rfl]
        · rw [if_neg (by omega), k2 _ (hne2 i' l (by omega) (by omega) d1)]
          exact hrow i' j hi hj, hfr5⟩ ?_
    rintro x N6 hx ⟨l1, l2⟩
    unfold X0_turnsBack_L193
    refine w_le ⟨by omega, by omega⟩ ⟨by omega, by omega⟩ (fun hg => ?_) (fun hg => ?_)
    · obtain rfl : x = i := by omega
      unfold X0_turnsBack_b281
      rw [z_1, zI_add]
      refine w_jinl (w_jcontB ⟨hcn, rfl, hbb, fun i' j hi' hj => ?_, fun c' hc' => ?_, l2⟩)
      · rw [hadd, l1 i' j hi' hj, if_pos (Or.inr hi'), hnx]
      · by_cases e : c' = l
        · rw [e, hAg, hpv]; exact hrn
        · exact g2 c' (by omega)
    have hxi : x < i := by omega
    have hxa := hin x (by omega)
    have hio : ∀ N7 : NM, ∀ z : Int, (z = 0 ∧ (∀ j, j < 2 * i → gjN p l r A x j = if x = l then gjN p l r A x j else gjS l r A x j) ∨ x ≠ l ∧ z = gjS l r A x l) → N7 = N6 → GN M3 N7 (X0_turnsBack_b218 c w (zI i) (zI l) (ad l) (zI x) (zI z)) (LQ (LQ (fun v M1 N1 => GN M1 N1 (f v) Q) (fun t M1 N2 => l < i ∧ t = zI ((l : Int) + 1) ∧ Bg c M M1 ∧ (∀ i' j, i' < i → j < 2 * i → N2 (rpl M1 (c + 211) i') j = gja p i (gj0 i Bm) (l + 1) i' j) ∧ (∀ l', l' < l + 1 → pvt i l' (gja p i (gj0 i Bm) l') < i) ∧ ∀ b, b < c + 206 ∨ c + 217 ≤ b → N2 b = N b))
        (KF M3 (fun t N1 => x < i ∧ t = zI ((x : Int) + 1) ∧ (∀ i' j, i' < i → j < 2 * i → N1 (ad i') j = if i' = l ∨ i' < x + 1 then gjN p l r A i' j else gjS l r A i' j) ∧ ∀ b, b < c + 206 ∨ c + 217 ≤ b → N1 b = N b))) := by
      rintro N7 z hz7 rfl
      have hxb : 0 ≤ z ∧ z < 7 := by
        rcases hz7 with ⟨e, _⟩ | ⟨_, e⟩
        · omega
        · have := hSb x l
          omega
      have hfin : ∀ N8 : NM, (∀ j, j < 2 * i → N8 (ad x) j = gjN p l r A x j) → (∀ b, b ≠ ad x → N8 b = N7 b) → GN M3 N8 (X0_turnsBack_b275 c w (zI i) (zI l) (ad l) (zI x)) (LQ (LQ (fun v M1 N1 => GN M1 N1 (f v) Q) (fun t M1 N2 => l < i ∧ t = zI ((l : Int) + 1) ∧ Bg c M M1 ∧ (∀ i' j, i' < i → j < 2 * i → N2 (rpl M1 (c + 211) i') j = gja p i (gj0 i Bm) (l + 1) i' j) ∧ (∀ l', l' < l + 1 → pvt i l' (gja p i (gj0 i Bm) l') < i) ∧ ∀ b, b < c + 206 ∨ c + 217 ≤ b → N2 b = N b))
        (KF M3 (fun t N1 => x < i ∧ t = zI ((x : Int) + 1) ∧ (∀ i' j, i' < i → j < 2 * i → N1 (ad i') j = if i' = l ∨ i' < x + 1 then gjN p l r A i' j else gjS l r A i' j) ∧ ∀ b, b < c + 206 ∨ c + 217 ≤ b → N1 b = N b))) := by
        intro N8 t1 t2
        unfold X0_turnsBack_b275
        rw [z_1, zI_add]
        refine w_jcont ⟨hxi, rfl, fun i' j hi' hj => ?_, fun b hb9 => by rw [t2 b (by omega), l2 b hb9]⟩
        by_cases e : i' = x
        · rw [e, t1 j hj, if_pos (Or.inr (by omega))]
        · rw [t2 _ (hne2 i' x (by omega) (by omega) e), l1 i' j hi' hj]
          by_cases e2 : i' = l ∨ i' < x
          · rw [if_pos e2, if_pos (by omega)]
          · rw [if_neg e2, if_neg (by omega)]
      unfold X0_turnsBack_b218
      rw [z_0]
      refine w_up (2 * i) (fun k N8 => (∀ j, j < 2 * i → N8 (ad x) j = if j < k then gjN p l r A x j else N7 (ad x) j) ∧ ∀ b, b ≠ ad x → N8 b = N7 b) 0 rfl (by omega)
        ⟨fun j hj => by rw [if_neg (by omega)], fun _ _ => rfl⟩ ?_
      rintro k N8 hk8 ⟨t1, t2⟩
      have hfr8 : ∀ b, b < c + 206 ∨ c + 217 ≤ b → N8 b = N b := fun b hb9 => by rw [t2 b (by omega), l2 b hb9]
      unfold X0_turnsBack_L223
      rw [z_2, zI_mul]
      refine w_le ⟨by omega, by omega⟩ ⟨by omega, by omega⟩ (fun ho => ?_) (fun ho => ?_)
      · exact w_jinl (hfin N8 (fun j hj => by rw [t1 j hj, if_pos (by omega)]) t2)
      rw [z_0]
      refine w_eq ⟨by omega, by omega⟩ ⟨by omega, by omega⟩ (fun hq => ?_) (fun hq => ?_)
      · refine w_jinl (hfin N8 (fun j hj => ?_) t2)
        rw [t1 j hj]
        split
        · rfl
        · rw [l1 x j hxi hj]
          by_cases e : x = l
          · rw [if_pos (Or.inl e)]
          · rw [if_neg (by omega)]
            rcases hz7 with ⟨_, e2⟩ | ⟨_, e2⟩
            · have := e2 j hj
              rw [if_neg e] at this
              exact this.symm
            · unfold gjN
              rw [if_neg e, ← e2, hq, Int.zero_mul, Int.sub_zero, Int.emod_eq_of_lt (hSb x j).1 (hSb x j).2]
      have hic : x ≠ l := by
        rcases hz7 with ⟨e, _⟩ | ⟨e, _⟩
        · omega
        · exact e
      have hxs : z = gjS l r A x l := by
        rcases hz7 with ⟨e, _⟩ | ⟨_, e⟩
        · omega
        · exact e
      have hlk : k < 2 * i := by omega
      have r1 : N8 (ad x) k = gjS l r A x k := by rw [t1 k hlk, if_neg (by omega), l1 x k hxi hlk, if_neg (by omega)]
      have r2 : N8 (ad l) k = gjL p l r A k := by
        rw [t2 _ (hne2 l x (by omega) (by omega) (fun e => hic e.symm)), l1 l k hcn hlk, if_pos (Or.inl rfl)]
        unfold gjN
        rw [if_pos rfl]
      have s1 := hSb x k
      have s2 := hLb k
      have b1 := mul_bd (x := z) (y := gjL p l r A k) (a := 7) (b := 7) (by omega) (by omega)
      refine w_Cf hC3 rfl ?_
      refine hrp (by omega) ?_
      refine w_Cf hC3 rfl ?_
      refine hrp (by omega) ?_
      refine w_ald hxa.2.2 (by omega) (by omega) ?_
      rw [show ((k : Int).toNat) = k from rfl, r1]
      refine w_ald hLi.2.2 (by omega) (by omega) ?_
      rw [show ((k : Int).toNat) = k from rfl, r2, zI_mul, zI_sub]
      refine w_by hW3 (by rw [(frw N8 hfr8).pe]; omega) ⟨by omega, by omega⟩ ?_
      rw [(frw N8 hfr8).pe]
      refine w_ast hxa.2.2 (by omega) (by omega) ?_
      have hgn : ∀ j, (gjS l r A x j - z * gjL p l r A j) % p = gjN p l r A x j := fun j => by
        unfold gjN
        rw [if_neg hic, hxs]
      rw [show ((k : Int).toNat) = k from rfl, z_1, zI_add, hgn]
      refine w_jcont ⟨hlk, rfl, fun j hj => ?_, fun b hb9 => ?_⟩
      · show (if ad x = ad x ∧ j = k then gjN p l r A x k else N8 (ad x) j) = _
        by_cases e : j = k
        · rw [if_pos ⟨rfl, e⟩, if_pos (by omega), e]
        · rw [if_neg (fun y => e y.2), t1 j hj]
          by_cases e2 : j < k
          · rw [if_pos e2, if_pos (by omega)]
          · rw [if_neg e2, if_neg (by omega)]
      · funext j
        show (if b = ad x ∧ _ then _ else N8 b j) = _
        rw [if_neg (fun y => hb9 y.1), t2 b hb9]
    refine w_eq ⟨by omega, by omega⟩ ⟨by omega, by omega⟩ (fun hq => ?_) (fun hq => ?_)
    · obtain rfl : x = l := by omega
      rw [z_0]
      exact hio N6 0 (Or.inl ⟨rfl, fun j _ => by rw [if_pos rfl]⟩) rfl
    · have hic : x ≠ l := by omega
      refine w_Cf hC3 rfl ?_
      refine hrp (by omega) ?_
      refine w_ald hxa.2.2 (by omega) (by omega) ?_
      have q1 := l1 x l hxi (by omega)
      rw [if_neg (by omega)] at q1
      rw [show ((l : Int).toNat) = l from rfl, q1]
      exact hio N6 _ (Or.inr ⟨hic, rfl⟩) rfl
  unfold X0_turnsBack_L83
  refine w_le ⟨by omega, by omega⟩ ⟨by omega, by omega⟩ (fun he => ?_) (fun he => ?_)
  · exact w_jinl (hgo (fun e => by omega))
  refine w_Cf hC1 rfl ?_
  refine w_Rp h211 hRP (by omega) (by omega) ?_
  refine w_ald (hRP.ra (show r < 5 by omega)).2.2.2 (by omega) (by omega) ?_
  rw [show ((l : Int).toNat) = l from rfl, g1 r l (by omega) (by omega), z_0]
  have hAb := hbd r l
  refine w_eq ⟨by omega, by omega⟩ ⟨by omega, by omega⟩ (fun hf => ?_) (fun hf => ?_)
  · rw [z_1, zI_add]
    refine w_jcontB ⟨by omega, rfl, rfl, rfl, by omega, fun q h1 h2 => ?_⟩
    by_cases e : q = r
    · rw [e]; exact hf
    · exact hz q h1 (by omega)
  · exact w_jinl (hgo (fun _ => hf))
end CMP12
