/-! THE COMPONENT: powers of brackets with a vector. -/
set_option maxRecDepth 100000
section CMP20
variable {α τ ρ : Type} {M M' : Mem} {N N' : NM} {c t a n k m len s : Nat} {p : Int} {T : Nat → Nat → Nat → Int} {x : Nat → Int}
/-- which power is nought first, from k on; d are left -/
noncomputable def pwz (p : Int) (n : Nat) (T : Nat → Nat → Nat → Int) (x : Nat → Int) : Nat → Nat → Option Nat
  | 0, _ => none
  | d + 1, k => @ite _ (∀ i j, i < n → j < n → pwr p n T x k i j = 0) (Classical.propDecidable _) (some k) (pwz p n T x d (k + 1))
def pwa : Option Nat → Int | some k => k | none => -1
def pws : Option Nat → Int | some _ => 0 | none => 8
theorem pwr_bd (hp : 1 < p) (k i j : Nat) : 0 ≤ pwr p n T x k i j ∧ pwr p n T x k i j < p := by
  cases k with
  | zero =>
    show 0 ≤ un i j ∧ un i j < p
    unfold un
    split <;> omega
  | succ k => exact ⟨Int.emod_nonneg _ (by omega), Int.emod_lt_of_pos _ (by omega)⟩
theorem pwr_vd (hT : WOk p n T) {i : Nat} (hi : i < n) (k j : Nat) : 0 ≤ pwr p n T x k i j ∧ pwr p n T x k i j < p ∧ (n ≤ j → pwr p n T x k i j = 0) := by
  have hp := hT.1.pos
  refine ⟨(pwr_bd (by omega) k i j).1, (pwr_bd (by omega) k i j).2, fun hj => ?_⟩
  cases k with
  | zero => exact if_neg (by omega)
  | succ k =>
    show bk n T x _ j % p = 0
    rw [bk_out hT hj]
    rfl
theorem w_power {f : Int32 → JM Mem τ} {Q : τ → Mem → NM → Prop} {v : Int} (hC : CL M c) (hD : WD N (c + 6) p n T) (hv : zR v)
    (h1 : ¬ (0 ≤ v ∧ v < p ^ n) → GN M (up2 N c 8 2) (f (zI (-1))) Q)
    (h2 : 0 ≤ v ∧ v < p ^ n → ∀ N', (∀ b, b ≠ c + 72 → b ≠ c + 73 → b ≠ c + 74 → b < c + 118 ∨ c + 182 ≤ b → N' b = N b) → GN M (up2 N' c 8 (pws (pwz p n T (dgv p n v) n 1))) (f (zI (pwa (pwz p n T (dgv p n v) n 1)))) Q) :
    GN M N (jb (jcall 0 c (f_X0_power c (zI v))) f) Q := by
  have hpb := hD.pb
  have hp := hD.pr
  have hn5 := hD.n5
  have hW := hC.w6
  have hpw := pow_bd hpb n hn5
  have hRP := hC.ro
  have h117 := hC.ka (o := 117) (d := (5, 64)) rfl
  have h72 := hC.ka (o := 72) (d := (0, 5)) rfl
  have h74 := hC.ka (o := 74) (d := (0, 5)) rfl
  refine w_Cc hC ?_
  unfold f_X0_power
  rw [zL_int hv]
  refine w_isVector hC hD (zRL_of hv) ?_
  rw [z_0]
  by_cases hvv : 0 ≤ v ∧ v < p ^ n
  case neg =>
    rw [if_neg hvv]
    refine w_eq ⟨by omega, by omega⟩ ⟨by omega, by omega⟩ (fun _ => ?_) (fun x => absurd rfl x)
    rw [z_2]
    exact w_none hC (w_jp (h1 hvv))
  rw [if_pos hvv]
  refine w_eq ⟨by omega, by omega⟩ ⟨by omega, by omega⟩ (fun x => absurd x (by omega)) (fun _ => ?_)
  refine w_Cf hC rfl (w_Cf hC rfl ?_)
  refine w_parts hW hD (by omega) h72 (by omega) (by omega) ?_
  refine w_Cf hC rfl ?_
  refine w_Wp hW ?_
  rw [wr5_ne (by omega), hD.ne]
  have f0 : ∀ b, b ≠ c + 72 → b ≠ c + 73 → b ≠ c + 74 → b < c + 118 ∨ c + 182 ≤ b → wr5 N (c + 72) (dgv p n v) b = N b := fun b a1 _ _ _ => wr5_ne a1
  have x0 : VD (wr5 N (c + 72) (dgv p n v)) (c + 72) p n (dgv p n v) := ⟨fun k hk => wr5_at hk, fun k => dgv_bd (by omega) k⟩
  show GN M (wr5 N (c + 72) (dgv p n v)) _ _
  generalize wr5 N (c + 72) (dgv p n v) = N0 at f0 x0
  rw [show (5 : Int32) = zI 5 from rfl]
  refine w_clearRows (wide := 5) hC (by omega) (by omega) (fun N1 z1 g1 => ?_)
  have f1 : ∀ b, b ≠ c + 72 → b ≠ c + 73 → b ≠ c + 74 → b < c + 118 ∨ c + 182 ≤ b → N1 b = N b := fun b a1 a2 a3 a4 => (g1 b a4).trans (f0 b a1 a2 a3 a4)
  have x1 : VD N1 (c + 72) p n (dgv p n v) := x0.fr (g1 _ (by omega))
  have frd : ∀ N1 : NM, (∀ b, b ≠ c + 72 → b ≠ c + 73 → b ≠ c + 74 → b < c + 118 ∨ c + 182 ≤ b → N1 b = N b) → WD N1 (c + 6) p n T := fun N1 g => hD.fr (fun b h1 h2 => g b (by omega) (by omega) (by omega) (by omega))
  have hin : ∀ q, q < 64 → c + 117 < rpl M (c + 117) q ∧ rpl M (c + 117) q ≤ c + 181 ∧ mK M (rpl M (c + 117) q) = some (.inr (0, 32)) := fun q hq => ⟨(hRP.ra hq).2.1, by have := (hRP.ra hq).2.2.1; omega, (hRP.ra hq).2.2.2⟩
  have hne : ∀ q s, q < 64 → s < 64 → q ≠ s → rpl M (c + 117) q ≠ rpl M (c + 117) s := fun q s hq hs hqs e => hqs (hRP.inj hq hs e)
  refine w_up n (fun i N2 => (∀ i' j, i' < n → j < 5 → N2 (rpl M (c + 117) i') j = if i' < i then un i' j else 0) ∧ VD N2 (c + 72) p n (dgv p n v) ∧ ∀ b, b ≠ c + 72 → b ≠ c + 73 → b ≠ c + 74 → b < c + 118 ∨ c + 182 ≤ b → N2 b = N b) 0 rfl (by omega) ⟨fun i' j hi hj => by rw [if_neg (by omega)]; exact z1 i' j hi hj, x1, f1⟩ ?_
  rintro i N2 hi ⟨k1, k2, k3⟩
  unfold X0_power_L41
  refine w_Cf hC rfl ?_
  refine w_Wp hW ?_
  rw [(frd N2 k3).ne]
  refine w_le ⟨by omega, by omega⟩ ⟨by omega, by omega⟩ (fun hd => ?_) (fun hd => ?_)
  rotate_left
  · refine w_Cf hC rfl ?_
    refine w_Rp h117 hRP (by omega) (by omega) ?_
    have hai := hin i (by omega)
    rw [z_1]
    refine w_ast hai.2.2 (by omega) (by omega) ?_
    rw [zI_add, show ((i : Int).toNat) = i from rfl]
    refine w_jcont ⟨by omega, rfl, fun i' j hi' hj => ?_, k2.fr (funext fun j => if_neg (fun e => by omega)), fun b a1 a2 a3 a4 => ?_⟩
    · show (if rpl M (c + 117) i' = rpl M (c + 117) i ∧ j = i then (1 : Int) else N2 (rpl M (c + 117) i') j) = _
      by_cases e : i' = i
      · subst e
        rw [if_pos (show i' < i' + 1 by omega), k1 i' j hi' hj, if_neg (show ¬ i' < i' by omega)]
        unfold un
        by_cases e2 : j = i'
        · rw [if_pos ⟨rfl, e2⟩, if_pos e2]
        · rw [if_neg (fun x => e2 x.2), if_neg e2]
      · rw [if_neg (fun x => hne i' i (by omega) (by omega) e x.1), k1 i' j hi' hj]
        by_cases e2 : i' < i
        · rw [if_pos e2, if_pos (by omega)]
        · rw [if_neg e2, if_neg (by omega)]
    · funext j
      show (if b = rpl M (c + 117) i ∧ _ then _ else N2 b j) = _
      rw [if_neg (by omega), k3 b a1 a2 a3 a4]
  obtain rfl : n = i := by omega
  refine w_jinl ?_
  unfold X0_power_b67
  have hpT := hD.ok
  have hvd := fun (k : Nat) {i : Nat} (hi : i < n) => pwr_vd (x := dgv p n v) hpT hi k
  have h2' := h2 hvv
  clear h1 h2
  generalize dgv p n v = x at *
  rw [z_1]
  refine w_up (n + 1) (fun k N3 => 1 ≤ k ∧ (∀ i j, i < n → j < 5 → N3 (rpl M (c + 117) i) j = pwr p n T x (k - 1) i j) ∧ VD N3 (c + 72) p n x ∧ (∀ b, b ≠ c + 72 → b ≠ c + 73 → b ≠ c + 74 → b < c + 118 ∨ c + 182 ≤ b → N3 b = N b) ∧ pwz p n T x n 1 = pwz p n T x (n + 1 - k) k) 1 rfl (by omega) ⟨by omega, fun i j hi hj => by rw [k1 i j hi hj, if_pos hi]; rfl, k2, k3, rfl⟩ ?_
  rintro k N3 hk ⟨hk1, g1, g2, g3, g4⟩
  obtain ⟨K, rfl⟩ : ∃ K, k = K + 1 := ⟨k - 1, by omega⟩
  rw [Nat.add_sub_cancel] at g1
  unfold X0_power_L69
  refine w_Cf hC rfl ?_
  refine w_Wp hW ?_
  rw [(frd N3 g3).ne]
  refine w_lt ⟨by omega, by omega⟩ ⟨by omega, by omega⟩ (fun hd => ?_) (fun hd => ?_)
  · unfold X0_power_b199
    rw [show (8 : Int32) = zI 8 from rfl]
    have e0 : pwz p n T x n 1 = none := by rw [g4, show n + 1 - (K + 1) = 0 by omega]; rfl
    have := h2' N3 g3
    rw [e0] at this
    exact w_jinl (w_none hC (w_jp this))
  rw [z_0, z_1]
  refine w_up2 n (fun j a N4 => (∀ i l, i < n → l < 5 → N4 (rpl M (c + 117) i) l = pwr p n T x (if i < j then K + 1 else K) i l) ∧ VD N4 (c + 72) p n x ∧ (∀ b, b ≠ c + 72 → b ≠ c + 73 → b ≠ c + 74 → b < c + 118 ∨ c + 182 ≤ b → N4 b = N b) ∧ (a = 1 ∧ (∀ i l, i < j → l < n → pwr p n T x (K + 1) i l = 0) ∨ a = 0 ∧ ¬ ∀ i l, i < j → l < n → pwr p n T x (K + 1) i l = 0)) 0 1 rfl (by omega) ⟨fun i l hi hl => by rw [if_neg (by omega)]; exact g1 i l hi hl, g2, g3, Or.inl ⟨rfl, fun i l hi => absurd hi (by omega)⟩⟩ ?_
  rintro j a N4 hj ⟨k1, k2, k3, k4⟩
  show GN M N4 (X0_power_L85 c (zI _) (zI _) (zI _)) _
  unfold X0_power_L85
  refine w_Cf hC rfl ?_
  refine w_Wp hW ?_
  rw [(frd N4 k3).ne]
  refine w_le ⟨by omega, by omega⟩ ⟨by omega, by omega⟩ (fun he => ?_) (fun he => ?_)
  · obtain rfl : j = n := by omega
    refine w_jinl ?_
    unfold X0_power_b183
    rcases k4 with ⟨rfl, k4⟩ | ⟨rfl, k4⟩
    · rw [z_0]
      refine w_eq ⟨by omega, by omega⟩ ⟨by omega, by omega⟩ (fun x => absurd x (by decide)) (fun _ => ?_)
      unfold X0_power_b187
      have e0 : pwz p j T x j 1 = some (K + 1) := by
        rw [g4, show j + 1 - (K + 1) = (j - (K + 1)) + 1 by omega]
        exact if_pos k4
      have := h2' N4 k3
      rw [e0] at this
      exact w_jinl (w_gives hC (w_jp this))
    · rw [z_0]
      refine w_eq ⟨by omega, by omega⟩ ⟨by omega, by omega⟩ (fun _ => ?_) (fun x => absurd rfl x)
      rw [z_1, zI_add]
      refine w_jcont ⟨by omega, rfl, by omega, fun i l hi hl => ?_, k2, k3, ?_⟩
      · rw [k1 i l hi hl, if_pos hi]
        rfl
      · rw [g4, show j + 1 - (K + 1) = (j - (K + 1)) + 1 by omega, show j + 1 - (K + 1 + 1) = j - (K + 1) by omega]
        exact if_neg k4
  have hjn : j < n := by omega
  have haj := hin j (by omega)
  refine w_Cf hC rfl ?_
  refine w_Cf hC rfl ?_
  refine w_Cf hC rfl ?_
  refine w_Rp h117 hRP (by omega) (by omega) ?_
  refine w_Cf hC rfl ?_
  refine w_wbracket (Y := pwr p n T x K j) hW (frd N4 k3) h72 (by omega) haj.2.2 (by omega) h74 (by omega) k2 ⟨fun l hl => by rw [k1 j l hjn hl, if_neg (Nat.lt_irrefl j)], hvd K hjn⟩ (by omega) (by omega) (by omega) ?_
  have q0 : ∀ l, l < 5 → wr5 N4 (c + 74) (fun l => bk n T x (pwr p n T x K j) l % p) (c + 74) l = pwr p n T x (K + 1) j l := fun l hl => wr5_at hl
  have q1 : ∀ b, b ≠ c + 74 → wr5 N4 (c + 74) (fun l => bk n T x (pwr p n T x K j) l % p) b = N4 b := fun b hb => wr5_ne hb
  generalize wr5 N4 (c + 74) (fun l => bk n T x (pwr p n T x K j) l % p) = N5 at q0 q1
  refine w_Cf hC rfl ?_
  refine w_Cf hC rfl ?_
  refine w_Rp h117 hRP (by omega) (by omega) ?_
  rw [z_0, show (5 : Int32) = zI 5 from rfl]
  refine w_copy5 h74 haj.2.2 (by omega) (by omega) ?_
  have r0 : ∀ i l, i < n → l < 5 → cp5 N5 (c + 74) (rpl M (c + 117) j) (rpl M (c + 117) i) l = pwr p n T x (if i < j + 1 then K + 1 else K) i l := fun i l hi hl => by
    unfold cp5
    by_cases e : i = j
    · rw [e, if_pos ⟨rfl, hl⟩, q0 l hl, if_pos (by omega)]
    · rw [if_neg (fun x => hne i j (by omega) (by omega) e x.1), q1 _ (by have := hin i (by omega); omega), k1 i l hi hl]
      by_cases e2 : i < j
      · rw [if_pos e2, if_pos (by omega)]
      · rw [if_neg e2, if_neg (by omega)]
  have r1 : ∀ b, b ≠ rpl M (c + 117) j → cp5 N5 (c + 74) (rpl M (c + 117) j) b = N5 b := fun b hb => by
    funext l
    unfold cp5
    exact if_neg (fun e => hb e.1)
  generalize cp5 N5 (c + 74) (rpl M (c + 117) j) = N6 at r0 r1
  have r2 : ∀ b, b ≠ c + 72 → b ≠ c + 73 → b ≠ c + 74 → b < c + 118 ∨ c + 182 ≤ b → N6 b = N b := fun b a1 a2 a3 a4 => by rw [r1 b (by omega), q1 b a3, k3 b a1 a2 a3 a4]
  have r3 : VD N6 (c + 72) p n x := k2.fr (by rw [r1 _ (by omega), q1 _ (by omega)])
  have r4 : ∀ l, l < 5 → N6 (c + 74) l = pwr p n T x (K + 1) j l := fun l hl => by rw [r1 _ (by omega), q0 l hl]
  refine w_up2 n (fun l b N7 => N7 = N6 ∧ (b = 1 ∧ ((∀ i l, i < j → l < n → pwr p n T x (K + 1) i l = 0) ∧ ∀ q, q < l → pwr p n T x (K + 1) j q = 0) ∨ b = 0 ∧ ¬ ((∀ i l, i < j → l < n → pwr p n T x (K + 1) i l = 0) ∧ ∀ q, q < l → pwr p n T x (K + 1) j q = 0))) 0 a rfl (by omega) ⟨rfl, ?_⟩ ?_
  · rcases k4 with ⟨e, k4⟩ | ⟨e, k4⟩
    · exact Or.inl ⟨e, k4, fun q hq => absurd hq (by omega)⟩
    · exact Or.inr ⟨e, fun x => k4 x.1⟩
  rintro l b N7 hl ⟨rfl, hb⟩
  show GN M N7 (X0_power_L139 c (zI _) (zI _) (zI _) (zI _)) _
  unfold X0_power_L139
  refine w_Cf hC rfl ?_
  refine w_Wp hW ?_
  rw [(frd N7 r2).ne]
  refine w_le ⟨by omega, by omega⟩ ⟨by omega, by omega⟩ (fun hf => ?_) (fun hf => ?_)
  · obtain rfl : l = n := by omega
    unfold X0_power_b177
    rw [z_1, zI_add]
    refine w_jinl (w_jcont ⟨hjn, _, rfl, r0, r3, r2, ?_⟩)
    rcases hb with ⟨e, q⟩ | ⟨e, q⟩
    · refine Or.inl ⟨e, fun i l hi hl => ?_⟩
      by_cases e : i = j
      · rw [e]; exact q.2 l hl
      · exact q.1 i l (by omega) hl
    · exact Or.inr ⟨e, fun x => q ⟨fun i l hi hl => x i l (by omega) hl, fun l hl => x j l (by omega) hl⟩⟩
  have hln : l < n := by omega
  unfold X0_power_b169 X0_power_b170
  rcases hb with ⟨rfl, q⟩ | ⟨rfl, q⟩
  · rw [z_0]
    refine w_eq ⟨by omega, by omega⟩ ⟨by omega, by omega⟩ (fun x => absurd x (by decide)) (fun _ => ?_)
    refine w_Cf hC rfl ?_
    refine w_ald h74 (by omega) (by omega) ?_
    rw [show ((l : Int).toNat) = l from rfl, r4 l (by omega)]
    have hb := hvd (K + 1) hjn l
    refine w_eq ⟨by omega, by omega⟩ ⟨by omega, by omega⟩ (fun hg => ?_) (fun hg => ?_)
    · rw [z_1, zI_add]
      refine w_jcont ⟨hln, _, rfl, rfl, Or.inl ⟨rfl, q.1, fun s hs => ?_⟩⟩
      by_cases e : s = l
      · rw [e]; exact hg
      · exact q.2 s (by omega)
    · rw [z_1, zI_add]
      exact w_jcont ⟨hln, _, rfl, rfl, Or.inr ⟨rfl, fun x => hg (x.2 l (by omega))⟩⟩
  · rw [z_0]
    refine w_eq ⟨by omega, by omega⟩ ⟨by omega, by omega⟩ (fun _ => ?_) (fun x => absurd rfl x)
    rw [z_1, zI_add]
    exact w_jcont ⟨hln, _, rfl, rfl, Or.inr ⟨rfl, fun x => q ⟨x.1, fun s hs => x.2 s (by omega)⟩⟩⟩
end CMP20
