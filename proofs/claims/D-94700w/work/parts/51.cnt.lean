/-! THE COMPONENT: counting spans. -/
set_option maxRecDepth 100000
section BITS
variable {α τ ρ σ : Type} {M : Mem} {N : NM}
theorem bit_and : ∀ set, set < 32 → ∀ k, k < 6 → (zI (set : Nat) >>> (zI (k : Nat) &&& 31)) &&& 1 = zI ((set / 2 ^ k % 2 : Nat) : Int) := by decide +kernel
theorem bit_shl : ∀ k, k < 6 → (1 : Int32) <<< (zI (k : Nat) &&& 31) = zI ((2 ^ k : Nat) : Int) := by decide +kernel
theorem w_bitCount {f : Int32 → JM Mem τ} {Q : τ → Mem → NM → Prop} {set : Nat} (hs : set < 32) (h : GN M N (f (zI (bcn set 5 : Nat))) Q) : GN M N (jb (f_J12_bitCount (zI set)) f) Q := by
  have key : ∀ x, x < 32 → (let y1 : Int32 := zI (x : Nat) - ((((zI (x : Nat)).toUInt32 >>> ((1 : Int32).toUInt32 &&& Int32.toUInt32 31)).toInt32) &&& 1431655765)
      let y2 : Int32 := (y1 &&& 858993459) + (((y1.toUInt32 >>> ((2 : Int32).toUInt32 &&& Int32.toUInt32 31)).toInt32) &&& 858993459)
      let y3 : Int32 := (y2 + ((y2.toUInt32 >>> ((4 : Int32).toUInt32 &&& Int32.toUInt32 31)).toInt32)) &&& 252645135
      let y4 : Int32 := y3 + ((y3.toUInt32 >>> ((8 : Int32).toUInt32 &&& Int32.toUInt32 31)).toInt32)
      let y5 : Int32 := y4 + ((y4.toUInt32 >>> ((16 : Int32).toUInt32 &&& Int32.toUInt32 31)).toInt32)
      y5 &&& 63) = zI (bcn x 5 : Nat) := by decide +kernel
  refine w_jb ?_
  unfold f_J12_bitCount
  refine w_jlet (w_jlet (w_jlet (w_jlet (w_jlet (w_jp ?_)))))
  have := key set hs
  exact Eq.mp (congrArg (fun v => GN M N (f v) Q) this.symm) h
theorem bcn_hi : ∀ n, n < 6 → ∀ set, set < 2 ^ n → bcn set 5 = bcn set n := by decide +kernel
/-- a loop over a couple of gathered numbers and a counter -/
theorem w_up4 {b : Int32 × Int32 × Int32 → JM Mem (ρ ⊕ (Int32 × Int32 × Int32))} {Q : ρ → Mem → NM → Prop} (n : Nat) (J : Nat → Int → Int → NM → Prop) {z : Int32 × Int32 × Int32} (k0 : Nat) (a0 b0 : Int) (hz : z = (zI a0, zI b0, zI k0)) (hk : k0 ≤ n) (h0 : J k0 a0 b0 N)
    (h : ∀ (k : Nat) x y N, k ≤ n → J k x y N → GN M N (b (zI x, zI y, zI k)) (LQ Q (KF M (fun t N1 => k < n ∧ ∃ x1 y1, t = (zI x1, zI y1, zI ((k : Int) + 1)) ∧ J (k + 1) x1 y1 N1)))) : GN M N (jloop b z) Q := by
  subst hz
  refine w_loop (fun d t N => ∃ (k : Nat) (x y : Int), t = (zI x, zI y, zI k) ∧ k ≤ n ∧ d = n - k ∧ J k x y N) (n - k0) _ ⟨k0, a0, b0, rfl, hk, rfl, h0⟩ (fun d t N hd => ?_)
  obtain ⟨k, x, y, e, hkn, hd, hJ⟩ := hd
  subst e
  refine gn_mono (h k x y N hkn hJ) (fun r B N1 q => ?_)
  cases r with
  | inl v => exact q
  | inr t1 =>
    obtain ⟨e, h1, x1, y1, h2, h3⟩ := q
    exact ⟨e, n - (k + 1), by omega, k + 1, x1, y1, h2, by omega, rfl, h3⟩
end BITS
section CMP4
variable {α τ ρ : Type} {M : Mem} {N N' : NM} {c w s : Nat} {p : Int} {n m : Nat} {T : Nat → Nat → Nat → Int} {R : Nat → Nat → Int} {ld : Nat → Nat} {S : VS}
theorem pow_nf_bd (hp : Pr p) (hn : n ≤ 5) {set : Nat} (hs : set < 32) {e : Nat} (he : e ≤ nfr set n) : 1 ≤ p ^ e ∧ p ^ e ≤ 117649 := by
  have h6 := nfr_le n hn set hs
  have h7 : e = 0 ∨ e = 1 ∨ e = 2 ∨ e = 3 ∨ e = 4 ∨ e = 5 ∨ e = 6 := by omega
  rcases hp with rfl | rfl | rfl | rfl <;> rcases h7 with rfl | rfl | rfl | rfl | rfl | rfl | rfl <;> decide
theorem w_countBy {f : Int32 → JM Mem τ} {Q : τ → Mem → NM → Prop} {kind set : Nat} (hC : CL M c) (hW : WL M w) (hD : WD N w p n T) (hw : w + 32 ≤ c + 72 ∨ c + 212 ≤ w) (hset : set < 2 ^ n) (hk : kind ≤ 6)
    (h : ∀ M' N', Bg c M M' → (∀ x, x < c + 72 ∨ c + 192 ≤ x → N' x = N x) → GN M' N' (f (zI (CBn p n T kind set : Nat))) Q) : GN M N (jb (jcall 0 c (f_X0_countBy c w (zI set) (zI kind))) f) Q := by
  have hn5 := hD.n5
  have hn1 := hD.n1
  have hp := hD.pr
  have hpb := hD.pb
  have hs32 : set < 32 := by
    have := Nat.pow_le_pow_right (n := 2) (by omega) hn5
    omega
  have frw : ∀ N1 : NM, (∀ b, b < c + 72 ∨ c + 192 ≤ b → N1 b = N b) → WD N1 w p n T := fun N1 g => hD.fr (fun b h1 h2 => g b (by omega))
  have hm5 := bcn_le set n
  have hg := hC.s182
  refine w_Cc hC ?_
  unfold f_X0_countBy
  refine w_Cf hC rfl ?_
  rw [z_0]
  refine w_putI hg.1 ?_
  refine w_up n (fun k N1 => N1 (c + 182) 2 = bcn set k ∧ (∀ r j, r < bcn set k → j < 5 → N1 (c + 182 + 2 + r) j = un (ldn set n r) j) ∧ (∀ r, r < bcn set k → N1 (c + 182 + 7) r = ldn set n r) ∧ ∀ b, b < c + 182 ∨ c + 190 ≤ b → N1 b = N b) 0 rfl (by omega)
    ⟨by simp [up2, bcn], fun r j hr => absurd hr (Nat.not_lt_zero _), fun r hr => absurd hr (Nat.not_lt_zero _), fun b hb => by funext k; show (if b = c + 182 ∧ k = 2 then _ else N b k) = N b k; rw [if_neg (by omega)]⟩ ?_
  rintro k N1 hkn ⟨g1, g2, g3, g4⟩
  have gw1 := frw N1 (fun b hb => g4 b (by omega))
  unfold X0_countBy_L11
  refine w_Wp hW ?_
  rw [gw1.ne]
  refine w_le ⟨by omega, by omega⟩ ⟨by omega, by omega⟩ (fun hc => ?_) (fun hc => ?_)
  rotate_left
  · -- the places where rows lead
    have hkn' : k < n := by omega
    rw [bit_and set hs32 k (by omega), z_0]
    refine w_eq ⟨by omega, by omega⟩ ⟨by omega, by omega⟩ (fun hb => ?_) (fun hb => ?_)
    · unfold X0_countBy_b107
      rw [z_1, zI_add]
      have e := bcn_f (set := set) (k := k) (fun x : set / 2 ^ k % 2 = 1 => by omega)
      exact w_jcont ⟨hkn', rfl, by rw [e]; exact g1, by rw [e]; exact g2, by rw [e]; exact g3, g4⟩
    have hbt : Bt set k := by
      show set / 2 ^ k % 2 = 1
      omega
    have hlt : bcn set k < 5 := by
      have := bcn_le set k
      omega
    refine w_up 5 (fun j N2 => N2 = wrj N1 (c + 182 + 2 + bcn set k) j (un k)) 0 rfl (by omega) wrj_0.symm ?_
    rintro j N2 hj rfl
    have emany : ∀ j, wrj N1 (c + 182 + 2 + bcn set k) j (un k) (c + 182) 2 = bcn set k := fun j => by rw [wrj_ne (by omega)]; exact g1
    unfold X0_countBy_L35
    rw [z_5]
    refine w_le ⟨by omega, by omega⟩ ⟨by omega, by omega⟩ (fun hd => ?_) (fun hd => ?_)
    · have hj5 : j = 5 := by omega
      subst hj5
      unfold X0_countBy_b77
      refine w_jinl ?_
      refine w_Cf hC rfl ?_
      refine w_Sl hg ?_
      refine w_Cf hC rfl ?_
      refine w_getI hg.1 ?_
      rw [emany]
      refine w_ast hg.kl (by omega) (by omega) ?_
      refine w_Cf hC rfl ?_
      refine w_getI hg.1 ?_
      rw [show ((bcn set k : Int).toNat) = bcn set k from rfl, show up2 (wrj N1 (c + 182 + 2 + bcn set k) 5 (un k)) (c + 182 + 7) (bcn set k) k (c + 182) 2 = bcn set k by
        show (if c + 182 = c + 182 + 7 ∧ _ then _ else wrj N1 _ 5 _ (c + 182) 2) = _
        rw [if_neg (by omega), emany]]
      rw [z_1, zI_add]
      refine w_putI hg.1 ?_
      unfold X0_countBy_b107
      rw [z_1, zI_add]
      have e := bcn_t hbt
      have el := ldn_at hkn' hbt
      refine w_jcont ⟨hkn', rfl, ?_, fun r j hr hj => ?_, fun r hr => ?_, fun b hb9 => ?_⟩
      · show (if c + 182 = c + 182 ∧ 2 = 2 then (bcn set k : Int) + 1 else _) = _
        rw [if_pos ⟨rfl, rfl⟩, e]; rfl
      · show (if c + 182 + 2 + r = c + 182 ∧ _ then _ else if c + 182 + 2 + r = c + 182 + 7 ∧ _ then _ else wrj N1 (c + 182 + 2 + bcn set k) 5 (un k) (c + 182 + 2 + r) j) = _
        rw [if_neg (by omega), if_neg (by omega)]
        by_cases c1 : r = bcn set k
        · rw [c1, el]
          show (if c + 182 + 2 + bcn set k = c + 182 + 2 + bcn set k ∧ j < 5 then un k j else _) = _
          rw [if_pos ⟨rfl, hj⟩]
        · rw [wrj_ne (by omega)]
          exact g2 r j (by omega) hj
      · show (if c + 182 + 7 = c + 182 ∧ _ then _ else if c + 182 + 7 = c + 182 + 7 ∧ r = bcn set k then (k : Int) else wrj N1 _ 5 _ (c + 182 + 7) r) = _
        rw [if_neg (by omega)]
        by_cases c1 : r = bcn set k
        · rw [if_pos ⟨rfl, c1⟩, c1, el]
        · rw [if_neg (fun x => c1 x.2), wrj_ne (by omega)]
          exact g3 r (by omega)
      · funext x
        show (if b = c + 182 ∧ _ then _ else if b = c + 182 + 7 ∧ _ then _ else wrj N1 _ 5 _ b x) = _
        rw [if_neg (by omega), if_neg (by omega), wrj_ne (by omega), g4 b hb9]
    refine w_Cf hC rfl ?_
    refine w_S0 hg ?_
    refine w_Cf hC rfl ?_
    refine w_getI hg.1 ?_
    rw [emany]
    refine w_S1 hg hlt ?_
    have hput : ∀ x : Int, x = un k j → GN M (wrj N1 (c + 182 + 2 + bcn set k) j (un k)) (X0_countBy_b70 c w (zI set) (zI kind) (zI k) (zI j) (c + 182 + 2 + bcn set k) (zI j) (zI x)) (LQ (LQ (fun v M1 N1 => GN M1 N1 (f v) Q) (KF M (fun t N1 => k < n ∧ t = zI ((k : Int) + 1) ∧ N1 (c + 182) 2 = bcn set (k + 1) ∧ (∀ r j, r < bcn set (k + 1) → j < 5 → N1 (c + 182 + 2 + r) j = un (ldn set n r) j) ∧ (∀ r, r < bcn set (k + 1) → N1 (c + 182 + 7) r = ldn set n r) ∧ ∀ b, b < c + 182 ∨ c + 190 ≤ b → N1 b = N b)))
        (KF M (fun t N2 => j < 5 ∧ t = zI ((j : Int) + 1) ∧ N2 = wrj N1 (c + 182 + 2 + bcn set k) (j + 1) (un k)))) := by
      intro x hx
      unfold X0_countBy_b70
      refine w_ast (hg.kr hlt) (by omega) (by omega) ?_
      rw [show ((j : Int).toNat) = j from rfl, wrj_up hx, z_1, zI_add]
      exact w_jcont ⟨by omega, rfl, rfl⟩
    refine w_eq ⟨by omega, by omega⟩ ⟨by omega, by omega⟩ (fun he => ?_) (fun he => ?_)
    · rw [z_1]; exact hput 1 (by rw [un, if_pos (by omega)])
    · exact hput 0 (by rw [un, if_neg (by omega)])
  have hkn2 : k = n := by omega
  subst hkn2
  refine w_jinl ?_
  unfold X0_countBy_b113
  -- the free places
  have hF := hC.ka (o := 190) (d := (0, 25)) rfl
  have hP := hC.ka (o := 191) (d := (0, 25)) rfl
  have hnf6 := nfr_le k hn5 set hs32
  rw [z_0, z_1]
  refine w_up4 (bcn set k) (fun r x y N2 => x = (pon set k r : Nat) ∧ y = p ^ pon set k r ∧ (∀ r' j, r' < r → j < k → Fr set (ldn set k r') j → N2 (c + 190) (pos set k r' j) = r' ∧ N2 (c + 191) (pos set k r' j) = j) ∧ ∀ b, b ≠ c + 190 → b ≠ c + 191 → N2 b = N1 b) 0 0 1 rfl (by omega)
    ⟨rfl, (Int.pow_zero p).symm, fun r' j hr => absurd hr (Nat.not_lt_zero _), fun _ _ _ => rfl⟩ ?_
  rintro r x y N2 hr ⟨rfl, rfl, k1, k2⟩
  show GN M N2 (X0_countBy_L122 c w (zI _) (zI _) (zI _) (zI _) (zI _)) _
  have hponr : pon set k r ≤ nfr set k := pon_mono hr
  unfold X0_countBy_L122
  refine w_Cf hC rfl ?_
  refine w_getI hg.1 ?_
  rw [k2 (c + 182) (by omega) (by omega), g1]
  refine w_le ⟨by omega, by omega⟩ ⟨by omega, by omega⟩ (fun hd => ?_) (fun hd => ?_)
  rotate_left
  · have hrm : r < bcn set k := by omega
    have hlo := ldn_ok hrm
    refine w_Cf hC rfl ?_
    refine w_Sl hg ?_
    refine w_ald hg.kl (by omega) (by omega) ?_
    rw [show ((r : Int).toNat) = r from rfl, k2 (c + 182 + 7) (by omega) (by omega), g3 r hrm, z_1, zI_add]
    refine w_jlet ?_
    refine w_up4 k (fun j x y N3 => ldn set k r < j ∧ x = (pos set k r j : Nat) ∧ y = p ^ pos set k r j ∧ (∀ r' j', r' < bcn set k → j' < k → Fr set (ldn set k r') j' → r' < r ∨ r' = r ∧ j' < j → N3 (c + 190) (pos set k r' j') = r' ∧ N3 (c + 191) (pos set k r' j') = j') ∧ ∀ b, b ≠ c + 190 → b ≠ c + 191 → N3 b = N1 b) (ldn set k r + 1) _ _ (by rfl) (by omega)
      ⟨by omega, by unfold pos; rw [pcn_0 (Nat.le_refl _)]; rfl, by unfold pos; rw [pcn_0 (Nat.le_refl _)]; rfl, fun r' j' h1 h2 h3 h4 => k1 r' j' (by
        rcases h4 with h4 | h4
        · exact h4
        · have h5 := h3.1
          rw [h4.1] at h5
          omega) h2 h3, k2⟩ ?_
    rintro j x y N3 hj ⟨hlj, rfl, rfl, o1, o2⟩
    show GN M N3 (X0_countBy_L148 c w (zI _) (zI _) (zI _) (zI _) (zI _) (zI _)) _
    have hpj : pos set k r j ≤ nfr set k := by
      have h1 := pon_mono (set := set) (n := k) (show r + 1 ≤ bcn set k by omega)
      have h2 := pcn_mono (set := set) (l := ldn set k r) hj
      unfold pos
      rw [pon_s] at h1
      show _ ≤ pon set k (bcn set k)
      omega
    have hpw := pow_nf_bd hp hn5 hs32 hpj
    have gw3 := frw N3 (fun b hb => by rw [o2 b (by omega) (by omega), g4 b (by omega)])
    unfold X0_countBy_L148
    refine w_Wp hW ?_
    rw [gw3.ne]
    refine w_le ⟨by omega, by omega⟩ ⟨by omega, by omega⟩ (fun he => ?_) (fun he => ?_)
    · have hjk : j = k := by omega
      subst hjk
      unfold X0_countBy_b206
      rw [z_1, zI_add]
      exact w_jinl (w_jcont ⟨hrm, _, _, rfl, rfl, rfl, fun r' j' h1 h2 h3 => o1 r' j' (by omega) h2 h3 (by omega), o2⟩)
    rw [bit_and set hs32 j (by omega), z_1]
    refine w_eq ⟨by omega, by omega⟩ ⟨by omega, by omega⟩ (fun hf => ?_) (fun hf => ?_)
    · unfold X0_countBy_b200
      rw [z_1, zI_add]
      have e : pos set k r (j + 1) = pos set k r j := by
        unfold pos
        rw [pcn_f (fun q => q.2 (by show set / 2 ^ j % 2 = 1; omega))]
      exact w_jcont ⟨by omega, _, _, rfl, by omega, by rw [e], by rw [e], fun r' j' h1 h2 h3 h4 => o1 r' j' h1 h2 h3 (by
        by_cases c1 : r' = r ∧ j' = j
        · exfalso
          rw [c1.2] at h3
          exact h3.2 (by show set / 2 ^ j % 2 = 1; omega)
        · omega), o2⟩
    have hfree : Fr set (ldn set k r) j := ⟨hlj, fun q => hf (by have q : set / 2 ^ j % 2 = 1 := q; omega)⟩
    have hplt : pos set k r j < nfr set k := Nat.lt_of_lt_of_le (pos_lt (by omega) hfree) (pon_mono (show r + 1 ≤ bcn set k by omega))
    refine w_Cf hC rfl ?_
    refine w_ast hF (by omega) (by omega) ?_
    refine w_Cf hC rfl ?_
    refine w_ast hP (by omega) (by omega) ?_
    refine w_Wp hW ?_
    rw [show up2 (up2 N3 (c + 190) ((pos set k r j : Int).toNat) r) (c + 191) ((pos set k r j : Int).toNat) j w 1 = p by
      show (if w = c + 191 ∧ _ then _ else if w = c + 190 ∧ _ then _ else N3 w 1) = _
      rw [if_neg (by omega), if_neg (by omega), gw3.pe]]
    rw [zI_mul, zI_add]
    refine w_jlet ?_
    unfold X0_countBy_b200
    rw [z_1, zI_add]
    have e : pos set k r (j + 1) = pos set k r j + 1 := by
      unfold pos
      rw [pcn_t hfree]; rfl
    refine w_jcont ⟨by omega, _, _, rfl, by omega, by rw [e]; rfl, by rw [e, Int.pow_succ], fun r' j' h1 h2 h3 h4 => ?_, fun b h1 h2 => ?_⟩
    · show (if c + 190 = c + 191 ∧ _ then _ else if c + 190 = c + 190 ∧ pos set k r' j' = pos set k r j then (r : Int) else N3 (c + 190) (pos set k r' j')) = r' ∧ (if c + 191 = c + 191 ∧ pos set k r' j' = pos set k r j then (j : Int) else if c + 191 = c + 190 ∧ _ then _ else N3 (c + 191) (pos set k r' j')) = j'
      rw [if_neg (by omega)]
      by_cases c1 : pos set k r' j' = pos set k r j
      · have := pos_inj h2 (by omega) h3 hfree c1
        rw [if_pos ⟨rfl, c1⟩, if_pos ⟨rfl, c1⟩, this.1, this.2]
        exact ⟨rfl, rfl⟩
      · rw [if_neg (fun x => c1 x.2), if_neg (fun x => c1 x.2), if_neg (by omega)]
        refine o1 r' j' h1 h2 h3 ?_
        by_cases c2 : r' = r ∧ j' = j
        · exfalso
          rw [c2.1, c2.2] at c1
          exact c1 rfl
        · omega
    · funext x
      show (if b = c + 191 ∧ _ then _ else if b = c + 190 ∧ _ then _ else N3 b x) = _
      rw [if_neg (by omega), if_neg (by omega), o2 b h1 h2]
  have hrm : r = bcn set k := by omega
  subst hrm
  refine w_jinl ?_
  unfold X0_countBy_b212
  have hpe := pnf_e (n := k) hp (set := set)
  have hpbd := pnf_bd hp hn5 hs32
  have hnfe : pon set k (bcn set k) = nfr set k := rfl
  rw [hnfe] at *
  rw [z_0]
  refine w_up2B (pnf p k set) (fun code x M1 N3 => x = (cn code (KDc p k T kind set) : Nat) ∧ Bg c M M1 ∧ N3 (c + 182) 2 = bcn set k ∧ (∀ r j, r < bcn set k → j < 5 → ¬ (j < k ∧ Fr set (ldn set k r) j) → N3 (c + 182 + 2 + r) j = un (ldn set k r) j) ∧ (∀ r, r < bcn set k → N3 (c + 182 + 7) r = ldn set k r) ∧
      (∀ r' j, r' < bcn set k → j < k → Fr set (ldn set k r') j → N3 (c + 190) (pos set k r' j) = r' ∧ N3 (c + 191) (pos set k r' j) = j) ∧ ∀ b, b < c + 72 ∨ c + 192 ≤ b → N3 b = N b) 0 0 rfl (by omega)
    ⟨rfl, Bg.rf hC, by rw [k2 _ (by omega) (by omega)]; exact g1, fun r j hr hj _ => by rw [k2 _ (by omega) (by omega)]; exact g2 r j hr hj, fun r hr => by rw [k2 _ (by omega) (by omega)]; exact g3 r hr, k1, fun b hb => by rw [k2 _ (by omega) (by omega), g4 b (by omega)]⟩ ?_
  rintro code x M1 N3 hcode ⟨rfl, hbg, q1, q2, q3, q4, q5⟩
  show GN M1 N3 (X0_countBy_L218 c w (zI _) (zI _) (zI _) (zI _) (zI _)) _
  have hC1 := hC.bg hbg
  have hW1 := hW.bg hbg (by omega)
  have hg1 := hC1.s182
  have hcn := cn_le (n := code) (P := KDc p k T kind set)
  unfold X0_countBy_L218
  refine w_le ⟨by omega, by omega⟩ ⟨by omega, by omega⟩ (fun he => ?_) (fun he => ?_)
  · have : code = pnf p k set := by omega
    subst this
    exact w_jinl (w_jp (h M1 N3 hbg q5))
  rw [z_0]
  refine w_up2 (nfr set k) (fun f x N4 => x = (code : Int) / p ^ f ∧ (∀ r j, r < bcn set k → j < k → Fr set (ldn set k r) j → pos set k r j < f → N4 (c + 182 + 2 + r) j = dg p code (pos set k r j)) ∧ N4 (c + 182) 2 = bcn set k ∧ (∀ r j, r < bcn set k → j < 5 → ¬ (j < k ∧ Fr set (ldn set k r) j) → N4 (c + 182 + 2 + r) j = un (ldn set k r) j) ∧ (∀ r, r < bcn set k → N4 (c + 182 + 7) r = ldn set k r) ∧
      (∀ r' j, r' < bcn set k → j < k → Fr set (ldn set k r') j → N4 (c + 190) (pos set k r' j) = r' ∧ N4 (c + 191) (pos set k r' j) = j) ∧ ∀ b, b < c + 72 ∨ c + 192 ≤ b → N4 b = N b) 0 _ rfl (by omega)
    ⟨by rw [Int.pow_zero, Int.ediv_one], fun r j _ _ _ hlt => absurd hlt (Nat.not_lt_zero _), q1, q2, q3, q4, q5⟩ ?_
  rintro f9 x N4 hf9 ⟨rfl, v1, v2, v3, v4, v5, v6⟩
  show GN M1 N4 (X0_countBy_L232 c w (zI _) (zI _) (zI _) (zI _) (zI _) (zI _) (zI _)) _
  have gw4 := frw N4 v6
  unfold X0_countBy_L232
  refine w_le ⟨by omega, by omega⟩ ⟨by omega, by omega⟩ (fun hh => ?_) (fun hh => ?_)
  rotate_left
  · obtain ⟨r, j, hr9, hj9, hfr9, hpos9⟩ := pos_ex (show f9 < pon set k (bcn set k) by show f9 < nfr set k; omega)
    obtain ⟨e1, e2⟩ := v5 r j hr9 hj9 hfr9
    rw [hpos9] at e1 e2
    have hpk : 0 < p ^ f9 := Int.pow_pos (by omega)
    have hq1 : 0 ≤ (code : Int) / p ^ f9 := Int.ediv_nonneg (by omega) (by omega)
    have hq2 : (code : Int) / p ^ f9 ≤ code := Int.ediv_le_self _ (by omega)
    refine w_Cf hC1 rfl ?_
    refine w_S0 hg1 ?_
    refine w_Cf hC1 rfl ?_
    refine w_ald (hC1.ka (o := 190) (d := (0, 25)) rfl) (by omega) (by omega) ?_
    rw [show ((f9 : Int).toNat) = f9 from rfl, e1]
    refine w_S1 hg1 (by omega) ?_
    refine w_Cf hC1 rfl ?_
    refine w_ald (hC1.ka (o := 191) (d := (0, 25)) rfl) (by omega) (by omega) ?_
    rw [show ((f9 : Int).toNat) = f9 from rfl, e2]
    refine w_Wp hW1 ?_
    rw [gw4.pe]
    refine w_remP ⟨hq1, by omega, by omega⟩ ⟨by omega, by omega, by omega⟩ ?_
    refine w_ast (hg1.kr (by omega)) (by omega) (by omega) ?_
    refine w_Wp hW1 ?_
    rw [show ((j : Int).toNat) = j from rfl, show up2 N4 (c + 182 + 2 + r) j ((code : Int) / p ^ f9 % p) w 1 = p by
      show (if w = c + 182 + 2 + r ∧ _ then _ else N4 w 1) = _
      rw [if_neg (by omega), gw4.pe]]
    refine w_divP ⟨hq1, by omega, by omega⟩ ⟨by omega, by omega, by omega⟩ ?_
    rw [z_1, zI_add]
    refine w_jcont ⟨by omega, _, rfl, by rw [Int.ediv_ediv_of_nonneg (by omega), ← Int.pow_succ], fun r' j' h1 h2 h3 h4 => ?_, ?_, fun r' j' h1 h2 h3 => ?_, fun r' h1 => ?_, fun r' j' h1 h2 h3 => ?_, fun b hb => ?_⟩
    · show (if c + 182 + 2 + r' = c + 182 + 2 + r ∧ j' = j then (code : Int) / p ^ f9 % p else N4 (c + 182 + 2 + r') j') = _
      by_cases c1 : r' = r ∧ j' = j
      · rw [if_pos ⟨by omega, c1.2⟩, c1.1, c1.2, hpos9]; rfl
      · rw [if_neg (fun x => c1 ⟨by omega, x.2⟩)]
        refine v1 r' j' h1 h2 h3 ?_
        rcases Nat.lt_or_eq_of_le (show pos set k r' j' ≤ f9 by omega) with c2 | c2
        · exact c2
        · exact absurd (pos_inj h2 hj9 h3 hfr9 (by omega)) c1
    · show (if c + 182 = c + 182 + 2 + r ∧ _ then _ else N4 (c + 182) 2) = _
      rw [if_neg (by omega)]; exact v2
    · show (if c + 182 + 2 + r' = c + 182 + 2 + r ∧ j' = j then _ else N4 (c + 182 + 2 + r') j') = _
      by_cases c1 : r' = r ∧ j' = j
      · exfalso
        rw [c1.1, c1.2] at h3
        exact h3 ⟨hj9, hfr9⟩
      · rw [if_neg (fun x => c1 ⟨by omega, x.2⟩)]; exact v3 r' j' h1 h2 h3
    · show (if c + 182 + 7 = c + 182 + 2 + r ∧ _ then _ else N4 (c + 182 + 7) r') = _
      rw [if_neg (by omega)]; exact v4 r' h1
    · show (if c + 190 = c + 182 + 2 + r ∧ _ then _ else N4 (c + 190) _) = _ ∧ (if c + 191 = c + 182 + 2 + r ∧ _ then _ else N4 (c + 191) _) = _
      rw [if_neg (by omega), if_neg (by omega)]; exact v5 r' j' h1 h2 h3
    · funext x
      show (if b = c + 182 + 2 + r ∧ _ then _ else N4 b x) = _
      rw [if_neg (by omega), v6 b hb]
  have hfn : f9 = nfr set k := by omega
  subst hfn
  refine w_jinl ?_
  unfold X0_countBy_b284
  have hsp : SpD N4 (c + 182) p k (bcn set k) (RC p k set code) (ldn set k) (Rs p k (bcn set k) (RC p k set code)) := by
    refine ⟨v2, fun r j hr hj => ?_, v4, RC_bd hp hn1, fun r q h1 h2 => ldn_so h1 h2, RC_ech⟩
    by_cases c1 : j < k ∧ Fr set (ldn set k r) j
    · rw [v1 r j hr c1.1 c1.2 (Nat.lt_of_lt_of_le (pos_lt c1.1 c1.2) (pon_mono (show r + 1 ≤ bcn set k by omega))), RC_fr c1.1 c1.2]
    · rw [v3 r j hr hj c1]
      unfold un
      by_cases c2 : j = ldn set k r
      · rw [if_pos c2, c2, RC_ld]
      · rw [if_neg c2, RC_0 c2 c1]
  refine w_Cf hC1 rfl ?_
  refine w_isKind hC1 hW1 gw4 hw hg1 hsp (by omega) hk (fun M2 N5 v hv hb2 hfr5 => ?_)
  have hcont : ∀ z : Int, z = (cn (code + 1) (KDc p k T kind set) : Nat) → GN M2 N5 (X0_countBy_b304 c w (zI kind) (zI (nfr set k)) (zI (p ^ nfr set k)) (zI code) (zI (cn code (KDc p k T kind set) : Nat)) (zI (z - (cn code (KDc p k T kind set) : Nat)))) (LQ (fun v M1 N1 => GN M1 N1 (f v) Q) (fun t M1 N3 => code < pnf p k set ∧ ∃ a1, t = (zI a1, zI ((code : Int) + 1)) ∧ a1 = (cn (code + 1) (KDc p k T kind set) : Nat) ∧ Bg c M M1 ∧ N3 (c + 182) 2 = bcn set k ∧ (∀ r j, r < bcn set k → j < 5 → ¬ (j < k ∧ Fr set (ldn set k r) j) → N3 (c + 182 + 2 + r) j = un (ldn set k r) j) ∧ (∀ r, r < bcn set k → N3 (c + 182 + 7) r = ldn set k r) ∧
      (∀ r' j, r' < bcn set k → j < k → Fr set (ldn set k r') j → N3 (c + 190) (pos set k r' j) = r' ∧ N3 (c + 191) (pos set k r' j) = j) ∧ ∀ b, b < c + 72 ∨ c + 192 ≤ b → N3 b = N b)) := by
    intro z hz
    unfold X0_countBy_b304
    rw [zI_add, z_1, zI_add]
    refine w_jlet (w_jcontB ⟨by omega, _, rfl, by omega, hbg.tr hb2, ?_, fun r j h1 h2 h3 => ?_, fun r h1 => ?_, fun r j h1 h2 h3 => ?_, fun b hb => ?_⟩)
    · rw [hfr5 _ (by omega)]; exact v2
    · rw [hfr5 _ (by omega)]; exact v3 r j h1 h2 h3
    · rw [hfr5 _ (by omega)]; exact v4 r h1
    · rw [hfr5 _ (by omega), hfr5 _ (by omega)]; exact v5 r j h1 h2 h3
    · rw [hfr5 _ (by omega)]; exact v6 b hb
  rw [z_0]
  refine w_eq (by rcases hv with ⟨e, _⟩ | ⟨e, _⟩ <;> exact ⟨by omega, by omega⟩) ⟨by omega, by omega⟩ (fun e => ?_) (fun e => ?_)
  · have hnk : ¬ KDc p k T kind set code := by
      rcases hv with ⟨e2, _⟩ | ⟨_, e2⟩
      · omega
      · exact e2
    have := hcont _ rfl
    rw [cn_neg hnk, Int.sub_self] at this
    rw [cn_neg hnk]
    exact this
  · have hyk : KDc p k T kind set code := by
      rcases hv with ⟨_, e2⟩ | ⟨e2, _⟩
      · exact e2
      · omega
    have := hcont _ rfl
    rw [cn_pos hyk, show ((cn code (KDc p k T kind set) + 1 : Nat) : Int) - (cn code (KDc p k T kind set) : Nat) = 1 by omega] at this
    rw [cn_pos hyk, z_1]
    exact this
end CMP4
