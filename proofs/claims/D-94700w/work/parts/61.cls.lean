/-! THE COMPONENT: ranks of d, classes. -/
set_option maxRecDepth 100000
section CMP8
variable {α τ ρ : Type} {M : Mem} {N N' : NM} {c w s : Nat} {p : Int} {n m : Nat} {T : Nat → Nat → Nat → Int}
theorem bcn_set_le : ∀ n, n < 6 → ∀ set, set < 2 ^ n → bcn set 5 ≤ n := by decide +kernel
theorem DrR_0 (hp : Pr p) (hn : n ≤ 5) {d : Nat} (h : n ≤ d) : DrR p n T d = 0 := by
  unfold DrR DrS
  have e : (fun g => ∃ set, set < 2 ^ n ∧ bcn set 5 = d + 1 ∧ g = TR n T set) = (fun _ => False) := vs_anti (fun g ⟨set, h1, h2, _⟩ => by
    have := bcn_set_le n (by omega) set h1
    omega) (fun g h => h.elim)
  rw [e, Gn.nil, (Ech.nil (R := fun _ _ => 0) (ld := fun _ => 0)).dm hp]
theorem w_rankOfD {f : Int32 → JM Mem τ} {Q : τ → Mem → NM → Prop} {d : Int} (hC : CL M c) (hW : WL M w) (hD : WD N w p n T) (hw : w + 32 ≤ c + 72 ∨ c + 212 ≤ w) (hd : -1 ≤ d ∧ d ≤ 5)
    (h : ∀ M' N', Bg c M M' → (∀ b, b < c + 118 ∨ c + 182 ≤ b → N' b = N b) → GN M' N' (f (zI (if d < 0 then 0 else DrR p n T d.toNat : Nat))) Q) : GN M N (jb (jcall 0 c (f_X0_rankOfD c w (zI d))) f) Q := by
  have hpb := hD.pb
  have hn5 := hD.n5
  have hp := hD.pr
  have h2n := two_pow hn5
  refine w_Cc hC ?_
  unfold f_X0_rankOfD
  rw [z_0]
  refine w_lt ⟨by omega, by omega⟩ ⟨by omega, by omega⟩ (fun hc => ?_) (fun hc => ?_)
  · have := h M N (Bg.rf hC) (fun _ _ => rfl)
    rw [if_pos hc] at this
    exact w_jp this
  obtain ⟨d, rfl⟩ : ∃ k : Nat, d = k := ⟨d.toNat, by omega⟩
  rw [if_neg (by omega), show ((d : Int)).toNat = d from rfl] at h
  refine w_Wp hW ?_
  rw [hD.ne]
  refine w_lt ⟨by omega, by omega⟩ ⟨by omega, by omega⟩ (fun hc2 => ?_) (fun hc2 => ?_)
  rotate_left
  · have := h M N (Bg.rf hC) (fun _ _ => rfl)
    rw [DrR_0 hp hn5 (by omega)] at this
    exact w_jp this
  have hRP := hC.ro
  have hse := ses_le n (by omega) d (by omega)
  have frw : ∀ N1 : NM, (∀ b, b < c + 118 ∨ c + 182 ≤ b → N1 b = N b) → WD N1 w p n T := fun N1 g => hD.fr (fun b h1 h2 => g b (by omega))
  refine w_up2 (2 ^ n) (fun set x N1 => ∃ (r : Nat) (E : Nat → Nat), x = r ∧ r ≤ set ∧ (∀ r', r' < r → E r' < 2 ^ n ∧ bcn (E r') 5 = d + 1) ∧ (∀ r' k, r' < r → k < 16 → N1 (rpl M (c + 117) r') k = TR n T (E r') k % p) ∧ (∀ s, s < set → bcn s 5 = d + 1 → ∃ r', r' < r ∧ E r' = s) ∧ ∀ b, b < c + 118 ∨ c + 182 ≤ b → N1 b = N b) 0 0 rfl (by omega)
    ⟨0, fun _ => 0, rfl, by omega, fun r' hr => by omega, fun r' k hr => by omega, fun s hs => by omega, fun _ _ => rfl⟩ ?_
  rintro set x N1 hset ⟨r, E, rfl, hrs, e1, e2, e3, e4⟩
  show GN M N1 (X0_rankOfD_L19 c w (zI _) (zI _) (zI _)) _
  unfold X0_rankOfD_L19
  refine w_Wp hW ?_
  rw [(frw N1 e4).ne, bit_shl n (by omega)]
  refine w_le ⟨by omega, by omega⟩ ⟨by omega, by omega⟩ (fun he => ?_) (fun he => ?_)
  · have hse2 : set = 2 ^ n := by omega
    subst hse2
    unfold X0_rankOfD_b91
    refine w_jinl ?_
    refine w_Cf hC rfl ?_
    have hS : dm p 16 (Rs p 16 r (fun r' k => if r' < r ∧ k < 16 then TR n T (E r') k % p else 0)) = DrR p n T d := by
      rw [Rs.q (C := fun r' => TR n T (E r')) (fun r' hr' k hk => by
        show Cg p (if r' < r ∧ k < 16 then _ else _) _
        rw [if_pos ⟨hr', hk⟩]
        exact Cg.mod p _)]
      rw [dm_wide (show ses n d ≤ 16 by omega) (fun r' hr' k hk _ => TR_out hn5 (e1 r' hr').1 (e1 r' hr').2 hk)]
      exact congrArg (dm p (ses n d)) (Gn.eq (fun g ⟨r', hr', eg⟩ => Gn.mem ⟨E r', (e1 r' hr').1, (e1 r' hr').2, eg⟩) (fun g ⟨s, h1, h2, eg⟩ => by
        obtain ⟨r', hr', es⟩ := e3 s h1 h2
        exact Gn.mem ⟨r', hr', by rw [eg, ← es]⟩))
    rw [show (16 : Int32) = zI 16 from rfl]
    refine w_rank (wide := 16) (A := fun r' k => if r' < r ∧ k < 16 then TR n T (E r') k % p else 0) hC hW (frw N1 e4) (by omega) (by omega) (by omega) (fun r' k hr' hk => by rw [e2 r' k hr' hk]; show _ = if r' < r ∧ k < 16 then _ else _; rw [if_pos ⟨hr', hk⟩]) (fun r' k => ?_) (fun M2 N2 hb hfr2 => ?_)
    · show 0 ≤ (if r' < r ∧ k < 16 then _ else _) ∧ (if r' < r ∧ k < 16 then _ else _) < p
      split
      · exact ⟨Int.emod_nonneg _ (by omega), Int.emod_lt_of_pos _ (by omega)⟩
      · omega
    · rw [hS]
      exact w_jp (h M2 N2 hb (fun b hb9 => by rw [hfr2 b hb9, e4 b hb9]))
  have hbl := bcn_le set 5
  refine w_bitCount (by omega) ?_
  rw [z_1, zI_add]
  refine w_eq ⟨by omega, by omega⟩ ⟨by omega, by omega⟩ (fun hf => ?_) (fun hf => ?_)
  rotate_left
  · unfold X0_rankOfD_b85
    rw [z_1, zI_add]
    refine w_jcont ⟨by omega, _, rfl, r, E, rfl, by omega, e1, e2, fun s h1 h2 => ?_, e4⟩
    by_cases c1 : s = set
    · rw [c1] at h2; omega
    · exact e3 s (by omega) h2
  have hra := hRP.ra (show r < 64 by omega)
  rw [z_0]
  refine w_up 16 (fun k N2 => N2 = wrj N1 (rpl M (c + 117) r) k (fun _ => 0)) 0 rfl (by omega) wrj_0.symm ?_
  rintro k N2 hk rfl
  unfold X0_rankOfD_L47
  rw [show (16 : Int32) = zI 16 from rfl]
  refine w_le ⟨by omega, by omega⟩ ⟨by omega, by omega⟩ (fun hg => ?_) (fun hg => ?_)
  rotate_left
  · refine w_Cf hC rfl ?_
    refine w_Rp (hC.ka rfl) hRP (by omega) (by omega) ?_
    rw [z_0]
    refine w_ast hra.2.2.2 (by omega) (by omega) ?_
    rw [show ((k : Int).toNat) = k from rfl, wrj_up (g := fun _ => 0) (v := 0) rfl, z_1, zI_add]
    exact w_jcont ⟨by omega, rfl, rfl⟩
  have hk16 : k = 16 := by omega
  subst hk16
  unfold X0_rankOfD_b70
  refine w_jinl ?_
  refine w_Cf hC rfl ?_
  refine w_Rp (hC.ka rfl) hRP (by omega) (by omega) ?_
  refine w_tellsOf hW ((frw N1 e4).fr (fun b h1 h2 => wrj_ne (by omega))) (by omega) (show bcn set 5 = d + 1 by omega) (by omega) hra.2.2.2 (by omega) (fun k hk => if_pos ⟨rfl, hk⟩) (fun N3 h3 f3 => ?_)
  unfold X0_rankOfD_b85
  rw [z_1, zI_add, zI_add]
  refine w_jcont ⟨by omega, _, rfl, r + 1, fun r' => if r' = r then set else E r', rfl, by omega, fun r' hr' => ?_, fun r' k hr' hk => ?_, fun s h1 h2 => ?_, fun b hb => ?_⟩
  · by_cases c1 : r' = r
    · simp only [if_pos c1]; exact ⟨by omega, by omega⟩
    · simp only [if_neg c1]; exact e1 r' (by omega)
  · by_cases c1 : r' = r
    · simp only [if_pos c1]; rw [c1]; exact h3 k hk
    · simp only [if_neg c1]
      have hne : rpl M (c + 117) r' ≠ rpl M (c + 117) r := fun x => c1 (hRP.inj (by omega) (by omega) x)
      rw [f3 _ hne, wrj_ne hne]
      exact e2 r' k (by omega) hk
  · by_cases c1 : s = set
    · exact ⟨r, by omega, by rw [c1]; exact if_pos rfl⟩
    · obtain ⟨r', h4, h5⟩ := e3 s (by omega) h2
      exact ⟨r', by omega, by rw [← h5]; exact if_neg (by omega)⟩
  · rw [f3 b (by omega), wrj_ne (by omega), e4 b hb]
theorem DrR_le {d : Nat} : DrR p n T d ≤ ses n d := dm_le
theorem w_classesOf {f : Int32 → JM Mem τ} {Q : τ → Mem → NM → Prop} {d : Nat} (hC : CL M c) (hW : WL M w) (hD : WD N w p n T) (hw : w + 32 ≤ c + 72 ∨ c + 212 ≤ w) (hd : d ≤ 5)
    (h : ∀ M' N', Bg c M M' → (∀ b, b < c + 118 ∨ c + 182 ≤ b → N' b = N b) → GN M' N' (f (zI (Cls p n T d))) Q) : GN M N (jb (jcall 0 c (f_X0_classesOf c w (zI d))) f) Q := by
  have hn5 := hD.n5
  have h2n := two_pow hn5
  refine w_Cc hC ?_
  unfold f_X0_classesOf
  rw [z_0]
  refine w_up2 (2 ^ n) (fun set x N1 => x = (seN d set : Nat) ∧ N1 = N) 0 0 rfl (by omega) ⟨rfl, rfl⟩ ?_
  rintro set x N1 hset ⟨rfl, rfl⟩
  show GN M N1 (X0_classesOf_L5 c w (zI _) (zI _) (zI _)) _
  have hsl := seN_le d set
  unfold X0_classesOf_L5
  refine w_Wp hW ?_
  rw [hD.ne, bit_shl n (by omega)]
  refine w_le ⟨by omega, by omega⟩ ⟨by omega, by omega⟩ (fun hc => ?_) (fun hc => ?_)
  · have hse2 : set = 2 ^ n := by omega
    subst hse2
    unfold X0_classesOf_b39
    refine w_jinl ?_
    refine w_rankOfD (d := d) hC hW hD hw (by omega) (fun M2 N2 hb2 hfr2 => ?_)
    have hC2 := hC.bg hb2
    have hW2 := hW.bg hb2 (by omega)
    have hD2 : WD N2 w p n T := hD.fr (fun b h1 h2 => hfr2 b (by omega))
    rw [z_1, zI_sub]
    refine w_rankOfD (d := (d : Int) - 1) hC2 hW2 hD2 hw (by omega) (fun M3 N3 hb3 hfr3 => ?_)
    rw [zI_sub, zI_sub]
    refine w_jp ?_
    have := h M3 N3 (hb2.tr hb3) (fun b hb => by rw [hfr3 b hb, hfr2 b hb])
    unfold Cls at this
    refine Eq.mp (congrArg (fun v => GN M3 N3 (f (zI v)) Q) ?_) this
    rw [if_neg (show ¬ (d : Int) < 0 by omega), show ((d : Int)).toNat = d from rfl]
    show (ses n d : Int) - _ - _ = (ses n d : Int) - _ - _
    by_cases c1 : d = 0
    · rw [if_pos c1, if_pos (by omega)]
    · rw [if_neg c1, if_neg (by omega), show ((d : Int) - 1).toNat = d - 1 by omega]
  have hbl := bcn_le set 5
  refine w_bitCount (by omega) ?_
  have hput : ∀ x : Int, x = (if bcn set 5 = d then 1 else 0) → GN M N1 (X0_classesOf_b31 c w (zI d) (zI set) (zI (seN d set : Nat)) (zI x)) (LQ (fun v M1 N1 => GN M1 N1 (f v) Q) (KF M (fun t N2 => set < 2 ^ n ∧ ∃ a1, t = (zI a1, zI ((set : Int) + 1)) ∧ a1 = (seN d (set + 1) : Nat) ∧ N2 = N1))) := by
    intro x hx
    unfold X0_classesOf_b31
    rw [zI_add, z_1, zI_add]
    refine w_jlet (w_jcont ⟨by omega, _, rfl, ?_, rfl⟩)
    show _ = ((seN d set + (if bcn set 5 = d then 1 else 0) : Nat) : Int)
    rw [hx]
    split <;> omega
  refine w_eq ⟨by omega, by omega⟩ ⟨by omega, by omega⟩ (fun he => ?_) (fun he => ?_)
  · rw [z_1]; exact hput 1 (by rw [if_pos (by omega)])
  · rw [z_0]; exact hput 0 (by rw [if_neg (by omega)])
end CMP8
