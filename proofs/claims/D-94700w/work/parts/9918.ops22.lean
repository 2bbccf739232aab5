/-! OPS, part 22: share, many. -/
set_option maxRecDepth 100000
section OPS22
variable {α τ ρ : Type} {M M' M1 M2 : Mem} {N N' N1 : NM} {c m i j k q w W B : Nat} {u v s t z a b d : Int} {S S' : St} {p p2 : Int} {n n2 many : Nat} {T F G T2 : Nat → Nat → Nat → Int} {y : Wd}
/-- parts of all sizes less than k, of a kind -/
noncomputable def shC (S : St) (kind k : Nat) : Int := sm k (fun size => CSn (sp S) (sn S) (sT S) size kind)
theorem CSn_r (hp : Pr p) (hn : n ≤ 5) (size kind : Nat) : 0 ≤ CSn p n T size kind ∧ CSn p n T size kind ≤ 3764768 := CSp_bd (T := T) hp hn (size := size) (kind := kind) (2 ^ n) (two_pow hn).1
theorem shC_r (hp : Pr (sp S)) (hn : sn S ≤ 5) (kind k : Nat) (hk : k ≤ 6) : 0 ≤ shC S kind k ∧ shC S kind k ≤ 22588608 := by
  have := sm_bd (n := k) (f := fun size => CSn (sp S) (sn S) (sT S) size kind) (a := 0) (b := 3764768) (fun x _ => CSn_r hp hn x kind)
  unfold shC
  omega
theorem shC_pos (hp : Pr (sp S)) (hn : sn S ≤ 5) (k : Nat) : 0 < shC S 6 (k + 1) := by
  have h0 := sm_pos (f := fun size => CSn (sp S) (sn S) (sT S) size 6) (k + 1) (fun i _ => (CSn_r hp hn i 6).1)
  have hne : CSn (sp S) (sn S) (sT S) 0 6 ≠ 0 := CSn_ne.mpr ⟨0, Nat.two_pow_pos _, bcn_0 _, by
    have e1 : nfr 0 (sn S) = 0 := by unfold nfr; rw [bcn_0]; rfl
    have e2 : pnf (sp S) (sn S) 0 = 1 := by unfold pnf; rw [e1, Int.pow_zero]; rfl
    unfold CBn
    rw [e2]
    exact cn_po (i := 0) (by omega) trivial⟩
  have := h0.2.mpr ⟨0, by omega, hne⟩
  have h1 := h0.1
  unfold shC
  omega
noncomputable def a_share (S : St) : St := a_sh S (shC S 0 (sn S + 1)).toNat (shC S 6 (sn S + 1)).toNat
theorem c_share {f : Int32 → JM Mem τ} {Q : τ → Mem → NM → Prop} (hR : CR M N c S) (h : cPost M N c (a_share S) (f (zI 1)) Q) : GN M N (jb (jcall 0 c (f_X0_share c)) f) Q := by
  have hp := hR.w.pr
  have hn5 : sn S ≤ 5 := hR.w.n5
  refine w_Cc hR.cl ?_
  unfold f_X0_share
  refine w_loopB (fun d t M1 N1 => ∃ k, t = (zI (shC S 0 k), zI (shC S 6 k), zI (k : Nat)) ∧ k ≤ sn S + 1 ∧ d = sn S + 1 - k ∧ Bg c M M1 ∧ CFr c N N1) (sn S + 1) _ ⟨0, rfl, by omega, rfl, Bg.rf hR.cl, CFr.rf⟩ ?_
  rintro d t M1 N1 ⟨k, rfl, hk, rfl, hB, hF⟩
  have hR1 := hR.sc hB hF
  have r0 := shC_r hp hn5 0 k (by omega)
  have r6 := shC_r hp hn5 6 k (by omega)
  show GN M1 N1 (X0_share_L6 c (zI _) (zI _) (zI _)) _
  unfold X0_share_L6
  refine w_Cf hR1.cl rfl (w_Wp hR1.cl.w6 ?_)
  rw [hR1.w.ne]
  refine w_lt ⟨by omega, by omega⟩ ⟨by omega, by omega⟩ (fun e => ?_) (fun e => ?_)
  · obtain rfl : k = sn S + 1 := by omega
    have hpos := shC_pos hp hn5 (sn S)
    unfold X0_share_b50
    rw [zL_int ⟨by omega, by omega⟩, zL_int ⟨by omega, by omega⟩, show shC S 0 (sn S + 1) = ((shC S 0 (sn S + 1)).toNat : Nat) by omega, show shC S 6 (sn S + 1) = ((shC S 6 (sn S + 1)).toNat : Nat) by omega]
    refine w_jinl (c_tell hR1 (by omega) (by omega) (fun M2 N2 hR2 hF2 => ?_))
    exact w_rze (Or.inr rfl) (h M2 N2 hR2 (hF2.bg2 hB (fun b hb => hF.1 b (by omega))))
  refine w_Cf hR1.cl rfl ?_
  rw [show (0 : Int32) = zI ((0 : Nat) : Int) from rfl, show (6 : Int32) = zI ((6 : Nat) : Int) from rfl]
  refine w_count hR1.cl hR1.cl.w6 hR1.w (by omega) (by omega) (by omega) (fun M2 N2 hB2 g2 => ?_)
  have hR2 := hR1.sc hB2 (CFr.rows g2)
  rw [zI_add]
  refine w_jlet ?_
  refine w_Cf hR2.cl rfl ?_
  refine w_count hR2.cl hR2.cl.w6 hR2.w (by omega) (by omega) (by omega) (fun M3 N3 hB3 g3 => ?_)
  rw [zI_add, z_1, zI_add]
  refine w_jlet ?_
  exact w_jcontB ⟨sn S + 1 - (k + 1), by omega, k + 1, rfl, by omega, rfl, (hB.tr hB2).tr hB3, (hF.tr (CFr.rows g2)).tr (CFr.rows g3)⟩
theorem m_share {f : Int32 → JM Mem τ} {Q : τ → Mem → NM → Prop} (hR : MR M N m S) (h : mPost M N m (a_share S) (f (zI 1)) Q) : GN M N (jb (jcall 7 m (f_X8_share m)) f) Q := by
  have hp := hR.ok.1
  have hn5 : sn S ≤ 5 := hR.ok.2.2.1
  refine w_Mc hR.ml ?_
  unfold f_X8_share
  refine m_beg hR (fun M1 N1 hS hM hA => ?_)
  refine w_loop (fun d t N2 => ∃ k, t = (zI (shC S 6 k), zI (shC S 0 k), zI (k : Nat)) ∧ k ≤ sn S + 1 ∧ d = sn S + 1 - k ∧ FrC N1 m N2) (sn S + 1) _ ⟨0, rfl, by omega, rfl, FrC.rf⟩ ?_
  rintro d t N2 ⟨k, rfl, hk, rfl, hF⟩
  have hA2 := hF.ma hA
  have r0 := shC_r hp hn5 0 k (by omega)
  have r6 := shC_r hp hn5 6 k (by omega)
  show GN M1 N2 (X8_share_L20 m (zI _) (zI _) (zI _)) _
  unfold X8_share_L20
  refine w_MI hM ?_
  rw [hA2.ne]
  refine w_lt ⟨by omega, by omega⟩ ⟨by omega, by omega⟩ (fun e => ?_) (fun e => ?_)
  · obtain rfl : k = sn S + 1 := by omega
    have hpos := shC_pos hp hn5 (sn S)
    have hR2 := (hR.be hS).sc hF.mf
    have hFm : MFm m M N M1 N2 := MFm.st hS hF.mf
    unfold X8_share_b52
    rw [zL_int ⟨by omega, by omega⟩, zL_int ⟨by omega, by omega⟩, show shC S 0 (sn S + 1) = ((shC S 0 (sn S + 1)).toNat : Nat) by omega, show shC S 6 (sn S + 1) = ((shC S 6 (sn S + 1)).toNat : Nat) by omega]
    refine w_jinl (m_fraction hR2 (by omega) (by omega) (fun M3 N3 hR3 hF3 => ?_))
    refine w_rze (Or.inr rfl) (h M3 N3 ?_ (hFm.tr hF3))
    unfold a_share a_sh
    generalize ((shC S 0 (sn S + 1)).toNat : Int) / (Nat.gcd (shC S 0 (sn S + 1)).toNat (shC S 6 (sn S + 1)).toNat : Nat) = x at *
    generalize ((shC S 6 (sn S + 1)).toNat : Int) / (Nat.gcd (shC S 0 (sn S + 1)).toNat (shC S 6 (sn S + 1)).toNat : Nat) = y at *
    have e : stU (stU (stU S 3 x) 4 y) 0 0 = stU (stU (stU S 0 0) 3 x) 4 y := by
      unfold stU
      congr
      funext k
      show (if k = 0 then 0 else if k = 4 then y else if k = 3 then x else S.2.2.2.2 k) = (if k = 4 then y else if k = 3 then x else if k = 0 then 0 else S.2.2.2.2 k)
      by_cases c0 : k = 0
      · rw [if_pos c0, if_neg (by omega), if_neg (by omega), if_pos c0]
      · rw [if_neg c0, if_neg c0]
    rw [e]
    exact hR3
  rw [z_m1, z_0]
  refine w_countSpans hM hA2 (by omega) (by omega) (fun N3 f3 => ?_)
  rw [show wkd (-1) = 6 from rfl, zI_add]
  refine w_jlet ?_
  refine w_countSpans hM (f3.ma hA2) (by omega) (by omega) (fun N4 f4 => ?_)
  rw [show wkd 0 = 0 from rfl, zI_add, z_1, zI_add]
  refine w_jlet ?_
  exact w_jcont ⟨sn S + 1 - (k + 1), by omega, k + 1, rfl, by omega, rfl, (hF.tr f3).tr f4⟩
-- many
/-- numbers of the table that aren't nought -/
def nzE (T : Nat → Nat → Nat → Int) (i j k : Nat) : Int := if i < j ∧ T i j k ≠ 0 then 1 else 0
def nzP (n : Nat) (T : Nat → Nat → Nat → Int) (i j k : Nat) : Int := sm i (fun i => sm n (fun j => sm n (fun k => nzE T i j k))) + sm j (fun j => sm n (fun k => nzE T i j k)) + sm k (fun k => nzE T i j k)
theorem nzE_r (i j k : Nat) : 0 ≤ nzE T i j k ∧ nzE T i j k ≤ 1 := by
  unfold nzE
  split <;> exact ⟨by decide, by decide⟩
theorem nzP_r (hn : n ≤ 5) (hi : i ≤ n) (hj : j ≤ n) (hk : k ≤ n) : 0 ≤ nzP n T i j k ∧ nzP n T i j k ≤ 200 := by
  have b1 : ∀ i j x, x ≤ 5 → 0 ≤ sm x (fun k => nzE T i j k) ∧ sm x (fun k => nzE T i j k) ≤ 5 := fun i j x hx => by
    have := sm_bd (n := x) (f := fun k => nzE T i j k) (a := 0) (b := 1) (fun k _ => nzE_r i j k)
    omega
  have b2 : ∀ i x, x ≤ 5 → 0 ≤ sm x (fun j => sm n (fun k => nzE T i j k)) ∧ sm x (fun j => sm n (fun k => nzE T i j k)) ≤ 25 := fun i x hx => by
    have := sm_bd (n := x) (f := fun j => sm n (fun k => nzE T i j k)) (a := 0) (b := 5) (fun j _ => b1 i j n hn)
    omega
  have b3 := sm_bd (n := i) (f := fun i => sm n (fun j => sm n (fun k => nzE T i j k))) (a := 0) (b := 25) (fun i _ => b2 i n hn)
  have b4 := b2 i j (by omega)
  have b5 := b1 i j k (by omega)
  unfold nzP
  omega
theorem nzP_k : nzP n T i j n = nzP n T i (j + 1) 0 := by
  unfold nzP
  rw [sm_s j]
  show _ = _ + (_ + _) + 0
  omega
theorem nzP_j : nzP n T i n 0 = nzP n T (i + 1) 0 0 := by
  unfold nzP
  rw [sm_s i]
  show _ + _ + 0 = _ + _ + 0 + 0
  omega
theorem nzP_0 : nzP n T i 0 0 = nzP n T i (i + 1) 0 := by
  unfold nzP
  have : sm (i + 1) (fun j => sm n (fun k => nzE T i j k)) = 0 := by
    rw [← sm_zero (i + 1)]
    refine sm_congr (fun j hj => ?_)
    rw [← sm_zero n]
    refine sm_congr (fun k _ => ?_)
    unfold nzE
    rw [if_neg (by omega)]
  rw [this]
  rfl
theorem nzP_s : nzP n T i j (k + 1) = nzP n T i j k + nzE T i j k := by
  unfold nzP
  rw [sm_s k]
  omega
def shM (S : St) : Nat → Nat
  | 0 => 0
  | j + 1 => shM S j ||| (match S.1.2.1 j with | none => 0 | some _ => 2 ^ j)
theorem shM_lt : ∀ j, shM S j < 2 ^ j := by
  intro j
  induction j with
  | zero => exact Nat.one_pos
  | succ j ih =>
    have h2 : 2 ^ j < 2 ^ (j + 1) := Nat.pow_lt_pow_right (by omega) (by omega)
    refine Nat.or_lt_two_pow (by omega) ?_
    cases S.1.2.1 j with
    | none => exact Nat.two_pow_pos _
    | some y => exact h2
theorem b_or0 : ∀ o, o < 32 → zI (o : Nat) ||| zI 0 = zI (o : Nat) := by decide +kernel
def a_many (S : St) (v : Int) : Int × Int := if v = 0 then (sp S, 0) else if v = 1 then ((sn S : Int), 0) else if v = 2 then (nzP (sn S) (sT S) (sn S) 0 0, 0) else if v = 3 then ((shM S 4 : Nat), 0) else (-1, 5)
theorem c_many {f : Int32 → JM Mem τ} {Q : τ → Mem → NM → Prop} (hR : CR M N c S) (hv : zR v) (h : cPost M N c (stU S 0 (a_many S v).2) (f (zI (a_many S v).1)) Q) : GN M N (jb (jcall 0 c (f_X0_many c (zI v))) f) Q := by
  have hn5 : sn S ≤ 5 := hR.w.n5
  have hpb := hR.w.pb
  refine w_Cc hR.cl ?_
  unfold f_X0_many
  have hdef : ¬ (0 ≤ v ∧ v ≤ 3) → GN M N (jb (jcall 0 c (f_X0_none c 5)) fun v1 => jp v1) (fun v M1 N1 => GN M1 N1 (f v) Q) := fun e => by
    rw [z_5]
    refine c_bad (f := fun v => jp v) hR (fun M' N' a b => w_jp (h M' N' a b)) ?_
    unfold a_many
    rw [if_neg (by omega), if_neg (by omega), if_neg (by omega), if_neg (by omega)]
  refine w_swz hv (fun e => hdef (by omega)) (fun k hk => ?_)
  obtain rfl : v = k := by omega
  by_cases e : 0 ≤ (k : Int) ∧ (k : Int) ≤ 3
  case neg =>
    rw [List.getElem?_eq_none (by show 4 ≤ k; omega)]
    exact hdef e
  rcases (show k = 0 ∨ k = 1 ∨ k = 2 ∨ k = 3 by omega) with rfl | rfl | rfl | rfl
  · show GN M N (jb (jgetA 0 2 c) _) _
    refine w_Cf hR.cl rfl (w_Wp hR.cl.w6 ?_)
    rw [hR.w.pe]
    exact w_gives hR.cl (w_jp (c_fin0 hR h))
  · show GN M N (jb (jgetA 0 2 c) _) _
    refine w_Cf hR.cl rfl (w_Wp hR.cl.w6 ?_)
    rw [hR.w.ne]
    exact w_gives hR.cl (w_jp (c_fin0 hR h))
  · show GN M N (jloop _ _) _
    have h : cPost M N c (stU S 0 0) (f (zI (nzP (sn S) (sT S) (sn S) 0 0))) Q := h
    rw [z_0]
    refine w_up2 (sn S) (fun i x N1 => x = nzP (sn S) (sT S) i 0 0 ∧ N1 = N) 0 0 rfl (by omega) ⟨rfl, rfl⟩ ?_
    rintro i x N1 hi ⟨rfl, rfl⟩
    show GN M N1 (X0_many_L58 c (zI _) (zI _)) _
    unfold X0_many_L58
    refine w_Cf hR.cl rfl (w_Wp hR.cl.w6 ?_)
    rw [hR.w.ne]
    refine w_le ⟨by omega, by omega⟩ ⟨by omega, by omega⟩ (fun hc => ?_) (fun hc => ?_)
    · obtain rfl : i = sn S := by omega
      unfold X0_many_b145
      exact w_jinl (w_gives hR.cl (w_jp (c_fin0 hR h)))
    rw [z_1, zI_add]
    refine w_jlet ?_
    refine w_up2 (sn S) (fun j x N2 => i < j ∧ x = nzP (sn S) (sT S) i j 0 ∧ N2 = N1) (i + 1) _ (by rfl) (by omega) ⟨by omega, nzP_0, rfl⟩ ?_
    rintro j x N2 hj ⟨hij, rfl, rfl⟩
    show GN M N2 (X0_many_L74 c (zI _) (zI _) (zI _)) _
    unfold X0_many_L74
    refine w_Cf hR.cl rfl (w_Wp hR.cl.w6 ?_)
    rw [hR.w.ne]
    refine w_le ⟨by omega, by omega⟩ ⟨by omega, by omega⟩ (fun hd => ?_) (fun hd => ?_)
    · obtain rfl : j = sn S := by omega
      unfold X0_many_b139
      rw [z_1, zI_add]
      exact w_jinl (w_jcont ⟨by omega, _, rfl, nzP_j, rfl⟩)
    rw [z_0]
    refine w_up2 (sn S) (fun k x N3 => x = nzP (sn S) (sT S) i j k ∧ N3 = N2) 0 _ rfl (by omega) ⟨rfl, rfl⟩ ?_
    rintro k x N3 hk2 ⟨rfl, rfl⟩
    show GN M N3 (X0_many_L89 c (zI _) (zI _) (zI _) (zI _)) _
    unfold X0_many_L89
    refine w_Cf hR.cl rfl (w_Wp hR.cl.w6 ?_)
    rw [hR.w.ne]
    refine w_le ⟨by omega, by omega⟩ ⟨by omega, by omega⟩ (fun he => ?_) (fun he => ?_)
    · obtain rfl : k = sn S := by omega
      unfold X0_many_b133
      rw [z_1, zI_add]
      exact w_jinl (w_jcont ⟨by omega, _, rfl, by omega, nzP_k, rfl⟩)
    refine w_Cf hR.cl rfl ?_
    refine w_tab hR.cl.w6 (by omega) (by omega) ?_
    refine w_Wk hR.cl.w6 (by omega) (by omega) (by omega) ?_
    have htb := hR.w.tb i j k
    rw [hR.w.t (by omega) (by omega) (by omega), z_0, z_1]
    unfold X0_many_b125
    refine w_eq ⟨by omega, by omega⟩ ⟨by omega, by omega⟩ (fun hf => ?_) (fun hf => ?_)
    · rw [zI_add, z_1, zI_add]
      refine w_jlet (w_jcont ⟨by omega, _, rfl, ?_, rfl⟩)
      rw [nzP_s, show nzE (sT S) i j k = 0 from if_neg (fun x => x.2 hf)]
    · rw [zI_add, z_1, zI_add]
      refine w_jlet (w_jcont ⟨by omega, _, rfl, ?_, rfl⟩)
      rw [nzP_s, show nzE (sT S) i j k = 1 from if_pos ⟨hij, hf⟩]
  · show GN M N (jloop _ _) _
    have h : cPost M N c (stU S 0 0) (f (zI (shM S 4 : Nat))) Q := h
    rw [z_0]
    refine w_up2 4 (fun j x N1 => x = (shM S j : Nat) ∧ N1 = N) 0 0 rfl (by omega) ⟨rfl, rfl⟩ ?_
    rintro j x N1 hj ⟨rfl, rfl⟩
    show GN M N1 (X0_many_L153 c (zI _) (zI _)) _
    unfold X0_many_L153
    rw [z_4]
    refine w_le ⟨by omega, by omega⟩ ⟨by omega, by omega⟩ (fun hc => ?_) (fun hc => ?_)
    · obtain rfl : j = 4 := by omega
      unfold X0_many_b183
      exact w_jinl (w_gives hR.cl (w_jp (c_fin0 hR h)))
    have hj4 : j < 4 := by omega
    have hlt := shM_lt (S := S) j
    have h16 : 2 ^ j ≤ 2 ^ 4 := Nat.pow_le_pow_right (by omega) (by omega)
    refine w_Cf hR.cl rfl ?_
    refine w_ald (hR.cl.ka (o := 71) (d := (4, 4)) rfl) (by omega) (by omega) ?_
    rw [show ((j : Int).toNat) = j from rfl, z_0]
    have hsh := hR.2.1.2.1 j hj4
    have hnx : shM S (j + 1) = shM S j ||| (match S.1.2.1 j with | none => 0 | some _ => 2 ^ j) := rfl
    unfold X0_many_b175
    cases e2 : S.1.2.1 j with
    | none =>
      rw [e2] at hsh hnx
      rw [show N1 (c + 71) j = 0 from hsh]
      refine w_eq ⟨by omega, by omega⟩ ⟨by omega, by omega⟩ (fun _ => ?_) (fun x => absurd rfl x)
      rw [b_or0 _ (by omega), z_1, zI_add]
      refine w_jlet (w_jcont ⟨hj4, _, rfl, ?_, rfl⟩)
      rw [hnx]
      exact congrArg _ (Nat.or_zero _).symm
    | some y =>
      rw [e2] at hsh hnx
      rw [show N1 (c + 71) j = 1 from hsh.1]
      refine w_eq ⟨by omega, by omega⟩ ⟨by omega, by omega⟩ (fun x => absurd x (by decide)) (fun _ => ?_)
      rw [b_or _ (by omega) j (by omega), z_1, zI_add]
      exact w_jlet (w_jcont ⟨hj4, _, rfl, by rw [hnx], rfl⟩)
theorem m_many {f : Int32 → JM Mem τ} {Q : τ → Mem → NM → Prop} (hR : MR M N m S) (hv : zR v) (h : mPost M N m (stU S 0 (a_many S v).2) (f (zI (a_many S v).1)) Q) : GN M N (jb (jcall 7 m (f_X8_many m (zI v))) f) Q := by
  refine w_Mc hR.ml ?_
  unfold f_X8_many
  refine m_beg hR (fun M1 N1 hS hM hA => ?_)
  have hR1 := hR.be hS
  have hn5 := hA.n5
  have hpb := hA.pb
  rw [zL_int hv, show (0 : Int64) = zL 0 from rfl, show (3 : Int64) = zL 3 from rfl]
  refine w_isIn (zRL_of hv) ⟨by omega, by omega⟩ ⟨by omega, by omega⟩ ?_
  rw [z_0]
  by_cases e : 0 ≤ v ∧ v ≤ 3
  case neg =>
    rw [if_neg e]
    refine w_eq ⟨by omega, by omega⟩ ⟨by omega, by omega⟩ (fun _ => ?_) (fun x => absurd rfl x)
    rw [z_5]
    refine m_bad (f := fun v => jp v) hR hS MFr.rf (fun M' N' a b => w_jp (h M' N' a b)) ?_
    unfold a_many
    rw [if_neg (by omega), if_neg (by omega), if_neg (by omega), if_neg (by omega)]
  rw [if_pos e]
  refine w_eq ⟨by omega, by omega⟩ ⟨by omega, by omega⟩ (fun x => absurd x (by decide)) (fun _ => ?_)
  rw [z_2]
  rcases (show v = 0 ∨ v = 1 ∨ v = 2 ∨ v = 3 by omega) with rfl | rfl | rfl | rfl
  · refine w_le ⟨by omega, by omega⟩ ⟨by omega, by omega⟩ (fun x => absurd x (by decide)) (fun _ => ?_)
    refine w_eq ⟨by omega, by omega⟩ ⟨by omega, by omega⟩ (fun _ => ?_) (fun x => absurd rfl x)
    refine w_MI hM (w_jp ?_)
    rw [hA.pe]
    exact m_fin0 hR hS MFr.rf h
  · refine w_le ⟨by omega, by omega⟩ ⟨by omega, by omega⟩ (fun x => absurd x (by decide)) (fun _ => ?_)
    refine w_eq ⟨by omega, by omega⟩ ⟨by omega, by omega⟩ (fun x => absurd x (by decide)) (fun _ => ?_)
    refine w_MI hM (w_jp ?_)
    rw [hA.ne]
    exact m_fin0 hR hS MFr.rf h
  · have h : mPost M N m (stU S 0 0) (f (zI (nzP (sn S) (sT S) (sn S) 0 0))) Q := h
    refine w_le ⟨by omega, by omega⟩ ⟨by omega, by omega⟩ (fun _ => ?_) (fun x => absurd x (by decide))
    refine w_eq ⟨by omega, by omega⟩ ⟨by omega, by omega⟩ (fun _ => ?_) (fun x => absurd rfl x)
    refine w_up2 (sn S) (fun i x N2 => x = nzP (sn S) (sT S) i 0 0 ∧ N2 = N1) 0 0 rfl (by omega) ⟨rfl, rfl⟩ ?_
    rintro i x N2 hi ⟨rfl, rfl⟩
    show GN M1 N2 (X8_many_L62 m (zI _) (zI _) (zI _)) _
    unfold X8_many_L62
    refine w_MI hM ?_
    rw [hA.ne]
    refine w_le ⟨by omega, by omega⟩ ⟨by omega, by omega⟩ (fun hc => ?_) (fun hc => ?_)
    · obtain rfl : i = sn S := by omega
      unfold X8_many_b134
      rw [z_3]
      refine w_jinl (w_eq ⟨by omega, by omega⟩ ⟨by omega, by omega⟩ (fun x => absurd x (by decide)) (fun _ => ?_))
      exact w_jp (m_fin0 hR hS MFr.rf h)
    rw [z_1, zI_add]
    refine w_jlet ?_
    refine w_up2 (sn S) (fun j x N3 => i < j ∧ x = nzP (sn S) (sT S) i j 0 ∧ N3 = N2) (i + 1) _ (by rfl) (by omega) ⟨by omega, nzP_0, rfl⟩ ?_
    rintro j x N3 hj ⟨hij, rfl, rfl⟩
    show GN M1 N3 (X8_many_L75 m (zI _) (zI _) (zI _) (zI _)) _
    unfold X8_many_L75
    refine w_MI hM ?_
    rw [hA.ne]
    refine w_le ⟨by omega, by omega⟩ ⟨by omega, by omega⟩ (fun hd => ?_) (fun hd => ?_)
    · obtain rfl : j = sn S := by omega
      unfold X8_many_b128
      rw [z_1, zI_add]
      exact w_jinl (w_jcont ⟨by omega, _, rfl, nzP_j, rfl⟩)
    rw [z_0]
    refine w_up2 (sn S) (fun k x N4 => x = nzP (sn S) (sT S) i j k ∧ N4 = N3) 0 _ rfl (by omega) ⟨rfl, rfl⟩ ?_
    rintro k x N4 hk2 ⟨rfl, rfl⟩
    show GN M1 N4 (X8_many_L87 m (zI _) (zI _) (zI _) (zI _) (zI _)) _
    unfold X8_many_L87
    refine w_MI hM ?_
    rw [hA.ne]
    refine w_le ⟨by omega, by omega⟩ ⟨by omega, by omega⟩ (fun he => ?_) (fun he => ?_)
    · obtain rfl : k = sn S := by omega
      unfold X8_many_b122
      rw [z_1, zI_add]
      exact w_jinl (w_jcont ⟨by omega, _, rfl, by omega, nzP_k, rfl⟩)
    have htb := hA.tb i j k
    refine w_mtable hM hA (by omega) (by omega) (by omega) ?_
    rw [z_0, z_1]
    unfold X8_many_b114
    refine w_eq ⟨by omega, by omega⟩ ⟨by omega, by omega⟩ (fun hf => ?_) (fun hf => ?_)
    · rw [zI_add, z_1, zI_add]
      refine w_jlet (w_jcont ⟨by omega, _, rfl, ?_, rfl⟩)
      rw [nzP_s, show nzE (sT S) i j k = 0 from if_neg (fun x => x.2 hf)]
    · rw [zI_add, z_1, zI_add]
      refine w_jlet (w_jcont ⟨by omega, _, rfl, ?_, rfl⟩)
      rw [nzP_s, show nzE (sT S) i j k = 1 from if_pos ⟨hij, hf⟩]
  · have h : mPost M N m (stU S 0 0) (f (zI (shM S 4 : Nat))) Q := h
    refine w_le ⟨by omega, by omega⟩ ⟨by omega, by omega⟩ (fun _ => ?_) (fun x => absurd x (by decide))
    refine w_eq ⟨by omega, by omega⟩ ⟨by omega, by omega⟩ (fun x => absurd x (by decide)) (fun _ => ?_)
    unfold X8_many_b134
    rw [z_3]
    refine w_eq ⟨by omega, by omega⟩ ⟨by omega, by omega⟩ (fun _ => ?_) (fun x => absurd rfl x)
    rw [z_0]
    refine w_up2 4 (fun j x N2 => x = (shM S j : Nat) ∧ N2 = N1) 0 0 rfl (by omega) ⟨rfl, rfl⟩ ?_
    rintro j x N2 hj ⟨rfl, rfl⟩
    show GN M1 N2 (X8_many_L141 m (zI _) (zI _)) _
    unfold X8_many_L141
    rw [z_4]
    refine w_le ⟨by omega, by omega⟩ ⟨by omega, by omega⟩ (fun hc => ?_) (fun hc => ?_)
    · obtain rfl : j = 4 := by omega
      exact w_jinl (w_jp (m_fin0 hR hS MFr.rf h))
    have hj4 : j < 4 := by omega
    have hlt := shM_lt (S := S) j
    have h16 : 2 ^ j ≤ 2 ^ 4 := Nat.pow_le_pow_right (by omega) (by omega)
    have hsh := hR1.2.1.2.1 j hj4
    rw [Nat.zero_add, show (stU S 0 0).1.2.1 j = S.1.2.1 j from rfl] at hsh
    have hnx : shM S (j + 1) = shM S j ||| (match S.1.2.1 j with | none => 0 | some _ => 2 ^ j) := rfl
    refine w_Mf hM rfl ?_
    rw [show (zI (j : Nat) + 1 : Int32) = zI ((j : Int) + 1) from by rw [z_1, zI_add], show (127 : Int32) = zI 127 from rfl, zI_mul]
    refine w_ald (hM.ka (o := 5) (d := (0, 3440)) rfl) (by omega) (by omega) ?_
    rw [show (127 * ((j : Int) + 1)).toNat = 127 * (j + 1) by omega, z_0]
    unfold X8_many_b168
    cases e2 : S.1.2.1 j with
    | none =>
      rw [e2] at hsh hnx
      rw [show N2 (m + 5) (127 * (j + 1)) = 0 from hsh]
      refine w_eq ⟨by omega, by omega⟩ ⟨by omega, by omega⟩ (fun _ => ?_) (fun x => absurd rfl x)
      rw [b_or0 _ (by omega), z_1, zI_add]
      refine w_jlet (w_jcont ⟨hj4, _, rfl, ?_, rfl⟩)
      rw [hnx]
      exact congrArg _ (Nat.or_zero _).symm
    | some y =>
      rw [e2] at hsh hnx
      have hyp := hsh.2.1.pos
      have hy7 := hsh.2.1.le7
      rw [show N2 (m + 5) (127 * (j + 1)) = y.1 from hsh.1.1]
      refine w_eq ⟨by omega, by omega⟩ ⟨by omega, by omega⟩ (fun x => absurd x (by omega)) (fun _ => ?_)
      rw [b_or _ (by omega) j (by omega), z_1, zI_add]
      exact w_jlet (w_jcont ⟨hj4, _, rfl, by rw [hnx], rfl⟩)
end OPS22
