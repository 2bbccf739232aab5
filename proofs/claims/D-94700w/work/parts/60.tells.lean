/-! THE COMPONENT: forms by sets. -/
set_option maxRecDepth 100000
section DBITS
variable {α τ ρ σ : Type} {M : Mem} {N : NM}
theorem b_ot1 : ∀ set, set < 32 → ∀ i, i < 5 → ∀ j, j < 5 → zI (set : Nat) &&& ((((1 : Int32) <<< (zI (i : Nat) &&& 31)) ||| ((1 : Int32) <<< (zI (j : Nat) &&& 31))) ^^^ (-1)) = zI (ot set i j : Nat) := by decide +kernel
theorem b_ot2 : ∀ set, set < 32 → ∀ i, i < 5 → ∀ j, j < 5 → (zI (set : Nat) &&& (((1 : Int32) <<< (zI (i : Nat) &&& 31)) ^^^ (-1))) &&& (((1 : Int32) <<< (zI (j : Nat) &&& 31)) ^^^ (-1)) = zI (ot set i j : Nat) := by decide +kernel
theorem b_low : ∀ set, set < 32 → ∀ l, l < 5 → zI (set : Nat) &&& (((1 : Int32) <<< (zI (l : Nat) &&& 31)) - 1) = zI (set % 2 ^ l : Nat) := by decide +kernel
theorem b_lowc : ∀ set, set < 32 → ∀ l, l < 5 → bcn (set % 2 ^ l) 5 = bcn set l := by decide +kernel
theorem b_or : ∀ o, o < 32 → ∀ l, l < 5 → zI (o : Nat) ||| ((1 : Int32) <<< (zI (l : Nat) &&& 31)) = zI (o ||| 2 ^ l : Nat) := by decide +kernel
theorem w_cnumberOf {f : Int32 → JM Mem τ} {Q : τ → Mem → NM → Prop} {s : Nat} (hs : s < 32) (h : GN M N (f (zI (nos s : Nat))) Q) : GN M N (jb (f_X0_numberOf (zI s)) f) Q := by
  refine w_jb ?_
  unfold f_X0_numberOf
  rw [z_0]
  refine w_up2 s (fun k x N1 => x = (nosN s k : Nat) ∧ N1 = N) 0 0 rfl (by omega) ⟨rfl, rfl⟩ ?_
  rintro k x N1 hk ⟨rfl, rfl⟩
  show GN M N1 (X0_numberOf_L4 (zI _) (zI _) (zI _)) _
  have hb := nosN_le s k
  unfold X0_numberOf_L4
  refine w_le ⟨by omega, by omega⟩ ⟨by omega, by omega⟩ (fun hc => ?_) (fun hc => ?_)
  · have : k = s := by omega
    subst this
    exact w_jinl (w_jp h)
  refine w_bitCount (by omega) ?_
  refine w_bitCount (by omega) ?_
  have h1 := bcn_le k 5
  have h2 := bcn_le s 5
  unfold X0_numberOf_b26
  refine w_eq ⟨by omega, by omega⟩ ⟨by omega, by omega⟩ (fun he => ?_) (fun he => ?_)
  · rw [z_1, zI_add, zI_add]
    refine w_jlet (w_jcont ⟨by omega, _, rfl, ?_, rfl⟩)
    show _ = ((nosN s k + if bcn k 5 = bcn s 5 then 1 else 0 : Nat) : Int)
    rw [if_pos (by omega)]; rfl
  · rw [z_0, z_1, zI_add, zI_add]
    refine w_jlet (w_jcont ⟨by omega, _, rfl, ?_, rfl⟩)
    show _ = ((nosN s k + if bcn k 5 = bcn s 5 then 1 else 0 : Nat) : Int)
    rw [if_neg (by omega)]; rfl
end DBITS
section CMP7
variable {α τ ρ : Type} {M : Mem} {N N' : NM} {c w s : Nat} {p : Int} {n m : Nat} {T : Nat → Nat → Nat → Int}
/-- the sum as far as i, j, l -/
def TRp (n : Nat) (T : Nat → Nat → Nat → Int) (set i j l k : Nat) : Int := sm i (fun i => sm n (fun j => sm n (fun l => tm T set i j l k))) + sm j (fun j => sm n (fun l => tm T set i j l k)) + sm l (fun l => tm T set i j l k)
theorem w_tellsOf {f : Unit → JM Mem τ} {Q : τ → Mem → NM → Prop} {to d set : Nat} (hW : WL M w) (hD : WD N w p n T) (hset : set < 2 ^ n) (hd : bcn set 5 = d + 1) (hd6 : d < 6) (hK : mK M to = some (.inr (0, 32))) (ht : to < w ∨ w + 32 ≤ to)
    (hz : ∀ k, k < 16 → N to k = 0) (h : ∀ N', (∀ k, k < 16 → N' to k = TR n T set k % p) → (∀ b, b ≠ to → N' b = N b) → GN M N' (f ()) Q) : GN M N (jb (f_X0_tellsOf w (zI set) to) f) Q := by
  have hpb := hD.pb
  have hn5 := hD.n5
  have hs32 : set < 32 := by
    have := (two_pow hn5).1
    omega
  have frw : ∀ N1 : NM, (∀ b, b ≠ to → N1 b = N b) → WD N1 w p n T := fun N1 g => hD.fr (fun b h1 h2 => g b (by omega))
  refine w_jb ?_
  unfold f_X0_tellsOf
  rw [z_0]
  refine w_up2 n (fun i x N1 => x = (bcn set i : Nat) ∧ (∀ k, k < 16 → N1 to k = TRp n T set i 0 0 k % p) ∧ ∀ b, b ≠ to → N1 b = N b) 0 0 rfl (by omega) ⟨rfl, fun k hk => by rw [hz k hk]; show (0 : Int) = (0 + 0 + 0) % p; rw [show (0 : Int) + 0 + 0 = 0 from rfl, Int.zero_emod], fun _ _ => rfl⟩ ?_
  rintro i x N1 hi ⟨rfl, g1, g2⟩
  show GN M N1 (X0_tellsOf_L5 w (zI _) to (zI _) (zI _)) _
  have hbi := bcn_le set i
  unfold X0_tellsOf_L5
  refine w_Wp hW ?_
  rw [(frw N1 g2).ne]
  refine w_le ⟨by omega, by omega⟩ ⟨by omega, by omega⟩ (fun hc => ?_) (fun hc => ?_)
  · have hin : i = n := by omega
    subst hin
    refine w_jinl (w_jp (h N1 (fun k hk => ?_) g2))
    rw [g1 k hk]
    congr 1
    show TR i T set k + (0 : Int) + 0 = _
    omega
  have hin : i < n := by omega
  have erow : ∀ k, TRp n T set (i + 1) 0 0 k = TRp n T set i n 0 k := fun k => by
    show (sm i (fun i => sm n (fun j => sm n (fun l => tm T set i j l k))) + sm n (fun j => sm n (fun l => tm T set i j l k))) + (0 : Int) + 0 = _
    show _ = _ + sm n _ + (0 : Int)
    omega
  rw [bit_and set hs32 i (by omega), z_0]
  refine w_eq ⟨by omega, by omega⟩ ⟨by omega, by omega⟩ (fun hb => ?_) (fun hb => ?_)
  · unfold X0_tellsOf_b203
    rw [z_1, zI_add]
    have hnb : ¬ set / 2 ^ i % 2 = 1 := by omega
    refine w_jcont ⟨hin, _, rfl, by rw [bcn_f (fun x => hnb x)], fun k hk => ?_, g2⟩
    rw [g1 k hk, erow k]
    congr 1
    show _ + (0 : Int) + 0 = _ + _ + (0 : Int)
    rw [(sm_congr (n := n) (g := fun _ => 0) (fun j _ => (sm_congr (g := fun _ => 0) (fun l _ => tm_0 (fun x => hnb x.2.1))).trans (sm_zero n))).trans (sm_zero n)]
  have hbt : set / 2 ^ i % 2 = 1 := by omega
  have hb1 : bcn set (i + 1) = bcn set i + 1 := bcn_t hbt
  rw [z_1, zI_add, zI_add]
  refine w_jlet (w_jlet ?_)
  have ej0 : ∀ j, j ≤ i + 1 → ∀ k, sm j (fun j => sm n (fun l => tm T set i j l k)) = 0 := fun j hj k => by
    refine (sm_congr (g := fun _ => 0) (fun j' hj' => ?_)).trans (sm_zero j)
    exact (sm_congr (g := fun _ => 0) (fun l _ => tm_0 (fun x => by have := x.1; omega))).trans (sm_zero n)
  refine w_up2 n (fun j x N2 => i < j ∧ x = (bcn set j : Nat) ∧ (∀ k, k < 16 → N2 to k = TRp n T set i j 0 k % p) ∧ ∀ b, b ≠ to → N2 b = N b) (i + 1) _ (by rfl) (by omega)
    ⟨by omega, by omega, fun k hk => by
      rw [g1 k hk]
      congr 1
      show _ + (0 : Int) + 0 = _ + _ + (0 : Int)
      rw [ej0 (i + 1) (Nat.le_refl _) k], g2⟩ ?_
  rintro j x N2 hj ⟨hij, rfl, k1, k2⟩
  show GN M N2 (X0_tellsOf_L37 w (zI _) to (zI _) (zI _) (zI _) (zI _)) _
  have hbj := bcn_le set j
  unfold X0_tellsOf_L37
  refine w_Wp hW ?_
  rw [(frw N2 k2).ne]
  refine w_le ⟨by omega, by omega⟩ ⟨by omega, by omega⟩ (fun he => ?_) (fun he => ?_)
  · have hjn : j = n := by omega
    subst hjn
    unfold X0_tellsOf_b200 X0_tellsOf_b203
    rw [z_1, zI_add, zI_add]
    exact w_jinl (w_jcont ⟨hin, _, rfl, by omega, fun k hk => by rw [k1 k hk, erow k], k2⟩)
  have hjn : j < n := by omega
  have erow2 : ∀ k, TRp n T set i (j + 1) 0 k = TRp n T set i j n k := fun k => by
    show _ + (sm j (fun j => sm n (fun l => tm T set i j l k)) + sm n (fun l => tm T set i j l k)) + (0 : Int) = _ + _ + _
    omega
  rw [bit_and set hs32 j (by omega), z_0]
  refine w_eq ⟨by omega, by omega⟩ ⟨by omega, by omega⟩ (fun hf => ?_) (fun hf => ?_)
  · unfold X0_tellsOf_b194
    rw [z_1, zI_add]
    have hnb : ¬ set / 2 ^ j % 2 = 1 := by omega
    refine w_jcont ⟨hjn, _, rfl, by omega, by rw [bcn_f (fun x => hnb x)], fun k hk => ?_, k2⟩
    rw [k1 k hk, erow2 k]
    congr 1
    show _ + _ + (0 : Int) = _ + _ + _
    rw [(sm_congr (n := n) (g := fun _ => 0) (fun l _ => tm_0 (fun x => hnb x.2.2.1))).trans (sm_zero n)]
  have hbtj : set / 2 ^ j % 2 = 1 := by omega
  have hbj1 : bcn set (j + 1) = bcn set j + 1 := bcn_t hbtj
  rw [b_ot1 set hs32 i (by omega) j (by omega)]
  have hot := ot_lt n (by omega) set hset i (by omega) j (by omega)
  have h2n := (two_pow hn5).1
  refine w_jlet ?_
  refine w_up n (fun l N3 => (∀ k, k < 16 → N3 to k = TRp n T set i j l k % p) ∧ ∀ b, b ≠ to → N3 b = N b) 0 rfl (by omega) ⟨k1, k2⟩ ?_
  rintro l N3 hl ⟨o1, o2⟩
  unfold X0_tellsOf_L76
  refine w_Wp hW ?_
  rw [(frw N3 o2).ne]
  refine w_le ⟨by omega, by omega⟩ ⟨by omega, by omega⟩ (fun hg => ?_) (fun hg => ?_)
  · have hln : l = n := by omega
    subst hln
    unfold X0_tellsOf_b191 X0_tellsOf_b194
    rw [z_1, zI_add, zI_add]
    exact w_jinl (w_jcont ⟨hjn, _, rfl, by omega, by omega, fun k hk => by rw [o1 k hk, erow2 k], o2⟩)
  have hln : l < n := by omega
  have hT := hD.tb i j l
  have hskip : (∀ k, tm T set i j l k = 0) → GN M N3 (X0_tellsOf_b185 w (zI set) to (zI (bcn set i : Nat)) (zI i) (zI (bcn set j : Nat)) (zI j) (zI (ot set i j : Nat)) (zI l)) (LQ (LQ (LQ (fun v M1 N1 => GN M1 N1 (f v) Q) (KF M (fun t N1 => i < n ∧ ∃ a1, t = (zI a1, zI ((i : Int) + 1)) ∧ a1 = (bcn set (i + 1) : Nat) ∧ (∀ k, k < 16 → N1 to k = TRp n T set (i + 1) 0 0 k % p) ∧ ∀ b, b ≠ to → N1 b = N b)))
      (KF M (fun t N2 => j < n ∧ ∃ a1, t = (zI a1, zI ((j : Int) + 1)) ∧ i < j + 1 ∧ a1 = (bcn set (j + 1) : Nat) ∧ (∀ k, k < 16 → N2 to k = TRp n T set i (j + 1) 0 k % p) ∧ ∀ b, b ≠ to → N2 b = N b)))
      (KF M (fun t N3 => l < n ∧ t = zI ((l : Int) + 1) ∧ (∀ k, k < 16 → N3 to k = TRp n T set i j (l + 1) k % p) ∧ ∀ b, b ≠ to → N3 b = N b))) := by
    intro ht0
    unfold X0_tellsOf_b185
    rw [z_1, zI_add]
    refine w_jcont ⟨hln, rfl, fun k hk => ?_, o2⟩
    rw [o1 k hk]
    congr 1
    show _ + _ + _ = _ + _ + (_ + tm T set i j l k)
    rw [ht0 k]
    omega
  refine w_tab hW (by omega) (by omega) ?_
  refine w_Wk hW (by omega) (by omega) (by omega) ?_
  rw [(frw N3 o2).t (by omega) (by omega) (by omega), z_0]
  refine w_eq ⟨by omega, by omega⟩ ⟨by omega, by omega⟩ (fun h0 => ?_) (fun h0 => ?_)
  · refine hskip (fun k => ?_)
    unfold tm
    rw [h0, Int.mul_zero]
    split <;> rfl
  rw [bit_and _ (show ot set i j < 32 by omega) l (by omega), z_1]
  refine w_eq ⟨by omega, by omega⟩ ⟨by omega, by omega⟩ (fun h1 => ?_) (fun h1 => ?_)
  · exact hskip (fun k => tm_0 (fun x => x.2.2.2.1 (by omega)))
  have hnb : ¬ ot set i j / 2 ^ l % 2 = 1 := by omega
  have e1 := b_low _ (show ot set i j < 32 by omega) l (by omega)
  rw [z_1] at e1
  rw [e1]
  have hlow : ot set i j % 2 ^ l < 32 := Nat.lt_of_le_of_lt (Nat.mod_le _ _) (by omega)
  refine w_bitCount hlow ?_
  rw [b_lowc _ (show ot set i j < 32 by omega) l (by omega)]
  have hbl := bcn_le (ot set i j) l
  rw [zI_add, zI_add]
  refine w_jlet ?_
  have e2 := b_or _ (show ot set i j < 32 by omega) l (by omega)
  rw [z_1] at e2
  rw [e2]
  have hor := ot_or n (by omega) _ hot l hln
  refine w_cnumberOf (by omega) ?_
  have hcnt := ot_cnt set hs32 i (by omega) j (by omega) l (by omega) hij hbt hbtj hnb
  have hno := nos_lt n (by omega) _ hor
  have hse := ses_le n (by omega) d hd6
  rw [show bcn (ot set i j ||| 2 ^ l) 5 = d by omega] at hno
  refine w_ald hK (by omega) (by omega) ?_
  rw [show (((nos (ot set i j ||| 2 ^ l) : Nat) : Int)).toNat = nos (ot set i j ||| 2 ^ l) from rfl, o1 _ (by omega), z_2]
  refine w_remP ⟨by omega, by omega, by omega⟩ ⟨by omega, by omega, by omega⟩ ?_
  have hput : ∀ sg : Int, sg = sgn set i j l → GN M N3 (X0_tellsOf_b166 w (zI set) to (zI (bcn set i : Nat)) (zI i) (zI (bcn set j : Nat)) (zI j) (zI (ot set i j : Nat)) (zI l) to (zI (nos (ot set i j ||| 2 ^ l) : Nat)) w (zI (TRp n T set i j l (nos (ot set i j ||| 2 ^ l)) % p)) (zI sg)) (LQ (LQ (LQ (fun v M1 N1 => GN M1 N1 (f v) Q) (KF M (fun t N1 => i < n ∧ ∃ a1, t = (zI a1, zI ((i : Int) + 1)) ∧ a1 = (bcn set (i + 1) : Nat) ∧ (∀ k, k < 16 → N1 to k = TRp n T set (i + 1) 0 0 k % p) ∧ ∀ b, b ≠ to → N1 b = N b)))
      (KF M (fun t N2 => j < n ∧ ∃ a1, t = (zI a1, zI ((j : Int) + 1)) ∧ i < j + 1 ∧ a1 = (bcn set (j + 1) : Nat) ∧ (∀ k, k < 16 → N2 to k = TRp n T set i (j + 1) 0 k % p) ∧ ∀ b, b ≠ to → N2 b = N b)))
      (KF M (fun t N3 => l < n ∧ t = zI ((l : Int) + 1) ∧ (∀ k, k < 16 → N3 to k = TRp n T set i j (l + 1) k % p) ∧ ∀ b, b ≠ to → N3 b = N b))) := by
    intro sg hsg
    have hsb : sg = 1 ∨ sg = -1 := by
      rw [hsg]
      unfold sgn
      split
      · exact Or.inl rfl
      · exact Or.inr rfl
    have hm1 := Int.emod_nonneg (TRp n T set i j l (nos (ot set i j ||| 2 ^ l))) (show p ≠ 0 by omega)
    have hm2 := Int.emod_lt_of_pos (TRp n T set i j l (nos (ot set i j ||| 2 ^ l))) (show 0 < p by omega)
    have hsT : -7 ≤ sg * T i j l ∧ sg * T i j l ≤ 7 := by rcases hsb with e | e <;> rw [e] <;> omega
    unfold X0_tellsOf_b166
    refine w_tab hW (by omega) (by omega) ?_
    refine w_Wk hW (by omega) (by omega) (by omega) ?_
    rw [(frw N3 o2).t (by omega) (by omega) (by omega), zI_mul, zI_add]
    refine w_by hW (by rw [(frw N3 o2).pe]; omega) ⟨by omega, by omega⟩ ?_
    rw [(frw N3 o2).pe]
    refine w_ast hK (by omega) (by omega) ?_
    unfold X0_tellsOf_b185
    rw [z_1, zI_add]
    refine w_jcont ⟨hln, rfl, fun k hk => ?_, fun b hb => ?_⟩
    · show (if to = to ∧ k = nos (ot set i j ||| 2 ^ l) then _ else N3 to k) = (_ + _ + (_ + tm T set i j l k)) % p
      by_cases c1 : k = nos (ot set i j ||| 2 ^ l)
      · rw [if_pos ⟨rfl, c1⟩, Int.emod_add_emod]
        congr 1
        rw [show tm T set i j l k = sg * T i j l by rw [hsg]; exact if_pos ⟨hij, hbt, hbtj, hnb, c1.symm⟩, c1]
        unfold TRp
        omega
      · rw [if_neg (fun x => c1 x.2), o1 k hk, tm_0 (fun x => c1 x.2.2.2.2.symm)]
        congr 1
        unfold TRp
        omega
    · funext k
      show (if b = to ∧ _ then _ else N3 b k) = _
      rw [if_neg (fun e => hb e.1), o2 b hb]
  refine w_eq ⟨by omega, by omega⟩ ⟨by omega, by omega⟩ (fun hp0 => ?_) (fun hp0 => ?_)
  · exact hput 1 (by unfold sgn; rw [if_pos (by omega)])
  · rw [zI_neg]; exact hput (-1) (by unfold sgn; rw [if_neg (by omega)])
end CMP7
