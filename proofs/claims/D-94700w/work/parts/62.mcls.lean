/-! THE MODEL: forms by sets, classes. -/
set_option maxRecDepth 100000
section MOD8
variable {α τ : Type} {M : Mem} {N N' : NM} {m a b to W B L : Nat} {p : Int} {n q qa qb : Nat} {T : Nat → Nat → Nat → Int}
theorem w_bits {f : Int32 → JM Mem τ} {Q : τ → Mem → NM → Prop} {s : Nat} (hs : s < 32) (h : GN M N (f (zI (bcn s 5 : Nat))) Q) : GN M N (jb (f_X8_bits (zI s)) f) Q := by
  refine w_jb ?_
  unfold f_X8_bits
  rw [z_0]
  refine w_up2 5 (fun k x N1 => x = (bcn s k : Nat) ∧ N1 = N) 0 0 rfl (by omega) ⟨rfl, rfl⟩ ?_
  rintro k x N1 hk ⟨rfl, rfl⟩
  show GN M N1 (X8_bits_L4 (zI _) (zI _) (zI _)) _
  have hb := bcn_le s k
  unfold X8_bits_L4
  rw [z_5]
  refine w_le ⟨by omega, by omega⟩ ⟨by omega, by omega⟩ (fun hc => ?_) (fun hc => ?_)
  · have : k = 5 := by omega
    subst this
    exact w_jinl (w_jp h)
  rw [bit_and s hs k (by omega), zI_add, z_1, zI_add]
  exact w_jlet (w_jcont ⟨by omega, _, rfl, by rw [bcn_s]; rfl, rfl⟩)
theorem w_numberOfSet {f : Int32 → JM Mem τ} {Q : τ → Mem → NM → Prop} {s : Nat} (hM : ML M m) (hs : s < 32) (h : GN M N (f (zI (nos s : Nat))) Q) : GN M N (jb (jcall 7 m (f_X8_numberOfSet m (zI s))) f) Q := by
  refine w_Mc hM ?_
  unfold f_X8_numberOfSet
  rw [z_0]
  refine w_up2 s (fun k x N1 => x = (nosN s k : Nat) ∧ N1 = N) 0 0 rfl (by omega) ⟨rfl, rfl⟩ ?_
  rintro k x N1 hk ⟨rfl, rfl⟩
  show GN M N1 (X8_numberOfSet_L4 (zI _) (zI _) (zI _)) _
  have hb := nosN_le s k
  unfold X8_numberOfSet_L4
  refine w_le ⟨by omega, by omega⟩ ⟨by omega, by omega⟩ (fun hc => ?_) (fun hc => ?_)
  · have : k = s := by omega
    subst this
    exact w_jinl (w_jp h)
  refine w_bits (by omega) ?_
  refine w_bits (by omega) ?_
  have h1 := bcn_le k 5
  have h2 := bcn_le s 5
  unfold X8_numberOfSet_b26
  refine w_eq ⟨by omega, by omega⟩ ⟨by omega, by omega⟩ (fun he => ?_) (fun he => ?_)
  · rw [z_1, zI_add, zI_add]
    refine w_jlet (w_jcont ⟨by omega, _, rfl, ?_, rfl⟩)
    show _ = ((nosN s k + if bcn k 5 = bcn s 5 then 1 else 0 : Nat) : Int)
    rw [if_pos (by omega)]; rfl
  · rw [z_0, z_1, zI_add, zI_add]
    refine w_jlet (w_jcont ⟨by omega, _, rfl, ?_, rfl⟩)
    show _ = ((nosN s k + if bcn k 5 = bcn s 5 then 1 else 0 : Nat) : Int)
    rw [if_neg (by omega)]; rfl
theorem w_setsOf {f : Int32 → JM Mem τ} {Q : τ → Mem → NM → Prop} {d : Nat} (hM : ML M m) (hn : N m 27 = n ∧ n ≤ 5) (hd : d ≤ 10) (h : GN M N (f (zI (ses n d : Nat))) Q) : GN M N (jb (jcall 7 m (f_X8_setsOf m (zI d))) f) Q := by
  have h2n := two_pow hn.2
  refine w_Mc hM ?_
  unfold f_X8_setsOf
  rw [z_0]
  refine w_up2 (2 ^ n) (fun set x N1 => x = (seN d set : Nat) ∧ N1 = N) 0 0 rfl (by omega) ⟨rfl, rfl⟩ ?_
  rintro set x N1 hset ⟨rfl, rfl⟩
  show GN M N1 (X8_setsOf_L4 m (zI _) (zI _) (zI _)) _
  have hsl := seN_le d set
  unfold X8_setsOf_L4
  refine w_MI hM ?_
  rw [hn.1, bit_shl n (by omega)]
  refine w_le ⟨by omega, by omega⟩ ⟨by omega, by omega⟩ (fun hc => ?_) (fun hc => ?_)
  · have hse2 : set = 2 ^ n := by omega
    subst hse2
    exact w_jinl (w_jp h)
  have hbl := bcn_le set 5
  refine w_bits (by omega) ?_
  have hput : ∀ x : Int, x = (if bcn set 5 = d then 1 else 0) → GN M N1 (X8_setsOf_b28 m (zI d) (zI set) (zI (seN d set : Nat)) (zI x)) (LQ (fun v M1 N1 => GN M1 N1 (f v) Q) (KF M (fun t N2 => set < 2 ^ n ∧ ∃ a1, t = (zI a1, zI ((set : Int) + 1)) ∧ a1 = (seN d (set + 1) : Nat) ∧ N2 = N1))) := by
    intro x hx
    unfold X8_setsOf_b28
    rw [zI_add, z_1, zI_add]
    refine w_jlet (w_jcont ⟨by omega, _, rfl, ?_, rfl⟩)
    show _ = ((seN d set + (if bcn set 5 = d then 1 else 0) : Nat) : Int)
    rw [hx]
    split <;> omega
  refine w_eq ⟨by omega, by omega⟩ ⟨by omega, by omega⟩ (fun he => ?_) (fun he => ?_)
  · rw [z_1]; exact hput 1 (by rw [if_pos (by omega)])
  · rw [z_0]; exact hput 0 (by rw [if_neg (by omega)])
theorem w_rowOfD {f : Unit → JM Mem τ} {Q : τ → Mem → NM → Prop} {d set : Nat} (hM : ML M m) (hA : MA M N m W B p n T) (hset : set < 2 ^ n) (hd : bcn set 5 = d + 1) (hd6 : d < 6)
    (h : ∀ N', (∀ k, k < ses n d → N' (m + 19) k = TR n T set k % p) → (∀ b, b ≠ m + 19 → N' b = N b) → GN M N' (f ()) Q) : GN M N (jb (jcall 7 m (f_X8_rowOfD m (zI set) (zI (ses n d : Nat)))) f) Q := by
  have hpb := hA.pb
  have hn5 := hA.n5
  have hWe := hA.We
  have h2n := two_pow hn5
  have hs32 : set < 32 := by omega
  have hse := ses_le n (by omega) d hd6
  have k19 := hM.ka (o := 19) (d := (0, 30)) rfl
  have frA : ∀ N1 : NM, (∀ b, b ≠ m + 19 → N1 b = N b) → MA M N1 m W B p n T := fun N1 g => hA.fr (g m (by omega)) (g W (by omega))
  refine w_Mc hM ?_
  unfold f_X8_rowOfD
  rw [z_0]
  refine w_up (ses n d) (fun k N1 => N1 = wrj N (m + 19) k (fun _ => 0)) 0 rfl (by omega) wrj_0.symm ?_
  rintro k N1 hk rfl
  unfold X8_rowOfD_L2
  refine w_le ⟨by omega, by omega⟩ ⟨by omega, by omega⟩ (fun hc => ?_) (fun hc => ?_)
  rotate_left
  · refine w_Mf hM rfl ?_
    rw [z_0]
    refine w_ast k19 (by omega) (by omega) ?_
    rw [show ((k : Int).toNat) = k from rfl, wrj_up (g := fun _ => 0) (v := 0) rfl, z_1, zI_add]
    exact w_jcont ⟨by omega, rfl, rfl⟩
  have hks : k = ses n d := by omega
  subst hks
  unfold X8_rowOfD_b20
  refine w_jinl ?_
  rw [z_0]
  refine w_up n (fun i N1 => (∀ k, k < ses n d → N1 (m + 19) k = TRp n T set i 0 0 k % p) ∧ ∀ b, b ≠ m + 19 → N1 b = N b) 0 rfl (by omega) ⟨fun k hk => by
    rw [show wrj N (m + 19) (ses n d) (fun _ => 0) (m + 19) k = 0 from if_pos ⟨rfl, hk⟩]
    show (0 : Int) = (0 + 0 + 0) % p
    rw [show (0 : Int) + 0 + 0 = 0 from rfl, Int.zero_emod], fun b hb => wrj_ne hb⟩ ?_
  rintro i N1 hi ⟨g1, g2⟩
  unfold X8_rowOfD_L22
  refine w_MI hM ?_
  rw [(frA N1 g2).ne]
  refine w_le ⟨by omega, by omega⟩ ⟨by omega, by omega⟩ (fun hd2 => ?_) (fun hd2 => ?_)
  · have hin : i = n := by omega
    subst hin
    refine w_jinl (w_jp (h N1 (fun k hk => ?_) g2))
    rw [g1 k hk]
    congr 1
    show TR i T set k + (0 : Int) + 0 = _
    omega
  have hin : i < n := by omega
  have erow : ∀ k, TRp n T set (i + 1) 0 0 k = TRp n T set i n 0 k := fun k => by
    show (sm i (fun i => sm n (fun j => sm n (fun l => tm T set i j l k))) + sm n (fun j => sm n (fun l => tm T set i j l k))) + (0 : Int) + 0 = _
    show _ = _ + sm n _ + (0 : Int)
    omega
  have ej0 : ∀ j, j ≤ i + 1 → ∀ k, sm j (fun j => sm n (fun l => tm T set i j l k)) = 0 := fun j hj k => by
    refine (sm_congr (g := fun _ => 0) (fun j' hj' => ?_)).trans (sm_zero j)
    exact (sm_congr (g := fun _ => 0) (fun l _ => tm_0 (fun x => by have := x.1; omega))).trans (sm_zero n)
  rw [z_1, zI_add]
  refine w_jlet ?_
  refine w_up n (fun j N2 => i < j ∧ (∀ k, k < ses n d → N2 (m + 19) k = TRp n T set i j 0 k % p) ∧ ∀ b, b ≠ m + 19 → N2 b = N b) (i + 1) (by rfl) (by omega)
    ⟨by omega, fun k hk => by
      rw [g1 k hk]
      congr 1
      show _ + (0 : Int) + 0 = _ + _ + (0 : Int)
      rw [ej0 (i + 1) (Nat.le_refl _) k], g2⟩ ?_
  rintro j N2 hj ⟨hij, k1, k2⟩
  unfold X8_rowOfD_L35
  refine w_MI hM ?_
  rw [(frA N2 k2).ne]
  refine w_le ⟨by omega, by omega⟩ ⟨by omega, by omega⟩ (fun he => ?_) (fun he => ?_)
  · have hjn : j = n := by omega
    subst hjn
    unfold X8_rowOfD_b220
    rw [z_1, zI_add]
    exact w_jinl (w_jcont ⟨hin, rfl, fun k hk => by rw [k1 k hk, erow k], k2⟩)
  have hjn : j < n := by omega
  have erow2 : ∀ k, TRp n T set i (j + 1) 0 k = TRp n T set i j n k := fun k => by
    show _ + (sm j (fun j => sm n (fun l => tm T set i j l k)) + sm n (fun l => tm T set i j l k)) + (0 : Int) = _ + _ + _
    omega
  have hskipj : (∀ k, sm n (fun l => tm T set i j l k) = 0) → GN M N2 (X8_rowOfD_b214 m (zI set) (zI i) (zI j)) (LQ (LQ (fun v M1 N1 => GN M1 N1 (f v) Q) (KF M (fun t N1 => i < n ∧ t = zI ((i : Int) + 1) ∧ (∀ k, k < ses n d → N1 (m + 19) k = TRp n T set (i + 1) 0 0 k % p) ∧ ∀ b, b ≠ m + 19 → N1 b = N b)))
      (KF M (fun t N2 => j < n ∧ t = zI ((j : Int) + 1) ∧ i < j + 1 ∧ (∀ k, k < ses n d → N2 (m + 19) k = TRp n T set i (j + 1) 0 k % p) ∧ ∀ b, b ≠ m + 19 → N2 b = N b))) := by
    intro h0
    unfold X8_rowOfD_b214
    rw [z_1, zI_add]
    refine w_jcont ⟨hjn, rfl, by omega, fun k hk => ?_, k2⟩
    rw [k1 k hk, erow2 k]
    congr 1
    show _ + _ + (0 : Int) = _ + _ + sm n _
    rw [h0 k]
  rw [bit_and set hs32 i (by omega), bit_and set hs32 j (by omega), z_0]
  refine w_eq ⟨by omega, by omega⟩ ⟨by omega, by omega⟩ (fun hb => ?_) (fun hb => ?_)
  · exact hskipj (fun k => (sm_congr (n := n) (g := fun _ => 0) (fun l _ => tm_0 (fun x => by have := x.2.1; omega))).trans (sm_zero n))
  refine w_eq ⟨by omega, by omega⟩ ⟨by omega, by omega⟩ (fun hb2 => ?_) (fun hb2 => ?_)
  · exact hskipj (fun k => (sm_congr (n := n) (g := fun _ => 0) (fun l _ => tm_0 (fun x => by have := x.2.2.1; omega))).trans (sm_zero n))
  have hbt : set / 2 ^ i % 2 = 1 := by omega
  have hbtj : set / 2 ^ j % 2 = 1 := by omega
  have hmodi : set % 2 ^ i < 32 := Nat.lt_of_le_of_lt (Nat.mod_le _ _) hs32
  have hmodj : set % 2 ^ j < 32 := Nat.lt_of_le_of_lt (Nat.mod_le _ _) hs32
  rw [b_low set hs32 i (by omega)]
  refine w_bits hmodi ?_
  rw [b_low set hs32 j (by omega)]
  refine w_bits hmodj ?_
  rw [b_lowc set hs32 i (by omega), b_lowc set hs32 j (by omega), b_ot2 set hs32 i (by omega) j (by omega)]
  have hot := ot_lt n (by omega) set hset i (by omega) j (by omega)
  have hbi := bcn_le set i
  have hbj := bcn_le set j
  refine w_jlet ?_
  refine w_up n (fun l N3 => (∀ k, k < ses n d → N3 (m + 19) k = TRp n T set i j l k % p) ∧ ∀ b, b ≠ m + 19 → N3 b = N b) 0 rfl (by omega) ⟨k1, k2⟩ ?_
  rintro l N3 hl ⟨o1, o2⟩
  have hA3 := frA N3 o2
  unfold X8_rowOfD_L108
  refine w_MI hM ?_
  rw [hA3.ne]
  refine w_le ⟨by omega, by omega⟩ ⟨by omega, by omega⟩ (fun hg => ?_) (fun hg => ?_)
  · have hln : l = n := by omega
    subst hln
    unfold X8_rowOfD_b214
    rw [z_1, zI_add]
    exact w_jinl (w_jcont ⟨hjn, rfl, by omega, fun k hk => by rw [o1 k hk, erow2 k], o2⟩)
  have hln : l < n := by omega
  have hT := hA.tb i j l
  rw [bit_and _ (show ot set i j < 32 by omega) l (by omega)]
  refine w_eq (y := 1) ⟨by omega, by omega⟩ ⟨by omega, by omega⟩ (fun h1 => ?_) (fun h1 => ?_)
  · unfold X8_rowOfD_b208
    rw [z_1, zI_add]
    refine w_jcont ⟨hln, rfl, fun k hk => ?_, o2⟩
    rw [o1 k hk]
    congr 1
    show _ + _ + _ = _ + _ + (_ + tm T set i j l k)
    rw [tm_0 (fun x => x.2.2.2.1 (by omega))]
    omega
  have hnb : ¬ ot set i j / 2 ^ l % 2 = 1 := by omega
  have hlow : ot set i j % 2 ^ l < 32 := Nat.lt_of_le_of_lt (Nat.mod_le _ _) (by omega)
  rw [b_low _ (show ot set i j < 32 by omega) l (by omega)]
  refine w_bits hlow ?_
  rw [b_lowc _ (show ot set i j < 32 by omega) l (by omega)]
  have hbl := bcn_le (ot set i j) l
  rw [zI_add, zI_add]
  refine w_jlet ?_
  rw [b_or _ (show ot set i j < 32 by omega) l (by omega)]
  have hor := ot_or n (by omega) _ hot l hln
  refine w_numberOfSet hM (by omega) ?_
  have hcnt := ot_cnt set hs32 i (by omega) j (by omega) l (by omega) hij hbt hbtj hnb
  have hno := nos_lt n (by omega) _ hor
  rw [show bcn (ot set i j ||| 2 ^ l) 5 = d by omega] at hno
  refine w_Mf hM rfl (w_Mf hM rfl ?_)
  refine w_ald k19 (by omega) (by omega) ?_
  rw [show (((nos (ot set i j ||| 2 ^ l) : Nat) : Int)).toNat = nos (ot set i j ||| 2 ^ l) from rfl, o1 _ hno, z_2]
  refine w_remP ⟨by omega, by omega, by omega⟩ ⟨by omega, by omega, by omega⟩ ?_
  have hput : ∀ sg : Int, sg = sgn set i j l → GN M N3 (X8_rowOfD_b189 m (zI set) (zI i) (zI j) (zI (bcn set i : Nat)) (zI (bcn set j : Nat)) (zI (ot set i j : Nat)) (zI l) (m + 19) (zI (nos (ot set i j ||| 2 ^ l) : Nat)) (zI (TRp n T set i j l (nos (ot set i j ||| 2 ^ l)) % p)) (zI sg)) (LQ (LQ (LQ (fun v M1 N1 => GN M1 N1 (f v) Q) (KF M (fun t N1 => i < n ∧ t = zI ((i : Int) + 1) ∧ (∀ k, k < ses n d → N1 (m + 19) k = TRp n T set (i + 1) 0 0 k % p) ∧ ∀ b, b ≠ m + 19 → N1 b = N b)))
      (KF M (fun t N2 => j < n ∧ t = zI ((j : Int) + 1) ∧ i < j + 1 ∧ (∀ k, k < ses n d → N2 (m + 19) k = TRp n T set i (j + 1) 0 k % p) ∧ ∀ b, b ≠ m + 19 → N2 b = N b)))
      (KF M (fun t N3 => l < n ∧ t = zI ((l : Int) + 1) ∧ (∀ k, k < ses n d → N3 (m + 19) k = TRp n T set i j (l + 1) k % p) ∧ ∀ b, b ≠ m + 19 → N3 b = N b))) := by
    intro sg hsg
    have hsb : sg = 1 ∨ sg = -1 := by
      rw [hsg]
      unfold sgn
      split
      · exact Or.inl rfl
      · exact Or.inr rfl
    have hm1 := Int.emod_nonneg (TRp n T set i j l (nos (ot set i j ||| 2 ^ l))) (show p ≠ 0 by omega)
    have hm2 := Int.emod_lt_of_pos (TRp n T set i j l (nos (ot set i j ||| 2 ^ l))) (show 0 < p by omega)
    have hsT : -7 ≤ sg * T i j l ∧ sg * T i j l ≤ 7 := by rcases hsb with e | e <;> rw [e] <;> omega
    unfold X8_rowOfD_b189
    refine w_mtable hM hA3 (by omega) (by omega) (by omega) ?_
    refine w_MI hM ?_
    rw [hA3.pe, zI_mul, zI_add]
    refine w_left (by omega) (by omega) ?_
    refine w_ast k19 (by omega) (by omega) ?_
    unfold X8_rowOfD_b208
    rw [z_1, zI_add]
    refine w_jcont ⟨hln, rfl, fun k hk => ?_, fun b hb => ?_⟩
    · show (if m + 19 = m + 19 ∧ k = nos (ot set i j ||| 2 ^ l) then _ else N3 (m + 19) k) = (_ + _ + (_ + tm T set i j l k)) % p
      by_cases c1 : k = nos (ot set i j ||| 2 ^ l)
      · rw [if_pos ⟨rfl, c1⟩, Int.emod_add_emod]
        congr 1
        rw [show tm T set i j l k = sg * T i j l by rw [hsg]; exact if_pos ⟨hij, hbt, hbtj, hnb, c1.symm⟩, c1]
        unfold TRp
        omega
      · rw [if_neg (fun x => c1 x.2), o1 k hk, tm_0 (fun x => c1 x.2.2.2.2.symm)]
        congr 1
        unfold TRp
        omega
    · funext k
      show (if b = m + 19 ∧ _ then _ else N3 b k) = _
      rw [if_neg (fun e => hb e.1), o2 b hb]
  refine w_eq (y := 0) ⟨by omega, by omega⟩ ⟨by omega, by omega⟩ (fun hp0 => ?_) (fun hp0 => ?_)
  · rw [z_1]; exact hput 1 (by unfold sgn; rw [if_pos (by omega)])
  · rw [z_m1]; exact hput (-1) (by unfold sgn; rw [if_neg (by omega)])
theorem w_mrankOfD {f : Int32 → JM Mem τ} {Q : τ → Mem → NM → Prop} {d : Nat} (hM : ML M m) (hA : MA M N m W B p n T) (hd : d ≤ 5)
    (h : ∀ N', FrC N m N' → GN M N' (f (zI (DrR p n T d : Nat))) Q) : GN M N (jb (jcall 7 m (f_X8_rankOfD m (zI d))) f) Q := by
  have hpb := hA.pb
  have hn5 := hA.n5
  have hp := hA.pr
  have hWe := hA.We
  have h2n := two_pow hn5
  have hse := ses_le n (by omega) d (by omega)
  refine w_Mc hM ?_
  unfold f_X8_rankOfD
  refine w_Mc hM ?_
  unfold f_X8_noRows
  rw [z_0]
  refine w_Mput hM (w_jp ?_)
  have hfr0 : FrC N m (up2 N m 39 0) := ⟨fun x _ h1 _ _ _ _ => by funext k; show (if x = m ∧ _ then _ else N x k) = _; rw [if_neg (fun e => h1 e.1)], fun k hk _ _ => by show (if m = m ∧ k = 39 then _ else N m k) = _; rw [if_neg (fun e => hk e.2)]⟩
  refine w_setsOf (n := n) hM ⟨(hfr0.ma hA).ne, hn5⟩ (by omega) ?_
  refine w_up (2 ^ n) (fun set N1 => EqI N m p (ses n d) (DrS p n T d) (fun e => ∃ s, s < set ∧ bcn s 5 = d + 1 ∧ e = TR n T s) N1 ∧ FrC N m N1) 0 rfl (by omega)
    ⟨⟨0, _, _, _, EqM.nil hp (by simp [up2]), fun x hx => Gn.sb.zv hx, fun e ⟨s, h1, _⟩ => absurd h1 (Nat.not_lt_zero _)⟩, hfr0⟩ ?_
  rintro set N1 hset ⟨hI, g1⟩
  have hA1 := g1.ma hA
  unfold X8_rankOfD_L12
  refine w_MI hM ?_
  rw [hA1.ne, bit_shl n (by omega)]
  refine w_le ⟨by omega, by omega⟩ ⟨by omega, by omega⟩ (fun hc => ?_) (fun hc => ?_)
  · unfold X8_rankOfD_b52
    refine w_jinl ?_
    refine w_MI hM ?_
    rw [hI.end hp (fun S' h1 h2 x hx => Gn.le h1 (fun g ⟨s, h3, h4, e⟩ => h2 g ⟨s, by omega, h4, e⟩) hx)]
    exact w_jp (h N1 g1)
  have hbl := bcn_le set 5
  refine w_bits (by omega) ?_
  rw [z_1, zI_add]
  refine w_eq ⟨by omega, by omega⟩ ⟨by omega, by omega⟩ (fun hf => ?_) (fun hf => ?_)
  rotate_left
  · unfold X8_rankOfD_b46
    rw [z_1, zI_add]
    refine w_jcont ⟨by omega, rfl, ?_, g1⟩
    obtain ⟨q, R, ld, S', h1, h2, h3⟩ := hI
    refine ⟨q, R, ld, S', h1, h2, fun e ⟨s, h4, h5, h6⟩ => ?_⟩
    by_cases c1 : s = set
    · rw [c1] at h5; omega
    · exact h3 e ⟨s, by omega, h5, h6⟩
  have hbc : bcn set 5 = d + 1 := by omega
  refine w_rowOfD hM hA1 (by omega) hbc (by omega) (fun N2 k2 f2 => ?_)
  have hA2 : MA M N2 m W B p n T := hA1.fr (f2 m (by omega)) (f2 W (by omega))
  obtain ⟨q, R, ld, S', h1, h2, h3⟩ := hI
  have hEq : EqM N2 m p (ses n d) q R ld S' := by
    refine ⟨?_, fun r x h4 h5 => ?_, h1.2.2⟩
    · rw [f2 _ (by omega)]; exact h1.1
    · rw [f2 _ (by omega)]; exact h1.2.1 r x h4 h5
  have hq9 : Vq p (ses n d) (TR n T set) (fun x => if x < ses n d then TR n T set x % p else 0) := fun x hx => by
    show Cg p _ (if x < ses n d then _ else _)
    rw [if_pos hx]
    exact (Cg.mod p _).sy
  refine w_addEq (X := fun x => if x < ses n d then TR n T set x % p else 0) hM hA2 (by omega) hEq (fun x hx => by
    rw [k2 x hx]
    show _ = if x < ses n d then _ else _
    rw [if_pos hx]) (fun x => ?_) (fun N5 q5 R5 ld5 h5 f5 f5' => ?_)
  · show 0 ≤ (if x < ses n d then TR n T set x % p else 0) ∧ (if x < ses n d then TR n T set x % p else 0) < p ∧ (ses n d ≤ x → (if x < ses n d then TR n T set x % p else 0) = 0)
    have h5 : 0 ≤ TR n T set x % p ∧ TR n T set x % p < p := ⟨Int.emod_nonneg _ (by omega), Int.emod_lt_of_pos _ (by omega)⟩
    refine ⟨?_, ?_, fun h => if_neg (by omega)⟩
    · split <;> omega
    · split <;> omega
  unfold X8_rankOfD_b46
  rw [z_1, zI_add]
  refine w_jcont ⟨by omega, rfl, ⟨q5, R5, ld5, _, h5, fun x hx => Ad.min Gn.sb h2 (Gn.sb.q (Gn.mem ⟨set, by omega, hbc, rfl⟩) hq9) hx, fun e ⟨s, h6, h7, h8⟩ => ?_⟩, g1.tr ⟨fun x a1 a2 a3 a4 a5 a6 => by rw [f5 x a2 (by omega) (by omega), f2 x (by omega)], fun k a1 a2 a3 => by rw [f5' k a1, f2 m (by omega)]⟩⟩
  by_cases c1 : s = set
  · rw [h8, c1]; exact (Ad.sb h1.2.2.2.sb).q (Ad.me h1.2.2.2.sb) hq9.sy
  · exact Ad.le h1.2.2.2.sb (h3 e ⟨s, by omega, h7, h8⟩)
theorem ses_0 : ∀ n, n < 6 → ∀ d, d < 6 → n < d → ses n d = 0 := by decide +kernel
theorem w_classSize {f : Int32 → JM Mem τ} {Q : τ → Mem → NM → Prop} {d : Nat} (hM : ML M m) (hA : MA M N m W B p n T) (hd : d ≤ 5)
    (h : ∀ N', FrC N m N' → GN M N' (f (zI (Cls p n T d))) Q) : GN M N (jb (jcall 7 m (f_X8_classSize m (zI d))) f) Q := by
  have hn5 := hA.n5
  have hp := hA.pr
  have hse := ses_le n (by omega) d (by omega)
  refine w_Mc hM ?_
  unfold f_X8_classSize
  refine w_MI hM ?_
  rw [hA.ne]
  refine w_le ⟨by omega, by omega⟩ ⟨by omega, by omega⟩ (fun hc => ?_) (fun hc => ?_)
  rotate_left
  · rw [z_0]
    refine w_jp ?_
    have := h N FrC.rf
    unfold Cls at this
    rw [ses_0 n (by omega) d (by omega) (by omega), DrR_0 hp hn5 (show n ≤ d by omega), DrR_0 hp hn5 (show n ≤ d - 1 by omega)] at this
    refine Eq.mp (congrArg (fun v => GN M N (f (zI v)) Q) ?_) this
    split <;> rfl
  refine w_setsOf (n := n) hM ⟨hA.ne, hn5⟩ (by omega) ?_
  refine w_mrankOfD hM hA hd (fun N1 hfr1 => ?_)
  have hA1 := hfr1.ma hA
  rw [zI_sub]
  refine w_jlet ?_
  rw [z_0]
  unfold X8_classSize_b38
  refine w_eq ⟨by omega, by omega⟩ ⟨by omega, by omega⟩ (fun he => ?_) (fun he => ?_)
  · rw [zI_sub]
    refine w_jp ?_
    have := h N1 hfr1
    unfold Cls at this
    rw [if_pos (by omega)] at this
    exact this
  · rw [z_1, zI_sub, show (d : Int) - 1 = ((d - 1 : Nat) : Int) by omega]
    refine w_mrankOfD hM hA1 (by omega) (fun N2 hfr2 => ?_)
    rw [zI_sub]
    refine w_jp ?_
    have := h N2 (hfr1.tr hfr2)
    unfold Cls at this
    rw [if_neg (by omega)] at this
    exact this
end MOD8
