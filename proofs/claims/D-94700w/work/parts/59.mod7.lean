/-! THE MODEL: derivations. -/
set_option maxRecDepth 100000
section MOD7
variable {α τ : Type} {M : Mem} {N N' : NM} {m a b to W B L : Nat} {p : Int} {n q qa qb : Nat} {T : Nat → Nat → Nat → Int} {R Ra Rb : Nat → Nat → Int} {ld la lb : Nat → Nat} {S A B' : VS} {X Y : Nat → Int}
/-- the equation by the model's order of adding -/
def DG1 (n : Nat) (T : Nat → Nat → Nat → Int) (i j m k q : Nat) : Int := sm k (fun x => if q = n * x + m then T i j x else 0)
def DG2 (n : Nat) (T : Nat → Nat → Nat → Int) (i j m k q : Nat) : Int := DG1 n T i j m n q - sm k (fun x => (if q = n * i + x then T x j m else 0) + (if q = n * j + x then T i x m else 0))
theorem DG_eq (i j m q : Nat) : DG2 n T i j m n q = DeE n T i j m q := by
  show DG1 n T i j m n q - _ = sm n _
  unfold DG1
  rw [← sm_sub]
  exact sm_congr (fun x _ => by omega)
theorem DG1_bd (hT : ∀ i j k, 0 ≤ T i j k ∧ T i j k < p) (hp : p ≤ 7) (i j m : Nat) : ∀ k, k ≤ 5 → ∀ q, 0 ≤ DG1 n T i j m k q ∧ DG1 n T i j m k q ≤ 35 := fun k hk q => by
  have := sm_bd (n := k) (f := fun x => if q = n * x + m then T i j x else 0) (a := 0) (b := 7) (fun x _ => by
    have := hT i j x
    show 0 ≤ (if q = n * x + m then T i j x else 0) ∧ (if q = n * x + m then T i j x else 0) ≤ 7
    split <;> omega)
  unfold DG1
  omega
theorem DG2_bd (hT : ∀ i j k, 0 ≤ T i j k ∧ T i j k < p) (hp : p ≤ 7) (hn : n ≤ 5) (i j m : Nat) : ∀ k, k ≤ 5 → ∀ q, -70 ≤ DG2 n T i j m k q ∧ DG2 n T i j m k q ≤ 35 := fun k hk q => by
  have h1 := DG1_bd (n := n) hT hp i j m n hn q
  have := sm_bd (n := k) (f := fun x => (if q = n * i + x then T x j m else 0) + (if q = n * j + x then T i x m else 0)) (a := 0) (b := 14) (fun x _ => by
    have h3 := hT x j m
    have h4 := hT i x m
    show 0 ≤ (if q = n * i + x then T x j m else 0) + (if q = n * j + x then T i x m else 0) ∧ (if q = n * i + x then T x j m else 0) + (if q = n * j + x then T i x m else 0) ≤ 14
    split <;> split <;> omega)
  unfold DG2
  omega
theorem w_derivationSize {f : Int32 → JM Mem τ} {Q : τ → Mem → NM → Prop} (hM : ML M m) (hA : MA M N m W B p n T)
    (h : ∀ N', FrC N m N' → GN M N' (f (zI ((n * n : Nat) - (dm p (n * n) (DeS p n T) : Nat)))) Q) : GN M N (jb (jcall 7 m (f_X8_derivationSize m)) f) Q := by
  have hpb := hA.pb
  have hn5 := hA.n5
  have hp := hA.pr
  have hWe := hA.We
  have hnn : n * n ≤ 25 := Nat.mul_le_mul hn5 hn5
  have k19 := hM.ka (o := 19) (d := (0, 30)) rfl
  have enn : (n : Int) * (n : Int) = ((n * n : Nat) : Int) := (Int.natCast_mul n n).symm
  refine w_Mc hM ?_
  unfold f_X8_derivationSize
  refine w_Mc hM ?_
  unfold f_X8_noRows
  rw [z_0]
  refine w_Mput hM (w_jp ?_)
  refine w_up n (fun i N1 => EqI N m p (n * n) (DeS p n T) (fun e => ∃ i' j' m', i' < j' ∧ j' < n ∧ m' < n ∧ i' < i ∧ e = DeE n T i' j' m') N1 ∧ FrC N m N1) 0 rfl (by omega)
    ⟨⟨0, _, _, _, EqM.nil hp (by simp [up2]), fun x hx => Gn.sb.zv hx, fun e ⟨i', j', m', _, _, _, h1, _⟩ => absurd h1 (Nat.not_lt_zero _)⟩, fun x _ h1 _ _ _ _ => by funext k; show (if x = m ∧ _ then _ else N x k) = _; rw [if_neg (fun e => h1 e.1)], fun k hk _ _ => by show (if m = m ∧ k = 39 then _ else N m k) = _; rw [if_neg (fun e => hk e.2)]⟩ ?_
  rintro i N1 hi ⟨hI, g1⟩
  unfold X8_derivationSize_L6
  refine w_MI hM ?_
  rw [(g1.ma hA).ne]
  refine w_le ⟨by omega, by omega⟩ ⟨by omega, by omega⟩ (fun hc => ?_) (fun hc => ?_)
  · unfold X8_derivationSize_b253
    refine w_jinl ?_
    refine w_MI hM (w_MI hM (w_MI hM ?_))
    rw [(g1.ma hA).ne, hI.end hp (fun S' h1 h2 x hx => Gn.le h1 (fun g ⟨i', j', m', h3, h4, h5, e⟩ => h2 g ⟨i', j', m', h3, h4, h5, by omega, e⟩) hx), zI_mul, zI_sub, enn]
    exact w_jp (h N1 g1)
  have hin : i < n := by omega
  rw [z_1, zI_add]
  refine w_jlet ?_
  refine w_up n (fun j N2 => i < j ∧ EqI N m p (n * n) (DeS p n T) (fun e => ∃ i' j' m', i' < j' ∧ j' < n ∧ m' < n ∧ (i' < i ∨ i' = i ∧ j' < j) ∧ e = DeE n T i' j' m') N2 ∧ FrC N m N2) (i + 1) (by rfl) (by omega)
    ⟨by omega, by
      obtain ⟨q, R, ld, S', h1, h2, h3⟩ := hI
      exact ⟨q, R, ld, S', h1, h2, fun e ⟨i', j', m', a1, a2, a3, a4, a5⟩ => h3 e ⟨i', j', m', a1, a2, a3, by omega, a5⟩⟩, g1⟩ ?_
  rintro j N2 hj ⟨hij, hI2, g2⟩
  unfold X8_derivationSize_L18
  refine w_MI hM ?_
  rw [(g2.ma hA).ne]
  refine w_le ⟨by omega, by omega⟩ ⟨by omega, by omega⟩ (fun hd => ?_) (fun hd => ?_)
  · unfold X8_derivationSize_b247
    rw [z_1, zI_add]
    refine w_jinl (w_jcont ⟨hin, rfl, ?_, g2⟩)
    obtain ⟨q, R, ld, S', h1, h2, h3⟩ := hI2
    exact ⟨q, R, ld, S', h1, h2, fun e ⟨i', j', m', a1, a2, a3, a4, a5⟩ => h3 e ⟨i', j', m', a1, a2, a3, by omega, a5⟩⟩
  have hjn : j < n := by omega
  rw [z_0]
  refine w_up n (fun m1 N3 => EqI N m p (n * n) (DeS p n T) (fun e => ∃ i' j' m', i' < j' ∧ j' < n ∧ m' < n ∧ (i' < i ∨ i' = i ∧ (j' < j ∨ j' = j ∧ m' < m1)) ∧ e = DeE n T i' j' m') N3 ∧ FrC N m N3) 0 rfl (by omega)
    ⟨by
      obtain ⟨q, R, ld, S', h1, h2, h3⟩ := hI2
      exact ⟨q, R, ld, S', h1, h2, fun e ⟨i', j', m', a1, a2, a3, a4, a5⟩ => h3 e ⟨i', j', m', a1, a2, a3, by omega, a5⟩⟩, g2⟩ ?_
  rintro m1 N3 hm ⟨hI3, g3⟩
  have hA3 := g3.ma hA
  unfold X8_derivationSize_L28
  refine w_MI hM ?_
  rw [hA3.ne]
  refine w_le ⟨by omega, by omega⟩ ⟨by omega, by omega⟩ (fun he => ?_) (fun he => ?_)
  · unfold X8_derivationSize_b241
    rw [z_1, zI_add]
    refine w_jinl (w_jcont ⟨hjn, rfl, by omega, ?_, g3⟩)
    obtain ⟨q, R, ld, S', h1, h2, h3⟩ := hI3
    exact ⟨q, R, ld, S', h1, h2, fun e ⟨i', j', m', a1, a2, a3, a4, a5⟩ => h3 e ⟨i', j', m', a1, a2, a3, by omega, a5⟩⟩
  have hmn : m1 < n := by omega
  have frA : ∀ g : Nat → Int, ∀ l, MA M (wrj N3 (m + 19) l g) m W B p n T := fun g l => hA3.fr (wrj_ne (by omega)) (wrj_ne (by omega))
  have wat : ∀ g : Nat → Int, ∀ q, q < n * n → wrj N3 (m + 19) (n * n) g (m + 19) q = g q := fun g q hq => if_pos ⟨rfl, hq⟩
  have wup : ∀ (g : Nat → Int) (q0 : Nat) (x : Int), q0 < n * n → up2 (wrj N3 (m + 19) (n * n) g) (m + 19) q0 x = wrj N3 (m + 19) (n * n) (fun q => if q = q0 then x else g q) := fun g q0 x hq => by
    funext c k
    show (if c = m + 19 ∧ k = q0 then x else if c = m + 19 ∧ k < n * n then g k else N3 c k) = (if c = m + 19 ∧ k < n * n then (if k = q0 then x else g k) else N3 c k)
    by_cases c1 : c = m + 19
    · by_cases c2 : k = q0
      · rw [if_pos ⟨c1, c2⟩, if_pos ⟨c1, by omega⟩, if_pos c2]
      · rw [if_neg (fun y => c2 y.2)]
        by_cases c3 : k < n * n
        · rw [if_pos ⟨c1, c3⟩, if_pos ⟨c1, c3⟩, if_neg c2]
        · rw [if_neg (fun y => c3 y.2), if_neg (fun y => c3 y.2)]
    · rw [if_neg (fun y => c1 y.1), if_neg (fun y => c1 y.1), if_neg (fun y => c1 y.1)]
  rw [z_0]
  refine w_up (n * n) (fun k N4 => N4 = wrj N3 (m + 19) k (fun _ => 0)) 0 rfl (by omega) wrj_0.symm ?_
  rintro k N4 hk rfl
  unfold X8_derivationSize_L39
  refine w_MI hM (w_MI hM ?_)
  rw [(frA _ k).ne, zI_mul, enn]
  refine w_le ⟨by omega, by omega⟩ ⟨by omega, by omega⟩ (fun hf => ?_) (fun hf => ?_)
  rotate_left
  · refine w_Mf hM rfl ?_
    rw [z_0]
    refine w_ast k19 (by omega) (by omega) ?_
    rw [show ((k : Int).toNat) = k from rfl, wrj_up (g := fun _ => 0) (v := 0) rfl, z_1, zI_add]
    exact w_jcont ⟨by omega, rfl, rfl⟩
  have hkn : k = n * n := by omega
  subst hkn
  unfold X8_derivationSize_b67
  refine w_jinl ?_
  rw [z_0]
  refine w_up n (fun l N4 => N4 = wrj N3 (m + 19) (n * n) (DG1 n T i j m1 l)) 0 rfl (by omega) rfl ?_
  rintro l N4 hl rfl
  unfold X8_derivationSize_L70
  refine w_MI hM ?_
  rw [(frA _ _).ne]
  refine w_le ⟨by omega, by omega⟩ ⟨by omega, by omega⟩ (fun hg => ?_) (fun hg => ?_)
  rotate_left
  · have i1 := idx_lt (show l < n by omega) hmn
    have hb1 := DG1_bd (n := n) hA.tb (by omega) i j m1 l (by omega) (n * l + m1)
    have hT1 := hA.tb i j l
    refine w_Mf hM rfl (w_MI hM ?_)
    rw [(frA _ _).ne, zI_mul, zI_add, Int.mul_comm (l : Int), idx_e]
    refine w_ald k19 (by omega) (by omega) ?_
    rw [show (((n * l + m1 : Nat) : Int)).toNat = n * l + m1 from rfl, wat _ _ i1]
    refine w_mtable hM (frA _ _) (by omega) (by omega) (by omega) ?_
    rw [zI_add]
    refine w_ast k19 (by omega) (by omega) ?_
    rw [show (((n * l + m1 : Nat) : Int)).toNat = n * l + m1 from rfl, wup _ _ _ i1, z_1, zI_add]
    refine w_jcont ⟨by omega, rfl, ?_⟩
    congr 1
    funext q
    show _ = sm l (fun x => if q = n * x + m1 then T i j x else 0) + (if q = n * l + m1 then T i j l else 0)
    by_cases c1 : q = n * l + m1
    · rw [if_pos c1, if_pos c1, c1]; rfl
    · rw [if_neg c1, if_neg c1, Int.add_zero]; rfl
  have hln : l = n := by omega
  subst hln
  unfold X8_derivationSize_b110
  refine w_jinl ?_
  rw [z_0]
  refine w_up l (fun b N4 => N4 = wrj N3 (m + 19) (l * l) (DG2 l T i j m1 b)) 0 rfl (by omega) (by
    congr 1
    funext q
    show _ = _ - (0 : Int)
    omega) ?_
  rintro b N4 hb rfl
  unfold X8_derivationSize_L113
  refine w_MI hM ?_
  rw [(frA _ _).ne]
  refine w_le ⟨by omega, by omega⟩ ⟨by omega, by omega⟩ (fun hh => ?_) (fun hh => ?_)
  rotate_left
  · have i1 := idx_lt hin (show b < l by omega)
    have i2 := idx_lt hjn (show b < l by omega)
    have hb1 := DG2_bd (n := l) hA.tb (by omega) hn5 i j m1 b (by omega) (l * i + b)
    have hb2 := DG2_bd (n := l) hA.tb (by omega) hn5 i j m1 b (by omega) (l * j + b)
    have hT1 := hA.tb b j m1
    have hT2 := hA.tb i b m1
    refine w_Mf hM rfl (w_MI hM ?_)
    rw [(frA _ _).ne, zI_mul, zI_add, Int.mul_comm (i : Int), idx_e]
    refine w_ald k19 (by omega) (by omega) ?_
    rw [show (((l * i + b : Nat) : Int)).toNat = l * i + b from rfl, wat _ _ i1]
    refine w_mtable hM (frA _ _) (by omega) (by omega) (by omega) ?_
    rw [zI_sub]
    refine w_ast k19 (by omega) (by omega) ?_
    rw [show (((l * i + b : Nat) : Int)).toNat = l * i + b from rfl, wup _ _ _ i1]
    refine w_Mf hM rfl (w_MI hM ?_)
    rw [(frA _ _).ne, zI_mul, zI_add, Int.mul_comm (j : Int), idx_e]
    refine w_ald k19 (by omega) (by omega) ?_
    rw [show (((l * j + b : Nat) : Int)).toNat = l * j + b from rfl, wat _ _ i2]
    refine w_mtable hM (frA _ _) (by omega) (by omega) (by omega) ?_
    rw [zI_sub]
    refine w_ast k19 (by omega) (by omega) ?_
    rw [show (((l * j + b : Nat) : Int)).toNat = l * j + b from rfl, wup _ _ _ i2, z_1, zI_add]
    refine w_jcont ⟨by omega, rfl, ?_⟩
    congr 1
    funext q
    have e : DG2 l T i j m1 (b + 1) q = DG2 l T i j m1 b q - ((if q = l * i + b then T b j m1 else 0) + (if q = l * j + b then T i b m1 else 0)) := by
      unfold DG2
      rw [sm_s]
      omega
    rw [e]
    by_cases c1 : q = l * j + b
    · rw [if_pos c1, if_pos c1]
      by_cases c2 : l * j + b = l * i + b
      · rw [if_pos c2, if_pos (by omega), show l * i + b = q by omega]; omega
      · rw [if_neg c2, if_neg (by omega), c1]; omega
    · rw [if_neg c1, if_neg c1]
      by_cases c2 : q = l * i + b
      · rw [if_pos c2, if_pos c2, c2]; omega
      · rw [if_neg c2, if_neg c2]; omega
  have hbl : b = l := by omega
  subst hbl
  unfold X8_derivationSize_b178
  refine w_jinl ?_
  rw [z_0]
  refine w_up (b * b) (fun k N4 => N4 = wrj N3 (m + 19) (b * b) (fun q => if q < k then DeE b T i j m1 q % p else DeE b T i j m1 q)) 0 rfl (by omega) (by
    congr 1
    funext q
    rw [if_neg (Nat.not_lt_zero _), DG_eq]) ?_
  rintro k N4 hk4 rfl
  unfold X8_derivationSize_L181
  refine w_MI hM (w_MI hM ?_)
  rw [(frA _ _).ne, zI_mul, enn]
  refine w_le ⟨by omega, by omega⟩ ⟨by omega, by omega⟩ (fun ho => ?_) (fun ho => ?_)
  rotate_left
  · have hb1 := DG2_bd (n := b) hA.tb (by omega) hn5 i j m1 b (by omega) k
    rw [DG_eq] at hb1
    refine w_Mf hM rfl (w_Mf hM rfl ?_)
    refine w_ald k19 (by omega) (by omega) ?_
    rw [show ((k : Int).toNat) = k from rfl, wat _ _ (by omega), if_neg (Nat.lt_irrefl k)]
    refine w_MI hM ?_
    rw [(frA _ _).pe]
    refine w_left (by omega) (by omega) ?_
    refine w_ast k19 (by omega) (by omega) ?_
    rw [show ((k : Int).toNat) = k from rfl, wup _ _ _ (by omega), z_1, zI_add]
    refine w_jcont ⟨by omega, rfl, ?_⟩
    congr 1
    funext q
    by_cases c1 : q = k
    · rw [if_pos c1, if_pos (by omega), c1]
    · rw [if_neg c1]
      by_cases c2 : q < k
      · rw [if_pos c2, if_pos (by omega)]
      · rw [if_neg c2, if_neg (by omega)]
  have hkk : k = b * b := by omega
  subst hkk
  unfold X8_derivationSize_b222
  refine w_jinl ?_
  refine w_MI hM (w_MI hM ?_)
  rw [(frA _ _).ne, zI_mul, enn]
  obtain ⟨q, R, ld, S', h1, h2, h3⟩ := hI3
  generalize hG : (fun q => if q < b * b then DeE b T i j m1 q % p else DeE b T i j m1 q) = G
  have hEq : EqM (wrj N3 (m + 19) (b * b) G) m p (b * b) q R ld S' := by
    refine ⟨?_, fun r x h4 h5 => ?_, h1.2.2⟩
    · rw [wrj_ne (by omega)]; exact h1.1
    · rw [wrj_ne (by omega)]; exact h1.2.1 r x h4 h5
  have hq9 : Vq p (b * b) (DeE b T i j m1) (fun x => if x < b * b then DeE b T i j m1 x % p else 0) := fun x hx => by
    show Cg p _ (if x < b * b then _ else _)
    rw [if_pos hx]
    exact (Cg.mod p _).sy
  refine w_addEq (X := fun x => if x < b * b then DeE b T i j m1 x % p else 0) hM (frA _ _) (by omega) hEq (fun x hx => by
    rw [wat _ _ hx, ← hG]
    show (if x < b * b then _ else _) = if x < b * b then _ else _
    rw [if_pos hx, if_pos hx]) (fun x => ?_) (fun N5 q5 R5 ld5 h5 f5 f5' => ?_)
  · show 0 ≤ (if x < b * b then DeE b T i j m1 x % p else 0) ∧ (if x < b * b then DeE b T i j m1 x % p else 0) < p ∧ (b * b ≤ x → (if x < b * b then DeE b T i j m1 x % p else 0) = 0)
    have h5 : 0 ≤ DeE b T i j m1 x % p ∧ DeE b T i j m1 x % p < p := ⟨Int.emod_nonneg _ (by omega), Int.emod_lt_of_pos _ (by omega)⟩
    refine ⟨?_, ?_, fun h => if_neg (by omega)⟩
    · split <;> omega
    · split <;> omega
  rw [z_1, zI_add]
  refine w_jcont ⟨hmn, rfl, ⟨q5, R5, ld5, _, h5, fun x hx => Ad.min Gn.sb h2 (Gn.sb.q (Gn.mem ⟨i, j, m1, hij, hjn, hmn, rfl⟩) hq9) hx, fun e ⟨i', j', m', a1, a2, a3, a4, a5⟩ => ?_⟩, g3.tr ⟨fun x a1 a2 a3 a4 a5 a6 => by rw [f5 x a2 (by omega) (by omega), wrj_ne (by omega)], fun k a1 a2 a3 => by rw [f5' k a1, wrj_ne (by omega)]⟩⟩
  by_cases c1 : i' = i ∧ j' = j ∧ m' = m1
  · rw [a5, c1.1, c1.2.1, c1.2.2]; exact (Ad.sb h1.2.2.2.sb).q (Ad.me h1.2.2.2.sb) hq9.sy
  · exact Ad.le h1.2.2.2.sb (h3 e ⟨i', j', m', a1, a2, a3, by omega, a5⟩)
end MOD7
