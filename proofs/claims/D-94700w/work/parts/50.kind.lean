/-! THE COMPONENT: kinds of spans. -/
set_option maxRecDepth 100000
section KINDM
variable {p : Int} {n m : Nat} {T : Nat → Nat → Nat → Int} {R : Nat → Nat → Int} {ld : Nat → Nat} {S : VS} {X Y : Nat → Int}
theorem sq_zero {f : Nat → Nat → Int} (h1 : ∀ i j, Cg p (f i j + f j i) 0) (h2 : ∀ i, Cg p (f i i) 0) : ∀ n, Cg p (sm n fun i => sm n fun j => f i j) 0 := by
  intro n
  induction n with
  | zero => exact Cg.rf
  | succ n ih =>
    rw [sm_s, sm_s, sm_congr (g := fun i => sm n (fun j => f i j) + f i n) (fun i _ => sm_s n _), sm_add]
    have e : Cg p (sm n (fun i => f i n) + sm n (fun j => f n j)) 0 := by
      rw [← sm_add]
      exact (Cg.sm (g := fun _ => 0) (fun i _ => h1 i n)).tr (Cg.of (sm_zero n))
    have := (ih.add e).add (h2 n)
    refine (Cg.of ?_).tr this
    omega
theorem bk_self (hT : WOk p n T) (k : Nat) : Cg p (bk n T X X k) 0 := by
  refine sq_zero (f := fun i j => X i * X j * T i j k) (fun i j => ?_) (fun i => Cg.of (by show X i * X i * T i i k = 0; rw [hT.2.2.2.2.2.2 i k, Int.mul_zero])) n
  have h1 := Cg.ml (X j * X i) (hT.tan i j k)
  have := (Cg.rf (a := X i * X j * T i j k)).add h1
  refine this.tr (Cg.of ?_)
  grind
/-- closed, by the rows -/
theorem clo_part (hT : WOk p n T) (hE : Ech p n m R ld S) : Clo n T False S ↔ ∀ a b, b < a → a < m → S (bk n T (R a) (R b)) := by
  constructor
  · intro h a b hb ha
    exact h _ _ (hE.row ha) (Or.inr (hE.row (by omega)))
  · intro h x y hx hy
    have hy : S y := hy.resolve_left id
    have hall : ∀ a b, a < m → b < m → S (bk n T (R a) (R b)) := by
      intro a b ha hb
      rcases Nat.lt_trichotomy a b with c | c | c
      · exact hE.sb.q (hE.sb.ml (-1) (h b a c hb)) (fun k _ => by
          have := bk_anti (n := n) hT.tan (x := R b) (y := R a) k
          refine Cg.tr (Cg.of ?_) this.sy
          grind)
      · rw [c]; exact hE.sb.zv (fun k _ => bk_self hT k)
      · exact h a b c ha
    rw [hE.gen] at hx hy
    exact bk_gn hE.sb (fun g g' ⟨a, ha, e⟩ ⟨b, hb, e2⟩ => by rw [e, e2]; exact hall a b ha hb) hx hy
theorem clo_ideal (hp : Pr p) (hE : Ech p n m R ld S) : Clo n T True S ↔ ∀ a i, a < m → i < n → S (bk n T (R a) (un i)) := by
  constructor
  · intro h a i ha _
    exact h _ _ (hE.row ha) (Or.inl trivial)
  · intro h x y hx _
    have hy : Al y := trivial
    rw [hE.gen] at hx
    rw [(Al.ech (n := n) hp).gen] at hy
    exact bk_gn hE.sb (fun g g' ⟨a, ha, e⟩ ⟨b, hb, e2⟩ => by rw [e, e2]; exact h a b ha hb) hx hy
/-- a vector less what a span takes from it -/
def Nf (p : Int) (n m : Nat) (ld : Nat → Nat) (S : VS) (X Y : Nat → Int) : Prop := (∀ k, 0 ≤ Y k ∧ Y k < p ∧ (n ≤ k → Y k = 0)) ∧ S (fun k => X k - Y k) ∧ ∀ r, r < m → Y (ld r) = 0
theorem Nf.uni (hE : Ech p n m R ld S) {Y' : Nat → Int} (h : Nf p n m ld S X Y) (h' : Nf p n m ld S X Y') : Y = Y' := by
  have h1 : S (fun k => Y k - Y' k) := hE.sb.e (hE.sb.sub h'.2.1 h.2.1) (fun k _ => by show X k - Y' k - (X k - Y k) = _; omega)
  have h2 := hE.nf h1 (fun r hr => Cg.of (by rw [h.2.2 r hr, h'.2.2 r hr]; rfl))
  funext k
  by_cases hk : k < n
  · have h20 : Cg p (Y k - Y' k) 0 := h2 k hk
    have h3 := h20.add (Cg.rf (a := Y' k))
    have h4 : Cg p (Y k) (Y' k) := (Cg.of (by omega)).tr (h3.tr (Cg.of (by omega)))
    exact h4.eq ⟨(h.1 k).1, (h.1 k).2.1⟩ ⟨(h'.1 k).1, (h'.1 k).2.1⟩
  · rw [(h.1 k).2.2 (by omega), (h'.1 k).2.2 (by omega)]
noncomputable def nfv (p : Int) (n m : Nat) (ld : Nat → Nat) (S : VS) (X : Nat → Int) : Nat → Int := @Classical.epsilon _ ⟨fun _ => 0⟩ (Nf p n m ld S X)
theorem Nf.eq (hE : Ech p n m R ld S) (h : Nf p n m ld S X Y) : Y = nfv p n m ld S X := Nf.uni hE h (@Classical.epsilon_spec _ (Nf p n m ld S X) ⟨Y, h⟩)
theorem Nf.ok (h : Nf p n m ld S X Y) : Nf p n m ld S X (nfv p n m ld S X) := @Classical.epsilon_spec _ (Nf p n m ld S X) ⟨Y, h⟩
/-- the equations of the normalizer, and their rank -/
noncomputable def NzE (p : Int) (n m : Nat) (T : Nat → Nat → Nat → Int) (R : Nat → Nat → Int) (ld : Nat → Nat) (S : VS) : VS := Gn p n (fun g => ∃ r k, r < m ∧ k < n ∧ g = fun b => nfv p n m ld S (bkm p n T (un b) (R r)) k)
/-- by rows of the component -/
noncomputable def NzA (p : Int) (n m : Nat) (T : Nat → Nat → Nat → Int) (R : Nat → Nat → Int) (ld : Nat → Nat) (S : VS) : Nat → Nat → Int := fun i q => if i < n ∧ q < 5 * m then nfv p n m ld S (bkm p n T (un i) (R (q / 5))) (q % 5) else 0
theorem nz_eq (hp : Pr p) (hn : n ≤ 5) (hm : m ≤ 5) (hNf : ∀ b r, b < n → r < m → Nf p n m ld S (bkm p n T (un b) (R r)) (nfv p n m ld S (bkm p n T (un b) (R r)))) :
    dm p 25 (Rs p 25 n (NzA p n m T R ld S)) = dm p n (NzE p n m T R ld S) := by
  refine (rank_tr hp (NzA p n m T R ld S) n 25).symm.trans ?_
  refine congrArg (dm p n) (Gn.eq (fun g ⟨q, hq, e⟩ => ?_) (fun g ⟨r, k, hr, hk, e⟩ => ?_))
  · by_cases c : q < 5 * m ∧ q % 5 < n
    · refine Gn.sb.e (Gn.mem ⟨q / 5, q % 5, by omega, c.2, rfl⟩) (fun b hb => ?_)
      rw [e]
      show _ = if b < n ∧ q < 5 * m then _ else _
      rw [if_pos ⟨hb, c.1⟩]
    · refine Gn.sb.e Gn.sb.z (fun b hb => ?_)
      rw [e]
      show 0 = if b < n ∧ q < 5 * m then _ else _
      by_cases c2 : q < 5 * m
      · rw [if_pos ⟨hb, c2⟩, ((hNf b (q / 5) hb (by omega)).1 (q % 5)).2.2 (by omega)]
      · rw [if_neg (fun x => c2 x.2)]
  · refine Gn.sb.e (Gn.mem ⟨5 * r + k, by omega, rfl⟩) (fun b hb => ?_)
    rw [e]
    show (if b < n ∧ 5 * r + k < 5 * m then _ else _) = _
    rw [if_pos ⟨hb, by omega⟩, show (5 * r + k) / 5 = r by omega, show (5 * r + k) % 5 = k by omega]
/-- the kinds of spans, by the component's numbers -/
def KD (p : Int) (n : Nat) (T : Nat → Nat → Nat → Int) (kind m : Nat) (R : Nat → Nat → Int) (ld : Nat → Nat) (S : VS) : Prop := match kind with
  | 0 => Clo n T False S
  | 1 => Clo n T True S
  | 2 => dm p n (Br p n T S S) = 0
  | 3 => Clo n T False S ∧ dm p n (LSr p n T S 5) = 0 ∧ n = m + dm p n (NzE p n m T R ld S)
  | 4 => Clo n T True S ∧ dm p n (DSr p n T S 5) = 0
  | 5 => Clo n T True S ∧ dm p n (LSr p n T S 5) = 0
  | _ => True
end KINDM
section CMP3
variable {α τ ρ : Type} {M : Mem} {N N' : NM} {c w s : Nat} {p : Int} {n m : Nat} {T : Nat → Nat → Nat → Int} {R : Nat → Nat → Int} {ld : Nat → Nat} {S : VS}
theorem w_isPart {f : Int32 → JM Mem τ} {Q : τ → Mem → NM → Prop} (hC : CL M c) (hW : WL M w) (hD : WD N w p n T) (hw : w + 32 ≤ c + 72 ∨ c + 212 ≤ w) (hS : SL M s) (hs : SpD N s p n m R ld S) (h77 : c + 77 ≤ s)
    (h : ∀ N' v, (v = 1 ∧ Clo n T False S ∨ v = 0 ∧ ¬ Clo n T False S) → (∀ x, x ≠ c + 74 → x ≠ c + 75 → N' x = N x) → GN M N' (f (zI v)) Q) : GN M N (jb (jcall 0 c (f_X0_isPart c w s)) f) Q := by
  have hn5 := hD.n5
  have hp := hD.pr
  have hmn := hs.mn hp
  refine w_Cc hC ?_
  unfold f_X0_isPart
  rw [z_0]
  refine w_up m (fun a N1 => (∀ a' b', b' < a' → a' < a → S (bk n T (R a') (R b'))) ∧ ∀ x, x ≠ c + 74 → x ≠ c + 75 → N1 x = N x) 0 rfl (by omega) ⟨fun a' b' _ h => by omega, fun _ _ _ => rfl⟩ ?_
  rintro a N1 ha ⟨g1, g2⟩
  have frs : ∀ N1 : NM, (∀ x, x ≠ c + 74 → x ≠ c + 75 → N1 x = N x) → SpD N1 s p n m R ld S := fun N1 g => hs.fr (fun b h1 h2 _ => g b (by omega) (by omega)) hp hn5
  have frw : ∀ N1 : NM, (∀ x, x ≠ c + 74 → x ≠ c + 75 → N1 x = N x) → WD N1 w p n T := fun N1 g => hD.fr (fun b h1 h2 => g b (by omega) (by omega))
  unfold X0_isPart_L2
  refine w_getI hS.1 ?_
  rw [(frs N1 g2).me]
  refine w_le ⟨by omega, by omega⟩ ⟨by omega, by omega⟩ (fun hc => ?_) (fun hc => ?_)
  · exact w_jinl (w_jp (h N1 1 (Or.inl ⟨rfl, (clo_part hD.ok hs.ech).mpr (fun a' b' h1 h2 => g1 a' b' h1 (by omega))⟩) g2))
  rw [z_0]
  refine w_up a (fun b N2 => (∀ a' b', b' < a' → a' < a ∨ a' = a ∧ b' < b → S (bk n T (R a') (R b'))) ∧ ∀ x, x ≠ c + 74 → x ≠ c + 75 → N2 x = N x) 0 rfl (by omega) ⟨fun a' b' h1 h2 => g1 a' b' h1 (by omega), g2⟩ ?_
  rintro b N2 hb ⟨k1, k2⟩
  unfold X0_isPart_L13
  refine w_le ⟨by omega, by omega⟩ ⟨by omega, by omega⟩ (fun hd => ?_) (fun hd => ?_)
  · unfold X0_isPart_b64
    rw [z_1, zI_add]
    exact w_jinl (w_jcont ⟨by omega, rfl, fun a' b' h1 h2 => k1 a' b' h1 (by omega), k2⟩)
  have hs2 := frs N2 k2
  refine w_Sr hS (by omega) ?_
  refine w_Sr hS (by omega) ?_
  refine w_Cf hC rfl ?_
  refine w_wbracket hW (frw N2 k2) (hS.kr (by omega)) (by omega) (hS.kr (by omega)) (by omega) (hC.ka rfl) (by omega) (hs2.vd (show a < m by omega)) (hs2.vd (show b < m by omega)) (by omega) (by omega) (by omega) ?_
  refine w_Cf hC rfl ?_
  refine w_Cf hC rfl ?_
  refine w_holds hS hW ((frw N2 k2).fr (fun b h1 h2 => wr5_ne (by omega))) (hs2.fr (fun b h1 h2 _ => wr5_ne (by omega)) hp hn5) (hC.ka rfl) (by omega) (X := bkm p n T (R a) (R b)) ⟨fun k hk => wr5_at hk, bkm_bd hD.ok⟩ (hC.ka rfl) (by omega) (by omega) (by omega) (fun Y v hv => ?_)
  have fr3 : ∀ x, x ≠ c + 74 → x ≠ c + 75 → wr5 (wr5 N2 (c + 74) (fun k => bk n T (R a) (R b) k % p)) (c + 75) Y x = N x := fun x h1 h2 => by rw [wr5_ne h2, wr5_ne h1, k2 x h1 h2]
  have hq : S (bkm p n T (R a) (R b)) ↔ S (bk n T (R a) (R b)) := ⟨fun x => hs.ech.sb.q x bkm_q, fun x => hs.ech.sb.q x bkm_q.sy⟩
  rw [z_0]
  refine w_eq ⟨by omega, by omega⟩ ⟨by omega, by omega⟩ (fun he => ?_) (fun he => ?_)
  · refine w_jinl (w_jinl (w_jp (h _ 0 (Or.inr ⟨rfl, fun hx => ?_⟩) fr3)))
    rcases hv with ⟨e, _⟩ | ⟨_, e⟩
    · omega
    · exact e (hq.mpr ((clo_part hD.ok hs.ech).mp hx a b (by omega) (by omega)))
  · rw [z_1, zI_add]
    refine w_jcont ⟨by omega, rfl, fun a' b' h1 h2 => ?_, fr3⟩
    by_cases e : a' = a ∧ b' = b
    · rw [e.1, e.2]
      rcases hv with ⟨_, e⟩ | ⟨e, _⟩
      · exact hq.mp e
      · omega
    · exact k1 a' b' h1 (by omega)
theorem w_isIdeal {f : Int32 → JM Mem τ} {Q : τ → Mem → NM → Prop} (hC : CL M c) (hW : WL M w) (hD : WD N w p n T) (hw : w + 32 ≤ c + 72 ∨ c + 212 ≤ w) (hS : SL M s) (hs : SpD N s p n m R ld S) (h77 : c + 77 ≤ s)
    (h : ∀ N' v, (v = 1 ∧ Clo n T True S ∨ v = 0 ∧ ¬ Clo n T True S) → (∀ x, x < c + 73 ∨ c + 76 ≤ x → N' x = N x) → GN M N' (f (zI v)) Q) : GN M N (jb (jcall 0 c (f_X0_isIdeal c w s)) f) Q := by
  have hn5 := hD.n5
  have hp := hD.pr
  have hmn := hs.mn hp
  refine w_Cc hC ?_
  unfold f_X0_isIdeal
  rw [z_0]
  refine w_up m (fun a N1 => (∀ a' i', i' < n → a' < a → S (bk n T (R a') (un i'))) ∧ ∀ x, x < c + 73 ∨ c + 76 ≤ x → N1 x = N x) 0 rfl (by omega) ⟨fun a' b' _ h => by omega, fun _ _ => rfl⟩ ?_
  rintro a N1 ha ⟨g1, g2⟩
  have frs : ∀ N1 : NM, (∀ x, x < c + 73 ∨ c + 76 ≤ x → N1 x = N x) → SpD N1 s p n m R ld S := fun N1 g => hs.fr (fun b h1 h2 _ => g b (by omega)) hp hn5
  have frw : ∀ N1 : NM, (∀ x, x < c + 73 ∨ c + 76 ≤ x → N1 x = N x) → WD N1 w p n T := fun N1 g => hD.fr (fun b h1 h2 => g b (by omega))
  unfold X0_isIdeal_L2
  refine w_getI hS.1 ?_
  rw [(frs N1 g2).me]
  refine w_le ⟨by omega, by omega⟩ ⟨by omega, by omega⟩ (fun hc => ?_) (fun hc => ?_)
  · exact w_jinl (w_jp (h N1 1 (Or.inl ⟨rfl, (clo_ideal hp hs.ech).mpr (fun a' b' h1 h2 => g1 a' b' h2 (by omega))⟩) g2))
  rw [z_0]
  refine w_up n (fun i N2 => (∀ a' i', i' < n → a' < a ∨ a' = a ∧ i' < i → S (bk n T (R a') (un i'))) ∧ ∀ x, x < c + 73 ∨ c + 76 ≤ x → N2 x = N x) 0 rfl (by omega) ⟨fun a' b' h1 h2 => g1 a' b' h1 (by omega), g2⟩ ?_
  rintro i N2 hi ⟨k1, k2⟩
  unfold X0_isIdeal_L13
  refine w_Wp hW ?_
  rw [(frw N2 k2).ne]
  refine w_le ⟨by omega, by omega⟩ ⟨by omega, by omega⟩ (fun hd => ?_) (fun hd => ?_)
  · unfold X0_isIdeal_b98
    rw [z_1, zI_add]
    exact w_jinl (w_jcont ⟨by omega, rfl, fun a' b' h1 h2 => k1 a' b' h1 (by omega), k2⟩)
  refine w_unity hC (i := i) (K := X0_isIdeal_b56 c w s (zI a) (zI i)) (by omega) (fun t => rfl) ?_
  have k3 : ∀ x, x < c + 73 ∨ c + 76 ≤ x → wr5 N2 (c + 73) (un i) x = N x := fun x hx => by rw [wr5_ne (by omega), k2 x hx]
  have hs2 := frs _ k3
  unfold X0_isIdeal_b56
  refine w_Sr hS (by omega) ?_
  refine w_Cf hC rfl ?_
  refine w_Cf hC rfl ?_
  refine w_wbracket hW (frw _ k3) (hS.kr (by omega)) (by omega) (hC.ka rfl) (by omega) (hC.ka rfl) (by omega) (hs2.vd (show a < m by omega)) (un_vd hp (show i < n by omega)) (by omega) (by omega) (by omega) ?_
  refine w_Cf hC rfl ?_
  refine w_Cf hC rfl ?_
  refine w_holds hS hW ((frw _ k3).fr (fun b h1 h2 => wr5_ne (by omega))) (hs2.fr (fun b h1 h2 _ => wr5_ne (by omega)) hp hn5) (hC.ka rfl) (by omega) (X := bkm p n T (R a) (un i)) ⟨fun k hk => wr5_at hk, bkm_bd hD.ok⟩ (hC.ka rfl) (by omega) (by omega) (by omega) (fun Y v hv => ?_)
  have fr3 : ∀ x, x < c + 73 ∨ c + 76 ≤ x → wr5 (wr5 (wr5 N2 (c + 73) (un i)) (c + 74) (fun k => bk n T (R a) (un i) k % p)) (c + 75) Y x = N x := fun x h1 => by rw [wr5_ne (by omega), wr5_ne (by omega), k3 x h1]
  have hq : S (bkm p n T (R a) (un i)) ↔ S (bk n T (R a) (un i)) := ⟨fun x => hs.ech.sb.q x bkm_q, fun x => hs.ech.sb.q x bkm_q.sy⟩
  rw [z_0]
  refine w_eq ⟨by omega, by omega⟩ ⟨by omega, by omega⟩ (fun he => ?_) (fun he => ?_)
  · refine w_jinl (w_jinl (w_jp (h _ 0 (Or.inr ⟨rfl, fun hx => ?_⟩) fr3)))
    rcases hv with ⟨e, _⟩ | ⟨_, e⟩
    · omega
    · exact e (hq.mpr ((clo_ideal hp hs.ech).mp hx a i (by omega) (by omega)))
  · rw [z_1, zI_add]
    refine w_jcont ⟨by omega, rfl, fun a' b' h1 h2 => ?_, fr3⟩
    by_cases e : a' = a ∧ b' = i
    · rw [e.1, e.2]
      rcases hv with ⟨_, e⟩ | ⟨e, _⟩
      · exact hq.mp e
      · omega
    · exact k1 a' b' h1 (by omega)
theorem w_isAbelian {f : Int32 → JM Mem τ} {Q : τ → Mem → NM → Prop} (hC : CL M c) (hW : WL M w) (hD : WD N w p n T) (hw : w + 32 ≤ c + 72 ∨ c + 212 ≤ w) (hS : SL M s) (hs : SpD N s p n m R ld S) (h77 : c + 101 ≤ s)
    (h : ∀ N' v, (v = 1 ∧ dm p n (Br p n T S S) = 0 ∨ v = 0 ∧ dm p n (Br p n T S S) ≠ 0) → (∀ x, x < c + 74 ∨ c + 101 ≤ x → N' x = N x) → GN M N' (f (zI v)) Q) : GN M N (jb (jcall 0 c (f_X0_isAbelian c w s)) f) Q := by
  have hn5 := hD.n5
  have hp := hD.pr
  refine w_Cc hC ?_
  unfold f_X0_isAbelian
  refine w_Cf hC rfl ?_
  refine w_brackets hC hW hD hw hS hS hC.s93 hs hs (by omega) (by omega) (by omega) (fun N1 m1 R1 ld1 hs1 hfr => ?_)
  have hmn := hs1.mn hp
  refine w_Cf hC rfl ?_
  refine w_getI hC.s93.1 ?_
  rw [hs1.me, z_0]
  have hdm := hs1.dm hp
  refine w_eq ⟨by omega, by omega⟩ ⟨by omega, by omega⟩ (fun he => ?_) (fun he => ?_)
  · exact w_jp (h N1 1 (Or.inl ⟨rfl, by omega⟩) (fun x hx => hfr x (by omega) (by omega)))
  · exact w_jp (h N1 0 (Or.inr ⟨rfl, by omega⟩) (fun x hx => hfr x (by omega) (by omega)))
theorem w_isSer {f : Int32 → JM Mem τ} {Q : τ → Mem → NM → Prop} {d : Int} (hC : CL M c) (hW : WL M w) (hD : WD N w p n T) (hw : w + 32 ≤ c + 72 ∨ c + 212 ≤ w) (hS : SL M s) (hs : SpD N s p n m R ld S) (h77 : c + 93 ≤ s) (hd : d = 0 ∨ d = 1)
    (h : ∀ N' v, (v = 1 ∧ dm p n (Ser p n T S d 5) = 0 ∨ v = 0 ∧ dm p n (Ser p n T S d 5) ≠ 0) → (∀ x, x < c + 74 ∨ c + 93 ≤ x → N' x = N x) → GN M N' (f (zI v)) Q) :
    GN M N (jb (jcall 0 c (jb (jcall 0 c (f_X0_series c w s 5 (zI d))) fun v1 => if v1 = 0 then jp 1 else jp 0)) f) Q := by
  refine w_Cc hC ?_
  rw [z_5]
  refine w_series (k := 5) hC hW hD hw hS hs hd (by omega) h77 (fun N1 _ hfr => ?_)
  have := dm_le (p := p) (n := n) (S := Ser p n T S d 5)
  have hn5 := hD.n5
  rw [z_0]
  refine w_eq ⟨by omega, by omega⟩ ⟨by omega, by omega⟩ (fun he => ?_) (fun he => ?_)
  · exact w_jp (h N1 1 (Or.inl ⟨rfl, by omega⟩) (fun x hx => hfr x (by omega) (by omega)))
  · exact w_jp (h N1 0 (Or.inr ⟨rfl, by omega⟩) (fun x hx => hfr x (by omega) (by omega)))
theorem w_normalizer {f : Int32 → JM Mem τ} {Q : τ → Mem → NM → Prop} (hC : CL M c) (hW : WL M w) (hD : WD N w p n T) (hw : w + 32 ≤ c + 72 ∨ c + 212 ≤ w) (hS : SL M s) (hs : SpD N s p n m R ld S) (h77 : c + 182 ≤ s)
    (h : ∀ M' N', Bg c M M' → (∀ x, x < c + 72 ∨ c + 182 ≤ x → N' x = N x) → GN M' N' (f (zI (n - (dm p n (NzE p n m T R ld S) : Nat)))) Q) : GN M N (jb (jcall 0 c (f_X0_normalizer c w s)) f) Q := by
  have hpb := hD.pb
  have hn5 := hD.n5
  have hp := hD.pr
  have hmn := hs.mn hp
  refine w_Cc hC ?_
  unfold f_X0_normalizer
  refine w_Wp hW ?_
  rw [hD.ne, z_25]
  refine w_clearRows (wide := 25) hC (by omega) (by omega) (fun N0 hz hfr0 => ?_)
  have hRP := hC.ro
  have frw : ∀ N1 : NM, (∀ b, b < c + 72 ∨ c + 182 ≤ b → N1 b = N b) → WD N1 w p n T := fun N1 g => hD.fr (fun b h1 h2 => g b (by omega))
  have frs : ∀ N1 : NM, (∀ b, b < c + 72 ∨ c + 182 ≤ b → N1 b = N b) → SpD N1 s p n m R ld S := fun N1 g => hs.fr (fun b h1 h2 _ => g b (by omega)) hp hn5
  have hNA : ∀ i r k, i < n → r < m → k < 5 → NzA p n m T R ld S i (5 * r + k) = nfv p n m ld S (bkm p n T (un i) (R r)) k := fun i r k hi hr hk => by
    show (if i < n ∧ 5 * r + k < 5 * m then _ else _) = _
    rw [if_pos ⟨hi, by omega⟩, show (5 * r + k) / 5 = r by omega, show (5 * r + k) % 5 = k by omega]
  rw [z_0]
  refine w_up n (fun i N1 => (∀ i' q, i' < n → q < 25 → N1 (rpl M (c + 117) i') q = if i' < i then NzA p n m T R ld S i' q else 0) ∧ (∀ b r, b < i → r < m → Nf p n m ld S (bkm p n T (un b) (R r)) (nfv p n m ld S (bkm p n T (un b) (R r)))) ∧ ∀ b, b < c + 72 ∨ c + 182 ≤ b → N1 b = N b) 0 rfl (by omega)
    ⟨fun i' q h1 h2 => by rw [if_neg (by omega)]; exact hz i' q h1 h2, fun b r hb => by omega, fun b hb => hfr0 b (by omega)⟩ ?_
  rintro i N1 hi ⟨g1, g1n, g2⟩
  unfold X0_normalizer_L12
  refine w_Wp hW ?_
  rw [(frw N1 g2).ne]
  refine w_le ⟨by omega, by omega⟩ ⟨by omega, by omega⟩ (fun hc => ?_) (fun hc => ?_)
  · unfold X0_normalizer_b124
    refine w_jinl ?_
    refine w_Wp hW ?_
    refine w_Cf hC rfl ?_
    refine w_Wp hW ?_
    rw [(frw N1 g2).ne, z_25]
    have hin : i = n := by omega
    subst hin
    refine w_rank (wide := 25) (A := NzA p i m T R ld S) hC hW (frw N1 g2) (by omega) (by omega) (by omega) (fun r k hr hk => by rw [g1 r k hr hk, if_pos hr]) (fun r k => ?_) (fun M2 N2 hb hfr2 => ?_)
    · show 0 ≤ (if r < i ∧ k < 5 * m then _ else _) ∧ (if r < i ∧ k < 5 * m then _ else _) < p
      split
      · rename_i hx
        have := (g1n r (k / 5) hx.1 (by omega)).1 (k % 5)
        exact ⟨this.1, this.2.1⟩
      · omega
    · rw [zI_sub, nz_eq hp hn5 (by omega) g1n]
      exact w_jp (h M2 N2 hb (fun x hx => by rw [hfr2 x (by omega), g2 x hx]))
  have hin : i < n := by omega
  rw [z_0]
  refine w_up m (fun a N2 => (∀ i' q, i' < n → q < 25 → N2 (rpl M (c + 117) i') q = if i' < i ∨ i' = i ∧ q < 5 * a then NzA p n m T R ld S i' q else 0) ∧ (∀ b r, r < m → b < i ∨ b = i ∧ r < a → Nf p n m ld S (bkm p n T (un b) (R r)) (nfv p n m ld S (bkm p n T (un b) (R r)))) ∧ ∀ b, b < c + 72 ∨ c + 182 ≤ b → N2 b = N b) 0 rfl (by omega)
    ⟨fun i' q h1 h2 => by rw [g1 i' q h1 h2]; by_cases e : i' < i; rw [if_pos e, if_pos (Or.inl e)]; rw [if_neg e, if_neg (by omega)], fun b r h1 h2 => g1n b r (by omega) h1, g2⟩ ?_
  rintro a N2 ha ⟨k1, k1n, k2⟩
  unfold X0_normalizer_L23
  refine w_getI hS.1 ?_
  rw [(frs N2 k2).me]
  refine w_le ⟨by omega, by omega⟩ ⟨by omega, by omega⟩ (fun hd => ?_) (fun hd => ?_)
  · have ham : a = m := by omega
    subst ham
    unfold X0_normalizer_b118
    rw [z_1, zI_add]
    refine w_jinl (w_jcont ⟨by omega, rfl, fun i' q h1 h2 => ?_, fun b r h1 h2 => k1n b r h2 (by omega), k2⟩)
    rw [k1 i' q h1 h2]
    by_cases e : i' < i
    · rw [if_pos (Or.inl e), if_pos (by omega)]
    · by_cases e2 : i' = i
      · rw [if_pos (show i' < i + 1 by omega)]
        by_cases e3 : q < 5 * a
        · rw [if_pos (Or.inr ⟨e2, e3⟩)]
        · rw [if_neg (by omega)]
          show 0 = (if i' < n ∧ q < 5 * a then _ else _)
          rw [if_neg (fun x => e3 x.2)]
      · rw [if_neg (by omega), if_neg (by omega)]
  have ham : a < m := by omega
  refine w_unity hC (i := i) (K := X0_normalizer_b65 c w s (zI i) (zI a)) (by omega) (fun t => rfl) ?_
  have k3 : ∀ x, x < c + 72 ∨ c + 182 ≤ x → wr5 N2 (c + 73) (un i) x = N x := fun x hx => by rw [wr5_ne (by omega), k2 x hx]
  unfold X0_normalizer_b65
  refine w_Cf hC rfl ?_
  refine w_Sr hS (by omega) ?_
  refine w_Cf hC rfl ?_
  refine w_wbracket hW (frw _ k3) (hC.ka rfl) (by omega) (hS.kr (by omega)) (by omega) (hC.ka rfl) (by omega) (un_vd hp hin) ((frs _ k3).vd ham) (by omega) (by omega) (by omega) ?_
  refine w_Cf hC rfl ?_
  refine w_reduce hS hW ((frw _ k3).fr (fun b h1 h2 => wr5_ne (by omega))) ((frs _ k3).fr (fun b h1 h2 _ => wr5_ne (by omega)) hp hn5) (hC.ka rfl) (by omega) (X := bkm p n T (un i) (R a)) ⟨fun k hk => wr5_at hk, bkm_bd hD.ok⟩ (by omega) (by omega) (fun Y h1 h2 h3 => ?_)
  have hnf : Nf p n m ld S (bkm p n T (un i) (R a)) Y := ⟨h1, h2, h3⟩
  have hYe := hnf.eq hs.ech
  refine w_Cf hC rfl ?_
  refine w_Cf hC rfl ?_
  refine w_Rp (hC.ka rfl) hRP (by omega) (by omega) ?_
  have hra := hRP.ra (show i < 64 by omega)
  rw [z_0, z_5, zI_mul, show (5 * (a : Int)) = ((5 * a : Nat) : Int) by omega]
  refine w_copy (sp := 0) (dp := 5 * a) (n := 5) (hC.ka rfl) hra.2.2.2 (by omega) (by omega) ?_
  rw [z_1, zI_add]
  refine w_jcont ⟨ham, rfl, fun i' q h4 h5 => ?_, fun b r h4 h5 => ?_, fun x hx => ?_⟩
  · show (if rpl M (c + 117) i' = rpl M (c + 117) i ∧ 5 * a ≤ q ∧ q < 5 * a + 5 then wr5 _ (c + 74) Y (c + 74) (0 + (q - 5 * a)) else wr5 _ (c + 74) Y (rpl M (c + 117) i') q) = _
    by_cases e : i' = i ∧ 5 * a ≤ q ∧ q < 5 * a + 5
    · rw [e.1, if_pos ⟨rfl, e.2⟩, if_pos (by omega), wr5_at (by omega), Nat.zero_add]
      have := hNA i a (q - 5 * a) hin ham (by omega)
      rw [show 5 * a + (q - 5 * a) = q by omega] at this
      rw [this, ← hYe]
    · rw [if_neg (fun x => e ⟨hRP.inj (by omega) (by omega) x.1, x.2⟩)]
      have hri := (hRP.ra (show i' < 64 by omega)).2
      rw [wr5_ne (by omega), wr5_ne (by omega), wr5_ne (by omega), k1 i' q h4 h5]
      by_cases e2 : i' < i ∨ i' = i ∧ q < 5 * a
      · rw [if_pos e2, if_pos (by omega)]
      · rw [if_neg e2, if_neg (by omega)]
  · by_cases e : b = i ∧ r = a
    · rw [e.1, e.2]; exact hnf.ok
    · exact k1n b r h4 (by omega)
  · funext k
    show (if x = rpl M (c + 117) i ∧ _ then _ else wr5 _ (c + 74) Y x k) = _
    rw [if_neg (by omega), wr5_ne (by omega), wr5_ne (by omega), k3 x hx]
theorem w_sw {ks : List (JM Mem α)} {d : JM Mem α} {Q : α → Mem → NM → Prop} {k : Nat} (hk : k ≤ 1000) (h : GN M N (ks[k]?.getD d) Q) : GN M N (jsw (zI k) 0 ks d) Q := by
  unfold jsw
  rw [zI_to ⟨by omega, by omega⟩, if_neg (by omega), show ((k : Int) - 0).toNat = k by omega]
  cases e : ks[k]? with
  | none => rw [e] at h; exact h
  | some g => rw [e] at h; exact h
theorem w_rz {f : Int32 → JM Mem τ} {Q : τ → Mem → NM → Prop} {v : Int} (hv : v = 0 ∨ v = 1) (h : GN M N (f (zI v)) Q) : GN M N (jb (jrz (zI v)) f) Q := by
  refine w_jb ?_
  have e : (jrz (zI v) : JM Mem Int32) = jp (zI v) := by
    funext M
    unfold jrz
    rw [if_pos (by rcases hv with rfl | rfl; exact Or.inl rfl; exact Or.inr rfl)]
    rfl
  rw [e]
  exact w_jp h
theorem w_rze {Q : Int32 → Mem → NM → Prop} {v : Int} (hv : v = 0 ∨ v = 1) (h : Q (zI v) M N) : GN M N (jrz (zI v)) Q := by
  have e : (jrz (zI v) : JM Mem Int32) = jp (zI v) := by
    funext M
    unfold jrz
    rw [if_pos (by rcases hv with rfl | rfl; exact Or.inl rfl; exact Or.inr rfl)]
    rfl
  rw [e]
  exact w_jp h
theorem w_isKind {f : Int32 → JM Mem τ} {Q : τ → Mem → NM → Prop} {kind : Nat} (hC : CL M c) (hW : WL M w) (hD : WD N w p n T) (hw : w + 32 ≤ c + 72 ∨ c + 212 ≤ w) (hS : SL M s) (hs : SpD N s p n m R ld S) (h77 : c + 182 ≤ s ∧ s ≤ c + 190) (hk : kind ≤ 6)
    (h : ∀ M' N' v, (v = 1 ∧ KD p n T kind m R ld S ∨ v = 0 ∧ ¬ KD p n T kind m R ld S) → Bg c M M' → (∀ x, x < c + 72 ∨ c + 182 ≤ x → N' x = N x) → GN M' N' (f (zI v)) Q) : GN M N (jb (jcall 0 c (f_X0_isKind c w s (zI kind))) f) Q := by
  have hn5 := hD.n5
  have hp := hD.pr
  have hmn := hs.mn hp
  have frw : ∀ N1 : NM, (∀ b, b < c + 72 ∨ c + 182 ≤ b → N1 b = N b) → WD N1 w p n T := fun N1 g => hD.fr (fun b h1 h2 => g b (by omega))
  have frs : ∀ N1 : NM, (∀ b, b < c + 72 ∨ c + 182 ≤ b → N1 b = N b) → SpD N1 s p n m R ld S := fun N1 g => hs.fr (fun b h1 h2 _ => g b (by omega)) hp hn5
  refine w_Cc hC ?_
  unfold f_X0_isKind
  refine w_sw (by omega) ?_
  have h01 : ∀ {v : Int} {P : Prop}, (v = 1 ∧ P ∨ v = 0 ∧ ¬ P) → v = 0 ∨ v = 1 := fun h => by rcases h with ⟨e, _⟩ | ⟨e, _⟩ <;> omega
  have hk7 : kind = 0 ∨ kind = 1 ∨ kind = 2 ∨ kind = 3 ∨ kind = 4 ∨ kind = 5 ∨ kind = 6 := by omega
  rcases hk7 with rfl | rfl | rfl | rfl | rfl | rfl | rfl
  · refine w_isPart hC hW hD hw hS hs (by omega) (fun N1 v hv hfr => ?_)
    exact w_rze (h01 hv) (h M N1 v hv (Bg.rf hC) (fun x hx => hfr x (by omega) (by omega)))
  · refine w_isIdeal hC hW hD hw hS hs (by omega) (fun N1 v hv hfr => ?_)
    exact w_rze (h01 hv) (h M N1 v hv (Bg.rf hC) (fun x hx => hfr x (by omega)))
  · refine w_isAbelian hC hW hD hw hS hs (by omega) (fun N1 v hv hfr => ?_)
    exact w_rze (h01 hv) (h M N1 v hv (Bg.rf hC) (fun x hx => hfr x (by omega)))
  · refine w_isPart hC hW hD hw hS hs (by omega) (fun N1 v hv hfr => ?_)
    have hb := h01 hv
    rw [z_0]
    refine w_eq ⟨by omega, by omega⟩ ⟨by omega, by omega⟩ (fun e => ?_) (fun e => ?_)
    · refine w_jp (h M N1 0 (Or.inr ⟨rfl, fun q => ?_⟩) (Bg.rf hC) (fun x hx => hfr x (by omega) (by omega)))
      rcases hv with ⟨e2, _⟩ | ⟨_, e2⟩
      · omega
      · exact e2 q.1
    have hcl : Clo n T False S := by
      rcases hv with ⟨_, e2⟩ | ⟨e2, _⟩
      · exact e2
      · omega
    have fr1 : ∀ b, b < c + 72 ∨ c + 182 ≤ b → N1 b = N b := fun x hx => hfr x (by omega) (by omega)
    refine w_isSer (d := 0) hC hW (frw N1 fr1) hw hS (frs N1 fr1) (by omega) (Or.inl rfl) (fun N2 v2 hv2 hfr2 => ?_)
    have hb2 := h01 hv2
    have fr2 : ∀ b, b < c + 72 ∨ c + 182 ≤ b → N2 b = N b := fun x hx => by rw [hfr2 x (by omega), fr1 x hx]
    refine w_eq ⟨by omega, by omega⟩ ⟨by omega, by omega⟩ (fun e2 => ?_) (fun e2 => ?_)
    · refine w_jp (h M N2 0 (Or.inr ⟨rfl, fun q => ?_⟩) (Bg.rf hC) fr2)
      rcases hv2 with ⟨e3, _⟩ | ⟨_, e3⟩
      · omega
      · exact e3 q.2.1
    have hnil : dm p n (LSr p n T S 5) = 0 := by
      rcases hv2 with ⟨_, e3⟩ | ⟨e3, _⟩
      · exact e3
      · omega
    refine w_normalizer hC hW (frw N2 fr2) hw hS (frs N2 fr2) h77.1 (fun M3 N3 hb3 hfr3 => ?_)
    have fr3 : ∀ b, b < c + 72 ∨ c + 182 ≤ b → N3 b = N b := fun x hx => by rw [hfr3 x hx, fr2 x hx]
    refine w_getI (hS.bg hb3 (by omega)).1 ?_
    rw [(frs N3 fr3).me]
    have hdl := dm_le (p := p) (n := n) (S := NzE p n m T R ld S)
    refine w_eq ⟨by omega, by omega⟩ ⟨by omega, by omega⟩ (fun e3 => ?_) (fun e3 => ?_)
    · exact w_jp (h M3 N3 1 (Or.inl ⟨rfl, hcl, hnil, by omega⟩) hb3 fr3)
    · exact w_jp (h M3 N3 0 (Or.inr ⟨rfl, fun q => e3 (by have := q.2.2; omega)⟩) hb3 fr3)
  · refine w_isIdeal hC hW hD hw hS hs (by omega) (fun N1 v hv hfr => ?_)
    have hb := h01 hv
    rw [z_0]
    refine w_eq ⟨by omega, by omega⟩ ⟨by omega, by omega⟩ (fun e => ?_) (fun e => ?_)
    · refine w_jp (h M N1 0 (Or.inr ⟨rfl, fun q => ?_⟩) (Bg.rf hC) (fun x hx => hfr x (by omega)))
      rcases hv with ⟨e2, _⟩ | ⟨_, e2⟩
      · omega
      · exact e2 q.1
    have hcl : Clo n T True S := by
      rcases hv with ⟨_, e2⟩ | ⟨e2, _⟩
      · exact e2
      · omega
    have fr1 : ∀ b, b < c + 72 ∨ c + 182 ≤ b → N1 b = N b := fun x hx => hfr x (by omega)
    refine w_isSer (d := 1) hC hW (frw N1 fr1) hw hS (frs N1 fr1) (by omega) (Or.inr rfl) (fun N2 v2 hv2 hfr2 => ?_)
    have hb2 := h01 hv2
    have fr2 : ∀ b, b < c + 72 ∨ c + 182 ≤ b → N2 b = N b := fun x hx => by rw [hfr2 x (by omega), fr1 x hx]
    refine w_eq ⟨by omega, by omega⟩ ⟨by omega, by omega⟩ (fun e2 => ?_) (fun e2 => ?_)
    · refine w_jp (h M N2 0 (Or.inr ⟨rfl, fun q => ?_⟩) (Bg.rf hC) fr2)
      rcases hv2 with ⟨e3, _⟩ | ⟨_, e3⟩
      · omega
      · exact e3 q.2
    · refine w_jp (h M N2 1 (Or.inl ⟨rfl, hcl, ?_⟩) (Bg.rf hC) fr2)
      rcases hv2 with ⟨_, e3⟩ | ⟨e3, _⟩
      · exact e3
      · omega
  · refine w_isIdeal hC hW hD hw hS hs (by omega) (fun N1 v hv hfr => ?_)
    have hb := h01 hv
    rw [z_0]
    refine w_eq ⟨by omega, by omega⟩ ⟨by omega, by omega⟩ (fun e => ?_) (fun e => ?_)
    · refine w_jp (h M N1 0 (Or.inr ⟨rfl, fun q => ?_⟩) (Bg.rf hC) (fun x hx => hfr x (by omega)))
      rcases hv with ⟨e2, _⟩ | ⟨_, e2⟩
      · omega
      · exact e2 q.1
    have hcl : Clo n T True S := by
      rcases hv with ⟨_, e2⟩ | ⟨e2, _⟩
      · exact e2
      · omega
    have fr1 : ∀ b, b < c + 72 ∨ c + 182 ≤ b → N1 b = N b := fun x hx => hfr x (by omega)
    refine w_isSer (d := 0) hC hW (frw N1 fr1) hw hS (frs N1 fr1) (by omega) (Or.inl rfl) (fun N2 v2 hv2 hfr2 => ?_)
    have hb2 := h01 hv2
    have fr2 : ∀ b, b < c + 72 ∨ c + 182 ≤ b → N2 b = N b := fun x hx => by rw [hfr2 x (by omega), fr1 x hx]
    refine w_eq ⟨by omega, by omega⟩ ⟨by omega, by omega⟩ (fun e2 => ?_) (fun e2 => ?_)
    · refine w_jp (h M N2 0 (Or.inr ⟨rfl, fun q => ?_⟩) (Bg.rf hC) fr2)
      rcases hv2 with ⟨e3, _⟩ | ⟨_, e3⟩
      · omega
      · exact e3 q.2
    · refine w_jp (h M N2 1 (Or.inl ⟨rfl, hcl, ?_⟩) (Bg.rf hC) fr2)
      rcases hv2 with ⟨_, e3⟩ | ⟨e3, _⟩
      · exact e3
      · omega
  · exact w_jp (h M N 1 (Or.inl ⟨rfl, trivial⟩) (Bg.rf hC) (fun _ _ => rfl))
end CMP3
