/-! SPANS: the methods of Span. -/
set_option maxRecDepth 100000
section SPAN
variable {α τ : Type} {M : Mem} {N N' : NM} {w s v : Nat} {p : Int} {n m : Nat} {T : Nat → Nat → Nat → Int} {R : Nat → Nat → Int} {ld : Nat → Nat} {S : VS} {X Y : Nat → Int}
def SpD (N : NM) (s : Nat) (p : Int) (n m : Nat) (R : Nat → Nat → Int) (ld : Nat → Nat) (S : VS) : Prop :=
  N s 2 = m ∧ (∀ r k, r < m → k < 5 → N (s + 2 + r) k = R r k) ∧ (∀ r, r < m → N (s + 7) r = ld r) ∧ (∀ r k, 0 ≤ R r k ∧ R r k < p ∧ (n ≤ k → R r k = 0)) ∧
    (∀ r q, r < q → q < m → ld r < ld q) ∧ Ech p n m R ld S
theorem SpD.fr (h : SpD N s p n m R ld S) (e : ∀ b, s ≤ b → b < s + 8 → m ≤ 5 → N' b = N b) (hp : Pr p) (hn : n ≤ 5) : SpD N' s p n m R ld S := by
  have hm : m ≤ 5 := by
    have := h.2.2.2.2.2.dm hp
    have := dm_le (p := p) (n := n) (S := S)
    omega
  refine ⟨by rw [e s (by omega) (by omega) hm]; exact h.1, fun r k hr hk => by rw [e _ (by omega) (by omega) hm]; exact h.2.1 r k hr hk, fun r hr => by rw [e _ (by omega) (by omega) hm]; exact h.2.2.1 r hr, h.2.2.2⟩
theorem SpD.me (h : SpD N s p n m R ld S) : N s 2 = m := h.1
theorem SpD.at (h : SpD N s p n m R ld S) {r k : Nat} (hr : r < m) (hk : k < 5) : N (s + 2 + r) k = R r k := h.2.1 r k hr hk
theorem SpD.l (h : SpD N s p n m R ld S) {r : Nat} (hr : r < m) : N (s + 7) r = ld r := h.2.2.1 r hr
theorem SpD.bd (h : SpD N s p n m R ld S) (r k : Nat) : 0 ≤ R r k ∧ R r k < p ∧ (n ≤ k → R r k = 0) := h.2.2.2.1 r k
theorem SpD.so (h : SpD N s p n m R ld S) : ∀ r q, r < q → q < m → ld r < ld q := h.2.2.2.2.1
theorem SpD.ech (h : SpD N s p n m R ld S) : Ech p n m R ld S := h.2.2.2.2.2
theorem SpD.dm (h : SpD N s p n m R ld S) (hp : Pr p) : dm p n S = m := h.ech.dm hp
theorem SpD.mn (h : SpD N s p n m R ld S) (hp : Pr p) : m ≤ n := by
  rw [← h.dm hp]
  exact dm_le
theorem wr5_self {g : Nat → Int} (h : ∀ k, k < 5 → N v k = g k) : wr5 N v g = N := by
  funext b k
  show (if b = v ∧ k < 5 then g k else N b k) = N b k
  split
  · rename_i hc
    rw [hc.1, h k hc.2]
  · rfl
theorem wr5_up {g : Nat → Int} {k : Nat} {x : Int} (hk : k < 5) : up2 (wr5 N v g) v k x = wr5 N v (fun j => if j = k then x else g j) := by
  funext b j
  show (if b = v ∧ j = k then x else if b = v ∧ j < 5 then g j else N b j) = (if b = v ∧ j < 5 then (if j = k then x else g j) else N b j)
  by_cases hb : b = v
  · by_cases hj : j = k
    · rw [if_pos ⟨hb, hj⟩, if_pos ⟨hb, by omega⟩, if_pos hj]
    · rw [if_neg (fun q => hj q.2)]
      by_cases hl : j < 5
      · rw [if_pos ⟨hb, hl⟩, if_pos ⟨hb, hl⟩, if_neg hj]
      · rw [if_neg (fun q => hl q.2), if_neg (fun q => hl q.2)]
  · rw [if_neg (fun q => hb q.1), if_neg (fun q => hb q.1), if_neg (fun q => hb q.1)]
theorem wr5_ext {g g' : Nat → Int} (h : ∀ k, k < 5 → g k = g' k) : wr5 N v g = wr5 N v g' := by
  funext b k
  show (if b = v ∧ k < 5 then g k else N b k) = (if b = v ∧ k < 5 then g' k else N b k)
  split
  · rename_i hc
    exact h k hc.2
  · rfl
/-- one row taken off a vector, and what that is good for -/
theorem sub_row (hp : Pr p) (hE : Ech p n m R ld S) {r : Nat} (hr : r < m) (hS : S (fun k => X k - Y k)) (hb : ∀ k, 0 ≤ Y k ∧ Y k < p ∧ (n ≤ k → Y k = 0)) (h0 : ∀ q, q < r → Y (ld q) = 0) {Y' : Nat → Int}
    (hY : ∀ k, k < n → Y' k = (Y k - Y (ld r) * R r k) % p) (hY0 : ∀ k, n ≤ k → Y' k = 0) :
    (∀ k, 0 ≤ Y' k ∧ Y' k < p ∧ (n ≤ k → Y' k = 0)) ∧ S (fun k => X k - Y' k) ∧ ∀ q, q < r + 1 → Y' (ld q) = 0 := by
  have hpp := hp.pos
  refine ⟨fun k => ?_, ?_, fun q hq => ?_⟩
  · by_cases hk : k < n
    · rw [hY k hk]
      exact ⟨Int.emod_nonneg _ (by omega), Int.emod_lt_of_pos _ (by omega), fun h => by omega⟩
    · rw [hY0 k (by omega)]
      exact ⟨by omega, by omega, fun _ => rfl⟩
  · refine hE.sb.q (hE.sb.ax (Y (ld r)) hS (hE.row hr)) (fun k hk => ?_)
    rw [hY k hk]
    have h1 := (Cg.rf (p := p) (a := X k)).sub (Cg.mod p (Y k - Y (ld r) * R r k)).sy
    refine (Cg.of ?_).tr h1
    omega
  · have hl := hE.ldn (show q < m by omega)
    rw [hY _ hl]
    refine Cg.zero_iff.mp ?_
    by_cases e : q = r
    · subst e
      have h1 := (Cg.rf (p := p) (a := Y (ld q))).sub (Cg.ml (Y (ld q)) (hE.on hr))
      refine h1.tr (Cg.of ?_)
      omega
    · have h1 := (Cg.of (p := p) (h0 q (by omega))).sub (Cg.ml (Y (ld r)) (hE.off hr (show q < m by omega) (fun x => e x.symm)))
      refine h1.tr (Cg.of ?_)
      omega
theorem w_reduce {L : Nat} {f : Unit → JM Mem τ} {Q : τ → Mem → NM → Prop} (hS : SL M s) (hW : WL M w) (hD : WD N w p n T) (hs : SpD N s p n m R ld S) (hK : mK M v = some (.inr (0, L))) (hL : 5 ≤ L ∧ L ≤ 100) (hX : VD N v p n X)
    (hvw : v < w ∨ w + 32 ≤ v) (hvs : v < s ∨ s + 8 ≤ v)
    (h : ∀ Y, (∀ k, 0 ≤ Y k ∧ Y k < p ∧ (n ≤ k → Y k = 0)) → S (fun k => X k - Y k) → (∀ r, r < m → Y (ld r) = 0) → GN M (wr5 N v Y) (f ()) Q) : GN M N (jb (jcall 4 s (f_X5_reduce s w v)) f) Q := by
  have hpb := hD.pb
  have hn5 := hD.n5
  have hmn := hs.mn hD.pr
  refine w_call hS.1 ?_
  unfold f_X5_reduce
  refine w_up m (fun r N1 => ∃ Y, N1 = wr5 N v Y ∧ (∀ k, 0 ≤ Y k ∧ Y k < p ∧ (n ≤ k → Y k = 0)) ∧ S (fun k => X k - Y k) ∧ ∀ q, q < r → Y (ld q) = 0) 0 rfl (by omega)
    ⟨X, (wr5_self hX.1).symm, hX.2, hs.ech.sb.e hs.ech.sb.z (fun k _ => by omega), fun q hq => by omega⟩ ?_
  rintro r N1 hr ⟨Y, rfl, hY, hSY, hYz⟩
  have frw : ∀ g, WD (wr5 N v g) w p n T := fun g => hD.fr (fun b h1 h2 => wr5_ne (by omega))
  have frs : ∀ g, SpD (wr5 N v g) s p n m R ld S := fun g => hs.fr (fun b h1 h2 _ => wr5_ne (by omega)) hD.pr hn5
  unfold X5_reduce_L2
  refine w_getI hS.1 ?_
  rw [(frs Y).me]
  refine w_le ⟨by omega, by omega⟩ ⟨by omega, by omega⟩ (fun hc => ?_) (fun hc => ?_)
  · have : r = m := by omega
    subst this
    exact w_jinl (w_jp (h Y hY hSY hYz))
  have hrm : r < m := by omega
  have hlr := hs.ech.ldn hrm
  refine w_Sl hS ?_
  refine w_ald hS.kl (by omega) (by omega) ?_
  rw [show ((r : Int).toNat) = r from rfl, (frs Y).l hrm]
  refine w_ald hK (by omega) (by omega) ?_
  rw [show ((ld r : Int).toNat) = ld r from rfl, wr5_at (by omega)]
  have hby := hY (ld r)
  rw [z_0]
  refine w_up n (fun k N2 => N2 = wr5 N v (fun j => if j < k then (Y j - Y (ld r) * R r j) % p else Y j)) 0 rfl (by omega) (wr5_ext (fun k _ => by rw [if_neg (by omega)])) ?_
  rintro k N2 hk rfl
  unfold X5_reduce_L23
  refine w_Wp hW ?_
  rw [(frw _).ne]
  have hdone : ∀ g : Nat → Int, (∀ j, j < n → g j = (Y j - Y (ld r) * R r j) % p) → (∀ j, n ≤ j → g j = Y j) →
      GN M (wr5 N v g) (jinl (X5_reduce_b68 s w v (zI r))) (LQ (LQ (fun v1 M1 N1 => GN M1 N1 (f v1) Q) (KF M (fun t N1 => r < m ∧ t = zI ((r : Int) + 1) ∧ ∃ Y, N1 = wr5 N v Y ∧ (∀ k, 0 ≤ Y k ∧ Y k < p ∧ (n ≤ k → Y k = 0)) ∧ S (fun k => X k - Y k) ∧ ∀ q, q < r + 1 → Y (ld q) = 0)))
        (KF M (fun t N1 => k < n ∧ t = zI ((k : Int) + 1) ∧ N1 = wr5 N v (fun j => if j < k + 1 then (Y j - Y (ld r) * R r j) % p else Y j)))) := by
    intro g hg1 hg2
    unfold X5_reduce_b68
    rw [z_1, zI_add]
    obtain ⟨q1, q2, q3⟩ := sub_row hD.pr hs.ech hrm hSY hY hYz hg1 (fun k hk => (hg2 k hk).trans ((hY k).2.2 hk))
    exact w_jinl (w_jcont ⟨hrm, rfl, g, rfl, q1, q2, q3⟩)
  refine w_le ⟨by omega, by omega⟩ ⟨by omega, by omega⟩ (fun hd => ?_) (fun hd => ?_)
  · exact hdone _ (fun j hj => if_pos (by omega)) (fun j hj => if_neg (by omega))
  rw [z_0]
  refine w_eq ⟨by omega, by omega⟩ ⟨by omega, by omega⟩ (fun he => ?_) (fun he => ?_)
  · refine hdone _ (fun j hj => ?_) (fun j hj => if_neg (by omega))
    have hj2 := hY j
    show (if j < k then _ else Y j) = _
    rw [he, Int.zero_mul, Int.sub_zero, Int.emod_eq_of_lt hj2.1 hj2.2.1]
    split <;> rfl
  refine w_ald hK (by omega) (by omega) ?_
  rw [show ((k : Int).toNat) = k from rfl, wr5_at (by omega), if_neg (Nat.lt_irrefl k)]
  refine w_Sr hS (by omega) ?_
  refine w_ald (hS.kr (by omega)) (by omega) (by omega) ?_
  rw [show ((k : Int).toNat) = k from rfl, (frs _).at hrm (by omega), zI_mul, zI_sub]
  have hYk := hY k
  have hRk := hs.bd r k
  have hmb := mul_bd (x := Y (ld r)) (y := R r k) (a := 7) (b := 7) (by omega) (by omega)
  refine w_by hW (by rw [(frw _).pe]; omega) ⟨by omega, by omega⟩ ?_
  refine w_ast hK (by omega) (by omega) ?_
  rw [show ((k : Int).toNat) = k from rfl, (frw _).pe, wr5_up (by omega), z_1, zI_add]
  refine w_jcont ⟨by omega, rfl, wr5_ext (fun j hj => ?_)⟩
  by_cases e : j = k
  · rw [if_pos e, if_pos (by omega), e]
  · rw [if_neg e]
    by_cases e2 : j < k
    · rw [if_pos e2, if_pos (by omega)]
    · rw [if_neg e2, if_neg (by omega)]
/-- what reducing leaves tells whether the vector lies within -/
theorem red_in (hE : Ech p n m R ld S) (hS : S (fun k => X k - Y k)) (hz : ∀ r, r < m → Y (ld r) = 0) (hb : ∀ k, 0 ≤ Y k ∧ Y k < p) : S X ↔ ∀ k, k < n → Y k = 0 := by
  constructor
  · intro h
    have h1 : S Y := hE.sb.e (hE.sb.sub h hS) (fun k _ => by omega)
    have h2 := hE.nf h1 (fun r hr => Cg.of (hz r hr))
    intro k hk
    have := hb k
    exact (h2 k hk).eq (hb k) ⟨by show (0 : Int) ≤ 0; omega, by show (0 : Int) < p; omega⟩
  · intro h
    exact hE.sb.e hS (fun k hk => by rw [h k hk]; omega)
theorem w_holds {L L2 wk : Nat} {f : Int32 → JM Mem τ} {Q : τ → Mem → NM → Prop} (hS : SL M s) (hW : WL M w) (hD : WD N w p n T) (hs : SpD N s p n m R ld S) (hK : mK M v = some (.inr (0, L))) (hL : 5 ≤ L ∧ L ≤ 100) (hX : VD N v p n X)
    (hK2 : mK M wk = some (.inr (0, L2))) (hL2 : 5 ≤ L2 ∧ L2 ≤ 100) (hvw : wk < w ∨ w + 32 ≤ wk) (hvs : wk < s ∨ s + 8 ≤ wk)
    (h : ∀ Y a, (a = 1 ∧ S X ∨ a = 0 ∧ ¬ S X) → GN M (wr5 N wk Y) (f (zI a)) Q) : GN M N (jb (jcall 4 s (f_X5_holds s w v wk)) f) Q := by
  have hpb := hD.pb
  have hn5 := hD.n5
  have hmn := hs.mn hD.pr
  refine w_call hS.1 ?_
  unfold f_X5_holds
  rw [z_0]
  refine w_copy5 hK hK2 (by omega) (by omega) ?_
  have e0 : cp5 N v wk = wr5 N wk X := by
    funext b k
    show (if b = wk ∧ k < 5 then N v k else N b k) = (if b = wk ∧ k < 5 then X k else N b k)
    split
    · rename_i hc
      exact hX.at hc.2
    · rfl
  rw [e0]
  refine w_reduce hS hW (hD.fr (fun b h1 h2 => wr5_ne (by omega))) (hs.fr (fun b h1 h2 _ => wr5_ne (by omega)) hD.pr hn5) hK2 hL2 ⟨fun k hk => wr5_at hk, hX.2⟩ hvw hvs (fun Y hY hSY hYz => ?_)
  rw [wr5_wr5]
  have hin := red_in hs.ech hSY hYz (fun k => ⟨(hY k).1, (hY k).2.1⟩)
  refine w_up n (fun k N1 => N1 = wr5 N wk Y ∧ ∀ j, j < k → Y j = 0) 0 rfl (by omega) ⟨rfl, fun j hj => by omega⟩ ?_
  rintro k N1 hk ⟨rfl, hz⟩
  unfold X5_holds_L17
  refine w_Wp hW ?_
  rw [wr5_ne (show w ≠ wk by omega), hD.ne]
  refine w_le ⟨by omega, by omega⟩ ⟨by omega, by omega⟩ (fun hc => ?_) (fun hc => ?_)
  · exact w_jinl (w_jp (h Y 1 (Or.inl ⟨rfl, hin.mpr (fun j hj => hz j (by omega))⟩)))
  refine w_ald hK2 (by omega) (by omega) ?_
  have hYk := hY k
  rw [show ((k : Int).toNat) = k from rfl, wr5_at (by omega), z_0]
  refine w_eq ⟨by omega, by omega⟩ ⟨by omega, by omega⟩ (fun he => ?_) (fun he => ?_)
  · rw [z_1, zI_add]
    refine w_jcont ⟨by omega, rfl, rfl, fun j hj => ?_⟩
    by_cases e : j = k
    · rw [e]; exact he
    · exact hz j (by omega)
  · exact w_jinl (w_jp (h Y 0 (Or.inr ⟨rfl, fun hx => he (hin.mp hx k (by omega))⟩)))
/-- the insertion of a row into an echelon in order -/
theorem ech_ins (hp : Pr p) (hE : Ech p n m R ld S) (hso : ∀ r q, r < q → q < m → ld r < ld q) (hSY : S (fun k => X k - Y k)) (hz : ∀ r, r < m → Y (ld r) = 0) (hb : ∀ k, 0 ≤ Y k ∧ Y k < p ∧ (n ≤ k → Y k = 0))
    {l : Nat} (hl : l < n) (hl1 : Y l ≠ 0) (hl2 : ∀ k, k < l → Y k = 0) {a : Int} (ha : Iv p (Y l) a) {U : Nat → Int} (hU : ∀ k, k < n → U k = Y k * a % p) {R1 : Nat → Nat → Int} (hR1 : ∀ r k, r < m → k < n → R1 r k = (R r k - R r l * U k) % p)
    {at' : Nat} (hat : at' ≤ m) (h1 : ∀ r, r < at' → ld r ≤ l) (h2 : ∀ r, at' ≤ r → r < m → l < ld r) :
    Ech p n (m + 1) (fun r => if r < at' then R1 r else if r = at' then U else R1 (r - 1)) (fun r => if r < at' then ld r else if r = at' then l else ld (r - 1)) (Ad S X) ∧
      ∀ r q, r < q → q < m + 1 → (fun r => if r < at' then ld r else if r = at' then l else ld (r - 1)) r < (fun r => if r < at' then ld r else if r = at' then l else ld (r - 1)) q := by
  have hne : ∀ r, r < m → ld r ≠ l := fun r hr e => hl1 (by rw [← e]; exact hz r hr)
  have hlv : Ldv p n Y l := ⟨hl, fun e => hl1 (e.eq ⟨(hb l).1, (hb l).2.1⟩ ⟨Int.le_refl 0, by have := hp.pos; omega⟩), fun k hk => Cg.of (hl2 k hk)⟩
  have hj := hE.join hp (v := X) (w := Y) (u := U) (R' := R1) (a := a) hSY (fun r hr => Cg.of (hz r hr)) hlv ha.2.2 (fun k hk => by rw [hU k hk, Int.mul_comm]; exact Cg.mod p _) (fun r hr k hk => by rw [hR1 r k hr hk]; exact Cg.mod p _)
  refine ⟨hj.perm (σ := fun r => if r < at' then r else if r = at' then m else r - 1) (fun r hr => ?_) (fun r hr q hq e => ?_) (fun r hr => ?_) (fun r hr => Vq.of (fun k _ => ?_)) (fun r hr => ?_), fun r q hrq hq => ?_⟩
  · show (if r < at' then r else if r = at' then m else r - 1) < m + 1
    split
    · omega
    · split <;> omega
  · have e : (if r < at' then r else if r = at' then m else r - 1) = (if q < at' then q else if q = at' then m else q - 1) := e
    (repeat' split at e) <;> omega
  · by_cases c1 : r < at'
    · exact ⟨r, hr, if_pos c1⟩
    · by_cases c2 : r = m
      · exact ⟨at', by omega, by
          show (if at' < at' then at' else if at' = at' then m else at' - 1) = r
          rw [if_neg (Nat.lt_irrefl _), if_pos rfl, c2]⟩
      · exact ⟨r + 1, by omega, by
          show (if r + 1 < at' then r + 1 else if r + 1 = at' then m else r + 1 - 1) = r
          rw [if_neg (by omega), if_neg (by omega)]; omega⟩
  · show (if r < at' then R1 r else if r = at' then U else R1 (r - 1)) k = (if (if r < at' then r else if r = at' then m else r - 1) < m then R1 (if r < at' then r else if r = at' then m else r - 1) else U) k
    by_cases c1 : r < at'
    · rw [if_pos c1, if_pos c1, if_pos (by omega)]
    · by_cases c2 : r = at'
      · rw [if_neg c1, if_pos c2, if_neg c1, if_pos c2, if_neg (Nat.lt_irrefl m)]
      · rw [if_neg c1, if_neg c2, if_neg c1, if_neg c2, if_pos (by omega)]
  · show (if r < at' then ld r else if r = at' then l else ld (r - 1)) = (if (if r < at' then r else if r = at' then m else r - 1) < m then ld (if r < at' then r else if r = at' then m else r - 1) else l)
    by_cases c1 : r < at'
    · rw [if_pos c1, if_pos c1, if_pos (by omega)]
    · by_cases c2 : r = at'
      · rw [if_neg c1, if_pos c2, if_neg c1, if_pos c2, if_neg (Nat.lt_irrefl m)]
      · rw [if_neg c1, if_neg c2, if_neg c1, if_neg c2, if_pos (by omega)]
  · show (if r < at' then ld r else if r = at' then l else ld (r - 1)) < (if q < at' then ld q else if q = at' then l else ld (q - 1))
    by_cases c1 : r < at'
    · rw [if_pos c1]
      have g1 := h1 r c1
      have g2 := hne r (by omega)
      by_cases c2 : q < at'
      · rw [if_pos c2]; exact hso r q hrq (by omega)
      · rw [if_neg c2]
        by_cases c3 : q = at'
        · rw [if_pos c3]; omega
        · rw [if_neg c3]
          exact hso r (q - 1) (by omega) (by omega)
    · rw [if_neg c1, if_neg (show ¬ q < at' by omega), if_neg (show ¬ q = at' by omega)]
      by_cases c2 : r = at'
      · rw [if_pos c2]
        exact h2 (q - 1) (by omega) (by omega)
      · rw [if_neg c2]
        exact hso (r - 1) (q - 1) (by omega) (by omega)
/-- the rows of a span with one more, written where they go -/
theorem w_add {L : Nat} {f : Int32 → JM Mem τ} {Q : τ → Mem → NM → Prop} (hS : SL M s) (hW : WL M w) (hD : WD N w p n T) (hs : SpD N s p n m R ld S) (hK : mK M v = some (.inr (0, L))) (hL : 5 ≤ L ∧ L ≤ 100) (hX : VD N v p n X)
    (hvw : v < w ∨ w + 32 ≤ v) (hvs : v < s ∨ s + 8 ≤ v) (hsw : s + 8 ≤ w ∨ w + 32 ≤ s)
    (h : ∀ N' m' R' ld' a, SpD N' s p n m' R' ld' (Ad S X) → (a = 0 ∧ m' = m ∧ S X ∨ a = 1 ∧ m' = m + 1 ∧ ¬ S X) → (∀ b, b ≠ v → b < s ∨ s + 8 ≤ b → N' b = N b) → GN M N' (f (zI a)) Q) :
    GN M N (jb (jcall 4 s (f_X5_add s w v)) f) Q := by
  have hpb := hD.pb
  have hn5 := hD.n5
  have hmn := hs.mn hD.pr
  refine w_call hS.1 ?_
  unfold f_X5_add
  refine w_reduce hS hW hD hs hK hL hX hvw hvs (fun Y hY hSY hYz => ?_)
  have hin := red_in hs.ech hSY hYz (fun k => ⟨(hY k).1, (hY k).2.1⟩)
  have frw : ∀ g, WD (wr5 N v g) w p n T := fun g => hD.fr (fun b h1 h2 => wr5_ne (by omega))
  have frs : ∀ g, SpD (wr5 N v g) s p n m R ld S := fun g => hs.fr (fun b h1 h2 _ => wr5_ne (by omega)) hD.pr hn5
  rw [z_0]
  refine w_up n (fun k N1 => N1 = wr5 N v Y ∧ ∀ j, j < k → Y j = 0) 0 rfl (by omega) ⟨rfl, fun j hj => by omega⟩ ?_
  rintro l N1 hl ⟨rfl, hz⟩
  unfold X5_add_L8
  refine w_Wp hW ?_
  rw [(frw Y).ne]
  refine w_le ⟨by omega, by omega⟩ ⟨by omega, by omega⟩ (fun hc => ?_) (fun hc => ?_)
  · refine w_jinl ?_
    unfold X5_add_b28
    refine w_Wp hW ?_
    rw [(frw Y).ne]
    refine w_eq ⟨by omega, by omega⟩ ⟨by omega, by omega⟩ (fun hd => ?_) (fun hd => absurd (show (l : Int) = n by omega) hd)
    have hx : S X := hin.mpr (fun j hj => hz j (by omega))
    exact w_jp (h _ m R ld 0 (by rw [Ad.same hs.ech.sb hx]; exact frs Y) (Or.inl ⟨rfl, rfl, hx⟩) (fun b h1 _ => wr5_ne h1))
  have hln : l < n := by omega
  refine w_ald hK (by omega) (by omega) ?_
  have hYl := hY l
  rw [show ((l : Int).toNat) = l from rfl, wr5_at (by omega), z_0]
  refine w_eq ⟨by omega, by omega⟩ ⟨by omega, by omega⟩ (fun he => ?_) (fun he => ?_)
  · rw [z_1, zI_add]
    refine w_jcont ⟨by omega, rfl, rfl, fun j hj => ?_⟩
    by_cases e : j = l
    · rw [e]; exact he
    · exact hz j (by omega)
  have hx : ¬ S X := fun hx => he (hin.mp hx l hln)
  refine w_jinl ?_
  unfold X5_add_b28
  refine w_Wp hW ?_
  rw [(frw Y).ne]
  refine w_eq ⟨by omega, by omega⟩ ⟨by omega, by omega⟩ (fun hd => by omega) (fun hd => ?_)
  refine w_ald hK (by omega) (by omega) ?_
  rw [show ((l : Int).toNat) = l from rfl, wr5_at (by omega)]
  refine w_inverse hW (by rw [(frw Y).pe]; exact hD.pr) (by rw [(frw Y).pe]; omega) (fun a ha => ?_)
  rw [(frw Y).pe] at ha
  have hab := ha.1
  have hab2 := ha.2.1
  -- the vector is scaled
  rw [z_0]
  refine w_up n (fun k N1 => N1 = wr5 N v (fun j => if j < k then Y j * a % p else Y j)) 0 rfl (by omega) (wr5_ext (fun j _ => by rw [if_neg (by omega)])) ?_
  rintro k N1 hk rfl
  unfold X5_add_L50
  refine w_Wp hW ?_
  rw [(frw _).ne]
  refine w_le ⟨by omega, by omega⟩ ⟨by omega, by omega⟩ (fun hf => ?_) (fun hf => ?_)
  rotate_left
  · refine w_ald hK (by omega) (by omega) ?_
    rw [show ((k : Int).toNat) = k from rfl, wr5_at (by omega), if_neg (Nat.lt_irrefl k)]
    refine w_Wp hW ?_
    rw [(frw _).pe, zI_mul]
    have hYk := hY k
    have hmb := mul_bd (x := Y k) (y := a) (a := 7) (b := 7) (by omega) (by omega)
    refine w_remP ⟨hmb.1, by omega, by omega⟩ ⟨by omega, by omega, by omega⟩ ?_
    refine w_ast hK (by omega) (by omega) ?_
    rw [show ((k : Int).toNat) = k from rfl, wr5_up (by omega), z_1, zI_add]
    refine w_jcont ⟨by omega, rfl, wr5_ext (fun j hj => ?_)⟩
    by_cases e : j = k
    · rw [if_pos e, if_pos (by omega), e]
    · rw [if_neg e]
      by_cases e2 : j < k
      · rw [if_pos e2, if_pos (by omega)]
      · rw [if_neg e2, if_neg (by omega)]
  have hkn : k = n := by omega
  subst hkn
  refine w_jinl ?_
  unfold X5_add_b81
  -- U, and the rows without what it leads
  generalize hU : (fun j => if j < k then Y j * a % p else Y j) = U
  have hU1 : ∀ j, j < k → U j = Y j * a % p := fun j hj => by rw [← hU]; exact if_pos hj
  have hU2 : ∀ j, k ≤ j → U j = 0 := fun j hj => by rw [← hU]; exact (if_neg (by omega)).trans ((hY j).2.2 hj)
  have hUb : ∀ j, 0 ≤ U j ∧ U j < p := fun j => by
    by_cases hj : j < k
    · rw [hU1 j hj]; exact ⟨Int.emod_nonneg _ (by omega), Int.emod_lt_of_pos _ (by omega)⟩
    · rw [hU2 j (by omega)]; exact ⟨by omega, by omega⟩
  generalize hR1 : (fun (q j : Nat) => if j < k then (R q j - R q l * U j) % p else R q j) = R1
  have hR1a : ∀ q j, j < k → R1 q j = (R q j - R q l * U j) % p := fun q j hj => by rw [← hR1]; exact if_pos hj
  have hR1b : ∀ q j, k ≤ j → R1 q j = R q j := fun q j hj => by rw [← hR1]; exact if_neg (by omega)
  have hR1c : ∀ q, R q l = 0 → ∀ j, R1 q j = R q j := fun q hq j => by
    by_cases hj : j < k
    · rw [hR1a q j hj, hq, Int.zero_mul, Int.sub_zero, Int.emod_eq_of_lt (hs.bd q j).1 (hs.bd q j).2.1]
    · exact hR1b q j (by omega)
  have hR1d : ∀ q j, 0 ≤ R1 q j ∧ R1 q j < p ∧ (k ≤ j → R1 q j = 0) := fun q j => by
    by_cases hj : j < k
    · rw [hR1a q j hj]; exact ⟨Int.emod_nonneg _ (by omega), Int.emod_lt_of_pos _ (by omega), fun h => by omega⟩
    · rw [hR1b q j (by omega)]; exact hs.bd q j
  rw [z_0]
  refine w_up m (fun r N1 => (∀ j, j < 5 → N1 v j = U j) ∧ (∀ q j, q < m → j < 5 → N1 (s + 2 + q) j = if q < r then R1 q j else R q j) ∧ ∀ b, b ≠ v → b < s + 2 ∨ s + 2 + m ≤ b → N1 b = N b) 0 rfl (by omega)
    ⟨fun j hj => wr5_at hj, fun q j hq hj => by rw [if_neg (by omega)]; exact (frs U).at hq hj, fun b h1 _ => wr5_ne h1⟩ ?_
  rintro r N1 hr ⟨g1, g2, g3⟩
  have gw : ∀ N1 : NM, (∀ b, b ≠ v → b < s + 2 ∨ s + 2 + m ≤ b → N1 b = N b) → WD N1 w p k T := fun N1 g => hD.fr (fun b h1 h2 => g b (by omega) (by omega))
  unfold X5_add_L84
  refine w_getI hS.1 ?_
  rw [g3 s (by omega) (by omega), hs.me]
  refine w_le ⟨by omega, by omega⟩ ⟨by omega, by omega⟩ (fun hf2 => ?_) (fun hf2 => ?_)
  rotate_left
  · -- one row
    have hrm : r < m := by omega
    refine w_Sr hS (by omega) ?_
    refine w_ald (hS.kr (by omega)) (by omega) (by omega) ?_
    rw [show ((l : Int).toNat) = l from rfl, g2 r l hrm (by omega), if_neg (Nat.lt_irrefl r), z_0]
    have hRl := hs.bd r l
    refine w_up k (fun i N2 => (∀ j, j < 5 → N2 v j = U j) ∧ (∀ q j, q < m → j < 5 → N2 (s + 2 + q) j = if q < r ∨ q = r ∧ j < i then R1 q j else R q j) ∧ ∀ b, b ≠ v → b < s + 2 ∨ s + 2 + m ≤ b → N2 b = N b) 0 rfl (by omega)
      ⟨g1, fun q j hq hj => by rw [g2 q j hq hj]; by_cases c : q < r; rw [if_pos c, if_pos (Or.inl c)]; rw [if_neg c, if_neg (by omega)], g3⟩ ?_
    rintro i N2 hi ⟨k1, k2, k3⟩
    unfold X5_add_L107
    refine w_Wp hW ?_
    rw [(gw N2 k3).ne]
    refine w_le ⟨by omega, by omega⟩ ⟨by omega, by omega⟩ (fun hg => ?_) (fun hg => ?_)
    · unfold X5_add_b159
      rw [z_1, zI_add]
      refine w_jinl (w_jcont ⟨hrm, rfl, k1, fun q j hq hj => ?_, k3⟩)
      rw [k2 q j hq hj]
      by_cases c : q < r
      · rw [if_pos (Or.inl c), if_pos (by omega)]
      · by_cases c2 : q = r
        · rw [if_pos (show q < r + 1 by omega)]
          by_cases c3 : j < i
          · rw [if_pos (Or.inr ⟨c2, c3⟩)]
          · rw [if_neg (by omega), hR1b q j (by omega)]
        · rw [if_neg (by omega), if_neg (by omega)]
    rw [z_0]
    refine w_eq ⟨by omega, by omega⟩ ⟨by omega, by omega⟩ (fun hg2 => ?_) (fun hg2 => ?_)
    · unfold X5_add_b159
      rw [z_1, zI_add]
      refine w_jinl (w_jcont ⟨hrm, rfl, k1, fun q j hq hj => ?_, k3⟩)
      rw [k2 q j hq hj]
      by_cases c : q < r
      · rw [if_pos (Or.inl c), if_pos (by omega)]
      · by_cases c2 : q = r
        · rw [if_pos (show q < r + 1 by omega)]
          subst c2
          rw [hR1c q hg2 j]
          split <;> rfl
        · rw [if_neg (by omega), if_neg (by omega)]
    refine w_Sr hS (by omega) ?_
    refine w_Sr hS (by omega) ?_
    refine w_ald (hS.kr (by omega)) (by omega) (by omega) ?_
    rw [show ((i : Int).toNat) = i from rfl, k2 r i hrm (by omega), if_neg (show ¬ (r < r ∨ r = r ∧ i < i) by omega)]
    refine w_ald hK (by omega) (by omega) ?_
    rw [show ((i : Int).toNat) = i from rfl, k1 i (by omega), zI_mul, zI_sub]
    have hRi := hs.bd r i
    have hUi := hUb i
    have hmb := mul_bd (x := R r l) (y := U i) (a := 7) (b := 7) (by omega) (by omega)
    refine w_by hW (by rw [(gw N2 k3).pe]; omega) ⟨by omega, by omega⟩ ?_
    refine w_ast (hS.kr (by omega)) (by omega) (by omega) ?_
    rw [show ((i : Int).toNat) = i from rfl, (gw N2 k3).pe, z_1, zI_add]
    refine w_jcont ⟨by omega, rfl, fun j hj => ?_, fun q j hq hj => ?_, fun b h1 h2 => ?_⟩
    · show (if v = s + 2 + r ∧ j = i then _ else N2 v j) = U j
      rw [if_neg (by omega)]; exact k1 j hj
    · show (if s + 2 + q = s + 2 + r ∧ j = i then (R r i - R r l * U i) % p else N2 (s + 2 + q) j) = _
      by_cases c : q = r ∧ j = i
      · rw [if_pos (by omega), if_pos (by omega), c.1, c.2, hR1a r i (by omega)]
      · rw [if_neg (by omega), k2 q j hq hj]
        by_cases c2 : q < r ∨ q = r ∧ j < i
        · rw [if_pos c2, if_pos (by omega)]
        · rw [if_neg c2, if_neg (by omega)]
    · funext j
      show (if b = s + 2 + r ∧ j = i then _ else N2 b j) = N b j
      rw [if_neg (by omega), k3 b h1 h2]
  -- all rows are done; the place
  have hrm : r = m := by omega
  subst hrm
  refine w_jinl ?_
  unfold X5_add_b165
  refine w_getI hS.1 ?_
  rw [g3 s (by omega) (by omega), hs.me]
  have hm4 : r + 1 ≤ k := by
    have hlv : Ldv p k Y l := ⟨hln, fun e => he (e.eq ⟨(hY l).1, (hY l).2.1⟩ ⟨Int.le_refl 0, by omega⟩), fun j hj => Cg.of (hz j hj)⟩
    have hJ := hs.ech.join hD.pr (v := X) (w := Y) (u := U) (R' := R1) (a := a) hSY (fun r hr => Cg.of (hYz r hr)) hlv ha.2.2 (fun j hj => by rw [hU1 j hj, Int.mul_comm]; exact Cg.mod p _) (fun r hr j hj => by rw [hR1a r j hj]; exact Cg.mod p _)
    have := hJ.dm hD.pr
    have := dm_le (p := p) (n := k) (S := Ad S X)
    omega
  have gR : ∀ q j, q < r → j < 5 → N1 (s + 2 + q) j = R1 q j := fun q j hq hj => by rw [g2 q j hq hj, if_pos hq]
  have gL : ∀ q, q < r → N1 (s + 7) q = ld q := fun q hq => by rw [g3 (s + 7) (by omega) (by omega)]; exact hs.l hq
  have g4 : ∀ b, b ≠ v → b < s + 2 ∨ s + 8 ≤ b → N1 b = N b := fun b h1 h2 => g3 b h1 (by omega)
  refine w_loop (fun at' t N2 => t = zI at' ∧ at' ≤ r ∧ (∀ j, j < 5 → N2 v j = U j) ∧ (∀ q j, q < at' → j < 5 → N2 (s + 2 + q) j = R1 q j) ∧ (∀ q j, at' < q → q ≤ r → j < 5 → N2 (s + 2 + q) j = R1 (q - 1) j) ∧
      (∀ q, q < at' → N2 (s + 7) q = ld q) ∧ (∀ q, at' < q → q ≤ r → N2 (s + 7) q = ld (q - 1)) ∧ (∀ q, at' ≤ q → q < r → l < ld q) ∧ ∀ b, b ≠ v → b < s + 2 ∨ s + 8 ≤ b → N2 b = N b) r _
    ⟨rfl, Nat.le_refl r, g1, gR, fun q j h1 h2 => by omega, gL, fun q h1 h2 => by omega, fun q h1 h2 => by omega, g4⟩ ?_
  rintro at' t N2 ⟨rfl, hat, k1, k2, k3, k4, k5, k6, k7⟩
  have hfin : (∀ q, q < at' → ld q ≤ l) → GN M N2 (X5_add_b233 s v (zI l) (zI at')) (fun v M1 N1 => GN M1 N1 (f v) Q) := by
    intro hle
    unfold X5_add_b233
    refine w_Sr hS (by omega) ?_
    rw [z_0]
    refine w_copy5 hK (hS.kr (by omega)) (by omega) (by omega) ?_
    refine w_Sl hS ?_
    refine w_ast hS.kl (by omega) (by omega) ?_
    refine w_getI hS.1 ?_
    rw [z_1, zI_add]
    refine w_putI hS.1 ?_
    refine w_jp ?_
    obtain ⟨hE, hso⟩ := ech_ins hD.pr hs.ech hs.so hSY hYz hY hln he hz ha hU1 (fun q j _ hj => hR1a q j hj) hat hle k6
    refine h _ (r + 1) _ _ 1 ⟨?_, fun q j hq hj => ?_, fun q hq => ?_, fun q j => ?_, hso, hE⟩ (Or.inr ⟨rfl, rfl, hx⟩) (fun b h1 h2 => ?_)
    · show (if s = s ∧ 2 = 2 then _ else _) = _
      rw [if_pos ⟨rfl, rfl⟩]
      show (if s = s + 7 ∧ 2 = ((at' : Int).toNat) then _ else if s = s + 2 + at' ∧ 2 < 5 then _ else N2 s 2) + 1 = _
      rw [if_neg (by omega), if_neg (by omega), k7 s (by omega) (by omega), hs.me]
      omega
    · show (if s + 2 + q = s ∧ j = 2 then _ else if s + 2 + q = s + 7 ∧ j = ((at' : Int).toNat) then _ else if s + 2 + q = s + 2 + at' ∧ j < 5 then N2 v j else N2 (s + 2 + q) j) = _
      rw [if_neg (by omega), if_neg (by omega)]
      by_cases c : q = at'
      · rw [if_pos (by omega), k1 j hj]
        show U j = (if q < at' then R1 q else if q = at' then U else R1 (q - 1)) j
        rw [if_neg (by omega), if_pos c]
      · rw [if_neg (by omega)]
        show _ = (if q < at' then R1 q else if q = at' then U else R1 (q - 1)) j
        by_cases c2 : q < at'
        · rw [if_pos c2]; exact k2 q j c2 hj
        · rw [if_neg c2, if_neg c]; exact k3 q j (by omega) (by omega) hj
    · show (if s + 7 = s ∧ q = 2 then _ else if s + 7 = s + 7 ∧ q = ((at' : Int).toNat) then (l : Int) else if s + 7 = s + 2 + at' ∧ q < 5 then _ else N2 (s + 7) q) = _
      rw [if_neg (by omega)]
      by_cases c : q = at'
      · rw [if_pos ⟨rfl, c⟩]
        show (l : Int) = ((if q < at' then ld q else if q = at' then l else ld (q - 1) : Nat) : Int)
        rw [if_neg (by omega), if_pos c]
      · rw [if_neg (fun x => c x.2), if_neg (by omega)]
        show _ = ((if q < at' then ld q else if q = at' then l else ld (q - 1) : Nat) : Int)
        by_cases c2 : q < at'
        · rw [if_pos c2]; exact k4 q c2
        · rw [if_neg c2, if_neg c]; exact k5 q (by omega) (by omega)
    · show 0 ≤ (if q < at' then R1 q else if q = at' then U else R1 (q - 1)) j ∧ (if q < at' then R1 q else if q = at' then U else R1 (q - 1)) j < p ∧ (k ≤ j → (if q < at' then R1 q else if q = at' then U else R1 (q - 1)) j = 0)
      by_cases c2 : q < at'
      · rw [if_pos c2]; exact hR1d q j
      · rw [if_neg c2]
        by_cases c : q = at'
        · rw [if_pos c]; exact ⟨(hUb j).1, (hUb j).2, hU2 j⟩
        · rw [if_neg c]; exact hR1d (q - 1) j
    · funext j
      show (if b = s ∧ j = 2 then _ else if b = s + 7 ∧ j = ((at' : Int).toNat) then _ else if b = s + 2 + at' ∧ j < 5 then _ else N2 b j) = _
      rw [if_neg (by omega), if_neg (by omega), if_neg (by omega), k7 b h1 (by omega)]
  unfold X5_add_L171
  rw [z_0]
  refine w_le ⟨by omega, by omega⟩ ⟨by omega, by omega⟩ (fun hg => ?_) (fun hg => ?_)
  · exact w_jinl (hfin (fun q hq => by omega))
  refine w_Sl hS ?_
  rw [z_1, zI_sub]
  refine w_ald hS.kl (by omega) (by omega) ?_
  rw [show ((at' : Int) - 1).toNat = at' - 1 by omega, k4 (at' - 1) (by omega)]
  have hlb := hs.ech.ldn (show at' - 1 < r by omega)
  refine w_le ⟨by omega, by omega⟩ ⟨by omega, by omega⟩ (fun hg2 => ?_) (fun hg2 => ?_)
  · refine w_jinl (hfin (fun q hq => ?_))
    rcases Nat.lt_or_eq_of_le (show q ≤ at' - 1 by omega) with c | c
    · have := hs.so q (at' - 1) c (by omega)
      omega
    · rw [c]; omega
  refine w_S0 hS ?_
  rw [show (at' : Int) - 1 = ((at' - 1 : Nat) : Int) by omega]
  refine w_S1 hS (by omega) ?_
  refine w_Sr hS (by omega) ?_
  refine w_copy5 (hS.kr (by omega)) (hS.kr (by omega)) (by omega) (by omega) ?_
  refine w_Sl hS ?_
  refine w_Sl hS ?_
  refine w_ald hS.kl (by omega) (by omega) ?_
  refine w_ast hS.kl (by omega) (by omega) ?_
  rw [zI_neg, zI_add]
  have eR : ∀ j, cp5 N2 (s + 2 + (at' - 1)) (s + 2 + at') (s + 7) j = N2 (s + 7) j := fun j => by
    show (if s + 7 = s + 2 + at' ∧ j < 5 then _ else N2 (s + 7) j) = _
    rw [if_neg (by omega)]
  refine w_jcont ⟨at' - 1, by omega, ?_, by omega, fun j hj => ?_, fun q j hq hj => ?_, fun q j h1 h2 hj => ?_, fun q hq => ?_, fun q h1 h2 => ?_, fun q h1 h2 => ?_, fun b h1 h2 => ?_⟩
  · rw [show (at' : Int) + -1 = ((at' - 1 : Nat) : Int) by omega]
  · show (if v = s + 7 ∧ _ then _ else if v = s + 2 + at' ∧ j < 5 then _ else N2 v j) = _
    rw [if_neg (by omega), if_neg (by omega)]; exact k1 j hj
  · show (if s + 2 + q = s + 7 ∧ _ then _ else if s + 2 + q = s + 2 + at' ∧ j < 5 then _ else N2 (s + 2 + q) j) = _
    rw [if_neg (by omega), if_neg (by omega)]; exact k2 q j (by omega) hj
  · show (if s + 2 + q = s + 7 ∧ _ then _ else if s + 2 + q = s + 2 + at' ∧ j < 5 then N2 (s + 2 + (at' - 1)) j else N2 (s + 2 + q) j) = _
    rw [if_neg (by omega)]
    by_cases c : q = at'
    · rw [if_pos (by omega), k2 (at' - 1) j (by omega) hj, c]
    · rw [if_neg (by omega)]; exact k3 q j (by omega) h2 hj
  · show (if s + 7 = s + 7 ∧ q = ((at' : Int).toNat) then _ else cp5 N2 _ _ (s + 7) q) = _
    rw [if_neg (by omega), eR]; exact k4 q (by omega)
  · show (if s + 7 = s + 7 ∧ q = ((at' : Int).toNat) then cp5 N2 (s + 2 + (at' - 1)) (s + 2 + at') (s + 7) (((at' - 1 : Nat) : Int).toNat) else cp5 N2 _ _ (s + 7) q) = _
    by_cases c : q = at'
    · rw [if_pos ⟨rfl, c⟩, eR, show (((at' - 1 : Nat) : Int).toNat) = at' - 1 from rfl, k4 _ (by omega), c]
    · rw [if_neg (fun x => c x.2), eR]; exact k5 q (by omega) h2
  · by_cases c : q = at' - 1
    · rw [c]; omega
    · exact k6 q (by omega) h2
  · funext j
    show (if b = s + 7 ∧ _ then _ else if b = s + 2 + at' ∧ j < 5 then _ else N2 b j) = _
    rw [if_neg (by omega), if_neg (by omega), k7 b h1 (by omega)]
/-- a copy of a span -/
theorem w_scopy {s2 : Nat} {f : Unit → JM Mem τ} {Q : τ → Mem → NM → Prop} (hp : Pr p) (hn : n ≤ 5) (hS : SL M s) (hS2 : SL M s2) (hs : SpD N s2 p n m R ld S) (hd : s + 8 ≤ s2 ∨ s2 + 8 ≤ s)
    (h : ∀ N', SpD N' s p n m R ld S → (∀ b, b < s ∨ s + 8 ≤ b → N' b = N b) → GN M N' (f ()) Q) : GN M N (jb (jcall 4 s (f_X5_copy s s2)) f) Q := by
  have hmn := hs.mn hp
  refine w_call hS.1 ?_
  unfold f_X5_copy
  refine w_getI hS2.1 ?_
  rw [hs.me]
  refine w_putI hS.1 ?_
  rw [z_0]
  refine w_up m (fun i N1 => N1 s 2 = m ∧ (∀ r k, r < i → k < 5 → N1 (s + 2 + r) k = R r k) ∧ (∀ r, r < i → N1 (s + 7) r = ld r) ∧ ∀ b, b < s ∨ s + 8 ≤ b → N1 b = N b) 0 rfl (by omega)
    ⟨by simp [up2], fun r k hr => by omega, fun r hr => by omega, fun b hb => by funext k; show (if b = s ∧ k = 2 then _ else N b k) = N b k; rw [if_neg (by omega)]⟩ ?_
  rintro i N1 hi ⟨g1, g2, g3, g4⟩
  have hs2 : SpD N1 s2 p n m R ld S := hs.fr (fun b h1 h2 _ => g4 b (by omega)) hp hn
  unfold X5_copy_L10
  refine w_getI hS.1 ?_
  rw [g1]
  refine w_le ⟨by omega, by omega⟩ ⟨by omega, by omega⟩ (fun hc => ?_) (fun hc => ?_)
  · have : i = m := by omega
    subst this
    exact w_jinl (w_jp (h N1 ⟨g1, g2, g3, hs.2.2.2⟩ g4))
  have him : i < m := by omega
  refine w_Sr hS2 (by omega) ?_
  refine w_Sr hS (by omega) ?_
  rw [z_0]
  refine w_copy5 (hS2.kr (by omega)) (hS.kr (by omega)) (by omega) (by omega) ?_
  refine w_Sl hS ?_
  refine w_Sl hS2 ?_
  refine w_ald hS2.kl (by omega) (by omega) ?_
  refine w_ast hS.kl (by omega) (by omega) ?_
  rw [z_1, zI_add]
  refine w_jcont ⟨him, rfl, ?_, fun r k hr hk => ?_, fun r hr => ?_, fun b hb => ?_⟩
  · show (if s = s + 7 ∧ _ then _ else if s = s + 2 + i ∧ _ then _ else N1 s 2) = _
    rw [if_neg (by omega), if_neg (by omega)]; exact g1
  · show (if s + 2 + r = s + 7 ∧ _ then _ else if s + 2 + r = s + 2 + i ∧ k < 5 then N1 (s2 + 2 + i) k else N1 (s + 2 + r) k) = _
    rw [if_neg (by omega)]
    by_cases c : r = i
    · rw [if_pos (by omega), hs2.at him hk, c]
    · rw [if_neg (by omega)]; exact g2 r k (by omega) hk
  · show (if s + 7 = s + 7 ∧ r = ((i : Int).toNat) then (if s2 + 7 = s + 2 + i ∧ _ then _ else N1 (s2 + 7) ((i : Int).toNat)) else if s + 7 = s + 2 + i ∧ _ then _ else N1 (s + 7) r) = _
    by_cases c : r = i
    · rw [if_pos ⟨rfl, c⟩, if_neg (by omega), show ((i : Int).toNat) = i from rfl, hs2.l him, c]
    · rw [if_neg (fun x => c x.2), if_neg (by omega)]; exact g3 r (by omega)
  · funext k
    show (if b = s + 7 ∧ _ then _ else if b = s + 2 + i ∧ k < 5 then _ else N1 b k) = _
    rw [if_neg (by omega), if_neg (by omega), g4 b hb]
theorem w_all {f : Unit → JM Mem τ} {Q : τ → Mem → NM → Prop} (hS : SL M s) (hW : WL M w) (hD : WD N w p n T) (hsw : s + 8 ≤ w ∨ w + 32 ≤ s)
    (h : ∀ N', SpD N' s p n n (fun r k => if k < n then un r k else 0) (fun r => r) Al → (∀ b, b < s ∨ s + 8 ≤ b → N' b = N b) → GN M N' (f ()) Q) : GN M N (jb (jcall 4 s (f_X5_all s w)) f) Q := by
  have hpb := hD.pb
  have hn5 := hD.n5
  refine w_call hS.1 ?_
  unfold f_X5_all
  refine w_Wp hW ?_
  rw [hD.ne]
  refine w_putI hS.1 ?_
  rw [z_0]
  refine w_up n (fun i N1 => N1 s 2 = n ∧ (∀ r k, r < i → k < 5 → N1 (s + 2 + r) k = if k = r then 1 else 0) ∧ (∀ r, r < i → N1 (s + 7) r = r) ∧ ∀ b, b < s ∨ s + 8 ≤ b → N1 b = N b) 0 rfl (by omega)
    ⟨by simp [up2], fun r k hr => by omega, fun r hr => by omega, fun b hb => by funext k; show (if b = s ∧ k = 2 then _ else N b k) = N b k; rw [if_neg (by omega)]⟩ ?_
  rintro i N1 hi ⟨g1, g2, g3, g4⟩
  unfold X5_all_L10
  refine w_getI hS.1 ?_
  rw [g1]
  refine w_le ⟨by omega, by omega⟩ ⟨by omega, by omega⟩ (fun hc => ?_) (fun hc => ?_)
  · have : i = n := by omega
    subst this
    refine w_jinl (w_jp (h N1 ⟨g1, fun r k hr hk => ?_, g3, fun r k => ?_, fun r q h1 _ => h1, (Al.ech hD.pr).q (fun r hr => Vq.of (fun k hk => if_pos hk)) (fun r _ => rfl)⟩ g4))
    · rw [g2 r k hr hk]
      show _ = if k < i then (if k = r then (1 : Int) else 0) else 0
      by_cases c : k = r
      · rw [if_pos c, if_pos (by omega)]
      · rw [if_neg c]; split <;> rfl
    · show 0 ≤ (if k < i then (if k = r then (1 : Int) else 0) else 0) ∧ (if k < i then (if k = r then (1 : Int) else 0) else 0) < p ∧ (i ≤ k → (if k < i then (if k = r then (1 : Int) else 0) else 0) = 0)
      refine ⟨?_, ?_, fun hk => if_neg (by omega)⟩
      · split
        · split <;> omega
        · omega
      · split
        · split <;> omega
        · omega
  rw [z_0]
  refine w_up 5 (fun j N2 => N2 s 2 = n ∧ (∀ r k, r < 5 → k < 5 → r < i ∨ r = i ∧ k < j → N2 (s + 2 + r) k = if k = r then 1 else 0) ∧ (∀ r, r < i → N2 (s + 7) r = r) ∧ ∀ b, b < s ∨ s + 8 ≤ b → N2 b = N b) 0 rfl (by omega)
    ⟨g1, fun r k _ hk hd => g2 r k (by omega) hk, g3, g4⟩ ?_
  rintro j N2 hj ⟨k1, k2, k3, k4⟩
  unfold X5_all_L20
  rw [z_5]
  refine w_le ⟨by omega, by omega⟩ ⟨by omega, by omega⟩ (fun hd => ?_) (fun hd => ?_)
  · unfold X5_all_b49
    refine w_jinl ?_
    refine w_Sl hS ?_
    refine w_ast hS.kl (by omega) (by omega) ?_
    rw [z_1, zI_add]
    refine w_jcont ⟨by omega, rfl, ?_, fun r k hr hk => ?_, fun r hr => ?_, fun b hb => ?_⟩
    · show (if s = s + 7 ∧ _ then _ else N2 s 2) = _
      rw [if_neg (by omega)]; exact k1
    · show (if s + 2 + r = s + 7 ∧ _ then _ else N2 (s + 2 + r) k) = _
      rw [if_neg (by omega)]; exact k2 r k (by omega) hk (by omega)
    · show (if s + 7 = s + 7 ∧ r = ((i : Int).toNat) then (i : Int) else N2 (s + 7) r) = _
      by_cases c : r = i
      · rw [if_pos ⟨rfl, c⟩, c]
      · rw [if_neg (fun x => c x.2)]; exact k3 r (by omega)
    · funext k
      show (if b = s + 7 ∧ _ then _ else N2 b k) = _
      rw [if_neg (by omega), k4 b hb]
  refine w_Sr hS (by omega) ?_
  have hput : ∀ x : Int, x = (if j = i then 1 else 0) → GN M N2 (X5_all_b42 s (zI i) (zI j) (s + 2 + i) (zI j) (zI x)) (LQ (LQ (fun v M1 N1 => GN M1 N1 (f v) Q) (KF M (fun t N1 => i < n ∧ t = zI ((i : Int) + 1) ∧ N1 s 2 = n ∧ (∀ r k, r < i + 1 → k < 5 → N1 (s + 2 + r) k = if k = r then 1 else 0) ∧ (∀ r, r < i + 1 → N1 (s + 7) r = r) ∧ ∀ b, b < s ∨ s + 8 ≤ b → N1 b = N b)))
      (KF M (fun t N1 => j < 5 ∧ t = zI ((j : Int) + 1) ∧ N1 s 2 = n ∧ (∀ r k, r < 5 → k < 5 → r < i ∨ r = i ∧ k < j + 1 → N1 (s + 2 + r) k = if k = r then 1 else 0) ∧ (∀ r, r < i → N1 (s + 7) r = r) ∧ ∀ b, b < s ∨ s + 8 ≤ b → N1 b = N b))) := by
    intro x hx
    unfold X5_all_b42
    refine w_ast (hS.kr (by omega)) (by omega) (by omega) ?_
    rw [z_1, zI_add]
    refine w_jcont ⟨by omega, rfl, ?_, fun r k hr hk hd => ?_, fun r hr => ?_, fun b hb => ?_⟩
    · show (if s = s + 2 + i ∧ _ then _ else N2 s 2) = _
      rw [if_neg (by omega)]; exact k1
    · show (if s + 2 + r = s + 2 + i ∧ k = ((j : Int).toNat) then x else N2 (s + 2 + r) k) = _
      by_cases c : r = i ∧ k = j
      · rw [if_pos ⟨by omega, c.2⟩, hx, c.1, c.2]
      · rw [if_neg (fun q => c ⟨by omega, q.2⟩)]
        refine k2 r k hr hk ?_
        omega
    · show (if s + 7 = s + 2 + i ∧ _ then _ else N2 (s + 7) r) = _
      rw [if_neg (by omega)]; exact k3 r hr
    · funext k
      show (if b = s + 2 + i ∧ _ then _ else N2 b k) = _
      rw [if_neg (by omega), k4 b hb]
  refine w_eq ⟨by omega, by omega⟩ ⟨by omega, by omega⟩ (fun he => ?_) (fun he => ?_)
  · rw [z_1]
    exact hput 1 (by rw [if_pos (by omega)])
  · rw [z_0]
    exact hput 0 (by rw [if_neg (by omega)])
end SPAN
