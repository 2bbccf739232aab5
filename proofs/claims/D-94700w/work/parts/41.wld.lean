/-! LAYOUTS of worlds and spans; the methods of World. -/
set_option maxRecDepth 100000
section LAYW
variable {α τ : Type} {M : Mem} {N N' : NM} {w s : Nat}
def WL (M : Mem) (w : Nat) : Prop := mK M w = some (.inl 3) ∧ mR M w 0 = some (w + 1) ∧ mK M (w + 1) = some (.inr (6, 5)) ∧
  (∀ i, i < 5 → mR M (w + 1) i = some (w + 2 + 6 * i) ∧ mK M (w + 2 + 6 * i) = some (.inr (5, 5))) ∧
  ∀ i j, i < 5 → j < 5 → mR M (w + 2 + 6 * i) j = some (w + 3 + 6 * i + j) ∧ mK M (w + 3 + 6 * i + j) = some (.inr (0, 5))
def SL (M : Mem) (s : Nat) : Prop := mK M s = some (.inl 4) ∧ mR M s 0 = some (s + 1) ∧ mK M (s + 1) = some (.inr (5, 5)) ∧
  (∀ r, r < 5 → mR M (s + 1) r = some (s + 2 + r) ∧ mK M (s + 2 + r) = some (.inr (0, 5))) ∧ mR M s 1 = some (s + 7) ∧ mK M (s + 7) = some (.inr (0, 5))
theorem w_Wp {f : Int32 → JM Mem τ} {Q : τ → Mem → NM → Prop} {k : Nat} (hW : WL M w) (h : GN M N (f (zI (N w k))) Q) : GN M N (jb (jgetI 3 k w) f) Q := w_getI hW.1 h
theorem w_W0 {f : Nat → JM Mem τ} {Q : τ → Mem → NM → Prop} (hW : WL M w) (h : GN M N (f (w + 1)) Q) : GN M N (jb (jgetA 3 0 w) f) Q := w_getA hW.1 hW.2.1 h
theorem w_W1 {f : Nat → JM Mem τ} {Q : τ → Mem → NM → Prop} {i : Nat} (hW : WL M w) (hi : i < 5) (h : GN M N (f (w + 2 + 6 * i)) Q) : GN M N (jb (jaldA 6 (w + 1) (zI i)) f) Q :=
  w_aldA hW.2.2.1 (by omega) (by omega) (hW.2.2.2.1 i hi).1 h
theorem w_W2 {f : Nat → JM Mem τ} {Q : τ → Mem → NM → Prop} {i j : Nat} (hW : WL M w) (hi : i < 5) (hj : j < 5) (h : GN M N (f (w + 3 + 6 * i + j)) Q) : GN M N (jb (jaldA 5 (w + 2 + 6 * i) (zI j)) f) Q :=
  w_aldA (hW.2.2.2.1 i hi).2 (by omega) (by omega) (hW.2.2.2.2 i j hi hj).1 h
/-- the table's row of i and j -/
theorem w_tab {f : Nat → JM Mem τ} {Q : τ → Mem → NM → Prop} {i j : Nat} (hW : WL M w) (hi : i < 5) (hj : j < 5) (h : GN M N (f (w + 3 + 6 * i + j)) Q) :
    GN M N (jb (jgetA 3 0 w) fun v => jb (jaldA 6 v (zI i)) fun v2 => jb (jaldA 5 v2 (zI j)) f) Q := w_W0 hW (w_W1 hW hi (w_W2 hW hi hj h))
theorem w_Wk {f : Int32 → JM Mem τ} {Q : τ → Mem → NM → Prop} {i j k : Nat} (hW : WL M w) (hi : i < 5) (hj : j < 5) (hk : k < 5) (h : GN M N (f (zI (N (w + 3 + 6 * i + j) k))) Q) : GN M N (jb (jald mI 0 (w + 3 + 6 * i + j) (zI k)) f) Q :=
  w_ald (hW.2.2.2.2 i j hi hj).2 (by omega) (by omega) h
theorem w_S0 {f : Nat → JM Mem τ} {Q : τ → Mem → NM → Prop} (hS : SL M s) (h : GN M N (f (s + 1)) Q) : GN M N (jb (jgetA 4 0 s) f) Q := w_getA hS.1 hS.2.1 h
theorem w_S1 {f : Nat → JM Mem τ} {Q : τ → Mem → NM → Prop} {r : Nat} (hS : SL M s) (hr : r < 5) (h : GN M N (f (s + 2 + r)) Q) : GN M N (jb (jaldA 5 (s + 1) (zI r)) f) Q :=
  w_aldA hS.2.2.1 (by omega) (by omega) (hS.2.2.2.1 r hr).1 h
theorem w_Sr {f : Nat → JM Mem τ} {Q : τ → Mem → NM → Prop} {r : Nat} (hS : SL M s) (hr : r < 5) (h : GN M N (f (s + 2 + r)) Q) : GN M N (jb (jgetA 4 0 s) fun v => jb (jaldA 5 v (zI r)) f) Q := w_S0 hS (w_S1 hS hr h)
theorem w_Sl {f : Nat → JM Mem τ} {Q : τ → Mem → NM → Prop} (hS : SL M s) (h : GN M N (f (s + 7)) Q) : GN M N (jb (jgetA 4 1 s) f) Q := w_getA hS.1 hS.2.2.2.2.1 h
theorem SL.kr (hS : SL M s) {r : Nat} (hr : r < 5) : mK M (s + 2 + r) = some (.inr (0, 5)) := (hS.2.2.2.1 r hr).2
theorem SL.kl (hS : SL M s) : mK M (s + 7) = some (.inr (0, 5)) := hS.2.2.2.2.2
theorem WL.kk (hW : WL M w) {i j : Nat} (hi : i < 5) (hj : j < 5) : mK M (w + 3 + 6 * i + j) = some (.inr (0, 5)) := (hW.2.2.2.2 i j hi hj).2
/-- a world's numbers -/
def WOk (p : Int) (n : Nat) (T : Nat → Nat → Nat → Int) : Prop := Pr p ∧ 1 ≤ n ∧ n ≤ 5 ∧ (∀ i j k, 0 ≤ T i j k ∧ T i j k < p) ∧
  (∀ i j k, ¬ (i < n ∧ j < n ∧ k < n) → T i j k = 0) ∧ (∀ i j k, T j i k = (-T i j k) % p) ∧ ∀ i k, T i i k = 0
def WD (N : NM) (w : Nat) (p : Int) (n : Nat) (T : Nat → Nat → Nat → Int) : Prop := N w 1 = p ∧ N w 2 = n ∧ (∀ i j k, i < 5 → j < 5 → k < 5 → N (w + 3 + 6 * i + j) k = T i j k) ∧ WOk p n T
variable {p : Int} {n : Nat} {T : Nat → Nat → Nat → Int}
theorem WD.pe (h : WD N w p n T) : N w 1 = p := h.1
theorem WD.ne (h : WD N w p n T) : N w 2 = n := h.2.1
theorem WD.t (h : WD N w p n T) {i j k : Nat} (hi : i < 5) (hj : j < 5) (hk : k < 5) : N (w + 3 + 6 * i + j) k = T i j k := h.2.2.1 i j k hi hj hk
theorem WD.ok (h : WD N w p n T) : WOk p n T := h.2.2.2
theorem WD.pr (h : WD N w p n T) : Pr p := h.2.2.2.1
theorem WD.n5 (h : WD N w p n T) : n ≤ 5 := h.2.2.2.2.2.1
theorem WD.n1 (h : WD N w p n T) : 1 ≤ n := h.2.2.2.2.1
theorem WD.pb (h : WD N w p n T) : 2 ≤ p ∧ p ≤ 7 := ⟨h.pr.pos, h.pr.le7⟩
theorem WD.tb (h : WD N w p n T) (i j k : Nat) : 0 ≤ T i j k ∧ T i j k < p := h.2.2.2.2.2.2.1 i j k
theorem WD.fr (h : WD N w p n T) (e : ∀ b, w ≤ b → b < w + 32 → N' b = N b) : WD N' w p n T := by
  refine ⟨by rw [e w (by omega) (by omega)]; exact h.1, by rw [e w (by omega) (by omega)]; exact h.2.1, fun i j k hi hj hk => ?_, h.2.2.2⟩
  rw [e _ (by omega) (by omega)]
  exact h.2.2.1 i j k hi hj hk
theorem WOk.tan (h : WOk p n T) : Tan p T := fun i j k => by
  rw [h.2.2.2.2.2.1 i j k]
  exact Cg.mod p _
/-- a vector that stands somewhere -/
def VD (N : NM) (v : Nat) (p : Int) (n : Nat) (X : Nat → Int) : Prop := (∀ k, k < 5 → N v k = X k) ∧ ∀ k, 0 ≤ X k ∧ X k < p ∧ (n ≤ k → X k = 0)
theorem VD.fr {v : Nat} {X : Nat → Int} (h : VD N v p n X) (e : N' v = N v) : VD N' v p n X := ⟨fun k hk => by rw [e]; exact h.1 k hk, h.2⟩
theorem VD.at {v : Nat} {X : Nat → Int} (h : VD N v p n X) {k : Nat} (hk : k < 5) : N v k = X k := h.1 k hk
end LAYW
section WORLD
variable {α τ : Type} {M : Mem} {N N' : NM} {w w2 : Nat} {p : Int} {n : Nat} {T : Nat → Nat → Nat → Int}
theorem w_by {f : Int32 → JM Mem τ} {Q : τ → Mem → NM → Prop} {v : Int} (hW : WL M w) (hp : 0 < N w 1 ∧ N w 1 ≤ 7) (hv : zR v) (h : GN M N (f (zI (v % N w 1))) Q) : GN M N (jb (jcall 3 w (f_X4_by w (zI v))) f) Q := by
  refine w_call hW.1 ?_
  unfold f_X4_by
  refine w_Wp hW ?_
  refine w_jb ?_
  exact go_floorMod hv hp.1 ⟨by omega, by omega⟩ ⟨M, N, rfl, w_jp h⟩
/-- two numbers of a table are set -/
def st2 (N : NM) (w i j k : Nat) (v : Int) : NM := up2 (up2 N (w + 3 + 6 * i + j) k (v % N w 1)) (w + 3 + 6 * j + i) k (-v % N w 1)
theorem w_set {f : Unit → JM Mem τ} {Q : τ → Mem → NM → Prop} {i j k : Nat} {v : Int} (hW : WL M w) (hp : 0 < N w 1 ∧ N w 1 ≤ 7) (hi : i < 5) (hj : j < 5) (hk : k < 5) (hv : -1000000 ≤ v ∧ v ≤ 1000000)
    (h : GN M (st2 N w i j k v) (f ()) Q) : GN M N (jb (jcall 3 w (f_X4_set w (zI i) (zI j) (zI k) (zI v))) f) Q := by
  refine w_call hW.1 ?_
  unfold f_X4_set
  refine w_tab hW hi hj ?_
  refine w_by hW hp ⟨by omega, by omega⟩ ?_
  refine w_ast (hW.kk hi hj) (by omega) (by omega) ?_
  refine w_tab hW hj hi ?_
  rw [zI_neg]
  have e : ∀ x, up2 N (w + 3 + 6 * i + j) k x w 1 = N w 1 := fun x => if_neg (by omega)
  refine w_by hW (by rw [show ((k : Int).toNat) = k from rfl, e]; exact hp) ⟨by omega, by omega⟩ ?_
  refine w_ast (hW.kk hj hi) (by omega) (by omega) ?_
  refine w_jp ?_
  rw [show ((k : Int).toNat) = k from rfl, e]
  exact h
theorem w_clear {f : Unit → JM Mem τ} {Q : τ → Mem → NM → Prop} (hW : WL M w)
    (h : ∀ N', (∀ i j k, i < 5 → j < 5 → k < 5 → N' (w + 3 + 6 * i + j) k = 0) → (∀ b, b < w + 3 ∨ w + 32 ≤ b → N' b = N b) → GN M N' (f ()) Q) : GN M N (jb (jcall 3 w (f_X4_clear w)) f) Q := by
  refine w_call hW.1 ?_
  unfold f_X4_clear
  refine w_up 5 (fun i N1 => (∀ a b c, a < i → b < 5 → c < 5 → N1 (w + 3 + 6 * a + b) c = 0) ∧ ∀ b, b < w + 3 ∨ w + 32 ≤ b → N1 b = N b) 0 rfl (by omega) ⟨fun a b c ha => by omega, fun b _ => rfl⟩ ?_
  rintro i N1 hi ⟨h1, h2⟩
  unfold X4_clear_L2
  rw [z_5]
  refine w_le ⟨by omega, by omega⟩ ⟨by omega, by omega⟩ (fun hc => ?_) (fun hc => ?_)
  · have : i = 5 := by omega
    subst this
    exact w_jinl (w_jp (h N1 (fun i j k hi hj hk => h1 i j k hi hj hk) h2))
  refine w_up 5 (fun j N2 => (∀ a b c, a < 5 → b < 5 → c < 5 → a < i ∨ a = i ∧ b < j → N2 (w + 3 + 6 * a + b) c = 0) ∧ ∀ b, b < w + 3 ∨ w + 32 ≤ b → N2 b = N b) 0 rfl (by omega) ⟨fun a b c _ hb hc hd => h1 a b c (by omega) hb hc, h2⟩ ?_
  rintro j N2 hj ⟨h3, h4⟩
  unfold X4_clear_L9
  rw [z_5]
  refine w_le ⟨by omega, by omega⟩ ⟨by omega, by omega⟩ (fun hd => ?_) (fun hd => ?_)
  · unfold X4_clear_b44
    rw [z_1, zI_add]
    exact w_jinl (w_jcont ⟨by omega, rfl, fun a b c ha hb hc => h3 a b c (by omega) hb hc (by omega), h4⟩)
  refine w_up 5 (fun k N3 => (∀ a b c, a < 5 → b < 5 → c < 5 → a < i ∨ a = i ∧ (b < j ∨ b = j ∧ c < k) → N3 (w + 3 + 6 * a + b) c = 0) ∧ ∀ b, b < w + 3 ∨ w + 32 ≤ b → N3 b = N b) 0 rfl (by omega) ⟨fun a b c ha hb hc hd => h3 a b c ha hb hc (by omega), h4⟩ ?_
  rintro k N3 hk ⟨h5, h6⟩
  unfold X4_clear_L16
  rw [z_5]
  refine w_le ⟨by omega, by omega⟩ ⟨by omega, by omega⟩ (fun he => ?_) (fun he => ?_)
  · unfold X4_clear_b38
    rw [z_1, zI_add]
    exact w_jinl (w_jcont ⟨by omega, rfl, fun a b c ha hb hc hd => h5 a b c ha hb hc (by omega), h6⟩)
  refine w_tab hW (by omega) (by omega) ?_
  rw [z_0]
  refine w_ast (hW.kk (by omega) (by omega)) (by omega) (by omega) ?_
  rw [z_1, zI_add]
  refine w_jcont ⟨by omega, rfl, fun a b c ha hb hc hd => ?_, fun b hb => ?_⟩
  · show (if w + 3 + 6 * a + b = w + 3 + 6 * i + j ∧ c = (k : Int).toNat then (0 : Int) else N3 (w + 3 + 6 * a + b) c) = 0
    split
    · rfl
    · rename_i hne
      refine h5 a b c ha hb hc ?_
      have : ((k : Int).toNat) = k := rfl
      omega
  · funext c
    show (if b = w + 3 + 6 * i + j ∧ c = (k : Int).toNat then (0 : Int) else N3 b c) = N b c
    rw [if_neg (by omega), h6 b hb]
theorem w_wcopy {f : Unit → JM Mem τ} {Q : τ → Mem → NM → Prop} (hW : WL M w) (hV : WL M w2) (hd : w + 32 ≤ w2 ∨ w2 + 32 ≤ w)
    (h : ∀ N', (∀ i j k, i < 5 → j < 5 → k < 5 → N' (w + 3 + 6 * i + j) k = N (w2 + 3 + 6 * i + j) k) → N' w 1 = N w2 1 → N' w 2 = N w2 2 → (∀ b, b < w ∨ w + 32 ≤ b → N' b = N b) → GN M N' (f ()) Q) :
    GN M N (jb (jcall 3 w (f_X4_copy w w2)) f) Q := by
  refine w_call hW.1 ?_
  unfold f_X4_copy
  refine w_Wp hV (w_putI hW.1 (w_Wp hV (w_putI hW.1 ?_)))
  rw [show up2 N w 1 (N w2 1) w2 2 = N w2 2 from if_neg (by omega)]
  have h1' : up2 (up2 N w 1 (N w2 1)) w 2 (N w2 2) w 1 = N w2 1 := by simp [up2]
  have h2' : up2 (up2 N w 1 (N w2 1)) w 2 (N w2 2) w 2 = N w2 2 := by simp [up2]
  have h3' : ∀ b, b < w ∨ w + 32 ≤ b → up2 (up2 N w 1 (N w2 1)) w 2 (N w2 2) b = N b := fun b hb => by
    funext c
    show (if b = w ∧ c = 2 then _ else if b = w ∧ c = 1 then _ else N b c) = N b c
    rw [if_neg (by omega), if_neg (by omega)]
  generalize up2 (up2 N w 1 (N w2 1)) w 2 (N w2 2) = N0 at h1' h2' h3'
  refine w_up 5 (fun i N1 => (∀ a b c, a < i → b < 5 → c < 5 → N1 (w + 3 + 6 * a + b) c = N (w2 + 3 + 6 * a + b) c) ∧ N1 w 1 = N w2 1 ∧ N1 w 2 = N w2 2 ∧ ∀ b, b < w ∨ w + 32 ≤ b → N1 b = N b) 0 rfl (by omega) ⟨fun a b c ha => by omega, h1', h2', h3'⟩ ?_
  rintro i N1 hi ⟨g1, g2, g3, g4⟩
  unfold X4_copy_L18
  rw [z_5]
  refine w_le ⟨by omega, by omega⟩ ⟨by omega, by omega⟩ (fun hc => ?_) (fun hc => ?_)
  · have : i = 5 := by omega
    subst this
    exact w_jinl (w_jp (h N1 (fun i j k hi hj hk => g1 i j k hi hj hk) g2 g3 g4))
  refine w_up 5 (fun j N2 => (∀ a b c, a < 5 → b < 5 → c < 5 → a < i ∨ a = i ∧ b < j → N2 (w + 3 + 6 * a + b) c = N (w2 + 3 + 6 * a + b) c) ∧ N2 w 1 = N w2 1 ∧ N2 w 2 = N w2 2 ∧ ∀ b, b < w ∨ w + 32 ≤ b → N2 b = N b) 0 rfl (by omega) ⟨fun a b c _ hb hc hd => g1 a b c (by omega) hb hc, g2, g3, g4⟩ ?_
  rintro j N2 hj ⟨k1, k2, k3, k4⟩
  unfold X4_copy_L25
  rw [z_5]
  refine w_le ⟨by omega, by omega⟩ ⟨by omega, by omega⟩ (fun hc => ?_) (fun hc => ?_)
  · unfold X4_copy_b58
    rw [z_1, zI_add]
    exact w_jinl (w_jcont ⟨by omega, rfl, fun a b c ha hb hc => k1 a b c (by omega) hb hc (by omega), k2, k3, k4⟩)
  refine w_tab hV (by omega) (by omega) ?_
  refine w_tab hW (by omega) (by omega) ?_
  rw [z_0]
  refine w_copy5 (hV.kk (by omega) (by omega)) (hW.kk (by omega) (by omega)) (by omega) (by omega) ?_
  rw [z_1, zI_add]
  refine w_jcont ⟨by omega, rfl, fun a b c ha hb hc hd => ?_, ?_, ?_, fun b hb => ?_⟩
  · show (if w + 3 + 6 * a + b = w + 3 + 6 * i + j ∧ c < 5 then N2 (w2 + 3 + 6 * i + j) c else N2 (w + 3 + 6 * a + b) c) = _
    split
    · have : a = i ∧ b = j := by omega
      rw [this.1, this.2, k4 _ (by omega)]
    · exact k1 a b c ha hb hc (by omega)
  · show (if w = w + 3 + 6 * i + j ∧ _ then _ else N2 w 1) = _
    rw [if_neg (by omega)]; exact k2
  · show (if w = w + 3 + 6 * i + j ∧ _ then _ else N2 w 2) = _
    rw [if_neg (by omega)]; exact k3
  · funext c
    show (if b = w + 3 + 6 * i + j ∧ _ then _ else N2 b c) = _
    rw [if_neg (by omega), k4 b hb]
/-- powers by multiplying -/
theorem pow_bd {p : Int} (hp : 2 ≤ p ∧ p ≤ 7) : ∀ n : Nat, n ≤ 5 → 1 ≤ p ^ n ∧ p ^ n ≤ 16807 := by
  have h7 : p = 2 ∨ p = 3 ∨ p = 4 ∨ p = 5 ∨ p = 6 ∨ p = 7 := by omega
  intro n hn
  have h5 : n = 0 ∨ n = 1 ∨ n = 2 ∨ n = 3 ∨ n = 4 ∨ n = 5 := by omega
  rcases h7 with rfl | rfl | rfl | rfl | rfl | rfl <;> rcases h5 with rfl | rfl | rfl | rfl | rfl | rfl <;> decide
theorem w_vectors {f : Int32 → JM Mem τ} {Q : τ → Mem → NM → Prop} (hW : WL M w) (hD : WD N w p n T) (h : GN M N (f (zI (p ^ n))) Q) : GN M N (jb (jcall 3 w (f_X4_vectors w)) f) Q := by
  refine w_callE hW.1 ?_ h
  unfold f_X4_vectors
  refine w_up2 n (fun k a N1 => a = p ^ k ∧ N1 = N) 0 1 rfl (by omega) ⟨(Int.pow_zero p).symm, rfl⟩ ?_
  rintro k a N1 hk ⟨rfl, rfl⟩
  show GN M N1 (X4_vectors_L4 w (zI _) (zI _)) _
  unfold X4_vectors_L4
  refine w_Wp hW ?_
  rw [hD.ne]
  have hn5 := hD.n5
  refine w_le ⟨by omega, by omega⟩ ⟨by omega, by omega⟩ (fun hc => ?_) (fun hc => ?_)
  · have : k = n := by omega
    subst this
    exact w_jinl (w_jp ⟨rfl, rfl, rfl⟩)
  refine w_Wp hW ?_
  rw [hD.pe, zI_mul, z_1, zI_add]
  exact w_jlet (w_jcont ⟨by omega, _, rfl, (Int.pow_succ p k).symm, rfl⟩)
/-- the contrary of a number -/
def Iv (p v r : Int) : Prop := 1 ≤ r ∧ r < p ∧ Cg p (r * v) 1
theorem Iv.uni {p v r r' : Int} (h : Iv p v r) (h' : Iv p v r') : r = r' := by
  have h1 : Cg p (r * v * r') (1 * r') := h.2.2.mul Cg.rf
  have h2 : Cg p (r * (r' * v)) (r * 1) := Cg.ml r h'.2.2
  have h3 : r * v * r' = r * (r' * v) := by grind
  rw [h3] at h1
  have h4 := h1.sy.tr h2
  rw [Int.one_mul, Int.mul_one] at h4
  exact (h4.eq ⟨by have := h'.1; omega, h'.2.1⟩ ⟨by have := h.1; omega, h.2.1⟩).symm
theorem mul_bd {x y a b : Int} (hx : 0 ≤ x ∧ x ≤ a) (hy : 0 ≤ y ∧ y ≤ b) : 0 ≤ x * y ∧ x * y ≤ a * b :=
  ⟨Int.mul_nonneg hx.1 hy.1, Int.mul_le_mul hx.2 hy.2 hy.1 (by omega)⟩
theorem w_inverse {f : Int32 → JM Mem τ} {Q : τ → Mem → NM → Prop} {v : Int} (hW : WL M w) (hp : Pr (N w 1)) (hv : 0 < v ∧ v < N w 1) (h : ∀ r, Iv (N w 1) v r → GN M N (f (zI r)) Q) : GN M N (jb (jcall 3 w (f_X4_inverse w (zI v))) f) Q := by
  have hp7 := hp.le7
  have hp1 := hp.pos
  have hne : ¬ Cg (N w 1) v 0 := fun e => by
    have := e.eq ⟨by omega, hv.2⟩ ⟨by omega, by omega⟩
    omega
  obtain ⟨r0, h1, h2, h3⟩ := hp.inv hne
  refine w_call hW.1 ?_
  unfold f_X4_inverse
  refine w_up r0.toNat (fun k N1 => 1 ≤ k ∧ N1 = N) 1 rfl (by omega) ⟨by omega, rfl⟩ ?_
  rintro k N1 hk ⟨hk1, rfl⟩
  unfold X4_inverse_L2
  refine w_Wp hW ?_
  rw [zI_mul]
  have hb := mul_bd (x := (k : Int)) (y := v) (a := 7) (b := 7) (by omega) (by omega)
  refine w_remP ⟨hb.1, by omega, by omega⟩ ⟨by omega, by omega, by omega⟩ ?_
  have hm1 := Int.emod_nonneg ((k : Int) * v) (show N1 w 1 ≠ 0 by omega)
  have hm2 := Int.emod_lt_of_pos ((k : Int) * v) (show 0 < N1 w 1 by omega)
  rw [z_1]
  refine w_eq ⟨by omega, by omega⟩ ⟨by omega, by omega⟩ (fun hc => ?_) (fun hc => ?_)
  · refine w_jinl (w_jp (h k ⟨by omega, by omega, Cg.iff_mod.mpr ?_⟩))
    rw [hc, Int.emod_eq_of_lt (by omega) (by omega)]
  · rw [zI_add]
    refine w_jcont ⟨?_, rfl, by omega, rfl⟩
    refine Classical.byContradiction fun hlt => hc ?_
    have : (k : Int) = r0 := by omega
    rw [this, Cg.iff_mod.mp h3, Int.emod_eq_of_lt (by omega) (by omega)]
/-- the numbers of a vector by its own number -/
def dg (p v : Int) (k : Nat) : Int := v / p ^ k % p
theorem dg_bd {p v : Int} (hp : 0 < p) (k : Nat) : 0 ≤ dg p v k ∧ dg p v k < p := ⟨Int.emod_nonneg _ (by omega), Int.emod_lt_of_pos _ hp⟩
/-- what stands in an array's first five is g -/
def wr5 (N : NM) (a : Nat) (g : Nat → Int) : NM := fun b k => if b = a ∧ k < 5 then g k else N b k
theorem wr5_ne {N : NM} {a b : Nat} {g : Nat → Int} (h : b ≠ a) : wr5 N a g b = N b := by
  funext k
  show (if b = a ∧ k < 5 then g k else N b k) = N b k
  rw [if_neg (fun q => h q.1)]
theorem wr5_at {N : NM} {a k : Nat} {g : Nat → Int} (hk : k < 5) : wr5 N a g a k = g k := if_pos ⟨rfl, hk⟩
theorem wr5_wr5 {N : NM} {a : Nat} {g g' : Nat → Int} : wr5 (wr5 N a g) a g' = wr5 N a g' := by
  funext b k
  show (if b = a ∧ k < 5 then g' k else if b = a ∧ k < 5 then g k else N b k) = (if b = a ∧ k < 5 then g' k else N b k)
  split <;> rfl
/-- the first j of them -/
def wrj (N : NM) (a j : Nat) (g : Nat → Int) : NM := fun b k => if b = a ∧ k < j then g k else N b k
theorem wrj_up {N : NM} {a j : Nat} {g : Nat → Int} {v : Int} (hv : v = g j) : up2 (wrj N a j g) a j v = wrj N a (j + 1) g := by
  subst hv
  funext b k
  show (if b = a ∧ k = j then g j else if b = a ∧ k < j then g k else N b k) = (if b = a ∧ k < j + 1 then g k else N b k)
  by_cases hb : b = a
  · by_cases hk : k = j
    · subst hk
      rw [if_pos ⟨hb, rfl⟩, if_pos ⟨hb, by omega⟩]
    · rw [if_neg (fun q => hk q.2)]
      by_cases hl : k < j
      · rw [if_pos ⟨hb, hl⟩, if_pos ⟨hb, by omega⟩]
      · rw [if_neg (fun q => hl q.2), if_neg (fun q => by omega)]
  · rw [if_neg (fun q => hb q.1), if_neg (fun q => hb q.1), if_neg (fun q => hb q.1)]
theorem wrj_0 {N : NM} {a : Nat} {g : Nat → Int} : wrj N a 0 g = N := by
  funext b k
  show (if b = a ∧ k < 0 then g k else N b k) = N b k
  rw [if_neg (by omega)]
theorem wrj_ne {N : NM} {a b j : Nat} {g : Nat → Int} (h : b ≠ a) : wrj N a j g b = N b := by
  funext k
  show (if b = a ∧ k < j then g k else N b k) = N b k
  rw [if_neg (fun q => h q.1)]
theorem w_parts {f : Unit → JM Mem τ} {Q : τ → Mem → NM → Prop} {v : Int} {to L : Nat} (hW : WL M w) (hD : WD N w p n T) (hv : 0 ≤ v ∧ v < 1000000) (hK : mK M to = some (.inr (0, L))) (hL : 5 ≤ L ∧ L ≤ 100) (ht : to ≠ w)
    (h : GN M (wr5 N to (fun k => if k < n then dg p v k else 0)) (f ()) Q) : GN M N (jb (jcall 3 w (f_X4_parts w (zI v) to)) f) Q := by
  have hpb := hD.pb
  have hn5 := hD.n5
  refine w_call hW.1 ?_
  unfold f_X4_parts
  refine w_loop (fun d t N1 => ∃ k : Nat, k ≤ 5 ∧ d = 5 - k ∧ t = (zI (v / p ^ k), zI k) ∧ N1 = wrj N to k (fun k => if k < n then dg p v k else 0)) 5 _ ⟨0, by omega, rfl, by rw [Int.pow_zero, Int.ediv_one]; rfl, wrj_0.symm⟩ ?_
  rintro d t N1 ⟨k, hk, rfl, rfl, rfl⟩
  show GN M _ (X4_parts_L5 w to (zI _) (zI _)) _
  unfold X4_parts_L5
  have hpk : 0 < p ^ k := Int.pow_pos (by omega)
  have hq1 : 0 ≤ v / p ^ k := Int.ediv_nonneg hv.1 (by omega)
  have hq2 : v / p ^ k ≤ v := Int.ediv_le_self _ hv.1
  rw [z_5]
  refine w_le ⟨by omega, by omega⟩ ⟨by omega, by omega⟩ (fun hc => ?_) (fun hc => ?_)
  · have : k = 5 := by omega
    subst this
    exact w_jinl (w_jp h)
  refine w_Wp hW ?_
  have hnn : wrj N to k (fun k => if k < n then dg p v k else 0) w 2 = n := by rw [wrj_ne (fun e => ht e.symm)]; exact hD.ne
  have hpp : ∀ j, wrj N to j (fun k => if k < n then dg p v k else 0) w 1 = p := fun j => by rw [wrj_ne (fun e => ht e.symm)]; exact hD.pe
  rw [hnn]
  have hrest : ∀ x : Int, x = (if k < n then dg p v k else 0) → GN M (wrj N to k (fun k => if k < n then dg p v k else 0)) (X4_parts_b33 w to (zI (v / p ^ k)) (zI k) to (zI k) (zI x)) (LQ (fun v M1 N1 => GN M1 N1 (f v) Q) (KF M (fun t1 N1 => ∃ m, m < 5 - k ∧ ∃ k : Nat, k ≤ 5 ∧ m = 5 - k ∧ t1 = (zI (v / p ^ k), zI k) ∧ N1 = wrj N to k (fun k => if k < n then dg p v k else 0)))) := by
    intro x hx
    unfold X4_parts_b33
    refine w_ast hK (by omega) (by omega) ?_
    rw [show ((k : Int).toNat) = k from rfl, wrj_up hx]
    refine w_Wp hW ?_
    rw [hpp]
    refine w_divP ⟨hq1, by omega, by omega⟩ ⟨by omega, by omega, by omega⟩ ?_
    rw [z_1, zI_add]
    refine w_jcont ⟨5 - (k + 1), by omega, k + 1, by omega, rfl, ?_, rfl⟩
    rw [Int.ediv_ediv_of_nonneg (by omega), ← Int.pow_succ]
    rfl
  refine w_le ⟨by omega, by omega⟩ ⟨by omega, by omega⟩ (fun hd => ?_) (fun hd => ?_)
  · rw [z_0]
    exact hrest 0 (by rw [if_neg (by omega)])
  · refine w_Wp hW ?_
    rw [hpp]
    refine w_remP ⟨hq1, by omega, by omega⟩ ⟨by omega, by omega, by omega⟩ ?_
    exact hrest _ (by rw [if_pos (by omega)]; rfl)
/-- a vector's number -/
def ev (p : Int) (n : Nat) (X : Nat → Int) : Int := sm n (fun k => X k * p ^ k)
/-- from above: what stands from k on -/
def evu (p : Int) (X : Nat → Int) : Nat → Nat → Int
  | 0, _ => 0
  | d + 1, k => evu p X d (k + 1) * p + X k
theorem evu_s (p : Int) (X : Nat → Int) (d k : Nat) : evu p X (d + 1) k = evu p X d (k + 1) * p + X k := rfl
theorem evu_bd {p : Int} {X : Nat → Int} (hp : 2 ≤ p ∧ p ≤ 7) (hX : ∀ k, 0 ≤ X k ∧ X k < p) : ∀ d, d ≤ 5 → ∀ k, 0 ≤ evu p X d k ∧ evu p X d k < p ^ d := by
  intro d
  induction d with
  | zero => intro _ k; exact ⟨Int.le_refl 0, by rw [Int.pow_zero]; exact Int.zero_lt_one⟩
  | succ d ih =>
    intro hd k
    have h1 := ih (by omega) (k + 1)
    have h2 := hX k
    rw [evu_s, Int.pow_succ]
    refine ⟨by have := Int.mul_nonneg h1.1 (show 0 ≤ p by omega); omega, ?_⟩
    have h3 : (evu p X d (k + 1) + 1) * p ≤ p ^ d * p := Int.mul_le_mul_of_nonneg_right (by omega) (by omega)
    rw [Int.add_mul] at h3
    omega
theorem w_vector {f : Int32 → JM Mem τ} {Q : τ → Mem → NM → Prop} {x L : Nat} {X : Nat → Int} (hW : WL M w) (hD : WD N w p n T) (hK : mK M x = some (.inr (0, L))) (hL : 5 ≤ L ∧ L ≤ 100) (hX : VD N x p n X)
    (h : GN M N (f (zI (evu p X n 0))) Q) : GN M N (jb (jcall 3 w (f_X4_vector w x)) f) Q := by
  have hpb := hD.pb
  have hn5 := hD.n5
  refine w_callE hW.1 ?_ h
  unfold f_X4_vector
  refine w_Wp hW ?_
  rw [hD.ne, z_1, zI_sub, z_0]
  refine w_jlet ?_
  refine w_loop (fun d t N1 => d ≤ n ∧ t = (zI (evu p X (n - d) d), zI ((d : Int) - 1)) ∧ N1 = N) n _ ⟨by omega, by rw [Nat.sub_self]; rfl, rfl⟩ ?_
  rintro d t N1 ⟨hd, rfl, rfl⟩
  show GN M _ (X4_vector_L9 w x (zI _) (zI _)) _
  unfold X4_vector_L9
  rw [z_0]
  refine w_lt ⟨by omega, by omega⟩ ⟨by omega, by omega⟩ (fun hc => ?_) (fun hc => ?_)
  · have : d = 0 := by omega
    subst this
    exact w_jinl (w_jp ⟨rfl, rfl, rfl⟩)
  refine w_Wp hW ?_
  refine w_ald hK (by omega) (by omega) ?_
  rw [hD.pe, show ((d : Int) - 1).toNat = d - 1 by omega, hX.at (by omega), zI_mul, zI_add, z_m1, zI_add]
  refine w_jlet (w_jcont ⟨d - 1, by omega, by omega, ?_, rfl⟩)
  rw [show n - (d - 1) = n - d + 1 by omega, evu_s, show d - 1 + 1 = d by omega, show ((d - 1 : Nat) : Int) - 1 = (d : Int) - 1 + -1 by omega]
theorem w_isLike {f : Int32 → JM Mem τ} {Q : τ → Mem → NM → Prop} {p2 : Int} {n2 : Nat} {T2 : Nat → Nat → Nat → Int} (hW : WL M w) (hV : WL M w2) (hD : WD N w p n T) (hE : WD N w2 p2 n2 T2)
    (h : GN M N (f (zI (if p = p2 ∧ n = n2 then 1 else 0))) Q) : GN M N (jb (jcall 3 w (f_X4_isLike w w2)) f) Q := by
  have hpb := hD.pb
  have hn5 := hD.n5
  have hpb2 := hE.pb
  have hn52 := hE.n5
  refine w_callE hW.1 ?_ h
  unfold f_X4_isLike
  refine w_Wp hW (w_Wp hV ?_)
  rw [hD.pe, hE.pe]
  refine w_eq ⟨by omega, by omega⟩ ⟨by omega, by omega⟩ (fun hc => ?_) (fun hc => ?_)
  · refine w_Wp hW (w_Wp hV ?_)
    rw [hD.ne, hE.ne]
    refine w_eq ⟨by omega, by omega⟩ ⟨by omega, by omega⟩ (fun hd => ?_) (fun hd => ?_)
    · exact w_jp ⟨by rw [if_pos ⟨hc, by omega⟩]; rfl, rfl, rfl⟩
    · exact w_jp ⟨by rw [if_neg (fun q => hd (by omega))]; rfl, rfl, rfl⟩
  · exact w_jp ⟨by rw [if_neg (fun q => hc q.1)]; rfl, rfl, rfl⟩
/-- the bracket: what is gathered -/
theorem w_wbracket {f : Unit → JM Mem τ} {Q : τ → Mem → NM → Prop} {x y to Lx Ly Lt : Nat} {X Y : Nat → Int} (hW : WL M w) (hD : WD N w p n T) (hKx : mK M x = some (.inr (0, Lx))) (hLx : 5 ≤ Lx ∧ Lx ≤ 100)
    (hKy : mK M y = some (.inr (0, Ly))) (hLy : 5 ≤ Ly ∧ Ly ≤ 100) (hKt : mK M to = some (.inr (0, Lt))) (hLt : 5 ≤ Lt ∧ Lt ≤ 100) (hX : VD N x p n X) (hY : VD N y p n Y) (hx : to ≠ x) (hy : to ≠ y) (ht : to < w ∨ w + 32 ≤ to)
    (h : GN M (wr5 N to (fun k => bk n T X Y k % p)) (f ()) Q) : GN M N (jb (jcall 3 w (f_X4_bracket w x y to)) f) Q := by
  have hpb := hD.pb
  have hn5 := hD.n5
  refine w_call hW.1 ?_
  unfold f_X4_bracket
  refine w_up 5 (fun k N1 => N1 = wrj N to k (fun k => bk n T X Y k % p)) 0 rfl (by omega) wrj_0.symm ?_
  rintro k N1 hk rfl
  have fr : ∀ b, b ≠ to → wrj N to k (fun k => bk n T X Y k % p) b = N b := fun b hb => wrj_ne hb
  generalize hG : wrj N to k (fun k => bk n T X Y k % p) = G at fr
  have hDG : WD G w p n T := hD.fr (fun b h1 h2 => fr b (by omega))
  have hXG : VD G x p n X := hX.fr (fr x (fun e => hx e.symm))
  have hYG : VD G y p n Y := hY.fr (fr y (fun e => hy e.symm))
  unfold X4_bracket_L3
  rw [z_5]
  refine w_le ⟨by omega, by omega⟩ ⟨by omega, by omega⟩ (fun hc => ?_) (fun hc => ?_)
  · have : k = 5 := by omega
    subst this
    rw [← hG]
    exact w_jinl (w_jp h)
  -- bounds of what is gathered
  have hterm : ∀ i j, 0 ≤ X i * Y j * T i j k ∧ X i * Y j * T i j k ≤ 216 := fun i j => by
    have h1 := hX.2 i
    have h2 := hY.2 j
    have h3 := hD.tb i j k
    have h4 := mul_bd (x := X i) (y := Y j) (a := 6) (b := 6) (by omega) (by omega)
    exact mul_bd (x := X i * Y j) (y := T i j k) (a := 36) (b := 6) h4 (by omega)
  have hin : ∀ i j, j ≤ 5 → 0 ≤ sm j (fun j => X i * Y j * T i j k) ∧ sm j (fun j => X i * Y j * T i j k) ≤ 1080 := fun i j hj => by
    have := sm_bd (n := j) (f := fun j => X i * Y j * T i j k) (a := 0) (b := 216) (fun j _ => hterm i j)
    omega
  have hout : ∀ i, i ≤ 5 → 0 ≤ sm i (fun i => sm n (fun j => X i * Y j * T i j k)) ∧ sm i (fun i => sm n (fun j => X i * Y j * T i j k)) ≤ 5400 := fun i hi => by
    have := sm_bd (n := i) (f := fun i => sm n (fun j => X i * Y j * T i j k)) (a := 0) (b := 1080) (fun i _ => hin i n hn5)
    omega
  rw [z_0]
  refine w_up2 n (fun i a N2 => a = sm i (fun i => sm n (fun j => X i * Y j * T i j k)) ∧ N2 = G) 0 0 rfl (by omega) ⟨rfl, rfl⟩ ?_
  rintro i a N2 hi ⟨rfl, rfl⟩
  show GN M N2 (X4_bracket_L15 w x y to (zI _) (zI _) (zI _)) _
  unfold X4_bracket_L15
  refine w_Wp hW ?_
  rw [hDG.ne]
  have ho := hout i (by omega)
  refine w_le ⟨by omega, by omega⟩ ⟨by omega, by omega⟩ (fun hd => ?_) (fun hd => ?_)
  · have : i = n := by omega
    subst this
    unfold X4_bracket_b83
    refine w_jinl ?_
    refine w_by hW (by rw [hDG.pe]; omega) ⟨by omega, by omega⟩ ?_
    refine w_ast hKt (by omega) (by omega) ?_
    rw [z_1, zI_add, ← hG, show ((k : Int).toNat) = k from rfl, hG, hDG.pe, ← hG, wrj_up (g := fun k => bk i T X Y k % p) (v := (sm i fun i_1 => sm i fun j => X i_1 * Y j * T i_1 j k) % p) rfl]
    exact w_jcont ⟨by omega, rfl, rfl⟩
  rw [z_0]
  refine w_up2 n (fun j a N3 => a = sm i (fun i => sm n (fun j => X i * Y j * T i j k)) + sm j (fun j => X i * Y j * T i j k) ∧ N3 = N2) 0 _ rfl (by omega) ⟨by show _ = _ + (0 : Int); omega, rfl⟩ ?_
  rintro j a N3 hj ⟨rfl, rfl⟩
  show GN M N3 (X4_bracket_L27 w x y to (zI _) (zI _) (zI _) (zI _)) _
  unfold X4_bracket_L27
  refine w_Wp hW ?_
  rw [hDG.ne]
  have hi5 := hin i j (by omega)
  refine w_le ⟨by omega, by omega⟩ ⟨by omega, by omega⟩ (fun he => ?_) (fun he => ?_)
  · have : j = n := by omega
    subst this
    unfold X4_bracket_b77
    rw [z_1, zI_add]
    exact w_jinl (w_jcont ⟨by omega, _, rfl, rfl, rfl⟩)
  refine w_ald hKx (by omega) (by omega) ?_
  rw [show ((i : Int).toNat) = i from rfl, hXG.at (by omega), z_0]
  have hXi := hX.2 i
  refine w_eq ⟨by omega, by omega⟩ ⟨by omega, by omega⟩ (fun hx0 => ?_) (fun hx0 => ?_)
  · unfold X4_bracket_b77
    rw [z_1, zI_add]
    refine w_jinl (w_jcont ⟨by omega, _, rfl, ?_, rfl⟩)
    have hz : ∀ j, sm j (fun j => X i * Y j * T i j k) = 0 := fun j => (sm_congr (g := fun _ => 0) (fun j _ => by rw [hx0, Int.zero_mul, Int.zero_mul])).trans (sm_zero j)
    rw [sm_s, hz, hz]
  refine w_ald hKx (by omega) (by omega) ?_
  refine w_ald hKy (by omega) (by omega) ?_
  rw [show ((i : Int).toNat) = i from rfl, show ((j : Int).toNat) = j from rfl, hXG.at (by omega), hYG.at (by omega)]
  refine w_tab hW (by omega) (by omega) ?_
  refine w_Wk hW (by omega) (by omega) (by omega) ?_
  rw [hDG.t (by omega) (by omega) (by omega), zI_mul, zI_mul, zI_add, z_1, zI_add]
  exact w_jlet (w_jcont ⟨by omega, _, rfl, by rw [sm_s]; omega, rfl⟩)
end WORLD
