/-! ALIKE is alike to what is alike. -/
set_option maxRecDepth 100000
section ISO
variable {p : Int} {n : Nat} {F T U : Nat → Nat → Nat → Int} {B C : Nat → Nat → Int} {u v x y : Nat → Int}
def vmu (n : Nat) (C : Nat → Nat → Int) (x : Nat → Int) : Nat → Int := fun m => sm n (fun k => x k * C k m)
theorem vmu_ax (c : Int) : vmu n C (fun k => u k + c * v k) = fun m => vmu n C u m + c * vmu n C v m := by
  funext m
  unfold vmu
  rw [← sm_mul, ← sm_add]
  exact sm_congr (fun k _ => by grind)
theorem vmu_q (e : Vq p n u v) : Vq p n (vmu n C u) (vmu n C v) := fun m _ => Cg.sm (fun k hk => (e k hk).mul Cg.rf)
theorem vmu_0 : vmu n C (fun _ => 0) = fun _ => 0 := funext fun m => sm_z
theorem vmu_un {a : Nat} (h : a < n) : vmu n C (un a) = C a := funext fun m => sm_un (f := fun q => C q m) h
theorem bk_unn {a b l : Nat} (ha : a < n) (hb : b < n) : bk n T (un a) (un b) l = T a b l := by
  unfold bk
  rw [sm_congr (g := fun i => un a i * sm n (fun j => un b j * T i j l)) (fun i _ => by rw [← sm_mul]; exact sm_congr (fun j _ => by grind)), sm_un (f := fun i => sm n (fun j => un b j * T i j l)) ha, sm_un (f := fun j => T a j l) hb]
theorem vm_sw {w : Nat → Int} {m : Nat} : sm n (fun l => sm n (fun k => w k * B k l) * C l m) = sm n (fun k => w k * vmu n C (B k) m) := by
  rw [sm_congr (g := fun l => sm n (fun k => w k * (B k l * C l m))) (fun l _ => by rw [Int.mul_comm, ← sm_mul]; exact sm_congr (fun i _ => by grind)), sm_swap]
  exact sm_congr (fun i _ => sm_mul n (w i) _)
theorem hm_all (hp : Pr p) (hT : WOk p n T) (hU : WOk p n U) (hC : Hm p n T U C) (x y : Nat → Int) : ∀ m, m < n → Cg p (sm n (fun l => bk n T x y l * C l m)) (bk n U (vmu n C x) (vmu n C y) m) := by
  have hgen : ∀ S : VS, Sbp p n S → (∀ a, a < n → S (un a)) → ∀ x, S x := fun S hS h x => by
    have h2 : Al x := trivial
    rw [(Al.ech hp).gen] at h2
    exact Gn.le hS (fun g ⟨r, hr, e⟩ => by rw [e]; exact h r hr) h2
  have sb1 : ∀ y, Sbp p n (fun x => ∀ m, m < n → Cg p (sm n (fun l => bk n T x y l * C l m)) (bk n U (vmu n C x) (vmu n C y) m)) := fun y => by
    refine ⟨fun u v hu e m hm => (Cg.sm (fun l _ => (bk_q e.sy Vq.rf l).mul Cg.rf)).tr ((hu m hm).tr (bk_q (vmu_q e) Vq.rf m)), fun m hm => Cg.of ?_, fun c u v hu hv m hm => ?_⟩
    · rw [vmu_0, bk_z1, sm_congr (g := fun l => 0 * C l m) (fun l _ => by rw [bk_z1]), sm_z]
    · rw [vmu_ax, bk_ax1]
      refine (Cg.of ?_).tr ((hu m hm).add (Cg.ml c (hv m hm)))
      rw [← sm_mul, ← sm_add]
      exact sm_congr (fun l _ => by rw [bk_ax1]; grind)
  have sb2 : ∀ x, Sbp p n (fun y => ∀ m, m < n → Cg p (sm n (fun l => bk n T x y l * C l m)) (bk n U (vmu n C x) (vmu n C y) m)) := fun x => by
    refine ⟨fun u v hu e m hm => (Cg.sm (fun l _ => (bk_q Vq.rf e.sy l).mul Cg.rf)).tr ((hu m hm).tr (bk_q Vq.rf (vmu_q e) m)), fun m hm => Cg.of ?_, fun c u v hu hv m hm => ?_⟩
    · rw [vmu_0, bk_z2, sm_congr (g := fun l => 0 * C l m) (fun l _ => by rw [bk_z2]), sm_z]
    · rw [vmu_ax, bk_ax2]
      refine (Cg.of ?_).tr ((hu m hm).add (Cg.ml c (hv m hm)))
      rw [← sm_mul, ← sm_add]
      exact sm_congr (fun l _ => by rw [bk_ax2]; grind)
  refine hgen _ (sb1 y) (fun a ha => hgen _ (sb2 (un a)) (fun b hb m hm => ?_) y) x
  rw [vmu_un ha, vmu_un hb, sm_congr (g := fun l => T a b l * C l m) (fun l _ => by rw [bk_unn ha hb])]
  rcases Nat.lt_trichotomy a b with c | c | c
  · exact hC a b c hb m hm
  · subst c
    refine (Cg.of ?_).tr (bk_self hU m).sy
    rw [sm_congr (g := fun l => 0 * C l m) (fun l _ => by rw [hT.2.2.2.2.2.2 a l]), sm_z]
  · have h1 : Cg p (sm n (fun l => T a b l * C l m)) (sm n (fun l => -(T b a l * C l m))) := Cg.sm (fun l _ => by
      refine ((hT.tan b a l).mul (Cg.rf (p := p) (a := C l m))).tr (Cg.of ?_)
      grind)
    rw [sm_neg] at h1
    exact h1.tr ((hC b a c ha m hm).neg.tr (bk_anti hU.tan m).sy)
theorem Iso.trans (hp : Pr p) (hT : WOk p n T) (hU : WOk p n U) (h1 : Iso p n F T) (h2 : Iso p n T U) : Iso p n F U := by
  obtain ⟨B, b1, b2, b3⟩ := h1
  obtain ⟨C, c1, c2, c3⟩ := h2
  have hp1 := hp.pos
  refine ⟨fun i m => vmu n C (B i) m % p, fun i k => ⟨Int.emod_nonneg _ (by omega), Int.emod_lt_of_pos _ (by omega), fun hk => ?_⟩, fun w hw => b2 w (fun k hk => c2 (fun k => sm n (fun i => w i * B i k)) (fun m hm => ?_) k hk), fun i j h1 h2 m hm => ?_⟩
  · show vmu n C (B i) k % p = 0
    have : vmu n C (B i) k = 0 := by
      unfold vmu
      rw [sm_congr (g := fun _ => 0) (fun q _ => by rw [(c1 q k).2.2 hk, Int.mul_zero]), sm_zero]
    rw [this, Int.zero_emod]
  · refine (Cg.of vm_sw).tr ((Cg.sm (fun i _ => Cg.ml (w i) (Cg.mod p _).sy)).tr (hw m hm))
  · have e1 : Cg p (sm n (fun k => F i j k * (vmu n C (B k) m % p))) (sm n (fun k => F i j k * vmu n C (B k) m)) := Cg.sm (fun k _ => Cg.ml _ (Cg.mod p _))
    refine e1.tr ((Cg.of vm_sw.symm).tr ?_)
    have e2 : Cg p (sm n (fun l => sm n (fun k => F i j k * B k l) * C l m)) (sm n (fun l => bk n T (B i) (B j) l * C l m)) := Cg.sm (fun l hl => (b3 i j h1 h2 l hl).mul Cg.rf)
    exact e2.tr ((hm_all hp hT hU c3 (B i) (B j) m hm).tr (bk_q (fun k _ => (Cg.mod p _).sy) (fun k _ => (Cg.mod p _).sy) m))
def idB (n i k : Nat) : Int := if k = i ∧ k < n then 1 else 0
theorem idB_un {i : Nat} (hi : i < n) : idB n i = un i := by
  funext k
  unfold idB un
  by_cases e : k = i
  · rw [if_pos ⟨e, by omega⟩, if_pos e]
  · rw [if_neg (fun x => e x.1), if_neg e]
theorem idB_sm {w : Nat → Int} {m : Nat} (hm : m < n) : sm n (fun k => w k * idB n k m) = w m := by
  rw [sm_congr (g := fun k => un m k * w k) (fun k _ => ?_), sm_un hm]
  unfold idB un
  by_cases e : m = k
  · rw [if_pos ⟨e, hm⟩, if_pos e.symm]; omega
  · rw [if_neg (fun x => e x.1), if_neg (fun x => e x.symm)]; omega
theorem Iso.refl (hp : Pr p) : Iso p n F F := by
  have hp1 := hp.pos
  refine ⟨idB n, fun i k => ?_, fun w hw k hk => ?_, fun i j h1 h2 m hm => ?_⟩
  · unfold idB
    by_cases e : k = i ∧ k < n
    · rw [if_pos e]; omega
    · rw [if_neg e]; omega
  · exact (Cg.of (idB_sm hk).symm).tr (hw k hk)
  · rw [idB_un (show i < n by omega), idB_un h2, bk_unn (by omega) h2]
    exact Cg.of (idB_sm hm)
/-- rows that turn back are independent -/
theorem Ind.of_back (h : ∀ k l, k < n → l < n → Cg p (vmu n C (B k) l) (un l k)) : Ind p n B := fun w hw l hl => by
  have h1 : Cg p (sm n (fun m => sm n (fun k => w k * B k m) * C m l)) (sm n (fun m => 0 * C m l)) := Cg.sm (fun m hm => (hw m hm).mul Cg.rf)
  rw [vm_sw, sm_z] at h1
  have h2 : Cg p (sm n (fun k => w k * vmu n C (B k) l)) (sm n (fun k => un l k * w k)) := Cg.sm (fun k hk => (Cg.ml (w k) (h k l hk hl)).tr (Cg.of (Int.mul_comm _ _)))
  rw [sm_un hl] at h2
  exact h2.sy.tr h1
end ISO
