/-! BASES of a few changed rows turn back. -/
set_option maxRecDepth 100000
section GJE
variable {p : Int} {n c i j : Nat} {A B : Nat → Nat → Int} {r : Nat} {x : Int}
/-- the least row that leads -/
theorem gjP_ex (h : ∃ q, c ≤ q ∧ q < n ∧ A q c ≠ 0) : ∃ r, gjP n c A r := by
  obtain ⟨q, h1, h2, h3⟩ := h
  have key : ∀ d q, q = c + d → q < n → A q c ≠ 0 → ∃ r, gjP n c A r := by
    intro d
    induction d using Nat.strongRecOn with
    | _ d ih =>
      intro q e hq hA
      by_cases hx : ∃ q', c ≤ q' ∧ q' < q ∧ A q' c ≠ 0
      · obtain ⟨q', a1, a2, a3⟩ := hx
        exact ih (q' - c) (by omega) q' (by omega) (by omega) a3
      · refine ⟨q, by omega, hq, hA, fun q' a1 a2 => Classical.byContradiction fun a3 => hx ⟨q', a1, a2, a3⟩⟩
  exact key (q - c) q (by omega) h2 h3
theorem gjA_inv (hp : Pr p) (hB : ∀ i k, 0 ≤ A i k ∧ A i k < p) (hn : ∀ v : Nat → Int, (∀ i, i < n → Cg p (sm n (fun k => A i k * v k)) 0) → ∀ k, k < n → Cg p (v k) 0) :
    ∀ c, c ≤ n → (∀ d, d < c → pvt n d (gja p n A d) < n) ∧ (∀ i j, i < n → j < c → gja p n A c i j = if i = j then 1 else 0) ∧ ∀ v : Nat → Int, (∀ i, i < n → Cg p (sm n (fun k => gja p n A c i k * v k)) 0) → ∀ i, i < n → Cg p (sm n (fun k => A i k * v k)) 0 := by
  intro c
  induction c with
  | zero => exact fun _ => ⟨fun d hd => absurd hd (by omega), fun i j _ hj => absurd hj (by omega), fun v h => h⟩
  | succ c ih =>
    intro hc
    obtain ⟨i1, i2, i3⟩ := ih (by omega)
    have hb := gja_bd (n := n) hp.pos hB c
    have e : gja p n A (c + 1) = gjN p c (pvt n c (gja p n A c)) (gja p n A c) := rfl
    generalize hG : gja p n A c = G at *
    have hpv : ∃ r, gjP n c G r := by
      refine gjP_ex (Classical.byContradiction fun h0 => ?_)
      have h0 : ∀ q, c ≤ q → q < n → G q c = 0 := fun q a b => Classical.byContradiction fun x => h0 ⟨q, a, b, x⟩
      have := hn (fun k => if k < c then G k c else if k = c then -1 else 0) (i3 _ (fun i hi => ?_)) c (by omega)
      · rw [if_neg (by omega), if_pos rfl] at this
        exact hp.one (by have := this.neg; simpa using this)
      · have es : sm n (fun k => G i k * (if k < c then G k c else if k = c then -1 else 0)) = sm n (fun k => (if k = i then (if i < c then G i c else 0) else 0) + (if k = c then -(G i c) else 0)) := by
          refine sm_congr (fun k hk => ?_)
          by_cases h1 : k < c
          · rw [if_pos h1, if_neg (show ¬ k = c by omega), i2 i k hi h1]
            by_cases h2 : k = i
            · rw [if_pos h2, if_pos h2.symm, h2, if_pos (by omega)]; omega
            · rw [if_neg h2, if_neg (fun x => h2 x.symm)]; omega
          · rw [if_neg h1]
            by_cases h2 : k = c
            · rw [if_pos h2, if_pos h2, h2]
              by_cases h3 : c = i
              · rw [if_pos h3, if_neg (by omega)]; omega
              · rw [if_neg h3]; omega
            · rw [if_neg h2, if_neg h2]
              by_cases h3 : k = i
              · rw [if_pos h3, if_neg (by omega)]; omega
              · rw [if_neg h3]; omega
        rw [es, sm_add, sm_one hi (fun _ => if i < c then G i c else 0), sm_one (show c < n by omega) (fun _ => -(G i c))]
        by_cases h1 : i < c
        · rw [if_pos h1]
          exact Cg.of (by omega)
        · rw [if_neg h1, h0 i (by omega) hi]
          exact Cg.of (by omega)
    obtain ⟨r, hr⟩ := hpv
    have er := pvt_eq hr
    obtain ⟨r1, r2, r3, r4⟩ := hr
    rw [er] at e
    have hne : ¬ Cg p (G r c) 0 := fun x => r3 (x.eq (hb r c) ⟨by omega, by have := hp.pos; omega⟩)
    obtain ⟨w, w1, w2, w3⟩ := hp.inv hne
    have hiv : ivn p (G r c) = w := ivn_eq ⟨w1, w2, w3⟩
    have hp1 := hp.pos
    refine ⟨fun d hd => ?_, fun i j hi hj => ?_, fun v hv => i3 v ?_⟩
    · by_cases h : d = c
      · rw [h, hG, er]; exact r2
      · exact i1 d (by omega)
    · rw [e]
      unfold gjN gjL
      rw [hiv]
      by_cases h1 : j = c
      · have ew : G r j * w % p = 1 := by
          rw [h1, Int.mul_comm]
          have := Cg.iff_mod.mp w3
          rw [this, Int.emod_eq_of_lt (by omega) (by omega)]
        rw [ew]
        by_cases h2 : i = c
        · rw [if_pos h2, if_pos (by omega)]
        · rw [if_neg h2, if_neg (by omega), h1, Int.mul_one, Int.sub_self, Int.zero_emod]
      · have ew : G r j * w % p = 0 := by
          rw [i2 r j r2 (by omega), if_neg (by omega), Int.zero_mul, Int.zero_emod]
        rw [ew]
        by_cases h2 : i = c
        · rw [if_pos h2, if_neg (by omega)]
        · rw [if_neg h2, Int.mul_zero, Int.sub_zero]
          unfold gjS
          rw [if_neg h2]
          by_cases h3 : i = r
          · rw [if_pos h3, i2 c j (by omega) (by omega), if_neg (by omega), if_neg (by omega), Int.zero_emod]
          · rw [if_neg h3, i2 i j hi (by omega)]
            split
            · exact Int.emod_eq_of_lt (by omega) (by omega)
            · exact Int.zero_emod _
    · have hL : Cg p (sm n (fun k => gjL p c r G k * v k)) 0 := by
        have := hv c (by omega)
        rw [e] at this
        refine (Cg.of (sm_congr (fun k _ => ?_))).tr this
        show _ = gjN p c r G c k * v k
        unfold gjN
        rw [if_pos rfl]
      have hr0 : Cg p (sm n (fun k => G r k * v k)) 0 := by
        have h1 : Cg p (sm n (fun k => gjL p c r G k * v k)) (w * sm n (fun k => G r k * v k)) := by
          rw [← sm_mul]
          refine Cg.sm (fun k _ => ?_)
          have : Cg p (gjL p c r G k) (G r k * w) := by
            unfold gjL
            rw [hiv]
            exact Cg.mod _ _
          have h2 := this.mul (Cg.rf (p := p) (a := v k))
          rw [show G r k * w * v k = w * (G r k * v k) by grind] at h2
          exact h2
        exact hp.dom (h1.sy.tr hL) (fun x => by
          have := x.eq ⟨by omega, w2⟩ ⟨by omega, by omega⟩
          omega)
      have hS : ∀ i, i < n → i ≠ c → Cg p (sm n (fun k => gjS c r G i k * v k)) 0 := fun i hi hic => by
        have h1 := hv i hi
        rw [e] at h1
        have h2 : Cg p (sm n (fun k => gjN p c r G i k * v k)) (sm n (fun k => gjS c r G i k * v k) - gjS c r G i c * sm n (fun k => gjL p c r G k * v k)) := by
          rw [← sm_mul, ← sm_sub]
          refine Cg.sm (fun k _ => ?_)
          unfold gjN
          rw [if_neg hic]
          have h3 := (Cg.mod p (gjS c r G i k - gjS c r G i c * gjL p c r G k)).mul (Cg.rf (p := p) (a := v k))
          rw [show (gjS c r G i k - gjS c r G i c * gjL p c r G k) * v k = gjS c r G i k * v k - gjS c r G i c * (gjL p c r G k * v k) by grind] at h3
          exact h3
        have h4 := (h2.sy.tr h1).add (Cg.ml (gjS c r G i c) hL)
        rw [Int.mul_zero, Int.sub_add_cancel] at h4
        exact h4
      intro i hi
      by_cases h1 : i = r
      · rw [h1]; exact hr0
      · by_cases h2 : i = c
        · have := hS r r2 (by omega)
          unfold gjS at this
          rw [if_neg (by omega), if_pos rfl] at this
          rw [h2]; exact this
        · have := hS i hi h2
          unfold gjS at this
          rw [if_neg h2, if_neg h1] at this
          exact this
theorem gjB_of (hp : Pr p) (hB : ∀ i k, 0 ≤ B i k ∧ B i k < p) (hn : ∀ v : Nat → Int, (∀ i, i < n → Cg p (sm n (fun k => B i k * v k)) 0) → ∀ k, k < n → Cg p (v k) 0) : gjB p n B := by
  have h0 := gj0_bd (n := n) hp.pos hB
  refine fun c hc => (gjA_inv hp h0 (fun v hv => hn v (fun i hi => ?_)) (c + 1) (by omega)).1 c (by omega)
  refine (Cg.of (sm_congr (fun k hk => ?_))).tr (hv i hi)
  unfold gj0
  rw [if_pos hk]
/-- two of the base exchanged; one made so many of it; so many of one put to another -/
def elB (p : Int) (kd : Int) (i j : Nat) (x : Int) (r k : Nat) : Int :=
  if kd = 0 then (if r = i then (if k = j then 1 else 0) else if r = j then (if k = i then 1 else 0) else if r = k then 1 else 0)
  else if kd = 1 then (if r = i ∧ k = i then x % p else if r = k then 1 else 0)
  else (if r = j ∧ k = i then x % p else if r = k then 1 else 0)
theorem elB_bd {kd : Int} (hp : 1 < p) (r k : Nat) : 0 ≤ elB p kd i j x r k ∧ elB p kd i j x r k < p := by
  have h1 := Int.emod_nonneg x (show p ≠ 0 by omega)
  have h2 := Int.emod_lt_of_pos x (show 0 < p by omega)
  unfold elB
  repeat' split
  all_goals omega
theorem elB_ker {kd : Int} (hp : Pr p) (hi : i < n) (hj : kd ≠ 1 → j < n ∧ i ≠ j) (hx : kd = 1 → x % p ≠ 0) (v : Nat → Int) (hv : ∀ r, r < n → Cg p (sm n (fun k => elB p kd i j x r k * v k)) 0) : ∀ k, k < n → Cg p (v k) 0 := by
  have one : ∀ (r q : Nat) (y : Int), q < n → sm n (fun k => (if k = q then y else 0) * v k) = y * v q := fun r q y hq => by
    rw [sm_congr (g := fun k => if k = q then y * v k else 0) (fun k _ => by
      by_cases h : k = q
      · rw [if_pos h, if_pos h]
      · rw [if_neg h, if_neg h, Int.zero_mul])]
    exact sm_one hq (fun k => y * v k)
  have rowd : ∀ r, r < n → (∀ k, elB p kd i j x r k = if k = r then 1 else 0) → Cg p (v r) 0 := fun r hr h => by
    have := hv r hr
    rw [sm_congr (fun k _ => by rw [h k]), one r r 1 hr, Int.one_mul] at this
    exact this
  by_cases k0 : kd = 0
  · obtain ⟨hj1, hij⟩ := hj (by omega)
    have e : ∀ r k, elB p kd i j x r k = if r = i then (if k = j then 1 else 0) else if r = j then (if k = i then 1 else 0) else if r = k then 1 else 0 := fun r k => if_pos k0
    intro k hk
    by_cases h1 : k = i
    · have := hv j hj1
      rw [sm_congr (fun q _ => by rw [e j q, if_neg (by omega), if_pos rfl]), one j i 1 hi, Int.one_mul] at this
      rw [h1]; exact this
    · by_cases h2 : k = j
      · have := hv i hi
        rw [sm_congr (fun q _ => by rw [e i q, if_pos rfl]), one i j 1 hj1, Int.one_mul] at this
        rw [h2]; exact this
      · exact rowd k hk (fun q => by rw [e, if_neg h1, if_neg h2]; simp only [eq_comm])
  · by_cases k1 : kd = 1
    · have e : ∀ r k, elB p kd i j x r k = if r = i ∧ k = i then x % p else if r = k then 1 else 0 := fun r k => (if_neg k0).trans (if_pos k1)
      intro k hk
      by_cases h1 : k = i
      · have := hv i hi
        rw [sm_congr (g := fun q => (if q = i then x % p else 0) * v q) (fun q _ => by
          rw [e i q]
          by_cases h : q = i
          · rw [if_pos ⟨rfl, h⟩, if_pos h]
          · rw [if_neg (fun y => h y.2), if_neg h, if_neg (fun y => h y.symm)]), one i i _ hi] at this
        rw [h1]
        exact hp.dom this (fun y => hx k1 (by
          have := Cg.zero_iff.mp y
          rw [Int.emod_emod_of_dvd _ (Int.dvd_refl p)] at this
          exact this))
      · exact rowd k hk (fun q => by rw [e, if_neg (fun y => h1 y.1)]; simp only [eq_comm])
    · obtain ⟨hj1, hij⟩ := hj k1
      have e : ∀ r k, elB p kd i j x r k = if r = j ∧ k = i then x % p else if r = k then 1 else 0 := fun r k => (if_neg k0).trans (if_neg k1)
      have hvi : Cg p (v i) 0 := rowd i hi (fun q => by rw [e, if_neg (fun y => hij y.1)]; simp only [eq_comm])
      intro k hk
      by_cases h1 : k = j
      · have := hv j hj1
        rw [sm_congr (g := fun q => (if q = i then x % p else 0) * v q + (if q = j then 1 else 0) * v q) (fun q _ => by
          rw [e j q]
          by_cases h : q = i
          · rw [if_pos ⟨rfl, h⟩, if_pos h, if_neg (by omega)]; omega
          · rw [if_neg (fun y => h y.2), if_neg h]
            by_cases h2 : q = j
            · rw [if_pos h2, if_pos h2.symm]; omega
            · rw [if_neg h2, if_neg (fun y => h2 y.symm)]; omega), sm_add, one j i _ hi, one j j 1 hj1, Int.one_mul] at this
        have h3 := this.sub (Cg.ml (x % p) hvi)
        rw [Int.mul_zero, Int.sub_zero, show x % p * v i + v j - x % p * v i = v j by omega] at h3
        rw [h1]; exact h3
      · exact rowd k hk (fun q => by rw [e, if_neg (fun y => h1 y.1)]; simp only [eq_comm])
/-- nothing outside -/
def trB (n : Nat) (B : Nat → Nat → Int) (i k : Nat) : Int := if i < n ∧ k < n then B i k else 0
theorem trB_in {i k : Nat} (hi : i < n) (hk : k < n) : trB n B i k = B i k := if_pos ⟨hi, hk⟩
theorem trB_bd {i k : Nat} (hp : 1 < p) (h : ∀ i k, 0 ≤ B i k ∧ B i k < p) : 0 ≤ trB n B i k ∧ trB n B i k < p ∧ (n ≤ k → trB n B i k = 0) := by
  unfold trB
  by_cases e : i < n ∧ k < n
  · rw [if_pos e]; exact ⟨(h i k).1, (h i k).2, fun x => absurd x (by omega)⟩
  · rw [if_neg e]; exact ⟨by omega, by omega, fun _ => rfl⟩
theorem elB_gj {kd : Int} (hp : Pr p) (hi : i < n) (hj : kd ≠ 1 → j < n ∧ i ≠ j) (hx : kd = 1 → x % p ≠ 0) : gjB p n (trB n (elB p kd i j x)) := by
  refine gjB_of hp (fun r k => ⟨(trB_bd hp.pos (elB_bd hp.pos)).1, (trB_bd hp.pos (elB_bd hp.pos)).2.1⟩) (fun v hv => elB_ker hp hi hj hx v (fun r hr => ?_))
  refine (Cg.of (sm_congr (fun k hk => ?_))).tr (hv r hr)
  rw [trB_in hr hk]
end GJE
