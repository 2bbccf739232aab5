/-! THE COMPONENT: closed forms. -/
set_option maxRecDepth 100000
section CMP14
variable {α τ ρ : Type} {M : Mem} {N N' : NM} {c w u : Nat} {p p2 : Int} {n n2 m : Nat} {T F S : Nat → Nat → Nat → Int} {G G' : Nat → Nat → Int}
def clS (n : Nat) (T : Nat → Nat → Nat → Int) (G : Nat → Nat → Int) (i j k l : Nat) : Int := T i k l * G l j - T i j l * G l k - T j k l * G l i
def ClF (p : Int) (n : Nat) (T : Nat → Nat → Nat → Int) (G : Nat → Nat → Int) : Prop := ∀ i j k, i < j → j < k → k < n → Cg p (sm n (clS n T G i j k)) 0
theorem w_isClosed {f : Int32 → JM Mem τ} {Q : τ → Mem → NM → Prop} (hC : CL M c) (hD : WD N (c + 6) p n T) (hG : ∀ i j, i < n → j < n → N (c + 217 + 1 + i) j = G i j) (hGb : ∀ i j, 0 ≤ G i j ∧ G i j < p)
    (h : ∀ v, (v = 1 ∧ ClF p n T G ∨ v = 0 ∧ ¬ ClF p n T G) → GN M N (f (zI v)) Q) : GN M N (jb (jcall 0 c (f_X0_isClosed c)) f) Q := by
  have hpb := hD.pb
  have hn5 := hD.n5
  have hW := hC.w6
  have h217 := hC.ka (o := 217) (d := (5, 5)) rfl
  refine w_Cc hC ?_
  unfold f_X0_isClosed
  refine w_Cf hC rfl ?_
  refine w_Wp hW ?_
  rw [hD.ne, z_0]
  refine w_up n (fun i N1 => N1 = N ∧ ∀ a b c, a < b → b < c → c < n → a < i → Cg p (sm n (clS n T G a b c)) 0) 0 rfl (by omega) ⟨rfl, fun a b c _ _ _ h => absurd h (by omega)⟩ ?_
  rintro i N1 hi ⟨rfl, h1⟩
  unfold X0_isClosed_L10
  refine w_le ⟨by omega, by omega⟩ ⟨by omega, by omega⟩ (fun hd => ?_) (fun hd => ?_)
  · rw [z_1]
    exact w_jinl (w_jp (h 1 (Or.inl ⟨rfl, fun a b c q1 q2 q3 => h1 a b c q1 q2 q3 (by omega)⟩)))
  rw [z_1, zI_add]
  refine w_jlet ?_
  refine w_up n (fun j N2 => N2 = N1 ∧ i < j ∧ ∀ a b c, a < b → b < c → c < n → a < i ∨ a = i ∧ b < j → Cg p (sm n (clS n T G a b c)) 0) (i + 1) (by rfl) (by omega) ⟨rfl, by omega, fun a b c q1 q2 q3 q4 => h1 a b c q1 q2 q3 (by omega)⟩ ?_
  rintro j N2 hj ⟨rfl, hij, h2⟩
  unfold X0_isClosed_L19
  refine w_le ⟨by omega, by omega⟩ ⟨by omega, by omega⟩ (fun he => ?_) (fun he => ?_)
  · unfold X0_isClosed_b161
    rw [z_1, zI_add]
    exact w_jinl (w_jcont ⟨by omega, rfl, rfl, fun a b c q1 q2 q3 q4 => h2 a b c q1 q2 q3 (by omega)⟩)
  rw [z_1, zI_add]
  refine w_jlet ?_
  refine w_up n (fun k N3 => N3 = N2 ∧ j < k ∧ ∀ a b c, a < b → b < c → c < n → a < i ∨ a = i ∧ (b < j ∨ b = j ∧ c < k) → Cg p (sm n (clS n T G a b c)) 0) (j + 1) (by rfl) (by omega) ⟨rfl, by omega, fun a b c q1 q2 q3 q4 => h2 a b c q1 q2 q3 (by omega)⟩ ?_
  rintro k N3 hk ⟨rfl, hjk, h3⟩
  unfold X0_isClosed_L29
  refine w_le ⟨by omega, by omega⟩ ⟨by omega, by omega⟩ (fun hf => ?_) (fun hf => ?_)
  · unfold X0_isClosed_b155
    rw [z_1, zI_add]
    exact w_jinl (w_jcont ⟨by omega, rfl, rfl, by omega, fun a b c q1 q2 q3 q4 => h3 a b c q1 q2 q3 (by omega)⟩)
  have hkn : k < n := by omega
  have hterm : ∀ l, -98 ≤ clS n T G i j k l ∧ clS n T G i j k l ≤ 49 := fun l => by
    unfold clS
    have a1 := hD.tb i k l
    have a2 := hD.tb i j l
    have a3 := hD.tb j k l
    have a4 := hGb l j
    have a5 := hGb l k
    have a6 := hGb l i
    have b1 := mul_bd (x := T i k l) (y := G l j) (a := 7) (b := 7) (by omega) (by omega)
    have b2 := mul_bd (x := T i j l) (y := G l k) (a := 7) (b := 7) (by omega) (by omega)
    have b3 := mul_bd (x := T j k l) (y := G l i) (a := 7) (b := 7) (by omega) (by omega)
    omega
  have hsum : ∀ l, l ≤ 5 → -490 ≤ sm l (clS n T G i j k) ∧ sm l (clS n T G i j k) ≤ 245 := fun l hl => by
    have := sm_bd (n := l) (f := clS n T G i j k) (a := -98) (b := 49) (fun x _ => hterm x)
    omega
  rw [z_0]
  refine w_up2 n (fun l x N4 => x = sm l (clS n T G i j k) ∧ N4 = N3) 0 0 rfl (by omega) ⟨rfl, rfl⟩ ?_
  rintro l x N4 hl ⟨rfl, rfl⟩
  have hsl := hsum l (by omega)
  show GN M N4 (X0_isClosed_L41 c (zI _) (zI _) (zI _) (zI _) (zI _) (zI _)) _
  unfold X0_isClosed_L41
  refine w_le ⟨by omega, by omega⟩ ⟨by omega, by omega⟩ (fun hg => ?_) (fun hg => ?_)
  · obtain rfl : l = n := by omega
    unfold X0_isClosed_b135
    refine w_jinl ?_
    refine w_Cf hC rfl ?_
    refine w_by hW (by rw [hD.pe]; omega) ⟨by omega, by omega⟩ ?_
    rw [hD.pe, z_0]
    have q1 := Int.emod_nonneg (sm l (clS l T G i j k)) (show p ≠ 0 by omega)
    have q2 := Int.emod_lt_of_pos (sm l (clS l T G i j k)) (show 0 < p by omega)
    refine w_eq ⟨by omega, by omega⟩ ⟨by omega, by omega⟩ (fun hq => ?_) (fun hq => ?_)
    · rw [z_1, zI_add]
      refine w_jcont ⟨hkn, rfl, rfl, by omega, fun a b c q1 q2 q3 q4 => ?_⟩
      by_cases e : a = i ∧ b = j ∧ c = k
      · rw [e.1, e.2.1, e.2.2]
        exact Cg.zero_iff.mpr hq
      · exact h3 a b c q1 q2 q3 (by omega)
    · refine w_jinl (w_jinl (w_jinl (w_jp (h 0 (Or.inr ⟨rfl, fun hcl => hq ?_⟩)))))
      exact Cg.zero_iff.mp (hcl i j k hij hjk hkn)
  have hln : l < n := by omega
  have hrow : ∀ {τ' : Type} {g : Nat → JM Mem τ'} {Q' : τ' → Mem → NM → Prop}, GN M N4 (g (c + 217 + 1 + l)) Q' → GN M N4 (jb (jaldA 5 (c + 217) (zI l)) g) Q' := fun hg => w_R1 h217 hC.gr (by omega) (by omega) hg
  have hk2 := (hC.gr l (by omega)).2
  refine w_Cf hC rfl ?_
  refine w_tab hW (by omega) (by omega) ?_
  refine w_Wk hW (by omega) (by omega) (by omega) ?_
  rw [hD.t (by omega) (by omega) (by omega)]
  refine w_Cf hC rfl ?_
  refine hrow ?_
  refine w_ald hk2 (by omega) (by omega) ?_
  rw [show ((j : Int).toNat) = j from rfl, hG l j hln (by omega)]
  refine w_Cf hC rfl ?_
  refine w_tab hW (by omega) (by omega) ?_
  refine w_Wk hW (by omega) (by omega) (by omega) ?_
  rw [hD.t (by omega) (by omega) (by omega)]
  refine w_Cf hC rfl ?_
  refine hrow ?_
  refine w_ald hk2 (by omega) (by omega) ?_
  rw [show ((k : Int).toNat) = k from rfl, hG l k hln hkn]
  refine w_Cf hC rfl ?_
  refine w_tab hW (by omega) (by omega) ?_
  refine w_Wk hW (by omega) (by omega) (by omega) ?_
  rw [hD.t (by omega) (by omega) (by omega)]
  refine w_Cf hC rfl ?_
  refine hrow ?_
  refine w_ald hk2 (by omega) (by omega) ?_
  rw [show ((i : Int).toNat) = i from rfl, hG l i hln (by omega), zI_mul, zI_mul, zI_mul, zI_sub, zI_sub, zI_add, z_1, zI_add]
  exact w_jlet (w_jcont ⟨hln, _, rfl, rfl, rfl⟩)
end CMP14
