/-! THE MODEL: closed forms. -/
set_option maxRecDepth 100000
section MOD15
variable {α τ : Type} {M M' : Mem} {N N' : NM} {m a b o W B D L t len : Nat} {p p2 : Int} {n n2 q lev c r : Nat} {T U F S : Nat → Nat → Nat → Int} {G G' : Nat → Nat → Int} {V : Nat → Int}
theorem ClF_q (h : ∀ i j, i < n → j < n → Cg p (G i j) (G' i j)) : ClF p n T G → ClF p n T G' := fun hG i j k hij hjk hk => by
  have e : Cg p (sm n (clS n T G i j k)) (sm n (clS n T G' i j k)) := Cg.sm (fun l hl => by
    unfold clS
    exact ((Cg.ml _ (h l j hl (by omega))).sub (Cg.ml _ (h l k hl hk))).sub (Cg.ml _ (h l i hl (by omega))))
  exact e.sy.tr (hG i j k hij hjk hk)
theorem w_formOfBracket {f : Int32 → JM Mem τ} {Q : τ → Mem → NM → Prop} {i j k : Nat} (hM : ML M m) (hA : MA M N m W B p n T) (hT : TrM M N m t len V) (hl : (n : Int) * ((n : Int) - 1) / 2 ≤ len) (hV : ∀ i, i < len → (i : Int) < (n : Int) * ((n : Int) - 1) / 2 → 0 ≤ V i ∧ V i < p) (hi : i < n) (hj : j < n) (hk : k < n)
    (h : -490 ≤ sm n (fun l => T i j l * frm n V l k) ∧ sm n (fun l => T i j l * frm n V l k) ≤ 490 → GN M N (f (zI (sm n (fun l => T i j l * frm n V l k)))) Q) : GN M N (jb (jcall 7 m (f_X8_formOfBracket m (zI t) (zI i) (zI j) (zI k))) f) Q := by
  have hpb := hA.pb
  have hn5 := hA.n5
  have hfb : ∀ l, l < n → -7 ≤ frm n V l k ∧ frm n V l k ≤ 7 := fun l hl => by
    unfold frm
    by_cases c1 : l = k
    · rw [if_pos c1]; omega
    rw [if_neg c1]
    by_cases c2 : l < k
    · rw [if_pos c2]
      have := cpl_lt n hn5 l k c2 hk
      have := hV (cpl n l k) (by omega) this.2
      omega
    · rw [if_neg c2]
      have := cpl_lt n hn5 k l (by omega) hl
      have := hV (cpl n k l) (by omega) this.2
      omega
  have hb : ∀ x, x ≤ n → -245 ≤ sm x (fun l => T i j l * frm n V l k) ∧ sm x (fun l => T i j l * frm n V l k) ≤ 245 := fun x hx => by
    have := sm_bd (n := x) (f := fun l => T i j l * frm n V l k) (a := -49) (b := 49) (fun l hl => by
      have h1 := hA.tb i j l
      have h2 := hfb l (by omega)
      have h3 : T i j l * frm n V l k ≤ 7 * 7 ∧ -(7 * 7) ≤ T i j l * frm n V l k := by
        have q1 : 0 ≤ T i j l := h1.1
        have q2 : T i j l ≤ 7 := by omega
        constructor
        · calc T i j l * frm n V l k ≤ T i j l * 7 := Int.mul_le_mul_of_nonneg_left h2.2 q1
            _ ≤ 7 * 7 := Int.mul_le_mul_of_nonneg_right q2 (by omega)
        · have : T i j l * -7 ≤ T i j l * frm n V l k := Int.mul_le_mul_of_nonneg_left h2.1 q1
          omega
      omega)
    omega
  refine w_Mc hM ?_
  unfold f_X8_formOfBracket
  rw [z_0]
  refine w_up2 n (fun l x N1 => x = sm l (fun l => T i j l * frm n V l k) ∧ N1 = N) 0 0 rfl (by omega) ⟨rfl, rfl⟩ ?_
  rintro l x N1 hl' ⟨rfl, rfl⟩
  show GN M N1 (X8_formOfBracket_L6 m (zI _) (zI _) (zI _) (zI _) (zI _) (zI _)) _
  have hbl := hb l hl'
  unfold X8_formOfBracket_L6
  refine w_MI hM ?_
  rw [hA.ne]
  refine w_le ⟨by omega, by omega⟩ ⟨by omega, by omega⟩ (fun hc => ?_) (fun hc => ?_)
  · obtain rfl : l = n := by omega
    exact w_jinl (w_jp (h ⟨by omega, by omega⟩))
  refine w_mtable hM hA (by omega) (by omega) (by omega) ?_
  refine w_formOfT hM hA.ne hn5 hT hl (by omega) hk ?_
  rw [zI_mul, zI_add, z_1, zI_add]
  exact w_jlet (w_jcont ⟨by omega, _, rfl, rfl, rfl⟩)
theorem sm_cl {i j k : Nat} : ∀ x, sm x (clS n T G i j k) = -(sm x (fun l => T i j l * G l k)) + sm x (fun l => T i k l * G l j) - sm x (fun l => T j k l * G l i) := by
  intro x
  induction x with
  | zero => simp [sm]
  | succ x ih =>
    show sm x (clS n T G i j k) + clS n T G i j k x = -(sm x (fun l => T i j l * G l k) + T i j x * G x k) + (sm x (fun l => T i k l * G l j) + T i k x * G x j) - (sm x (fun l => T j k l * G l i) + T j k x * G x i)
    rw [ih]
    unfold clS
    omega
theorem w_misClosed {f : Int32 → JM Mem τ} {Q : τ → Mem → NM → Prop} (hM : ML M m) (hA : MA M N m W B p n T) (hT : TrM M N m t len V) (hl : (n : Int) * ((n : Int) - 1) / 2 ≤ len) (hV : ∀ i, i < len → (i : Int) < (n : Int) * ((n : Int) - 1) / 2 → 0 ≤ V i ∧ V i < p)
    (h : ∀ v, (v = 1 ∧ ClF p n T (frm n V) ∨ v = 0 ∧ ¬ ClF p n T (frm n V)) → GN M N (f (zI v)) Q) : GN M N (jb (jcall 7 m (f_X8_isClosed m (zI t))) f) Q := by
  have hpb := hA.pb
  have hn5 := hA.n5
  refine w_Mc hM ?_
  unfold f_X8_isClosed
  rw [z_0]
  refine w_up n (fun i N1 => N1 = N ∧ ∀ a b c, a < b → b < c → c < n → a < i → Cg p (sm n (clS n T (frm n V) a b c)) 0) 0 rfl (by omega) ⟨rfl, fun a b c _ _ _ h => absurd h (by omega)⟩ ?_
  rintro i N1 hi ⟨rfl, h1⟩
  unfold X8_isClosed_L2
  refine w_MI hM ?_
  rw [hA.ne]
  refine w_le ⟨by omega, by omega⟩ ⟨by omega, by omega⟩ (fun hd => ?_) (fun hd => ?_)
  · rw [z_1]
    exact w_jinl (w_jp (h 1 (Or.inl ⟨rfl, fun a b c q1 q2 q3 => h1 a b c q1 q2 q3 (by omega)⟩)))
  rw [z_1, zI_add]
  refine w_jlet ?_
  refine w_up n (fun j N2 => N2 = N1 ∧ i < j ∧ ∀ a b c, a < b → b < c → c < n → a < i ∨ a = i ∧ b < j → Cg p (sm n (clS n T (frm n V) a b c)) 0) (i + 1) (by rfl) (by omega) ⟨rfl, by omega, fun a b c q1 q2 q3 q4 => h1 a b c q1 q2 q3 (by omega)⟩ ?_
  rintro j N2 hj ⟨rfl, hij, h2⟩
  unfold X8_isClosed_L14
  refine w_MI hM ?_
  rw [hA.ne]
  refine w_le ⟨by omega, by omega⟩ ⟨by omega, by omega⟩ (fun he => ?_) (fun he => ?_)
  · unfold X8_isClosed_b90
    rw [z_1, zI_add]
    exact w_jinl (w_jcont ⟨by omega, rfl, rfl, fun a b c q1 q2 q3 q4 => h2 a b c q1 q2 q3 (by omega)⟩)
  rw [z_1, zI_add]
  refine w_jlet ?_
  refine w_up n (fun k N3 => N3 = N2 ∧ j < k ∧ ∀ a b c, a < b → b < c → c < n → a < i ∨ a = i ∧ (b < j ∨ b = j ∧ c < k) → Cg p (sm n (clS n T (frm n V) a b c)) 0) (j + 1) (by rfl) (by omega) ⟨rfl, by omega, fun a b c q1 q2 q3 q4 => h2 a b c q1 q2 q3 (by omega)⟩ ?_
  rintro k N3 hk ⟨rfl, hjk, h3⟩
  unfold X8_isClosed_L27
  refine w_MI hM ?_
  rw [hA.ne]
  refine w_le ⟨by omega, by omega⟩ ⟨by omega, by omega⟩ (fun hf => ?_) (fun hf => ?_)
  · unfold X8_isClosed_b84
    rw [z_1, zI_add]
    exact w_jinl (w_jcont ⟨by omega, rfl, rfl, by omega, fun a b c q1 q2 q3 q4 => h3 a b c q1 q2 q3 (by omega)⟩)
  have hkn : k < n := by omega
  refine w_formOfBracket hM hA hT hl hV (by omega) (by omega) hkn (fun b1 => ?_)
  refine w_formOfBracket hM hA hT hl hV (by omega) hkn (by omega) (fun b2 => ?_)
  refine w_formOfBracket hM hA hT hl hV (by omega) hkn (by omega) (fun b3 => ?_)
  refine w_MI hM ?_
  rw [hA.pe, zI_neg, zI_add, zI_sub, ← sm_cl (G := frm n V) (n := n)]
  have hs : -2000 ≤ sm n (clS n T (frm n V) i j k) ∧ sm n (clS n T (frm n V) i j k) ≤ 2000 := by rw [sm_cl]; omega
  refine w_left (by omega) (by omega) ?_
  rw [z_0]
  have q1 := Int.emod_nonneg (sm n (clS n T (frm n V) i j k)) (show p ≠ 0 by omega)
  have q2 := Int.emod_lt_of_pos (sm n (clS n T (frm n V) i j k)) (show 0 < p by omega)
  refine w_eq ⟨by omega, by omega⟩ ⟨by omega, by omega⟩ (fun hq => ?_) (fun hq => ?_)
  · rw [z_1, zI_add]
    refine w_jcont ⟨hkn, rfl, rfl, by omega, fun a b c q1 q2 q3 q4 => ?_⟩
    by_cases e : a = i ∧ b = j ∧ c = k
    · rw [e.1, e.2.1, e.2.2]
      exact Cg.zero_iff.mpr hq
    · exact h3 a b c q1 q2 q3 (by omega)
  · refine w_jinl (w_jinl (w_jinl (w_jp (h 0 (Or.inr ⟨rfl, fun hcl => hq ?_⟩)))))
    exact Cg.zero_iff.mp (hcl i j k hij hjk hkn)
end MOD15
