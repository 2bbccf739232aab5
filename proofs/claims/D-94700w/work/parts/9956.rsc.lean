/-! TEXTS: the component reads a step's rest. -/
set_option maxRecDepth 100000
section RSC
variable {α β τ : Type} {M M' : Mem} {N N' N0 N1 : NM} {c k e b d n i j q : Nat} {z lo hi kd p : Int} {t : Tx} {tk u : Tk} {Q : τ → Mem → NM → Prop} {E : Nat → Mem → NM → Prop} {res : Except Er β} {r : Nat → Int}
/-- a call that leaves the background is the same when the room is kept -/
theorem ge_kp {x : JM Mem α} {f : α → JM Mem τ} {cl a : Nat} (h : GE M N (jb (jcall cl a x) fun v => jp v) (fun v B N' => B = M ∧ GE M N' (f v) Q E) (fun q B N' => B = M ∧ E q M N')) : GE M N (jb (jcall cl a (jkeep x)) f) Q E := by
  have hq : ∀ (y : Except Nat α) (M1 : Mem), jcall cl a x (sN M N) = some (y, M1) → jcall cl a (jkeep x) (sN M N) = some (y, sB M1 (mC M) (mS M)) := fun y M1 e => by
    unfold jcall at e ⊢
    split at e
    · rename_i hk
      rw [if_pos hk]
      unfold jkeep
      rw [e]
      rfl
    · cases e
  rcases h with ⟨v, M1, e, B, N', rfl, rfl, h2⟩ | ⟨w, M1, e, B, N', rfl, rfl, h2⟩
  · rcases jb_cases e with ⟨v1, M2, e1, e2⟩ | ⟨w, _, e2⟩
    · have e3 : some (Except.ok v1, M2) = some (Except.ok v, sN B N') := e2
      cases e3
      refine ge_b (Or.inl ⟨v, _, hq _ _ e1, B, N', rfl, h2⟩)
    · cases e2
  · rcases jb_cases e with ⟨v1, M2, e1, e2⟩ | ⟨w1, e1, e2⟩
    · cases e2
    · cases e2
      refine ge_b (Or.inr ⟨w, _, hq _ _ e1, B, N', rfl, h2⟩)
theorem gk_next {f : Unit → JM Mem τ} (hC : CL M c) (hT : TwoT M) (hx : CRd N c t tk) (h : ∀ N', NxF c N N' → CRd N' c t (nx t tk) → GE M N' (f ()) Q E) : GE M N (jb (jcall 1 (c + 2) (jkeep (f_X1_next (c + 2)))) f) Q E :=
  ge_kp (g_next hC hT hx (fun N' a b => ge_jp ⟨rfl, h N' a b⟩))
theorem gk_key {f : Int32 → JM Mem τ} (hC : CL M c) (hT : TwoT M) (hx : CRd N c t tk) (h : ∀ v : Int, (v = -1 ∧ (∀ n, n < 24 → ¬ kw t tk n) ∨ ∃ n : Nat, n < 24 ∧ v = n ∧ kw t tk n) → GE M N (f (zI v)) Q E) : GE M N (jb (jcall 1 (c + 2) (jkeep (f_X1_key (c + 2)))) f) Q E :=
  ge_kp (ge_p (c_key hC hT hx (fun v hv => w_jp (ge_jp ⟨rfl, h v hv⟩))))
theorem gk_word {f : Unit → JM Mem τ} {g : Tk → Except Er β} (hC : CL M c) (hT : TwoT M) (hx : CRd N c t tk) (hk : k < 24) (hres : pbd (pWord t k tk) g = res) (h1 : ∀ N', NxF c N N' → CRd N' c t (nx t tk) → kw t tk k → g (nx t tk) = res → GE M N' (f ()) Q E) (h2 : ∀ N' er, res = .error er → ThC c er N N' → E (c + 3) M N') :
    GE M N (jb (jcall 1 (c + 2) (jkeep (f_X2_word (c + 2) (zI (k : Nat))))) f) Q E :=
  ge_kp (g_word hC hT hx hk hres (fun N' a b d e => ge_jp ⟨rfl, h1 N' a b d e⟩) (fun N' er e a => ⟨rfl, h2 N' er e a⟩))
theorem gk_passed {f : Int32 → JM Mem τ} {g : Int × Tk → Except Er β} (hC : CL M c) (hT : TwoT M) (hx : CRd N c t tk) (hlo : zR lo) (hhi : zR hi) (hres : pbd (pPas t lo hi tk) g = res) (h1 : ∀ N', NxF c N N' → CRd N' c t (nx t tk) → lo ≤ tk.2.2.2 → tk.2.2.2 ≤ hi → g (tk.2.2.2, nx t tk) = res → GE M N' (f (zI tk.2.2.2)) Q E) (h2 : ∀ N' er, res = .error er → ThC c er N N' → E (c + 3) M N') :
    GE M N (jb (jcall 1 (c + 2) (jkeep (f_X1_passed (c + 2) (zI lo) (zI hi)))) f) Q E :=
  ge_kp (g_passed hC hT hx hlo hhi hres (fun N' a b _ d e g => ge_jp ⟨rfl, h1 N' a b d e g⟩) (fun N' er e a => ⟨rfl, h2 N' er e a⟩))
theorem gk_closes {f : Unit → JM Mem τ} {g : Tk → Except Er β} (hC : CL M c) (hT : TwoT M) (hx : CRd N c t tk) (hres : pbd (pSgn t tk) g = res) (h1 : ∀ N', NxF c N N' → CRd N' c t (nx t tk) → isSg tk 59 → g (nx t tk) = res → GE M N' (f ()) Q E) (h2 : ∀ N' er, res = .error er → ThC c er N N' → E (c + 3) M N') :
    GE M N (jb (jcall 1 (c + 2) (jkeep (f_X1_closes (c + 2)))) f) Q E :=
  ge_kp (g_closes hC hT hx hres (fun N' a b d e => ge_jp ⟨rfl, h1 N' a b d e⟩) (fun N' er e a => ⟨rfl, h2 N' er e a⟩))
theorem gk_fail {f : Nat → JM Mem τ} (hC : CL M c) (hx : CRd N c t tk) (he : ∀ N', ThC c (flt tk kd) N N' → GE M N' (f (c + 3)) Q E) : GE M N (jb (jcall 1 (c + 2) (jkeep (f_X1_fail (c + 2) (zI kd)))) f) Q E :=
  ge_kp (g_fail hC hx (fun N' h => ge_jp ⟨rfl, he N' h⟩))
theorem gk_need1 {f : Unit → JM Mem τ} (hC : CL M c) (h : GE M N (f ()) Q E) : GE M N (jb (jcall 1 (c + 2) (jkeep (f_X1_need (c + 2) (zI 1)))) f) Q E :=
  ge_kp (g_need1 hC (ge_jp ⟨rfl, h⟩))
theorem gk_need0 {f : Unit → JM Mem τ} (hC : CL M c) (hx : CRd N c t tk) (he : ∀ N', ThC c (flt tk 2) N N' → E (c + 3) M N') : GE M N (jb (jcall 1 (c + 2) (jkeep (f_X1_need (c + 2) (zI 0)))) f) Q E :=
  ge_kp (g_need0 hC hx (fun N' h => ⟨rfl, he N' h⟩))
/-- what reading a step writes -/
def FrS (c q : Nat) (N N' : NM) : Prop := (∀ b, b ≠ c + 2 → b ≠ q → N' b = N b) ∧ ∀ k, k < 2 ∨ 5 < k → N' (c + 2) k = N (c + 2) k
theorem FrS.rf : FrS c q N N := ⟨fun _ _ _ => rfl, fun _ _ => rfl⟩
theorem FrS.tr {N2 : NM} (h : FrS c q N N') (h2 : FrS c q N' N2) : FrS c q N N2 := ⟨fun b a1 a2 => (h2.1 b a1 a2).trans (h.1 b a1 a2), fun k hk => (h2.2 k hk).trans (h.2 k hk)⟩
theorem NxF.s (h : NxF c N N') : FrS c q N N' := ⟨fun b a1 _ => h.1 b a1, h.2⟩
theorem FrS.qq {v : Int} (hq : q ≠ c + 2) : FrS c q N (up2 N q k v) := ⟨fun b _ a2 => upb a2, fun k _ => by rw [upb (fun e => hq e.symm)]⟩
theorem CRd.qq {v : Int} (h : CRd N c t tk) (hq : c + 4 < q) : CRd (up2 N q k v) c t tk := h.o (fun b hb => upb (by omega))
def ThS (c q : Nat) (N0 : NM) (M : Mem) (res : Except Er β) (E : Nat → Mem → NM → Prop) : Prop := ∀ N1 N' er, FrS c q N0 N1 → res = .error er → ThC c er N1 N' → E (c + 3) M N'
theorem ThS.th (h : ThS c q N0 M res E) (hF : FrS c q N0 N) : ∀ N' er, res = .error er → ThC c er N N' → E (c + 3) M N' := fun N' er e a => h N N' er hF e a
theorem g_cmp {f : Unit → JM Mem τ} {g : Tk × (Nat → Int) → Except Er β} (hC : CL M c) (hT : TwoT M) (hx : CRd N c t u) (hK : mK M q = some (.inl 8)) (hq : c + 4 < q) (hF : FrS c q N0 N) (hE : ThS c q N0 M res E) (hres : pbd (pCmp t u r) g = res)
    (h1 : ∀ N' x, FrS c q N0 N' → CRd N' c t x.1 → N' q 4 = x.2 4 → N' q 3 = x.2 5 → (∀ k, k ≠ 3 → k ≠ 4 → N' q k = N q k) → (∀ k, k ≠ 4 → k ≠ 5 → x.2 k = r k) → g x = res → GE M N' (f ()) Q E) : GE M N (jb (jcall 1 (c + 2) (f_X2_compares (c + 2) q)) f) Q E := by
  have hr := hC.rd.1
  refine ge_call hr ?_
  unfold f_X2_compares X2_compares_b28
  rw [z_60, z_62, z_61, z_0, z_1]
  unfold pCmp at hres
  have good : CmpSg u → GE M N (X2_compares_b33 (c + 2) q (c + 2) (zI 1)) (fun v M1 N1 => GE M1 N1 (f v) Q E) E := fun hs => by
    rw [if_pos hs] at hres
    unfold X2_compares_b33
    rw [z_5, z_0]
    refine g_need1 hC (ge_p (w_getI hr (w_jp ?_)))
    rw [hx.2.2.2.2.2 (Or.inr hs.1)]
    refine ge_p (w_putI hK (w_jp ?_))
    have hF1 : FrS c q N0 (up2 N q 4 u.2.2.2) := hF.tr (FrS.qq (by omega))
    have hx1 : CRd (up2 N q 4 u.2.2.2) c t u := hx.qq hq
    refine g_next hC hT hx1 (fun N2 n2 hx2 => ?_)
    have hres2 : pbd (pPas t 0 5 (nx t u)) (fun x => g (x.2, upR (upR r 4 u.2.2.2) 5 x.1)) = res := by
      rw [← hres]
      cases pPas t 0 5 (nx t u) <;> rfl
    refine g_passed hC hT hx2 ⟨by omega, by omega⟩ ⟨by omega, by omega⟩ hres2 (fun N3 n3 hx3 _ l1 l2 hres3 => ?_) (hE.th (hF1.tr n2.s))
    refine ge_p (w_putI hK (w_jp (ge_jp (h1 _ _ ((hF1.tr (n2.s.tr n3.s)).tr (FrS.qq (by omega))) (hx3.qq hq) ?_ ?_ (fun k k3 k4 => ?_) (fun k k4 k5 => ?_) hres3))))
    · show up2 N3 q 3 (nx t u).2.2.2 q 4 = upR (upR r 4 u.2.2.2) 5 (nx t u).2.2.2 4
      rw [upk (by omega), n3.1 q (by omega), n2.1 q (by omega), upv, upR_n (by omega), upR_v]
    · show up2 N3 q 3 (nx t u).2.2.2 q 3 = upR (upR r 4 u.2.2.2) 5 (nx t u).2.2.2 5
      rw [upv, upR_v]
    · rw [upk k3, n3.1 q (by omega), n2.1 q (by omega), upk k4]
    · show upR (upR r 4 u.2.2.2) 5 (nx t u).2.2.2 k = r k
      rw [upR_n k5, upR_n k4]
  have bad : ¬ CmpSg u → GE M N (X2_compares_b33 (c + 2) q (c + 2) (zI 0)) (fun v M1 N1 => GE M1 N1 (f v) Q E) E := fun hs => by
    rw [if_neg hs, pbd_er] at hres
    unfold X2_compares_b33
    exact g_need0 hC hx (fun N' h => hE.th hF N' _ hres.symm h)
  refine ge_p (c_isS hC hx ⟨by omega, by omega⟩ (w_jp ?_))
  by_cases c60 : isSg u 60
  · rw [if_pos c60]
    exact ge_eq ⟨by omega, by omega⟩ ⟨by omega, by omega⟩ (fun x => absurd x (by decide)) (fun _ => good ⟨c60.1, Or.inl c60.2⟩)
  rw [if_neg c60]
  refine ge_eq ⟨by omega, by omega⟩ ⟨by omega, by omega⟩ (fun _ => ?_) (fun x => absurd rfl x)
  refine ge_p (c_isS hC hx ⟨by omega, by omega⟩ (w_jp ?_))
  by_cases c62 : isSg u 62
  · rw [if_pos c62]
    exact ge_eq ⟨by omega, by omega⟩ ⟨by omega, by omega⟩ (fun x => absurd x (by decide)) (fun _ => good ⟨c62.1, Or.inr (Or.inl c62.2)⟩)
  rw [if_neg c62]
  refine ge_eq ⟨by omega, by omega⟩ ⟨by omega, by omega⟩ (fun _ => ?_) (fun x => absurd rfl x)
  refine ge_p (c_isS hC hx ⟨by omega, by omega⟩ (w_jp ?_))
  by_cases c61 : isSg u 61
  · rw [if_pos c61]
    exact ge_eq ⟨by omega, by omega⟩ ⟨by omega, by omega⟩ (fun x => absurd x (by decide)) (fun _ => good ⟨c61.1, Or.inr (Or.inr c61.2)⟩)
  rw [if_neg c61]
  refine ge_eq ⟨by omega, by omega⟩ ⟨by omega, by omega⟩ (fun _ => bad (fun x => ?_)) (fun x => absurd rfl x)
  rcases x.2 with y | y | y
  · exact c60 ⟨x.1, y⟩
  · exact c62 ⟨x.1, y⟩
  · exact c61 ⟨x.1, y⟩
/-- a test as the component has it -/
def TstF (f a : Nat → Int) : Prop := f 5 = (if a 1 = 5 then 1 else if a 1 = 6 then 23 else a 1 + 18) ∧ (a 1 = 4 → f 1 = a 2) ∧ (a 1 = 6 → f 1 = a 2) ∧ (a 1 = 4 ∨ a 1 = 5 → f 4 = a 4 ∧ f 3 = a 5)
theorem g_test {f : Unit → JM Mem τ} {g : Tk × (Nat → Int) → Except Er β} (hC : CL M c) (hT : TwoT M) (hx : CRd N c t u) (hK : mK M q = some (.inl 8)) (hq : c + 4 < q) (hF : FrS c q N0 N) (hE : ThS c q N0 M res E) (hres : pbd (pTest t u r) g = res)
    (h1 : ∀ N' x, FrS c q N0 N' → CRd N' c t x.1 → TstF (N' q) x.2 → (∀ k, k = 0 ∨ 5 < k → N' q k = N q k) → g x = res → GE M N' (f ()) Q E) : GE M N (jb (jcall 1 (c + 2) (f_X2_test (c + 2) q)) f) Q E := by
  have hr := hC.rd.1
  refine ge_call hr ?_
  unfold f_X2_test
  refine ge_p (c_key hC hT hx (fun v hv => w_jp ?_))
  refine ge_p (w_putI hK (w_jp ?_))
  have hF1 : FrS c q N0 (up2 N q 5 v) := hF.tr (FrS.qq (by omega))
  have hx1 : CRd (up2 N q 5 v) c t u := hx.qq hq
  have e5 : up2 N q 5 v q 5 = v := upv
  have e6 : ∀ k, k ≠ 5 → up2 N q 5 v q k = N q k := fun k hk => upk hk
  generalize up2 N q 5 v = N1 at *
  have hvb : -1 ≤ v ∧ v ≤ 23 := by
    rcases hv with ⟨rfl, _⟩ | ⟨n, h2, rfl, _⟩ <;> omega
  unfold X2_test_b27 X2_test_b35
  rw [show (18 : Int32) = zI 18 from rfl, show (23 : Int32) = zI 23 from rfl, z_1, z_0]
  unfold pTest at hres
  -- the test's own word
  have good : ∀ j, j < 7 → v = (kwtestWord j : Nat) → kw t u (kwtestWord j) → GE M N1 (X2_test_b40 (c + 2) q (c + 2) (zI 1)) (fun v M1 N1 => GE M1 N1 (f v) Q E) E := fun j hj ev hk => by
    rw [testNo_s hj hk] at hres
    have hres : pbd (pTest2 t j (nx t u) (upR r 1 j)) g = res := hres
    have ev2 : v = if j = 5 then (1 : Int) else if j = 6 then 23 else (j : Int) + 18 := by
      rw [ev]
      unfold kwtestWord
      split
      · rfl
      · split
        · rfl
        · omega
    unfold X2_test_b40
    refine g_need1 hC (g_next hC hT hx1 (fun N2 n2 hx2 => ?_))
    have hF2 : FrS c q N0 N2 := hF1.tr n2.s
    have q5 : N2 q 5 = v := by rw [n2.1 q (by omega)]; exact e5
    have q6 : ∀ k, k ≠ 5 → N2 q k = N q k := fun k hk => by rw [n2.1 q (by omega)]; exact e6 k hk
    generalize nx t u = w at *
    refine ge_p (w_getI hK (w_jp ?_))
    rw [q5, show (22 : Int32) = zI 22 from rfl, show (5 : Int32) = zI 5 from rfl, z_0]
    unfold pTest2 at hres
    have hend : ∀ (N3 : NM) (x : Tk × (Nat → Int)), FrS c q N0 N3 → CRd N3 c t x.1 → x.2 1 = j → (j ≠ 6) → N3 q 5 = v → TstF (N3 q) x.2 → (∀ k, k = 0 ∨ 5 < k → N3 q k = N q k) → g x = res → GE M N3 (X2_test_b88 (c + 2) q) (fun v M1 N1 => GE M1 N1 (f v) Q E) E := fun N3 x a1 a2 a3 a4 a5 a6 a7 a8 => by
      unfold X2_test_b88
      refine ge_p (w_getI hK (w_jp ?_))
      rw [a5, show (23 : Int32) = zI 23 from rfl]
      exact ge_eq ⟨by omega, by omega⟩ ⟨by omega, by omega⟩ (fun y => absurd y (by rw [if_neg a4] at ev2; split at ev2 <;> omega)) (fun _ => ge_jp (h1 N3 x a1 a2 a6 a7 a8))
    have hcmp : ∀ (N3 : NM) (w3 : Tk) (r3 : Nat → Int), FrS c q N0 N3 → CRd N3 c t w3 → (j = 4 ∨ j = 5) → r3 1 = j → (j = 4 → N3 q 1 = r3 2) → N3 q 5 = v → (∀ k, k = 0 ∨ 5 < k → N3 q k = N q k) → pbd (pCmp t w3 r3) g = res → GE M N3 (X2_test_b83 (c + 2) q) (fun v M1 N1 => GE M1 N1 (f v) Q E) E := fun N3 w3 r3 a1 a2 a3 a4 a5 a6 a7 a8 => by
      unfold X2_test_b83
      refine g_cmp hC hT a2 hK hq a1 hE a8 (fun N4 x b1 b2 b3 b4 b5 b6 b7 => ?_)
      have x1 : x.2 1 = j := by rw [b6 1 (by omega) (by omega)]; exact a4
      refine hend N4 x b1 b2 x1 (by omega) (by rw [b5 5 (by omega) (by omega)]; exact a6) ⟨?_, fun y => ?_, fun y => ?_, fun _ => ⟨b3, b4⟩⟩ (fun k hk => by rw [b5 k (by omega) (by omega)]; exact a7 k hk) b7
      · rw [b5 5 (by omega) (by omega), a6, ev2, x1]
        split
        · rw [if_pos (by omega)]
        · rw [if_neg (by omega), if_neg (by omega), if_neg (by omega)]
      · rw [b5 1 (by omega) (by omega), b6 2 (by omega) (by omega)]
        exact a5 (by omega)
      · omega
    by_cases c4 : j = 4
    · rw [if_pos c4] at hres
      rw [if_neg (by omega), if_neg (by omega)] at ev2
      refine ge_eq ⟨by omega, by omega⟩ ⟨by omega, by omega⟩ (fun _ => ?_) (fun y => absurd (by omega) y)
      have hres2 : pbd (pPas t 0 5 w) (fun x => pbd (pCmp t x.2 (upR (upR r 1 j) 2 x.1)) g) = res := by
        rw [← hres]
        cases pPas t 0 5 w <;> rfl
      refine g_passed hC hT hx2 ⟨by omega, by omega⟩ ⟨by omega, by omega⟩ hres2 (fun N3 n3 hx3 _ l1 l2 hres3 => ?_) (hE.th hF2)
      refine ge_p (w_putI hK (w_jp ?_))
      unfold X2_test_b66
      refine ge_p (w_getI hK (w_jp ?_))
      have g5 : up2 N3 q 1 w.2.2.2 q 5 = v := by rw [upk (by omega), n3.1 q (by omega)]; exact q5
      rw [g5, show (22 : Int32) = zI 22 from rfl]
      refine ge_eq ⟨by omega, by omega⟩ ⟨by omega, by omega⟩ (fun _ => ?_) (fun y => absurd (by omega) y)
      exact hcmp _ (nx t w) (upR (upR r 1 j) 2 w.2.2.2) ((hF2.tr n3.s).tr (FrS.qq (by omega))) (hx3.qq hq) (Or.inl c4) (by rw [upR_n (by omega), upR_v]) (fun _ => by rw [upv, upR_v]) g5 (fun k hk => by rw [upk (by omega), n3.1 q (by omega)]; exact q6 k (by omega)) hres3
    rw [if_neg c4] at hres
    refine ge_eq ⟨by omega, by omega⟩ ⟨by omega, by omega⟩ (fun y => absurd y (by split at ev2; omega; split at ev2 <;> omega)) (fun _ => ?_)
    unfold X2_test_b66
    refine ge_p (w_getI hK (w_jp ?_))
    rw [q5, show (22 : Int32) = zI 22 from rfl, z_1]
    refine ge_eq ⟨by omega, by omega⟩ ⟨by omega, by omega⟩ (fun y => absurd y (by split at ev2; omega; split at ev2 <;> omega)) (fun _ => ?_)
    refine ge_p (w_getI hK (w_jp ?_))
    rw [q5]
    by_cases c5 : j = 5
    · rw [if_pos c5] at hres ev2
      refine ge_eq ⟨by omega, by omega⟩ ⟨by omega, by omega⟩ (fun _ => ?_) (fun y => absurd (by omega) y)
      exact hcmp N2 w (upR r 1 j) hF2 hx2 (Or.inr c5) upR_v (fun y => absurd y c4) q5 (fun k hk => q6 k (by omega)) hres
    rw [if_neg c5] at hres ev2
    refine ge_eq ⟨by omega, by omega⟩ ⟨by omega, by omega⟩ (fun y => absurd y (by split at ev2 <;> omega)) (fun _ => ?_)
    by_cases c6 : j = 6
    · rw [if_pos c6] at hres ev2
      have hres2 : pbd (pPas t 0 3 w) (fun x => g (x.2, upR (upR r 1 j) 2 x.1)) = res := by
        rw [← hres]
        cases pPas t 0 3 w <;> rfl
      unfold X2_test_b88
      refine ge_p (w_getI hK (w_jp ?_))
      rw [q5, show (23 : Int32) = zI 23 from rfl, z_0, show (3 : Int32) = zI 3 from rfl]
      refine ge_eq ⟨by omega, by omega⟩ ⟨by omega, by omega⟩ (fun _ => ?_) (fun y => absurd (by omega) y)
      refine g_passed hC hT hx2 ⟨by omega, by omega⟩ ⟨by omega, by omega⟩ hres2 (fun N3 n3 hx3 _ l1 l2 hres3 => ?_) (hE.th hF2)
      refine ge_p (w_putI hK (w_jp (ge_jp (h1 _ _ ((hF2.tr n3.s).tr (FrS.qq (by omega))) (hx3.qq hq) ⟨?_, fun y => ?_, fun y => ?_, fun y => ?_⟩ (fun k hk => ?_) hres3))))
      · show up2 N3 q 1 w.2.2.2 q 5 = _
        rw [upk (by omega), n3.1 q (by omega), q5, ev2]
        show (23 : Int) = if upR (upR r 1 j) 2 w.2.2.2 1 = 5 then 1 else if upR (upR r 1 j) 2 w.2.2.2 1 = 6 then 23 else upR (upR r 1 j) 2 w.2.2.2 1 + 18
        rw [upR_n (by omega), upR_v, if_neg (by omega), if_pos (by omega)]
      · have y : upR (upR r 1 j) 2 w.2.2.2 1 = 4 := y
        rw [upR_n (by omega), upR_v] at y
        omega
      · show up2 N3 q 1 w.2.2.2 q 1 = upR (upR r 1 j) 2 w.2.2.2 2
        rw [upv, upR_v]
      · have y : upR (upR r 1 j) 2 w.2.2.2 1 = 4 ∨ upR (upR r 1 j) 2 w.2.2.2 1 = 5 := y
        rw [upR_n (by omega), upR_v] at y
        omega
      · rw [upk (by omega), n3.1 q (by omega)]
        exact q6 k (by omega)
    rw [if_neg c6] at hres ev2
    have hres : g (w, upR r 1 j) = res := hres
    refine hend N2 (w, upR r 1 j) hF2 hx2 (upR_v (r := r) (k := 1) (v := (j : Int))) c6 q5 ⟨?_, fun y => ?_, fun y => ?_, fun y => ?_⟩ (fun k hk => q6 k (by omega)) hres
    · show N2 q 5 = if upR r 1 j 1 = 5 then 1 else if upR r 1 j 1 = 6 then 23 else upR r 1 j 1 + 18
      rw [q5, ev2, upR_v, if_neg (by omega), if_neg (by omega)]
    · have y : upR r 1 j 1 = 4 := y
      rw [upR_v] at y; omega
    · have y : upR r 1 j 1 = 6 := y
      rw [upR_v] at y; omega
    · have y : upR r 1 j 1 = 4 ∨ upR r 1 j 1 = 5 := y
      rw [upR_v] at y; omega
  have bad : (∀ j, j < 7 → ¬ kw t u (kwtestWord j)) → GE M N1 (X2_test_b40 (c + 2) q (c + 2) (zI 0)) (fun v M1 N1 => GE M1 N1 (f v) Q E) E := fun hn => by
    rw [testNo_n hn] at hres
    have hres : Except.error (flt u 2) = res := hres
    unfold X2_test_b40
    exact g_need0 hC hx1 (fun N' h => hE.th hF1 N' _ hres.symm h)
  have out : v = 1 ∨ 18 ≤ v → ∃ j, j < 7 ∧ v = (kwtestWord j : Nat) ∧ kw t u (kwtestWord j) := fun h => by
    rcases hv with ⟨rfl, _⟩ | ⟨n, h2, rfl, hk⟩
    · omega
    · by_cases e1 : n = 1
      · exact ⟨5, by omega, by rw [e1]; rfl, by rw [e1] at hk; exact hk⟩
      · by_cases e2 : n = 23
        · exact ⟨6, by omega, by rw [e2]; rfl, by rw [e2] at hk; exact hk⟩
        · have e3 : kwtestWord (n - 18) = n := by unfold kwtestWord; rw [if_neg (by omega), if_neg (by omega)]; omega
          exact ⟨n - 18, by omega, by rw [e3], by rw [e3]; exact hk⟩
  have nout : ¬ (v = 1 ∨ 18 ≤ v) → ∀ j, j < 7 → ¬ kw t u (kwtestWord j) := fun h j hj hk => by
    rcases hv with ⟨rfl, hn⟩ | ⟨n, h2, rfl, hk2⟩
    · exact hn _ (kwt_lt hj) hk
    · have e := kw_uni h2 (kwt_lt hj) hk2 hk
      unfold kwtestWord at e
      split at e
      · omega
      · split at e <;> omega
  refine ge_p (w_getI hK (w_jp ?_))
  rw [e5]
  refine ge_lt ⟨by omega, by omega⟩ ⟨by omega, by omega⟩ (fun y => ?_) (fun y => ?_)
  · refine ge_p (w_getI hK (w_jp ?_))
    rw [e5]
    refine ge_eq ⟨by omega, by omega⟩ ⟨by omega, by omega⟩ (fun y2 => ?_) (fun y2 => bad (nout (by omega)))
    obtain ⟨j, h2, h3, h4⟩ := out (Or.inl y2)
    exact good j h2 h3 h4
  · refine ge_p (w_getI hK (w_jp ?_))
    rw [e5]
    refine ge_le ⟨by omega, by omega⟩ ⟨by omega, by omega⟩ (fun y2 => ?_) (fun y2 => absurd y2 (by omega))
    obtain ⟨j, h2, h3, h4⟩ := out (Or.inr y)
    exact good j h2 h3 h4
end RSC
