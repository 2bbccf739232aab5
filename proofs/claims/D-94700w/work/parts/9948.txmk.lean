/-! TEXTS: the model's checks; worlds in cells while they are read. Printed by mkh45.py. -/
set_option maxRecDepth 100000
section TXMK
variable {α τ : Type} {M M' M0 : Mem} {N N' N0 : NM} {m a k e e0 b d i j n : Nat} {z lo hi kd p : Int} {t : Tx} {tk tk' : Tk} {Q : τ → Mem → NM → Prop} {st : Except Er Tk} {S : Tbl} {D : Nat → Nat → Bool}
theorem mso_inj {x y : Nat} (hx : x ≤ 4) (hy : y ≤ 4) (h : mso x = mso y) : x = y := by
  unfold mso at h
  repeat' split at h
  all_goals omega
theorem MRd.eqv (h : MRd M N m t tk) (h' : MRd M N m t tk') : tk.2.2.1 = tk'.2.2.1 ∧ tk.1 = tk'.1 ∧ tk.2.1 = tk'.2.1 ∧ (tk.2.2.1 = 3 ∨ tk.2.2.1 = 4 → tk.2.2.2 = tk'.2.2.2) := by
  obtain ⟨_, ⟨_, _, b2, _⟩, c2, d2, e2, f2, _⟩ := h
  obtain ⟨_, ⟨_, _, b3, _⟩, c3, d3, e3, f3, _⟩ := h'
  have hs := mso_inj b2 b3 (c2.symm.trans c3)
  exact ⟨hs, by omega, by omega, fun x => (f2 x).symm.trans (f3 (by rw [← hs]; exact x))⟩
theorem MRd.kwq (h : MRd M N m t tk) (h' : MRd M N m t tk') (x : kw t tk k) : kw t tk' k := by
  obtain ⟨e1, e2, e3, _⟩ := h.eqv h'
  exact ⟨by rw [← e1]; exact x.1, by rw [← e2, ← e3]; exact x.2.1, by rw [← e2]; exact x.2.2⟩
theorem MRd.sg (h : MRd M N m t tk) (h' : MRd M N m t tk') {x : Int} (y : isSg tk x) : isSg tk' x := by
  obtain ⟨e1, e2, e3, e4⟩ := h.eqv h'
  exact ⟨e1.symm.trans y.1, (e4 (Or.inr y.1)).symm.trans y.2⟩
theorem m_mustW {f : Unit → JM Mem τ} {v : Int} (hM : ML M m) (hp : PSM M N m t st) (hx : MRd M N m t tk) (hv : v = 1 ∧ kw t tk k ∨ v = 0 ∧ ¬ kw t tk k) (h : ∀ M' N', NyM m M N M' N' → PSM M' N' m t (pbd st (pWord t k)) → GN M' N' (f ()) Q) : GN M N (jb (jcall 7 m (f_X8_must m (zI v))) f) Q :=
  m_must (good := fun u => kw t u k) hM hp (fun tk' hx' => hv.imp (fun q => ⟨q.1, hx.kwq hx' q.2⟩) (fun q => ⟨q.1, fun y => q.2 (hx'.kwq hx y)⟩)) h
theorem pMust_sg : pMust t (fun u => isSg u 59) = pSgn t := by
  funext u
  unfold pMust pSgn
  by_cases q : isSg u 59
  · rw [if_pos q, if_pos q]
  · rw [if_neg q, if_neg q]
theorem m_mustSg {f : Unit → JM Mem τ} (hM : ML M m) (hp : PSM M N m t st) (h : ∀ M' N', NyM m M N M' N' → PSM M' N' m t (pbd st (pSgn t)) → GN M' N' (f ()) Q) : GN M N (jb (jcall 7 m (f_X8_isSign m (zI 59))) fun v => jb (jcall 7 m (f_X8_must m v)) f) Q := by
  obtain ⟨tk, hx, hs⟩ := id hp
  refine m_isSign hM hx ⟨by omega, by omega⟩ (fun v hv => ?_)
  refine m_must (good := fun u => isSg u 59) hM hp (fun tk' hx' => hv.imp (fun q => ⟨q.1, hx.sg hx' q.2⟩) (fun q => ⟨q.1, fun y => q.2 (hx'.sg hx y)⟩)) (fun M' N' a b => h M' N' a ?_)
  rw [pMust_sg] at b
  exact b
theorem m_must_isPrime {f : Unit → JM Mem τ} (hM : ML M m) (hp : PSM M N m t st) (h : ∀ M' N', NyM m M N M' N' → PSM M' N' m t (pbd st (pWord t 0)) → GN M' N' (f ()) Q) : GN M N (jb (jcall 7 m (f_X8_isPrime m)) fun v => jb (jcall 7 m (f_X8_must m v)) f) Q := by
  obtain ⟨tk, hx, hs⟩ := id hp
  exact m_isPrime hM hx (fun v hv => m_mustW hM hp hx hv h)
theorem m_must_isSizeWord {f : Unit → JM Mem τ} (hM : ML M m) (hp : PSM M N m t st) (h : ∀ M' N', NyM m M N M' N' → PSM M' N' m t (pbd st (pWord t 1)) → GN M' N' (f ()) Q) : GN M N (jb (jcall 7 m (f_X8_isSizeWord m)) fun v => jb (jcall 7 m (f_X8_must m v)) f) Q := by
  obtain ⟨tk, hx, hs⟩ := id hp
  exact m_isSizeWord hM hx (fun v hv => m_mustW hM hp hx hv h)
theorem m_must_isGives {f : Unit → JM Mem τ} (hM : ML M m) (hp : PSM M N m t st) (h : ∀ M' N', NyM m M N M' N' → PSM M' N' m t (pbd st (pWord t 3)) → GN M' N' (f ()) Q) : GN M N (jb (jcall 7 m (f_X8_isGives m)) fun v => jb (jcall 7 m (f_X8_must m v)) f) Q := by
  obtain ⟨tk, hx, hs⟩ := id hp
  exact m_isGives hM hx (fun v hv => m_mustW hM hp hx hv h)
theorem m_must_isOf {f : Unit → JM Mem τ} (hM : ML M m) (hp : PSM M N m t st) (h : ∀ M' N', NyM m M N M' N' → PSM M' N' m t (pbd st (pWord t 5)) → GN M' N' (f ()) Q) : GN M N (jb (jcall 7 m (f_X8_isOf m)) fun v => jb (jcall 7 m (f_X8_must m v)) f) Q := by
  obtain ⟨tk, hx, hs⟩ := id hp
  exact m_isOf hM hx (fun v hv => m_mustW hM hp hx hv h)
theorem m_must_isEnd {f : Unit → JM Mem τ} (hM : ML M m) (hp : PSM M N m t st) (h : ∀ M' N', NyM m M N M' N' → PSM M' N' m t (pbd st (pWord t 15)) → GN M' N' (f ()) Q) : GN M N (jb (jcall 7 m (f_X8_isEnd m)) fun v => jb (jcall 7 m (f_X8_must m v)) f) Q := by
  obtain ⟨tk, hx, hs⟩ := id hp
  exact m_isEnd hM hx (fun v hv => m_mustW hM hp hx hv h)
theorem m_must_isBy {f : Unit → JM Mem τ} (hM : ML M m) (hp : PSM M N m t st) (h : ∀ M' N', NyM m M N M' N' → PSM M' N' m t (pbd st (pWord t 16)) → GN M' N' (f ()) Q) : GN M N (jb (jcall 7 m (f_X8_isBy m)) fun v => jb (jcall 7 m (f_X8_must m v)) f) Q := by
  obtain ⟨tk, hx, hs⟩ := id hp
  exact m_isBy hM hx (fun v hv => m_mustW hM hp hx hv h)
theorem m_must_isTo {f : Unit → JM Mem τ} (hM : ML M m) (hp : PSM M N m t st) (h : ∀ M' N', NyM m M N M' N' → PSM M' N' m t (pbd st (pWord t 17)) → GN M' N' (f ()) Q) : GN M N (jb (jcall 7 m (f_X8_isTo m)) fun v => jb (jcall 7 m (f_X8_must m v)) f) Q := by
  obtain ⟨tk, hx, hs⟩ := id hp
  exact m_isTo hM hx (fun v hv => m_mustW hM hp hx hv h)
/-- a world in cells while it is read: which couples were told stands on the diagonal -/
def WCd (N : NM) (a : Nat) (p : Int) (n : Nat) (T : Tbl) (D : Nat → Nat → Bool) : Prop := N a 0 = p ∧ N a 1 = n ∧ (∀ i j k, i < 5 → j < 5 → k < 5 → i ≠ j → N a (2 + 25 * i + 5 * j + k) = T i j k) ∧ ∀ i j, i < 5 → j < 5 → N a (2 + 25 * j + 5 * j + i) = if D i j then 1 else 0
theorem WCd.fr (h : WCd N a p n S D) (e : N' a = N a) : WCd N' a p n S D := by
  unfold WCd at h ⊢
  rw [e]
  exact h
theorem w_msetD {f : Unit → JM Mem τ} {L : Nat} {v : Int} (hK : mK M a = some (.inr (0, L))) (hL : 127 ≤ L ∧ L ≤ 4000) (hW : WCd N a p n (altT p n S) D) (hp : Pr p) (hn : n ≤ 5) (hij : i < j) (hj : j < n) (hk : k < n) (hv : -1000000 ≤ v ∧ v ≤ 1000000)
    (h : ∀ N', WCd N' a p n (altT p n (stT S i j k v)) D → (∀ b, b ≠ a → N' b = N b) → GN M N' (f ()) Q) : GN M N (jb (f_X8_set a (zI 0) (zI i) (zI j) (zI k) (zI v)) f) Q := by
  obtain ⟨c1, c2, c3, c4⟩ := hW
  have hp7 := hp.le7
  have hp1 := hp.pos
  refine w_jb ?_
  unfold f_X8_set
  refine w_ald hK (by omega) (by omega) ?_
  rw [show ((0 : Int).toNat) = 0 from rfl, c1]
  unfold f_X8_cell
  rw [z_2, z_25, z_5]
  rw [zI_mul, zI_mul, zI_add, zI_add, zI_add, zI_mul, zI_mul, zI_add, zI_add, zI_add]
  refine w_jb (w_jp ?_)
  refine w_left (by omega) (by omega) ?_
  rw [zI_add]
  refine w_ast hK (by omega) (by omega) ?_
  refine w_jb (w_jp ?_)
  rw [zI_neg]
  refine w_left (by omega) (by omega) ?_
  rw [zI_add]
  refine w_ast hK (by omega) (by omega) ?_
  rw [show ((0 + (2 + 25 * (i : Int) + 5 * (j : Int) + (k : Int))).toNat) = 2 + 25 * i + 5 * j + k by omega, show ((0 + (2 + 25 * (j : Int) + 5 * (i : Int) + (k : Int))).toNat) = 2 + 25 * j + 5 * i + k by omega]
  refine w_jp (h _ ⟨?_, ?_, fun x y z hx hy hz hxy => ?_, fun x y hx hy => ?_⟩ (fun b hb => ?_))
  · show (if a = a ∧ 0 = 2 + 25 * j + 5 * i + k then _ else if a = a ∧ 0 = 2 + 25 * i + 5 * j + k then _ else N a 0) = _
    rw [if_neg (by omega), if_neg (by omega), c1]
  · show (if a = a ∧ 1 = 2 + 25 * j + 5 * i + k then _ else if a = a ∧ 1 = 2 + 25 * i + 5 * j + k then _ else N a 1) = _
    rw [if_neg (by omega), if_neg (by omega), c2]
  · show (if a = a ∧ 2 + 25 * x + 5 * y + z = 2 + 25 * j + 5 * i + k then (-v) % p else if a = a ∧ 2 + 25 * x + 5 * y + z = 2 + 25 * i + 5 * j + k then v % p else N a (2 + 25 * x + 5 * y + z)) = _
    rw [altT_st hij hj hk, c3 x y z hx hy hz hxy]
    by_cases d1 : x = j ∧ y = i ∧ z = k
    · rw [if_pos d1, if_pos ⟨rfl, by rw [d1.1, d1.2.1, d1.2.2]⟩]
    · rw [if_neg d1, if_neg (show ¬ (a = a ∧ 2 + 25 * x + 5 * y + z = 2 + 25 * j + 5 * i + k) by omega)]
      by_cases d2 : x = i ∧ y = j ∧ z = k
      · rw [if_pos d2, if_pos ⟨rfl, by rw [d2.1, d2.2.1, d2.2.2]⟩]
      · rw [if_neg d2, if_neg (show ¬ (a = a ∧ 2 + 25 * x + 5 * y + z = 2 + 25 * i + 5 * j + k) by omega)]
  · show (if a = a ∧ 2 + 25 * y + 5 * y + x = 2 + 25 * j + 5 * i + k then (-v) % p else if a = a ∧ 2 + 25 * y + 5 * y + x = 2 + 25 * i + 5 * j + k then v % p else N a (2 + 25 * y + 5 * y + x)) = _
    rw [if_neg (by omega), if_neg (by omega)]
    exact c4 x y hx hy
  · funext l
    show (if b = a ∧ _ then _ else if b = a ∧ _ then _ else N b l) = _
    rw [if_neg (fun e => hb e.1), if_neg (fun e => hb e.1)]
/-- what reading a world writes, the model -/
def NzM (m : Nat) (M : Mem) (N : NM) (M' : Mem) (N' : NM) : Prop := (∀ b, b ≠ m → b ≠ m + 6 → N' b = N b) ∧ (∀ k, k < 12 ∨ 18 < k → N' m k = N m k) ∧ ∃ L', M' = sL M L' ∧ ∀ b k, b ≠ m ∨ k ≠ 18 → L' b k = mL M b k
theorem NyM.nz (h : NyM m M N M' N') : NzM m M N M' N' := ⟨fun b h1 _ => h.1 b h1, h.2⟩
theorem NzM.rf : NzM m M N M N := NyM.rf.nz
theorem NzM.tr {M2 : Mem} {N2 : NM} (h : NzM m M N M' N') (h2 : NzM m M' N' M2 N2) : NzM m M N M2 N2 := by
  obtain ⟨a1, a2, L1, rfl, a3⟩ := h
  obtain ⟨b1, b2, L2, rfl, b3⟩ := h2
  exact ⟨fun b hb hc => (b1 b hb hc).trans (a1 b hb hc), fun k hk => (b2 k hk).trans (a2 k hk), L2, rfl, fun b k hk => (b3 b k hk).trans (a3 b k hk)⟩
theorem NzM.of (h : ∀ b, b ≠ m + 6 → N' b = N b) : NzM m M N M N' := ⟨fun b _ h2 => h b h2, fun k _ => by rw [h m (by omega)], mL M, rfl, fun _ _ _ => rfl⟩
theorem NzM.ml (h : NzM m M N M' N') (hM : ML M m) : ML M' m := by
  obtain ⟨_, _, L1, rfl, _⟩ := h
  exact hM.ag (fun _ _ _ => ⟨rfl, rfl⟩)
theorem PSM.o (h : PSM M N m t st) (e : ∀ b, b ≠ m + 6 → N' b = N b) : PSM M N' m t st := h.fr (fun k _ _ => by rw [e m (by omega)]) (e _ (by omega)) rfl
end TXMK
