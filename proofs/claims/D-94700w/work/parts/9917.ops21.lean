/-! OPS, part 21: fractions; share. -/
set_option maxRecDepth 100000
section OPS21
variable {α τ ρ : Type} {M M' M1 M2 : Mem} {N N' N1 : NM} {c m i j k q w W B : Nat} {u v s t z a b d : Int} {S S' : St} {p p2 : Int} {n n2 many : Nat} {T F G T2 : Nat → Nat → Nat → Int} {y : Wd}
theorem zRL_max {a : Int} (h : zRL a) : a ≤ Int64.maxValue.toInt := by rw [show Int64.maxValue.toInt = 9223372036854775807 by decide]; have := h.2; omega
theorem zRL_min {a : Int} (h : zRL a) : Int64.minValue.toInt ≤ a := by rw [show Int64.minValue.toInt = -9223372036854775808 by decide]; exact h.1
theorem zL_div {a b : Int} (ha : zRL a) (hb : zRL b) : zL a / zL b = zL (a.tdiv b) := by
  unfold zL
  exact (Int64.ofInt_tdiv (zRL_min ha) (zRL_max ha) (zRL_min hb) (zRL_max hb)).symm
theorem zL_mul (a b : Int) : zL a * zL b = zL (a * b) := (Int64.ofInt_mul a b).symm
theorem w_ldivP {f : Int64 → JM Mem τ} {Q : τ → Mem → NM → Prop} (ha : 0 ≤ a ∧ zRL a) (hb : 0 < b ∧ zRL b) (h : GN M N (f (zL (a / b))) Q) : GN M N (jb (jldiv (zL a) (zL b)) f) Q := by
  refine go_jb ⟨zL (a / b), sN M N, ?_, h⟩
  unfold jldiv
  rw [if_neg (fun e => by have := (zL_inj hb.2 ⟨by omega, by omega⟩).mp (e.trans (show (0 : Int64) = zL 0 from rfl)); omega), zL_div ha.2 hb.2, Int.tdiv_eq_ediv_of_nonneg ha.1]
theorem w_lremP {f : Int64 → JM Mem τ} {Q : τ → Mem → NM → Prop} (ha : 0 ≤ a ∧ zRL a) (hb : 0 < b ∧ zRL b) (h : GN M N (f (zL (a % b))) Q) : GN M N (jb (jlrem (zL a) (zL b)) f) Q := by
  refine go_jb ⟨zL (a % b), sN M N, ?_, h⟩
  unfold jlrem
  rw [if_neg (fun e => by have := (zL_inj hb.2 ⟨by omega, by omega⟩).mp (e.trans (show (0 : Int64) = zL 0 from rfl)); omega), zL_div ha.2 hb.2, Int.tdiv_eq_ediv_of_nonneg ha.1, zL_mul, zL_sub, Int.mul_comm, ← Int.emod_def]
theorem w_eqL {f g : JM Mem τ} {Q : τ → Mem → NM → Prop} (ha : zRL a) (hb : zRL b) (h1 : a = b → GN M N f Q) (h2 : a ≠ b → GN M N g Q) : GN M N (if zL a = zL b then f else g) Q :=
  w_ite (fun h => h1 ((zL_inj ha hb).mp h)) (fun h => h2 (fun q => h ((zL_inj ha hb).mpr q)))
theorem w_putL {k a : Nat} {cl : Nat} {v : Int64} {f : Unit → JM Mem τ} {Q : τ → Mem → NM → Prop} (hK : mK M a = some (.inl cl)) (h : GN (sL M (up2 (mL M) a k v)) N (f ()) Q) : GN M N (jb (jputL cl k a v) f) Q :=
  go_jb (go_putL (M := sN M N) hK h)
theorem CR.miL (h : CR M N c S) {k : Nat} {v : Int64} {f : Nat → Int} (hm : MiC (sL M (up2 (mL M) c k v)) N c f) : CR (sL M (up2 (mL M) c k v)) N c (S.1, S.2.1, S.2.2.1, S.2.2.2.1, f) := by
  obtain ⟨h1, h2, ⟨h3, h3b, h3c⟩, ⟨h4, h4b⟩, h5, _, h6⟩ := h
  refine ⟨h1.ag (fun b x y => ⟨rfl, rfl⟩) rfl, h2, ⟨h3, h3b, h3c⟩, ⟨fun t ht => (h4 t ht).ag rfl rfl (fun a g1 g2 => ⟨rfl, rfl, funext fun j => if_neg (fun e => by omega)⟩), h4b⟩, h5, hm, h6⟩
theorem MR.miL (h : MR M N m S) {k : Nat} {v : Int64} {f : Nat → Int} (hm : MiM (sL M (up2 (mL M) m k v)) N m f) : MR (sL M (up2 (mL M) m k v)) N m (S.1, S.2.1, S.2.2.1, S.2.2.2.1, f) := by
  obtain ⟨g1, g2, g3, g4, g5, _⟩ := h
  exact ⟨g1.ag (fun b x y => ⟨rfl, rfl⟩), g2, g3, fun t ht => (g4 t ht).ag rfl rfl (funext fun j => if_neg (fun e => by omega)), g5, hm⟩
theorem upLk {k j a : Nat} {L : Nat → Nat → Int64} {v : Int64} (h : j ≠ k) : up2 L a k v a j = L a j := if_neg (fun e => h e.2)
theorem upLv {k a : Nat} {L : Nat → Nat → Int64} {v : Int64} : up2 L a k v a k = v := if_pos ⟨rfl, rfl⟩
theorem CR.top (h : CR M N c S) (v : Int) : CR (sL M (up2 (mL M) c 11 (zL v))) N c (stU S 3 v) := by
  obtain ⟨m0, m1, m2, m3, m4, m5, m6, m7, m8⟩ := h.2.2.2.2.2.1
  exact h.miL ⟨m0, m1, m2, upLv, (upLk (by omega)).trans m4, m5, m6, m7, m8⟩
theorem CR.bot (h : CR M N c S) (v : Int) : CR (sL M (up2 (mL M) c 12 (zL v))) N c (stU S 4 v) := by
  obtain ⟨m0, m1, m2, m3, m4, m5, m6, m7, m8⟩ := h.2.2.2.2.2.1
  exact h.miL ⟨m0, m1, m2, (upLk (by omega)).trans m3, upLv, m5, m6, m7, m8⟩
theorem MR.top (h : MR M N m S) (v : Int) : MR (sL M (up2 (mL M) m 2 (zL v))) N m (stU S 3 v) := by
  obtain ⟨m0, mt, m1, m2, m3, m4, m5, m6, m7, m8⟩ := h.2.2.2.2.2
  exact h.miL ⟨m0, mt, m1, m2, upLv, (upLk (by omega)).trans m4, m5, m6, m7, m8⟩
theorem MR.bot (h : MR M N m S) (v : Int) : MR (sL M (up2 (mL M) m 3 (zL v))) N m (stU S 4 v) := by
  obtain ⟨m0, mt, m1, m2, m3, m4, m5, m6, m7, m8⟩ := h.2.2.2.2.2
  exact h.miL ⟨m0, mt, m1, m2, (upLk (by omega)).trans m3, upLv, m5, m6, m7, m8⟩
theorem CFm.pL {k : Nat} {v : Int64} (h : CFm c M N M' N') : CFm c M N (sL M' (up2 (mL M') c k v)) N' := ⟨fun b hb => ⟨(h.1 b hb).1, (h.1 b hb).2.1, (h.1 b hb).2.2.1, by
  rw [← (h.1 b hb).2.2.2]
  exact funext fun j => if_neg (fun e => by omega)⟩, h.2⟩
theorem MFm.pL {k : Nat} {v : Int64} (h : MFm m M N M' N') : MFm m M N (sL M' (up2 (mL M') m k v)) N' := by
  obtain ⟨h1, R', L', rfl, h2⟩ := h
  exact ⟨h1, R', _, rfl, fun b hb => ⟨(h2 b hb).1, by
    rw [← (h2 b hb).2]
    exact funext fun j => if_neg (fun e => by omega)⟩⟩
/-- the greatest divisor of both, by the steps of the loop -/
theorem gcd_step {a b : Nat} : Nat.gcd b (a % b) = Nat.gcd a b := by
  rw [Nat.gcd_comm b (a % b), ← Nat.gcd_rec, Nat.gcd_comm]
def a_sh (S : St) (P Q : Nat) : St := stU (stU (stU S 3 ((P : Int) / (Nat.gcd P Q : Nat))) 4 ((Q : Int) / (Nat.gcd P Q : Nat))) 0 0
theorem c_tell {f : Int32 → JM Mem τ} {R : τ → Mem → NM → Prop} {P Q : Nat} (hR : CR M N c S) (hP : P ≤ 1000000000) (hQ : 0 < Q ∧ Q ≤ 1000000000) (h : cPost M N c (a_sh S P Q) (f (zI 1)) R) : GN M N (jb (jcall 0 c (f_X0_tell c (zL P) (zL Q))) f) R := by
  refine w_Cc hR.cl ?_
  unfold f_X0_tell
  refine w_loop (fun d t N1 => ∃ a b : Nat, t = (zL a, zL b) ∧ d = b ∧ N1 = N ∧ Nat.gcd a b = Nat.gcd P Q ∧ 0 < a + b ∧ a ≤ 1000000000 ∧ b ≤ 1000000000) Q _ ⟨P, Q, rfl, rfl, rfl, rfl, by omega, hP, hQ.2⟩ ?_
  rintro d t N1 ⟨a, b, rfl, hdb, rfl, hg, h0, ha, hb⟩
  replace hdb := hdb.symm
  subst hdb
  show GN M N1 (X0_tell_L6 c (zL _) (zL _) (zL _) (zL _)) _
  unfold X0_tell_L6
  rw [show (0 : Int64) = zL 0 from rfl]
  refine w_eqL ⟨by omega, by omega⟩ ⟨by omega, by omega⟩ (fun e => ?_) (fun e => ?_)
  · obtain rfl : b = 0 := by omega
    rw [Nat.gcd_zero_right] at hg
    subst hg
    unfold X0_tell_b31
    refine w_jinl ?_
    have hd1 : (P : Int) / (Nat.gcd P Q : Nat) ≤ P := Int.ediv_le_self _ (by omega)
    refine w_ldivP ⟨by omega, by omega, by omega⟩ ⟨by omega, by omega, by omega⟩ ?_
    refine w_putL hR.cl.kc ?_
    have hR1 := hR.top ((P : Int) / (Nat.gcd P Q : Nat))
    refine w_ldivP ⟨by omega, by omega, by omega⟩ ⟨by omega, by omega, by omega⟩ ?_
    refine w_putL hR1.cl.kc ?_
    have hR2 := hR1.bot ((Q : Int) / (Nat.gcd P Q : Nat))
    rw [z_0]
    refine c_is00 hR2.cl (h _ _ (hR2.st 0) ?_)
    exact ((CFm.of (Bg.rf hR.cl) CFr.rf).pL.pL).st _
  · refine w_lremP ⟨by omega, by omega, by omega⟩ ⟨by omega, by omega, by omega⟩ ?_
    have hlt := Nat.mod_lt a (show b > 0 by omega)
    exact w_jcont ⟨a % b, hlt, b, a % b, by rw [Int.natCast_emod], rfl, rfl, by rw [gcd_step]; exact hg, by omega, hb, by omega⟩
theorem m_fraction {f : Int32 → JM Mem τ} {R : τ → Mem → NM → Prop} {P Q : Nat} (hR : MR M N m S) (hP : P ≤ 1000000000) (hQ : 0 < Q ∧ Q ≤ 1000000000) (h : mPost M N m (stU (stU S 3 ((P : Int) / (Nat.gcd P Q : Nat))) 4 ((Q : Int) / (Nat.gcd P Q : Nat))) (f (zI 1)) R) : GN M N (jb (jcall 7 m (f_X8_fraction m (zL P) (zL Q))) f) R := by
  refine w_Mc hR.ml ?_
  unfold f_X8_fraction
  refine w_jb ?_
  unfold f_J8_abs
  rw [show (0 : Int64) = zL 0 from rfl]
  refine w_leL ⟨by omega, by omega⟩ ⟨by omega, by omega⟩ (fun _ => w_jp ?_) (fun x => absurd x (by omega))
  refine w_loop (fun d t N1 => ∃ a b : Nat, t = (zL a, zL b) ∧ d = b ∧ N1 = N ∧ Nat.gcd a b = Nat.gcd P Q ∧ 0 < a + b ∧ a ≤ 1000000000 ∧ b ≤ 1000000000) Q _ ⟨P, Q, rfl, rfl, rfl, rfl, by omega, hP, hQ.2⟩ ?_
  rintro d t N1 ⟨a, b, rfl, hdb, rfl, hg, h0, ha, hb⟩
  replace hdb := hdb.symm
  subst hdb
  show GN M N1 (X8_fraction_L9 m (zL _) (zL _) (zL _) (zL _)) _
  unfold X8_fraction_L9
  rw [show (0 : Int64) = zL 0 from rfl]
  refine w_eqL ⟨by omega, by omega⟩ ⟨by omega, by omega⟩ (fun e => ?_) (fun e => ?_)
  · obtain rfl : b = 0 := by omega
    rw [Nat.gcd_zero_right] at hg
    subst hg
    unfold X8_fraction_b34
    refine w_jinl ?_
    refine w_ldivP ⟨by omega, by omega, by omega⟩ ⟨by omega, by omega, by omega⟩ ?_
    refine w_putL hR.ml.km ?_
    have hR1 := hR.top ((P : Int) / (Nat.gcd P Q : Nat))
    refine w_ldivP ⟨by omega, by omega, by omega⟩ ⟨by omega, by omega, by omega⟩ ?_
    refine w_putL hR1.ml.km ?_
    have hR2 := hR1.bot ((Q : Int) / (Nat.gcd P Q : Nat))
    rw [z_1]
    exact w_jp (h _ _ hR2 (MFm.rf.pL.pL))
  · refine w_lremP ⟨by omega, by omega, by omega⟩ ⟨by omega, by omega, by omega⟩ ?_
    have hlt := Nat.mod_lt a (show b > 0 by omega)
    exact w_jcont ⟨a % b, hlt, b, a % b, by rw [Int.natCast_emod], rfl, rfl, by rw [gcd_step]; exact hg, by omega, hb, by omega⟩
end OPS21
