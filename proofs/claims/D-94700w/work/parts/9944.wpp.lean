/-! TEXTS: a world that is read, pure; bits. -/
set_option maxRecDepth 100000
section WORLDP
variable {t : Tx} {u : Tk} {n k i j f : Nat} {x y : Int32} {α : Type}
-- an int by its bits (after the kit's BITS)
def btI (x : Int32) (i : Nat) : Bool := x.toBitVec.getLsbD i
theorem btI_ext {x y : Int32} (h : ∀ i, i < 32 → btI x i = btI y i) : x = y := Int32.toBitVec_inj.mp (BitVec.eq_of_getLsbD_eq (fun i hi => h i hi))
theorem btI_or (x y : Int32) (i : Nat) : btI (x ||| y) i = (btI x i || btI y i) := by unfold btI; rw [Int32.toBitVec_or, BitVec.getLsbD_or]
theorem btI_and (x y : Int32) (i : Nat) : btI (x &&& y) i = (btI x i && btI y i) := by unfold btI; rw [Int32.toBitVec_and, BitVec.getLsbD_and]
theorem btI_0 (i : Nat) : btI 0 i = false := BitVec.getLsbD_zero
theorem btI_1 : ∀ i, i < 32 → btI 1 i = decide (i = 0) := by decide +kernel
theorem btI_s : ∀ n : Nat, n < 32 → ((zI n &&& 31).toBitVec.smod 32).toNat = n := by decide +kernel
theorem btI_shl (n : Nat) (hn : n < 32) (x : Int32) {i : Nat} (hi : i < 32) : btI (x <<< (zI n &&& 31)) i = (decide (n ≤ i) && btI x (i - n)) := by
  unfold btI
  rw [Int32.toBitVec_shiftLeft]
  show (x.toBitVec <<< ((zI n &&& 31).toBitVec.smod 32).toNat).getLsbD i = _
  rw [btI_s n hn, BitVec.getLsbD_shiftLeft]
  rcases Nat.lt_or_ge i n with h | h
  · simp [h, Nat.not_le.mpr h]
  · simp [hi, h, Nat.not_lt.mpr h]
theorem btI_shr (n : Nat) (hn : n < 32) (x : Int32) {i : Nat} (hi : i < 32) : btI (x >>> (zI n &&& 31)) i = if n + i < 32 then btI x (n + i) else btI x 31 := by
  unfold btI
  rw [Int32.toBitVec_shiftRight]
  show (x.toBitVec.sshiftRight ((zI n &&& 31).toBitVec.smod 32).toNat).getLsbD i = _
  rw [btI_s n hn, BitVec.getLsbD_sshiftRight, BitVec.msb_eq_getLsbD_last]
  simp [hi]
/-- whether a bit is there -/
theorem bit_is (hk : k < 32) : (x >>> (zI k &&& 31)) &&& 1 = 1 ↔ btI x k = true := by
  have h0 : btI (x >>> (zI k &&& 31)) 0 = btI x k := by rw [btI_shr k hk x (by omega), Nat.add_zero, if_pos hk]
  constructor
  · intro e
    have e1 : btI ((x >>> (zI k &&& 31)) &&& 1) 0 = btI 1 0 := by rw [e]
    rw [btI_and, h0, btI_1 0 (by omega)] at e1
    cases hb : btI x k with
    | true => rfl
    | false => rw [hb] at e1; exact absurd e1 (by decide)
  · intro e
    refine btI_ext (fun i hi => ?_)
    rw [btI_and, btI_1 i hi]
    by_cases q : i = 0
    · rw [q, h0, e]; rfl
    · rw [decide_eq_false q]
      exact Bool.and_false _
/-- a bit more -/
theorem bit_or (hk : k < 32) (hi : i < 32) : btI (x ||| ((1 : Int32) <<< (zI k &&& 31))) i = (decide (i = k) || btI x i) := by
  rw [btI_or, btI_shl k hk 1 hi]
  by_cases q : k ≤ i
  · rw [btI_1 (i - k) (by omega), decide_eq_true q]
    by_cases q2 : i = k
    · rw [decide_eq_true q2, decide_eq_true (show i - k = 0 by omega)]
      cases btI x i <;> rfl
    · rw [decide_eq_false q2, decide_eq_false (show ¬ i - k = 0 by omega)]
      cases btI x i <;> rfl
  · rw [decide_eq_false q, decide_eq_false (show ¬ i = k by omega)]
    cases btI x i <;> rfl
abbrev Tbl : Type := Nat → Nat → Nat → Int
/-- behind a sign, the token; a number by it -/
noncomputable def lsT (t : Tx) (u : Tk) : Tk := @ite _ (kw t u 4) (Classical.propDecidable _) (nx t u) u
noncomputable def lsV (t : Tx) (u : Tk) (v : Int) : Int := @ite _ (kw t u 4) (Classical.propDecidable _) (-v) v
def mrT (t : Tx) (u : Tk) : Prop := u.2.2.1 = 3 ∨ kw t u 4
def setB (h : Nat → Bool) (k : Nat) : Nat → Bool := fun q => decide (q = k) || h q
def setD (D : Nat → Nat → Bool) (i j : Nat) : Nat → Nat → Bool := fun a b => decide (a = i ∧ b = j) || D a b
noncomputable def pTerms (t : Tx) (p : Int) (n i j : Nat) : Nat → Tk → Tbl → (Nat → Bool) → Except Er (Tk × Tbl)
  | 0 => fun _ _ _ => .error (0, 0)
  | f + 1 => fun u S h => pbd (pPas t 1 (p - 1) (lsT t u)) fun x => pbd (pWord t 5 x.2) fun u2 => pbd (pNum 0 ((n : Int) - 1) u2) fun k =>
    if h k.toNat = true then .error (flt u2 5) else
    @ite _ (mrT t (nx t u2)) (Classical.propDecidable _) (pTerms t p n i j f (nx t u2) (stT S i j k.toNat (lsV t u x.1)) (setB h k.toNat)) (.ok (nx t u2, stT S i j k.toNat (lsV t u x.1)))
noncomputable def pBrs (t : Tx) (p : Int) (n : Nat) : Nat → Tk → Tbl → (Nat → Nat → Bool) → Except Er Tbl
  | 0 => fun _ _ _ => .error (0, 0)
  | f + 1 => fun u S D => if u.2.2.1 = 0 then .ok S else pbd (pWord t 2 u) fun u1 => pbd (pPas t 0 ((n : Int) - 1) u1) fun x => pbd (pNum (x.1 + 1) ((n : Int) - 1) x.2) fun j =>
    if D x.1.toNat j.toNat = true then .error (flt x.2 5) else pbd (pWord t 3 (nx t x.2)) fun u3 => pbd (pTerms t p n x.1.toNat j.toNat (t.1 + 1) u3 S (fun _ => false)) fun y => pbd (pSgn t y.1) fun u4 => pBrs t p n f u4 y.2 (setD D x.1.toNat j.toNat)
abbrev PrI (v : Int) : Prop := v = 2 ∨ v = 3 ∨ v = 5 ∨ v = 7
noncomputable def pWorld2 (t : Tx) (p : Int) (u1 : Tk) : Except Er (Int × Nat × Tbl) :=
  pbd (pSgn t (nx t u1)) fun u2 => pbd (pWord t 1 u2) fun u3 => pbd (pPas t 1 (gst p) u3) fun x => pbd (pSgn t x.2) fun u4 => pbd (pBrs t p x.1.toNat (t.1 + 1) u4 (fun _ _ _ => 0) (fun _ _ => false)) fun S => .ok (p, x.1.toNat, altT p x.1.toNat S)
noncomputable def pWorld (t : Tx) : Except Er (Int × Nat × Tbl) :=
  pbd (pWord t 0 (tok t 0)) fun u1 => pbd (pNum 2 7 u1) fun p => if PrI p then pWorld2 t p u1 else .error (flt u1 4)
end WORLDP
