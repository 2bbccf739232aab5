/-! THE STATE, told once for both. -/
set_option maxRecDepth 100000
section STATE
/-- a world's prime, size, table -/
abbrev Wd : Type := Int × Nat × (Nat → Nat → Nat → Int)
/-- a script: how many steps; seven numbers each, as the model has them -/
abbrev Scr : Type := Nat × (Nat → Nat → Int)
/-- a house: the world now, the shelves, the script -/
abbrev Hs : Type := Wd × (Nat → Option Wd) × Option Scr
/-- a tray: its sort, how many, the numbers -/
abbrev Try : Type := Nat × Nat × (Nat → Int)
/-- all: the house now, the marks, the trays, the tape, single numbers:
0 status, 1 2 the fault, 3 4 the fraction, 5 tries, 6 whether one ran, 7 8 what it left -/
abbrev St : Type := Hs × (Nat × (Nat → Hs)) × (Nat → Option Try) × (Nat × (Nat → Int)) × (Nat → Int)
variable {α τ : Type} {M M' : Mem} {N N' : NM} {c m e a L w hd o k B W : Nat} {sh : Nat → Nat} {F : Nat → Nat → Int} {S : St} {H : Hs} {p : Int} {n : Nat} {T : Nat → Nat → Nat → Int}
def WdC (N : NM) (w : Nat) (x : Wd) : Prop := WD N w x.1 x.2.1 x.2.2
def WdM (N : NM) (W B : Nat) (x : Wd) : Prop := WC N W B x.1 x.2.1 x.2.2 ∧ WOk x.1 x.2.1 x.2.2
/-- steps one behind the other, ends of blocks among them -/
def FlC (M : Mem) (N : NM) (e a L : Nat) (F : Nat → Nat → Int) : Prop := e ≤ a ∧ mK M a = some (.inr (11, 60)) ∧ L ≤ 60 ∧
  (∀ i, i < L → ∃ s, mR M a i = some s ∧ e ≤ s ∧ mK M s = some (.inl 8) ∧ ∀ k, k < 7 → N s k = F i k) ∧ ∀ i j s, i < L → j < L → mR M a i = some s → mR M a j = some s → i = j
/-- a step that opens a block -/
def isBl (A : Nat → Nat → Int) (i : Nat) : Prop := A i 0 = 6 ∨ A i 0 = 7
def nxt (A : Nat → Nat → Int) (i : Nat) : Nat := (A i 6).toNat
/-- where a step stands, and where its block ends, among all -/
noncomputable def fpo (A : Nat → Nat → Int) (i : Nat) : Nat := i + cn i (fun j => isBl A j ∧ nxt A j ≤ i)
noncomputable def fcl (s : Scr) (j : Nat) : Nat := nxt s.2 j + cn s.1 (fun l => isBl s.2 l ∧ (nxt s.2 l < nxt s.2 j ∨ nxt s.2 l = nxt s.2 j ∧ j < l))
/-- what a step says: as the component has it, by the model's numbers -/
def ArgOf (f a : Nat → Int) : Prop :=
  (a 0 = 0 → f 1 = a 1 ∧ f 2 = a 2 ∧ 0 ≤ a 1 ∧ a 1 ≤ 4 ∧ 0 ≤ a 2 ∧ a 2 ≤ 4) ∧
  (a 0 = 1 → f 1 = a 1 ∧ f 3 = a 2 ∧ 0 ≤ a 1 ∧ a 1 ≤ 4 ∧ 1 ≤ a 2 ∧ a 2 ≤ 6) ∧
  (a 0 = 2 → f 1 = a 1 ∧ f 2 = a 2 ∧ f 3 = a 3 ∧ 0 ≤ a 1 ∧ a 1 ≤ 4 ∧ 0 ≤ a 2 ∧ a 2 ≤ 4 ∧ 0 ≤ a 3 ∧ a 3 ≤ 6) ∧
  ((a 0 = 3 ∨ a 0 = 4 ∨ a 0 = 5) → f 1 = a 1 ∧ 0 ≤ a 1 ∧ a 1 ≤ 3) ∧
  (a 0 = 6 → 0 ≤ a 1 ∧ a 1 ≤ 6 ∧ f 5 = (if a 1 = 5 then 1 else if a 1 = 6 then 23 else a 1 + 18) ∧
    (a 1 = 4 → f 1 = a 2 ∧ 0 ≤ a 2 ∧ a 2 ≤ 5) ∧ (a 1 = 6 → f 1 = a 2 ∧ 0 ≤ a 2 ∧ a 2 ≤ 3) ∧
    (a 1 = 4 ∨ a 1 = 5 → f 4 = a 4 ∧ f 3 = a 5 ∧ (a 4 = 60 ∨ a 4 = 61 ∨ a 4 = 62) ∧ 0 ≤ a 5 ∧ a 5 ≤ 5)) ∧
  (a 0 = 7 → f 3 = a 1 ∧ 1 ≤ a 1 ∧ a 1 ≤ 99)
/-- what a step says is within bounds -/
def ArgR (a : Nat → Int) : Prop :=
  (a 0 = 0 → 0 ≤ a 1 ∧ a 1 ≤ 4 ∧ 0 ≤ a 2 ∧ a 2 ≤ 4) ∧ (a 0 = 1 → 0 ≤ a 1 ∧ a 1 ≤ 4 ∧ 1 ≤ a 2 ∧ a 2 ≤ 6) ∧ (a 0 = 2 → 0 ≤ a 1 ∧ a 1 ≤ 4 ∧ 0 ≤ a 2 ∧ a 2 ≤ 4 ∧ 0 ≤ a 3 ∧ a 3 ≤ 6) ∧
  ((a 0 = 3 ∨ a 0 = 4 ∨ a 0 = 5) → 0 ≤ a 1 ∧ a 1 ≤ 3) ∧
  (a 0 = 6 → 0 ≤ a 1 ∧ a 1 ≤ 6 ∧ (a 1 = 4 → 0 ≤ a 2 ∧ a 2 ≤ 5) ∧ (a 1 = 6 → 0 ≤ a 2 ∧ a 2 ≤ 3) ∧ (a 1 = 4 ∨ a 1 = 5 → (a 4 = 60 ∨ a 4 = 61 ∨ a 4 = 62) ∧ 0 ≤ a 5 ∧ a 5 ≤ 5)) ∧
  (a 0 = 7 → 1 ≤ a 1 ∧ a 1 ≤ 99)
/-- blocks are well nested -/
def ScOk (s : Scr) : Prop := s.1 ≤ 30 ∧ ∀ i, i < s.1 → 0 ≤ s.2 i 0 ∧ s.2 i 0 ≤ 8 ∧ (i : Int) < s.2 i 6 ∧ s.2 i 6 ≤ s.1 ∧ (¬ isBl s.2 i → s.2 i 6 = i + 1) ∧ (∀ j, i < j → j < nxt s.2 i → s.2 j 6 ≤ s.2 i 6) ∧
  cn i (fun j => i < nxt s.2 j) ≤ 3 ∧ ArgR (s.2 i)
def FlatOf (L : Nat) (F : Nat → Nat → Int) (s : Scr) : Prop := L = s.1 + cn s.1 (isBl s.2) ∧ ∀ i, i < s.1 → fpo s.2 i < L ∧ F (fpo s.2 i) 0 = s.2 i 0 + 6 ∧ ArgOf (F (fpo s.2 i)) (s.2 i) ∧
  (isBl s.2 i → fcl s i < L ∧ F (fpo s.2 i) 6 = fcl s i ∧ F (fcl s i) 0 = 15 ∧ F (fcl s i) 6 = fpo s.2 i)
def ScC (M : Mem) (N : NM) (e o k : Nat) : Option Scr → Prop
  | none => mR M o k = none
  | some s => ∃ a L F, mR M o k = some a ∧ N o (k + 1) = (L : Nat) ∧ FlC M N e a L F ∧ FlatOf L F s ∧ ScOk s
def ShC (N : NM) (hd sh j : Nat) : Option Wd → Prop
  | none => N hd j = 0
  | some x => N hd j = 1 ∧ WdC N sh x
def HsC (M : Mem) (N : NM) (e w hd : Nat) (sh : Nat → Nat) (o k : Nat) (H : Hs) : Prop := WdC N w H.1 ∧ (∀ j, j < 4 → ShC N hd (sh j) j (H.2.1 j)) ∧ ScC M N e o k H.2.2
def TyC (M : Mem) (N : NM) (e t : Nat) : Option Try → Prop
  | none => mR M t 0 = none ∧ N t 1 = 0
  | some r => N t 1 = r.1 ∧ r.1 ≤ 3 ∧ r.2.1 ≤ 60 ∧ TrR M N t r.2.1 r.2.2 ∧ ∀ a, mR M t 0 = some a → e ≤ a
def TsC (M : Mem) (N : NM) (c e : Nat) (f : Nat → Option Try) : Prop := (∀ t, t < 4 → TyC M N e (c + 258 + t) (f t)) ∧ ∀ t t' a, t < 4 → t' < 4 → mR M (c + 258 + t) 0 = some a → mR M (c + 258 + t') 0 = some a → t = t'
def TpC (N : NM) (r a : Nat) (k : Nat) (x : Nat × (Nat → Int)) : Prop := N r k = x.1 ∧ x.1 ≤ 600 ∧ ∀ i, i < x.1 → N a i = x.2 i ∧ -128 ≤ x.2 i ∧ x.2 i ≤ 127
def MiC (M : Mem) (N : NM) (c : Nat) (f : Nat → Int) : Prop := N c 8 = f 0 ∧ N c 9 = f 1 ∧ N c 10 = f 2 ∧ mL M c 11 = zL (f 3) ∧ mL M c 12 = zL (f 4) ∧ N c 30 = f 5 ∧ N c 43 = f 6 ∧ N c 44 = f 7 ∧ N c 45 = f 8
/-- where the marks' houses stand -/
def kpl (c k : Nat) : Nat := c + 390 + 163 * k
def MkC (M : Mem) (N : NM) (c e : Nat) (x : Nat × (Nat → Hs)) : Prop := N c 47 = x.1 ∧ x.1 ≤ 3 ∧ ∀ k, k < x.1 → HsC M N e (kpl c k + 1) (kpl c k + 34) (fun j => kpl c k + 35 + 32 * j) (kpl c k) 3 (x.2 k)
/-- the component holds the state -/
def CR (M : Mem) (N : NM) (c : Nat) (S : St) : Prop := CL M c ∧ HsC M N (c + 1603) (c + 6) (c + 71) (fun j => c + 262 + 32 * j) c 6 S.1 ∧ MkC M N c (c + 1603) S.2.1 ∧ TsC M N c (c + 1603) S.2.2.1 ∧ TpC N (c + 2) (c + 4) 9 S.2.2.2.1 ∧ MiC M N c S.2.2.2.2 ∧ c + 1603 ≤ mZ M ∧ ∀ b, mZ M ≤ b → mK M b = none
def ShM (N : NM) (W B : Nat) : Option Wd → Prop
  | none => N W B = 0
  | some x => WdM N W B x
def ScM (N : NM) (W B : Nat) : Option Scr → Prop
  | none => N W (B + 635) = 0
  | some s => N W (B + 635) = 1 ∧ N W (B + 636) = s.1 ∧ ∀ i k, i < s.1 → k < 7 → N W (B + 637 + 7 * i + k) = s.2 i k
def HsM (N : NM) (W B : Nat) (H : Hs) : Prop := WdM N W B H.1 ∧ (∀ j, j < 4 → ShM N W (B + 127 * (j + 1)) (H.2.1 j)) ∧ ScM N W B H.2.2
def TyM (M : Mem) (N : NM) (m t : Nat) : Option Try → Prop
  | none => N (m + 2) t = -1
  | some r => N (m + 1) t = r.1 ∧ TrM M N m t r.2.1 r.2.2
def MiM (M : Mem) (N : NM) (m : Nat) (f : Nat → Int) : Prop := N m 0 = f 0 ∧ N m 1 = 0 ∧ N m 10 = f 1 ∧ N m 11 = f 2 ∧ mL M m 2 = zL (f 3) ∧ mL M m 3 = zL (f 4) ∧ N m 44 = f 5 ∧ N m 49 = f 6 ∧ N (m + 23) 0 = f 7 ∧ N (m + 23) 1 = f 8
/-- the model holds it -/
def MR (M : Mem) (N : NM) (m : Nat) (S : St) : Prop := ML M m ∧ HsM N (m + 5) 0 S.1 ∧ (N m 23 = S.2.1.1 ∧ S.2.1.1 ≤ 3 ∧ ∀ k, k < S.2.1.1 → HsM N (m + 5) (860 * (k + 1)) (S.2.1.2 k)) ∧ (∀ t, t < 4 → TyM M N m t (S.2.2.1 t)) ∧ TpC N m (m + 4) 8 S.2.2.2.1 ∧ MiM M N m S.2.2.2.2
/-- worlds aren't too wide; numbers are as they should be -/
def WdOk (x : Wd) : Prop := (x.2.1 : Int) ≤ gst x.1
def HsOk (H : Hs) : Prop := WdOk H.1 ∧ (∀ j x, j < 4 → H.2.1 j = some x → WdOk x) ∧ ∀ s, H.2.2 = some s → ScOk s
def StOk (S : St) : Prop := HsOk S.1 ∧ (∀ k, k < S.2.1.1 → HsOk (S.2.1.2 k)) ∧ -1 ≤ S.2.2.2.2 5 ∧ S.2.2.2.2 5 ≤ 200000 ∧ (S.2.2.2.2 6 = 0 ∨ S.2.2.2.2 6 = 1)
/-- a single number is another -/
def stU (S : St) (i : Nat) (v : Int) : St := (S.1, S.2.1, S.2.2.1, S.2.2.2.1, fun k => if k = i then v else S.2.2.2.2 k)
def stW (S : St) (x : Wd) : St := ((x, S.1.2), S.2)
/-- what the component's inner work leaves as it was -/
def CFr (c : Nat) (N N' : NM) : Prop := (∀ b, b < c ∨ c < b ∧ b ≤ c + 4 ∨ c + 6 ≤ b ∧ b < c + 38 ∨ b = c + 70 ∨ b = c + 71 ∨ c + 256 ≤ b ∧ b < c + 879 ∨ c + 1567 ≤ b → N' b = N b) ∧ ∀ k, k ≠ 29 → k ≠ 31 → k ≠ 32 → k ≠ 40 → k ≠ 41 → k ≠ 42 → N' c k = N c k
theorem CFr.rf : CFr c N N := ⟨fun _ _ => rfl, fun _ _ _ _ _ _ _ => rfl⟩
theorem CFr.tr {N2 : NM} (h : CFr c N N') (h2 : CFr c N' N2) : CFr c N N2 := ⟨fun b hb => (h2.1 b hb).trans (h.1 b hb), fun k a1 a2 a3 a4 a5 a6 => (h2.2 k a1 a2 a3 a4 a5 a6).trans (h.2 k a1 a2 a3 a4 a5 a6)⟩
theorem CFr.of (h : ∀ b, b ≤ c + 4 ∨ c + 6 ≤ b ∧ b < c + 38 ∨ b = c + 70 ∨ b = c + 71 ∨ c + 256 ≤ b ∧ b < c + 879 ∨ c + 1567 ≤ b → N' b = N b) : CFr c N N' := ⟨fun b hb => h b (by omega), fun k _ _ _ _ _ _ => by rw [h c (by omega)]⟩
/-- an op of the component: outside of it all is as it was; so much room is used up at most -/
def CFm (c : Nat) (M : Mem) (N : NM) (M' : Mem) (N' : NM) : Prop := (∀ b, b < c ∨ c + 1567 ≤ b ∧ b < c + 1603 → N' b = N b ∧ mK M' b = mK M b ∧ mR M' b = mR M b ∧ mL M' b = mL M b) ∧ mT M' = mT M ∧ mC M ≤ mC M' + 64 ∧ mS M ≤ mS M' + 1300
def MFm (m : Nat) (M : Mem) (N : NM) (M' : Mem) (N' : NM) : Prop := (∀ b, b < m ∨ m + 36 ≤ b → N' b = N b) ∧ ∃ R' L', M' = sL (sR M R') L' ∧ ∀ b, b < m ∨ m + 36 ≤ b → R' b = mR M b ∧ L' b = mL M b
end STATE
