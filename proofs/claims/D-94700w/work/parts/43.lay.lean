/-! LAYOUTS of the component and of the model: where things stand. Printed by mklay.py. -/
set_option maxRecDepth 100000
def CLf : Nat → Option Nat := fun k => match k with
  | 0 => some 1
  | 1 => some 2
  | 2 => some 6
  | 3 => some 38
  | 4 => some 70
  | 5 => some 71
  | 13 => some 72
  | 14 => some 73
  | 15 => some 74
  | 16 => some 75
  | 17 => some 76
  | 18 => some 77
  | 19 => some 85
  | 20 => some 93
  | 21 => some 101
  | 22 => some 109
  | 23 => some 117
  | 24 => some 182
  | 25 => some 190
  | 26 => some 191
  | 27 => some 192
  | 28 => some 198
  | 33 => some 199
  | 34 => some 205
  | 35 => some 211
  | 36 => some 217
  | 37 => some 223
  | 38 => some 224
  | 39 => some 256
  | 46 => some 257
  | _ => none
def CLk : Nat → Option (Nat × Nat) := fun k => match k with
  | 1 => some (9, 4)
  | 70 => some (7, 4)
  | 71 => some (4, 4)
  | 72 => some (0, 5)
  | 73 => some (0, 5)
  | 74 => some (0, 5)
  | 75 => some (0, 5)
  | 76 => some (0, 3)
  | 117 => some (5, 64)
  | 190 => some (0, 25)
  | 191 => some (0, 25)
  | 192 => some (5, 5)
  | 198 => some (8, 6)
  | 199 => some (5, 5)
  | 205 => some (5, 5)
  | 211 => some (5, 5)
  | 217 => some (5, 5)
  | 223 => some (0, 5)
  | 256 => some (7, 20)
  | 257 => some (10, 3)
  | 4 => some (1, 600)
  | 5 => some (0, 3)
  | _ => none
def MLf : Nat → Option Nat := fun k => match k with
  | 4 => some 1
  | 5 => some 2
  | 6 => some 3
  | 7 => some 4
  | 19 => some 5
  | 20 => some 6
  | 21 => some 7
  | 22 => some 8
  | 28 => some 9
  | 29 => some 10
  | 30 => some 11
  | 31 => some 12
  | 32 => some 13
  | 33 => some 14
  | 34 => some 15
  | 35 => some 16
  | 36 => some 17
  | 37 => some 18
  | 38 => some 19
  | 40 => some 20
  | 41 => some 21
  | 42 => some 22
  | 48 => some 23
  | 54 => some 24
  | 55 => some 25
  | 56 => some 26
  | 57 => some 27
  | 58 => some 28
  | 61 => some 29
  | 62 => some 30
  | 63 => some 31
  | 66 => some 32
  | 67 => some 33
  | 68 => some 34
  | 69 => some 35
  | _ => none
def MLk : Nat → Option (Nat × Nat) := fun k => match k with
  | 1 => some (0, 4)
  | 2 => some (0, 4)
  | 3 => some (3, 240)
  | 4 => some (1, 600)
  | 5 => some (0, 3440)
  | 6 => some (0, 127)
  | 7 => some (0, 127)
  | 8 => some (0, 300)
  | 9 => some (0, 25)
  | 10 => some (0, 25)
  | 11 => some (0, 25)
  | 12 => some (0, 25)
  | 13 => some (0, 25)
  | 14 => some (0, 5)
  | 15 => some (0, 5)
  | 16 => some (0, 5)
  | 17 => some (0, 5)
  | 18 => some (0, 1800)
  | 19 => some (0, 30)
  | 20 => some (0, 25)
  | 21 => some (0, 125)
  | 22 => some (0, 6)
  | 23 => some (0, 2)
  | 24 => some (0, 5)
  | 25 => some (0, 5)
  | 26 => some (0, 5)
  | 27 => some (0, 25)
  | 28 => some (0, 25)
  | 29 => some (0, 25)
  | 30 => some (0, 25)
  | 31 => some (0, 25)
  | 32 => some (0, 25)
  | 33 => some (0, 25)
  | 34 => some (4, 512)
  | 35 => some (0, 127)
  | _ => none
def CLw : List Nat := [6, 38, 224]
def CLs : List Nat := [77, 85, 93, 101, 109, 182]
/-- rows of a two-dimensional array that stand behind it in order -/
def RL (M : Mem) (a n k : Nat) : Prop := ∀ r, r < n → mR M a r = some (a + 1 + r) ∧ mK M (a + 1 + r) = some (.inr (0, k))
/-- rows that may have been exchanged -/
def RP (M : Mem) (a n k : Nat) : Prop := (∀ r, r < n → mK M (a + 1 + r) = some (.inr (0, k))) ∧ ∃ σ : Nat → Nat, (∀ r, r < n → σ r < n ∧ mR M a r = some (a + 1 + σ r)) ∧ ∀ r q, r < n → q < n → σ r = σ q → r = q
def KL (M : Mem) (k : Nat) : Prop := mK M k = some (.inl 6) ∧ mR M k 0 = some (k + 1) ∧ mR M k 1 = some (k + 33) ∧ mR M k 2 = some (k + 34) ∧ WL M (k + 1) ∧ mK M (k + 33) = some (.inr (7, 4)) ∧ mK M (k + 34) = some (.inr (4, 4)) ∧
  ∀ j, j < 4 → mR M (k + 33) j = some (k + 35 + 32 * j) ∧ WL M (k + 35 + 32 * j)
/-- the component at c -/
def CL (M : Mem) (c : Nat) : Prop := mK M c = some (.inl 0) ∧ (∀ k o, CLf k = some o → mR M c k = some (c + o)) ∧ (∀ o d, CLk o = some d → mK M (c + o) = some (.inr d)) ∧
  (∀ o, o ∈ CLw → WL M (c + o)) ∧ (∀ o, o ∈ CLs → SL M (c + o)) ∧
  (∀ k, k < 4 → mR M (c + 70) k = some (c + 262 + 32 * k) ∧ WL M (c + 262 + 32 * k)) ∧
  (∀ k, k < 20 → mR M (c + 256) k = some (c + 879 + 32 * k) ∧ WL M (c + 879 + 32 * k)) ∧
  (∀ k, k < 6 → mR M (c + 198) k = some (c + 1519 + 8 * k) ∧ SL M (c + 1519 + 8 * k)) ∧
  (∀ k, k < 3 → mR M (c + 257) k = some (c + 390 + 163 * k) ∧ KL M (c + 390 + 163 * k)) ∧
  (RL M (c + 192) 5 5 ∧ RL M (c + 199) 5 5 ∧ RL M (c + 205) 5 5 ∧ RL M (c + 217) 5 5) ∧ RP M (c + 117) 64 32 ∧ RP M (c + 211) 5 10 ∧
  (∀ k, k < 4 → mR M (c + 1) k = some (c + 258 + k) ∧ mK M (c + 258 + k) = some (.inl 5)) ∧
  (mK M (c + 2) = some (.inl 1) ∧ mK M (c + 3) = some (.inl 2) ∧ mR M (c + 2) 0 = some (c + 4) ∧ mR M (c + 2) 8 = some (c + 3) ∧ mR M (c + 2) 14 = some (c + 5) ∧ mR M (c + 2) 6 = some (mT M 100) ∧ mR M (c + 2) 7 = some (mT M 101))
/-- the model at m -/
def ML (M : Mem) (m : Nat) : Prop := mK M m = some (.inl 7) ∧ (∀ k o, MLf k = some o → mR M m k = some (m + o)) ∧ (∀ o d, MLk o = some d → mK M (m + o) = some (.inr d))
section LAYR
variable {τ : Type} {M : Mem} {N : NM} {c m k o : Nat} {d : Nat × Nat}
theorem CL.kc (h : CL M c) : mK M c = some (.inl 0) := h.1
theorem CL.f (h : CL M c) (e : CLf k = some o) : mR M c k = some (c + o) := h.2.1 k o e
theorem CL.ka (h : CL M c) (e : CLk o = some d) : mK M (c + o) = some (.inr d) := h.2.2.1 o d e
theorem CL.w (h : CL M c) (e : o ∈ CLw) : WL M (c + o) := h.2.2.2.1 o e
theorem CL.w6 (h : CL M c) : WL M (c + 6) := h.w (by decide)
theorem CL.w38 (h : CL M c) : WL M (c + 38) := h.w (by decide)
theorem CL.w224 (h : CL M c) : WL M (c + 224) := h.w (by decide)
theorem CL.s (h : CL M c) (e : o ∈ CLs) : SL M (c + o) := h.2.2.2.2.1 o e
theorem CL.s77 (h : CL M c) : SL M (c + 77) := h.s (by decide)
theorem CL.s85 (h : CL M c) : SL M (c + 85) := h.s (by decide)
theorem CL.s93 (h : CL M c) : SL M (c + 93) := h.s (by decide)
theorem CL.s101 (h : CL M c) : SL M (c + 101) := h.s (by decide)
theorem CL.s109 (h : CL M c) : SL M (c + 109) := h.s (by decide)
theorem CL.s182 (h : CL M c) : SL M (c + 182) := h.s (by decide)
theorem CL.sh (h : CL M c) (e : k < 4) : mR M (c + 70) k = some (c + 262 + 32 * k) ∧ WL M (c + 262 + 32 * k) := h.2.2.2.2.2.1 k e
theorem CL.un (h : CL M c) (e : k < 20) : mR M (c + 256) k = some (c + 879 + 32 * k) ∧ WL M (c + 879 + 32 * k) := h.2.2.2.2.2.2.1 k e
theorem CL.ah (h : CL M c) (e : k < 6) : mR M (c + 198) k = some (c + 1519 + 8 * k) ∧ SL M (c + 1519 + 8 * k) := h.2.2.2.2.2.2.2.1 k e
theorem CL.mk (h : CL M c) (e : k < 3) : mR M (c + 257) k = some (c + 390 + 163 * k) ∧ KL M (c + 390 + 163 * k) := h.2.2.2.2.2.2.2.2.1 k e
theorem CL.im (h : CL M c) : RL M (c + 192) 5 5 := h.2.2.2.2.2.2.2.2.2.1.1
theorem CL.ba (h : CL M c) : RL M (c + 199) 5 5 := h.2.2.2.2.2.2.2.2.2.1.2.1
theorem CL.bk (h : CL M c) : RL M (c + 205) 5 5 := h.2.2.2.2.2.2.2.2.2.1.2.2.1
theorem CL.gr (h : CL M c) : RL M (c + 217) 5 5 := h.2.2.2.2.2.2.2.2.2.1.2.2.2
theorem CL.ro (h : CL M c) : RP M (c + 117) 64 32 := h.2.2.2.2.2.2.2.2.2.2.1
theorem CL.sq (h : CL M c) : RP M (c + 211) 5 10 := h.2.2.2.2.2.2.2.2.2.2.2.1
theorem CL.tr (h : CL M c) (e : k < 4) : mR M (c + 1) k = some (c + 258 + k) ∧ mK M (c + 258 + k) = some (.inl 5) := h.2.2.2.2.2.2.2.2.2.2.2.2.1 k e
theorem CL.rd (h : CL M c) : mK M (c + 2) = some (.inl 1) ∧ mK M (c + 3) = some (.inl 2) ∧ mR M (c + 2) 0 = some (c + 4) ∧ mR M (c + 2) 8 = some (c + 3) ∧ mR M (c + 2) 14 = some (c + 5) ∧ mR M (c + 2) 6 = some (mT M 100) ∧ mR M (c + 2) 7 = some (mT M 101) := h.2.2.2.2.2.2.2.2.2.2.2.2.2
theorem ML.km (h : ML M m) : mK M m = some (.inl 7) := h.1
theorem ML.f (h : ML M m) (e : MLf k = some o) : mR M m k = some (m + o) := h.2.1 k o e
theorem ML.ka (h : ML M m) (e : MLk o = some d) : mK M (m + o) = some (.inr d) := h.2.2 o d e
theorem w_Cf {f : Nat → JM Mem τ} {Q : τ → Mem → NM → Prop} (hC : CL M c) (e : CLf k = some o) (h : GN M N (f (c + o)) Q) : GN M N (jb (jgetA 0 k c) f) Q := w_getA hC.kc (hC.f e) h
theorem w_CI {f : Int32 → JM Mem τ} {Q : τ → Mem → NM → Prop} (hC : CL M c) (h : GN M N (f (zI (N c k))) Q) : GN M N (jb (jgetI 0 k c) f) Q := w_getI hC.kc h
theorem w_Cput {f : Unit → JM Mem τ} {Q : τ → Mem → NM → Prop} {v : Int} (hC : CL M c) (h : GN M (up2 N c k v) (f ()) Q) : GN M N (jb (jputI 0 k c (zI v)) f) Q := w_putI hC.kc h
theorem w_CputZ {f : Unit → JM Mem τ} {Q : τ → Mem → NM → Prop} {v : Int} (hC : CL M c) (hv : v = 0 ∨ v = 1) (h : GN M (up2 N c k v) (f ()) Q) : GN M N (jb (jputZ 0 k c (zI v)) f) Q := w_putZ hC.kc hv h
theorem w_Mf {f : Nat → JM Mem τ} {Q : τ → Mem → NM → Prop} (hM : ML M m) (e : MLf k = some o) (h : GN M N (f (m + o)) Q) : GN M N (jb (jgetA 7 k m) f) Q := w_getA hM.km (hM.f e) h
theorem w_MI {f : Int32 → JM Mem τ} {Q : τ → Mem → NM → Prop} (hM : ML M m) (h : GN M N (f (zI (N m k))) Q) : GN M N (jb (jgetI 7 k m) f) Q := w_getI hM.km h
theorem w_Mput {f : Unit → JM Mem τ} {Q : τ → Mem → NM → Prop} {v : Int} (hM : ML M m) (h : GN M (up2 N m k v) (f ()) Q) : GN M N (jb (jputI 7 k m (zI v)) f) Q := w_putI hM.km h
theorem w_MputZ {f : Unit → JM Mem τ} {Q : τ → Mem → NM → Prop} {v : Int} (hM : ML M m) (hv : v = 0 ∨ v = 1) (h : GN M (up2 N m k v) (f ()) Q) : GN M N (jb (jputZ 7 k m (zI v)) f) Q := w_putZ hM.km hv h
theorem w_Cc {α : Type} {x : JM Mem α} {f : α → JM Mem τ} {Q : τ → Mem → NM → Prop} (hC : CL M c) (h : GN M N x (fun v M1 N1 => GN M1 N1 (f v) Q)) : GN M N (jb (jcall 0 c x) f) Q := w_call hC.kc h
theorem w_Mc {α : Type} {x : JM Mem α} {f : α → JM Mem τ} {Q : τ → Mem → NM → Prop} (hM : ML M m) (h : GN M N x (fun v M1 N1 => GN M1 N1 (f v) Q)) : GN M N (jb (jcall 7 m x) f) Q := w_call hM.km h
/-- a row of a two-dimensional array -/
theorem w_R1 {f : Nat → JM Mem τ} {Q : τ → Mem → NM → Prop} {a n r len : Nat} (hK : mK M a = some (.inr (5, n))) (hR : RL M a n len) (hr : r < n) (hn : n ≤ 100) (h : GN M N (f (a + 1 + r)) Q) : GN M N (jb (jaldA 5 a (zI r)) f) Q :=
  w_aldA hK (by omega) (by omega) (hR r hr).1 h
end LAYR
