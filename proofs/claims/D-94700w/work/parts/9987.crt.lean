/-! FEW KINDS: a certificate. -/
set_option maxRecDepth 100000
section CRT
/-- the first of each kind, two and three -/
def krL : List Nat := [0, 1, 4, 20, 22, 34, 84]
/-- a lawful table's number, its kind, a base and its back -/
def crt : List (Nat × Nat × Nat × Nat) := [(0, 0, 273, 273), (1, 1, 273, 273), (2, 1, 266, 266), (3, 1, 282, 267), (4, 4, 273, 273), (5, 1, 277, 277), (6, 1, 298, 270), (7, 1, 314, 271), (8, 1, 161, 161), (9, 1, 401, 401),
  (16, 4, 98, 140), (18, 1, 330, 394), (20, 20, 273, 273), (22, 22, 273, 273), (24, 1, 165, 163), (27, 1, 474, 395), (32, 1, 98, 140), (34, 34, 273, 273), (36, 1, 106, 396), (38, 20, 417, 177),
  (40, 1, 226, 141), (45, 1, 250, 397), (48, 1, 354, 142), (50, 20, 305, 305), (52, 22, 161, 161), (54, 4, 330, 394), (56, 1, 482, 143), (63, 1, 405, 407), (64, 4, 84, 84), (65, 1, 337, 337),
  (68, 20, 140, 98), (69, 22, 396, 106), (72, 1, 169, 225), (73, 1, 465, 465), (80, 20, 84, 84), (84, 84, 273, 273), (88, 22, 116, 92), (98, 84, 375, 491), (102, 84, 212, 86), (114, 84, 156, 102),
  (118, 20, 204, 114), (127, 22, 460, 122), (128, 1, 140, 98), (130, 1, 394, 330), (136, 34, 84, 84), (140, 84, 494, 501), (144, 1, 141, 226), (146, 1, 458, 458), (152, 20, 116, 92), (156, 84, 116, 92),
  (170, 34, 225, 169), (174, 84, 500, 94), (186, 20, 369, 377), (190, 84, 174, 359), (192, 1, 172, 99), (195, 1, 410, 331), (200, 20, 102, 156), (204, 84, 102, 156), (208, 22, 84, 84), (216, 4, 114, 204),
  (219, 1, 346, 459), (220, 20, 169, 225), (223, 22, 425, 249), (234, 84, 311, 307), (238, 20, 489, 241), (245, 22, 233, 233), (250, 84, 412, 111), (254, 84, 358, 158), (256, 1, 84, 84), (257, 34, 140, 98),
  (260, 1, 85, 340), (261, 20, 396, 106), (273, 84, 382, 499), (277, 84, 340, 85), (288, 1, 114, 204), (291, 34, 169, 225), (292, 1, 122, 460), (295, 20, 425, 249), (307, 84, 444, 110), (311, 84, 230, 159),
  (320, 1, 340, 85), (321, 20, 270, 298), (324, 22, 140, 98), (325, 4, 394, 330), (337, 84, 270, 298), (341, 20, 225, 169), (350, 22, 489, 241), (355, 84, 423, 181), (359, 84, 244, 95), (360, 1, 242, 205),
  (365, 1, 234, 461), (371, 20, 377, 369), (375, 84, 302, 302), (381, 22, 225, 169), (384, 1, 212, 86), (390, 1, 442, 334), (393, 34, 204, 114), (397, 84, 486, 157), (409, 84, 318, 299), (413, 20, 233, 233),
  (427, 34, 233, 233), (431, 84, 468, 87), (432, 1, 498, 206), (438, 1, 213, 470), (443, 84, 188, 103), (447, 20, 460, 122), (448, 1, 468, 87), (455, 1, 426, 335), (457, 20, 334, 442), (461, 84, 110, 444),
  (471, 22, 481, 185), (473, 84, 334, 442), (477, 84, 372, 93), (491, 84, 167, 167), (495, 20, 481, 185), (502, 22, 204, 114), (504, 1, 370, 207), (507, 20, 313, 313), (508, 22, 169, 225), (511, 4, 458, 458)]
def a3 (f : Nat → Bool) : Bool := f 0 && (f 1 && f 2)
theorem a3_lt {f : Nat → Bool} (h : a3 f = true) {k : Nat} (hk : k < 3) : f k = true := by
  unfold a3 at h
  rw [Bool.and_eq_true, Bool.and_eq_true] at h
  have : k = 0 ∨ k = 1 ∨ k = 2 := by omega
  rcases this with rfl | rfl | rfl
  · exact h.1
  · exact h.2.1
  · exact h.2.2
/-- a quick table -/
def tbq (x i j k : Nat) : Int := if i < 3 ∧ j < 3 ∧ k < 3 then (if i = j then 0 else (x / 2 ^ (3 * (i + j - 1) + k) % 2 : Nat)) else 0
def jcb (x : Nat) : Bool := a3 (fun m => JS 3 (tbq x) 0 1 2 m % 2 == 0)
def icb (x l b c : Nat) : Bool := a3 (fun m => (sm 3 (fun k => tbq x 0 1 k * bmt 2 3 b k m) - bk 3 (tbq l) (bmt 2 3 b 0) (bmt 2 3 b 1) m) % 2 == 0) &&
  (a3 (fun m => (sm 3 (fun k => tbq x 0 2 k * bmt 2 3 b k m) - bk 3 (tbq l) (bmt 2 3 b 0) (bmt 2 3 b 2) m) % 2 == 0) &&
  (a3 (fun m => (sm 3 (fun k => tbq x 1 2 k * bmt 2 3 b k m) - bk 3 (tbq l) (bmt 2 3 b 1) (bmt 2 3 b 2) m) % 2 == 0) &&
  a3 (fun k => a3 (fun l => (vmu 3 (bmt 2 3 c) (bmt 2 3 b k) l - un l k) % 2 == 0))))
theorem tbq_eq {x : Nat} (hx : x < 512) : tbl 2 3 x = tbq x := by
  have h1 := all_lt (N := 512) (f := fun x => a3 (fun i => a3 (fun j => a3 (fun k => tbl 2 3 x i j k == tbq x i j k)))) (by decide +kernel) hx
  funext i j k
  by_cases c : i < 3 ∧ j < 3 ∧ k < 3
  · exact eq_of_beq (a3_lt (a3_lt (a3_lt h1 c.1) c.2.1) c.2.2)
  · show altT 2 3 _ i j k = tbq x i j k
    unfold altT tbq
    rw [if_neg c, if_neg c]
theorem crt_A {x : Nat} (hx : x < 512) : (!jcb x || crt.any (fun e => e.1 == x)) = true := all_lt (N := 512) (f := fun x => !jcb x || crt.any (fun e => e.1 == x)) (by decide +kernel) hx
theorem crt_B {e : Nat × Nat × Nat × Nat} (he : e ∈ crt) : (krL.contains e.2.1 && (Nat.ble e.2.1 e.1 && icb e.1 e.2.1 e.2.2.1 e.2.2.2)) = true :=
  List.all_eq_true.mp (show crt.all (fun e => krL.contains e.2.1 && (Nat.ble e.2.1 e.1 && icb e.1 e.2.1 e.2.2.1 e.2.2.2)) = true by decide +kernel) e he
theorem krL_l {l : Nat} (h : krL.contains l = true) : jcb l = true := List.all_eq_true.mp (show krL.all jcb = true by decide +kernel) l (List.contains_iff_mem.mp h)
def cbL : Nat → Nat
  | 0 => 0
  | x + 1 => cbL x + (if krL.contains x then 1 else 0)
theorem cg_b {a : Int} (h : (a % 2 == 0) = true) : Cg ((2 : Nat) : Int) a 0 := Cg.zero_iff.mpr (eq_of_beq h)
theorem Lw_b {x : Nat} (hx : x < 512) : Lw ((2 : Nat) : Int) 3 (tbl 2 3 x) ↔ jcb x = true := by
  rw [tbq_eq hx]
  constructor
  · intro h
    have h0 := fun m (hm : m < 3) => Cg.zero_iff.mp (h 0 1 2 (by omega) (by omega) (by omega) m hm)
    unfold jcb a3
    rw [Bool.and_eq_true, Bool.and_eq_true]
    exact ⟨beq_iff_eq.mpr (h0 0 (by omega)), beq_iff_eq.mpr (h0 1 (by omega)), beq_iff_eq.mpr (h0 2 (by omega))⟩
  · intro h i j k h1 h2 h3 m hm
    obtain ⟨rfl, rfl, rfl⟩ : i = 0 ∧ j = 1 ∧ k = 2 := by omega
    exact cg_b (a3_lt h hm)
theorem sub_0 {p a b : Int} (h : Cg p (a - b) 0) : Cg p a b := by
  have := h.add (Cg.rf (p := p) (a := b))
  exact (Cg.of (by omega)).tr (this.tr (Cg.of (by omega)))
theorem Iso_b {x l b c : Nat} (hx : x < 512) (hl : l < 512) (h : icb x l b c = true) : Iso ((2 : Nat) : Int) 3 (tbl 2 3 x) (tbl 2 3 l) := by
  rw [tbq_eq hx, tbq_eq hl]
  unfold icb at h
  rw [Bool.and_eq_true, Bool.and_eq_true, Bool.and_eq_true] at h
  obtain ⟨h1, h2, h3, h4⟩ := h
  refine ⟨bmt 2 3 b, bmt_b (by omega), Ind.of_back (C := bmt 2 3 c) (fun k l hk hl => sub_0 (cg_b (a3_lt (a3_lt h4 hk) hl))), fun i j hij hj m hm => ?_⟩
  have : (i = 0 ∧ j = 1) ∨ (i = 0 ∧ j = 2) ∨ (i = 1 ∧ j = 2) := by omega
  rcases this with ⟨rfl, rfl⟩ | ⟨rfl, rfl⟩ | ⟨rfl, rfl⟩
  · exact sub_0 (cg_b (a3_lt h1 hm))
  · exact sub_0 (cg_b (a3_lt h2 hm))
  · exact sub_0 (cg_b (a3_lt h3 hm))
end CRT
