/-! SCRIPTS: segments of steps, laid flat. -/
set_option maxRecDepth 100000
section SEGS
variable {c c1 c2 c3 L i j k n wi : Nat} {a b : Nat → Nat → Int} {F G : Nat → Nat → Int} {P : Nat → Prop}
abbrev Arr : Type := Nat → Nat → Int
theorem cn_split : ∀ n, k ≤ n → cn n P = cn k P + cn n (fun j => k ≤ j ∧ P j) := by
  intro n
  induction n with
  | zero =>
    intro h
    obtain rfl : k = 0 := by omega
    rfl
  | succ n ih =>
    intro h
    by_cases e : k = n + 1
    · rw [e, cn_false (n := n + 1) (P := fun j => n + 1 ≤ j ∧ P j) (fun j hj x => by omega)]
      rfl
    · have h1 := ih (by omega)
      by_cases q : P n
      · rw [cn_pos q, cn_pos (P := fun j => k ≤ j ∧ P j) ⟨by omega, q⟩, h1]
        omega
      · rw [cn_neg q, cn_neg (P := fun j => k ≤ j ∧ P j) (fun x => q x.2), h1]
/-- how many blocks there are from a step on -/
noncomputable def bks (a : Arr) (c c1 : Nat) : Nat := cn c1 (fun l => c ≤ l ∧ isBl a l)
noncomputable def lnS (a : Arr) (c c1 : Nat) : Nat := (c1 - c) + bks a c c1
noncomputable def poS (a : Arr) (c L i : Nat) : Nat := L + (i - c) + cn i (fun j => c ≤ j ∧ isBl a j ∧ nxt a j ≤ i)
noncomputable def ecS (a : Arr) (c c1 L i : Nat) : Nat := L + (nxt a i - c) + cn c1 (fun l => c ≤ l ∧ isBl a l ∧ (nxt a l < nxt a i ∨ nxt a l = nxt a i ∧ i < l))
/-- steps that are well nested -/
def SegOk (a : Arr) (c c1 wi : Nat) : Prop := c ≤ c1 ∧ c1 ≤ 30 ∧ ∀ i, c ≤ i → i < c1 → 0 ≤ a i 0 ∧ a i 0 ≤ 8 ∧ (i : Int) < a i 6 ∧ a i 6 ≤ c1 ∧ (¬ isBl a i → a i 6 = i + 1) ∧ (∀ j, i < j → j < nxt a i → a j 6 ≤ a i 6) ∧ cn i (fun j => c ≤ j ∧ i < nxt a j) + wi ≤ 3 ∧ ArgR (a i)
theorem SegOk.nx (h : SegOk a c c1 wi) (h1 : c ≤ i) (h2 : i < c1) : i < nxt a i ∧ nxt a i ≤ c1 := by
  have := h.2.2 i h1 h2
  unfold nxt
  omega
theorem SegOk.cat (h : SegOk a c c1 wi) (h' : SegOk a c1 c2 wi) : SegOk a c c2 wi := by
  refine ⟨by have := h.1; have := h'.1; omega, h'.2.1, fun i h1 h2 => ?_⟩
  by_cases q : i < c1
  · obtain ⟨g1, g2, g3, g4, g5, g6, g7, g8⟩ := h.2.2 i h1 q
    have := h'.1
    exact ⟨g1, g2, g3, by omega, g5, g6, g7, g8⟩
  · have g := h'.2.2 i (by omega) h2
    have hc := h.1
    refine ⟨g.1, g.2.1, g.2.2.1, g.2.2.2.1, g.2.2.2.2.1, g.2.2.2.2.2.1, ?_, g.2.2.2.2.2.2.2⟩
    rw [cn_split (k := c1) i (by omega), cn_false (n := c1) (fun j hj x => by have := (h.nx x.1 hj).2; omega), Nat.zero_add, cn_congr (Q := fun j => c1 ≤ j ∧ i < nxt a j) (fun j _ => ⟨fun x => ⟨x.1, x.2.2⟩, fun x => ⟨x.1, by omega, x.2⟩⟩)]
    exact g.2.2.2.2.2.2.1
theorem SegOk.blk (h : SegOk a (c + 1) c3 (wi + 1)) (hw : wi ≤ 3) (hb : isBl a c) (h6 : a c 6 = c3) (hR : ArgR (a c)) : SegOk a c c3 wi := by
  have hc := h.1
  refine ⟨by omega, h.2.1, fun i h1 h2 => ?_⟩
  by_cases q : i = c
  · subst q
    refine ⟨?_, ?_, by omega, by omega, fun x => absurd hb x, fun j g1 g2 => ?_, ?_, hR⟩
    · unfold isBl at hb; omega
    · unfold isBl at hb; omega
    · have : nxt a i = c3 := by unfold nxt; omega
      have := (h.2.2 j (by omega) (by omega)).2.2.2.1
      omega
    · rw [cn_false (fun j hj x => by omega)]
      omega
  · have g := h.2.2 i (by omega) h2
    refine ⟨g.1, g.2.1, g.2.2.1, g.2.2.2.1, g.2.2.2.2.1, g.2.2.2.2.2.1, ?_, g.2.2.2.2.2.2.2⟩
    have e := cn_or (n := i) (a := c) (P := fun j => c + 1 ≤ j ∧ i < nxt a j) (by omega) (fun x => by omega)
    rw [cn_congr (Q := fun j => (c + 1 ≤ j ∧ i < nxt a j) ∨ j = c) (fun j _ => ⟨fun x => ?_, fun x => ?_⟩), e]
    · have := g.2.2.2.2.2.2.1
      omega
    · by_cases e2 : j = c
      · exact Or.inr e2
      · exact Or.inl ⟨by omega, x.2⟩
    · rcases x with x | x
      · exact ⟨by omega, x.2⟩
      · subst x
        exact ⟨Nat.le_refl _, by unfold nxt; omega⟩
/-- a segment laid flat -/
def FlS (a : Arr) (F : Nat → Nat → Int) (c c1 L : Nat) : Prop := ∀ i, c ≤ i → i < c1 → (L ≤ poS a c L i ∧ poS a c L i < L + lnS a c c1) ∧ F (poS a c L i) 0 = a i 0 + 6 ∧ ArgOf (F (poS a c L i)) (a i) ∧
  (isBl a i → (L ≤ ecS a c c1 L i ∧ ecS a c c1 L i < L + lnS a c c1) ∧ F (poS a c L i) 6 = ecS a c c1 L i ∧ F (ecS a c c1 L i) 0 = 15 ∧ F (ecS a c c1 L i) 6 = poS a c L i)
theorem FlS.fr (h : FlS a F c c1 L) (e : ∀ q k, L ≤ q → q < L + lnS a c c1 → k < 7 → G q k = F q k) : FlS a G c c1 L := by
  intro i h1 h2
  obtain ⟨⟨g1, g2⟩, g3, g4, g5⟩ := h i h1 h2
  refine ⟨⟨g1, g2⟩, by rw [e _ 0 g1 g2 (by omega)]; exact g3, g4.cg (fun k hk => e _ k g1 g2 hk), fun hb => ?_⟩
  obtain ⟨⟨f1, f2⟩, f3, f4, f5⟩ := g5 hb
  exact ⟨⟨f1, f2⟩, by rw [e _ 6 g1 g2 (by omega)]; exact f3, by rw [e _ 0 f1 f2 (by omega)]; exact f4, by rw [e _ 6 f1 f2 (by omega)]; exact f5⟩
theorem lnS_cat (h1 : c ≤ c1) (h2 : c1 ≤ c2) : lnS a c c2 = lnS a c c1 + lnS a c1 c2 := by
  unfold lnS bks
  rw [cn_split (k := c1) c2 h2, cn_congr (n := c2) (P := fun j => c1 ≤ j ∧ c ≤ j ∧ isBl a j) (Q := fun j => c1 ≤ j ∧ isBl a j) (fun j _ => ⟨fun x => ⟨x.1, x.2.2⟩, fun x => ⟨x.1, by omega, x.2⟩⟩)]
  omega
theorem poS_cat (hS : SegOk a c c1 wi) (hi : c1 ≤ i) : poS a c L i = poS a c1 (L + lnS a c c1) i := by
  have h1 := hS.1
  unfold poS lnS bks
  rw [cn_split (k := c1) i hi, cn_congr (n := c1) (P := fun j => c ≤ j ∧ isBl a j ∧ nxt a j ≤ i) (Q := fun j => c ≤ j ∧ isBl a j) (fun j hj => ⟨fun x => ⟨x.1, x.2.1⟩, fun x => ⟨x.1, x.2, by have := (hS.nx x.1 hj).2; omega⟩⟩), cn_congr (n := i) (P := fun j => c1 ≤ j ∧ c ≤ j ∧ isBl a j ∧ nxt a j ≤ i) (Q := fun j => c1 ≤ j ∧ isBl a j ∧ nxt a j ≤ i) (fun j _ => ⟨fun x => ⟨x.1, x.2.2⟩, fun x => ⟨x.1, by omega, x.2⟩⟩)]
  omega
theorem FlS.cat (hS : SegOk a c c1 wi) (hS' : SegOk a c1 c2 wi) (h : FlS a F c c1 L) (h' : FlS a F c1 c2 (L + lnS a c c1)) : FlS a F c c2 L := by
  have h1 := hS.1
  have h2 := hS'.1
  have hl := lnS_cat (a := a) h1 h2
  intro i a1 a2
  by_cases q : i < c1
  · obtain ⟨⟨g1, g2⟩, g3, g4, g5⟩ := h i a1 q
    have ecl : ecS a c c2 L i = ecS a c c1 L i := by
      unfold ecS
      rw [cn_ext (n := c2) (i := c1) h2 (fun l b1 b2 x => by
        have := (hS'.nx b1 b2).1
        have := (hS.nx a1 q).2
        omega)]
    rw [ecl]
    exact ⟨⟨g1, by omega⟩, g3, g4, fun hb => by
      obtain ⟨⟨f1, f2⟩, f3⟩ := g5 hb
      exact ⟨⟨f1, by omega⟩, f3⟩⟩
  · obtain ⟨⟨g1, g2⟩, g3, g4, g5⟩ := h' i (by omega) a2
    have epo := poS_cat (L := L) hS (show c1 ≤ i by omega)
    have hni := hS'.nx (show c1 ≤ i by omega) a2
    have ecl : ecS a c c2 L i = ecS a c1 c2 (L + lnS a c c1) i := by
      unfold ecS lnS bks
      rw [cn_split (k := c1) c2 h2, cn_congr (n := c1) (Q := fun l => c ≤ l ∧ isBl a l) (fun l hl => ⟨fun x => ⟨x.1, x.2.1⟩, fun x => ⟨x.1, x.2, Or.inl (by have := (hS.nx x.1 hl).2; omega)⟩⟩), cn_congr (n := c2) (P := fun l => c1 ≤ l ∧ c ≤ l ∧ isBl a l ∧ (nxt a l < nxt a i ∨ nxt a l = nxt a i ∧ i < l)) (Q := fun l => c1 ≤ l ∧ isBl a l ∧ (nxt a l < nxt a i ∨ nxt a l = nxt a i ∧ i < l)) (fun l _ => ⟨fun x => ⟨x.1, x.2.2⟩, fun x => ⟨x.1, by omega, x.2⟩⟩)]
      omega
    rw [epo, ecl]
    exact ⟨⟨by omega, by omega⟩, g3, g4, fun hb => by
      obtain ⟨⟨f1, f2⟩, f3⟩ := g5 hb
      exact ⟨⟨by omega, by omega⟩, f3⟩⟩
theorem bks_blk (hb : isBl a c) (h : c < c3) : bks a c c3 = bks a (c + 1) c3 + 1 := by
  unfold bks
  rw [← cn_or (n := c3) (a := c) (P := fun l => c + 1 ≤ l ∧ isBl a l) h (fun x => by omega)]
  refine cn_congr (fun j _ => ⟨fun x => ?_, fun x => ?_⟩)
  · by_cases e2 : j = c
    · exact Or.inr e2
    · exact Or.inl ⟨by omega, x.2⟩
  · rcases x with x | x
    · exact ⟨by omega, x.2⟩
    · rw [x]; exact ⟨Nat.le_refl _, hb⟩
theorem lnS_blk (hb : isBl a c) (h : c < c3) : lnS a c c3 = lnS a (c + 1) c3 + 2 := by
  unfold lnS
  rw [bks_blk hb h]
  omega
/-- a block laid flat -/
theorem FlS.blk (hS : SegOk a (c + 1) c3 wi) (hb : isBl a c) (h6 : a c 6 = c3) (h : FlS a F (c + 1) c3 (L + 1)) (f0 : F L 0 = a c 0 + 6) (fA : ArgOf (F L) (a c)) (f6 : F L 6 = (L + 1 + lnS a (c + 1) c3 : Nat)) (k0 : F (L + 1 + lnS a (c + 1) c3) 0 = 15) (k6 : F (L + 1 + lnS a (c + 1) c3) 6 = L) : FlS a F c c3 L := by
  have hc := hS.1
  have hl := lnS_blk (a := a) (c3 := c3) hb (by omega)
  have hn : nxt a c = c3 := by unfold nxt; omega
  intro i a1 a2
  by_cases q : i = c
  · subst q
    have epo : poS a i L i = L := by
      unfold poS
      rw [cn_false (fun j hj x => by omega)]
      omega
    have ecl : ecS a i c3 L i = L + 1 + lnS a (i + 1) c3 := by
      unfold ecS lnS bks
      rw [hn, cn_congr (Q := fun l => i + 1 ≤ l ∧ isBl a l) (fun l hl => ⟨fun x => ⟨by
        obtain ⟨x1, x2, x3⟩ := x
        by_cases e : l = i
        · rw [e, hn] at x3; omega
        · omega, x.2.1⟩, fun x => ⟨by omega, x.2, by have := (hS.nx x.1 hl).2; omega⟩⟩)]
      omega
    rw [epo, ecl]
    exact ⟨⟨by omega, by omega⟩, f0, fA, fun _ => ⟨⟨by omega, by omega⟩, f6, k0, k6⟩⟩
  · obtain ⟨⟨g1, g2⟩, g3, g4, g5⟩ := h i (by omega) a2
    have hni := hS.nx (show c + 1 ≤ i by omega) a2
    have epo : poS a c L i = poS a (c + 1) (L + 1) i := by
      unfold poS
      rw [cn_congr (Q := fun j => c + 1 ≤ j ∧ isBl a j ∧ nxt a j ≤ i) (fun j hj => ⟨fun x => ⟨by
        by_cases e : j = c
        · obtain ⟨x1, x2, x3⟩ := x; rw [e, hn] at x3; omega
        · have := x.1; omega, x.2⟩, fun x => ⟨by omega, x.2⟩⟩)]
      omega
    have ecl : ecS a c c3 L i = ecS a (c + 1) c3 (L + 1) i := by
      unfold ecS
      rw [cn_congr (Q := fun l => c + 1 ≤ l ∧ isBl a l ∧ (nxt a l < nxt a i ∨ nxt a l = nxt a i ∧ i < l)) (fun j hj => ⟨fun x => ⟨by
        by_cases e : j = c
        · obtain ⟨x1, x2, x3⟩ := x; rw [e, hn] at x3; omega
        · have := x.1; omega, x.2⟩, fun x => ⟨by omega, x.2⟩⟩)]
      omega
    rw [epo, ecl]
    exact ⟨⟨by omega, by omega⟩, g3, g4, fun hb => by
      obtain ⟨⟨f1, f2⟩, f3⟩ := g5 hb
      exact ⟨⟨by omega, by omega⟩, f3⟩⟩
theorem lnS_one (hb : ¬ isBl a c) : lnS a c (c + 1) = 1 := by
  unfold lnS bks
  rw [cn_false (fun j hj x => hb (by
    have e : j = c := by omega
    rw [← e]; exact x.2))]
  omega
theorem FlS.one (hb : ¬ isBl a c) (f0 : F L 0 = a c 0 + 6) (fA : ArgOf (F L) (a c)) : FlS a F c (c + 1) L := by
  intro i a1 a2
  obtain rfl : i = c := by omega
  have epo : poS a i L i = L := by
    unfold poS
    rw [cn_false (fun j hj x => by omega)]
    omega
  rw [epo, lnS_one hb]
  exact ⟨⟨by omega, by omega⟩, f0, fA, fun x => absurd x hb⟩
theorem SegOk.one (hb : ¬ isBl a c) (hc : c < 30) (h0 : 0 ≤ a c 0 ∧ a c 0 ≤ 8) (h6 : a c 6 = c + 1) (hw : wi ≤ 3) (hR : ArgR (a c)) : SegOk a c (c + 1) wi := by
  refine ⟨by omega, by omega, fun i a1 a2 => ?_⟩
  obtain rfl : i = c := by omega
  refine ⟨h0.1, h0.2, by omega, by omega, fun _ => h6, fun j g1 g2 => ?_, ?_, hR⟩
  · have : nxt a i = i + 1 := by unfold nxt; omega
    omega
  · rw [cn_false (fun j hj x => by omega)]
    omega
theorem SegOk.nil (hc : c ≤ 30) : SegOk a c c wi := ⟨Nat.le_refl _, hc, fun i a1 a2 => by omega⟩
theorem FlS.nil : FlS a F c c L := fun i a1 a2 => by omega
theorem lnS_nil : lnS a c c = 0 := by
  unfold lnS bks
  rw [cn_false (fun j hj x => by omega)]
  omega
theorem SegOk.cg (h : SegOk a c c1 wi) (e : ∀ i, c ≤ i → i < c1 → b i = a i) : SegOk b c c1 wi := by
  have en : ∀ i, c ≤ i → i < c1 → nxt b i = nxt a i := fun i h1 h2 => by unfold nxt; rw [e i h1 h2]
  refine ⟨h.1, h.2.1, fun i h1 h2 => ?_⟩
  obtain ⟨g1, g2, g3, g4, g5, g6, g7, g8⟩ := h.2.2 i h1 h2
  rw [e i h1 h2]
  refine ⟨g1, g2, g3, g4, fun x => g5 (fun y => x (by unfold isBl at y ⊢; rw [e i h1 h2]; exact y)), fun j a1 a2 => ?_, ?_, g8⟩
  · rw [en i h1 h2] at a2
    have := (h.nx h1 h2).2
    rw [e j (by omega) (by omega)]
    exact g6 j a1 a2
  · rw [cn_congr (Q := fun j => c ≤ j ∧ i < nxt a j) (fun j hj => ⟨fun x => ⟨x.1, by rw [← en j x.1 (by omega)]; exact x.2⟩, fun x => ⟨x.1, by rw [en j x.1 (by omega)]; exact x.2⟩⟩)]
    exact g7
theorem lnS_cg (e : ∀ i, c ≤ i → i < c1 → b i = a i) : lnS b c c1 = lnS a c c1 := by
  unfold lnS bks
  rw [cn_congr (Q := fun l => c ≤ l ∧ isBl a l) (fun j hj => ⟨fun x => ⟨x.1, by unfold isBl; rw [← e j x.1 hj]; exact x.2⟩, fun x => ⟨x.1, by unfold isBl; rw [e j x.1 hj]; exact x.2⟩⟩)]
theorem FlS.cgA (h : FlS a F c c1 L) (hS : SegOk a c c1 wi) (e : ∀ i, c ≤ i → i < c1 → b i = a i) : FlS b F c c1 L := by
  have en : ∀ i, c ≤ i → i < c1 → nxt b i = nxt a i := fun i h1 h2 => by unfold nxt; rw [e i h1 h2]
  have eb : ∀ i, c ≤ i → i < c1 → (isBl b i ↔ isBl a i) := fun i h1 h2 => by unfold isBl; rw [e i h1 h2]
  intro i h1 h2
  have epo : poS b c L i = poS a c L i := by
    unfold poS
    rw [cn_congr (Q := fun j => c ≤ j ∧ isBl a j ∧ nxt a j ≤ i) (fun j hj => ⟨fun x => ⟨x.1, (eb j x.1 (by omega)).mp x.2.1, by rw [← en j x.1 (by omega)]; exact x.2.2⟩, fun x => ⟨x.1, (eb j x.1 (by omega)).mpr x.2.1, by rw [en j x.1 (by omega)]; exact x.2.2⟩⟩)]
  have ecl : ecS b c c1 L i = ecS a c c1 L i := by
    unfold ecS
    rw [en i h1 h2, cn_congr (Q := fun l => c ≤ l ∧ isBl a l ∧ (nxt a l < nxt a i ∨ nxt a l = nxt a i ∧ i < l)) (fun j hj => ⟨fun x => ⟨x.1, (eb j x.1 (by omega)).mp x.2.1, by rw [← en j x.1 (by omega)]; exact x.2.2⟩, fun x => ⟨x.1, (eb j x.1 (by omega)).mpr x.2.1, by rw [en j x.1 (by omega)]; exact x.2.2⟩⟩)]
  rw [epo, ecl, lnS_cg e, e i h1 h2]
  obtain ⟨g1, g2, g3, g4⟩ := h i h1 h2
  exact ⟨g1, g2, g3, fun x => g4 ((eb i h1 h2).mp x)⟩
/-- all of it -/
theorem SegOk.scr (h : SegOk a 0 n 0) : ScOk (n, a) := by
  refine ⟨h.2.1, fun i hi => ?_⟩
  obtain ⟨g1, g2, g3, g4, g5, g6, g7, g8⟩ := h.2.2 i (Nat.zero_le _) hi
  refine ⟨g1, g2, g3, g4, g5, g6, ?_, g8⟩
  rw [cn_congr (P := fun j => 0 ≤ j ∧ i < nxt a j) (Q := fun j => i < nxt a j) (fun j _ => ⟨fun x => x.2, fun x => ⟨Nat.zero_le _, x⟩⟩)] at g7
  exact g7
theorem FlS.scr (h : FlS a F 0 n 0) : FlatOf (lnS a 0 n) F (n, a) := by
  have eL : lnS a 0 n = n + cn n (isBl a) := by
    unfold lnS bks
    rw [cn_congr (Q := isBl a) (fun j _ => ⟨fun x => x.2, fun x => ⟨Nat.zero_le _, x⟩⟩)]
    rfl
  have epo : ∀ i, poS a 0 0 i = fpo a i := fun i => by
    unfold poS fpo
    rw [cn_congr (Q := fun j => isBl a j ∧ nxt a j ≤ i) (fun j _ => ⟨fun x => x.2, fun x => ⟨Nat.zero_le _, x⟩⟩)]
    omega
  have ecl : ∀ i, ecS a 0 n 0 i = fcl (n, a) i := fun i => by
    unfold ecS fcl
    rw [cn_congr (Q := fun l => isBl a l ∧ (nxt a l < nxt a i ∨ nxt a l = nxt a i ∧ i < l)) (fun j _ => ⟨fun x => x.2, fun x => ⟨Nat.zero_le _, x⟩⟩)]
    show 0 + (nxt a i - 0) + cn n (fun l => isBl a l ∧ (nxt a l < nxt a i ∨ nxt a l = nxt a i ∧ i < l)) = nxt a i + cn n (fun l => isBl a l ∧ (nxt a l < nxt a i ∨ nxt a l = nxt a i ∧ i < l))
    omega
  refine ⟨eL, fun i hi => ?_⟩
  obtain ⟨⟨g1, g2⟩, g3, g4, g5⟩ := h i (Nat.zero_le _) hi
  rw [epo] at g1 g2 g3 g4 g5
  refine ⟨by show fpo a i < _; omega, g3, g4, fun hb => ?_⟩
  obtain ⟨⟨f1, f2⟩, f3, f4, f5⟩ := g5 hb
  rw [ecl] at f1 f2 f3 f4 f5
  exact ⟨by show fcl (n, a) i < _; omega, f3, f4, f5⟩
end SEGS
