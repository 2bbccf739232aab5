/-! WHAT THE MACHINE THROWS BY ITSELF: out of a method without handlers, and caught by the caller. -/
set_option maxRecDepth 100000
section JTHROW
variable {τ ρ : Type} {D : va_G} {dA : Nat → ClassId} {β : Bool} {Y : JY} {env : List (Nat × Value)} {pu : List Value} {pc : Nat} {F : JF Mem τ}
/-- the memory behind a throw of the machine's own: z cells more, of which nothing is known but the thrown one's class -/
def jbumpM (M : Mem) (z c s : Nat) : Mem := (M.1, M.2.1, M.2.2.1, M.2.2.2.1, mZ M + z, mC M - c, mS M - s, mT M)
def jbump (z c s : Nat) : JM Mem Unit := fun M => if c ≤ mC M ∧ s ≤ mS M then some (.ok (), jbumpM M z c s) else none
theorem std_bump {R : Room} {A : Nat → Prop} {H0 : Heap} {M : Mem} {H H1 : Heap} {locs : List Loc} {cells slots z c s : Nat} (hi : jstd D dA true R A H0 M H locs cells slots) (hb : c ≤ mC M ∧ s ≤ mS M) (hz : H1.size = H.size + z) (he : ∀ q : Nat, q < H.size → H1[q]? = H[q]?) : jstd D dA true R A H0 (jbumpM M z c s) H1 locs (cells + c) (slots + s) := by
  obtain ⟨q1, q2, q3, q4⟩ := hi
  have hsz : H.size = mZ M := q1.1
  refine ⟨⟨by rw [hz, hsz]; rfl, q1.2.1, fun b d hb9 => ?_⟩, ⟨by have := q2.1; omega, fun q g1 g2 => ?_, q2.2.2⟩, q3, ?_⟩
  · obtain ⟨g1, g2⟩ := q1.2.2 b d hb9
    exact ⟨g1, g2.kept (he b g2.lt)⟩
  · rw [he q (Nat.lt_of_lt_of_le g1 q2.1)]
    exact q2.2.1 q g1 g2
  · have a1 := q4.1
    have a2 := q4.2
    exact ⟨by show cells + c + (mC M - c) ≤ R.cells; omega, by show slots + s + (mS M - s) ≤ R.slots; omega⟩
/-- E was thrown at pc: the cell q holds it, the memory is M -/
def JXat (E : String) (Γ : JC Mem) (pc : Nat) (env : List (Nat × Value)) (q : Nat) (M : Mem) : Prop :=
  ∀ (H : Heap) (locs : List Loc) (cells slots : Nat) (ls : Array Slot) (st : List Value) (ce : Cell), jcI Γ M H locs cells slots → lv_has ls (jcC Γ).maxLocals env → H[q]? = some ce → ce.vm = .none → (jcS Γ).vm.findClass E = some ce.cls →
    vx_W (jcP Γ) (jcL Γ) (jcE Γ) (jcR Γ) (jcS Γ) (jcM Γ) (jcA Γ) (jcB Γ) (jcH Γ) (jcC Γ) H locs cells slots (jcQ Γ) (F0 (jcM Γ) pc ls st) q
theorem j_words {Γ : JC Mem} (ok : JOk Y Γ) (hKK : KK D dA (jcS Γ)) {w : Cond} (h : w ∈ lw_all ∨ (w ∈ lw_tbl ∧ jnwOk w = true ∧ w.onTables = true)) : w.before (jcA Γ) (jcS Γ) = true := by
  rcases h with h | ⟨h, h1, h2⟩
  · exact ok.hts w h
  · exact va_Nw.use (A := jcA Γ) h2 (hKK.2 _ (jnw_in h h1))
theorem j_note {Γ : JC Mem} (ok : JOk Y Γ) (hP : PM D dA true Γ) {cls text : String} {names : List String} {nb : Nat} {M : Mem} {H : Heap} {locs : List Loc} {cells slots : Nat} {ls : Array Slot}
    (hd : 110 ≤ Y.2.2.2.1) (hcls : Bundle.fit cls = true) (hnames : ∀ n ∈ names, Bundle.fit n = true) (hlen : names.length ≤ 8) (hsoe : (cls == "java/lang/StackOverflowError") = false) (hoom : (cls == "java/lang/OutOfMemoryError") = false)
    (hat : ∀ w ∈ vx_atM cls names, w ∈ lw_all ∨ (w ∈ lw_tbl ∧ jnwOk w = true ∧ w.onTables = true)) (hgood : ∀ w ∈ vx_atM cls names, vx_ot w = true) (htext : (text == notModelled) = false) (hnb : (stringBytes (stringToUtf16 text)).size ≤ nb) (hnb1 : nb ≤ 1000) (hb : 3 ≤ mC M ∧ nb + 10 ≤ mS M) (hcat : JCat pu)
    (hi : jcI Γ M H locs cells slots) (hl : lv_has ls (jcC Γ).maxLocals env) (hX : JXat cls Γ pc env (mZ M + 2) (jbumpM M 3 3 (nb + 10))) :
    vx_Note (jcP Γ) (jcL Γ) (jcE Γ) (jcR Γ) (jcS Γ) (jcM Γ) (jcA Γ) (jcB Γ) (jcH Γ) (jcC Γ) H locs cells slots (jcQ Γ) (F0 (jcM Γ) pc ls pu) cls text := by
  obtain ⟨A, H0, hIΓ, hKK, hA, hFG⟩ := hP
  have hi2 := hi
  rw [hIΓ] at hi2
  have e0 : (jcS Γ).heap = H0 := hFG.2.2.2.2.2.2.2
  have hfr := ok.fr
  have hlo := ok.lo
  have hcat : (pu.map fun v => v.category).sum ≤ 8 := hcat
  have b1 := hi2.2.2.2.1
  have b2 := hi2.2.2.2.2
  refine jx_vm (A := A) (names := names) (nb := nb) ok.exec ok.st hcls hnames hsoe hoom (fun w hw => j_words ok hKK (hat w hw)) hgood (by rw [e0]; exact hFG.2.2.2.2.2.1.1) (by rw [e0]; exact hFG.2.2.2.2.2.1.2) (by rw [e0]; exact hi2.2.1) hl.1 htext hnb hnb1 (by omega) (by omega) (by omega) (by omega) (by omega) ok.locks (fun H1 q9 ce hz hq he hS1 hce hv hcl => ?_)
  have hz9 : H.size = mZ M := hi2.1.1
  refine hX H1 locs (cells + 3) (slots + (nb + 10)) ls pu ce ?_ hl (by rw [← hz9, ← hq]; exact hce) hv hcl |> fun h => by rw [hq, hz9]; exact h
  rw [hIΓ]
  exact std_bump hi2 hb hz he
theorem j_noteN {Γ : JC Mem} (ok : JOk Y Γ) (hP : PM D dA true Γ) {nb : Nat} {M : Mem} {H : Heap} {locs : List Loc} {cells slots : Nat} {ls : Array Slot}
    (hd : 110 ≤ Y.2.2.2.1) (hat : ∀ w ∈ vx_atN nb, w ∈ lw_all ∨ (w ∈ lw_tbl ∧ jnwOk w = true ∧ w.onTables = true)) (hgood : ∀ w ∈ vx_atN nb, vx_ot w = true) (hb : 1 ≤ mC M ∧ nb ≤ mS M) (hcat : JCat pu)
    (hi : jcI Γ M H locs cells slots) (hl : lv_has ls (jcC Γ).maxLocals env) (hX : JXat "java/lang/NullPointerException" Γ pc env (mZ M) (jbumpM M 1 1 nb)) :
    vx_NoteN (jcP Γ) (jcL Γ) (jcE Γ) (jcR Γ) (jcS Γ) (jcM Γ) (jcA Γ) (jcB Γ) (jcH Γ) (jcC Γ) H locs cells slots (jcQ Γ) (F0 (jcM Γ) pc ls pu) := by
  obtain ⟨A, H0, hIΓ, hKK, hA, hFG⟩ := hP
  have hi2 := hi
  rw [hIΓ] at hi2
  have e0 : (jcS Γ).heap = H0 := hFG.2.2.2.2.2.2.2
  have hfr := ok.fr
  have hlo := ok.lo
  have hcat : (pu.map fun v => v.category).sum ≤ 8 := hcat
  have b1 := hi2.2.2.2.1
  have b2 := hi2.2.2.2.2
  refine jx_npe (A := A) (nb := nb) ok.exec ok.st (fun w hw => j_words ok hKK (hat w hw)) hgood (by rw [e0]; exact hFG.2.2.2.2.2.1.1) (by rw [e0]; exact hFG.2.2.2.2.2.1.2) (by rw [e0]; exact hi2.2.1) hl.1 (by omega) (by omega) (by omega) (by omega) ok.locks (fun H1 q9 ce hz hq he hS1 hce hv hcl => ?_)
  have hz9 : H.size = mZ M := hi2.1.1
  refine hX H1 locs (cells + 1) (slots + nb) ls pu ce ?_ hl (by rw [← hz9, ← hq]; exact hce) hv hcl |> fun h => by rw [hq, hz9]; exact h
  rw [hIΓ]
  exact std_bump hi2 hb hz he
def jNE : String := "java/lang/NegativeArraySizeException"
def jNU : List String := ["java/lang/RuntimeException", "java/lang/Exception"]
def jAE : String := "java/lang/ArrayIndexOutOfBoundsException"
def jAU : List String := ["java/lang/IndexOutOfBoundsException", "java/lang/RuntimeException", "java/lang/Exception"]
def jmemB (l : List Cond) : Bool := l.all fun w => (decide (w ∈ lw_all) || (decide (w ∈ lw_tbl) && (jnwOk w && w.onTables))) && vx_ot w
theorem jmemB_1 {l : List Cond} (h : jmemB l = true) : ∀ w ∈ l, w ∈ lw_all ∨ (w ∈ lw_tbl ∧ jnwOk w = true ∧ w.onTables = true) := fun w hw => by
  have h1 := List.all_eq_true.mp h w hw
  simp only [Bool.and_eq_true, Bool.or_eq_true, decide_eq_true_eq] at h1
  rcases h1.1 with h2 | h2
  · exact Or.inl h2
  · exact Or.inr ⟨h2.1, h2.2.1, h2.2.2⟩
theorem jmemB_2 {l : List Cond} (h : jmemB l = true) : ∀ w ∈ l, vx_ot w = true := fun w hw => by
  have h1 := List.all_eq_true.mp h w hw
  simp only [Bool.and_eq_true] at h1
  exact h1.2
theorem jNB : jmemB (vx_atM jNE jNU) = true := by decide +kernel
theorem jAB : jmemB (vx_atM jAE jAU) = true := by decide +kernel
theorem jPB : jmemB (vx_atN 8) = true := by decide +kernel
end JTHROW
