/-! THE COMPONENT: a form is read. -/
set_option maxRecDepth 100000
section CMP17
variable {α τ ρ : Type} {M M' : Mem} {N N' : NM} {c t a n k m len : Nat} {p : Int} {T : Nat → Nat → Nat → Int} {V : Nat → Int} {G : Nat → Nat → Int}
def cpi (n i j : Nat) : Int := (i : Int) * n - (i : Int) * ((i : Int) + 1) / 2 + j - i - 1
theorem cpi_next : ∀ n i, n ≤ 5 → i < n → cpi n i n = cpi n (i + 1) (i + 1 + 1) := by
  intro n i hn hi
  have h1 : n = 1 ∨ n = 2 ∨ n = 3 ∨ n = 4 ∨ n = 5 := by omega
  have h2 : i = 0 ∨ i = 1 ∨ i = 2 ∨ i = 3 ∨ i = 4 := by omega
  rcases h1 with rfl | rfl | rfl | rfl | rfl <;> rcases h2 with rfl | rfl | rfl | rfl | rfl <;> first | omega | decide
theorem TrR.fr {M : Mem} (h : TrR M N t len V) (h1 : N' t = N t) (h2 : ∀ a, mR M t 0 = some a → N' a = N a) : TrR M N' t len V := by
  obtain ⟨a, ha, hl, h⟩ := h
  refine ⟨a, ha, hl, ?_⟩
  rw [h1, h2 a ha]
  exact h
theorem w_reads {f : Unit → JM Mem τ} {Q : τ → Mem → NM → Prop} (hC : CL M c) (ht : t < 4) (hD : WD N (c + 6) p n T) (hT : TrR M N (c + 258 + t) len V) (hra : ∀ a, mR M (c + 258 + t) 0 = some a → a < c ∨ c + 1567 ≤ a) (hl : (n : Int) * ((n : Int) - 1) / 2 ≤ len) (hV : ∀ i, i < len → (i : Int) < (n : Int) * ((n : Int) - 1) / 2 → 0 ≤ V i ∧ V i < p)
    (h : ∀ N', (∀ i j, i < n → j < n → N' (c + 217 + 1 + i) j = frm n V i j % p) → (∀ b, b < c + 218 ∨ c + 223 ≤ b → N' b = N b) → GN M N' (f ()) Q) : GN M N (jb (jcall 0 c (f_X0_reads c (zI t))) f) Q := by
  have hpb := hD.pb
  have hn5 := hD.n5
  have hW := hC.w6
  obtain ⟨htr, htk⟩ := hC.tr ht
  have h1 := hC.ka (o := 1) (d := (9, 4)) rfl
  have h217 := hC.ka (o := 217) (d := (5, 5)) rfl
  have frd : ∀ N1 : NM, (∀ b, b < c + 218 ∨ c + 223 ≤ b → N1 b = N b) → WD N1 (c + 6) p n T := fun N1 g => hD.fr (fun b h1 h2 => g b (by omega))
  have frt : ∀ N1 : NM, (∀ b, b < c + 218 ∨ c + 223 ≤ b → N1 b = N b) → TrR M N1 (c + 258 + t) len V := fun N1 g => hT.fr (g _ (by omega)) (fun a ha => g a (by have := hra a ha; omega))
  refine w_Cc hC ?_
  unfold f_X0_reads
  rw [z_0]
  refine w_up2 n (fun i x N1 => x = cpi n i (i + 1) ∧ (∀ a b, a < n → b < n → a < i ∨ b < i → N1 (c + 217 + 1 + a) b = frm n V a b % p) ∧ ∀ b, b < c + 218 ∨ c + 223 ≤ b → N1 b = N b) 0 0 rfl (by omega) ⟨by unfold cpi; omega, fun a b _ _ h => absurd h (by omega), fun _ _ => rfl⟩ ?_
  rintro i x N1 hi ⟨rfl, g1, g2⟩
  show GN M N1 (X0_reads_L4 c (zI _) (zI _) (zI _)) _
  unfold X0_reads_L4
  refine w_Cf hC rfl ?_
  refine w_Wp hW ?_
  rw [(frd N1 g2).ne]
  refine w_le ⟨by omega, by omega⟩ ⟨by omega, by omega⟩ (fun hd => ?_) (fun hd => ?_)
  · exact w_jinl (w_jp (h N1 (fun a b ha hb => g1 a b ha hb (by omega)) g2))
  have hin : i < n := by omega
  have hgi := hC.gr i (show i < 5 by omega)
  rw [z_1, zI_add]
  refine w_jlet ?_
  refine w_up2 n (fun j x N2 => i < j ∧ x = cpi n i j ∧ (∀ a b, a < n → b < n → a < i ∨ b < i ∨ a = i ∧ i < b ∧ b < j ∨ b = i ∧ i < a ∧ a < j → N2 (c + 217 + 1 + a) b = frm n V a b % p) ∧ ∀ b, b < c + 218 ∨ c + 223 ≤ b → N2 b = N b) (i + 1) (cpi n i (i + 1)) (by rfl) (by omega)
    ⟨by omega, rfl, fun a b ha hb hx => g1 a b ha hb (by omega), g2⟩ ?_
  rintro j x N2 hj ⟨hij, rfl, k1, k2⟩
  show GN M N2 (X0_reads_L20 c (zI _) (zI _) (zI _) (zI _)) _
  unfold X0_reads_L20
  refine w_Cf hC rfl ?_
  refine w_Wp hW ?_
  rw [(frd N2 k2).ne]
  refine w_le ⟨by omega, by omega⟩ ⟨by omega, by omega⟩ (fun he => ?_) (fun he => ?_)
  · obtain rfl : j = n := by omega
    unfold X0_reads_b87
    refine w_jinl ?_
    refine w_Cf hC rfl ?_
    refine w_R1 h217 hC.gr (by omega) (by omega) ?_
    rw [z_0]
    refine w_ast hgi.2 (by omega) (by omega) ?_
    rw [show ((i : Int).toNat) = i from rfl, z_1, zI_add]
    refine w_jcont ⟨hin, _, rfl, cpi_next j i hn5 hin, fun a b ha hb hx => ?_, fun b hb => ?_⟩
    · show (if c + 217 + 1 + a = c + 217 + 1 + i ∧ b = i then (0 : Int) else N2 (c + 217 + 1 + a) b) = _
      by_cases e : a = i ∧ b = i
      · rw [e.1, e.2, if_pos ⟨rfl, rfl⟩]
        unfold frm
        rw [if_pos rfl, Int.zero_emod]
      · rw [if_neg (by omega)]
        exact k1 a b ha hb (by omega)
    · funext l
      show (if b = c + 217 + 1 + i ∧ _ then _ else N2 b l) = _
      rw [if_neg (by omega), k2 b hb]
  have hjn : j < n := by omega
  have hgj := hC.gr j (show j < 5 by omega)
  have hcp := cpl_lt n hn5 i j hij hjn
  have hx : cpi n i j = (cpl n i j : Nat) := hcp.1.symm
  have hv := hV (cpl n i j) (by omega) hcp.2
  refine w_Cf hC rfl ?_
  refine w_R1 h217 hC.gr (by omega) (by omega) ?_
  refine w_Cf hC rfl ?_
  refine w_aldA h1 (by omega) (by omega) htr ?_
  rw [hx]
  refine w_get htk (frt N2 k2) (by omega) ?_
  rw [show (((cpl n i j : Nat) : Int).toNat) = cpl n i j from rfl, zI_long]
  refine w_ast hgi.2 (by omega) (by omega) ?_
  rw [show ((j : Int).toNat) = j from rfl]
  have f3 : ∀ b, b < c + 218 ∨ c + 223 ≤ b → up2 N2 (c + 217 + 1 + i) j (V (cpl n i j)) b = N b := fun b hb => by
    funext l
    show (if b = c + 217 + 1 + i ∧ _ then _ else N2 b l) = _
    rw [if_neg (by omega), k2 b hb]
  have e3 : ∀ a b, up2 N2 (c + 217 + 1 + i) j (V (cpl n i j)) (c + 217 + 1 + a) b = if a = i ∧ b = j then V (cpl n i j) else N2 (c + 217 + 1 + a) b := fun a b => by
    show (if c + 217 + 1 + a = c + 217 + 1 + i ∧ b = j then _ else _) = _
    by_cases e : a = i ∧ b = j
    · rw [if_pos e, if_pos (by omega)]
    · rw [if_neg e, if_neg (by omega)]
  generalize up2 N2 (c + 217 + 1 + i) j (V (cpl n i j)) = N3 at f3 e3
  refine w_Cf hC rfl ?_
  refine w_R1 h217 hC.gr (by omega) (by omega) ?_
  refine w_Cf hC rfl ?_
  refine w_Cf hC rfl ?_
  refine w_R1 h217 hC.gr (by omega) (by omega) ?_
  refine w_ald hgi.2 (by omega) (by omega) ?_
  rw [show ((j : Int).toNat) = j from rfl, e3, if_pos ⟨rfl, rfl⟩, zI_neg]
  refine w_by hW (by rw [(frd N3 f3).pe]; omega) ⟨by omega, by omega⟩ ?_
  rw [(frd N3 f3).pe]
  refine w_ast hgj.2 (by omega) (by omega) ?_
  rw [show ((i : Int).toNat) = i from rfl, z_1, zI_add, zI_add]
  refine w_jcont ⟨hjn, _, rfl, by omega, ?_, fun a b ha hb hy => ?_, fun b hb => ?_⟩
  · rw [← hx]; unfold cpi; omega
  · show (if c + 217 + 1 + a = c + 217 + 1 + j ∧ b = i then (-V (cpl n i j)) % p else N3 (c + 217 + 1 + a) b) = _
    by_cases e : a = j ∧ b = i
    · rw [e.1, e.2, if_pos ⟨rfl, rfl⟩]
      unfold frm
      rw [if_neg (by omega), if_neg (by omega)]
    · rw [if_neg (by omega), e3]
      by_cases e4 : a = i ∧ b = j
      · rw [if_pos e4, e4.1, e4.2]
        unfold frm
        rw [if_neg (by omega), if_pos hij, Int.emod_eq_of_lt hv.1 hv.2]
      · rw [if_neg e4]
        exact k1 a b ha hb (by omega)
  · funext l
    show (if b = c + 217 + 1 + j ∧ _ then _ else N3 b l) = _
    rw [if_neg (by omega), f3 b hb]
end CMP17
