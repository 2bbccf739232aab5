/-! THE COMPONENT: spans of vectors in a tray. -/
set_option maxRecDepth 100000
section CMP18
variable {α τ ρ : Type} {M M' : Mem} {N N' : NM} {c t a n k m len s : Nat} {p : Int} {T : Nat → Nat → Nat → Int} {V : Nat → Int} {G : Nat → Nat → Int}
theorem w_isVector {f : Int32 → JM Mem τ} {Q : τ → Mem → NM → Prop} {v : Int} (hC : CL M c) (hD : WD N (c + 6) p n T) (hv : zRL v) (h : GN M N (f (zI (if 0 ≤ v ∧ v < p ^ n then 1 else 0))) Q) : GN M N (jb (jcall 0 c (f_X0_isVector c (zL v))) f) Q := by
  have hpw := pow_bd hD.pb n hD.n5
  refine w_Cc hC ?_
  unfold f_X0_isVector
  rw [show (0 : Int64) = zL 0 from rfl]
  refine w_ltL hv ⟨by omega, by omega⟩ (fun hc => ?_) (fun hc => ?_)
  · rw [if_neg (by omega)] at h; rw [z_0]; exact w_jp h
  refine w_Cf hC rfl ?_
  refine w_vectors hC.w6 hD ?_
  rw [zL_int ⟨by omega, by omega⟩]
  by_cases e : p ^ n ≤ v
  · rw [if_pos ((zL_le ⟨by omega, by omega⟩ hv).mpr e), z_0]
    rw [if_neg (by omega)] at h; exact w_jp h
  · rw [if_neg (fun x => e ((zL_le ⟨by omega, by omega⟩ hv).mp x)), z_1]
    rw [if_pos (by omega)] at h; exact w_jp h
/-- what vectors of a tray span -/
def Vsp (p : Int) (n many : Nat) (V : Nat → Int) : VS := Rs p n many (fun r => dgv p n (V r))
theorem w_spans {f : Unit → JM Mem τ} {Q : τ → Mem → NM → Prop} {many : Nat} (hC : CL M c) (ht : t < 4) (hD : WD N (c + 6) p n T) (hS : SL M s) (hs : c + 76 ≤ s ∧ s + 8 ≤ c + 1567 ∧ (s + 8 ≤ c + 258 ∨ c + 262 ≤ s)) (hT : TrR M N (c + 258 + t) len V) (hra : ∀ a, mR M (c + 258 + t) 0 = some a → a < c ∨ c + 1567 ≤ a) (hm : many ≤ len) (hV : ∀ i, i < many → 0 ≤ V i ∧ V i < p ^ n)
    (h : ∀ N' m R ld, SpD N' s p n m R ld (Vsp p n many V) → (∀ b, b ≠ c + 74 → b < s ∨ s + 8 ≤ b → N' b = N b) → GN M N' (f ()) Q) : GN M N (jb (jcall 0 c (f_X0_spans c s (zI t) (zI many))) f) Q := by
  have hpb := hD.pb
  have hp := hD.pr
  have hn5 := hD.n5
  have hW := hC.w6
  have hpw := pow_bd hpb n hn5
  obtain ⟨htr, htk⟩ := hC.tr ht
  have h1 := hC.ka (o := 1) (d := (9, 4)) rfl
  have h74 := hC.ka (o := 74) (d := (0, 5)) rfl
  have hl : len ≤ 100000 := by obtain ⟨a, _, hl, _⟩ := hT; exact hl
  have frd : ∀ N1 : NM, (∀ b, b ≠ c + 74 → b < s ∨ s + 8 ≤ b → N1 b = N b) → WD N1 (c + 6) p n T := fun N1 g => hD.fr (fun b h1 h2 => g b (by omega) (by omega))
  have frt : ∀ N1 : NM, (∀ b, b ≠ c + 74 → b < s ∨ s + 8 ≤ b → N1 b = N b) → TrR M N1 (c + 258 + t) len V := fun N1 g => hT.fr (g _ (by omega) (by omega)) (fun a ha => g a (by have := hra a ha; omega) (by have := hra a ha; omega))
  refine w_Cc hC ?_
  unfold f_X0_spans
  rw [z_0]
  refine w_putI hS.1 ?_
  have f0 : ∀ b, b ≠ c + 74 → b < s ∨ s + 8 ≤ b → up2 N s 2 0 b = N b := fun b _ hb => funext fun k => if_neg (fun e => by omega)
  have hz : Rs p n 0 (fun r => dgv p n (V r)) = Zs p n := by
    rw [← Gn.nil]
    exact congrArg (Gn p n) (vs_anti (fun _ ⟨r, hr, _⟩ => by omega) (fun _ h => h.elim))
  have hs0 : SpD (up2 N s 2 0) s p n 0 (fun _ _ => 0) (fun _ => 0) (Rs p n 0 (fun r => dgv p n (V r))) := by
    rw [hz]
    exact SpD.nil (if_pos ⟨rfl, rfl⟩) hp
  generalize up2 N s 2 0 = N0 at f0 hs0
  refine w_up many (fun i N1 => (∃ m R ld, SpD N1 s p n m R ld (Rs p n i (fun r => dgv p n (V r)))) ∧ ∀ b, b ≠ c + 74 → b < s ∨ s + 8 ≤ b → N1 b = N b) 0 rfl (by omega) ⟨⟨_, _, _, hs0⟩, f0⟩ ?_
  rintro i N1 hi ⟨⟨m1, R1, ld1, hs1⟩, f1⟩
  unfold X0_spans_L8
  refine w_le ⟨by omega, by omega⟩ ⟨by omega, by omega⟩ (fun hd => ?_) (fun hd => ?_)
  · obtain rfl : i = many := by omega
    exact w_jinl (w_jp (h N1 m1 R1 ld1 hs1 f1))
  have hVi := hV i (by omega)
  refine w_Cf hC rfl ?_
  refine w_Cf hC rfl ?_
  refine w_aldA h1 (by omega) (by omega) htr ?_
  refine w_get htk (frt N1 f1) (by omega) ?_
  rw [show ((i : Int).toNat) = i from rfl, zI_long]
  refine w_Cf hC rfl ?_
  refine w_parts hW (frd N1 f1) (by omega) h74 (by omega) (by omega) ?_
  have f2 : ∀ b, b ≠ c + 74 → b < s ∨ s + 8 ≤ b → wr5 N1 (c + 74) (dgv p n (V i)) b = N b := fun b h1 h2 => by rw [wr5_ne h1, f1 b h1 h2]
  have hs2 : SpD (wr5 N1 (c + 74) (dgv p n (V i))) s p n m1 R1 ld1 (Rs p n i (fun r => dgv p n (V r))) := hs1.fr (fun b h1 h2 _ => wr5_ne (by omega)) hp hn5
  have hv2 : VD (wr5 N1 (c + 74) (dgv p n (V i))) (c + 74) p n (dgv p n (V i)) := ⟨fun k hk => wr5_at hk, fun k => dgv_bd (by omega) k⟩
  show GN M (wr5 N1 (c + 74) (dgv p n (V i))) _ _
  generalize wr5 N1 (c + 74) (dgv p n (V i)) = N2 at f2 hs2 hv2
  refine w_Cf hC rfl ?_
  refine w_Cf hC rfl ?_
  refine w_add hS hW (frd N2 f2) hs2 h74 (by omega) (X := dgv p n (V i)) hv2 (by omega) (by omega) (by omega) (fun N3 m3 R3 ld3 x hs3 hx f3 => ?_)
  rw [z_1, zI_add]
  refine w_jcont ⟨by omega, rfl, ⟨m3, R3, ld3, ?_⟩, fun b h1 h2 => by rw [f3 b h1 h2, f2 b h1 h2]⟩
  have e := Rs.succ (p := p) (n := n) (B := fun r => dgv p n (V r)) (k := i)
  rw [← e]
  exact hs3
end CMP18
