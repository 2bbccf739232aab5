/-! THE COMPONENT: numbers of trays. -/
set_option maxRecDepth 100000
section CMP16
variable {α τ ρ : Type} {M M' : Mem} {N N' : NM} {c t a n k m len : Nat} {p : Int} {T : Nat → Nat → Nat → Int} {V : Nat → Int} {G : Nat → Nat → Int}
/-- what a tray holds -/
def TrO (M : Mem) (N : NM) (t : Nat) : Option (Nat × (Nat → Int)) → Prop
  | none => mR M t 0 = none
  | some r => TrR M N t r.1 r.2
noncomputable def wnN (many : Nat) (least great : Int) : Option (Nat × (Nat → Int)) → Int
  | none => 3
  | some r => if r.1 < many then 4 else @ite _ (∀ i, i < many → least ≤ r.2 i ∧ r.2 i ≤ great) (Classical.propDecidable _) 0 5
theorem w_wrongNumbers {f : Int32 → JM Mem τ} {Q : τ → Mem → NM → Prop} {o : Option (Nat × (Nat → Int))} {many : Nat} {least great : Int} (hC : CL M c) (ht : t < 4) (hT : TrO M N (c + 258 + t) o) (hm : many ≤ 1000) (hl : zR least) (hg : zR great)
    (h : GN M N (f (zI (wnN many least great o))) Q) : GN M N (jb (jcall 0 c (f_X0_wrongNumbers c (zI t) (zI many) (zI least) (zI great))) f) Q := by
  obtain ⟨htr, htk⟩ := hC.tr ht
  have h1 := hC.ka (o := 1) (d := (9, 4)) rfl
  refine w_Cc hC ?_
  unfold f_X0_wrongNumbers
  refine w_isTray ⟨by omega, by omega⟩ ?_
  rw [show (if 0 ≤ (t : Int) ∧ (t : Int) < 4 then (1 : Int) else 0) = 1 from if_pos (by omega), z_0]
  refine w_eq ⟨by omega, by omega⟩ ⟨by omega, by omega⟩ (fun x => absurd x (by omega)) (fun _ => ?_)
  refine w_Cf hC rfl ?_
  refine w_aldA h1 (by omega) (by omega) htr ?_
  refine w_getO htk ?_
  match o, hT, h with
  | none, hT, h =>
    have hT : mR M (c + 258 + t) 0 = none := hT
    rw [if_pos hT]
    exact w_jp h
  | some (len, V), hT, h =>
    have hT : TrR M N (c + 258 + t) len V := hT
    obtain ⟨a, ha, hla, _⟩ := hT
    rw [if_neg (by rw [ha]; exact fun x => by cases x)]
    refine w_many htk hT ?_
    refine w_le ⟨by omega, by omega⟩ ⟨by omega, by omega⟩ (fun hc => ?_) (fun hc => ?_)
    rotate_left
    · have e : wnN many least great (some (len, V)) = 4 := by
        show (if len < many then (4 : Int) else _) = 4
        rw [if_pos (by omega)]
      rw [e] at h
      exact w_jp h
    have e : wnN many least great (some (len, V)) = @ite _ (∀ i, i < many → least ≤ V i ∧ V i ≤ great) (Classical.propDecidable _) 0 5 := by
      show (if len < many then (4 : Int) else _) = _
      rw [if_neg (by omega)]
    rw [e] at h
    refine w_up many (fun i N1 => N1 = N ∧ ∀ j, j < i → least ≤ V j ∧ V j ≤ great) 0 rfl (by omega) ⟨rfl, fun j hj => absurd hj (by omega)⟩ ?_
    rintro i N1 hi ⟨rfl, h2⟩
    unfold X0_wrongNumbers_L41
    refine w_le ⟨by omega, by omega⟩ ⟨by omega, by omega⟩ (fun hd => ?_) (fun hd => ?_)
    · rw [if_pos (fun j hj => h2 j (by omega))] at h
      exact w_jinl (w_jp h)
    have hil : i < len := by omega
    refine w_get htk hT (by omega) ?_
    rw [show ((i : Int).toNat) = i from rfl, zL_int hl, zL_int hg]
    refine w_isFrom (hT.rng hil) (zRL_of hl) (zRL_of hg) ?_
    rw [z_0]
    by_cases e2 : least ≤ V i ∧ V i ≤ great
    · rw [if_pos e2]
      refine w_eq ⟨by omega, by omega⟩ ⟨by omega, by omega⟩ (fun x => absurd x (by omega)) (fun _ => ?_)
      rw [z_1, zI_add]
      refine w_jcont ⟨by omega, rfl, rfl, fun j hj => ?_⟩
      by_cases e3 : j = i
      · rw [e3]; exact e2
      · exact h2 j (by omega)
    · rw [if_neg e2]
      refine w_eq ⟨by omega, by omega⟩ ⟨by omega, by omega⟩ (fun _ => ?_) (fun x => absurd rfl x)
      rw [if_neg (fun x => e2 (x i (by omega)))] at h
      exact w_jinl (w_jp h)
end CMP16
