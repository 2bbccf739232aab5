/-! OPS, sixth part: sameAs, keep, take. -/
set_option maxRecDepth 100000
section OPS6
variable {α τ : Type} {M M' M1 M2 : Mem} {N N' N1 : NM} {c m i : Nat} {u v w k s : Int} {S S' : St} {p : Int} {n : Nat} {T F : Nat → Nat → Nat → Int}
noncomputable def a_sameAs (S : St) (s : Int) : St × Int := if 0 ≤ s ∧ s < 4 then (match S.1.2.1 s.toNat with | none => (stU S 0 8, -1) | some y => (stU (stU S 5 (mpq S y).1) 0 (a_mp (mpq S y) True).2, (a_mp (mpq S y) True).1)) else (stU S 0 2, -1)
theorem CR.shw (hR : CR M N c S) {s : Nat} (hs : s < 4) {y : Wd} (e : S.1.2.1 s = some y) : WD N (c + 262 + 32 * s) y.1 y.2.1 y.2.2 ∧ WL M (c + 262 + 32 * s) := by
  have hsh := hR.2.1.2.1 s hs
  rw [e] at hsh
  exact ⟨hsh.2, (hR.cl.sh hs).2⟩
theorem w_shelf {f : Nat → JM Mem τ} {Q : τ → Mem → NM → Prop} {s : Nat} (hC : CL M c) (hs : s < 4) (h : GN M N (f (c + 262 + 32 * s)) Q) : GN M N (jb (jgetA 0 4 c) fun a => jb (jaldA 7 a (zI s)) f) Q := by
  refine w_Cf hC rfl ?_
  exact w_aldA (hC.ka (o := 70) (d := (7, 4)) rfl) (by omega) (by omega) (hC.sh hs).1 h
theorem c_sameAs {f : Int32 → JM Mem τ} {Q : τ → Mem → NM → Prop} (hR : CR M N c S) (hs : zR s) (h : cPost M N c (a_sameAs S s).1 (f (zI (a_sameAs S s).2)) Q) : GN M N (jb (jcall 0 c (f_X0_sameAs c (zI s))) f) Q := by
  refine w_Cc hR.cl ?_
  unfold f_X0_sameAs
  refine c_noShelf hR hs ?_
  unfold a_shelf
  unfold a_sameAs at h
  rw [z_0]
  by_cases e : 0 ≤ s ∧ s < 4
  case neg =>
    rw [if_neg e] at h ⊢
    exact w_le ⟨by omega, by omega⟩ ⟨by omega, by omega⟩ (fun x => absurd x (by omega)) (fun _ => w_none hR.cl (w_jp (c_fin0 hR h)))
  rw [if_pos e] at h ⊢
  obtain ⟨s, rfl⟩ : ∃ d : Nat, s = d := ⟨s.toNat, by omega⟩
  rw [show ((s : Int).toNat) = s from rfl] at h ⊢
  cases e2 : S.1.2.1 s with
  | none =>
    rw [e2] at h
    have h : cPost M N c (stU S 0 8) (f (zI (-1))) Q := h
    show GN M N (if zI 8 ≤ zI 0 then _ else _) _
    exact w_le ⟨by omega, by omega⟩ ⟨by omega, by omega⟩ (fun x => absurd x (by decide)) (fun _ => w_none hR.cl (w_jp (c_fin0 hR h)))
  | some y =>
    rw [e2] at h
    have h : cPost M N c (stU (stU S 5 (mpq S y).1) 0 (a_mp (mpq S y) True).2) (f (zI (a_mp (mpq S y) True).1)) Q := h
    show GN M N (if zI 0 ≤ zI 0 then _ else _) _
    refine w_le ⟨by omega, by omega⟩ ⟨by omega, by omega⟩ (fun _ => ?_) (fun x => absurd x (by decide))
    obtain ⟨hE, hV⟩ := hR.shw (by omega) e2
    refine w_Cf hR.cl rfl ?_
    refine w_shelf hR.cl (by omega) ?_
    rw [z_1]
    refine w_maps2 hR.cl hR.cl.w6 hV (by omega) (by omega) (by omega) (Or.inr rfl) hR.w hE (fun N1 st hst hb es hF => ?_)
    have es : st = mpq S y := es
    have h1 : (mpq S y).2.1 ≤ 1 := mpq_1
    subst es
    generalize mpq S y = st at *
    have hR1 := hR.sc (Bg.rf hR.cl) hF.cf
    have hFm := CFm.of (Bg.rf hR.cl) hF.cf
    refine w_Cc hR.cl ?_
    unfold f_X0_orSpent
    refine w_CI hR.cl ?_
    refine w_Cput hR.cl ?_
    refine w_CI hR.cl ?_
    rw [hst.1, upk (by omega), hst.2.2, z_0]
    obtain ⟨b1, b2, b3⟩ := hb
    have hgood : (st.2.2 = 0 ∨ True ∧ st.2.1 = 1) → GN M (up2 N1 c 30 (st.1 : Nat)) (X0_orSpent_b29 c (zI (st.2.1 : Nat))) (fun v M1 N1 => GN M1 N1 (jp v) fun v M1 N1 => GN M1 N1 (f v) Q) := fun x => by
      unfold X0_orSpent_b29
      rw [show a_mp st True = ((st.2.1 : Int), 0) from if_pos x] at h
      exact w_gives hR.cl (w_jp (w_jp (h M _ ((hR1.tri _).st 0) ((hFm.st _).st _))))
    refine w_eq ⟨by omega, by omega⟩ ⟨by omega, by omega⟩ (fun e0 => hgood (Or.inl (by omega))) (fun e0 => ?_)
    rw [z_1]
    refine w_eq ⟨by omega, by omega⟩ ⟨by omega, by omega⟩ (fun e1 => hgood (Or.inr ⟨trivial, by omega⟩)) (fun e1 => ?_)
    rw [show a_mp st True = (-1, 9) from if_neg (fun x => by omega)] at h
    rw [show (9 : Int32) = zI 9 from rfl]
    exact w_none hR.cl (w_jp (w_jp (h M _ ((hR1.tri _).st 9) ((hFm.st _).st _))))
theorem m_sameAs {f : Int32 → JM Mem τ} {Q : τ → Mem → NM → Prop} (hR : MR M N m S) (hs : zR s) (h : mPost M N m (a_sameAs S s).1 (f (zI (a_sameAs S s).2)) Q) : GN M N (jb (jcall 7 m (f_X8_sameAs m (zI s))) f) Q := by
  refine w_Mc hR.ml ?_
  unfold f_X8_sameAs
  refine m_beg0 hR (fun N1 hR1 hF1 => ?_)
  refine m_isShelf hs ?_
  unfold a_sameAs at h
  rw [z_0]
  by_cases e : 0 ≤ s ∧ s < 4
  case neg =>
    rw [if_neg e] at h ⊢
    rw [z_2]
    refine w_eq ⟨by omega, by omega⟩ ⟨by omega, by omega⟩ (fun _ => w_refuse hR.ml (w_jp (h M _ ?_ hF1.up))) (fun x => absurd rfl x)
    have := hR1.st 2
    rw [stU_2] at this
    exact this
  rw [if_pos e] at h ⊢
  refine w_eq ⟨by omega, by omega⟩ ⟨by omega, by omega⟩ (fun x => absurd x (by decide)) (fun _ => ?_)
  refine m_isEmpty hR1 e ?_
  obtain ⟨s, rfl⟩ : ∃ d : Nat, s = d := ⟨s.toNat, by omega⟩
  rw [show ((s : Int).toNat) = s from rfl] at h ⊢
  rw [show (stU S 0 0).1.2.1 s = S.1.2.1 s from rfl]
  cases e2 : S.1.2.1 s with
  | none =>
    rw [e2] at h
    have h : mPost M N m (stU S 0 8) (f (zI (-1))) Q := h
    rw [if_pos rfl, show (8 : Int32) = zI 8 from rfl]
    refine w_eq ⟨by omega, by omega⟩ ⟨by omega, by omega⟩ (fun x => absurd x (by decide)) (fun _ => w_refuse hR.ml (w_jp (h M _ ?_ hF1.up)))
    have := hR1.st 8
    rw [stU_2] at this
    exact this
  | some y =>
    rw [e2] at h
    have h : mPost M N m (stU (stU S 5 (mpq S y).1) 0 (a_mp (mpq S y) True).2) (f (zI (a_mp (mpq S y) True).1)) Q := h
    rw [if_neg (show ¬ (some y = none) from fun x => nomatch x)]
    refine w_eq ⟨by omega, by omega⟩ ⟨by omega, by omega⟩ (fun _ => ?_) (fun x => absurd rfl x)
    refine m_same hR1 (by omega) e2 (fun M2 N2 u hR2 hF2 h43 hb hu => ?_)
    rw [show mpq (stU S 0 0) y = mpq S y from rfl] at h43 hb hu
    generalize mpq S y = st at *
    have hF3 := hF1.tr hF2
    refine w_MI hR2.ml ?_
    refine w_Mput hR2.ml ?_
    rw [h43, show (9 : Int32) = zI 9 from rfl]
    have hR3 := hR2.tri (st.1 : Nat)
    have e0 : stU (stU (stU S 0 0) 5 (st.1 : Nat)) 0 0 = stU (stU S 0 0) 5 (st.1 : Nat) := stU_self rfl
    have hgood : st.2.2 = 0 ∨ True ∧ st.2.1 = 1 → u = st.2.1 → GN M2 (up2 N2 m 44 (st.1 : Nat)) (jp (zI u)) (fun v M1 N1 => GN M1 N1 (f v) Q) := fun x eu => by
      rw [show a_mp st True = ((st.2.1 : Int), 0) from if_pos x] at h
      rw [eu]
      refine w_jp (h M2 _ ?_ hF3.up)
      rw [← stU_c (u := 0), e0]
      exact hR3
    rcases hu with ⟨rfl, h1⟩ | ⟨rfl, h1, h2⟩ | ⟨rfl, h1, h2⟩
    · exact w_eq ⟨by omega, by omega⟩ ⟨by omega, by omega⟩ (fun x => absurd x (by decide)) (fun _ => hgood (Or.inr ⟨trivial, h1⟩) (by omega))
    · exact w_eq ⟨by omega, by omega⟩ ⟨by omega, by omega⟩ (fun x => absurd x (by decide)) (fun _ => hgood (Or.inl h2) (by omega))
    · refine w_eq ⟨by omega, by omega⟩ ⟨by omega, by omega⟩ (fun _ => ?_) (fun x => absurd rfl x)
      rw [show a_mp st True = (-1, 9) from if_neg (fun x => by omega)] at h
      refine w_refuse hR2.ml (w_jp (h M2 _ ?_ hF3.up.up))
      rw [← stU_c (u := 0)]
      exact hR3.st 9
end OPS6
