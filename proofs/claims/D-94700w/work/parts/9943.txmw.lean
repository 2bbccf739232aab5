/-! TEXTS: the model's words, and what it asks of a token. Printed by mkh41.py. -/
set_option maxRecDepth 100000
section TXMW
variable {α τ : Type} {M M' M0 : Mem} {N N' N0 : NM} {m k e e0 b d : Nat} {z lo hi kd : Int} {t : Tx} {tk : Tk} {Q : τ → Mem → NM → Prop} {st : Except Er Tk}
theorem sp_0 : f_X8_spelled 112 114 105 109 101 0 = jp (zL 17376677) := by
  unfold f_X8_spelled X8_spelled_b41 X8_spelled_b65 X8_spelled_b91
  rfl
theorem cd_0 : cdW (kwA 0) (kwL 0).length = 17376677 := by decide
theorem sp_1 : f_X8_spelled 115 105 122 101 0 0 = jp (zL 632645) := by
  unfold f_X8_spelled X8_spelled_b41 X8_spelled_b65 X8_spelled_b91
  rfl
theorem cd_1 : cdW (kwA 1) (kwL 1).length = 632645 := by decide
theorem sp_2 : f_X8_spelled 98 114 97 99 107 101 = jp (zL 86019429) := by
  unfold f_X8_spelled X8_spelled_b41 X8_spelled_b65 X8_spelled_b91
  rfl
theorem lo_2 : f_X8_longer (zL 86019429) 116 0 0 = jp (zL 2752621748) := by
  unfold f_X8_longer X8_longer_b36
  rfl
theorem cd_2 : cdW (kwA 2) (kwL 2).length = 2752621748 := by decide
theorem sp_3 : f_X8_spelled 103 105 118 101 115 0 = jp (zL 7657651) := by
  unfold f_X8_spelled X8_spelled_b41 X8_spelled_b65 X8_spelled_b91
  rfl
theorem cd_3 : cdW (kwA 3) (kwL 3).length = 7657651 := by decide
theorem sp_4 : f_X8_spelled 108 101 115 115 0 0 = jp (zL 398963) := by
  unfold f_X8_spelled X8_spelled_b41 X8_spelled_b65 X8_spelled_b91
  rfl
theorem cd_4 : cdW (kwA 4) (kwL 4).length = 398963 := by decide
theorem sp_5 : f_X8_spelled 111 102 0 0 0 0 = jp (zL 486) := by
  unfold f_X8_spelled X8_spelled_b41 X8_spelled_b65 X8_spelled_b91
  rfl
theorem cd_5 : cdW (kwA 5) (kwL 5).length = 486 := by decide
theorem sp_6 : f_X8_spelled 115 119 97 112 0 0 = jp (zL 646192) := by
  unfold f_X8_spelled X8_spelled_b41 X8_spelled_b65 X8_spelled_b91
  rfl
theorem cd_6 : cdW (kwA 6) (kwL 6).length = 646192 := by decide
theorem sp_7 : f_X8_spelled 115 99 97 108 101 0 = jp (zL 20022661) := by
  unfold f_X8_spelled X8_spelled_b41 X8_spelled_b65 X8_spelled_b91
  rfl
theorem cd_7 : cdW (kwA 7) (kwL 7).length = 20022661 := by decide
theorem sp_8 : f_X8_spelled 97 100 100 0 0 0 = jp (zL 1156) := by
  unfold f_X8_spelled X8_spelled_b41 X8_spelled_b65 X8_spelled_b91
  rfl
theorem cd_8 : cdW (kwA 8) (kwL 8).length = 1156 := by decide
theorem sp_9 : f_X8_spelled 107 101 101 112 0 0 = jp (zL 365744) := by
  unfold f_X8_spelled X8_spelled_b41 X8_spelled_b65 X8_spelled_b91
  rfl
theorem cd_9 : cdW (kwA 9) (kwL 9).length = 365744 := by decide
theorem sp_10 : f_X8_spelled 116 97 107 101 0 0 = jp (zL 656741) := by
  unfold f_X8_spelled X8_spelled_b41 X8_spelled_b65 X8_spelled_b91
  rfl
theorem cd_10 : cdW (kwA 10) (kwL 10).length = 656741 := by decide
theorem sp_11 : f_X8_spelled 115 117 109 0 0 0 = jp (zL 20141) := by
  unfold f_X8_spelled X8_spelled_b41 X8_spelled_b65 X8_spelled_b91
  rfl
theorem cd_11 : cdW (kwA 11) (kwL 11).length = 20141 := by decide
theorem sp_12 : f_X8_spelled 119 104 101 110 0 0 = jp (zL 762030) := by
  unfold f_X8_spelled X8_spelled_b41 X8_spelled_b65 X8_spelled_b91
  rfl
theorem cd_12 : cdW (kwA 12) (kwL 12).length = 762030 := by decide
theorem sp_13 : f_X8_spelled 108 111 111 112 0 0 = jp (zL 409072) := by
  unfold f_X8_spelled X8_spelled_b41 X8_spelled_b65 X8_spelled_b91
  rfl
theorem cd_13 : cdW (kwA 13) (kwL 13).length = 409072 := by decide
theorem sp_14 : f_X8_spelled 115 116 111 112 0 0 = jp (zL 643568) := by
  unfold f_X8_spelled X8_spelled_b41 X8_spelled_b65 X8_spelled_b91
  rfl
theorem cd_14 : cdW (kwA 14) (kwL 14).length = 643568 := by decide
theorem sp_15 : f_X8_spelled 101 110 100 0 0 0 = jp (zL 5572) := by
  unfold f_X8_spelled X8_spelled_b41 X8_spelled_b65 X8_spelled_b91
  rfl
theorem cd_15 : cdW (kwA 15) (kwL 15).length = 5572 := by decide
theorem sp_16 : f_X8_spelled 98 121 0 0 0 0 = jp (zL 89) := by
  unfold f_X8_spelled X8_spelled_b41 X8_spelled_b65 X8_spelled_b91
  rfl
theorem cd_16 : cdW (kwA 16) (kwL 16).length = 89 := by decide
theorem sp_17 : f_X8_spelled 116 111 0 0 0 0 = jp (zL 655) := by
  unfold f_X8_spelled X8_spelled_b41 X8_spelled_b65 X8_spelled_b91
  rfl
theorem cd_17 : cdW (kwA 17) (kwL 17).length = 655 := by decide
theorem sp_18 : f_X8_spelled 108 97 119 102 117 108 = jp (zL 404462252) := by
  unfold f_X8_spelled X8_spelled_b41 X8_spelled_b65 X8_spelled_b91
  rfl
theorem cd_18 : cdW (kwA 18) (kwL 18).length = 404462252 := by decide
theorem sp_19 : f_X8_spelled 97 98 101 108 105 97 = jp (zL 35828001) := by
  unfold f_X8_spelled X8_spelled_b41 X8_spelled_b65 X8_spelled_b91
  rfl
theorem lo_19 : f_X8_longer (zL 35828001) 110 0 0 = jp (zL 1146496046) := by
  unfold f_X8_longer X8_longer_b36
  rfl
theorem cd_19 : cdW (kwA 19) (kwL 19).length = 1146496046 := by decide
theorem sp_20 : f_X8_spelled 110 105 108 112 111 116 = jp (zL 479609332) := by
  unfold f_X8_spelled X8_spelled_b41 X8_spelled_b65 X8_spelled_b91
  rfl
theorem lo_20 : f_X8_longer (zL 479609332) 101 110 116 = jp (zL 15715838596564) := by
  unfold f_X8_longer X8_longer_b36
  rfl
theorem cd_20 : cdW (kwA 20) (kwL 20).length = 15715838596564 := by decide
theorem sp_21 : f_X8_spelled 115 111 108 118 97 98 = jp (zL 653678626) := by
  unfold f_X8_spelled X8_spelled_b41 X8_spelled_b65 X8_spelled_b91
  rfl
theorem lo_21 : f_X8_longer (zL 653678626) 108 101 0 = jp (zL 669366913413) := by
  unfold f_X8_longer X8_longer_b36
  rfl
theorem cd_21 : cdW (kwA 21) (kwL 21).length = 669366913413 := by decide
theorem sp_22 : f_X8_spelled 100 101 114 105 118 101 = jp (zL 140060357) := by
  unfold f_X8_spelled X8_spelled_b41 X8_spelled_b65 X8_spelled_b91
  rfl
theorem lo_22 : f_X8_longer (zL 140060357) 100 0 0 = jp (zL 4481931428) := by
  unfold f_X8_longer X8_longer_b36
  rfl
theorem cd_22 : cdW (kwA 22) (kwL 22).length = 4481931428 := by decide
theorem sp_23 : f_X8_spelled 115 97 109 101 0 0 = jp (zL 624037) := by
  unfold f_X8_spelled X8_spelled_b41 X8_spelled_b65 X8_spelled_b91
  rfl
theorem cd_23 : cdW (kwA 23) (kwL 23).length = 624037 := by decide
theorem w_eq0 {x : Int} {A B : JM Mem τ} (hx : zR x) (h1 : x = 0 → GN M N A Q) (h2 : x ≠ 0 → GN M N B Q) : GN M N (if zI x = 0 then A else B) Q := w_eq hx ⟨by omega, by omega⟩ h1 h2
theorem m_isWord {f : Int32 → JM Mem τ} {w : Int} (hM : ML M m) (hx : MRd M N m t tk) (hk : k < 24) (hw : cdW (kwA k) (kwL k).length = w) (h : ∀ v, (v = 1 ∧ kw t tk k ∨ v = 0 ∧ ¬ kw t tk k) → GN M N (f (zI v)) Q) : GN M N (jb (jcall 7 m (f_X8_isWord m (zL w))) f) Q := by
  obtain ⟨x1, x2, x3, x4, x5, x6, x7⟩ := hx
  have hs := x2.2.2.1
  have hl := kwL_len k hk
  have hwb := (cdW_bd (a := kwA k) _ (kwL_ltr k hk))
  have h9 : (32 : Int) ^ (kwL k).length ≤ 35184372088832 := by
    rcases (show (kwL k).length = 2 ∨ (kwL k).length = 3 ∨ (kwL k).length = 4 ∨ (kwL k).length = 5 ∨ (kwL k).length = 6 ∨ (kwL k).length = 7 ∨ (kwL k).length = 8 ∨ (kwL k).length = 9 by omega) with q | q | q | q | q | q | q | q <;> (rw [q]; decide)
  refine w_Mc hM ?_
  unfold f_X8_isWord
  refine w_MI hM ?_
  rw [x3, z_0, z_1]
  have hmb : 0 ≤ mso tk.2.2.1 ∧ mso tk.2.2.1 ≤ 4 := by unfold mso; split; omega; split <;> omega
  refine w_eq ⟨by omega, by omega⟩ ⟨by omega, by omega⟩ (fun q => ?_) (fun q => ?_)
  · have q2 : tk.2.2.1 = 2 := by unfold mso at q; split at q; omega; split at q <;> omega
    have hb := wcd_bd x2 q2 (Nat.le_refl _)
    have hiff := wcd_kw x2 q2 hk
    refine w_getL hM.km ?_
    rw [x7 q2]
    rw [hw] at hiff hwb
    refine w_eqL ⟨by omega, by omega⟩ ⟨by omega, by omega⟩ (fun q3 => w_jp (h 1 (Or.inl ⟨rfl, hiff.mp q3⟩))) (fun q3 => w_jp (h 0 (Or.inr ⟨rfl, fun x => q3 (hiff.mpr x)⟩)))
  · refine w_jp (h 0 (Or.inr ⟨rfl, fun x => q ?_⟩))
    rw [x.1]
    rfl
theorem m_isPrime {f : Int32 → JM Mem τ} (hM : ML M m) (hx : MRd M N m t tk) (h : ∀ v, (v = 1 ∧ kw t tk 0 ∨ v = 0 ∧ ¬ kw t tk 0) → GN M N (f (zI v)) Q) : GN M N (jb (jcall 7 m (f_X8_isPrime m)) f) Q := by
  refine w_Mc hM ?_
  unfold f_X8_isPrime
  rw [sp_0]
  refine w_jb (w_jp ?_)
  refine m_isWord hM hx (by decide) cd_0 (fun v hv => ?_)
  refine w_rze (by rcases hv with ⟨e, _⟩ | ⟨e, _⟩; exact Or.inr e; exact Or.inl e) (h v hv)
theorem m_isSizeWord {f : Int32 → JM Mem τ} (hM : ML M m) (hx : MRd M N m t tk) (h : ∀ v, (v = 1 ∧ kw t tk 1 ∨ v = 0 ∧ ¬ kw t tk 1) → GN M N (f (zI v)) Q) : GN M N (jb (jcall 7 m (f_X8_isSizeWord m)) f) Q := by
  refine w_Mc hM ?_
  unfold f_X8_isSizeWord
  rw [sp_1]
  refine w_jb (w_jp ?_)
  refine m_isWord hM hx (by decide) cd_1 (fun v hv => ?_)
  refine w_rze (by rcases hv with ⟨e, _⟩ | ⟨e, _⟩; exact Or.inr e; exact Or.inl e) (h v hv)
theorem m_isBracket {f : Int32 → JM Mem τ} (hM : ML M m) (hx : MRd M N m t tk) (h : ∀ v, (v = 1 ∧ kw t tk 2 ∨ v = 0 ∧ ¬ kw t tk 2) → GN M N (f (zI v)) Q) : GN M N (jb (jcall 7 m (f_X8_isBracket m)) f) Q := by
  refine w_Mc hM ?_
  unfold f_X8_isBracket
  rw [sp_2]
  refine w_jb (w_jp ?_)
  rw [lo_2]
  refine w_jb (w_jp ?_)
  refine m_isWord hM hx (by decide) cd_2 (fun v hv => ?_)
  refine w_rze (by rcases hv with ⟨e, _⟩ | ⟨e, _⟩; exact Or.inr e; exact Or.inl e) (h v hv)
theorem m_isGives {f : Int32 → JM Mem τ} (hM : ML M m) (hx : MRd M N m t tk) (h : ∀ v, (v = 1 ∧ kw t tk 3 ∨ v = 0 ∧ ¬ kw t tk 3) → GN M N (f (zI v)) Q) : GN M N (jb (jcall 7 m (f_X8_isGives m)) f) Q := by
  refine w_Mc hM ?_
  unfold f_X8_isGives
  rw [sp_3]
  refine w_jb (w_jp ?_)
  refine m_isWord hM hx (by decide) cd_3 (fun v hv => ?_)
  refine w_rze (by rcases hv with ⟨e, _⟩ | ⟨e, _⟩; exact Or.inr e; exact Or.inl e) (h v hv)
theorem m_isLess {f : Int32 → JM Mem τ} (hM : ML M m) (hx : MRd M N m t tk) (h : ∀ v, (v = 1 ∧ kw t tk 4 ∨ v = 0 ∧ ¬ kw t tk 4) → GN M N (f (zI v)) Q) : GN M N (jb (jcall 7 m (f_X8_isLess m)) f) Q := by
  refine w_Mc hM ?_
  unfold f_X8_isLess
  rw [sp_4]
  refine w_jb (w_jp ?_)
  refine m_isWord hM hx (by decide) cd_4 (fun v hv => ?_)
  refine w_rze (by rcases hv with ⟨e, _⟩ | ⟨e, _⟩; exact Or.inr e; exact Or.inl e) (h v hv)
theorem m_isOf {f : Int32 → JM Mem τ} (hM : ML M m) (hx : MRd M N m t tk) (h : ∀ v, (v = 1 ∧ kw t tk 5 ∨ v = 0 ∧ ¬ kw t tk 5) → GN M N (f (zI v)) Q) : GN M N (jb (jcall 7 m (f_X8_isOf m)) f) Q := by
  refine w_Mc hM ?_
  unfold f_X8_isOf
  rw [sp_5]
  refine w_jb (w_jp ?_)
  refine m_isWord hM hx (by decide) cd_5 (fun v hv => ?_)
  refine w_rze (by rcases hv with ⟨e, _⟩ | ⟨e, _⟩; exact Or.inr e; exact Or.inl e) (h v hv)
theorem m_isEnd {f : Int32 → JM Mem τ} (hM : ML M m) (hx : MRd M N m t tk) (h : ∀ v, (v = 1 ∧ kw t tk 15 ∨ v = 0 ∧ ¬ kw t tk 15) → GN M N (f (zI v)) Q) : GN M N (jb (jcall 7 m (f_X8_isEnd m)) f) Q := by
  refine w_Mc hM ?_
  unfold f_X8_isEnd
  rw [sp_15]
  refine w_jb (w_jp ?_)
  refine m_isWord hM hx (by decide) cd_15 (fun v hv => ?_)
  refine w_rze (by rcases hv with ⟨e, _⟩ | ⟨e, _⟩; exact Or.inr e; exact Or.inl e) (h v hv)
theorem m_isBy {f : Int32 → JM Mem τ} (hM : ML M m) (hx : MRd M N m t tk) (h : ∀ v, (v = 1 ∧ kw t tk 16 ∨ v = 0 ∧ ¬ kw t tk 16) → GN M N (f (zI v)) Q) : GN M N (jb (jcall 7 m (f_X8_isBy m)) f) Q := by
  refine w_Mc hM ?_
  unfold f_X8_isBy
  rw [sp_16]
  refine w_jb (w_jp ?_)
  refine m_isWord hM hx (by decide) cd_16 (fun v hv => ?_)
  refine w_rze (by rcases hv with ⟨e, _⟩ | ⟨e, _⟩; exact Or.inr e; exact Or.inl e) (h v hv)
theorem m_isTo {f : Int32 → JM Mem τ} (hM : ML M m) (hx : MRd M N m t tk) (h : ∀ v, (v = 1 ∧ kw t tk 17 ∨ v = 0 ∧ ¬ kw t tk 17) → GN M N (f (zI v)) Q) : GN M N (jb (jcall 7 m (f_X8_isTo m)) f) Q := by
  refine w_Mc hM ?_
  unfold f_X8_isTo
  rw [sp_17]
  refine w_jb (w_jp ?_)
  refine m_isWord hM hx (by decide) cd_17 (fun v hv => ?_)
  refine w_rze (by rcases hv with ⟨e, _⟩ | ⟨e, _⟩; exact Or.inr e; exact Or.inl e) (h v hv)
def kwstepWord (j : Nat) : Nat := j + 6
def kwtestWord (j : Nat) : Nat := if j = 5 then 1 else if j = 6 then 23 else j + 18
theorem m_stepWord {f : Int32 → JM Mem τ} (hM : ML M m) (hx : MRd M N m t tk) (h : ∀ v : Int, ((∃ j, j < 9 ∧ v = (j : Nat) ∧ kw t tk (kwstepWord j)) ∨ v = -1 ∧ ∀ j, j < 9 → ¬ kw t tk (kwstepWord j)) → GN M N (f (zI v)) Q) : GN M N (jb (jcall 7 m (f_X8_stepWord m)) f) Q := by
  refine w_Mc hM ?_
  unfold f_X8_stepWord
  rw [sp_6]
  refine w_jb (w_jp ?_)
  refine m_isWord hM hx (by decide) cd_6 (fun v0 h0 => ?_)
  rcases h0 with ⟨rfl, n0⟩ | ⟨rfl, n0⟩
  · refine w_eq0 ⟨by omega, by omega⟩ (fun x => absurd x (by decide)) (fun _ => ?_)
    exact w_jp (h 0 (Or.inl ⟨0, by decide, rfl, n0⟩))
  refine w_eq0 ⟨by omega, by omega⟩ (fun _ => ?_) (fun x => absurd rfl x)
  rw [sp_7]
  refine w_jb (w_jp ?_)
  refine m_isWord hM hx (by decide) cd_7 (fun v1 h1 => ?_)
  rcases h1 with ⟨rfl, n1⟩ | ⟨rfl, n1⟩
  · refine w_eq0 ⟨by omega, by omega⟩ (fun x => absurd x (by decide)) (fun _ => ?_)
    exact w_jp (h 1 (Or.inl ⟨1, by decide, rfl, n1⟩))
  refine w_eq0 ⟨by omega, by omega⟩ (fun _ => ?_) (fun x => absurd rfl x)
  rw [sp_8]
  refine w_jb (w_jp ?_)
  refine m_isWord hM hx (by decide) cd_8 (fun v2 h2 => ?_)
  rcases h2 with ⟨rfl, n2⟩ | ⟨rfl, n2⟩
  · refine w_eq0 ⟨by omega, by omega⟩ (fun x => absurd x (by decide)) (fun _ => ?_)
    exact w_jp (h 2 (Or.inl ⟨2, by decide, rfl, n2⟩))
  refine w_eq0 ⟨by omega, by omega⟩ (fun _ => ?_) (fun x => absurd rfl x)
  rw [sp_9]
  refine w_jb (w_jp ?_)
  refine m_isWord hM hx (by decide) cd_9 (fun v3 h3 => ?_)
  rcases h3 with ⟨rfl, n3⟩ | ⟨rfl, n3⟩
  · refine w_eq0 ⟨by omega, by omega⟩ (fun x => absurd x (by decide)) (fun _ => ?_)
    exact w_jp (h 3 (Or.inl ⟨3, by decide, rfl, n3⟩))
  refine w_eq0 ⟨by omega, by omega⟩ (fun _ => ?_) (fun x => absurd rfl x)
  rw [sp_10]
  refine w_jb (w_jp ?_)
  refine m_isWord hM hx (by decide) cd_10 (fun v4 h4 => ?_)
  rcases h4 with ⟨rfl, n4⟩ | ⟨rfl, n4⟩
  · refine w_eq0 ⟨by omega, by omega⟩ (fun x => absurd x (by decide)) (fun _ => ?_)
    exact w_jp (h 4 (Or.inl ⟨4, by decide, rfl, n4⟩))
  refine w_eq0 ⟨by omega, by omega⟩ (fun _ => ?_) (fun x => absurd rfl x)
  rw [sp_11]
  refine w_jb (w_jp ?_)
  refine m_isWord hM hx (by decide) cd_11 (fun v5 h5 => ?_)
  rcases h5 with ⟨rfl, n5⟩ | ⟨rfl, n5⟩
  · refine w_eq0 ⟨by omega, by omega⟩ (fun x => absurd x (by decide)) (fun _ => ?_)
    exact w_jp (h 5 (Or.inl ⟨5, by decide, rfl, n5⟩))
  refine w_eq0 ⟨by omega, by omega⟩ (fun _ => ?_) (fun x => absurd rfl x)
  rw [sp_12]
  refine w_jb (w_jp ?_)
  refine m_isWord hM hx (by decide) cd_12 (fun v6 h6 => ?_)
  rcases h6 with ⟨rfl, n6⟩ | ⟨rfl, n6⟩
  · refine w_eq0 ⟨by omega, by omega⟩ (fun x => absurd x (by decide)) (fun _ => ?_)
    exact w_jp (h 6 (Or.inl ⟨6, by decide, rfl, n6⟩))
  refine w_eq0 ⟨by omega, by omega⟩ (fun _ => ?_) (fun x => absurd rfl x)
  rw [sp_13]
  refine w_jb (w_jp ?_)
  refine m_isWord hM hx (by decide) cd_13 (fun v7 h7 => ?_)
  rcases h7 with ⟨rfl, n7⟩ | ⟨rfl, n7⟩
  · refine w_eq0 ⟨by omega, by omega⟩ (fun x => absurd x (by decide)) (fun _ => ?_)
    exact w_jp (h 7 (Or.inl ⟨7, by decide, rfl, n7⟩))
  refine w_eq0 ⟨by omega, by omega⟩ (fun _ => ?_) (fun x => absurd rfl x)
  rw [sp_14]
  refine w_jb (w_jp ?_)
  refine m_isWord hM hx (by decide) cd_14 (fun v8 h8 => ?_)
  rcases h8 with ⟨rfl, n8⟩ | ⟨rfl, n8⟩
  · refine w_eq0 ⟨by omega, by omega⟩ (fun x => absurd x (by decide)) (fun _ => ?_)
    exact w_jp (h 8 (Or.inl ⟨8, by decide, rfl, n8⟩))
  refine w_eq0 ⟨by omega, by omega⟩ (fun _ => ?_) (fun x => absurd rfl x)
  rw [z_m1]
  refine w_jp (h (-1) (Or.inr ⟨rfl, fun j hj => ?_⟩))
  rcases (show j = 0 ∨ j = 1 ∨ j = 2 ∨ j = 3 ∨ j = 4 ∨ j = 5 ∨ j = 6 ∨ j = 7 ∨ j = 8 by omega) with rfl | rfl | rfl | rfl | rfl | rfl | rfl | rfl | rfl
  · exact n0
  · exact n1
  · exact n2
  · exact n3
  · exact n4
  · exact n5
  · exact n6
  · exact n7
  · exact n8
theorem m_testWord {f : Int32 → JM Mem τ} (hM : ML M m) (hx : MRd M N m t tk) (h : ∀ v : Int, ((∃ j, j < 7 ∧ v = (j : Nat) ∧ kw t tk (kwtestWord j)) ∨ v = -1 ∧ ∀ j, j < 7 → ¬ kw t tk (kwtestWord j)) → GN M N (f (zI v)) Q) : GN M N (jb (jcall 7 m (f_X8_testWord m)) f) Q := by
  refine w_Mc hM ?_
  unfold f_X8_testWord
  rw [sp_18]
  refine w_jb (w_jp ?_)
  refine m_isWord hM hx (by decide) cd_18 (fun v0 h0 => ?_)
  rcases h0 with ⟨rfl, n0⟩ | ⟨rfl, n0⟩
  · refine w_eq0 ⟨by omega, by omega⟩ (fun x => absurd x (by decide)) (fun _ => ?_)
    exact w_jp (h 0 (Or.inl ⟨0, by decide, rfl, n0⟩))
  refine w_eq0 ⟨by omega, by omega⟩ (fun _ => ?_) (fun x => absurd rfl x)
  rw [sp_19]
  refine w_jb (w_jp ?_)
  rw [lo_19]
  refine w_jb (w_jp ?_)
  refine m_isWord hM hx (by decide) cd_19 (fun v1 h1 => ?_)
  rcases h1 with ⟨rfl, n1⟩ | ⟨rfl, n1⟩
  · refine w_eq0 ⟨by omega, by omega⟩ (fun x => absurd x (by decide)) (fun _ => ?_)
    exact w_jp (h 1 (Or.inl ⟨1, by decide, rfl, n1⟩))
  refine w_eq0 ⟨by omega, by omega⟩ (fun _ => ?_) (fun x => absurd rfl x)
  rw [sp_20]
  refine w_jb (w_jp ?_)
  rw [lo_20]
  refine w_jb (w_jp ?_)
  refine m_isWord hM hx (by decide) cd_20 (fun v2 h2 => ?_)
  rcases h2 with ⟨rfl, n2⟩ | ⟨rfl, n2⟩
  · refine w_eq0 ⟨by omega, by omega⟩ (fun x => absurd x (by decide)) (fun _ => ?_)
    exact w_jp (h 2 (Or.inl ⟨2, by decide, rfl, n2⟩))
  refine w_eq0 ⟨by omega, by omega⟩ (fun _ => ?_) (fun x => absurd rfl x)
  rw [sp_21]
  refine w_jb (w_jp ?_)
  rw [lo_21]
  refine w_jb (w_jp ?_)
  refine m_isWord hM hx (by decide) cd_21 (fun v3 h3 => ?_)
  rcases h3 with ⟨rfl, n3⟩ | ⟨rfl, n3⟩
  · refine w_eq0 ⟨by omega, by omega⟩ (fun x => absurd x (by decide)) (fun _ => ?_)
    exact w_jp (h 3 (Or.inl ⟨3, by decide, rfl, n3⟩))
  refine w_eq0 ⟨by omega, by omega⟩ (fun _ => ?_) (fun x => absurd rfl x)
  rw [sp_22]
  refine w_jb (w_jp ?_)
  rw [lo_22]
  refine w_jb (w_jp ?_)
  refine m_isWord hM hx (by decide) cd_22 (fun v4 h4 => ?_)
  rcases h4 with ⟨rfl, n4⟩ | ⟨rfl, n4⟩
  · refine w_eq0 ⟨by omega, by omega⟩ (fun x => absurd x (by decide)) (fun _ => ?_)
    exact w_jp (h 4 (Or.inl ⟨4, by decide, rfl, n4⟩))
  refine w_eq0 ⟨by omega, by omega⟩ (fun _ => ?_) (fun x => absurd rfl x)
  refine m_isSizeWord hM hx (fun v5 h5 => ?_)
  rcases h5 with ⟨rfl, n5⟩ | ⟨rfl, n5⟩
  · refine w_eq0 ⟨by omega, by omega⟩ (fun x => absurd x (by decide)) (fun _ => ?_)
    exact w_jp (h 5 (Or.inl ⟨5, by decide, rfl, n5⟩))
  refine w_eq0 ⟨by omega, by omega⟩ (fun _ => ?_) (fun x => absurd rfl x)
  rw [sp_23]
  refine w_jb (w_jp ?_)
  refine m_isWord hM hx (by decide) cd_23 (fun v6 h6 => ?_)
  rcases h6 with ⟨rfl, n6⟩ | ⟨rfl, n6⟩
  · refine w_eq0 ⟨by omega, by omega⟩ (fun x => absurd x (by decide)) (fun _ => ?_)
    exact w_jp (h 6 (Or.inl ⟨6, by decide, rfl, n6⟩))
  refine w_eq0 ⟨by omega, by omega⟩ (fun _ => ?_) (fun x => absurd rfl x)
  rw [z_m1]
  refine w_jp (h (-1) (Or.inr ⟨rfl, fun j hj => ?_⟩))
  rcases (show j = 0 ∨ j = 1 ∨ j = 2 ∨ j = 3 ∨ j = 4 ∨ j = 5 ∨ j = 6 by omega) with rfl | rfl | rfl | rfl | rfl | rfl | rfl
  · exact n0
  · exact n1
  · exact n2
  · exact n3
  · exact n4
  · exact n5
  · exact n6
/-- what reading writes, the model -/
def NyM (m : Nat) (M : Mem) (N : NM) (M' : Mem) (N' : NM) : Prop := (∀ b, b ≠ m → N' b = N b) ∧ (∀ k, k < 12 ∨ 18 < k → N' m k = N m k) ∧ ∃ L', M' = sL M L' ∧ ∀ b k, b ≠ m ∨ k ≠ 18 → L' b k = mL M b k
theorem NxM.ny (h : NxM m M N M' N') : NyM m M N M' N' := ⟨h.1, fun k hk => h.2.1 k (by omega), h.2.2⟩
theorem NyM.rf : NyM m M N M N := NxM.rf.ny
theorem NyM.tr {M2 : Mem} {N2 : NM} (h : NyM m M N M' N') (h2 : NyM m M' N' M2 N2) : NyM m M N M2 N2 := by
  obtain ⟨a1, a2, L1, rfl, a3⟩ := h
  obtain ⟨b1, b2, L2, rfl, b3⟩ := h2
  exact ⟨fun b hb => (b1 b hb).trans (a1 b hb), fun k hk => (b2 k hk).trans (a2 k hk), L2, rfl, fun b k hk => (b3 b k hk).trans (a3 b k hk)⟩
theorem NyM.up {v : Int} (h : NyM m M N M' N') (hk : 12 ≤ k ∧ k ≤ 18) : NyM m M N M' (up2 N' m k v) := ⟨fun b hb => (upb hb).trans (h.1 b hb), fun j hj => (upk (by omega)).trans (h.2.1 j hj), h.2.2⟩
theorem NyM.ml (h : NyM m M N M' N') (hM : ML M m) : ML M' m := by
  obtain ⟨_, _, L1, rfl, _⟩ := h
  exact hM.ag (fun _ _ _ => ⟨rfl, rfl⟩)
/-- where the model's reading is: at a token, or behind what was wrong -/
def PSM (M : Mem) (N : NM) (m : Nat) (t : Tx) (st : Except Er Tk) : Prop := ∃ tk, MRd M N m t tk ∧ match st with
  | .ok u => u = tk ∧ N m 12 = 0
  | .error er => 1 ≤ er.1 ∧ er.1 ≤ 7 ∧ N m 12 = er.1 ∧ N m 13 = er.2
theorem MRd.up (h : MRd M N m t tk) {v : Int} (hk : k = 12 ∨ k = 13 ∨ 18 < k) : MRd M (up2 N m k v) m t tk := by
  obtain ⟨⟨h1, h1b, h1c⟩, h2, h3, h4, h5, h6, h7⟩ := h
  exact ⟨⟨by rw [upk (by omega)]; exact h1, h1b, fun i hi => by rw [upb (show m + 4 ≠ m by omega)]; exact h1c i hi⟩, h2, by rw [upk (by omega)]; exact h3, by rw [upk (by omega)]; exact h4, by rw [upk (by omega)]; exact h5, fun x => by rw [upk (by omega)]; exact h6 x, h7⟩
theorem MRd.fr (h : MRd M N m t tk) (h1 : ∀ k, 9 ≤ k → k ≤ 18 → N' m k = N m k) (h2 : N' (m + 4) = N (m + 4)) (h3 : mL M' m 18 = mL M m 18) : MRd M' N' m t tk := by
  obtain ⟨⟨a1, a2, a3⟩, b2, b3, b4, b5, b6, b7⟩ := h
  exact ⟨⟨by rw [h1 9 (by omega) (by omega)]; exact a1, a2, by rw [h2]; exact a3⟩, b2, by rw [h1 14 (by omega) (by omega)]; exact b3, by rw [h1 15 (by omega) (by omega)]; exact b4, by rw [h1 16 (by omega) (by omega)]; exact b5, by rw [h1 17 (by omega) (by omega)]; exact b6, by rw [h3]; exact b7⟩
theorem PSM.fr (h : PSM M N m t st) (h1 : ∀ k, 9 ≤ k → k ≤ 18 → N' m k = N m k) (h2 : N' (m + 4) = N (m + 4)) (h3 : mL M' m 18 = mL M m 18) : PSM M' N' m t st := by
  obtain ⟨tk, a, b⟩ := h
  refine ⟨tk, a.fr h1 h2 h3, ?_⟩
  cases st with
  | ok u => exact ⟨b.1, by rw [h1 12 (by omega) (by omega)]; exact b.2⟩
  | error er => exact ⟨b.1, b.2.1, by rw [h1 12 (by omega) (by omega)]; exact b.2.2.1, by rw [h1 13 (by omega) (by omega)]; exact b.2.2.2⟩
theorem mso_b (h : TkOk t tk) : 0 ≤ mso tk.2.2.1 ∧ mso tk.2.2.1 ≤ 4 := by have := h.2.2.1; unfold mso; split; omega; split <;> omega
theorem m_failK {f : Unit → JM Mem τ} {p : Int} (hM : ML M m) (h12 : N m 12 = 0) (h : GN M (up2 (up2 N m 12 kd) m 13 p) (f ()) Q) : GN M N (jb (jcall 7 m (f_X8_fail m (zI kd) (zI p))) f) Q := by
  refine w_Mc hM ?_
  unfold f_X8_fail
  refine w_MI hM ?_
  rw [h12, z_0]
  exact w_le ⟨by omega, by omega⟩ ⟨by omega, by omega⟩ (fun _ => w_Mput hM (w_Mput hM (w_jp h))) (fun x => absurd x (by decide))
theorem flt_b (kd : Int) (hk : 1 ≤ kd ∧ kd ≤ 7) : 1 ≤ (flt tk kd).1 ∧ (flt tk kd).1 ≤ 7 := by
  unfold flt
  show 1 ≤ (if tk.2.2.1 = 1 then 1 else kd) ∧ (if tk.2.2.1 = 1 then 1 else kd) ≤ 7
  split <;> omega
theorem m_wrong {f : Unit → JM Mem τ} (hM : ML M m) (hx : MRd M N m t tk) (h12 : N m 12 = 0) (h : ∀ N', NyM m M N M N' → PSM M N' m t (.error (flt tk 2)) → GN M N' (f ()) Q) : GN M N (jb (jcall 7 m (f_X8_wrong m)) f) Q := by
  have hb := mso_b hx.2.1
  refine w_Mc hM ?_
  unfold f_X8_wrong
  refine w_MI hM ?_
  rw [hx.2.2.1, z_1, z_2, z_4]
  have key : ∀ v : Int, v = (flt tk 2).1 → GN M N (X8_wrong_b14 m m (zI v)) (fun v M1 N1 => GN M1 N1 (f v) Q) := fun v hv => by
    unfold X8_wrong_b14
    refine w_MI hM ?_
    rw [hx.2.2.2.1]
    refine m_failK hM h12 (w_jp (h _ ((NyM.rf.up (k := 12) (by omega)).up (k := 13) (by omega)) ?_))
    · exact ⟨tk, (hx.up (Or.inl rfl)).up (Or.inr (Or.inl rfl)), (flt_b 2 (by omega)).1, (flt_b 2 (by omega)).2, by rw [upk (by omega), upv]; exact hv, by rw [upv]; rfl⟩
  refine w_eq ⟨by omega, by omega⟩ ⟨by omega, by omega⟩ (fun q => key 1 ?_) (fun q => key 2 ?_)
  · have : tk.2.2.1 = 1 := by have := hx.2.1.2.2.1; unfold mso at q; split at q; omega; split at q <;> omega
    exact (if_pos this).symm
  · have : tk.2.2.1 ≠ 1 := fun e => q (by rw [e]; rfl)
    exact (if_neg this).symm
/-- a check: the next token, or an error -/
noncomputable def pMust (t : Tx) (good : Tk → Prop) (u : Tk) : Except Er Tk := @ite _ (good u) (Classical.propDecidable _) (.ok (nx t u)) (.error (flt u 2))
theorem m_must {f : Unit → JM Mem τ} {good : Tk → Prop} {v : Int} (hM : ML M m) (hp : PSM M N m t st) (hv : ∀ tk, MRd M N m t tk → (v = 1 ∧ good tk ∨ v = 0 ∧ ¬ good tk)) (h : ∀ M' N', NyM m M N M' N' → PSM M' N' m t (pbd st (pMust t good)) → GN M' N' (f ()) Q) : GN M N (jb (jcall 7 m (f_X8_must m (zI v))) f) Q := by
  obtain ⟨tk, hx, hs⟩ := hp
  refine w_Mc hM ?_
  unfold f_X8_must
  refine w_MI hM ?_
  rw [z_0]
  cases st with
  | error er =>
    obtain ⟨e1, e2, e3, e4⟩ := hs
    rw [e3]
    refine w_le ⟨by omega, by omega⟩ ⟨by omega, by omega⟩ (fun x => absurd x (by omega)) (fun _ => w_jp (h M N NyM.rf ⟨tk, hx, e1, e2, e3, e4⟩))
  | ok u =>
    obtain ⟨rfl, e2⟩ := hs
    rw [e2]
    refine w_le ⟨by omega, by omega⟩ ⟨by omega, by omega⟩ (fun _ => ?_) (fun x => absurd x (by decide))
    unfold pbd pMust at h
    rcases hv u hx with ⟨rfl, g⟩ | ⟨rfl, g⟩
    · refine w_eq ⟨by omega, by omega⟩ ⟨by omega, by omega⟩ (fun x => absurd x (by decide)) (fun _ => ?_)
      refine m_next hM hx.1 hx.2.2.2.2.1 hx.2.1.2.1 (fun M' N' hF hR => w_jp (h M' N' hF.ny ?_))
      show PSM M' N' m t (@ite _ (good u) (Classical.propDecidable _) _ _)
      rw [if_pos g]
      exact ⟨nx t u, hR, rfl, (hF.2.1 12 (by omega)).trans e2⟩
    · refine w_eq ⟨by omega, by omega⟩ ⟨by omega, by omega⟩ (fun _ => ?_) (fun x => absurd rfl x)
      refine m_wrong hM hx e2 (fun N' hF hR => w_jp (h M N' hF ?_))
      show PSM M N' m t (@ite _ (good u) (Classical.propDecidable _) _ _)
      rw [if_neg g]
      exact hR
theorem m_isSign {f : Int32 → JM Mem τ} {x : Int} (hM : ML M m) (hx : MRd M N m t tk) (hz : zR x) (h : ∀ v, (v = 1 ∧ isSg tk x ∨ v = 0 ∧ ¬ isSg tk x) → GN M N (f (zI v)) Q) : GN M N (jb (jcall 7 m (f_X8_isSign m (zI x))) f) Q := by
  have hb := mso_b hx.2.1
  have hso := hx.2.1.2.2.1
  refine w_Mc hM ?_
  unfold f_X8_isSign
  refine w_MI hM ?_
  rw [hx.2.2.1, z_3, z_0, z_1]
  refine w_eq ⟨by omega, by omega⟩ ⟨by omega, by omega⟩ (fun q => ?_) (fun q => ?_)
  · have e4 : tk.2.2.1 = 4 := by unfold mso at q; split at q; omega; split at q <;> omega
    have hv := hx.2.1.2.2.2.2.2.2.2 e4
    refine w_MI hM ?_
    rw [hx.2.2.2.2.2.1 (Or.inr e4)]
    exact w_eq ⟨by omega, by omega⟩ hz (fun q => w_jp (h 1 (Or.inl ⟨rfl, e4, q⟩))) (fun q => w_jp (h 0 (Or.inr ⟨rfl, fun y => q y.2⟩)))
  · exact w_jp (h 0 (Or.inr ⟨rfl, fun y => q (by rw [y.1]; rfl)⟩))
/-- the number that is read, or 0; where the reading is then -/
def pcV (x : Except Er (Int × Tk)) : Int := match x with
  | .ok u => u.1
  | .error _ => 0
def pcS (x : Except Er (Int × Tk)) : Except Er Tk := match x with
  | .ok u => .ok u.2
  | .error er => .error er
theorem m_count {f : Int32 → JM Mem τ} (hM : ML M m) (hp : PSM M N m t st) (hlo : zR lo) (hhi : zR hi) (h : ∀ M' N', NyM m M N M' N' → PSM M' N' m t (pcS (pbd st (pPas t lo hi))) → GN M' N' (f (zI (pcV (pbd st (pPas t lo hi))))) Q) : GN M N (jb (jcall 7 m (f_X8_count m (zI lo) (zI hi))) f) Q := by
  obtain ⟨tk, hx, hs⟩ := hp
  have hb := mso_b hx.2.1
  have hso := hx.2.1.2.2.1
  refine w_Mc hM ?_
  unfold f_X8_count
  refine w_MI hM ?_
  rw [z_0, z_2]
  have hbad : ∀ (N1 : NM) (er : Er), NyM m M N M N1 → PSM M N1 m t (.error er) → pbd st (pPas t lo hi) = .error er → GN M N1 (X8_count_b50 m) (fun v M1 N1 => GN M1 N1 (f v) Q) := fun N1 er hF hP he => by
    rw [he] at h
    obtain ⟨tk1, y1, y2, y3, y4, y5⟩ := id hP
    unfold X8_count_b50
    refine w_MI hM ?_
    rw [y4, z_0]
    exact w_le ⟨by omega, by omega⟩ ⟨by omega, by omega⟩ (fun x => absurd x (by omega)) (fun _ => w_jp (h M N1 hF hP))
  have hbad2 : ∀ (N1 : NM) (er : Er), NyM m M N M N1 → PSM M N1 m t (.error er) → pbd st (pPas t lo hi) = .error er → GN M N1 (X8_count_b19 m (zI lo) (zI hi)) (fun v M1 N1 => GN M1 N1 (f v) Q) := fun N1 er hF hP he => by
    obtain ⟨tk1, y1, y2, y3, y4, y5⟩ := id hP
    unfold X8_count_b19
    refine w_MI hM ?_
    rw [y4, z_0]
    exact w_eq ⟨by omega, by omega⟩ ⟨by omega, by omega⟩ (fun x => absurd x (by omega)) (fun _ => hbad N1 er hF hP he)
  cases st with
  | error er =>
    obtain ⟨e1, e2, e3, e4⟩ := id hs
    rw [e3]
    exact w_eq ⟨by omega, by omega⟩ ⟨by omega, by omega⟩ (fun x => absurd x (by omega)) (fun _ => hbad2 N er NyM.rf ⟨tk, hx, hs⟩ rfl)
  | ok u =>
    obtain ⟨rfl, e2⟩ := hs
    rw [e2]
    refine w_eq ⟨by omega, by omega⟩ ⟨by omega, by omega⟩ (fun _ => ?_) (fun x => absurd rfl x)
    refine w_MI hM ?_
    rw [hx.2.2.1]
    refine w_eq ⟨by omega, by omega⟩ ⟨by omega, by omega⟩ (fun q => ?_) (fun q => ?_)
    · have e3 : u.2.2.1 = 3 := by unfold mso at q; split at q; omega; split at q <;> omega
      have hv := hx.2.1.2.2.2.2.2.2.1 e3
      have h17 := hx.2.2.2.2.2.1 (Or.inl e3)
      have ep : pbd (Except.ok u) (pPas t lo hi) = if lo ≤ u.2.2.2 ∧ u.2.2.2 ≤ hi then .ok (u.2.2.2, nx t u) else .error (flt u 4) := by
        show pPas t lo hi u = _
        unfold pPas pNum
        rw [if_pos e3]
        split <;> rfl
      unfold X8_count_b19
      refine w_MI hM ?_
      rw [e2, z_0]
      refine w_eq ⟨by omega, by omega⟩ ⟨by omega, by omega⟩ (fun _ => ?_) (fun x => absurd rfl x)
      refine w_MI hM ?_
      rw [h17, zL_int ⟨by omega, by omega⟩, zL_int hlo, zL_int hhi]
      refine w_isIn ⟨by omega, by omega⟩ (zRL_of hlo) (zRL_of hhi) ?_
      by_cases q2 : lo ≤ u.2.2.2 ∧ u.2.2.2 ≤ hi
      · rw [if_pos q2] at ep
        rw [if_pos q2]
        rw [ep] at h
        refine w_eq ⟨by omega, by omega⟩ ⟨by omega, by omega⟩ (fun x => absurd x (by decide)) (fun _ => ?_)
        unfold X8_count_b50
        refine w_MI hM ?_
        rw [e2, z_0]
        refine w_le ⟨by omega, by omega⟩ ⟨by omega, by omega⟩ (fun _ => ?_) (fun x => absurd x (by decide))
        refine w_MI hM ?_
        rw [h17]
        exact m_next hM hx.1 hx.2.2.2.2.1 hx.2.1.2.1 (fun M' N' hF hR => w_jp (h M' N' hF.ny ⟨nx t u, hR, rfl, (hF.2.1 12 (by omega)).trans e2⟩))
      · rw [if_neg q2] at ep
        rw [if_neg q2]
        refine w_eq ⟨by omega, by omega⟩ ⟨by omega, by omega⟩ (fun _ => ?_) (fun x => absurd rfl x)
        refine w_MI hM ?_
        rw [hx.2.2.2.1, z_4]
        refine m_failK hM e2 (hbad _ (flt u 4) ((NyM.rf.up (by omega)).up (by omega)) ⟨u, (hx.up (Or.inl rfl)).up (Or.inr (Or.inl rfl)), (flt_b 4 (by omega)).1, (flt_b 4 (by omega)).2, ?_, by rw [upv]; rfl⟩ ep)
        rw [upk (by omega), upv]
        exact (if_neg (by omega)).symm
    · have e3 : u.2.2.1 ≠ 3 := fun e => q (by rw [e]; rfl)
      have ep : pbd (Except.ok u) (pPas t lo hi) = .error (flt u 2) := by
        show pPas t lo hi u = _
        unfold pPas pNum
        rw [if_neg e3]
        rfl
      exact m_wrong hM hx e2 (fun N' hF hR => hbad2 N' _ hF hR ep)
/-- a check at hand that went wrong -/
theorem m_failP {f : Unit → JM Mem τ} {u : Tk} (hM : ML M m) (hp : PSM M N m t (.ok u)) (hk : 1 ≤ kd ∧ kd ≤ 7) (h1 : u.2.2.1 ≠ 1) (h : ∀ N', NyM m M N M N' → PSM M N' m t (.error (flt u kd)) → GN M N' (f ()) Q) : GN M N (jb (jgetI 7 15 m) fun v => jb (jcall 7 m (f_X8_fail m (zI kd) v)) f) Q := by
  obtain ⟨tk, hx, rfl, e2⟩ := hp
  refine w_MI hM ?_
  rw [hx.2.2.2.1]
  refine m_failK hM e2 (h _ ((NyM.rf.up (by omega)).up (by omega)) ⟨u, (hx.up (Or.inl rfl)).up (Or.inr (Or.inl rfl)), (flt_b kd hk).1, (flt_b kd hk).2, ?_, by rw [upv]; rfl⟩)
  rw [upk (by omega), upv]
  exact (if_neg h1).symm
end TXMW
