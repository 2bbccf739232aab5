/-! WHAT A FUNCTION COMES TO: Go f Q M, with rules. -/
set_option maxRecDepth 100000
section GO
variable {μ α τ ρ σ : Type}
/-- f, from M, ends well, and Q holds of what it gives -/
def Go (f : JM μ α) (Q : α → μ → Prop) (M : μ) : Prop := ∃ v M', f M = some (.ok v, M') ∧ Q v M'
theorem Go.mono {f : JM μ α} {Q Q' : α → μ → Prop} {M : μ} (h : Go f Q M) (hQ : ∀ v M', Q v M' → Q' v M') : Go f Q' M := by
  obtain ⟨v, M', e, q⟩ := h
  exact ⟨v, M', e, hQ v M' q⟩
theorem Go.eq {f : JM μ α} {v : α} {M M' : μ} (h : Go f (fun v' M'' => v' = v ∧ M'' = M') M) : f M = some (.ok v, M') := by
  obtain ⟨v1, M1, e, rfl, rfl⟩ := h
  exact e
theorem go_of {f : JM μ α} {Q : α → μ → Prop} {M M' : μ} {v : α} (e : f M = some (.ok v, M')) (q : Q v M') : Go f Q M := ⟨v, M', e, q⟩
theorem go_jp {v : α} {Q : α → μ → Prop} {M : μ} (q : Q v M) : Go (jp v) Q M := ⟨v, M, rfl, q⟩
theorem go_jb {x : JM μ α} {f : α → JM μ τ} {Q : τ → μ → Prop} {M : μ} (h : Go x (fun v M1 => Go (f v) Q M1) M) : Go (jb x f) Q M := by
  obtain ⟨v, M1, e, v2, M2, e2, q⟩ := h
  exact ⟨v2, M2, by rw [jb_ok e]; exact e2, q⟩
theorem go_jlet {v : α} {f : α → JM μ τ} {Q : τ → μ → Prop} {M : μ} (h : Go (f v) Q M) : Go (jlet v f) Q M := h
theorem go_jinl {x : JM μ ρ} {Q : (ρ ⊕ σ) → μ → Prop} {M : μ} (h : Go x (fun v M1 => Q (.inl v) M1) M) : Go (jinl x) Q M := by
  obtain ⟨v, M1, e, q⟩ := h
  exact ⟨.inl v, M1, jinl_ok e, q⟩
theorem go_jcont {t : σ} {Q : (ρ ⊕ σ) → μ → Prop} {M : μ} (q : Q (.inr t) M) : Go (jcont t) Q M := ⟨.inr t, M, rfl, q⟩
theorem go_ite {C : Prop} [Decidable C] {a b : JM μ α} {Q : α → μ → Prop} {M : μ} (h1 : C → Go a Q M) (h2 : ¬ C → Go b Q M) : Go (if C then a else b) Q M := by
  by_cases h : C
  · rw [if_pos h]; exact h1 h
  · rw [if_neg h]; exact h2 h
/-- a loop by its invariant and a measure -/
theorem go_loop {b : σ → JM μ (ρ ⊕ σ)} {Q : ρ → μ → Prop} (I : Nat → σ → μ → Prop) (h : ∀ n t M, I n t M → Go (b t) (fun r M1 => match r with
    | .inl v => Q v M1
    | .inr t1 => ∃ m, m < n ∧ I m t1 M1) M) : ∀ (n : Nat) (t : σ) (M : μ), I n t M → Go (jloop b t) Q M := by
  intro n
  induction n using Nat.strongRecOn with
  | ind n ih =>
    intro t M hI
    obtain ⟨r, M1, e, q⟩ := h n t M hI
    cases r with
    | inl v => exact ⟨v, M1, jloop_inl e, q⟩
    | inr t1 =>
      obtain ⟨m, hm, hI1⟩ := q
      obtain ⟨v, M2, e2, q2⟩ := ih m hm t1 M1 hI1
      exact ⟨v, M2, (jloop_inr e).trans e2, q2⟩
/-- a loop that counts up from k to n, and then ends -/
theorem go_for {b : σ → JM μ (ρ ⊕ σ)} {Q : ρ → μ → Prop} (n : Nat) (I : Nat → σ → μ → Prop) (h : ∀ k t M, k < n → I k t M → Go (b t) (fun r M1 => match r with
    | .inl v => Q v M1
    | .inr t1 => I (k + 1) t1 M1) M) (hend : ∀ t M, I n t M → Go (b t) (fun r M1 => match r with
    | .inl v => Q v M1
    | .inr _ => False) M) (k : Nat) (hk : k ≤ n) (t : σ) (M : μ) (hI : I k t M) : Go (jloop b t) Q M := by
  refine go_loop (fun d t M => d ≤ n ∧ I (n - d) t M) (fun d t M ⟨hd, hI⟩ => ?_) (n - k) t M ⟨Nat.sub_le _ _, by rw [Nat.sub_sub_self hk]; exact hI⟩
  by_cases h0 : d = 0
  · subst h0
    refine (hend t M hI).mono (fun r M1 q => ?_)
    cases r with
    | inl v => exact q
    | inr t1 => exact False.elim q
  · refine (h (n - d) t M (by omega) hI).mono (fun r M1 q => ?_)
    cases r with
    | inl v => exact q
    | inr t1 =>
      refine ⟨d - 1, by omega, by omega, ?_⟩
      have e : n - (d - 1) = n - d + 1 := by omega
      show I (n - (d - 1)) t1 M1
      rw [e]
      exact q
end GO
section GOM
variable {α τ : Type} {I : Nat → Nat → Int32} {M : Mem}
theorem go_getI {c k a : Nat} {Q : Int32 → Mem → Prop} (hK : mK M a = some (.inl c)) (q : Q (mI M a k) M) : Go (jgetI c k a) Q M := ⟨_, _, if_pos hK, q⟩
theorem go_getL {c k a : Nat} {Q : Int64 → Mem → Prop} (hK : mK M a = some (.inl c)) (q : Q (mL M a k) M) : Go (jgetL c k a) Q M := ⟨_, _, if_pos hK, q⟩
theorem go_getO {c k a : Nat} {Q : Option Nat → Mem → Prop} (hK : mK M a = some (.inl c)) (q : Q (mR M a k) M) : Go (jgetO c k a) Q M := ⟨_, _, if_pos hK, q⟩
theorem go_getA {c k a b : Nat} {Q : Nat → Mem → Prop} (hK : mK M a = some (.inl c)) (hR : mR M a k = some b) (q : Q b M) : Go (jgetA c k a) Q M := ⟨b, M, by unfold jgetA; rw [if_pos hK, hR], q⟩
theorem go_putI {c k a : Nat} {v : Int32} {Q : Unit → Mem → Prop} (hK : mK M a = some (.inl c)) (q : Q () (sI M (up2 (mI M) a k v))) : Go (jputI c k a v) Q M := ⟨_, _, if_pos hK, q⟩
theorem go_putL {c k a : Nat} {v : Int64} {Q : Unit → Mem → Prop} (hK : mK M a = some (.inl c)) (q : Q () (sL M (up2 (mL M) a k v))) : Go (jputL c k a v) Q M := ⟨_, _, if_pos hK, q⟩
theorem go_putO {c k a : Nat} {v : Option Nat} {Q : Unit → Mem → Prop} (hK : mK M a = some (.inl c)) (q : Q () (sR M (up2 (mR M) a k v))) : Go (jputO c k a v) Q M := ⟨_, _, if_pos hK, q⟩
theorem go_putZ {c k a : Nat} {v : Int32} {Q : Unit → Mem → Prop} (hK : mK M a = some (.inl c)) (hv : v = 0 ∨ v = 1) (q : Q () (sI M (up2 (mI M) a k v))) : Go (jputZ c k a v) Q M := ⟨_, _, if_pos ⟨hK, hv⟩, q⟩
theorem go_jcall {ρ : Type} {c b : Nat} {f : JM Mem ρ} {Q : ρ → Mem → Prop} (hK : mK M b = some (.inl c)) (h : Go f Q M) : Go (jcall c b f) Q M := by
  obtain ⟨v, M', e, q⟩ := h
  exact ⟨v, M', (if_pos hK).trans e, q⟩
end GOM
