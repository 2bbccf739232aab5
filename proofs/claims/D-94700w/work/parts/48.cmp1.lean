/-! THE COMPONENT: brackets of spans, closing, series. -/
set_option maxRecDepth 100000
section CMP1
variable {α τ : Type} {M : Mem} {N N' : NM} {c w s a b to : Nat} {p : Int} {n m ma mb : Nat} {T : Nat → Nat → Nat → Int} {R Ra Rb : Nat → Nat → Int} {ld la lb : Nat → Nat} {S A B : VS}
theorem w_sel {F : Int32 → JM Mem α} {Q : α → Mem → NM → Prop} {x y : Int} (hx : zR x) (hy : zR y) (h : ∀ v : Int, v = (if x = y then 1 else 0) → GN M N (F (zI v)) Q) : GN M N (if zI x = zI y then F 1 else F 0) Q :=
  w_eq hx hy (fun e => h 1 (by rw [if_pos e])) (fun e => h 0 (by rw [if_neg e]))
theorem w_leeq {x y u v : Int} {A B : JM Mem α} {Q : α → Mem → NM → Prop} (hx : zR x) (hy : zR y) (hu : zR u) (hv : zR v) (h1 : y < x ∧ u = v ∨ x ≤ y → GN M N A Q) (h2 : y < x → u ≠ v → GN M N B Q) :
    GN M N (if zI x ≤ zI y then A else if zI u = zI v then A else B) Q :=
  w_le hx hy (fun e => h1 (Or.inr e)) (fun e => w_eq hu hv (fun e2 => h1 (Or.inl ⟨e, e2⟩)) (fun e2 => h2 e e2))
theorem bk_out {X Y : Nat → Int} (hT : WOk p n T) {k : Nat} (hk : n ≤ k) : bk n T X Y k = 0 := by
  unfold bk
  refine (sm_congr (g := fun _ => 0) (fun i _ => ?_)).trans (sm_zero n)
  refine (sm_congr (g := fun _ => 0) (fun j _ => ?_)).trans (sm_zero n)
  rw [hT.2.2.2.2.1 i j k (by omega), Int.mul_zero]
/-- a bracket, reduced -/
def bkm (p : Int) (n : Nat) (T : Nat → Nat → Nat → Int) (X Y : Nat → Int) : Nat → Int := fun k => bk n T X Y k % p
theorem bkm_bd {X Y : Nat → Int} (hT : WOk p n T) (k : Nat) : 0 ≤ bkm p n T X Y k ∧ bkm p n T X Y k < p ∧ (n ≤ k → bkm p n T X Y k = 0) := by
  have := hT.1.pos
  refine ⟨Int.emod_nonneg _ (by omega), Int.emod_lt_of_pos _ (by omega), fun hk => ?_⟩
  show bk n T X Y k % p = 0
  rw [bk_out hT hk, Int.zero_emod]
theorem bkm_q {X Y : Nat → Int} : Vq p n (bkm p n T X Y) (bk n T X Y) := fun _ _ => Cg.mod p _
theorem Br.rows (hA : Ech p n ma Ra la A) (hB : Ech p n mb Rb lb B) (hS : Sbp p n S) (h : ∀ r s, r < ma → s < mb → S (bk n T (Ra r) (Rb s))) : ∀ v, Br p n T A B v → S v := by
  intro v hv
  refine Br.le hS (fun x y hx hy => ?_) hv
  rw [hA.gen] at hx
  rw [hB.gen] at hy
  exact bk_gn hS (fun x y ⟨r, hr, e⟩ ⟨s, hs, e2⟩ => by rw [e, e2]; exact h r s hr hs) hx hy
theorem SpD.vd (hs : SpD N s p n m R ld S) {r : Nat} (hr : r < m) : VD N (s + 2 + r) p n (R r) := ⟨fun _ hk => hs.at hr hk, hs.bd r⟩
theorem SpD.nil (h : N s 2 = 0) (hp : Pr p) : SpD N s p n 0 (fun _ _ => 0) (fun _ => 0) (Zs p n) :=
  ⟨h, fun r k hr => by omega, fun r hr => by omega, fun _ _ => ⟨Int.le_refl 0, by have := hp.pos; show (0 : Int) < p; omega, fun _ => rfl⟩, fun r q _ hq => by omega, Ech.nil⟩
theorem w_brackets {f : Unit → JM Mem τ} {Q : τ → Mem → NM → Prop} (hC : CL M c) (hW : WL M w) (hD : WD N w p n T) (hw : w + 32 ≤ c + 72 ∨ c + 212 ≤ w) (ha : SL M a) (hb : SL M b) (ht : SL M to)
    (sa : SpD N a p n ma Ra la A) (sb : SpD N b p n mb Rb lb B) (h77 : c + 77 ≤ a ∧ c + 77 ≤ b ∧ c + 77 ≤ to ∧ to + 8 ≤ c + 192) (da : to + 8 ≤ a ∨ a + 8 ≤ to) (db : to + 8 ≤ b ∨ b + 8 ≤ to)
    (h : ∀ N' m' R' ld', SpD N' to p n m' R' ld' (Br p n T A B) → (∀ x, x ≠ c + 74 → x < to ∨ to + 8 ≤ x → N' x = N x) → GN M N' (f ()) Q) :
    GN M N (jb (jcall 0 c (f_X0_brackets c w a b to)) f) Q := by
  have hpb := hD.pb
  have hn5 := hD.n5
  have hp := hD.pr
  have hma := sa.mn hp
  have hmb := sb.mn hp
  refine w_Cc hC ?_
  unfold f_X0_brackets
  rw [z_0]
  refine w_putI ht.1 ?_
  have hzk := hC.ka (o := 74) (d := (0, 5)) rfl
  refine w_up ma (fun r N1 => ∃ m' R' ld' S', SpD N1 to p n m' R' ld' S' ∧ (∀ x, S' x → Br p n T A B x) ∧ (∀ r' s, r' < r → s < mb → S' (bk n T (Ra r') (Rb s))) ∧ ∀ x, x ≠ c + 74 → x < to ∨ to + 8 ≤ x → N1 x = N x) 0 rfl (by omega)
    ⟨0, _, _, _, SpD.nil (by simp [up2]) hp, fun x hx => Br.sb.zv hx, fun r' s hr => by omega, fun x _ hx => by funext k; show (if x = to ∧ k = 2 then _ else N x k) = N x k; rw [if_neg (by omega)]⟩ ?_
  rintro r N1 hr ⟨m', R', ld', S', hs, hle, hdn, hfr⟩
  unfold X0_brackets_L9
  have fra : ∀ N1 : NM, (∀ x, x ≠ c + 74 → x < to ∨ to + 8 ≤ x → N1 x = N x) → SpD N1 a p n ma Ra la A := fun N1 g => sa.fr (fun b h1 h2 _ => g b (by omega) (by omega)) hp hn5
  have frb : ∀ N1 : NM, (∀ x, x ≠ c + 74 → x < to ∨ to + 8 ≤ x → N1 x = N x) → SpD N1 b p n mb Rb lb B := fun N1 g => sb.fr (fun b h1 h2 _ => g b (by omega) (by omega)) hp hn5
  have frw : ∀ N1 : NM, (∀ x, x ≠ c + 74 → x < to ∨ to + 8 ≤ x → N1 x = N x) → WD N1 w p n T := fun N1 g => hD.fr (fun b h1 h2 => g b (by omega) (by omega))
  refine w_getI ha.1 ?_
  rw [(fra N1 hfr).me]
  refine w_le ⟨by omega, by omega⟩ ⟨by omega, by omega⟩ (fun hc => ?_) (fun hc => ?_)
  · have e : S' = Br p n T A B := vs_anti hle (Br.rows sa.ech sb.ech hs.ech.sb (fun r' s h1 h2 => hdn r' s (by omega) h2))
    rw [e] at hs
    exact w_jinl (w_jp (h N1 m' R' ld' hs hfr))
  rw [z_0]
  refine w_up mb (fun s N2 => ∃ m' R' ld' S', SpD N2 to p n m' R' ld' S' ∧ (∀ x, S' x → Br p n T A B x) ∧ (∀ r' s', r' < ma → s' < mb → r' < r ∨ r' = r ∧ s' < s → S' (bk n T (Ra r') (Rb s'))) ∧ ∀ x, x ≠ c + 74 → x < to ∨ to + 8 ≤ x → N2 x = N x) 0 rfl (by omega)
    ⟨m', R', ld', S', hs, hle, fun r' s' _ h2 h3 => hdn r' s' (by omega) h2, hfr⟩ ?_
  rintro s N2 hsm ⟨m2, R2, ld2, S2, hs2, hle2, hdn2, hfr2⟩
  unfold X0_brackets_L21
  refine w_getI hb.1 ?_
  rw [(frb N2 hfr2).me]
  refine w_le ⟨by omega, by omega⟩ ⟨by omega, by omega⟩ (fun hd => ?_) (fun hd => ?_)
  · unfold X0_brackets_b69
    rw [z_1, zI_add]
    exact w_jinl (w_jcont ⟨by omega, rfl, m2, R2, ld2, S2, hs2, hle2, fun r' s' h1 h2 => hdn2 r' s' (by omega) h2 (by omega), hfr2⟩)
  have hrm : r < ma := by omega
  have hsmb : s < mb := by omega
  refine w_Sr ha (by omega) ?_
  refine w_Sr hb (by omega) ?_
  refine w_Cf hC rfl ?_
  refine w_wbracket hW (frw N2 hfr2) (ha.kr (by omega)) (by omega) (hb.kr (by omega)) (by omega) hzk (by omega) ((fra N2 hfr2).vd hrm) ((frb N2 hfr2).vd hsmb) (by omega) (by omega) (by omega) ?_
  refine w_Cf hC rfl ?_
  refine w_add ht hW ((frw N2 hfr2).fr (fun b h1 h2 => wr5_ne (by omega))) (hs2.fr (fun b h1 h2 _ => wr5_ne (by omega)) hp hn5) hzk (by omega) (X := bkm p n T (Ra r) (Rb s)) ⟨fun k hk => wr5_at hk, bkm_bd hD.ok⟩ (by omega) (by omega) (by omega) (fun N3 m3 R3 ld3 x hs3 _ hfr3 => ?_)
  rw [z_1, zI_add]
  have hmem : Ad S2 (bkm p n T (Ra r) (Rb s)) (bk n T (Ra r) (Rb s)) := (Ad.sb hs2.ech.sb).q (Ad.me hs2.ech.sb) bkm_q
  refine w_jcont ⟨hsmb, rfl, m3, R3, ld3, _, hs3, fun x hx => Ad.min Br.sb hle2 (Br.sb.q (Br.mem (sa.ech.row hrm) (sb.ech.row hsmb)) bkm_q.sy) hx, fun r' s' h1 h2 h3 => ?_, fun x h1 h2 => ?_⟩
  · by_cases e : r' = r ∧ s' = s
    · rw [e.1, e.2]; exact hmem
    · exact Ad.le hs2.ech.sb (hdn2 r' s' h1 h2 (by omega))
  · rw [hfr3 x h1 h2, wr5_ne h1, hfr2 x h1 h2]
/-- closing a span; next and all are worked on -/
theorem w_closes {f : Unit → JM Mem τ} {Q : τ → Mem → NM → Prop} {wa : Int} (hC : CL M c) (hW : WL M w) (hD : WD N w p n T) (hw : w + 32 ≤ c + 72 ∨ c + 212 ≤ w) (hS : SL M s) (hs : SpD N s p n m R ld S) (hwa : wa = 0 ∨ wa = 1)
    (h77 : c + 77 ≤ s ∧ s + 8 ≤ c + 93 ∨ c + 109 ≤ s ∧ s + 8 ≤ c + 192)
    (h : ∀ N' m' R' ld', SpD N' s p n m' R' ld' (Cl p n T (wa = 1) S) → (∀ x, x ≠ c + 74 → x < c + 93 ∨ c + 109 ≤ x → x < s ∨ s + 8 ≤ x → N' x = N x) → GN M N' (f ()) Q) :
    GN M N (jb (jcall 0 c (f_X0_closes c w s (zI wa))) f) Q := by
  have hpb := hD.pb
  have hn5 := hD.n5
  have hp := hD.pr
  refine w_Cc hC ?_
  unfold f_X0_closes
  refine w_Cf hC rfl ?_
  refine w_all hC.s101 hW hD (by omega) (fun N0 hall hfr0 => ?_)
  have hzk := hC.ka (o := 74) (d := (0, 5)) rfl
  refine w_loop (fun d t N1 => ∃ (more : Int) (m1 : Nat) (R1 : Nat → Nat → Int) (ld1 : Nat → Nat) (S1 : VS), t = zI more ∧ (more = 0 ∨ more = 1) ∧ d = 2 * (n - m1) + more.toNat ∧ SpD N1 s p n m1 R1 ld1 S1 ∧ (∀ x, S x → S1 x) ∧ (∀ x, S1 x → Cl p n T (wa = 1) S x) ∧
      (more = 0 → Clo n T (wa = 1) S1) ∧ SpD N1 (c + 101) p n n (fun r k => if k < n then un r k else 0) (fun r => r) Al ∧ ∀ x, x ≠ c + 74 → x < c + 93 ∨ c + 109 ≤ x → x < s ∨ s + 8 ≤ x → N1 x = N x) (2 * (n - m) + 1) _
    ⟨1, m, R, ld, S, rfl, Or.inr rfl, rfl, hs.fr (fun b h1 h2 _ => hfr0 b (by omega)) hp hn5, fun _ h => h, fun _ h => Cl.le h, fun e => by omega, hall, fun x h1 h2 h3 => hfr0 x (by omega)⟩ ?_
  rintro d t N1 ⟨more, m1, R1, ld1, S1, rfl, hmore, rfl, hs1, hle, hge, hcl, hal, hfr⟩
  have hmn1 := hs1.mn hp
  unfold X0_closes_L11
  rw [z_0]
  refine w_eq ⟨by omega, by omega⟩ ⟨by omega, by omega⟩ (fun hc => ?_) (fun hc => ?_)
  · have e : S1 = Cl p n T (wa = 1) S := Cl.uni hs1.ech.sb hle (hcl hc) hge
    rw [e] at hs1
    exact w_jinl (w_jp (h N1 m1 R1 ld1 hs1 hfr))
  have hm1 : more = 1 := by omega
  subst hm1
  have frw : ∀ N1 : NM, (∀ x, x ≠ c + 74 → x < c + 93 ∨ c + 109 ≤ x → x < s ∨ s + 8 ≤ x → N1 x = N x) → WD N1 w p n T := fun N1 g => hD.fr (fun b h1 h2 => g b (by omega) (by omega) (by omega))
  -- both ways of it
  have key : ∀ (b : Nat) (mb : Nat) (Rb : Nat → Nat → Int) (lb : Nat → Nat) (B : VS), SL M b → SpD N1 b p n mb Rb lb B → (b = s ∨ b = c + 101) → (∀ x y, S1 x → B y → Cl p n T (wa = 1) S (bk n T x y)) → (∀ S2 : VS, (∀ x, S1 x → S2 x) → (∀ x, S2 x → S1 x) → (∀ x, Br p n T S1 B x → S2 x) → Clo n T (wa = 1) S2) →
      GN M N1 (X0_closes_b31 c w s (zI wa) c w s b) (LQ (fun v M1 N1 => GN M1 N1 (f v) Q) (KF M (fun t1 N2 => ∃ m_1, m_1 < 2 * (n - m1) + (1 : Int).toNat ∧ ∃ (more : Int) (m1 : Nat) (R1 : Nat → Nat → Int) (ld1 : Nat → Nat) (S1 : VS), t1 = zI more ∧ (more = 0 ∨ more = 1) ∧ m_1 = 2 * (n - m1) + more.toNat ∧ SpD N2 s p n m1 R1 ld1 S1 ∧ (∀ x, S x → S1 x) ∧ (∀ x, S1 x → Cl p n T (wa = 1) S x) ∧
      (more = 0 → Clo n T (wa = 1) S1) ∧ SpD N2 (c + 101) p n n (fun r k => if k < n then un r k else 0) (fun r => r) Al ∧ ∀ x, x ≠ c + 74 → x < c + 93 ∨ c + 109 ≤ x → x < s ∨ s + 8 ≤ x → N2 x = N x))) := by
    intro b mb Rb lb B hSb hsb hbs hin hout
    unfold X0_closes_b31
    refine w_Cf hC rfl ?_
    refine w_brackets hC hW (frw N1 hfr) hw hS hSb hC.s93 hs1 hsb (by omega) (by omega) (by omega) (fun N2 mn Rn ln hsn hfr2 => ?_)
    have hmn := hsn.mn hp
    rw [z_0]
    refine w_up2 mn (fun r x N3 => ∃ m3 R3 ld3 S3, SpD N3 s p n m3 R3 ld3 S3 ∧ (∀ x, S1 x → S3 x) ∧ (∀ x, S3 x → Cl p n T (wa = 1) S x) ∧ (∀ r', r' < r → S3 (Rn r')) ∧ (x = 0 ∧ (∀ x, S3 x → S1 x) ∧ m3 = m1 ∨ x = 1 ∧ m1 < m3) ∧
        SpD N3 (c + 93) p n mn Rn ln (Br p n T S1 B) ∧ SpD N3 (c + 101) p n n (fun r k => if k < n then un r k else 0) (fun r => r) Al ∧ ∀ x, x ≠ c + 74 → x < c + 93 ∨ c + 109 ≤ x → x < s ∨ s + 8 ≤ x → N3 x = N x) 0 0 rfl (by omega)
      ⟨m1, R1, ld1, S1, hs1.fr (fun b h1 h2 _ => hfr2 b (by omega) (by omega)) hp hn5, fun _ h => h, hge, fun r' hr => by omega, Or.inl ⟨rfl, fun _ h => h, rfl⟩, hsn, hal.fr (fun b h1 h2 _ => hfr2 b (by omega) (by omega)) hp hn5, fun x h1 h2 h3 => by rw [hfr2 x h1 (by omega), hfr x h1 h2 h3]⟩ ?_
    rintro r x N3 hr ⟨m3, R3, ld3, S3, hs3, hle3, hge3, hdn3, hx, hsn3, hal3, hfr3⟩
    show GN M N3 (X0_closes_L44 c w s (zI wa) (zI _) (zI _)) _
    have hmn3 := hs3.mn hp
    unfold X0_closes_L44
    refine w_Cf hC rfl ?_
    refine w_getI hC.s93.1 ?_
    rw [hsn3.me]
    refine w_le ⟨by omega, by omega⟩ ⟨by omega, by omega⟩ (fun hd => ?_) (fun hd => ?_)
    · refine w_jinl (w_jcont ⟨2 * (n - m3) + x.toNat, by omega, x, m3, R3, ld3, S3, rfl, by omega, rfl, hs3, fun y hy => hle3 y (hle y hy), hge3, fun e => ?_, hal3, hfr3⟩)
      rcases hx with ⟨_, h2, _⟩ | ⟨h1, _⟩
      · refine hout S3 hle3 h2 (fun y hy => ?_)
        rw [hsn.ech.gen] at hy
        exact Gn.le hs3.ech.sb (fun g ⟨r', h1, e2⟩ => by rw [e2]; exact hdn3 r' (by omega)) hy
      · omega
    have hrm : r < mn := by omega
    refine w_Cf hC rfl ?_
    refine w_Sr hC.s93 (by omega) ?_
    refine w_Cf hC rfl ?_
    rw [z_0]
    refine w_copy5 (hC.s93.kr (by omega)) hzk (by omega) (by omega) ?_
    refine w_Cf hC rfl ?_
    have fc : ∀ b, b ≠ c + 74 → cp5 N3 (c + 93 + 2 + r) (c + 74) b = N3 b := fun b hb => by
      funext k
      show (if b = c + 74 ∧ _ then _ else N3 b k) = _
      rw [if_neg (by omega)]
    refine w_add hS hW ((frw N3 hfr3).fr (fun b h1 h2 => fc b (by omega))) (hs3.fr (fun b h1 h2 _ => fc b (by omega)) hp hn5) hzk (by omega) (X := Rn r) ⟨fun k hk => ?_, hsn3.bd r⟩ (by omega) (by omega) (by omega) (fun N4 m4 R4 ld4 y hs4 hy hfr4 => ?_)
    · show (if c + 74 = c + 74 ∧ k < 5 then N3 (c + 93 + 2 + r) k else _) = Rn r k
      rw [if_pos ⟨rfl, hk⟩, hsn3.at hrm hk]
    have hcont : ∀ z : Int, (z = 0 ∧ x = 0 ∧ y = 0 ∨ z = 1 ∧ (x = 1 ∨ y = 1)) → GN M N4 (X0_closes_b98 c w s (zI wa) (zI r) (zI z)) (LQ (LQ (fun v M1 N1 => GN M1 N1 (f v) Q) (KF M (fun t1 N2 => ∃ m_1, m_1 < 2 * (n - m1) + (1 : Int).toNat ∧ ∃ (more : Int) (m1 : Nat) (R1 : Nat → Nat → Int) (ld1 : Nat → Nat) (S1 : VS), t1 = zI more ∧ (more = 0 ∨ more = 1) ∧ m_1 = 2 * (n - m1) + more.toNat ∧ SpD N2 s p n m1 R1 ld1 S1 ∧ (∀ x, S x → S1 x) ∧ (∀ x, S1 x → Cl p n T (wa = 1) S x) ∧
      (more = 0 → Clo n T (wa = 1) S1) ∧ SpD N2 (c + 101) p n n (fun r k => if k < n then un r k else 0) (fun r => r) Al ∧ ∀ x, x ≠ c + 74 → x < c + 93 ∨ c + 109 ≤ x → x < s ∨ s + 8 ≤ x → N2 x = N x)))
      (KF M (fun t N3 => r < mn ∧ ∃ a1, t = (zI a1, zI ((r : Int) + 1)) ∧ ∃ m3 R3 ld3 S3, SpD N3 s p n m3 R3 ld3 S3 ∧ (∀ x, S1 x → S3 x) ∧ (∀ x, S3 x → Cl p n T (wa = 1) S x) ∧ (∀ r', r' < r + 1 → S3 (Rn r')) ∧ (a1 = 0 ∧ (∀ x, S3 x → S1 x) ∧ m3 = m1 ∨ a1 = 1 ∧ m1 < m3) ∧
        SpD N3 (c + 93) p n mn Rn ln (Br p n T S1 B) ∧ SpD N3 (c + 101) p n n (fun r k => if k < n then un r k else 0) (fun r => r) Al ∧ ∀ x, x ≠ c + 74 → x < c + 93 ∨ c + 109 ≤ x → x < s ∨ s + 8 ≤ x → N3 x = N x))) := by
      intro z hz
      unfold X0_closes_b98
      rw [z_1, zI_add]
      refine w_jcont ⟨hrm, z, rfl, m4, R4, ld4, _, hs4, fun y hy => Ad.le hs3.ech.sb (hle3 y hy), fun y hy => Ad.min Cl.sb hge3 ?_ hy, fun r' hr' => ?_, ?_, hsn3.fr (fun b h1 h2 _ => ?_) hp hn5, hal3.fr (fun b h1 h2 _ => ?_) hp hn5, fun b h1 h2 h3 => ?_⟩
      · have := hsn.ech.row hrm
        exact Br.le Cl.sb hin this
      · by_cases e : r' = r
        · rw [e]; exact Ad.me hs3.ech.sb
        · exact Ad.le hs3.ech.sb (hdn3 r' (by omega))
      · rcases hz with ⟨e1, e2, e3⟩ | ⟨e1, e2⟩
        · left
          rcases hy with ⟨_, e5, e6⟩ | ⟨e4, _⟩
          · rcases hx with ⟨_, h2, h3⟩ | ⟨h1, _⟩
            · refine ⟨e1, fun q hq => h2 q ?_, by omega⟩
              rw [Ad.same hs3.ech.sb e6] at hq
              exact hq
            · omega
          · omega
        · right
          refine ⟨e1, ?_⟩
          rcases hx with ⟨h1, _, h3⟩ | ⟨h1, h3⟩ <;> rcases hy with ⟨h4, h5, _⟩ | ⟨h4, h5, _⟩ <;> omega
      · rw [hfr4 b (by omega) (by omega), fc b (by omega)]
      · rw [hfr4 b (by omega) (by omega), fc b (by omega)]
      · rw [hfr4 b h1 h3, fc b h1, hfr3 b h1 h2 h3]
    have hyb : y = 0 ∨ y = 1 := by rcases hy with ⟨e, _⟩ | ⟨e, _⟩ <;> omega
    have hxb : x = 0 ∨ x = 1 := by rcases hx with ⟨e, _⟩ | ⟨e, _⟩ <;> omega
    unfold X0_closes_b93
    refine w_eq ⟨by omega, by omega⟩ ⟨by omega, by omega⟩ (fun e1 => ?_) (fun e1 => ?_)
    · refine w_eq ⟨by omega, by omega⟩ ⟨by omega, by omega⟩ (fun e2 => ?_) (fun e2 => ?_)
      · exact hcont 0 (by omega)
      · rw [z_1]; exact hcont 1 (by omega)
    · rw [z_1]; exact hcont 1 (by omega)
  refine w_eq ⟨by omega, by omega⟩ ⟨by omega, by omega⟩ (fun hd => ?_) (fun hd => ?_)
  · refine key s m1 R1 ld1 S1 hS hs1 (Or.inl rfl) (fun x y hx hy => Cl.clo _ _ (hge x hx) (Or.inr (hge y hy))) (fun S2 g1 g2 g3 x y hx hy => ?_)
    rcases hy with e | hy
    · omega
    · exact g3 _ (Br.mem (g2 x hx) (g2 y hy))
  · refine w_Cf hC rfl ?_
    refine key (c + 101) n _ _ Al hC.s101 hal (Or.inr rfl) (fun x y hx _ => Cl.clo _ _ (hge x hx) (Or.inl (by omega))) (fun S2 g1 g2 g3 x y hx _ => g3 _ (Br.mem (g2 x hx) trivial))
end CMP1
