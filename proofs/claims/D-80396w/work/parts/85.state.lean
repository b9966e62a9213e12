/-! failures and their counts; a double's parts by the number it holds -/
def cF (g : Nat → Int32) (f : Nat) : Nat → Int32 := if f = 0 then g else upd g f (g f + 1)
theorem kZ_clN {f : Nat} (h : f < 2147483648) : (kZ (f : Int)).toNatClampNeg = f := kZ_cl h
theorem c_fails {g : Nat → Int32} {f : Nat} {post : Int32 → (Int32 × (Nat → Int32)) → Prop} (h1 : 1 ≤ f) (h2 : f ≤ 9) (hp : post 0 (kZ (f : Int), cF g f)) : wX0_fails g (kZ (f : Int)) post := by
  have hi : vp_in (kZ (f : Int)) 10 := kz_in (by omega) (by omega)
  refine ⟨hi, fun x1 e1 => ⟨hi, ?_⟩⟩
  rw [e1, kZ_clN (by omega)]
  unfold cF at hp
  rw [if_neg (by omega)] at hp
  exact hp
theorem m_fail {g : Nat → Int32} {f : Nat} {post : Int64 → (Int32 × (Nat → Int32)) → Prop} (h1 : 1 ≤ f) (h2 : f ≤ 9) (hp : post 0 (kZ (f : Int), cF g f)) : wX6_fail g (kZ (f : Int)) post := by
  have hi : vp_in (kZ (f : Int)) 10 := kz_in (by omega) (by omega)
  refine ⟨hi, fun x1 e1 => ⟨hi, ?_⟩⟩
  rw [e1, kZ_clN (by omega)]
  unfold cF at hp
  rw [if_neg (by omega)] at hp
  exact hp
theorem c_refused {g : Nat → Int32} {b : Int32} {post : Int32 → (Int32 × (Nat → Int32)) → Prop} (h0 : b = 0 → post 1 (9, cF g 9)) (h1 : ¬ b = 0 → post 0 (0, g)) : wX0_isRefused g b post := by
  refine ⟨fun hb => ?_, h1⟩
  exact c_fails (f := 9) (by decide) (by decide) (h0 hb)
theorem isKind_0 (k : Int32) : (fX0_isKind k = 0) ↔ ¬ isK k := by
  unfold fX0_isKind isK
  rw [lt_eq]
  by_cases h0 : k = 0
  · rw [if_pos h0]
    exact ⟨fun z => absurd z (by decide), fun z => absurd (Or.inl h0) z⟩
  · rw [if_neg h0]
    by_cases h1 : k = 1
    · rw [if_pos h1]
      exact ⟨fun z => absurd z (by decide), fun z => absurd (Or.inr h1) z⟩
    · rw [if_neg h1]
      exact ⟨fun _ z => by rcases z with z | z <;> contradiction, fun _ => rfl⟩
theorem isKind_6 (k : Int32) : (fX6_isKind k = 0) ↔ ¬ isK k := isKind_0 k
theorem isIn_iff {a lo hi : Int} (h1 : -9223372036854775808 ≤ a) (h2 : a < 9223372036854775808) (h3 : -9223372036854775808 ≤ lo) (h4 : lo < 9223372036854775808) (h5 : -9223372036854775808 ≤ hi) (h6 : hi < 9223372036854775808) : (fX0_isIn (jZ a) (jZ lo) (jZ hi) = 0) ↔ ¬ (lo ≤ a ∧ a ≤ hi) := by
  unfold fX0_isIn
  rw [lt_eq]
  have c1 := jZ_lt h1 h2 h3 h4
  have c2 := jZ_lt h5 h6 h1 h2
  by_cases g1 : a < lo
  · rw [if_pos (c1.mpr g1)]
    exact ⟨fun _ => by omega, fun _ => rfl⟩
  · rw [if_neg (fun z => g1 (c1.mp z))]
    by_cases g2 : hi < a
    · rw [if_pos (c2.mpr g2)]
      exact ⟨fun _ => by omega, fun _ => rfl⟩
    · rw [if_neg (fun z => g2 (c2.mp z))]
      exact ⟨fun z => absurd z (by decide), fun z => absurd (⟨by omega, by omega⟩ : lo ≤ a ∧ a ≤ hi) z⟩
theorem isIn_k (p : Int32) {lo hi : Int} (h3 : -9223372036854775808 ≤ lo) (h4 : lo < 9223372036854775808) (h5 : -9223372036854775808 ≤ hi) (h6 : hi < 9223372036854775808) : (fX0_isIn p.toInt64 (jZ lo) (jZ hi) = 0) ↔ ¬ (lo ≤ p.toInt ∧ p.toInt ≤ hi) := by
  have := kI_r p
  rw [kx_j]
  exact isIn_iff (by omega) (by omega) h3 h4 h5 h6
theorem i_lt (p : Int32) {a : Int} (h1 : -2147483648 ≤ a) (h2 : a < 2147483648) : (p < kZ a) ↔ p.toInt < a := by
  have := kI_r p
  conv => lhs; rw [← kI_Z p]
  exact kZ_lt (by omega) (by omega) h1 h2
theorem i_le (p : Int32) {a : Int} (h1 : -2147483648 ≤ a) (h2 : a < 2147483648) : (p ≤ kZ a) ↔ p.toInt ≤ a := by
  have := kI_r p
  conv => lhs; rw [← kI_Z p]
  exact kZ_le (by omega) (by omega) h1 h2
theorem i_gt (p : Int32) {a : Int} (h1 : -2147483648 ≤ a) (h2 : a < 2147483648) : (kZ a < p) ↔ a < p.toInt := by
  have := kI_r p
  conv => lhs; rw [← kI_Z p]
  exact kZ_lt h1 h2 (by omega) (by omega)
theorem i_ge (p : Int32) {a : Int} (h1 : -2147483648 ≤ a) (h2 : a < 2147483648) : (kZ a ≤ p) ↔ a ≤ p.toInt := by
  have := kI_r p
  conv => lhs; rw [← kI_Z p]
  exact kZ_le h1 h2 (by omega) (by omega)
theorem i_eq (p : Int32) {a : Int} (h1 : -2147483648 ≤ a) (h2 : a < 2147483648) : (p = kZ a) ↔ p.toInt = a := by
  have := kI_r p
  conv => lhs; rw [← kI_Z p]
  exact kZ_eq (by omega) (by omega) h1 h2
theorem fitK_of {k : Int32} (hk : isK k) {d : FP.Core.Datum} (h : FP.Core.fits (fm k) d) : fitK d := by
  rcases hk with rfl | rfl
  · exact Or.inl h
  · exact Or.inr h
theorem fr_fitK {k : Int32} (hk : isK k) (x : Int64) : fitK (fr k x) := fitK_of hk (fr_fits hk x)
theorem finite_F {d : FP.Core.Datum} (h : fitK d) : (fX8_isFinite_F (WD d) = 0) ↔ (d = .nan ∨ isInf d = true) := by
  unfold fX8_isFinite_F
  rw [lt_eq]
  have h1 := eqself_W h
  have h2 := endless_W h
  by_cases g1 : d = .nan
  · rw [if_neg (fun z => h1.mp z g1)]
    exact ⟨fun _ => Or.inl g1, fun _ => rfl⟩
  · rw [if_pos (h1.mpr g1)]
    by_cases g2 : isInf d = false
    · rw [if_pos (h2.mpr g2)]
      refine ⟨fun z => absurd z (by decide), fun z => ?_⟩
      rcases z with z | z
      · exact absurd z g1
      · rw [g2] at z; cases z
    · rw [if_neg (fun z => g2 (h2.mp z))]
      exact ⟨fun _ => Or.inr (bnf g2), fun _ => rfl⟩
theorem finite_D {d : FP.Core.Datum} (h : fitK d) : (fX8_isFinite_D (WD d) = 0) ↔ (d = .nan ∨ isInf d = true) := finite_F h
/-- neither none nor infinite -/
def isFin (d : FP.Core.Datum) : Prop := ∃ s c q, d = .fin s c q
theorem fin_or (d : FP.Core.Datum) : isFin d ∨ ((d = .nan ∨ isInf d = true) ∧ ¬ isFin d) := by
  cases d with
  | nan => exact Or.inr ⟨Or.inl rfl, fun ⟨s, c, q, h⟩ => by cases h⟩
  | inf s => exact Or.inr ⟨Or.inr rfl, fun ⟨_, c, q, h⟩ => by cases h⟩
  | fin s c q => exact Or.inl ⟨s, c, q, rfl⟩
theorem c_lacks {g : Nat → Int32} {k : Int32} {x : Int64} {b : Int32} {post : Int32 → (Int32 × (Nat → Int32)) → Prop} (hr : (b = 0 ∨ ¬ isK k) → post 1 (9, cF g 9)) (hn : ¬ b = 0 → isK k → ¬ isFin (fr k x) → post 1 (7, cF g 7)) (hf : ¬ b = 0 → isK k → isFin (fr k x) → post 0 (0, g)) : wX0_lacks g k x b post := by
  unfold wX0_lacks
  intro x1 e1
  have hki := isKind_0 k
  by_cases hb : b = 0
  · rw [if_pos hb] at e1
    refine c_refused (fun _ => ⟨fun z => absurd z (by decide), fun _ => hr (Or.inl hb)⟩) (fun z => absurd e1 z)
  rw [if_neg hb] at e1
  by_cases hk : isK k
  · rw [if_neg (fun z => hki.mp z hk)] at e1
    refine c_refused (fun z => by rw [e1] at z; exact absurd z (by decide)) (fun _ => ⟨fun _ => ?_, fun z => absurd rfl z⟩)
    have hfin : ∀ y : Int32, y = (if (0 : Int32) ≤ 0 then 0 else 1) → post y (0, g) ∨ ¬ isFin (fr k x) := by
      intro y hy
      rcases fin_or (fr k x) with h | h
      · rw [hy, if_pos (by decide)]; exact Or.inl (hf hb hk h)
      · exact Or.inr h.2
    have h7 : ∀ y : Int32, ¬ isFin (fr k x) → y = (if (7 : Int32) ≤ 0 then 0 else 1) → post y (7, cF g 7) := by
      intro y h hy
      rw [hy, if_neg (by decide)]
      exact hn hb hk h
    rcases hk with rfl | rfl
    · obtain ⟨f1, f2⟩ := from_F x
      have hF := finite_F (fr_fitK (Or.inl rfl) x)
      rw [← f1] at hF
      refine ⟨fun _ => ⟨f2, fun z => ?_, fun z y hy => ?_⟩, fun z => absurd rfl z⟩
      · have h : ¬ isFin (fr 0 x) := by
          rcases fin_or (fr 0 x) with ⟨s, c, q, e⟩ | h
          · rcases hF.mp z with h | h <;> rw [e] at h <;> cases h
          · exact h.2
        exact c_fails (f := 7) (by decide) (by decide) (fun y hy => h7 y h hy)
      · rcases fin_or (fr 0 x) with h | h
        · rcases hfin y hy with h2 | h2
          · exact h2
          · exact absurd h h2
        · exact absurd (hF.mpr h.1) z
    · obtain ⟨f1, f2⟩ := from_D x
      have hF := finite_D (fr_fitK (Or.inr rfl) x)
      rw [← f1] at hF
      refine ⟨fun z => absurd z (by decide), fun _ => ⟨f2, fun z => ?_, fun z y hy => ?_⟩⟩
      · have h : ¬ isFin (fr 1 x) := by
          rcases fin_or (fr 1 x) with ⟨s, c, q, e⟩ | h
          · rcases hF.mp z with h | h <;> rw [e] at h <;> cases h
          · exact h.2
        exact c_fails (f := 7) (by decide) (by decide) (fun y hy => h7 y h hy)
      · rcases fin_or (fr 1 x) with h | h
        · rcases hfin y hy with h2 | h2
          · exact h2
          · exact absurd h h2
        · exact absurd (hF.mpr h.1) z
  · rw [if_pos (hki.mpr hk)] at e1
    refine c_refused (fun _ => ⟨fun z => absurd z (by decide), fun _ => hr (Or.inr hk)⟩) (fun z => absurd e1 z)
theorem m_isFinite {k : Int32} (hk : isK k) {x : Int64} {post : Int32 → (Int32 × Int32 × Int32 × Int64 × Int32) → Prop} (hn : ¬ isFin (fr k x) → ∀ u, post 0 u) (hf : ∀ s c q, fr k x = .fin s c q → post 1 (bz s, 0, 0, jZ (c : Int), kZ q)) : wX6_isFinite k x post := by
  unfold wX6_isFinite
  refine take_K hk x ?_
  rcases hd : fr k x with _ | s | ⟨s, c, q⟩
  · have h : ¬ isFin (fr k x) := by rw [hd]; rintro ⟨s, c, q, e⟩; cases e
    exact fun m n x3 e3 => by rw [e3, if_neg (show ¬ (1 : Int32) = 0 by decide)]; exact hn h _
  · have h : ¬ isFin (fr k x) := by rw [hd]; rintro ⟨_, c, q, e⟩; cases e
    exact fun n x3 e3 => by rw [e3, if_pos (show (0 : Int32) = 0 from rfl), if_neg (show ¬ (1 : Int32) = 0 by decide)]; exact hn h _
  · exact fun x3 e3 => by rw [e3, if_pos (show (0 : Int32) = 0 from rfl), if_pos (show (0 : Int32) = 0 from rfl)]; exact hf s c q hd
/-- the double that holds a number other than 0 -/
theorem c53_W {c c' : Nat} {q q' : Int} (hc : 0 < c) (hc' : 0 < c') (h : (c' : Rat) * pw2 q' = (c : Rat) * pw2 q) (l : c.log2 ≤ 52) (l' : c'.log2 ≤ 52) : c53 c' = c53 c := by
  have hl := ld_eq hc' hc h
  refine Rat.natCast_inj.mp ?_
  unfold c53
  rw [Rat.natCast_mul, Rat.natCast_mul, ← pw2_nat, ← pw2_nat]
  have e1 : (c' : Rat) * pw2 ((52 - c'.log2 : Nat) : Int) = (c' : Rat) * pw2 q' * pw2 (52 - ((c.log2 : Int) + q)) := by
    rw [Rat.mul_assoc, ← pw2_add]; congr 2; omega
  have e2 : (c : Rat) * pw2 ((52 - c.log2 : Nat) : Int) = (c : Rat) * pw2 q * pw2 (52 - ((c.log2 : Int) + q)) := by
    rw [Rat.mul_assoc, ← pw2_add]; congr 2; omega
  rw [e1, e2, h]
theorem fitK_c {s : Bool} {c : Nat} {q : Int} (h : fitK (.fin s c q)) : c < 9007199254740992 ∧ -1074 ≤ q ∧ q ≤ 971 := by
  rcases h with h | h
  · obtain ⟨a, b, d, e⟩ := fin32 h; omega
  · obtain ⟨a, b, d, e⟩ := fin64 h; omega
theorem wd_fin {s : Bool} {c : Nat} {q : Int} (h : fitK (.fin s c q)) (hc : 0 < c) : ∃ (c' : Nat) (q' : Int), WD (.fin s c q) = E64 (.fin s c' q') ∧ FP.Core.fits FP.Core.b64 (.fin s c' q') ∧ 0 < c' ∧ (c'.log2 : Int) + q' = (c.log2 : Int) + q ∧ c53 c' = c53 c := by
  obtain ⟨c', q', e1, e2, e3⟩ := wid2 h
  have hc' : 0 < c' := by
    rcases Nat.eq_zero_or_pos c' with z | z
    · have := (val0 e3).mp z; omega
    · exact z
  have h1 := (fitK_c h).1
  have h2 := (fin64 e2).1
  refine ⟨c', q', by unfold WD; rw [e1], e2, hc', ld_eq hc' hc e3, c53_W hc hc' e3 ?_ ?_⟩
  · have := ld_lt (n := 53) hc h1; omega
  · have := ld_lt (n := 53) hc' h2; omega
theorem expOf_W {s : Bool} {c : Nat} {q : Int} (h : fitK (.fin s c q)) (hc : 0 < c) : fX0_exponentOf (WD (.fin s c q)) = kZ ((c.log2 : Int) + q) ∧ oX0_exponentOf (WD (.fin s c q)) := by
  obtain ⟨c', q', e1, e2, e3, e4, e5⟩ := wd_fin h hc
  rw [e1, ← e4]; exact expOf e2 e3
theorem power2_DW {s : Bool} {c : Nat} {q : Int} (h : fitK (.fin s c q)) (hc : 0 < c) : fX8_power2_D (WD (.fin s c q)) = kZ ((c.log2 : Int) + q - 52) := by
  obtain ⟨c', q', e1, e2, e3, e4, e5⟩ := wd_fin h hc
  rw [e1, ← e4]; exact power2_D e2 e3
theorem power2_FW {s : Bool} {c : Nat} {q : Int} (h : fitK (.fin s c q)) (hc : 0 < c) : fX8_power2_F (WD (.fin s c q)) = kZ ((c.log2 : Int) + q - 23) := by
  obtain ⟨c', q', e1, e2, e3, e4, e5⟩ := wd_fin h hc
  rw [e1, ← e4]; exact power2_F e2 e3
theorem sizeOf_W {s : Bool} {c : Nat} {q : Int} (h : fitK (.fin s c q)) (hc : 0 < c) : fX0_sizeOf (WD (.fin s c q)) = jZ (c53 c : Int) ∧ oX0_sizeOf (WD (.fin s c q)) := by
  obtain ⟨c', q', e1, e2, e3, e4, e5⟩ := wd_fin h hc
  rw [e1, ← e5]; exact sizeOf_E e2 e3
theorem sclDn_W {s : Bool} {c : Nat} {q n : Int} (h : fitK (.fin s c q)) (hc : 0 < c) {t : Int} (ht0 : 0 ≤ t) (ht : t ≤ 29) (hn : n = (c.log2 : Int) + q - 52 + t) :
    fX0_scaledDown (WD (.fin s c q)) (kZ n) = E64 (.fin s (c53 c) (-t)) ∧ oX0_scaledDown (WD (.fin s c q)) (kZ n) ∧ FP.Core.fits FP.Core.b64 (.fin s (c53 c) (-t)) := by
  obtain ⟨c', q', e1, e2, e3, e4, e5⟩ := wd_fin h hc
  rw [e1, ← e5]
  exact sclDn e2 e3 ht0 ht (by omega)
/-- with p bits of its own -/
def cP (k : Int32) (c : Nat) : Nat := c * 2 ^ ((fm k).p - 1 - c.log2)
theorem fin_k {k : Int32} (hk : isK k) {s : Bool} {c : Nat} {q : Int} (h : FP.Core.fits (fm k) (.fin s c q)) : c < 2 ^ (fm k).p ∧ (fm k).qmin ≤ q ∧ q ≤ (fm k).qmax ∧ (q = (fm k).qmin ∨ (fm k).tails ≤ c) := h
theorem m_fill_go {k : Int32} (hk : isK k) {post : (Int64 × Int32) → Prop} : ∀ (r c : Nat) (q : Int), 0 < c → c < 2 ^ (fm k).p → c.log2 + r + 1 = (fm k).p → post (jZ ((c * 2 ^ r : Nat) : Int), kZ (q - r)) → wX6_fill_0 k post (r + 1) (jZ (c : Int)) (kZ q) := by
  have hn := fm_num hk
  have hsh : jshl 1 (fX6_bitsOf k - 1) = jZ ((2 ^ ((fm k).p - 1) : Nat) : Int) := by
    rw [bitsOf_k hk, show (1 : Int32) = kZ 1 from rfl, kZ_sub, show (((fm k).p : Nat) : Int) - 1 = (((fm k).p - 1 : Nat) : Int) by omega, show (1 : Int64) = jZ 1 from rfl, jZ_shl _ (by omega), Int.one_mul]
  have hp52 : 2 ^ ((fm k).p - 1) ≤ 2 ^ 52 := Nat.pow_le_pow_right (by decide) (by omega)
  have hp53 : 2 ^ (fm k).p ≤ 2 ^ 53 := Nat.pow_le_pow_right (by decide) (by omega)
  have hpos := Nat.two_pow_pos ((fm k).p - 1)
  intro r
  induction r with
  | zero =>
    intro c q hc hcp hl hp
    have hb := (ld_b hc).1
    rw [show c.log2 = (fm k).p - 1 by omega] at hb
    unfold wX6_fill_0
    rw [hsh]
    refine ⟨fun z => ?_, fun _ => ?_⟩
    · rw [jZ_lt (by omega) (by omega) (by omega) (by omega)] at z
      omega
    · rw [Nat.pow_zero, Nat.mul_one, show q - ((0 : Nat) : Int) = q by omega] at hp
      exact hp
  | succ r ih =>
    intro c q hc hcp hl hp
    have hb := (ld_b hc).2
    have hb2 : 2 ^ (c.log2 + 1) ≤ 2 ^ ((fm k).p - 1) := Nat.pow_le_pow_right (by decide) (by omega)
    have hpp : 2 ^ (fm k).p = 2 * 2 ^ ((fm k).p - 1) := by
      have e := Nat.pow_succ (n := 2) (m := (fm k).p - 1)
      rw [show ((fm k).p - 1).succ = (fm k).p by omega] at e
      omega
    unfold wX6_fill_0
    rw [hsh]
    refine ⟨fun _ x2 e2 x3 e3 => ?_, fun z => ?_⟩
    · rw [e2, e3, show (1 : Int32) = kZ 1 from rfl, kZ_sub, show kZ 1 = kZ ((1 : Nat) : Int) from rfl, jZ_shl _ (by decide), ← Int.natCast_mul]
      refine ih (c * 2 ^ 1) (q - 1) (by omega) (by omega) ?_ ?_
      · have e : (c * 2 ^ 1).log2 = c.log2 + 1 := by
          have h1 := (ld_b hc).1
          have h2 : 2 ^ (c.log2 + 1) = 2 * 2 ^ c.log2 := by rw [Nat.pow_succ]; omega
          have h3 : 2 ^ (c.log2 + 1 + 1) = 2 * 2 ^ (c.log2 + 1) := by rw [Nat.pow_succ]; omega
          exact (Nat.log2_eq_iff (by omega)).mpr ⟨by omega, by omega⟩
        omega
      · rw [Nat.mul_assoc, ← Nat.pow_add, show 1 + r = r + 1 by omega, show q - 1 - (r : Int) = q - ((r + 1 : Nat) : Int) by omega]
        exact hp
    · exfalso
      apply z
      rw [jZ_lt (by omega) (by omega) (by omega) (by omega)]
      omega
theorem m_fill {k : Int32} (hk : isK k) {post : (Int64 × Int32) → Prop} {c : Nat} {q : Int} (hc : 0 < c) (hcp : c < 2 ^ (fm k).p) (hp : post (jZ (cP k c : Int), kZ ((c.log2 : Int) + q - ((fm k).p - 1)))) : wX6_fill (jZ (c : Int)) (kZ q) k post := by
  have hl := ld_lt hc hcp
  refine ⟨(fm k).p - 1 - c.log2 + 1, m_fill_go hk _ c q hc hcp (by omega) ?_⟩
  rw [show q - (((fm k).p - 1 - c.log2 : Nat) : Int) = (c.log2 : Int) + q - ((fm k).p - 1) by omega]
  exact hp
theorem c53_P {k : Int32} (hk : isK k) {c : Nat} (hc : 0 < c) (hcp : c < 2 ^ (fm k).p) : c53 c = cP k c * 2 ^ (53 - (fm k).p) := by
  have hl := ld_lt hc hcp
  have hn := fm_num hk
  unfold c53 cP
  rw [Nat.mul_assoc, ← Nat.pow_add]
  congr 2
  omega
