/-! parts of a double: its exponent, its whole, powers of two -/
theorem enc64 {s : Bool} {c : Nat} {q : Int} : FP.Core.encode FP.Core.b64 (.fin s c q) = s.toNat * 9223372036854775808 + (if c < 4503599627370496 then c else ((q + 1074).toNat + 1) * 4503599627370496 + (c - 4503599627370496)) := by
  show (if c < FP.Core.b64.tails then FP.Core.assemble FP.Core.b64 s 0 c else FP.Core.assemble FP.Core.b64 s ((q - FP.Core.b64.qmin).toNat + 1) (c - FP.Core.b64.tails)) = _
  unfold FP.Core.assemble
  rw [t64.1, t64.2, qn64.1, show q - -1074 = q + 1074 by omega]
  split <;> omega
theorem and_exp (n : Nat) : n &&& 2047 * 2 ^ 52 = n / 2 ^ 52 % 2 ^ 11 * 2 ^ 52 := by
  refine Nat.eq_of_testBit_eq fun j => ?_
  rw [← Nat.shiftLeft_eq, ← Nat.shiftLeft_eq, Nat.testBit_and, Nat.testBit_shiftLeft, Nat.testBit_shiftLeft, Nat.testBit_mod_two_pow, Nat.testBit_div_two_pow, show 2047 = 2 ^ 11 - 1 from rfl, Nat.testBit_two_pow_sub_one]
  by_cases h : 52 ≤ j
  · rw [show j - 52 + 52 = j by omega]
    cases n.testBit j <;> simp [h]
  · simp [h]
theorem getExp {n : Nat} (h : n < 18446744073709551616) : fJ2_getExponent (UInt64.ofNat n) = kZ (((n / 4503599627370496 % 2048 : Nat) : Int) - 1023) := by
  unfold fJ2_getExponent
  rw [ofU64 h]
  have e : jZ (n : Int) &&& 9218868437227405312 = jZ ((n / 4503599627370496 % 2048 * 4503599627370496 : Nat) : Int) := by
    refine jU_ext ?_
    rw [jU_and, jU_n h, jU_n (by omega), show jU 9218868437227405312 = 2047 * 2 ^ 52 from by decide]
    exact and_exp n
  rw [e, show (52 : Int32) = kZ ((52 : Nat) : Int) from rfl, jZ_shr (by omega) (by omega) (by decide), show (1023 : Int64) = jZ 1023 from rfl, jZ_sub, jZ_k]
  congr 1
  omega
theorem getExp_E {s : Bool} {c : Nat} {q : Int} (h : FP.Core.fits FP.Core.b64 (.fin s c q)) : fJ2_getExponent (E64 (.fin s c q)) = kZ (if c < 4503599627370496 then -1023 else q + 52) := by
  obtain ⟨f1, f2, f3, f4⟩ := fin64 h
  have hl := fq_enclt fq_g64 h
  rw [sz64] at hl
  unfold E64
  rw [getExp hl, enc64]
  cases s
  · rw [Bool.toNat_false]
    split <;> congr 1 <;> omega
  · rw [Bool.toNat_true]
    split <;> congr 1 <;> omega
theorem ld_b {c : Nat} (h : 0 < c) : 2 ^ c.log2 ≤ c ∧ c < 2 ^ (c.log2 + 1) := ⟨Nat.log2_self_le (by omega), Nat.lt_log2_self⟩
theorem ld_lt {c n : Nat} (h : 0 < c) (hn : c < 2 ^ n) : c.log2 < n := (Nat.log2_lt (by omega)).mpr hn
theorem ld_52 {c : Nat} (h1 : 4503599627370496 ≤ c) (h2 : c < 9007199254740992) : c.log2 = 52 := by
  have a := ld_lt (c := c) (n := 53) (by omega) h2
  have b : ¬ c.log2 < 52 := fun z => by
    have := (Nat.log2_lt (by omega)).mp z
    omega
  omega
/-- the whole of 53 bits of a number below 2^53 -/
def c53 (c : Nat) : Nat := c * 2 ^ (52 - c.log2)
theorem c53_b {c : Nat} (h : 0 < c) (h2 : c < 9007199254740992) : 4503599627370496 ≤ c53 c ∧ c53 c < 9007199254740992 ∧ c.log2 ≤ 52 := by
  have hL := ld_lt (n := 53) h h2
  obtain ⟨h3, h4⟩ := ld_b h
  have e : 2 ^ c.log2 * 2 ^ (52 - c.log2) = 4503599627370496 := by rw [← Nat.pow_add, show c.log2 + (52 - c.log2) = 52 by omega]
  unfold c53
  refine ⟨?_, ?_, by omega⟩
  · rw [← e]; exact Nat.mul_le_mul_right _ h3
  · have e2 : 2 ^ (c.log2 + 1) * 2 ^ (52 - c.log2) = 9007199254740992 := by rw [← Nat.pow_add, show c.log2 + 1 + (52 - c.log2) = 53 by omega]
    rw [← e2]
    exact Nat.mul_lt_mul_of_pos_right h4 (Nat.two_pow_pos _)
theorem scS_norm (s : Bool) {c : Nat} {q n : Int} (hc : 0 < c) (hcu : c < 9007199254740992) (h1 : -1022 ≤ (c.log2 : Int) + q + n) (h2 : (c.log2 : Int) + q + n ≤ 1023) : scS (.fin s c q) n = .fin s (c53 c) (q + n - (52 - (c.log2 : Int))) ∧ FP.Core.fits FP.Core.b64 (.fin s (c53 c) (q + n - (52 - (c.log2 : Int)))) := by
  obtain ⟨b1, b2, b3⟩ := c53_b hc hcu
  have hf : FP.Core.fits FP.Core.b64 (.fin s (c53 c) (q + n - (52 - (c.log2 : Int)))) := by
    refine ⟨?_, ?_, ?_, Or.inr ?_⟩
    · rw [qn64.2.2]; exact b2
    · rw [qn64.1]; omega
    · rw [qn64.2.1]; omega
    · rw [t64.1]; exact b1
  refine ⟨?_, hf⟩
  show fq_rv _ s _ = _
  rw [← fq_rv_self fq_g64 s hf]
  congr 1
  unfold c53
  rw [Rat.natCast_mul, ← pw2_nat, Rat.mul_assoc, ← pw2_add]
  congr 2
  omega
theorem expOf {s : Bool} {c : Nat} {q : Int} (h : FP.Core.fits FP.Core.b64 (.fin s c q)) (hc : 0 < c) : fX0_exponentOf (E64 (.fin s c q)) = kZ ((c.log2 : Int) + q) ∧ oX0_exponentOf (E64 (.fin s c q)) := by
  obtain ⟨f1, f2, f3, f4⟩ := fin64 h
  have hn : vf_n64 (E64 (.fin s c q)) := (vf64_iff _).mpr (by rw [V64_E64 h]; intro z; cases z)
  have ho : oX0_exponentOf (E64 (.fin s c q)) := fun x1 _ => ⟨fun _ => hn, fun _ => trivial⟩
  refine ⟨?_, ho⟩
  unfold fX0_exponentOf lt_
  rw [getExp_E h]
  dsimp only
  by_cases hs : c < 4503599627370496
  · rw [if_pos hs, if_pos (show (kZ (-1023) : Int32) < -1022 by decide)]
    have hq : q = -1074 := by omega
    obtain ⟨b1, b2, b3⟩ := c53_b hc f1
    obtain ⟨k1, k2⟩ := scS_norm s (q := q) (n := 100) hc f1 (by omega) (by omega)
    unfold fJ2_scalbF
    rw [sclD_E h, show (100 : Int32).toInt = 100 from rfl, k1, getExp_E k2, if_neg (by omega), show (100 : Int32) = kZ 100 from rfl, kZ_sub]
    congr 1
    omega
  · rw [if_neg hs, if_neg (show ¬ (kZ (q + 52) : Int32) < -1022 by rw [show (-1022 : Int32) = kZ (-1022) from rfl, kZ_lt (by omega) (by omega) (by omega) (by omega)]; omega), ld_52 (by omega) f1]
    congr 1
    omega
theorem half_b (a : Int) : 2 * a.tdiv 2 ≤ a + 1 ∧ a ≤ 2 * a.tdiv 2 + 1 := by
  have h1 := Int.mul_tdiv_add_tmod a 2
  have h2 := Int.tmod_lt_of_pos a (show (0 : Int) < 2 by decide)
  have h3 := Int.lt_tmod_of_pos a (show (0 : Int) < 2 by decide)
  omega
theorem kZ_half {a : Int} (h1 : -2147483648 < a) (h2 : a < 2147483648) : kZ a / 2 = kZ (a.tdiv 2) := by
  refine Int32.toInt_inj.mp ?_
  have hb := half_b a
  rw [Int32.toInt_div, kZ_I (by omega) h2, show (2 : Int32).toInt = 2 from rfl]
  have e : (kZ (a.tdiv 2)).toInt = a.tdiv 2 := kZ_I (by omega) (by omega)
  rw [e]
  exact Int.bmod_eq_of_le (by omega) (by omega)
theorem sclDn {s : Bool} {c : Nat} {q n : Int} (h : FP.Core.fits FP.Core.b64 (.fin s c q)) (hc : 0 < c) {t : Int} (ht0 : 0 ≤ t) (ht : t ≤ 29) (hn : n = (c.log2 : Int) + q - 52 + t) :
    fX0_scaledDown (E64 (.fin s c q)) (kZ n) = E64 (.fin s (c53 c) (-t)) ∧ oX0_scaledDown (E64 (.fin s c q)) (kZ n) ∧ FP.Core.fits FP.Core.b64 (.fin s (c53 c) (-t)) := by
  obtain ⟨f1, f2, f3, f4⟩ := fin64 h
  obtain ⟨b1, b2, b3⟩ := c53_b hc f1
  have hL : (c.log2 : Int) + q ≤ 1023 := by omega
  have hb := half_b (-n)
  obtain ⟨k1, k2⟩ := scS_norm s (q := q) (n := (-n).tdiv 2) hc f1 (by omega) (by omega)
  have hl52 := ld_52 b1 b2
  obtain ⟨k3, k4⟩ := scS_norm s (c := c53 c) (q := q + (-n).tdiv 2 - (52 - (c.log2 : Int))) (n := -n - (-n).tdiv 2) (by omega) b2 (by omega) (by omega)
  have e1 : c53 (c53 c) = c53 c := by
    show c53 c * 2 ^ (52 - (c53 c).log2) = c53 c
    rw [hl52]
    omega
  have e2 : q + (-n).tdiv 2 - (52 - (c.log2 : Int)) + (-n - (-n).tdiv 2) - (52 - ((c53 c).log2 : Int)) = -t := by omega
  rw [e1, e2] at k3 k4
  have hv : ∀ {X : FP.Core.Datum}, FP.Core.fits FP.Core.b64 X → X ≠ .nan → vf_n64 (E64 X) := fun hX hne => (vf64_iff _).mpr (by rw [V64_E64 hX]; exact hne)
  have s1 : fJ2_scalbF (E64 (.fin s c q)) ((-kZ n) / 2) = E64 (scS (.fin s c q) ((-n).tdiv 2)) := by
    unfold fJ2_scalbF
    rw [kZ_neg, kZ_half (by omega) (by omega), sclD_E h, kZ_I (by omega) (by omega)]
  refine ⟨?_, ⟨?_, ?_⟩, k4⟩
  · unfold fX0_scaledDown
    rw [s1, k1]
    unfold fJ2_scalbF
    rw [kZ_neg, kZ_half (by omega) (by omega), kZ_sub, sclD_E k2, kZ_I (by omega) (by omega), k3]
  · exact hv h (fun z => by cases z)
  · rw [s1, k1]
    exact hv k2 (fun z => by cases z)
theorem d2l_E {X : FP.Core.Datum} (h : FP.Core.fits FP.Core.b64 X) : FP.d2l (E64 X) = FP.Core.toL X := by
  show FP.Core.toL (V64 (E64 X)) = _
  rw [V64_E64 h]
theorem d2l_t {s : Bool} {C : Nat} {t : Nat} (h : FP.Core.fits FP.Core.b64 (.fin s C (-(t : Int)))) (hC : C < 9007199254740992) : FP.d2l (E64 (.fin s C (-(t : Int)))) = jZ (FP.Core.signed s (C / 2 ^ t)) := by
  rw [d2l_E h]
  show jZ (max (-2 ^ 63) (min (2 ^ 63 - 1) (FP.Core.signed s (C * 2 ^ (-(t : Int)).toNat / 2 ^ (-(-(t : Int))).toNat)))) = _
  rw [show (-(t : Int)).toNat = 0 by omega, show (-(-(t : Int))).toNat = t by omega, Nat.pow_zero, Nat.mul_one]
  have : C / 2 ^ t ≤ C := Nat.div_le_self _ _
  generalize C / 2 ^ t = D at *
  congr 1
  unfold FP.Core.signed
  split <;> omega
def absV : FP.Core.Datum → FP.Core.Datum
  | .nan => .nan
  | .inf _ => .inf false
  | .fin _ c q => .fin false c q
theorem absV_fits {f : FP.Core.Fmt} {X : FP.Core.Datum} (h : FP.Core.fits f X) : FP.Core.fits f (absV X) := by
  cases X <;> exact h
theorem absD_E {X : FP.Core.Datum} (h : FP.Core.fits FP.Core.b64 X) : absD (E64 X) = E64 (absV X) := by
  have hl := fq_enclt fq_g64 h
  have hl2 := fq_enclt fq_g64 (absV_fits h)
  rw [sz64] at hl hl2
  refine UInt64.toNat_inj.mp ?_
  unfold absD
  rw [u64_mask, E64_toNat h, E64_toNat (absV_fits h)]
  cases X with
  | nan => decide
  | inf s => cases s <;> decide
  | fin s c q =>
    show _ = FP.Core.encode FP.Core.b64 (.fin false c q)
    obtain ⟨f1, f2, f3, f4⟩ := fin64 h
    rw [enc64, enc64]
    cases s
    · rw [Bool.toNat_false]
      split <;> omega
    · rw [Bool.toNat_true, Bool.toNat_false]
      split <;> omega
theorem sizeOf_E {s : Bool} {c : Nat} {q : Int} (h : FP.Core.fits FP.Core.b64 (.fin s c q)) (hc : 0 < c) : fX0_sizeOf (E64 (.fin s c q)) = jZ (c53 c : Int) ∧ oX0_sizeOf (E64 (.fin s c q)) := by
  obtain ⟨f1, f2, f3, f4⟩ := fin64 h
  obtain ⟨b1, b2, b3⟩ := c53_b hc f1
  obtain ⟨e1, e2⟩ := expOf h hc
  obtain ⟨k1, k2, k3⟩ := sclDn (t := 0) (n := (c.log2 : Int) + q - 52) h hc (by omega) (by omega) (by omega)
  have e3 : fX0_exponentOf (E64 (.fin s c q)) - 52 = kZ ((c.log2 : Int) + q - 52) := by
    rw [e1, show (52 : Int32) = kZ 52 from rfl, kZ_sub]
  refine ⟨?_, e2, ?_, ?_⟩
  · unfold fX0_sizeOf
    rw [e3, k1, absD_E k3]
    show FP.d2l (E64 (.fin false (c53 c) (-((0 : Nat) : Int)))) = _
    rw [d2l_t (absV_fits k3) b2, Nat.pow_zero, Nat.div_one]
    rfl
  · rw [e3]; exact k2
  · rw [e3, k1]
    exact (vf64_iff _).mpr (by rw [V64_E64 k3]; intro z; cases z)
theorem power2_D {s : Bool} {c : Nat} {q : Int} (h : FP.Core.fits FP.Core.b64 (.fin s c q)) (hc : 0 < c) : fX8_power2_D (E64 (.fin s c q)) = kZ ((c.log2 : Int) + q - 52) := by
  unfold fX8_power2_D
  rw [(expOf h hc).1]
  show kZ _ - kZ 53 + kZ 1 = _
  rw [kZ_sub, kZ_add]
  congr 1
  omega
theorem power2_F {s : Bool} {c : Nat} {q : Int} (h : FP.Core.fits FP.Core.b64 (.fin s c q)) (hc : 0 < c) : fX8_power2_F (E64 (.fin s c q)) = kZ ((c.log2 : Int) + q - 23) := by
  unfold fX8_power2_F
  rw [(expOf h hc).1]
  show kZ _ - kZ 24 + kZ 1 = _
  rw [kZ_sub, kZ_add]
  congr 1
  omega
/-- values that are alike have the same highest bit -/
theorem ld_eq {c d : Nat} {q r : Int} (hc : 0 < c) (hd : 0 < d) (h : (c : Rat) * pw2 q = (d : Rat) * pw2 r) : (c.log2 : Int) + q = (d.log2 : Int) + r := by
  have key : ∀ {c d : Nat} {q r : Int}, 0 < c → 0 < d → (c : Rat) * pw2 q = (d : Rat) * pw2 r → (c.log2 : Int) + q ≤ (d.log2 : Int) + r := by
    intro c d q r hc hd h
    have a := fq_mpw (e := q) (fq_log hc).1
    have b := fq_mpwl (e := r) (fq_log hd).2
    rw [← pw2_add] at a b
    rw [h] at a
    have := pw2_lt' (Std.lt_of_le_of_lt a b)
    omega
  exact Int.le_antisymm (key hc hd h) (key hd hc h.symm)
