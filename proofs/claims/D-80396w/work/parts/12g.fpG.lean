/-! floats, plain (7): bits and data -/
def V64 (x : UInt64) : FP.Core.Datum := FP.Core.decode FP.Core.b64 x.toNat
def E64 (d : FP.Core.Datum) : UInt64 := UInt64.ofNat (FP.Core.encode FP.Core.b64 d)
def V32 (x : UInt32) : FP.Core.Datum := FP.Core.decode FP.Core.b32 x.toNat
def E32 (d : FP.Core.Datum) : UInt32 := UInt32.ofNat (FP.Core.encode FP.Core.b32 d)
theorem sz64 : 2 * FP.Core.b64.exps * FP.Core.b64.tails = 18446744073709551616 := by decide
theorem sz32 : 2 * FP.Core.b32.exps * FP.Core.b32.tails = 4294967296 := by decide
theorem V64_fits (x : UInt64) : FP.Core.fits FP.Core.b64 (V64 x) := fq_decfits fq_g64 _
theorem V32_fits (x : UInt32) : FP.Core.fits FP.Core.b32 (V32 x) := fq_decfits fq_g32 _
theorem E64_toNat {d : FP.Core.Datum} (h : FP.Core.fits FP.Core.b64 d) : (E64 d).toNat = FP.Core.encode FP.Core.b64 d := by
  have := fq_enclt fq_g64 h
  rw [sz64] at this
  exact Nat.mod_eq_of_lt this
theorem E32_toNat {d : FP.Core.Datum} (h : FP.Core.fits FP.Core.b32 d) : (E32 d).toNat = FP.Core.encode FP.Core.b32 d := by
  have := fq_enclt fq_g32 h
  rw [sz32] at this
  exact Nat.mod_eq_of_lt this
theorem V64_E64 {d : FP.Core.Datum} (h : FP.Core.fits FP.Core.b64 d) : V64 (E64 d) = d := by
  unfold V64
  rw [E64_toNat h]
  exact fq_decenc fq_g64 h
theorem V32_E32 {d : FP.Core.Datum} (h : FP.Core.fits FP.Core.b32 d) : V32 (E32 d) = d := by
  unfold V32
  rw [E32_toNat h]
  exact fq_decenc fq_g32 h
theorem E64_V64 {x : UInt64} (h : V64 x ≠ .nan) : E64 (V64 x) = x := by
  refine UInt64.toNat_inj.mp ?_
  rw [E64_toNat (V64_fits x)]
  exact fq_encdec fq_g64 (by rw [sz64]; exact x.toNat_lt) h
theorem E32_V32 {x : UInt32} (h : V32 x ≠ .nan) : E32 (V32 x) = x := by
  refine UInt32.toNat_inj.mp ?_
  rw [E32_toNat (V32_fits x)]
  exact fq_encdec fq_g32 (by rw [sz32]; exact x.toNat_lt) h
theorem t64 : FP.Core.b64.tails = 4503599627370496 ∧ FP.Core.b64.exps = 2048 := by decide
theorem t32 : FP.Core.b32.tails = 8388608 ∧ FP.Core.b32.exps = 256 := by decide
theorem dec_nan64 (n : Nat) : FP.Core.decode FP.Core.b64 n = .nan ↔ 9218868437227405312 < n % 9223372036854775808 := by
  unfold FP.Core.decode FP.Core.fieldE FP.Core.fieldT
  rw [t64.1, t64.2]
  constructor
  · intro h
    split at h
    · split at h
      · cases h
      · omega
    · split at h <;> cases h
  · intro h
    rw [if_pos (by omega), if_neg (by omega)]
theorem dec_nan32 (n : Nat) : FP.Core.decode FP.Core.b32 n = .nan ↔ 2139095040 < n % 2147483648 := by
  unfold FP.Core.decode FP.Core.fieldE FP.Core.fieldT
  rw [t32.1, t32.2]
  constructor
  · intro h
    split at h
    · split at h
      · cases h
      · omega
    · split at h <;> cases h
  · intro h
    rw [if_pos (by omega), if_neg (by omega)]
theorem u64_mask (a : UInt64) : (a &&& 0x7fffffffffffffff).toNat = a.toNat % 9223372036854775808 := by
  rw [UInt64.toNat_and]
  exact Nat.and_two_pow_sub_one_eq_mod a.toNat 63
theorem u32_mask (a : UInt32) : (a &&& 0x7fffffff).toNat = a.toNat % 2147483648 := by
  rw [UInt32.toNat_and]
  exact Nat.and_two_pow_sub_one_eq_mod a.toNat 31
theorem vf64_iff (a : UInt64) : vf_n64 a ↔ V64 a ≠ .nan := by
  unfold vf_n64 V64
  rw [UInt64.le_iff_toNat_le, u64_mask]
  have := dec_nan64 a.toNat
  constructor
  · intro h h2
    have h3 := this.mp h2
    have h4 : (0x7ff0000000000000 : UInt64).toNat = 9218868437227405312 := rfl
    omega
  · intro h
    have h4 : (0x7ff0000000000000 : UInt64).toNat = 9218868437227405312 := rfl
    rcases Nat.lt_or_ge 9218868437227405312 (a.toNat % 9223372036854775808) with h5 | h5
    · exact absurd (this.mpr h5) h
    · omega
theorem vf32_iff (a : UInt32) : vf_n32 a ↔ V32 a ≠ .nan := by
  unfold vf_n32 V32
  rw [UInt32.le_iff_toNat_le, u32_mask]
  have := dec_nan32 a.toNat
  constructor
  · intro h h2
    have h3 := this.mp h2
    have h4 : (0x7f800000 : UInt32).toNat = 2139095040 := rfl
    omega
  · intro h
    have h4 : (0x7f800000 : UInt32).toNat = 2139095040 := rfl
    rcases Nat.lt_or_ge 2139095040 (a.toNat % 2147483648) with h5 | h5
    · exact absurd (this.mpr h5) h
    · omega
theorem noNaN64_of {a : UInt64} (h : V64 a ≠ .nan) : FP.dIsNaN a = false := decide_eq_false h
theorem noNaN32_of {a : UInt32} (h : V32 a ≠ .nan) : FP.fIsNaN a = false := decide_eq_false h
/-- the double that a class's number is held by -/
def WD (d : FP.Core.Datum) : UInt64 := E64 (FP.Core.round FP.Core.b64 d)
theorem r64_fits (d : FP.Core.Datum) (h : ∀ s c q, d = .fin s c q → True) : FP.Core.fits FP.Core.b64 (FP.Core.round FP.Core.b64 d) := by
  cases d with
  | nan => trivial
  | inf s => trivial
  | fin s c q =>
    show FP.Core.fits FP.Core.b64 (FP.Core.roundRatio FP.Core.b64 s c 1 q)
    rw [fq_rv_one fq_g64]
    exact fq_rv_fits fq_g64 s (Rat.mul_nonneg Rat.natCast_nonneg (Rat.le_of_lt (pw2_pos q)))
theorem rf {f : FP.Core.Fmt} (hf : fq_good f) (d : FP.Core.Datum) : FP.Core.fits f (FP.Core.round f d) := by
  cases d with
  | nan => trivial
  | inf s => trivial
  | fin s c q =>
    show FP.Core.fits f (FP.Core.roundRatio f s c 1 q)
    rw [fq_rv_one hf]
    exact fq_rv_fits hf s (Rat.mul_nonneg Rat.natCast_nonneg (Rat.le_of_lt (pw2_pos q)))
theorem rself {f : FP.Core.Fmt} (hf : fq_good f) {d : FP.Core.Datum} (h : FP.Core.fits f d) : FP.Core.round f d = d := by
  cases d with
  | nan => rfl
  | inf s => rfl
  | fin s c q =>
    show FP.Core.roundRatio f s c 1 q = _
    rw [fq_rv_one hf]
    exact fq_rv_self hf s h
theorem V64_WD (d : FP.Core.Datum) : V64 (WD d) = FP.Core.round FP.Core.b64 d := V64_E64 (rf fq_g64 d)
theorem WD_64 {d : FP.Core.Datum} (h : FP.Core.fits FP.Core.b64 d) : WD d = E64 d := by unfold WD; rw [rself fq_g64 h]
/-- narrow a widened one -/
theorem nw {d : FP.Core.Datum} (h : FP.Core.fits FP.Core.b32 d) : FP.Core.round FP.Core.b32 (FP.Core.round FP.Core.b64 d) = d := by
  cases d with
  | nan => rfl
  | inf s => rfl
  | fin s c q =>
    obtain ⟨c', q', k1, k2, k3⟩ := fq_wid h
    rw [k1]
    show FP.Core.roundRatio FP.Core.b32 s c' 1 q' = _
    rw [fq_rv_one fq_g32, k3]
    exact fq_rv_self fq_g32 s h
theorem d2f_E {X : FP.Core.Datum} (h : FP.Core.fits FP.Core.b64 X) (hn : X ≠ .nan) : FP.d2f (E64 X) = E32 (FP.Core.round FP.Core.b32 X) := by
  have h1 : FP.Core.dIsNaN (E64 X) = false := noNaN64_of (by rw [V64_E64 h]; exact hn)
  unfold FP.d2f
  rw [h1]
  show UInt32.ofNat (FP.Core.encode FP.Core.b32 (FP.Core.round FP.Core.b32 (V64 (E64 X)))) = _
  rw [V64_E64 h]
  rfl
theorem f2d_E {d : FP.Core.Datum} (h : FP.Core.fits FP.Core.b32 d) (hn : d ≠ .nan) : FP.f2d (E32 d) = WD d := by
  have h1 : FP.Core.fIsNaN (E32 d) = false := noNaN32_of (by rw [V32_E32 h]; exact hn)
  unfold FP.f2d
  rw [h1]
  show UInt64.ofNat (FP.Core.encode FP.Core.b64 (FP.Core.round FP.Core.b64 (V32 (E32 d)))) = _
  rw [V32_E32 h]
  rfl
theorem d2f_W {d : FP.Core.Datum} (h : FP.Core.fits FP.Core.b32 d) (hn : d ≠ .nan) : FP.d2f (WD d) = E32 d := by
  unfold WD
  rw [d2f_E (rf fq_g64 d), nw h]
  intro h2
  have := nw h
  rw [h2] at this
  exact hn this.symm
theorem xor_top (a : Nat) (k : Nat) (h : a < 2 ^ (k + 1)) : a ^^^ 2 ^ k = if a < 2 ^ k then a + 2 ^ k else a - 2 ^ k := by
  have hp := Nat.two_pow_pos k
  have h1 : (a ^^^ 2 ^ k) % 2 ^ k = a % 2 ^ k := by rw [Nat.xor_mod_two_pow, Nat.mod_self, Nat.xor_zero]
  have h2 : (a ^^^ 2 ^ k) / 2 ^ k = (a / 2 ^ k) ^^^ 1 := by rw [Nat.xor_div_two_pow, Nat.div_self hp]
  have h3 := Nat.div_add_mod' (a ^^^ 2 ^ k) (2 ^ k)
  have h4 := Nat.div_add_mod' a (2 ^ k)
  rw [h1, h2] at h3
  have h5 : a / 2 ^ k < 2 := (Nat.div_lt_iff_lt_mul hp).mpr (by rw [Nat.pow_succ] at h; omega)
  have h8 : a / 2 ^ k = 0 ∨ a / 2 ^ k = 1 := by
    generalize a / 2 ^ k = z at h5
    omega
  rcases h8 with h6 | h6
  · rw [h6] at h3 h4
    have h7 : a < 2 ^ k := by
      rcases Nat.lt_or_ge a (2 ^ k) with h | h
      · exact h
      · have := Nat.div_pos h hp
        omega
    rw [if_pos h7]
    have : (0 ^^^ 1 : Nat) = 1 := rfl
    rw [this] at h3
    omega
  · rw [h6] at h3 h4
    have h7 : ¬ a < 2 ^ k := fun h => by rw [Nat.div_eq_of_lt h] at h6; omega
    rw [if_neg h7]
    have : (1 ^^^ 1 : Nat) = 0 := rfl
    rw [this] at h3
    omega
theorem neg_fits {f : FP.Core.Fmt} {d : FP.Core.Datum} (h : FP.Core.fits f d) : FP.Core.fits f (FP.Core.negate d) := by
  cases d <;> exact h
/-- the size of the bits -/
theorem enc_parts {f : FP.Core.Fmt} (hf : fq_good f) {d : FP.Core.Datum} (hn : d ≠ .nan) (h : FP.Core.fits f d) : ∃ (s : Bool) (m : Nat), FP.Core.encode f d = s.toNat * (f.exps * f.tails) + m ∧ m < f.exps * f.tails ∧ FP.Core.encode f (FP.Core.negate d) = (!s).toNat * (f.exps * f.tails) + m := by
  have h1 := fq_exps hf
  have h2 := fq_2t hf
  have h4 := fq_qq (f := f)
  have ht := fq_tp f
  have hle : ∀ e t : Nat, e < f.exps → t < f.tails → e * f.tails + t < f.exps * f.tails := by
    intro e t he ht2
    have := Nat.mul_le_mul_right f.tails (show e + 1 ≤ f.exps from he)
    rw [Nat.add_mul, Nat.one_mul] at this
    omega
  have ha : ∀ (s : Bool) (e t : Nat), FP.Core.assemble f s e t = s.toNat * (f.exps * f.tails) + (e * f.tails + t) := by
    intro s e t
    unfold FP.Core.assemble
    rw [Nat.add_mul, Nat.mul_assoc, Nat.add_assoc]
  cases d with
  | nan => exact absurd rfl hn
  | inf s =>
    refine ⟨s, (f.exps - 1) * f.tails + 0, ha s _ _, hle _ _ (by omega) ht, ha _ _ _⟩
  | fin s c q =>
    obtain ⟨g1, g2, g3, g4⟩ := h
    by_cases hc : c < f.tails
    · refine ⟨s, 0 * f.tails + c, ?_, hle _ _ (by omega) hc, ?_⟩
      · show (if c < f.tails then FP.Core.assemble f s 0 c else _) = _
        rw [if_pos hc]; exact ha _ _ _
      · show (if c < f.tails then FP.Core.assemble f (!s) 0 c else _) = _
        rw [if_pos hc]; exact ha _ _ _
    · refine ⟨s, ((q - f.qmin).toNat + 1) * f.tails + (c - f.tails), ?_, hle _ _ (by omega) (by omega), ?_⟩
      · show (if c < f.tails then _ else FP.Core.assemble f s ((q - f.qmin).toNat + 1) (c - f.tails)) = _
        rw [if_neg hc]; exact ha _ _ _
      · show (if c < f.tails then _ else FP.Core.assemble f (!s) ((q - f.qmin).toNat + 1) (c - f.tails)) = _
        rw [if_neg hc]; exact ha _ _ _
theorem dneg_E {X : FP.Core.Datum} (h : FP.Core.fits FP.Core.b64 X) (hn : X ≠ .nan) : FP.dneg (E64 X) = E64 (FP.Core.negate X) := by
  obtain ⟨s, m, e1, e2, e3⟩ := enc_parts fq_g64 hn h
  rw [t64.1, t64.2] at e1 e2 e3
  refine UInt64.toNat_inj.mp ?_
  unfold FP.dneg
  rw [UInt64.toNat_xor, E64_toNat h, E64_toNat (neg_fits h), e1, e3]
  show _ ^^^ 2 ^ 63 = _
  rw [xor_top _ 63 (by cases s <;> simp <;> omega)]
  cases s
  · rw [show false.toNat = 0 from rfl, show (!false).toNat = 1 from rfl]
    split <;> omega
  · rw [show true.toNat = 1 from rfl, show (!true).toNat = 0 from rfl]
    split <;> omega
