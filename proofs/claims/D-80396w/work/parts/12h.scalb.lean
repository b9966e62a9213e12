/-! a double by a power of two, in steps, is rounded once -/
theorem rr_ne (f : FP.Core.Fmt) (s : Bool) (A B : Nat) (e : Int) : FP.Core.roundRatio f s A B e ≠ .nan := by
  intro z
  unfold FP.Core.roundRatio FP.Core.roundAt FP.Core.settle FP.Core.bound at z
  split at z
  · cases z
  · split at z
    · split at z <;> cases z
    · split at z <;> cases z
theorem u64_of (x : Int64) : x.toUInt64.toNat = jU x := rfl
theorem toU64 {n : Nat} (h : n < 18446744073709551616) : (jZ n).toUInt64 = UInt64.ofNat n := by
  refine UInt64.toNat_inj.mp ?_
  rw [u64_of, jU_n h]
  exact (Nat.mod_eq_of_lt h).symm
theorem rv_inf {f : FP.Core.Fmt} (hf : fq_good f) (s : Bool) {v : Rat} (h : pw2 (f.qmax + f.p) ≤ v) : fq_rv f s v = .inf s := by
  obtain ⟨q, c, h1, h2, h3⟩ := fq_rv_ex hf s (Std.lt_of_lt_of_le (pw2_pos _) h)
  rw [h3]
  have h4 := pw2_lt' (Std.lt_of_le_of_lt h h1.2.1)
  unfold FP.Core.settle FP.Core.bound
  rw [if_neg (show ¬ q ≤ f.qmax by omega), if_neg (show ¬ q + 1 ≤ f.qmax by omega)]
  split <;> rfl
theorem rv_zero {f : FP.Core.Fmt} (hf : fq_good f) (s : Bool) {v : Rat} (h0 : 0 ≤ v) (h : v < pw2 (f.qmin - 1)) : fq_rv f s v = .fin s 0 f.qmin := by
  rcases Rat.le_iff_lt_or_eq.mp h0 with h0 | h0
  · obtain ⟨q, c, h1, h2, h3⟩ := fq_rv_ex hf s h0
    have e5 := hf.2
    have hq : q = f.qmin := by
      rcases h1.2.2 with h5 | h5
      · exact h5
      · have := pw2_lt' (Std.lt_of_le_of_lt h5 h)
        have := h1.1
        omega
    subst hq
    have h6 := fq_mpwl (e := -f.qmin) h
    rw [← pw2_add, show f.qmin - 1 + -f.qmin = -1 by omega] at h6
    have h8 : pw2 (-1) * 2 = 1 := by rw [← pw2_one, ← pw2_add]; exact pw2_zero
    have hc0 : c = 0 := by
      have h9 := h2.1
      have h10 : ((2 * c : Nat) : Rat) < ((2 : Nat) : Rat) := by
        rw [Rat.natCast_mul, Rat.natCast_ofNat]
        grind
      have := Rat.natCast_lt_natCast.mp h10
      omega
    rw [h3, hc0]
    have e2 := fq_qq (f := f)
    have e3 := fq_emax hf
    unfold FP.Core.settle FP.Core.bound
    rw [if_pos (Nat.two_pow_pos _), if_pos (by omega)]
  · rw [← h0]; exact fq_rv0
/-- by a power of two -/
def scS (X : FP.Core.Datum) (n : Int) : FP.Core.Datum := match X with
  | .nan => .nan
  | .inf s => .inf s
  | .fin s c q => fq_rv FP.Core.b64 s ((c : Rat) * pw2 (q + n))
theorem scS_fits (X : FP.Core.Datum) (n : Int) : FP.Core.fits FP.Core.b64 (scS X n) := by
  cases X with
  | nan => trivial
  | inf s => trivial
  | fin s c q => exact fq_rv_fits fq_g64 s (Rat.mul_nonneg Rat.natCast_nonneg (Rat.le_of_lt (pw2_pos _)))
theorem rv_ne (f : FP.Core.Fmt) (s : Bool) (v : Rat) : fq_rv f s v ≠ .nan := rr_ne _ _ _ _ _
theorem scS_ne {X : FP.Core.Datum} (h : X ≠ .nan) (n : Int) : scS X n ≠ .nan := by
  cases X with
  | nan => exact absurd rfl h
  | inf s => intro z; cases z
  | fin s c q => exact rv_ne _ _ _
theorem sclD_E {X : FP.Core.Datum} (h : FP.Core.fits FP.Core.b64 X) (n : Int) : sclD (E64 X) n = E64 (scS X n) := by
  have e : FP.Core.decode FP.Core.b64 (E64 X).toNat = X := V64_E64 h
  unfold sclD
  rw [e]
  cases X with
  | nan => rfl
  | inf s => rfl
  | fin s c q =>
    show UInt64.ofNat (FP.Core.encode FP.Core.b64 (FP.Core.roundRatio FP.Core.b64 s c 1 (q + n))) = _
    rw [fq_rv_one fq_g64]
    rfl
/-- a power of two as a double -/
def p2D (a : Int) : FP.Core.Datum := .fin false 4503599627370496 (a - 52)
theorem p2D_fits {a : Int} (h1 : -1022 ≤ a) (h2 : a ≤ 1023) : FP.Core.fits FP.Core.b64 (p2D a) := by
  unfold p2D
  exact ⟨by decide, by rw [qn64.1]; omega, by rw [qn64.2.1]; omega, Or.inr (by decide)⟩
theorem mul_p2 {X : FP.Core.Datum} (h : FP.Core.fits FP.Core.b64 X) {a : Int} (h1 : -1022 ≤ a) (h2 : a ≤ 1023) : FP.dmul (E64 X) (E64 (p2D a)) = E64 (scS X a) := by
  show UInt64.ofNat (FP.Core.encode FP.Core.b64 (FP.Core.round FP.Core.b64 (FP.Core.exactProduct (V64 (E64 X)) (V64 (E64 (p2D a)))))) = _
  rw [V64_E64 h, V64_E64 (p2D_fits h1 h2)]
  have e : FP.Core.round FP.Core.b64 (FP.Core.exactProduct X (p2D a)) = scS X a := by
    unfold p2D
    cases X with
    | nan => rfl
    | inf s =>
      show FP.Core.round FP.Core.b64 (if (4503599627370496 : Nat) = 0 then .nan else .inf (s != false)) = _
      rw [if_neg (by decide)]
      cases s <;> rfl
    | fin s c q =>
      rw [fq_prod fq_g64]
      show fq_rv _ (s != false) _ = fq_rv _ s _
      rw [Bool.bne_false]
      congr 1
      rw [show ((4503599627370496 : Nat) : Rat) = pw2 ((52 : Nat) : Int) by rw [pw2_nat], ← pw2_add, show ((52 : Nat) : Int) + (a - 52) = a by omega, pw2_add, Rat.mul_assoc]
  rw [e]
  rfl
theorem fin64 {s : Bool} {c : Nat} {q : Int} (h : FP.Core.fits FP.Core.b64 (.fin s c q)) : c < 9007199254740992 ∧ -1074 ≤ q ∧ q ≤ 971 ∧ (q = -1074 ∨ 4503599627370496 ≤ c) := by
  obtain ⟨h1, h2, h3, h4⟩ := h
  obtain ⟨g1, g2, g3⟩ := qn64
  rw [g3] at h1
  rw [g1] at h2 h4
  rw [g2] at h3
  rw [t64.1] at h4
  exact ⟨h1, h2, h3, h4⟩
/-- one step more -/
theorem scS_step {X : FP.Core.Datum} (h : FP.Core.fits FP.Core.b64 X) {a b : Int} (hab : (0 ≤ a ∧ 0 ≤ b) ∨ (a ≤ 0 ∧ b ≤ -100)) : scS (scS X a) b = scS X (a + b) := by
  cases X with
  | nan => rfl
  | inf s => rfl
  | fin s c q =>
    obtain ⟨f1, f2, f3, f4⟩ := fin64 h
    rcases Nat.eq_zero_or_pos c with rfl | hc
    · have e : scS (.fin s 0 q) a = .fin s 0 (-1074) := by
        show fq_rv _ s _ = _
        rw [show ((0 : Nat) : Rat) = 0 from rfl, Rat.zero_mul, fq_rv0, qn64.1]
      rw [e]
      show fq_rv _ s (((0 : Nat) : Rat) * _) = fq_rv _ s (((0 : Nat) : Rat) * _)
      rw [show ((0 : Nat) : Rat) = 0 from rfl, Rat.zero_mul, Rat.zero_mul]
    · have hcr : pw2 0 ≤ (c : Rat) := by rw [pw2_zero]; exact fq_cle hc
      have hcu : (c : Rat) < pw2 (53 : Int) := by
        have := fq_clt f1
        rw [show ((9007199254740992 : Nat) : Rat) = pw2 ((53 : Nat) : Int) by rw [pw2_nat]] at this
        exact this
      have low : ∀ e : Int, pw2 e ≤ (c : Rat) * pw2 e := fun e => by
        have := fq_mpw (e := e) hcr
        rw [pw2_zero, Rat.one_mul] at this
        exact this
      have up : ∀ e : Int, (c : Rat) * pw2 e < pw2 (53 + e) := fun e => by
        have := fq_mpwl (e := e) hcu
        rw [← pw2_add] at this
        exact this
      have nn : ∀ e : Int, 0 ≤ (c : Rat) * pw2 e := fun e => Rat.mul_nonneg Rat.natCast_nonneg (Rat.le_of_lt (pw2_pos e))
      show scS (fq_rv FP.Core.b64 s ((c : Rat) * pw2 (q + a))) b = fq_rv FP.Core.b64 s ((c : Rat) * pw2 (q + (a + b)))
      rcases fq_rv_cases fq_g64 s (nn (q + a)) with ⟨c', q', k1, k2, k3⟩ | ⟨k1, k2⟩
      · rw [k1]
        show fq_rv FP.Core.b64 s ((c' : Rat) * pw2 (q' + b)) = _
        rcases Int.lt_or_le (q + a) (-1074) with hlt | hge
        · rcases hab with ⟨h1, h2⟩ | ⟨h1, h2⟩
          · omega
          · have u1 := (k3 1 (-1022) (by decide) (by rw [qn64.1]; omega)).1 (by
              rw [show ((1 : Nat) : Rat) = 1 from rfl, Rat.one_mul]
              exact Rat.le_of_lt (Std.lt_of_lt_of_le (up _) (pw2_le (by omega))))
            rw [show ((1 : Nat) : Rat) = 1 from rfl, Rat.one_mul] at u1
            have u2 := fq_mpw (e := b) u1
            rw [Rat.mul_assoc, ← pw2_add, ← pw2_add] at u2
            rw [rv_zero fq_g64 s (Rat.mul_nonneg Rat.natCast_nonneg (Rat.le_of_lt (pw2_pos _))) (Std.lt_of_le_of_lt u2 (pw2_lt (by rw [qn64.1]; omega)))]
            rw [rv_zero fq_g64 s (nn _) (Std.lt_of_lt_of_le (up _) (pw2_le (by rw [qn64.1]; omega)))]
        · have e1 := (k3 c (q + a) f1 (by rw [qn64.1]; omega)).1 Rat.le_refl
          have e2 := (k3 c (q + a) f1 (by rw [qn64.1]; omega)).2 Rat.le_refl
          have e3 := Rat.le_antisymm e1 e2
          congr 1
          rw [pw2_add, ← Rat.mul_assoc, e3, Rat.mul_assoc, ← pw2_add]
          congr 2
          omega
      · rw [k1]
        show FP.Core.Datum.inf s = _
        rcases hab with ⟨h1, h2⟩ | ⟨h1, h2⟩
        · refine (rv_inf fq_g64 s ?_).symm
          have hqa : 971 < q + a := by
            rcases Int.lt_or_le 971 (q + a) with h5 | h5
            · exact h5
            · have := k2 c (q + a) f1 (by rw [qn64.1]; omega) (by rw [qn64.2.1]; exact h5)
              exact absurd this Rat.lt_irrefl
          rw [qn64.2.1, qn64.2.2]
          obtain ⟨z, hz⟩ := Int.le.dest (show (972 : Int) ≤ q + a by omega)
          have k9 := k2 9007199254740991 971 (by decide) (by rw [qn64.1]; omega) (by rw [qn64.2.1]; omega)
          have e9 : (c : Rat) * pw2 (q + a) = ((2 * (c * 2 ^ z) : Nat) : Rat) * pw2 971 := by
            rw [← hz, Rat.natCast_mul, Rat.natCast_mul, ← pw2_nat, pw2_add, show (972 : Int) = 971 + 1 from rfl, pw2_succ, Rat.natCast_ofNat]
            grind
          rw [e9] at k9
          have k10 : 9007199254740991 < 2 * (c * 2 ^ z) := Rat.natCast_lt_natCast.mp (Rat.lt_of_mul_lt_mul_right k9 (Rat.le_of_lt (pw2_pos _)))
          have k11 := fq_mpw (e := 971) (fq_cle (show 9007199254740992 ≤ 2 * (c * 2 ^ z) by omega))
          rw [← e9, show ((9007199254740992 : Nat) : Rat) = pw2 ((53 : Nat) : Int) by rw [pw2_nat], ← pw2_add] at k11
          refine Rat.le_trans (Rat.le_trans (pw2_le ?_) k11) (Rat.mul_le_mul_of_nonneg_left (pw2_le ?_) Rat.natCast_nonneg)
          · show (971 : Int) + 53 ≤ 53 + 971
            omega
          · omega
        · exfalso
          have := k2 c q f1 (by rw [qn64.1]; omega) (by rw [qn64.2.1]; omega)
          refine absurd ?_ (Rat.not_lt.mpr (Rat.le_of_lt this))
          have h8 := pw2_le (show q + a ≤ q by omega)
          have h9 := Rat.mul_le_mul_of_nonneg_left h8 (show 0 ≤ (c : Rat) from Rat.natCast_nonneg)
          exact absurd this (Rat.not_lt.mpr h9)
theorem scS_clamp {X : FP.Core.Datum} (h : FP.Core.fits FP.Core.b64 X) {n m : Int} (hnm : n = m ∨ (2099 ≤ n ∧ 2099 ≤ m) ∨ (n ≤ -2099 ∧ m ≤ -2099)) : scS X n = scS X m := by
  rcases hnm with rfl | hnm
  · rfl
  cases X with
  | nan => rfl
  | inf s => rfl
  | fin s c q =>
    obtain ⟨f1, f2, f3, f4⟩ := fin64 h
    show fq_rv FP.Core.b64 s ((c : Rat) * pw2 (q + n)) = fq_rv FP.Core.b64 s ((c : Rat) * pw2 (q + m))
    rcases Nat.eq_zero_or_pos c with rfl | hc
    · rw [show ((0 : Nat) : Rat) = 0 from rfl, Rat.zero_mul, Rat.zero_mul]
    · have hcr : pw2 0 ≤ (c : Rat) := by rw [pw2_zero]; exact fq_cle hc
      have hcu : (c : Rat) < pw2 (53 : Int) := by
        have := fq_clt f1
        rw [show ((9007199254740992 : Nat) : Rat) = pw2 ((53 : Nat) : Int) by rw [pw2_nat]] at this
        exact this
      have low : ∀ e : Int, pw2 e ≤ (c : Rat) * pw2 e := fun e => by
        have := fq_mpw (e := e) hcr
        rw [pw2_zero, Rat.one_mul] at this
        exact this
      have up : ∀ e : Int, (c : Rat) * pw2 e < pw2 (53 + e) := fun e => by
        have := fq_mpwl (e := e) hcu
        rw [← pw2_add] at this
        exact this
      have nn : ∀ e : Int, 0 ≤ (c : Rat) * pw2 e := fun e => Rat.mul_nonneg Rat.natCast_nonneg (Rat.le_of_lt (pw2_pos e))
      rcases hnm with ⟨h1, h2⟩ | ⟨h1, h2⟩
      · rw [rv_inf fq_g64 s (Rat.le_trans (pw2_le (by rw [qn64.2.1, qn64.2.2]; show (971 : Int) + 53 ≤ q + n; omega)) (low _)), rv_inf fq_g64 s (Rat.le_trans (pw2_le (by rw [qn64.2.1, qn64.2.2]; show (971 : Int) + 53 ≤ q + m; omega)) (low _))]
      · rw [rv_zero fq_g64 s (nn _) (Std.lt_of_lt_of_le (up _) (pw2_le (by rw [qn64.1]; omega))), rv_zero fq_g64 s (nn _) (Std.lt_of_lt_of_le (up _) (pw2_le (by rw [qn64.1]; omega)))]
theorem scS_zero {X : FP.Core.Datum} (h : FP.Core.fits FP.Core.b64 X) : scS X 0 = X := by
  cases X with
  | nan => rfl
  | inf s => rfl
  | fin s c q =>
    show fq_rv _ s _ = _
    rw [Int.add_zero]
    exact fq_rv_self fq_g64 s h
theorem p2_bits {a : Int} (h1 : -1022 ≤ a) (h2 : a ≤ 1023) : fJ2_powerOfTwoD (kZ a) = E64 (p2D a) ∧ oJ2_powerOfTwoD (kZ a) := by
  obtain ⟨z, hz⟩ : ∃ z : Nat, (z : Int) = a + 1023 := ⟨(a + 1023).toNat, by omega⟩
  have e : (jshl ((kZ a).toInt64 + 1023) 52) &&& 9218868437227405312 = jZ ((z * 4503599627370496 : Nat) : Int) := by
    rw [kZ_j (by omega) (by omega), show (1023 : Int64) = jZ 1023 from rfl, jZ_add, ← hz, show (52 : Int32) = kZ ((52 : Nat) : Int) from rfl, jZ_shl _ (by decide), ← Int.natCast_mul]
    refine jU_ext ?_
    rw [jU_and, jU_n (by omega), show jU 9218868437227405312 = 2047 * 2 ^ 52 from by decide]
    show z * 2 ^ 52 &&& 2047 * 2 ^ 52 = z * 2 ^ 52
    rw [← Nat.shiftLeft_eq, ← Nat.shiftLeft_eq, ← Nat.shiftLeft_and_distrib]
    congr 1
    have := Nat.and_two_pow_sub_one_eq_mod z 11
    rw [show 2 ^ 11 - 1 = 2047 from rfl] at this
    rw [this]
    omega
  have hE : FP.Core.encode FP.Core.b64 (p2D a) = z * 4503599627370496 := by
    show (if (4503599627370496 : Nat) < FP.Core.b64.tails then FP.Core.assemble FP.Core.b64 false 0 4503599627370496 else FP.Core.assemble FP.Core.b64 false ((a - 52 - FP.Core.b64.qmin).toNat + 1) (4503599627370496 - FP.Core.b64.tails)) = _
    rw [t64.1, if_neg (Nat.lt_irrefl _)]
    unfold FP.Core.assemble
    rw [t64.1, t64.2, qn64.1]
    simp
    omega
  have hv : (jZ ((z * 4503599627370496 : Nat) : Int)).toUInt64 = E64 (p2D a) := by
    unfold E64
    rw [hE, toU64 (by omega)]
  refine ⟨?_, ?_⟩
  · unfold fJ2_powerOfTwoD
    rw [e]
    exact hv
  · unfold oJ2_powerOfTwoD
    rw [e]
    unfold vn_snl2d
    have h3 : ¬ ((jZ ((z * 4503599627370496 : Nat) : Int)).toUInt64 &&& 0x7fffffffffffffff > 0x7ff0000000000000) := by
      intro w
      have w' := UInt64.lt_iff_toNat_lt.mp w
      have h9 : (jZ ((z * 4503599627370496 : Nat) : Int)).toUInt64.toNat = z * 4503599627370496 := jU_n (by omega)
      rw [u64_mask, h9] at w'
      have h4 : (0x7ff0000000000000 : UInt64).toNat = 9218868437227405312 := rfl
      omega
    rw [decide_eq_false h3, Bool.false_and]
theorem scalb_go {P : UInt64} {b : Int} (hb : (b = 512 ∧ P = E64 (p2D 512)) ∨ (b = -512 ∧ P = E64 (p2D (-512)))) {post : UInt64 → Prop} : ∀ (r : Nat) (X : FP.Core.Datum), r ≤ 8 → FP.Core.fits FP.Core.b64 X → X ≠ .nan → post (E64 (scS X (b * r))) → wJ2_scalb_93 post (r + 1) (E64 X) (kZ (b * r)) (kZ b) P := by
  intro r
  induction r with
  | zero =>
    intro X hr hX hn hp
    unfold wJ2_scalb_93
    refine ⟨fun _ => ?_, fun h => ?_⟩
    · have e : scS X (b * ((0 : Nat) : Int)) = X := by
        cases X with
        | nan => rfl
        | inf s => rfl
        | fin s c q =>
          show fq_rv _ s _ = _
          rw [show q + b * ((0 : Nat) : Int) = q by omega]
          exact fq_rv_self fq_g64 s hX
      rw [e] at hp
      exact hp
    · exfalso
      apply h
      rw [show b * ((0 : Nat) : Int) = 0 by omega]
      rfl
  | succ r ih =>
    intro X hr hX hn hp
    unfold wJ2_scalb_93
    refine ⟨fun h => ?_, fun _ => ?_⟩
    · exfalso
      rw [show (0 : Int32) = kZ 0 from rfl, kZ_eq (by rcases hb with ⟨h1, -⟩ | ⟨h1, -⟩ <;> subst h1 <;> omega) (by rcases hb with ⟨h1, -⟩ | ⟨h1, -⟩ <;> subst h1 <;> omega) (by omega) (by omega)] at h
      rcases hb with ⟨h1, -⟩ | ⟨h1, -⟩ <;> subst h1 <;> omega
    · have hm : FP.dmul (E64 X) P = E64 (scS X b) := by
        rcases hb with ⟨h1, h2⟩ | ⟨h1, h2⟩
        · rw [h2, h1]; exact mul_p2 hX (by omega) (by omega)
        · rw [h2, h1]; exact mul_p2 hX (by omega) (by omega)
      rw [hm]
      refine ⟨(vf64_iff _).mpr (by rw [V64_E64 (scS_fits X b)]; exact scS_ne hn b), fun x2 e2 x3 e3 => ?_⟩
      rw [e2, e3, kZ_sub, show b * ((r + 1 : Nat) : Int) - b = b * (r : Int) by rw [Int.natCast_add, Int.mul_add]; omega]
      refine ih (scS X b) (by omega) (scS_fits X b) (scS_ne hn b) ?_
      have e8 : b + b * (r : Int) = b * ((r + 1 : Nat) : Int) := by rw [Int.natCast_add, Int.mul_add]; omega
      have e9 : scS (scS X b) (b * (r : Int)) = scS X (b * ((r + 1 : Nat) : Int)) := by
        rcases Nat.eq_zero_or_pos r with h0 | h0
        · subst h0
          rw [show b * ((0 : Nat) : Int) = 0 by omega, scS_zero (scS_fits X b), show b * ((0 + 1 : Nat) : Int) = b by omega]
        · rw [scS_step (a := b) (b := b * (r : Int)) hX (by
            rcases hb with ⟨h1, -⟩ | ⟨h1, -⟩
            · subst h1; exact Or.inl ⟨by omega, by omega⟩
            · subst h1; exact Or.inr ⟨by omega, by omega⟩), e8]
      rw [e9]
      exact hp
theorem scalb_adj {N : Int} (h1 : -2099 ≤ N) (h2 : N ≤ 2099) : (0 ≤ N → ((kZ N + kushr (kshr (kZ N) 8) 23) &&& 511) - kushr (kshr (kZ N) 8) 23 = kZ (N % 512)) ∧ (N < 0 → ((kZ N + kushr (kshr (kZ N) 8) 23) &&& 511) - kushr (kshr (kZ N) 8) 23 = kZ (-(-N % 512))) := by
  have key : ∀ i : Fin 66, ∀ j : Fin 64, (0 ≤ ((i.val * 64 + j.val : Nat) : Int) - 2099 → ((kZ (((i.val * 64 + j.val : Nat) : Int) - 2099) + kushr (kshr (kZ (((i.val * 64 + j.val : Nat) : Int) - 2099)) 8) 23) &&& 511) - kushr (kshr (kZ (((i.val * 64 + j.val : Nat) : Int) - 2099)) 8) 23 = kZ ((((i.val * 64 + j.val : Nat) : Int) - 2099) % 512)) ∧ (((i.val * 64 + j.val : Nat) : Int) - 2099 < 0 → ((kZ (((i.val * 64 + j.val : Nat) : Int) - 2099) + kushr (kshr (kZ (((i.val * 64 + j.val : Nat) : Int) - 2099)) 8) 23) &&& 511) - kushr (kshr (kZ (((i.val * 64 + j.val : Nat) : Int) - 2099)) 8) 23 = kZ (-(-(((i.val * 64 + j.val : Nat) : Int) - 2099) % 512))) := by decide +kernel
  have := key ⟨(N + 2099).toNat / 64, by omega⟩ ⟨(N + 2099).toNat % 64, by omega⟩
  rw [show ((((⟨(N + 2099).toNat / 64, by omega⟩ : Fin 66).val * 64 + (⟨(N + 2099).toNat % 64, by omega⟩ : Fin 64).val : Nat)) : Int) - 2099 = N by show (((N + 2099).toNat / 64 * 64 + (N + 2099).toNat % 64 : Nat) : Int) - 2099 = N; omega] at this
  exact this
theorem scalb_spec' (p0 : UInt64) (p2 : Int32) (post : UInt64 → Prop) (hw : post (sclD p0 p2.toInt)) (hok : vf_n64 p0) : wJ2_scalb p0 p2 post := by
  have hn : V64 p0 ≠ .nan := (vf64_iff _).mp hok
  obtain ⟨X, hX⟩ : ∃ X, X = V64 p0 := ⟨_, rfl⟩
  have hf : FP.Core.fits FP.Core.b64 X := by rw [hX]; exact V64_fits p0
  rw [← hX] at hn
  have hp0 : p0 = E64 X := by rw [hX, E64_V64 (by rw [← hX]; exact hn)]
  rw [hp0, sclD_E hf] at hw
  rw [hp0]
  have hr := kI_r p2
  obtain ⟨n, hn2⟩ : ∃ n : Int, n = p2.toInt := ⟨_, rfl⟩
  have hp2 : p2 = kZ n := by rw [hn2, kI_Z]
  rw [← hn2] at hw hr
  rw [hp2]
  unfold wJ2_scalb
  intro x1 e1 x5 e5 x6 e6
  have c0 : ((0 : Int32) ≤ kZ n) ↔ 0 ≤ n := by
    rw [show (0 : Int32) = kZ 0 from rfl, kZ_le (by omega) (by omega) (by omega) (by omega)]
  by_cases h0 : 0 ≤ n
  · rw [if_pos (c0.mpr h0)] at e1
    unfold fJ2_min lt_ at e1
    have hc : ((2099 : Int32) < kZ n) ↔ 2099 < n := by
      rw [show (2099 : Int32) = kZ 2099 from rfl, kZ_lt (by omega) (by omega) (by omega) (by omega)]
    obtain ⟨N, hN⟩ : ∃ N : Int, N = min n 2099 := ⟨_, rfl⟩
    have e1' : x1 = (kZ N, kZ 512, E64 (p2D 512)) := by
      rw [e1, show (6913025428013711360 : UInt64) = E64 (p2D 512) from by decide +kernel]
      by_cases h9 : 2099 < n
      · rw [if_pos (hc.mpr h9), show N = 2099 by omega]; rfl
      · rw [if_neg (fun z => h9 (hc.mp z)), show N = n by omega]; rfl
    have hadj := (scalb_adj (N := N) (by omega) (by omega)).1 (by omega)
    rw [e1'] at e5 e6 ⊢
    dsimp only at e5 e6 ⊢
    rw [e5, hadj] at e6
    have hb := p2_bits (a := N % 512) (by omega) (by omega)
    rw [e6, hb.1, mul_p2 hf (by omega) (by omega)]
    refine ⟨hb.2, (vf64_iff _).mpr (by rw [V64_E64 (scS_fits _ _)]; exact scS_ne hn _), fun x7 e7 x8 e8 => ⟨(N / 512).toNat + 1, ?_⟩⟩
    rw [e7, e8, kZ_sub, show N - N % 512 = 512 * (((N / 512).toNat : Nat) : Int) by omega]
    refine scalb_go (Or.inl ⟨rfl, rfl⟩) _ _ (by omega) (scS_fits _ _) (scS_ne hn _) ?_
    rw [scS_step hf (Or.inl ⟨by omega, by omega⟩), show N % 512 + 512 * (((N / 512).toNat : Nat) : Int) = N by omega, ← scS_clamp hf (n := n) (by omega)]
    exact hw
  · rw [if_neg (fun z => h0 (c0.mp z))] at e1
    unfold fJ2_max lt_ at e1
    have hc : (kZ n < (-2099 : Int32)) ↔ n < -2099 := by
      rw [show (-2099 : Int32) = kZ (-2099) from rfl, kZ_lt (by omega) (by omega) (by omega) (by omega)]
    obtain ⟨N, hN⟩ : ∃ N : Int, N = max n (-2099) := ⟨_, rfl⟩
    have e1' : x1 = (kZ N, kZ (-512), E64 (p2D (-512))) := by
      rw [e1, show (2301339409586323456 : UInt64) = E64 (p2D (-512)) from by decide +kernel]
      by_cases h9 : n < -2099
      · rw [if_pos (hc.mpr h9), show N = -2099 by omega]; rfl
      · rw [if_neg (fun z => h9 (hc.mp z)), show N = n by omega]; rfl
    have hadj := (scalb_adj (N := N) (by omega) (by omega)).2 (by omega)
    rw [e1'] at e5 e6 ⊢
    dsimp only at e5 e6 ⊢
    rw [e5, hadj] at e6
    have hb := p2_bits (a := -(-N % 512)) (by omega) (by omega)
    rw [e6, hb.1, mul_p2 hf (by omega) (by omega)]
    refine ⟨hb.2, (vf64_iff _).mpr (by rw [V64_E64 (scS_fits _ _)]; exact scS_ne hn _), fun x7 e7 x8 e8 => ⟨(-N / 512).toNat + 1, ?_⟩⟩
    rw [e7, e8, kZ_sub, show N - -(-N % 512) = -512 * (((-N / 512).toNat : Nat) : Int) by omega]
    refine scalb_go (Or.inr ⟨rfl, rfl⟩) _ _ (by omega) (scS_fits _ _) (scS_ne hn _) ?_
    rcases Nat.eq_zero_or_pos (-N / 512).toNat with hz | hz
    · rw [hz]
      have e9 : scS (scS X (-(-N % 512))) (-512 * ((0 : Nat) : Int)) = scS X (-(-N % 512)) := by
        have h8 := scS_fits X (-(-N % 512))
        generalize scS X (-(-N % 512)) = Y at *
        cases Y with
        | nan => rfl
        | inf s => rfl
        | fin s c q =>
          show fq_rv _ s _ = _
          rw [show q + -512 * ((0 : Nat) : Int) = q by omega]
          exact fq_rv_self fq_g64 s h8
      rw [e9, show -(-N % 512) = N by omega, ← scS_clamp hf (n := n) (by omega)]
      exact hw
    · rw [scS_step hf (Or.inr ⟨by omega, by omega⟩), show -(-N % 512) + -512 * (((-N / 512).toNat : Nat) : Int) = N by omega, ← scS_clamp hf (n := n) (by omega)]
      exact hw
