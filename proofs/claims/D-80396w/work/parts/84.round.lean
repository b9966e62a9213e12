/-! to the nearest, as the class does it -/
theorem j_min : (-9223372036854775808 : Int64) = jZ (-9223372036854775808) := Int64.toInt_inj.mp (by rw [jZ_I (by omega) (by omega)]; rfl)
theorem j_cmp {x y : Int64} {a b : Nat} (h1 : x < y ↔ a < b) (h2 : x = y ↔ a = b) : fJ3_compare x y = kZ (nOrd a b) := by
  unfold fJ3_compare lt_ nOrd
  rcases Nat.lt_trichotomy a b with h | h | h
  · rw [if_pos (h1.mpr h), if_pos h]; rfl
  · rw [if_neg (fun z => by have := h1.mp z; omega), if_pos (h2.mpr h), if_neg (by omega), if_neg (by omega)]; rfl
  · rw [if_neg (fun z => by have := h1.mp z; omega), if_neg (fun z => by have := h2.mp z; omega), if_neg (by omega), if_pos h]; rfl
theorem j_cmpU {a b : Nat} (ha : a < 18446744073709551616) (hb : b < 18446744073709551616) : fJ3_compareUnsigned (jZ a) (jZ b) = kZ (nOrd a b) := by
  have h1 : jZ ((a : Int) + -9223372036854775808) < jZ ((b : Int) + -9223372036854775808) ↔ a < b := by
    rw [jZ_lt (by omega) (by omega) (by omega) (by omega)]
    omega
  have h2 : jZ ((a : Int) + -9223372036854775808) = jZ ((b : Int) + -9223372036854775808) ↔ a = b := by
    rw [jZ_eq (by omega) (by omega) (by omega) (by omega)]
    omega
  unfold fJ3_compareUnsigned
  rw [j_min, jZ_add, jZ_add]
  exact j_cmp h1 h2
theorem lt_eq {α β : Sort _} (a : α) (f : α → β) : lt_ a f = f a := rfl
theorem lz_64 {m : Nat} (h0 : 0 < m) (h : m < 18446744073709551616) : fJ3_numberOfLeadingZeros (jZ m) = kZ ((63 - m.log2 : Nat) : Int) := by
  unfold fJ3_numberOfLeadingZeros
  rw [lt_eq, lt_eq, show (32 : Int32) = kZ ((32 : Nat) : Int) from rfl, jZ_ushr h (by decide), jZ_k]
  have hc : (kZ ((m / 2 ^ 32 : Nat) : Int) = 0) ↔ m / 2 ^ 32 = 0 := by
    constructor
    · intro z
      have := congrArg kU z
      rw [kU_n (by omega)] at this
      exact this
    · intro z; rw [z]; rfl
  by_cases hs : m / 2 ^ 32 = 0
  · have hm : m < 4294967296 := by omega
    have hl := ld_lt (n := 32) h0 hm
    rw [if_pos (hc.mpr hs), jZ_k, lz_32 h0 hm, kZ_add]
    congr 1
    omega
  · rw [if_neg (fun z => hs (hc.mp z)), lz_32 (by omega) (by omega)]
    have hl := ld_lt (n := 64) h0 h
    have := (lz_div (L := m) (s := 32) (by omega)).1
    congr 2
    omega
theorem j_max {a b : Int} (h1 : -9223372036854775808 ≤ a) (h2 : a < 9223372036854775808) (h3 : -9223372036854775808 ≤ b) (h4 : b < 9223372036854775808) : fJ2_max_2 (jZ a) (jZ b) = jZ (max a b) := by
  unfold fJ2_max_2 lt_
  have hc := jZ_lt h1 h2 h3 h4
  by_cases h : a < b
  · rw [if_pos (hc.mpr h), show max a b = b by omega]
  · rw [if_neg (fun z => h (hc.mp z)), show max a b = a by omega]
theorem sel0 (M : UInt64) : lt_ M (fun x1 : UInt64 => lt_ (if (0 : Int32) = 0 then x1 else (FP.dneg x1)) (fun x11 : UInt64 => x11)) = M := by
  rw [lt_eq, if_pos (show (0 : Int32) = 0 from rfl), lt_eq]
theorem sel1 (M : UInt64) : lt_ M (fun x1 : UInt64 => lt_ (if (1 : Int32) = 0 then x1 else (FP.dneg x1)) (fun x11 : UInt64 => x11)) = FP.dneg M := by
  rw [lt_eq, if_neg (show ¬ (1 : Int32) = 0 by decide), lt_eq]
theorem kept_E {m d : Nat} (hm : m < 18446744073709551616) (h1 : 1 ≤ d) (h2 : d ≤ 64) : fX0_kept (jZ m) (kZ d) = jZ ((FP.Core.nearest m (2 ^ d) : Nat) : Int) := by
  have hpd : 2 ^ d = 2 * 2 ^ (d - 1) := by
    have e := Nat.pow_succ (n := 2) (m := d - 1)
    rw [show (d - 1).succ = d by omega] at e
    omega
  have hp63 : 2 ^ (d - 1) ≤ 2 ^ 63 := Nat.pow_le_pow_right (by decide) (by omega)
  have hpp := Nat.two_pow_pos (d - 1)
  have hr : m % 2 ^ d < 2 ^ d := Nat.mod_lt _ (by omega)
  have hdm := Nat.div_add_mod' m (2 ^ d)
  have hcd : (kZ (d : Int) = 64) ↔ d = 64 := by
    rw [show (64 : Int32) = kZ 64 from rfl, kZ_eq (by omega) (by omega) (by omega) (by omega)]
    omega
  have e1 : (if kZ (d : Int) = 64 then 0 else jushr (jZ m) (kZ d)) = jZ ((m / 2 ^ d : Nat) : Int) := by
    by_cases h : d = 64
    · rw [if_pos (hcd.mpr h), h, Nat.div_eq_of_lt hm]; rfl
    · rw [if_neg (fun z => h (hcd.mp z)), jZ_ushr hm (by omega)]
  have e2 : (if kZ (d : Int) = 64 then jZ (m : Int) else jZ (m : Int) - jshl (jZ ((m / 2 ^ d : Nat) : Int)) (kZ d)) = jZ ((m % 2 ^ d : Nat) : Int) := by
    by_cases h : d = 64
    · rw [if_pos (hcd.mpr h), h, Nat.mod_eq_of_lt hm]
    · rw [if_neg (fun z => h (hcd.mp z)), jZ_shl _ (by omega), jZ_sub, ← Int.natCast_mul]
      congr 1
      omega
  have e3 : jshl 1 (kZ (d : Int) - 1) = jZ ((2 ^ (d - 1) : Nat) : Int) := by
    rw [show (1 : Int32) = kZ 1 from rfl, kZ_sub, show (d : Int) - 1 = ((d - 1 : Nat) : Int) by omega, show (1 : Int64) = jZ 1 from rfl, jZ_shl _ (by omega), Int.one_mul]
  unfold fX0_kept
  rw [lt_eq, e1, lt_eq, e2, lt_eq, e3, j_cmpU (by omega) (by omega), lt_eq]
  have hd64 : m / 2 ^ d < 9223372036854775808 := by
    have : m / 2 ^ d ≤ m / 2 := Nat.div_le_div_left (by omega) (by decide)
    omega
  unfold FP.Core.nearest
  rcases Nat.lt_trichotomy (m % 2 ^ d) (2 ^ (d - 1)) with h | h | h
  · rw [nOrd_l h, if_neg (show ¬ (0 : Int32) < kZ (-1) by decide), if_neg (show ¬ kZ (-1) = 0 by decide), if_pos (by omega)]
  · rw [nOrd_e h, if_neg (show ¬ (0 : Int32) < kZ 0 by decide), if_pos (show kZ 0 = 0 by decide), if_neg (show ¬ 2 * (m % 2 ^ d) < 2 ^ d by omega), if_neg (show ¬ 2 ^ d < 2 * (m % 2 ^ d) by omega)]
    rw [jZ_mask _ (k := 1) (by decide) (by decide), ← Int.natCast_emod, Nat.pow_one]
    rcases Nat.mod_two_eq_zero_or_one (m / 2 ^ d) with h3 | h3
    · rw [h3, if_neg (by decide)]; rfl
    · rw [h3, if_pos (by decide), show (1 : Int64) = jZ 1 from rfl, jZ_add]
      congr 1
  · rw [nOrd_g h, if_pos (show (0 : Int32) < kZ 1 by decide), if_neg (show ¬ 2 * (m % 2 ^ d) < 2 ^ d by omega), if_pos (show 2 ^ d < 2 * (m % 2 ^ d) by omega), show (1 : Int64) = jZ 1 from rfl, jZ_add]
    congr 1
theorem scS_rv (s : Bool) {k : Nat} {w u : Int} (hk : k < 9007199254740992) (h1 : -1074 ≤ w) (h2 : w ≤ 971) : scS (fq_rv FP.Core.b64 s ((k : Rat) * pw2 w)) u = fq_rv FP.Core.b64 s ((k : Rat) * pw2 (w + u)) := by
  obtain ⟨c', q', k1, k2, k3⟩ := fq_exact fq_g64 s (c := k) (q := w) (by rw [qn64.2.2]; exact hk) (by rw [qn64.1]; exact h1) (by rw [qn64.2.1]; exact h2)
  rw [k1]
  show fq_rv _ s _ = _
  rw [pw2_add, ← Rat.mul_assoc, k3, Rat.mul_assoc, ← pw2_add]
theorem l2d_E {K : Nat} (h : K ≤ 9007199254740992) : FP.l2d (jZ K) = E64 (fq_rv FP.Core.b64 false (K : Rat)) := by
  show UInt64.ofNat (FP.Core.encode FP.Core.b64 (FP.Core.round FP.Core.b64 (FP.Core.ofInt (jZ (K : Int)).toInt))) = _
  rw [jZ_I (by omega) (by omega)]
  unfold FP.Core.ofInt FP.Core.round
  rw [decide_eq_false (show ¬ (K : Int) < 0 by omega), Int.natAbs_natCast]
  dsimp only
  rw [fq_rv_one fq_g64, pw2_zero, Rat.mul_one]
  rfl
theorem whole_64 {K : Nat} (h : K ≤ 9007199254740992) : ∃ (k : Nat) (w : Int), k < 9007199254740992 ∧ -1074 ≤ w ∧ w ≤ 971 ∧ (K : Rat) = (k : Rat) * pw2 w := by
  rcases Nat.lt_or_ge K 9007199254740992 with h1 | h1
  · exact ⟨K, 0, h1, by omega, by omega, by rw [pw2_zero, Rat.mul_one]⟩
  · refine ⟨4503599627370496, 1, by omega, by omega, by omega, ?_⟩
    rw [show K = 9007199254740992 by omega, pw2_one]
    decide +kernel
theorem by_D {K : Nat} {u : Int} (hK : K ≤ 9007199254740992) (h1 : -2147483648 ≤ u) (h2 : u < 2147483648) : fX1_by (FP.l2d (jZ K)) (kZ u) = E64 (fq_rv FP.Core.b64 false ((K : Rat) * pw2 u)) ∧ oX1_by (FP.l2d (jZ K)) := by
  obtain ⟨k, w, w1, w2, w3, w4⟩ := whole_64 hK
  have hf : FP.Core.fits FP.Core.b64 (fq_rv FP.Core.b64 false (K : Rat)) := fq_rv_fits fq_g64 _ Rat.natCast_nonneg
  rw [l2d_E hK]
  constructor
  · show sclD _ (kZ u).toInt = _
    rw [kZ_I h1 h2, sclD_E hf, w4, scS_rv false w1 w2 w3, pw2_add, ← Rat.mul_assoc]
  · exact (vf64_iff _).mpr (by rw [V64_E64 hf]; exact rv_ne _ _ _)
theorem dr_big (s : Bool) {v : Rat} (h : pw2 972 ≤ v) : FP.Core.round FP.Core.b32 (fq_rv FP.Core.b64 s v) = fq_rv FP.Core.b32 s v := by
  have h0 : 0 ≤ v := Rat.le_trans (Rat.le_of_lt (pw2_pos _)) h
  have h1 : ((1 : Nat) : Rat) * pw2 972 ≤ v := by rw [show ((1 : Nat) : Rat) = 1 from rfl, Rat.one_mul]; exact h
  rw [rv_inf fq_g32 s (Rat.le_trans (pw2_le (by rw [qn32.2.1, qn32.2.2]; decide)) h)]
  rcases fq_rv_cases fq_g64 s h0 with ⟨c', q', k1, k2, k3⟩ | ⟨k1, k2⟩
  · rw [k1]
    have := (k3 1 972 (by decide) (by rw [qn64.1]; decide)).2 h1
    rw [show ((1 : Nat) : Rat) = 1 from rfl, Rat.one_mul] at this
    show FP.Core.roundRatio FP.Core.b32 s c' 1 q' = _
    rw [fq_rv_one fq_g32]
    exact rv_inf fq_g32 s (Rat.le_trans (pw2_le (by rw [qn32.2.1, qn32.2.2]; decide)) this)
  · rw [k1]; rfl
theorem dr_whole (s : Bool) {K : Nat} {u : Int} (hK : K < 9007199254740992) (h1 : -1074 ≤ u) : FP.Core.round FP.Core.b32 (fq_rv FP.Core.b64 s ((K : Rat) * pw2 u)) = fq_rv FP.Core.b32 s ((K : Rat) * pw2 u) := by
  rcases Int.lt_or_le 971 u with h | h
  · rcases Nat.eq_zero_or_pos K with rfl | h0
    · rw [show ((0 : Nat) : Rat) = 0 from rfl, Rat.zero_mul]
      exact dr_round dr_zero
    · refine dr_big s ?_
      have := fq_mpw (e := u) (fq_cle h0)
      rw [show ((Nat.succ 0 : Nat) : Rat) = 1 from rfl, Rat.one_mul] at this
      exact Rat.le_trans (pw2_le (by omega)) this
  · exact dr_round (dr_exact hK h1 h)
theorem by_F {K : Nat} {u : Int} (hK : K < 9007199254740992) (h1 : -1074 ≤ u) (h2 : u < 2147483648) : fX2_by (FP.l2d (jZ K)) (kZ u) = WD (fq_rv FP.Core.b32 false ((K : Rat) * pw2 u)) ∧ oX2_by (FP.l2d (jZ K)) (kZ u) := by
  obtain ⟨a, b⟩ := by_D (K := K) (u := u) (by omega) (by omega) h2
  have hf : FP.Core.fits FP.Core.b64 (fq_rv FP.Core.b64 false ((K : Rat) * pw2 u)) := fq_rv_fits fq_g64 _ (Rat.mul_nonneg Rat.natCast_nonneg (Rat.le_of_lt (pw2_pos _)))
  obtain ⟨c, d⟩ := fit_F hf
  rw [dr_whole false hK h1] at c
  have e : fX1_by_F (FP.l2d (jZ K)) (kZ u) = E64 (fq_rv FP.Core.b64 false ((K : Rat) * pw2 u)) := a
  exact ⟨by unfold fX2_by; rw [e]; exact c, b, by rw [e]; exact d⟩
theorem rv_grid {f : FP.Core.Fmt} (hf : fq_good f) (s : Bool) {K : Nat} {u : Int} (hK : K ≤ 2 ^ f.p) (h1 : f.qmin ≤ u) (h2 : u = f.qmin ∨ f.tails ≤ K) : fq_rv f s ((K : Rat) * pw2 u) = FP.Core.settle f s K u := by
  rcases fq_settle hf s hK h1 h2 with ⟨c', q', k1, k2, k3⟩ | ⟨k1, k2⟩
  · rw [k1, ← k3]; exact fq_rv_self hf s k2
  · rw [k1]; exact rv_inf hf s k2
theorem neg_rr (f : FP.Core.Fmt) (s : Bool) (A B : Nat) (e : Int) : FP.Core.negate (FP.Core.roundRatio f s A B e) = FP.Core.roundRatio f (!s) A B e := by
  unfold FP.Core.roundRatio FP.Core.roundAt FP.Core.settle FP.Core.bound
  repeat' split
  all_goals rfl
/-- what a rounding with the last digit at a place is -/
theorem rv_drop {f : FP.Core.Fmt} (hf : fq_good f) (s : Bool) {m d : Nat} {n : Int} (hm : 0 < m) (h1 : f.qmin ≤ n + d) (h2 : (m.log2 : Int) < d + f.p) (h3 : n + d = f.qmin ∨ (m.log2 : Int) = d + f.p - 1) :
    FP.Core.roundRatio f s m 1 n = fq_rv f s (((FP.Core.nearest m (2 ^ d) : Nat) : Rat) * pw2 (n + d)) ∧ FP.Core.nearest m (2 ^ d) ≤ 2 ^ f.p := by
  have hl := fq_log hm
  have hv : 0 < (m : Rat) * pw2 n := Rat.mul_pos (fq_cpos hm) (pw2_pos _)
  have hq : fq_isQ f ((m : Rat) * pw2 n) (n + d) := by
    refine ⟨h1, ?_, ?_⟩
    · have := fq_mpwl (e := n) hl.2
      rw [← pw2_add] at this
      exact Std.lt_of_lt_of_le this (pw2_le (by omega))
    · rcases h3 with h3 | h3
      · exact Or.inl h3
      · right
        have := fq_mpw (e := n) hl.1
        rw [← pw2_add] at this
        exact Rat.le_trans (pw2_le (by omega)) this
  have hN : fq_isN ((m : Rat) * pw2 n * pw2 (-(n + d))) (FP.Core.nearest m (2 ^ d)) := by
    have h9 := fq_nearest (N := m) (D := 2 ^ d) (Nat.two_pow_pos _)
    have e : (m : Rat) / ((2 ^ d : Nat) : Rat) = (m : Rat) * pw2 n * pw2 (-(n + d)) := by
      have h8 := pw2_neg (d : Int)
      have h7 := pw2_pos (d : Int)
      have h6 : (m : Rat) / ((2 ^ d : Nat) : Rat) * ((2 ^ d : Nat) : Rat) = (m : Rat) := Rat.div_mul_cancel (fun h => by rw [← pw2_nat] at h; rw [h] at h7; exact absurd h7 Rat.lt_irrefl)
      rw [← pw2_nat] at h6 ⊢
      rw [Rat.mul_assoc, ← pw2_add, show n + -(n + d) = -(d : Int) by omega]
      generalize (m : Rat) / pw2 (d : Int) = x at *
      refine fq_cancel h7 ?_
      rw [h6]
      grind
    rw [← e]; exact h9
  obtain ⟨n1, n2⟩ := fq_NQ hf hq hN
  refine ⟨?_, n1⟩
  rw [fq_rv_one hf, fq_rv_spec hf s hv hq hN, rv_grid hf s n1 h1 n2]
theorem round_D0 {m : Nat} {n : Int} (hm : m < 18446744073709551616) (h1 : -8589934592 ≤ n) (h2 : n ≤ 8589934592) : fX0_round_D 0 (jZ m) (jZ n) = WD (FP.Core.roundRatio FP.Core.b64 false m 1 n) ∧ oX0_round_D (jZ m) (jZ n) := by
  unfold fX0_round_D oX0_round_D
  rw [sel0]
  have hc0 : (jZ (m : Int) = 0) ↔ m = 0 := by
    constructor
    · intro z
      have := congrArg jU z
      rw [jU_n hm] at this
      exact this
    · intro z; rw [z]; rfl
  rcases Nat.eq_zero_or_pos m with hm0 | hm0
  · rw [if_pos (hc0.mpr hm0)]
    refine ⟨?_, fun _ => trivial, fun z => absurd (hc0.mpr hm0) z⟩
    rw [hm0]
    show FP.dconst0 = WD (.fin false 0 FP.Core.b64.qmin)
    rw [qn64.1]
    decide +kernel
  have hl := ld_lt (n := 64) hm0 hm
  obtain ⟨t, ht⟩ : ∃ t : Int, t = n + m.log2 := ⟨_, rfl⟩
  obtain ⟨u, hu⟩ : ∃ u : Int, u = max (t - 53 + 1) (-1074) := ⟨_, rfl⟩
  have e3 : (jZ n + 63) - (fJ3_numberOfLeadingZeros (jZ m)).toInt64 = jZ t := by
    rw [lz_64 hm0 hm, kZ_j (by omega) (by omega), show (63 : Int64) = jZ 63 from rfl, jZ_add, jZ_sub]
    congr 1
    omega
  have e4 : fJ2_max_2 ((jZ t - fX1_precision.toInt64) + 1) fX1_least.toInt64 = jZ u := by
    rw [show fX1_precision.toInt64 = jZ 53 from rfl, show fX1_least.toInt64 = jZ (-1074) from rfl, show (1 : Int64) = jZ 1 from rfl, jZ_sub, jZ_add, j_max (by omega) (by omega) (by omega) (by omega), hu]
  have e5 : jZ u - jZ n = jZ (u - n) := jZ_sub _ _
  have hne : ¬ jZ (m : Int) = 0 := fun z => by have := hc0.mp z; omega
  rw [if_neg hne, lt_eq, e3, lt_eq, e4, lt_eq, e5]
  have c1 : ((2000 : Int64) < jZ t) ↔ 2000 < t := by
    rw [show (2000 : Int64) = jZ 2000 from rfl, jZ_lt (by omega) (by omega) (by omega) (by omega)]
  have c2 : ((0 : Int64) < jZ (u - n)) ↔ 0 < u - n := by
    rw [show (0 : Int64) = jZ 0 from rfl, jZ_lt (by omega) (by omega) (by omega) (by omega)]
  have c3 : ((64 : Int64) < jZ (u - n)) ↔ 64 < u - n := by
    rw [show (64 : Int64) = jZ 64 from rfl, jZ_lt (by omega) (by omega) (by omega) (by omega)]
  have hlr := fq_log hm0
  by_cases g1 : 2000 < t
  · rw [if_pos (c1.mpr g1)]
    refine ⟨?_, fun z => absurd z hne, fun _ x3 E3 x4 E4 x5 E5 => ⟨fun _ => trivial, fun z => ?_⟩⟩
    · rw [fq_rv_one fq_g64, rv_inf fq_g64, w_inf]
      have := fq_mpw (e := n) hlr.1
      rw [← pw2_add] at this
      exact Rat.le_trans (pw2_le (by rw [qn64.2.1, qn64.2.2]; omega)) this
    · rw [E3] at z
      exact absurd (c1.mpr g1) z
  rw [if_neg (fun z => g1 (c1.mp z))]
  by_cases g2 : 0 < u - n
  · rw [if_pos (c2.mpr g2)]
    by_cases g3 : 64 < u - n
    · rw [if_pos (c3.mpr g3)]
      refine ⟨?_, fun z => absurd z hne, fun _ x3 E3 x4 E4 x5 E5 => ?_⟩
      · have hq : u = -1074 := by omega
        rw [fq_rv_one fq_g64, rv_zero fq_g64 false (Rat.mul_nonneg Rat.natCast_nonneg (Rat.le_of_lt (pw2_pos _)))]
        · rw [qn64.1]; decide +kernel
        · have := fq_mpwl (e := n) hlr.2
          rw [← pw2_add] at this
          exact Std.lt_of_lt_of_le this (pw2_le (by rw [qn64.1]; omega))
      · rw [E3] at E4 ⊢
        rw [e4] at E4
        rw [E4, e5] at E5
        rw [E5]
        exact ⟨fun z => absurd (c1.mp z) g1, fun _ => ⟨fun _ => ⟨fun _ => trivial, fun z => absurd (c3.mpr g3) z⟩, fun z => absurd (c2.mpr g2) z⟩⟩
    · rw [if_neg (fun z => g3 (c3.mp z))]
      obtain ⟨d, hd⟩ : ∃ d : Nat, (d : Int) = u - n := ⟨(u - n).toNat, by omega⟩
      have hnd : n + (d : Int) = u := by omega
      obtain ⟨r1, r2⟩ := rv_drop (n := n) (d := d) fq_g64 false hm0 (by rw [qn64.1]; omega) (by rw [qn64.2.2]; omega) (by rw [qn64.1, qn64.2.2]; omega)
      rw [qn64.2.2] at r2
      have r3 : FP.Core.nearest m (2 ^ d) ≤ 9007199254740992 := r2
      have hb := by_D (K := FP.Core.nearest m (2 ^ d)) (u := u) (by omega) (by omega) (by omega)
      have ek : fX0_kept (jZ m) (jZ (u - n)).toInt32 = jZ ((FP.Core.nearest m (2 ^ d) : Nat) : Int) := by
        rw [jZ_k, ← hd]; exact kept_E hm (by omega) (by omega)
      refine ⟨?_, fun z => absurd z hne, fun _ x3 E3 x4 E4 x5 E5 => ?_⟩
      · rw [lt_eq, ek, jZ_k, hb.1, r1, hnd]
        exact (WD_64 (fq_rv_fits fq_g64 _ (Rat.mul_nonneg Rat.natCast_nonneg (Rat.le_of_lt (pw2_pos _))))).symm
      · rw [E3] at E4 ⊢
        rw [e4] at E4
        rw [E4, e5] at E5
        rw [E5]
        refine ⟨fun z => absurd (c1.mp z) g1, fun _ => ⟨fun _ => ⟨fun z => absurd (c3.mp z) g3, fun _ => ?_⟩, fun z => absurd (c2.mpr g2) z⟩⟩
        rw [ek]
        exact hb.2
  · rw [if_neg (fun z => g2 (c2.mp z))]
    have hmm : m < 9007199254740992 := by
      have := (fq_log hm0).2
      have h9 : m < 2 ^ (m.log2 + 1) := (ld_b hm0).2
      have h8 : 2 ^ (m.log2 + 1) ≤ 2 ^ 53 := Nat.pow_le_pow_right (by decide) (by omega)
      have h7 : 2 ^ 53 = 9007199254740992 := by decide
      omega
    have hb := by_D (K := m) (u := n) (by omega) (by omega) (by omega)
    refine ⟨?_, fun z => absurd z hne, fun _ x3 E3 x4 E4 x5 E5 => ?_⟩
    · rw [lt_eq, jZ_k, hb.1, fq_rv_one fq_g64]
      exact (WD_64 (fq_rv_fits fq_g64 _ (Rat.mul_nonneg Rat.natCast_nonneg (Rat.le_of_lt (pw2_pos _))))).symm
    · rw [E3] at E4 ⊢
      rw [e4] at E4
      rw [E4, e5] at E5
      rw [E5]
      refine ⟨fun z => absurd (c1.mp z) g1, fun _ => ⟨fun z => absurd (c2.mp z) g2, fun _ => ?_⟩⟩
      exact hb.2
theorem round_DE (s : Bool) {m : Nat} {n : Int} (hm : m < 18446744073709551616) (h1 : -8589934592 ≤ n) (h2 : n ≤ 8589934592) : fX0_round_D (bz s) (jZ m) (jZ n) = WD (FP.Core.roundRatio FP.Core.b64 s m 1 n) ∧ oX0_round_D (jZ m) (jZ n) := by
  obtain ⟨a, b⟩ := round_D0 hm h1 h2
  refine ⟨?_, b⟩
  cases s
  · exact a
  · have e : fX0_round_D (bz true) (jZ m) (jZ n) = FP.dneg (fX0_round_D 0 (jZ m) (jZ n)) := by
      show fX0_round_D 1 (jZ m) (jZ n) = _
      unfold fX0_round_D
      rw [sel1, sel0]
    rw [e, a, dneg_W (rr_ne _ _ _ _ _), neg_rr]
    rfl
theorem round_F0 {m : Nat} {n : Int} (hm : m < 18446744073709551616) (h1 : -8589934592 ≤ n) (h2 : n ≤ 8589934592) : fX0_round_F 0 (jZ m) (jZ n) = WD (FP.Core.roundRatio FP.Core.b32 false m 1 n) ∧ oX0_round_F (jZ m) (jZ n) := by
  unfold fX0_round_F oX0_round_F
  rw [sel0]
  have hc0 : (jZ (m : Int) = 0) ↔ m = 0 := by
    constructor
    · intro z
      have := congrArg jU z
      rw [jU_n hm] at this
      exact this
    · intro z; rw [z]; rfl
  rcases Nat.eq_zero_or_pos m with hm0 | hm0
  · rw [if_pos (hc0.mpr hm0)]
    refine ⟨?_, fun _ => trivial, fun z => absurd (hc0.mpr hm0) z⟩
    rw [hm0]
    show FP.dconst0 = WD (.fin false 0 FP.Core.b32.qmin)
    rw [qn32.1]
    decide +kernel
  have hl := ld_lt (n := 64) hm0 hm
  obtain ⟨t, ht⟩ : ∃ t : Int, t = n + m.log2 := ⟨_, rfl⟩
  obtain ⟨u, hu⟩ : ∃ u : Int, u = max (t - 24 + 1) (-149) := ⟨_, rfl⟩
  have e3 : (jZ n + 63) - (fJ3_numberOfLeadingZeros (jZ m)).toInt64 = jZ t := by
    rw [lz_64 hm0 hm, kZ_j (by omega) (by omega), show (63 : Int64) = jZ 63 from rfl, jZ_add, jZ_sub]
    congr 1
    omega
  have e4 : fJ2_max_2 ((jZ t - fX2_precision.toInt64) + 1) fX2_least.toInt64 = jZ u := by
    rw [show fX2_precision.toInt64 = jZ 24 from rfl, show fX2_least.toInt64 = jZ (-149) from rfl, show (1 : Int64) = jZ 1 from rfl, jZ_sub, jZ_add, j_max (by omega) (by omega) (by omega) (by omega), hu]
  have e5 : jZ u - jZ n = jZ (u - n) := jZ_sub _ _
  have hne : ¬ jZ (m : Int) = 0 := fun z => by have := hc0.mp z; omega
  rw [if_neg hne, lt_eq, e3, lt_eq, e4, lt_eq, e5]
  have c1 : ((2000 : Int64) < jZ t) ↔ 2000 < t := by
    rw [show (2000 : Int64) = jZ 2000 from rfl, jZ_lt (by omega) (by omega) (by omega) (by omega)]
  have c2 : ((0 : Int64) < jZ (u - n)) ↔ 0 < u - n := by
    rw [show (0 : Int64) = jZ 0 from rfl, jZ_lt (by omega) (by omega) (by omega) (by omega)]
  have c3 : ((64 : Int64) < jZ (u - n)) ↔ 64 < u - n := by
    rw [show (64 : Int64) = jZ 64 from rfl, jZ_lt (by omega) (by omega) (by omega) (by omega)]
  have hlr := fq_log hm0
  by_cases g1 : 2000 < t
  · rw [if_pos (c1.mpr g1)]
    refine ⟨?_, fun z => absurd z hne, fun _ x3 E3 x4 E4 x5 E5 => ⟨fun _ => trivial, fun z => ?_⟩⟩
    · rw [fq_rv_one fq_g32, rv_inf fq_g32, w_inf]
      have := fq_mpw (e := n) hlr.1
      rw [← pw2_add] at this
      exact Rat.le_trans (pw2_le (by rw [qn32.2.1, qn32.2.2]; omega)) this
    · rw [E3] at z
      exact absurd (c1.mpr g1) z
  rw [if_neg (fun z => g1 (c1.mp z))]
  by_cases g2 : 0 < u - n
  · rw [if_pos (c2.mpr g2)]
    by_cases g3 : 64 < u - n
    · rw [if_pos (c3.mpr g3)]
      refine ⟨?_, fun z => absurd z hne, fun _ x3 E3 x4 E4 x5 E5 => ?_⟩
      · have hq : u = -149 := by omega
        rw [fq_rv_one fq_g32, rv_zero fq_g32 false (Rat.mul_nonneg Rat.natCast_nonneg (Rat.le_of_lt (pw2_pos _)))]
        · rw [qn32.1]; decide +kernel
        · have := fq_mpwl (e := n) hlr.2
          rw [← pw2_add] at this
          exact Std.lt_of_lt_of_le this (pw2_le (by rw [qn32.1]; omega))
      · rw [E3] at E4 ⊢
        rw [e4] at E4
        rw [E4, e5] at E5
        rw [E5]
        exact ⟨fun z => absurd (c1.mp z) g1, fun _ => ⟨fun _ => ⟨fun _ => trivial, fun z => absurd (c3.mpr g3) z⟩, fun z => absurd (c2.mpr g2) z⟩⟩
    · rw [if_neg (fun z => g3 (c3.mp z))]
      obtain ⟨d, hd⟩ : ∃ d : Nat, (d : Int) = u - n := ⟨(u - n).toNat, by omega⟩
      have hnd : n + (d : Int) = u := by omega
      obtain ⟨r1, r2⟩ := rv_drop (n := n) (d := d) fq_g32 false hm0 (by rw [qn32.1]; omega) (by rw [qn32.2.2]; omega) (by rw [qn32.1, qn32.2.2]; omega)
      rw [qn32.2.2] at r2
      have r3 : FP.Core.nearest m (2 ^ d) ≤ 16777216 := r2
      have hb := by_F (K := FP.Core.nearest m (2 ^ d)) (u := u) (by omega) (by omega) (by omega)
      have ek : fX0_kept (jZ m) (jZ (u - n)).toInt32 = jZ ((FP.Core.nearest m (2 ^ d) : Nat) : Int) := by
        rw [jZ_k, ← hd]; exact kept_E hm (by omega) (by omega)
      refine ⟨?_, fun z => absurd z hne, fun _ x3 E3 x4 E4 x5 E5 => ?_⟩
      · rw [lt_eq, ek, jZ_k, hb.1, r1, hnd]
        
      · rw [E3] at E4 ⊢
        rw [e4] at E4
        rw [E4, e5] at E5
        rw [E5]
        refine ⟨fun z => absurd (c1.mp z) g1, fun _ => ⟨fun _ => ⟨fun z => absurd (c3.mp z) g3, fun _ => ?_⟩, fun z => absurd (c2.mpr g2) z⟩⟩
        rw [ek, E4, jZ_k]
        exact hb.2
  · rw [if_neg (fun z => g2 (c2.mp z))]
    have hmm : m < 16777216 := by
      have := (fq_log hm0).2
      have h9 : m < 2 ^ (m.log2 + 1) := (ld_b hm0).2
      have h8 : 2 ^ (m.log2 + 1) ≤ 2 ^ 24 := Nat.pow_le_pow_right (by decide) (by omega)
      have h7 : 2 ^ 24 = 16777216 := by decide
      omega
    have hb := by_F (K := m) (u := n) (by omega) (by omega) (by omega)
    refine ⟨?_, fun z => absurd z hne, fun _ x3 E3 x4 E4 x5 E5 => ?_⟩
    · rw [lt_eq, jZ_k, hb.1, fq_rv_one fq_g32]
      
    · rw [E3] at E4 ⊢
      rw [e4] at E4
      rw [E4, e5] at E5
      rw [E5]
      refine ⟨fun z => absurd (c1.mp z) g1, fun _ => ⟨fun z => absurd (c2.mp z) g2, fun _ => ?_⟩⟩
      rw [jZ_k]
      exact hb.2
theorem round_FE (s : Bool) {m : Nat} {n : Int} (hm : m < 18446744073709551616) (h1 : -8589934592 ≤ n) (h2 : n ≤ 8589934592) : fX0_round_F (bz s) (jZ m) (jZ n) = WD (FP.Core.roundRatio FP.Core.b32 s m 1 n) ∧ oX0_round_F (jZ m) (jZ n) := by
  obtain ⟨a, b⟩ := round_F0 hm h1 h2
  refine ⟨?_, b⟩
  cases s
  · exact a
  · have e : fX0_round_F (bz true) (jZ m) (jZ n) = FP.dneg (fX0_round_F 0 (jZ m) (jZ n)) := by
      show fX0_round_F 1 (jZ m) (jZ n) = _
      unfold fX0_round_F
      rw [sel1, sel0]
    rw [e, a, dneg_W (rr_ne _ _ _ _ _), neg_rr]
    rfl
