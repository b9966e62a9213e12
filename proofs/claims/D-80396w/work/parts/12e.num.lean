/-! the machine's whole numbers as images of whole numbers -/
abbrev jZ (z : Int) : Int64 := Int64.ofInt z
abbrev kZ (z : Int) : Int32 := Int32.ofInt z
def jU (x : Int64) : Nat := x.toBitVec.toNat
def kU (x : Int32) : Nat := x.toBitVec.toNat
theorem jU_lt (x : Int64) : jU x < 18446744073709551616 := x.toBitVec.isLt
theorem kU_lt (x : Int32) : kU x < 4294967296 := x.toBitVec.isLt
theorem jU_ext {x y : Int64} (h : jU x = jU y) : x = y := Int64.toBitVec_inj.mp (BitVec.eq_of_toNat_eq h)
theorem kU_ext {x y : Int32} (h : kU x = kU y) : x = y := Int32.toBitVec_inj.mp (BitVec.eq_of_toNat_eq h)
theorem jU_Z (z : Int) : jU (jZ z) = (z % 18446744073709551616).toNat := by
  unfold jU
  rw [Int64.toBitVec_ofInt, BitVec.toNat_ofInt]
  rfl
theorem kU_Z (z : Int) : kU (kZ z) = (z % 4294967296).toNat := by
  unfold kU
  rw [Int32.toBitVec_ofInt, BitVec.toNat_ofInt]
  rfl
theorem jU_n {n : Nat} (h : n < 18446744073709551616) : jU (jZ n) = n := by rw [jU_Z]; omega
theorem kU_n {n : Nat} (h : n < 4294967296) : kU (kZ n) = n := by rw [kU_Z]; omega
theorem jZ_U (x : Int64) : jZ (jU x) = x := jU_ext (jU_n (jU_lt x))
theorem kZ_U (x : Int32) : kZ (kU x) = x := kU_ext (kU_n (kU_lt x))
theorem jZ_eqm {a b : Int} (h : a % 18446744073709551616 = b % 18446744073709551616) : jZ a = jZ b := jU_ext (by rw [jU_Z, jU_Z, h])
theorem kZ_eqm {a b : Int} (h : a % 4294967296 = b % 4294967296) : kZ a = kZ b := kU_ext (by rw [kU_Z, kU_Z, h])
theorem jZ_add (a b : Int) : jZ a + jZ b = jZ (a + b) := (Int64.ofInt_add a b).symm
theorem jZ_sub (a b : Int) : jZ a - jZ b = jZ (a - b) := (Int64.ofInt_sub a b).symm
theorem jZ_mul (a b : Int) : jZ a * jZ b = jZ (a * b) := (Int64.ofInt_mul a b).symm
theorem jZ_neg (a : Int) : -jZ a = jZ (-a) := (Int64.ofInt_neg a).symm
theorem kZ_add (a b : Int) : kZ a + kZ b = kZ (a + b) := (Int32.ofInt_add a b).symm
theorem kZ_sub (a b : Int) : kZ a - kZ b = kZ (a - b) := (Int32.ofInt_sub a b).symm
theorem kZ_mul (a b : Int) : kZ a * kZ b = kZ (a * b) := (Int32.ofInt_mul a b).symm
theorem kZ_neg (a : Int) : -kZ a = kZ (-a) := (Int32.ofInt_neg a).symm
theorem jZ_I {a : Int} (h1 : -9223372036854775808 ≤ a) (h2 : a < 9223372036854775808) : (jZ a).toInt = a := Int64.toInt_ofInt_of_le h1 h2
theorem kZ_I {a : Int} (h1 : -2147483648 ≤ a) (h2 : a < 2147483648) : (kZ a).toInt = a := Int32.toInt_ofInt_of_le h1 h2
theorem jI_Z (x : Int64) : jZ x.toInt = x := Int64.ofInt_toInt x
theorem kI_Z (x : Int32) : kZ x.toInt = x := Int32.ofInt_toInt x
theorem jI_r (x : Int64) : -9223372036854775808 ≤ x.toInt ∧ x.toInt < 9223372036854775808 := ⟨Int64.le_toInt x, Int64.toInt_lt x⟩
theorem kI_r (x : Int32) : -2147483648 ≤ x.toInt ∧ x.toInt < 2147483648 := ⟨Int32.le_toInt x, Int32.toInt_lt x⟩
theorem jZ_lt {a b : Int} (h1 : -9223372036854775808 ≤ a) (h2 : a < 9223372036854775808) (h3 : -9223372036854775808 ≤ b) (h4 : b < 9223372036854775808) : jZ a < jZ b ↔ a < b := by
  rw [Int64.lt_iff_toInt_lt, jZ_I h1 h2, jZ_I h3 h4]
theorem jZ_le {a b : Int} (h1 : -9223372036854775808 ≤ a) (h2 : a < 9223372036854775808) (h3 : -9223372036854775808 ≤ b) (h4 : b < 9223372036854775808) : jZ a ≤ jZ b ↔ a ≤ b := by
  rw [Int64.le_iff_toInt_le, jZ_I h1 h2, jZ_I h3 h4]
theorem jZ_eq {a b : Int} (h1 : -9223372036854775808 ≤ a) (h2 : a < 9223372036854775808) (h3 : -9223372036854775808 ≤ b) (h4 : b < 9223372036854775808) : jZ a = jZ b ↔ a = b := by
  rw [← Int64.toInt_inj, jZ_I h1 h2, jZ_I h3 h4]
theorem kZ_lt {a b : Int} (h1 : -2147483648 ≤ a) (h2 : a < 2147483648) (h3 : -2147483648 ≤ b) (h4 : b < 2147483648) : kZ a < kZ b ↔ a < b := by
  rw [Int32.lt_iff_toInt_lt, kZ_I h1 h2, kZ_I h3 h4]
theorem kZ_le {a b : Int} (h1 : -2147483648 ≤ a) (h2 : a < 2147483648) (h3 : -2147483648 ≤ b) (h4 : b < 2147483648) : kZ a ≤ kZ b ↔ a ≤ b := by
  rw [Int32.le_iff_toInt_le, kZ_I h1 h2, kZ_I h3 h4]
theorem kZ_eq {a b : Int} (h1 : -2147483648 ≤ a) (h2 : a < 2147483648) (h3 : -2147483648 ≤ b) (h4 : b < 2147483648) : kZ a = kZ b ↔ a = b := by
  rw [← Int32.toInt_inj, kZ_I h1 h2, kZ_I h3 h4]
theorem jU_and (x y : Int64) : jU (x &&& y) = jU x &&& jU y := by unfold jU; rw [Int64.toBitVec_and, BitVec.toNat_and]
theorem jU_or (x y : Int64) : jU (x ||| y) = jU x ||| jU y := by unfold jU; rw [Int64.toBitVec_or, BitVec.toNat_or]
theorem kU_and (x y : Int32) : kU (x &&& y) = kU x &&& kU y := by unfold kU; rw [Int32.toBitVec_and, BitVec.toNat_and]
theorem kU_or (x y : Int32) : kU (x ||| y) = kU x ||| kU y := by unfold kU; rw [Int32.toBitVec_or, BitVec.toNat_or]
theorem jZ_or {a b : Nat} (ha : a < 18446744073709551616) (hb : b < 18446744073709551616) : jZ a ||| jZ b = jZ ((a ||| b : Nat) : Int) := by
  refine jU_ext ?_
  rw [jU_or, jU_n ha, jU_n hb, jU_n (Nat.or_lt_two_pow (n := 64) ha hb)]
theorem kZ_or {a b : Nat} (ha : a < 4294967296) (hb : b < 4294967296) : kZ a ||| kZ b = kZ ((a ||| b : Nat) : Int) := by
  refine kU_ext ?_
  rw [kU_or, kU_n ha, kU_n hb, kU_n (Nat.or_lt_two_pow (n := 32) ha hb)]
theorem jZ_mask (z : Int) {k : Nat} (hk : k ≤ 63) {m : Int64} (hm : m = jZ ((2 ^ k - 1 : Nat) : Int)) : jZ z &&& m = jZ (z % ((2 ^ k : Nat) : Int)) := by
  subst hm
  have h1 : 2 ^ k ≤ 2 ^ 63 := Nat.pow_le_pow_right (by decide) hk
  have h2 := Nat.two_pow_pos k
  refine jU_ext ?_
  rw [jU_and, jU_Z, jU_n (by omega), Nat.and_two_pow_sub_one_eq_mod, jU_Z]
  have h3 : z % 18446744073709551616 % ((2 ^ k : Nat) : Int) = z % ((2 ^ k : Nat) : Int) := by
    refine Int.emod_emod_of_dvd z ?_
    have : (18446744073709551616 : Int) = ((2 ^ k : Nat) : Int) * ((2 ^ (64 - k) : Nat) : Int) := by
      rw [← Int.natCast_mul, ← Nat.pow_add, show k + (64 - k) = 64 by omega]
      rfl
    rw [this]
    exact Int.dvd_mul_right _ _
  have h4 := Int.emod_nonneg z (show (18446744073709551616 : Int) ≠ 0 by decide)
  have h5 := Int.emod_nonneg z (show ((2 ^ k : Nat) : Int) ≠ 0 by omega)
  have h6 := Int.emod_lt_of_pos z (show (0 : Int) < ((2 ^ k : Nat) : Int) by omega)
  have h7 : ((z % 18446744073709551616).toNat % 2 ^ k : Nat) = ((z % 18446744073709551616 % ((2 ^ k : Nat) : Int)).toNat : Nat) := by
    rw [← Int.ofNat_inj, Int.natCast_emod, Int.toNat_of_nonneg h4, Int.toNat_of_nonneg (by rw [h3]; exact h5)]
  rw [h7, h3]
  congr 1
  rw [Int.emod_eq_of_lt h5 (by omega)]
theorem kZ_mask (z : Int) {k : Nat} (hk : k ≤ 31) {m : Int32} (hm : m = kZ ((2 ^ k - 1 : Nat) : Int)) : kZ z &&& m = kZ (z % ((2 ^ k : Nat) : Int)) := by
  subst hm
  have h1 : 2 ^ k ≤ 2 ^ 31 := Nat.pow_le_pow_right (by decide) hk
  have h2 := Nat.two_pow_pos k
  refine kU_ext ?_
  rw [kU_and, kU_Z, kU_n (by omega), Nat.and_two_pow_sub_one_eq_mod, kU_Z]
  have h3 : z % 4294967296 % ((2 ^ k : Nat) : Int) = z % ((2 ^ k : Nat) : Int) := by
    refine Int.emod_emod_of_dvd z ?_
    have : (4294967296 : Int) = ((2 ^ k : Nat) : Int) * ((2 ^ (32 - k) : Nat) : Int) := by
      rw [← Int.natCast_mul, ← Nat.pow_add, show k + (32 - k) = 32 by omega]
      rfl
    rw [this]
    exact Int.dvd_mul_right _ _
  have h4 := Int.emod_nonneg z (show (4294967296 : Int) ≠ 0 by decide)
  have h5 := Int.emod_nonneg z (show ((2 ^ k : Nat) : Int) ≠ 0 by omega)
  have h6 := Int.emod_lt_of_pos z (show (0 : Int) < ((2 ^ k : Nat) : Int) by omega)
  have h7 : ((z % 4294967296).toNat % 2 ^ k : Nat) = ((z % 4294967296 % ((2 ^ k : Nat) : Int)).toNat : Nat) := by
    rw [← Int.ofNat_inj, Int.natCast_emod, Int.toNat_of_nonneg h4, Int.toNat_of_nonneg (by rw [h3]; exact h5)]
  rw [h7, h3]
  congr 1
  rw [Int.emod_eq_of_lt h5 (by omega)]
theorem jc_c : ∀ k : Nat, k < 64 → ((kZ k).toInt64 &&& 63).toBitVec.smod 64 = BitVec.ofNat 64 k := by decide +kernel
theorem jc_u : ∀ k : Nat, k < 64 → ((kZ k).toInt64.toUInt64 &&& Int64.toUInt64 63).toBitVec.toNat = k := by decide +kernel
theorem kc_c : ∀ k : Nat, k < 32 → (kZ k &&& 31).toBitVec.smod 32 = BitVec.ofNat 32 k := by decide +kernel
theorem kc_u : ∀ k : Nat, k < 32 → ((kZ k).toUInt32 &&& Int32.toUInt32 31).toBitVec.toNat = k := by decide +kernel
theorem jshl_U (x : Int64) {k : Nat} (hk : k < 64) : jU (jshl x (kZ k)) = jU x * 2 ^ k % 18446744073709551616 := by
  unfold jshl jU
  rw [Int64.toBitVec_shiftLeft, jc_c k hk, BitVec.shiftLeft_eq', BitVec.toNat_shiftLeft, BitVec.toNat_ofNat, Nat.shiftLeft_eq, Nat.mod_eq_of_lt (Nat.lt_trans hk (by decide))]
theorem jZ_shl (z : Int) {k : Nat} (hk : k < 64) : jshl (jZ z) (kZ k) = jZ (z * ((2 ^ k : Nat) : Int)) := by
  refine jU_ext ?_
  rw [jshl_U _ hk, jU_Z, jU_Z]
  have h4 := Int.emod_nonneg z (show (18446744073709551616 : Int) ≠ 0 by decide)
  have h8 := Int.emod_nonneg (z * ((2 ^ k : Nat) : Int)) (show (18446744073709551616 : Int) ≠ 0 by decide)
  rw [← Int.ofNat_inj, Int.natCast_emod, Int.natCast_mul, Int.toNat_of_nonneg h4, Int.toNat_of_nonneg h8]
  show z % 18446744073709551616 * ((2 ^ k : Nat) : Int) % 18446744073709551616 = _
  rw [Int.mul_emod, Int.emod_emod, ← Int.mul_emod]
theorem jushr_U (x : Int64) {k : Nat} (hk : k < 64) : jU (jushr x (kZ k)) = jU x / 2 ^ k := by
  unfold jushr jU
  show ((x.toUInt64 >>> ((kZ k).toInt64.toUInt64 &&& Int64.toUInt64 63)).toBitVec).toNat = _
  rw [UInt64.toBitVec_shiftRight, BitVec.ushiftRight_eq', BitVec.toNat_ushiftRight, Nat.shiftRight_eq_div_pow, BitVec.toNat_umod, jc_u k hk]
  congr 2
  exact Nat.mod_eq_of_lt hk
theorem jZ_ushr {a : Nat} (ha : a < 18446744073709551616) {k : Nat} (hk : k < 64) : jushr (jZ a) (kZ k) = jZ ((a / 2 ^ k : Nat) : Int) := by
  refine jU_ext ?_
  rw [jushr_U _ hk, jU_n ha, jU_n (Nat.lt_of_le_of_lt (Nat.div_le_self _ _) ha)]
theorem kZ_j {a : Int} (h1 : -2147483648 ≤ a) (h2 : a < 2147483648) : (kZ a).toInt64 = jZ a := by
  rw [← Int64.toInt_inj, Int32.toInt_toInt64, kZ_I h1 h2, jZ_I (by omega) (by omega)]
theorem jZ_k (a : Int) : (jZ a).toInt32 = kZ a := Int64.toInt32_ofInt
theorem kx_j (x : Int32) : x.toInt64 = jZ x.toInt := by
  rw [← Int64.toInt_inj, Int32.toInt_toInt64, jZ_I (by have := kI_r x; omega) (by have := kI_r x; omega)]
theorem kZ_cl {a : Nat} (h : a < 2147483648) : (kZ a).toNatClampNeg = a := by
  show (kZ a).toInt.toNat = a
  rw [kZ_I (by omega) (by omega)]
  rfl
theorem jZ_nn {z : Int} (h : 0 ≤ z) : jZ z = jZ (z.toNat : Int) := by rw [Int.toNat_of_nonneg h]
theorem kz_in {a n : Nat} (h : a < n) (h2 : n ≤ 2147483647) : vp_in (kZ a) n := by
  have h3 : (kZ a).toInt = a := kZ_I (by omega) (by omega)
  have h4 : (kZ a).toNatClampNeg = a := kZ_cl (by omega)
  unfold vp_in
  rintro (h5 | h5)
  · rw [Int32.lt_iff_toInt_lt, h3] at h5
    have h6 : (0 : Int32).toInt = 0 := rfl
    rw [h6] at h5
    omega
  · rw [h4] at h5
    omega
