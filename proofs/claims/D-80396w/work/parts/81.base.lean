/-! numbers as bits, data, and what holds them -/
theorem bitsK_lt {k : Int32} (hk : isK k) (x : Int64) : bitsK k x < 2 * (fm k).exps * (fm k).tails := by
  have := jU_lt x
  rcases hk with rfl | rfl
  · rw [show 2 * (fm 0).exps * (fm 0).tails = 4294967296 from by decide]
    exact Nat.mod_lt _ (by decide)
  · rw [show 2 * (fm 1).exps * (fm 1).tails = 18446744073709551616 from by decide]
    exact this
theorem u32_of (x : Int32) : x.toUInt32.toNat = kU x := rfl
theorem toU32 {n : Nat} (h : n < 4294967296) : (kZ n).toUInt32 = UInt32.ofNat n := by
  refine UInt32.toNat_inj.mp ?_
  rw [u32_of, kU_n h]
  exact (Nat.mod_eq_of_lt h).symm
theorem ofU64 {n : Nat} (h : n < 18446744073709551616) : (UInt64.ofNat n).toInt64 = jZ n := by
  refine jU_ext ?_
  rw [jU_n h]
  exact Nat.mod_eq_of_lt h
theorem ofU32 {n : Nat} (h : n < 4294967296) : (UInt32.ofNat n).toInt32 = kZ n := by
  refine kU_ext ?_
  rw [kU_n h]
  exact Nat.mod_eq_of_lt h
theorem lo32 (x : Int64) : x.toInt32 = kZ ((jU x % 4294967296 : Nat) : Int) := by
  conv => lhs; rw [← jZ_U x]
  rw [jZ_k]
  exact kZ_eqm (by omega)
theorem frE0 (x : Int64) : FP.Core.decode FP.Core.b32 (jU x % 4294967296) = fr 0 x := by
  unfold fr bitsK
  rw [if_pos (show (0 : Int32) = 0 from rfl)]
  rfl
theorem frE1 (x : Int64) : FP.Core.decode FP.Core.b64 (jU x) = fr 1 x := by
  unfold fr bitsK
  rw [if_neg (show ¬ (1 : Int32) = 0 by decide)]
  rfl
theorem fr0_fits (x : Int64) : FP.Core.fits FP.Core.b32 (fr 0 x) := fr_fits (Or.inl rfl) x
theorem fr1_fits (x : Int64) : FP.Core.fits FP.Core.b64 (fr 1 x) := fr_fits (Or.inr rfl) x
/-- a float's bits that are no NaN -/
theorem f_of {x : Int64} (h : fr 0 x ≠ .nan) : x.toInt32.toUInt32 = E32 (fr 0 x) ∧ jU x % 2147483648 ≤ 2139095040 := by
  have hn : jU x % 4294967296 < 4294967296 := Nat.mod_lt _ (by decide)
  rw [lo32, toU32 hn]
  rw [← frE0] at h ⊢
  have hd := dec_nan32 (jU x % 4294967296)
  have h2 : ¬ 2139095040 < jU x % 4294967296 % 2147483648 := fun z => h (hd.mpr z)
  refine ⟨?_, by omega⟩
  unfold E32
  congr 1
  exact (fq_encdec fq_g32 (by rw [sz32]; exact hn) h).symm
theorem d_of {x : Int64} (h : fr 1 x ≠ .nan) : x.toUInt64 = E64 (fr 1 x) ∧ jU x % 9223372036854775808 ≤ 9218868437227405312 := by
  have hn := jU_lt x
  rw [← frE1] at h ⊢
  have hd := dec_nan64 (jU x)
  have h2 : ¬ 9218868437227405312 < jU x % 9223372036854775808 := fun z => h (hd.mpr z)
  refine ⟨?_, by omega⟩
  unfold E64
  rw [fq_encdec fq_g64 (by rw [sz64]; exact hn) h]
  refine UInt64.toNat_inj.mp ?_
  rw [u64_of]
  exact (Nat.mod_eq_of_lt hn).symm
theorem f_nan {x : Int64} (h : fr 0 x = .nan) : 2139095040 < jU x % 2147483648 := by
  rw [← frE0] at h
  have := (dec_nan32 _).mp h
  omega
theorem d_nan {x : Int64} (h : fr 1 x = .nan) : 9218868437227405312 < jU x % 9223372036854775808 := by
  rw [← frE1] at h
  exact (dec_nan64 _).mp h
theorem k_m31 (x : Int64) : x.toInt32 &&& 2147483647 = kZ ((jU x % 2147483648 : Nat) : Int) := by
  rw [lo32, kZ_mask _ (k := 31) (by decide) (by decide), ← Int.natCast_emod]
  congr 2
  omega
theorem j_m31 (x : Int64) : x &&& 2147483647 = jZ ((jU x % 2147483648 : Nat) : Int) := by
  conv => lhs; rw [← jZ_U x]
  rw [jZ_mask _ (k := 31) (by decide) (by decide), ← Int.natCast_emod]
theorem j_m63 (x : Int64) : x &&& 9223372036854775807 = jZ ((jU x % 9223372036854775808 : Nat) : Int) := by
  conv => lhs; rw [← jZ_U x]
  rw [jZ_mask _ (k := 63) (by decide) (by decide), ← Int.natCast_emod]
theorem sn32 {x : Int64} (h : fr 0 x ≠ .nan) : vn_sni2f x.toInt32 = false := by
  have h1 := (f_of h).2
  unfold vn_sni2f
  have h2 : ¬ (x.toInt32.toUInt32 &&& 0x7fffffff > 0x7f800000) := by
    intro z
    have z' := UInt32.lt_iff_toNat_lt.mp z
    have h9 : x.toInt32.toUInt32.toNat = jU x % 4294967296 := by rw [u32_of, lo32, kU_n (Nat.mod_lt _ (by decide))]
    rw [u32_mask, h9] at z'
    have h4 : (0x7f800000 : UInt32).toNat = 2139095040 := rfl
    omega
  rw [decide_eq_false h2, Bool.false_and]
theorem sn64 {x : Int64} (h : fr 1 x ≠ .nan) : vn_snl2d x = false := by
  have h1 := (d_of h).2
  unfold vn_snl2d
  have h2 : ¬ (x.toUInt64 &&& 0x7fffffffffffffff > 0x7ff0000000000000) := by
    intro z
    have z' := UInt64.lt_iff_toNat_lt.mp z
    have h9 : x.toUInt64.toNat = jU x := rfl
    rw [u64_mask, h9] at z'
    have h4 : (0x7ff0000000000000 : UInt64).toNat = 9218868437227405312 := rfl
    omega
  rw [decide_eq_false h2, Bool.false_and]
theorem from_F (x : Int64) : fX2_from x = WD (fr 0 x) ∧ oX2_from x := by
  unfold fX2_from oX2_from lt_
  rw [k_m31]
  have hb : jU x % 2147483648 < 2147483648 := Nat.mod_lt _ (by decide)
  have hc : (kZ ((jU x % 2147483648 : Nat) : Int) ≤ (2139095040 : Int32)) ↔ jU x % 2147483648 ≤ 2139095040 := by
    rw [show (2139095040 : Int32) = kZ 2139095040 from rfl, kZ_le (by omega) (by omega) (by omega) (by omega)]
    omega
  by_cases hn : fr 0 x = .nan
  · have h1 : ¬ jU x % 2147483648 ≤ 2139095040 := by have := f_nan hn; omega
    rw [if_neg (fun z => h1 (hc.mp z)), hn, w_nan]
    exact ⟨rfl, fun z => absurd (hc.mp z) h1, fun _ => trivial⟩
  · obtain ⟨h1, h2⟩ := f_of hn
    rw [if_pos (hc.mpr h2), h1, f2d_E (fr0_fits x) hn]
    refine ⟨rfl, fun _ => ⟨sn32 hn, (vf64_iff _).mpr ?_⟩, fun z => absurd (hc.mpr h2) z⟩
    rw [V64_WD]
    exact ne_round hn
theorem from_D (x : Int64) : fX1_from x = WD (fr 1 x) ∧ oX1_from x := by
  unfold fX1_from oX1_from lt_
  rw [j_m63]
  have hb : jU x % 9223372036854775808 < 9223372036854775808 := Nat.mod_lt _ (by decide)
  have hc : ((9218868437227405312 : Int64) < jZ ((jU x % 9223372036854775808 : Nat) : Int)) ↔ 9218868437227405312 < jU x % 9223372036854775808 := by
    rw [show (9218868437227405312 : Int64) = jZ 9218868437227405312 from rfl, jZ_lt (by omega) (by omega) (by omega) (by omega)]
    omega
  by_cases hn : fr 1 x = .nan
  · rw [if_pos (hc.mpr (d_nan hn)), hn, w_nan]
    exact ⟨rfl, fun _ => trivial, fun z => absurd (hc.mpr (d_nan hn)) z⟩
  · obtain ⟨h1, h2⟩ := d_of hn
    have h3 : ¬ 9218868437227405312 < jU x % 9223372036854775808 := by omega
    rw [if_neg (fun z => h3 (hc.mp z)), h1, WD_64 (fr1_fits x)]
    exact ⟨rfl, fun z => absurd (hc.mp z) h3, fun _ => sn64 hn⟩
theorem single_E (x : Int64) : fX6_single x = E32 (fr 0 x) ∧ oX6_single x := by
  unfold fX6_single oX6_single lt_
  rw [j_m31]
  have hb : jU x % 2147483648 < 2147483648 := Nat.mod_lt _ (by decide)
  have hc : ((2139095040 : Int64) < jZ ((jU x % 2147483648 : Nat) : Int)) ↔ 2139095040 < jU x % 2147483648 := by
    rw [show (2139095040 : Int64) = jZ 2139095040 from rfl, jZ_lt (by omega) (by omega) (by omega) (by omega)]
    omega
  by_cases hn : fr 0 x = .nan
  · rw [if_pos (hc.mpr (f_nan hn)), hn, e_nan32]
    exact ⟨rfl, fun _ => trivial, fun z => absurd (hc.mpr (f_nan hn)) z⟩
  · obtain ⟨h1, h2⟩ := f_of hn
    have h3 : ¬ 2139095040 < jU x % 2147483648 := by omega
    rw [if_neg (fun z => h3 (hc.mp z)), h1]
    exact ⟨rfl, fun z => absurd (hc.mp z) h3, fun _ => sn32 hn⟩
theorem wide_E {d : FP.Core.Datum} (h : FP.Core.fits FP.Core.b32 d) : fX6_wide (E32 d) = WD d ∧ oX6_wide (E32 d) := by
  unfold fX6_wide oX6_wide lt_
  have he := eqself_E32 h
  by_cases hn : d = .nan
  · have h1 : ¬ Feq (E32 d) (E32 d) := fun z => he.mp z hn
    rw [if_neg h1, hn, w_nan]
    exact ⟨rfl, fun z => absurd z (by rw [hn] at h1; exact h1), fun _ => trivial⟩
  · rw [if_pos (he.mpr hn), f2d_E h hn]
    exact ⟨rfl, fun _ => (vf64_iff _).mpr (by rw [V64_WD]; exact ne_round hn), fun _ => trivial⟩
theorem real_W {k : Int32} (hk : isK k) (x : Int64) : fX6_real k x = WD (fr k x) ∧ oX6_real k x := by
  have hD := from_D x
  unfold fX1_from oX1_from lt_ at hD
  obtain ⟨s1, s2⟩ := single_E x
  obtain ⟨w1, w2⟩ := wide_E (fr0_fits x)
  rw [← s1] at w1 w2
  unfold fX6_real oX6_real lt_
  rcases hk with rfl | rfl
  · rw [if_pos (show (0 : Int32) = 0 from rfl), w1]
    exact ⟨rfl, fun _ => ⟨s2, w2⟩, fun z => absurd rfl z⟩
  · rw [if_neg (show ¬ (1 : Int32) = 0 by decide)]
    exact ⟨hD.1, fun z => absurd z (by decide), fun _ => hD.2⟩
/-- to bits -/
theorem bitsE64 {d : FP.Core.Datum} (h : FP.Core.fits FP.Core.b64 d) : fJ0_doubleToLongBits (E64 d) = tb 1 d := by
  have hl := fq_enclt fq_g64 h
  rw [sz64] at hl
  have ht : tb 1 d = jZ (FP.Core.encode FP.Core.b64 d : Int) := by
    unfold tb tbn
    rw [if_neg (show ¬ (1 : Int32) = 0 by decide)]
    rfl
  unfold fJ0_doubleToLongBits fJ0_isNaN lt_
  have he := eqself_E64 h
  by_cases hn : d = .nan
  · rw [if_neg (show ¬ Deq (E64 d) (E64 d) from fun z => he.mp z hn), if_neg (show ¬ (1 : Int32) = 0 by decide), hn]
    decide +kernel
  · rw [if_pos (he.mpr hn), if_pos (show (0 : Int32) = 0 from rfl), ht]
    exact ofU64 hl
theorem bitsE32 {d : FP.Core.Datum} (h : FP.Core.fits FP.Core.b32 d) : (fJ1_floatToIntBits (E32 d)).toInt64 = tb 0 d := by
  have hl := fq_enclt fq_g32 h
  rw [sz32] at hl
  have ht : tb 0 d = (kZ (FP.Core.encode FP.Core.b32 d : Int)).toInt64 := by
    unfold tb tbn
    rw [if_pos (show (0 : Int32) = 0 from rfl)]
    rfl
  unfold fJ1_floatToIntBits fJ1_isNaN lt_
  have he := eqself_E32 h
  by_cases hn : d = .nan
  · rw [if_neg (show ¬ Feq (E32 d) (E32 d) from fun z => he.mp z hn), if_neg (show ¬ (1 : Int32) = 0 by decide), hn]
    decide +kernel
  · rw [if_pos (he.mpr hn), if_pos (show (0 : Int32) = 0 from rfl), ht]
    exact congrArg Int32.toInt64 (ofU32 hl)
theorem to_D {d : FP.Core.Datum} (h : FP.Core.fits FP.Core.b64 d) : fX1_to (WD d) = tb 1 d := by
  rw [WD_64 h]
  exact bitsE64 h
theorem to_F {d : FP.Core.Datum} (h : FP.Core.fits FP.Core.b32 d) : fX2_to (WD d) = tb 0 d ∧ oX2_to (WD d) := by
  have he := eqself_W (x := d) (Or.inl h)
  unfold fX2_to oX2_to lt_
  by_cases hn : d = .nan
  · have h1 : ¬ Deq (WD d) (WD d) := fun z => he.mp z hn
    rw [if_neg h1, hn]
    rw [hn] at h1
    exact ⟨by decide +kernel, fun z => absurd z h1, fun _ => trivial⟩
  · rw [if_pos (he.mpr hn), d2f_W h hn, bitsE32 h]
    exact ⟨rfl, fun _ => (vf32_iff _).mpr (by rw [V32_E32 h]; exact hn), fun z => absurd (he.mpr hn) z⟩
theorem mbits32 {d : FP.Core.Datum} (h : FP.Core.fits FP.Core.b32 d) : fX6_bits (E32 d) = tb 0 d := bitsE32 h
theorem mbits64 {d : FP.Core.Datum} (h : FP.Core.fits FP.Core.b64 d) : fX6_bits_2 (E64 d) = tb 1 d := bitsE64 h
theorem nanOf_k {k : Int32} (hk : isK k) : fX6_nanOf k = tb k .nan := by
  rcases hk with rfl | rfl
  · decide +kernel
  · decide +kernel
/-- what bits are of what they tell -/
theorem bitsK_tbn {k : Int32} (hk : isK k) {n : Nat} (h : n < 2 * (fm k).exps * (fm k).tails) : bitsK k (tbn k n) = n := by
  rcases hk with rfl | rfl
  · rw [show 2 * (fm 0).exps * (fm 0).tails = 4294967296 from by decide] at h
    unfold bitsK tbn
    rw [if_pos (show (0 : Int32) = 0 from rfl), if_pos (show (0 : Int32) = 0 from rfl), kx_j, jU_Z]
    have h1 : (kZ (n : Int)).toInt % 4294967296 = (n : Int) := by
      rw [Int32.toInt_ofInt]
      have := Int.bmod_emod (x := (n : Int)) (m := 4294967296)
      rw [show Int32.size = 4294967296 from rfl, show ((4294967296 : Nat) : Int) = 4294967296 from rfl] at *
      omega
    have h2 := kI_r (kZ (n : Int))
    omega
  · rw [show 2 * (fm 1).exps * (fm 1).tails = 18446744073709551616 from by decide] at h
    unfold bitsK tbn
    rw [if_neg (show ¬ (1 : Int32) = 0 by decide), if_neg (show ¬ (1 : Int32) = 0 by decide)]
    exact jU_n h
theorem fr_tb {k : Int32} (hk : isK k) {d : FP.Core.Datum} (h : FP.Core.fits (fm k) d) : fr k (tb k d) = d := by
  unfold fr tb
  rw [bitsK_tbn hk (fq_enclt (fm_good hk) h)]
  exact fq_decenc (fm_good hk) h
theorem tb_fr {k : Int32} (hk : isK k) {x : Int64} (h : fr k x ≠ .nan) : tb k (fr k x) = tbn k (bitsK k x) := by
  unfold tb
  congr 1
  exact fq_encdec (fm_good hk) (bitsK_lt hk x) h
