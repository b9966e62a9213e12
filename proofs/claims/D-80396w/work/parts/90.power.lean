/-! what is answered: power -/
theorem jZ_n (n : Nat) : jZ (n : Int) = Int64.ofNat n := Int64.ofInt_eq_ofNat
theorem jZ_div {a b : Nat} (ha : a < 9223372036854775808) (hb : b < 9223372036854775808) : jZ a / jZ b = jZ ((a / b : Nat) : Int) := by
  rw [jZ_n, jZ_n, jZ_n]
  exact (Int64.ofNat_div ha hb).symm
theorem jZ_rem {a b : Nat} (ha : a < 9223372036854775808) (hb : b < 9223372036854775808) : klrem (jZ a) (jZ b) = jZ ((a % b : Nat) : Int) := by
  unfold klrem
  rw [jZ_div ha hb, jZ_mul, jZ_sub]
  congr 1
  have h := Nat.div_add_mod' a b
  rw [← Int.natCast_mul]
  omega
theorem j_half {m : Nat} (h : m < 9223372036854775808) : jZ (m : Int) / 2 = jZ ((m / 2 : Nat) : Int) := jZ_div (b := 2) h (by decide)
theorem j_par {m : Nat} (h : m < 9223372036854775808) (r : Nat) (hr : r < 2) : (klrem (jZ (m : Int)) 2 = jZ (r : Int)) ↔ m % 2 = r := by
  have e : klrem (jZ (m : Int)) 2 = jZ ((m % 2 : Nat) : Int) := jZ_rem (b := 2) h (by decide)
  rw [e, jZ_eq (by omega) (by omega) (by omega) (by omega)]
  omega
theorem j_gt1 {m : Nat} (h : m < 9223372036854775808) : ((1 : Int64) < jZ (m : Int)) ↔ 1 < m := by
  rw [show (1 : Int64) = jZ 1 from rfl, jZ_lt (by omega) (by omega) (by omega) (by omega)]
  omega
theorem twoS_2 (k : Int32) (X Y : FP.Core.Datum) : twoS k 2 X Y = sTimes (fm k) X Y := by
  unfold twoS
  rw [if_neg (by decide), if_neg (by decide), if_pos rfl]
theorem twoS_3 (k : Int32) (X Y : FP.Core.Datum) : twoS k 3 X Y = sOver (fm k) X Y := by
  unfold twoS
  rw [if_neg (by decide), if_neg (by decide), if_neg (by decide), if_pos rfl]
def oneK (k : Int32) : FP.Core.Datum := if k = 0 then .fin false 8388608 (-23) else .fin false 4503599627370496 (-52)
theorem oneK_fits {k : Int32} (hk : isK k) : FP.Core.fits (fm k) (oneK k) := by
  rcases hk with rfl | rfl
  · exact ⟨by decide, by decide, by decide, Or.inr (by decide)⟩
  · exact ⟨by decide, by decide, by decide, Or.inr (by decide)⟩
theorem oneK_W {k : Int32} (hk : isK k) : FP.dconst1 = WD (oneK k) := by
  rcases hk with rfl | rfl
  · decide +kernel
  · decide +kernel
theorem oneOf_k {k : Int32} (hk : isK k) : fX6_oneOf k = tb k (oneK k) := by
  rcases hk with rfl | rfl
  · decide +kernel
  · decide +kernel
def powB (f : FP.Core.Fmt) : Nat → Nat → FP.Core.Datum → FP.Core.Datum → FP.Core.Datum
  | 0, _, _, Z => Z
  | r + 1, m, Y, Z => if 1 < m then powB f r (m / 2) (sTimes f Y Y) (if m / 2 % 2 = 1 then sTimes f Z (sTimes f Y Y) else Z) else Z
def powA (f : FP.Core.Fmt) : Nat → Nat → FP.Core.Datum → FP.Core.Datum
  | 0, _, Y => Y
  | r + 1, m, Y => if m % 2 = 0 then powA f r (m / 2) (sTimes f Y Y) else powB f 64 m Y Y
def powS (k n : Int32) (X : FP.Core.Datum) : FP.Core.Datum := if n = 0 then oneK k else if 0 ≤ n then powA (fm k) 64 n.toInt.natAbs X else sOver (fm k) (oneK k) (powA (fm k) 64 n.toInt.natAbs X)
theorem powB_fits {f : FP.Core.Fmt} (hf : fq_good f) : ∀ (r m : Nat) (Y Z : FP.Core.Datum), FP.Core.fits f Z → FP.Core.fits f (powB f r m Y Z) := by
  intro r
  induction r with
  | zero => exact fun _ _ _ h => h
  | succ r ih =>
    intro m Y Z h
    unfold powB
    split
    · refine ih _ _ _ ?_
      split
      · exact rf hf _
      · exact h
    · exact h
theorem powA_fits {f : FP.Core.Fmt} (hf : fq_good f) : ∀ (r m : Nat) (Y : FP.Core.Datum), FP.Core.fits f Y → FP.Core.fits f (powA f r m Y) := by
  intro r
  induction r with
  | zero => exact fun _ _ h => h
  | succ r ih =>
    intro m Y h
    unfold powA
    split
    · exact ih _ _ (rf hf _)
    · exact powB_fits hf _ _ _ _ h
theorem powS_fits {k : Int32} (hk : isK k) (n : Int32) {X : FP.Core.Datum} (h : FP.Core.fits (fm k) X) : FP.Core.fits (fm k) (powS k n X) := by
  unfold powS
  split
  · exact oneK_fits hk
  split
  · exact powA_fits (fm_good hk) _ _ _ h
  · exact quo_fits (fm_good hk) _ _
theorem powB_F {n : Int32} {post : UInt64 → Prop} : ∀ (r m : Nat) (Y Z : FP.Core.Datum), m < 2 ^ r → r ≤ 62 → FP.Core.fits FP.Core.b32 Y → FP.Core.fits FP.Core.b32 Z → ∀ q, (∀ V, V = powB FP.Core.b32 (r + q) m Y Z → FP.Core.fits FP.Core.b32 V → post (if 0 ≤ n then WD V else WD (sOver FP.Core.b32 (oneK 0) V))) → wX8_power_F_54 n post (r + 1) (jZ (m : Int)) (WD Y) (WD Z) := by
  intro r
  induction r with
  | zero =>
    intro m Y Z hm hr hY hZ q hp
    have hb : m < 9223372036854775808 := by omega
    unfold wX8_power_F_54
    refine ⟨fun z => by have := (j_gt1 hb).mp z; omega, fun _ => ⟨⟨fun _ => trivial, fun _ => ?_⟩, fun x2 e2 => ?_⟩⟩
    · rw [oneK_W (k := 0) (Or.inl rfl)]; exact (c_over_F (oneK_fits (k := 0) (Or.inl rfl)) hZ).2
    · rw [e2, oneK_W (k := 0) (Or.inl rfl), (c_over_F (oneK_fits (k := 0) (Or.inl rfl)) hZ).1]
      refine hp Z ?_ hZ
      rcases q with _ | q
      · rfl
      · show Z = powB _ (0 + (q + 1)) m Y Z
        rw [Nat.zero_add]
        unfold powB
        rw [if_neg (by omega)]
  | succ r ih =>
    intro m Y Z hm hr hY hZ q hp
    have hp62 : 2 ^ (r + 1) ≤ 2 ^ 62 := Nat.pow_le_pow_right (by decide) hr
    have hp2 : 2 ^ (r + 1) = 2 * 2 ^ r := by rw [Nat.pow_succ]; omega
    have hb : m < 9223372036854775808 := by omega
    have e0 : powB FP.Core.b32 (r + 1 + q) m Y Z = if 1 < m then powB FP.Core.b32 (r + q) (m / 2) (sTimes FP.Core.b32 Y Y) (if m / 2 % 2 = 1 then sTimes FP.Core.b32 Z (sTimes FP.Core.b32 Y Y) else Z) else Z := by
      rw [show r + 1 + q = r + q + 1 by omega]; rfl
    unfold wX8_power_F_54
    refine ⟨fun z => ?_, fun z => ⟨⟨fun _ => trivial, fun _ => ?_⟩, fun x2 e2 => ?_⟩⟩
    · have hm1 := (j_gt1 hb).mp z
      obtain ⟨t1, t2⟩ := c_times_F hY hY
      have hY2 : FP.Core.fits FP.Core.b32 (sTimes FP.Core.b32 Y Y) := rf fq_g32 _
      obtain ⟨t3, t4⟩ := c_times_F hZ hY2
      refine ⟨t2, fun x4 e4 x5 e5 => ?_⟩
      rw [t1] at e4
      rw [j_half hb] at e5
      have hpar : (klrem (jZ ((m / 2 : Nat) : Int)) 2 = 1) ↔ m / 2 % 2 = 1 := j_par (m := m / 2) (by omega) 1 (by decide)
      refine ⟨⟨fun _ => by rw [e4]; exact t4, fun _ => trivial⟩, fun x6 e6 => ?_⟩
      have e6' : x6 = WD (if m / 2 % 2 = 1 then sTimes FP.Core.b32 Z (sTimes FP.Core.b32 Y Y) else Z) := by
        rw [e6, e5, e4]
        by_cases hc : m / 2 % 2 = 1
        · rw [if_pos (hpar.mpr hc), if_pos hc, t3]
        · rw [if_neg (fun z => hc (hpar.mp z)), if_neg hc]
      rw [e4, e5, e6']
      refine ih (m / 2) _ _ (by omega) (by omega) hY2 ?_ q (fun V hV hVf => hp V ?_ hVf)
      · split
        · exact rf fq_g32 _
        · exact hZ
      · rw [e0, if_pos hm1]; exact hV
    · rw [oneK_W (k := 0) (Or.inl rfl)]; exact (c_over_F (oneK_fits (k := 0) (Or.inl rfl)) hZ).2
    · rw [e2, oneK_W (k := 0) (Or.inl rfl), (c_over_F (oneK_fits (k := 0) (Or.inl rfl)) hZ).1]
      refine hp Z ?_ hZ
      rw [e0, if_neg (fun g => z ((j_gt1 hb).mpr g))]
theorem powA_F {n : Int32} {post : UInt64 → Prop} : ∀ (r m : Nat) (Y : FP.Core.Datum), 0 < m → m < 2 ^ r → r ≤ 62 → FP.Core.fits FP.Core.b32 Y → ∀ q, (∀ V, V = powA FP.Core.b32 (r + q) m Y → FP.Core.fits FP.Core.b32 V → post (if 0 ≤ n then WD V else WD (sOver FP.Core.b32 (oneK 0) V))) → wX8_power_F_16 n post (r + 1) (jZ (m : Int)) (WD Y) := by
  intro r
  induction r with
  | zero => intro m Y h0 hm; omega
  | succ r ih =>
    intro m Y h0 hm hr hY q hp
    have hp62 : 2 ^ (r + 1) ≤ 2 ^ 62 := Nat.pow_le_pow_right (by decide) hr
    have hp2 : 2 ^ (r + 1) = 2 * 2 ^ r := by rw [Nat.pow_succ]; omega
    have hb : m < 9223372036854775808 := by omega
    have e0 : powA FP.Core.b32 (r + 1 + q) m Y = if m % 2 = 0 then powA FP.Core.b32 (r + q) (m / 2) (sTimes FP.Core.b32 Y Y) else powB FP.Core.b32 64 m Y Y := by
      rw [show r + 1 + q = r + q + 1 by omega]; rfl
    have hpar : (klrem (jZ (m : Int)) 2 = 0) ↔ m % 2 = 0 := j_par hb 0 (by decide)
    unfold wX8_power_F_16
    refine ⟨fun z => ?_, fun z => ?_⟩
    · have hm0 := hpar.mp z
      obtain ⟨t1, t2⟩ := c_times_F hY hY
      refine ⟨t2, fun x3 e3 x4 e4 => ?_⟩
      rw [e3, t1, e4, j_half hb]
      refine ih (m / 2) _ (by omega) (by omega) (by omega) (rf fq_g32 _) q (fun V hV hVf => hp V ?_ hVf)
      rw [e0, if_pos hm0]; exact hV
    · have hm0 : ¬ m % 2 = 0 := fun g => z (hpar.mpr g)
      refine ⟨62 + 1, powB_F 62 m Y Y (by omega) (by decide) hY hY 2 (fun V hV hVf => hp V ?_ hVf)⟩
      rw [e0, if_neg hm0]; exact hV
theorem abs_j (n : Int32) : fJ2_abs_3 n.toInt64 = jZ ((n.toInt.natAbs : Nat) : Int) := by
  have hr := kI_r n
  unfold fJ2_abs_3
  rw [lt_eq, kx_j]
  have hc := kneg64 (z := n.toInt) (by omega) (by omega)
  by_cases h : n.toInt < 0
  · rw [if_pos (hc.mpr h), jZ_neg]
    congr 1
    omega
  · rw [if_neg (fun z => h (hc.mp z))]
    congr 1
    omega
theorem pow_F (n : Int32) {X : FP.Core.Datum} (h : FP.Core.fits FP.Core.b32 X) {post : UInt64 → Prop} (hp : post (WD (powS 0 n X))) : wX8_power_F (WD X) n post := by
  have hr := kI_r n
  unfold powS at hp
  unfold wX8_power_F
  refine ⟨fun h0 => ?_, fun h0 x2 e2 => ⟨32 + 1, ?_⟩⟩
  · rw [if_pos h0] at hp
    rw [oneK_W (k := 0) (Or.inl rfl)]; exact hp
  · rw [if_neg h0] at hp
    rw [e2, abs_j]
    have hn0 : ¬ n.toInt = 0 := fun z => h0 ((i_eq n (a := 0) (by omega) (by omega)).mpr z)
    refine powA_F 32 _ X (by omega) (by omega) (by decide) h 32 (fun V hV hVf => ?_)
    have hV' : V = powA (fm 0) 64 n.toInt.natAbs X := hV
    rw [← hV'] at hp
    by_cases h1 : 0 ≤ n
    · rw [if_pos h1] at hp ⊢
      exact hp
    · rw [if_neg h1] at hp ⊢
      exact hp
theorem powB_D {n : Int32} {post : UInt64 → Prop} : ∀ (r m : Nat) (Y Z : FP.Core.Datum), m < 2 ^ r → r ≤ 62 → FP.Core.fits FP.Core.b64 Y → FP.Core.fits FP.Core.b64 Z → ∀ q, (∀ V, V = powB FP.Core.b64 (r + q) m Y Z → FP.Core.fits FP.Core.b64 V → post (if 0 ≤ n then WD V else WD (sOver FP.Core.b64 (oneK 1) V))) → wX8_power_D_54 n post (r + 1) (jZ (m : Int)) (WD Y) (WD Z) := by
  intro r
  induction r with
  | zero =>
    intro m Y Z hm hr hY hZ q hp
    have hb : m < 9223372036854775808 := by omega
    unfold wX8_power_D_54
    refine ⟨fun z => by have := (j_gt1 hb).mp z; omega, fun _ => ⟨⟨fun _ => trivial, fun _ => ?_⟩, fun x2 e2 => ?_⟩⟩
    · rw [oneK_W (k := 1) (Or.inr rfl)]; exact (c_over_D (oneK_fits (k := 1) (Or.inr rfl)) hZ).2
    · rw [e2, oneK_W (k := 1) (Or.inr rfl), (c_over_D (oneK_fits (k := 1) (Or.inr rfl)) hZ).1]
      refine hp Z ?_ hZ
      rcases q with _ | q
      · rfl
      · show Z = powB _ (0 + (q + 1)) m Y Z
        rw [Nat.zero_add]
        unfold powB
        rw [if_neg (by omega)]
  | succ r ih =>
    intro m Y Z hm hr hY hZ q hp
    have hp62 : 2 ^ (r + 1) ≤ 2 ^ 62 := Nat.pow_le_pow_right (by decide) hr
    have hp2 : 2 ^ (r + 1) = 2 * 2 ^ r := by rw [Nat.pow_succ]; omega
    have hb : m < 9223372036854775808 := by omega
    have e0 : powB FP.Core.b64 (r + 1 + q) m Y Z = if 1 < m then powB FP.Core.b64 (r + q) (m / 2) (sTimes FP.Core.b64 Y Y) (if m / 2 % 2 = 1 then sTimes FP.Core.b64 Z (sTimes FP.Core.b64 Y Y) else Z) else Z := by
      rw [show r + 1 + q = r + q + 1 by omega]; rfl
    unfold wX8_power_D_54
    refine ⟨fun z => ?_, fun z => ⟨⟨fun _ => trivial, fun _ => ?_⟩, fun x2 e2 => ?_⟩⟩
    · have hm1 := (j_gt1 hb).mp z
      obtain ⟨t1, t2⟩ := c_times_D hY hY
      have hY2 : FP.Core.fits FP.Core.b64 (sTimes FP.Core.b64 Y Y) := rf fq_g64 _
      obtain ⟨t3, t4⟩ := c_times_D hZ hY2
      refine ⟨t2, fun x4 e4 x5 e5 => ?_⟩
      rw [t1] at e4
      rw [j_half hb] at e5
      have hpar : (klrem (jZ ((m / 2 : Nat) : Int)) 2 = 1) ↔ m / 2 % 2 = 1 := j_par (m := m / 2) (by omega) 1 (by decide)
      refine ⟨⟨fun _ => by rw [e4]; exact t4, fun _ => trivial⟩, fun x6 e6 => ?_⟩
      have e6' : x6 = WD (if m / 2 % 2 = 1 then sTimes FP.Core.b64 Z (sTimes FP.Core.b64 Y Y) else Z) := by
        rw [e6, e5, e4]
        by_cases hc : m / 2 % 2 = 1
        · rw [if_pos (hpar.mpr hc), if_pos hc, t3]
        · rw [if_neg (fun z => hc (hpar.mp z)), if_neg hc]
      rw [e4, e5, e6']
      refine ih (m / 2) _ _ (by omega) (by omega) hY2 ?_ q (fun V hV hVf => hp V ?_ hVf)
      · split
        · exact rf fq_g64 _
        · exact hZ
      · rw [e0, if_pos hm1]; exact hV
    · rw [oneK_W (k := 1) (Or.inr rfl)]; exact (c_over_D (oneK_fits (k := 1) (Or.inr rfl)) hZ).2
    · rw [e2, oneK_W (k := 1) (Or.inr rfl), (c_over_D (oneK_fits (k := 1) (Or.inr rfl)) hZ).1]
      refine hp Z ?_ hZ
      rw [e0, if_neg (fun g => z ((j_gt1 hb).mpr g))]
theorem powA_D {n : Int32} {post : UInt64 → Prop} : ∀ (r m : Nat) (Y : FP.Core.Datum), 0 < m → m < 2 ^ r → r ≤ 62 → FP.Core.fits FP.Core.b64 Y → ∀ q, (∀ V, V = powA FP.Core.b64 (r + q) m Y → FP.Core.fits FP.Core.b64 V → post (if 0 ≤ n then WD V else WD (sOver FP.Core.b64 (oneK 1) V))) → wX8_power_D_16 n post (r + 1) (jZ (m : Int)) (WD Y) := by
  intro r
  induction r with
  | zero => intro m Y h0 hm; omega
  | succ r ih =>
    intro m Y h0 hm hr hY q hp
    have hp62 : 2 ^ (r + 1) ≤ 2 ^ 62 := Nat.pow_le_pow_right (by decide) hr
    have hp2 : 2 ^ (r + 1) = 2 * 2 ^ r := by rw [Nat.pow_succ]; omega
    have hb : m < 9223372036854775808 := by omega
    have e0 : powA FP.Core.b64 (r + 1 + q) m Y = if m % 2 = 0 then powA FP.Core.b64 (r + q) (m / 2) (sTimes FP.Core.b64 Y Y) else powB FP.Core.b64 64 m Y Y := by
      rw [show r + 1 + q = r + q + 1 by omega]; rfl
    have hpar : (klrem (jZ (m : Int)) 2 = 0) ↔ m % 2 = 0 := j_par hb 0 (by decide)
    unfold wX8_power_D_16
    refine ⟨fun z => ?_, fun z => ?_⟩
    · have hm0 := hpar.mp z
      obtain ⟨t1, t2⟩ := c_times_D hY hY
      refine ⟨t2, fun x3 e3 x4 e4 => ?_⟩
      rw [e3, t1, e4, j_half hb]
      refine ih (m / 2) _ (by omega) (by omega) (by omega) (rf fq_g64 _) q (fun V hV hVf => hp V ?_ hVf)
      rw [e0, if_pos hm0]; exact hV
    · have hm0 : ¬ m % 2 = 0 := fun g => z (hpar.mpr g)
      refine ⟨62 + 1, powB_D 62 m Y Y (by omega) (by decide) hY hY 2 (fun V hV hVf => hp V ?_ hVf)⟩
      rw [e0, if_neg hm0]; exact hV
theorem pow_D (n : Int32) {X : FP.Core.Datum} (h : FP.Core.fits FP.Core.b64 X) {post : UInt64 → Prop} (hp : post (WD (powS 1 n X))) : wX8_power_D (WD X) n post := by
  have hr := kI_r n
  unfold powS at hp
  unfold wX8_power_D
  refine ⟨fun h0 => ?_, fun h0 x2 e2 => ⟨32 + 1, ?_⟩⟩
  · rw [if_pos h0] at hp
    rw [oneK_W (k := 1) (Or.inr rfl)]; exact hp
  · rw [if_neg h0] at hp
    rw [e2, abs_j]
    have hn0 : ¬ n.toInt = 0 := fun z => h0 ((i_eq n (a := 0) (by omega) (by omega)).mpr z)
    refine powA_D 32 _ X (by omega) (by omega) (by decide) h 32 (fun V hV hVf => ?_)
    have hV' : V = powA (fm 1) 64 n.toInt.natAbs X := hV
    rw [← hV'] at hp
    by_cases h1 : 0 ≤ n
    · rw [if_pos h1] at hp ⊢
      exact hp
    · rw [if_neg h1] at hp ⊢
      exact hp
def V_power (k : Int32) (x : Int64) (n : Int32) (v : Int64) (f : Nat) : Prop := SPr 0 (¬ isK k) (fun v f => f = 0 ∧ v = tb k (powS k n (fr k x))) v f
theorem c_power {g : Nat → Int32} {k : Int32} {x : Int64} {n : Int32} {post : Int64 → (Int32 × (Nat → Int32)) → Prop} (hp : ∀ v f, V_power k x n v f → post v (kZ (f : Int), cF g f)) : wX0_power g k x n post := by
  have hki := isKind_0 k
  unfold wX0_power
  refine c_refused (fun h => ⟨fun z => absurd z (by decide), fun _ => hp 0 9 (Or.inl ⟨hki.mp h, rfl, rfl⟩)⟩) (fun h => ⟨fun _ => ?_, fun z => absurd rfl z⟩)
  have hk : isK k := Classical.byContradiction (fun z => h (hki.mpr z))
  have hv : ∀ v, v = tb k (powS k n (fr k x)) → post v (0, g) := fun v e => hp v 0 (Or.inr ⟨fun z => z hk, rfl, e⟩)
  rcases hk with rfl | rfl
  · obtain ⟨d1, d2⟩ := from_F x
    obtain ⟨t1, t2⟩ := to_F (powS_fits (k := 0) (Or.inl rfl) n (fr0_fits x))
    refine ⟨fun _ => ⟨d2, ?_⟩, fun z => absurd rfl z⟩
    rw [d1]
    exact pow_F n (fr0_fits x) ⟨t2, by rw [t1]; exact hv _ rfl⟩
  · obtain ⟨d1, d2⟩ := from_D x
    have t1 := to_D (powS_fits (k := 1) (Or.inr rfl) n (fr1_fits x))
    refine ⟨fun z => absurd z (by decide), fun _ => ⟨d2, ?_⟩⟩
    rw [d1]
    exact pow_D n (fr1_fits x) (by rw [t1]; exact hv _ rfl)
theorem m_acts {k : Int32} (hk : isK k) {X Y : FP.Core.Datum} (hX : FP.Core.fits (fm k) X) (hY : FP.Core.fits (fm k) Y) : (fX6_plain 2 k (tb k X) (tb k Y) = tb k (sTimes (fm k) X Y) ∧ oX6_plain 2 k (tb k X) (tb k Y)) ∧ (fX6_plain 3 k (tb k X) (tb k Y) = tb k (sOver (fm k) X Y) ∧ oX6_plain 3 k (tb k X) (tb k Y)) := by
  have h2 := m_plain hk (act := 2) (by decide) (by decide) (tb k X) (tb k Y)
  have h3 := m_plain hk (act := 3) (by decide) (by decide) (tb k X) (tb k Y)
  rw [fr_tb hk hX, fr_tb hk hY, twoS_2] at h2
  rw [fr_tb hk hX, fr_tb hk hY, twoS_3] at h3
  exact ⟨h2, h3⟩
theorem m_powB {k : Int32} (hk : isK k) {n : Int32} {f1 b1 b2 b3 : Int32} {b4 : Int64} {b5 : Int32} {g : Nat → Int32} {post : Int64 → (Int32 × Int32 × Int32 × Int32 × Int64 × Int32 × (Nat → Int32)) → Prop} : ∀ (r m : Nat) (Y Z : FP.Core.Datum), m < 2 ^ r → r ≤ 62 → FP.Core.fits (fm k) Y → FP.Core.fits (fm k) Z → ∀ q, (∀ V, V = powB (fm k) (r + q) m Y Z → FP.Core.fits (fm k) V → post (if 0 ≤ n then tb k V else tb k (sOver (fm k) (oneK k) V)) (f1, b1, b2, b3, b4, b5, g)) → wX6_power_93 k n post (r + 1) (jZ (m : Int)) (tb k Y) (tb k Z) f1 b1 b2 b3 b4 b5 g := by
  have hf := fm_good hk
  intro r
  induction r with
  | zero =>
    intro m Y Z hm hr hY hZ q hp
    have hb : m < 9223372036854775808 := by omega
    have ho := (m_acts hk (oneK_fits hk) hZ).2
    rw [← oneOf_k hk] at ho
    unfold wX6_power_93
    refine ⟨fun z => by have := (j_gt1 hb).mp z; omega, fun _ => ⟨⟨fun _ => trivial, fun _ => ho.2⟩, fun x2 e2 => ?_⟩⟩
    rw [e2, ho.1]
    refine hp Z ?_ hZ
    rcases q with _ | q
    · rfl
    · show Z = powB _ (0 + (q + 1)) m Y Z
      rw [Nat.zero_add]
      unfold powB
      rw [if_neg (by omega)]
  | succ r ih =>
    intro m Y Z hm hr hY hZ q hp
    have hp62 : 2 ^ (r + 1) ≤ 2 ^ 62 := Nat.pow_le_pow_right (by decide) hr
    have hp2 : 2 ^ (r + 1) = 2 * 2 ^ r := by rw [Nat.pow_succ]; omega
    have hb : m < 9223372036854775808 := by omega
    have ho := (m_acts hk (oneK_fits hk) hZ).2
    rw [← oneOf_k hk] at ho
    have e0 : powB (fm k) (r + 1 + q) m Y Z = if 1 < m then powB (fm k) (r + q) (m / 2) (sTimes (fm k) Y Y) (if m / 2 % 2 = 1 then sTimes (fm k) Z (sTimes (fm k) Y Y) else Z) else Z := by
      rw [show r + 1 + q = r + q + 1 by omega]; rfl
    unfold wX6_power_93
    refine ⟨fun z => ?_, fun z => ⟨⟨fun _ => trivial, fun _ => ho.2⟩, fun x2 e2 => ?_⟩⟩
    · have hm1 := (j_gt1 hb).mp z
      obtain ⟨t1, t2⟩ := (m_acts hk hY hY).1
      have hY2 : FP.Core.fits (fm k) (sTimes (fm k) Y Y) := rf hf _
      obtain ⟨t3, t4⟩ := (m_acts hk hZ hY2).1
      refine ⟨t2, fun x4 e4 x5 e5 => ?_⟩
      rw [t1] at e4
      rw [j_half hb] at e5
      have hpar : (klrem (jZ ((m / 2 : Nat) : Int)) 2 = 1) ↔ m / 2 % 2 = 1 := j_par (m := m / 2) (by omega) 1 (by decide)
      refine ⟨⟨fun _ => by rw [e4]; exact t4, fun _ => trivial⟩, fun x6 e6 => ?_⟩
      have e6' : x6 = tb k (if m / 2 % 2 = 1 then sTimes (fm k) Z (sTimes (fm k) Y Y) else Z) := by
        rw [e6, e5, e4]
        by_cases hc : m / 2 % 2 = 1
        · rw [if_pos (hpar.mpr hc), if_pos hc, t3]
        · rw [if_neg (fun z => hc (hpar.mp z)), if_neg hc]
      rw [e4, e5, e6']
      refine ih (m / 2) _ _ (by omega) (by omega) hY2 ?_ q (fun V hV hVf => hp V ?_ hVf)
      · split
        · exact rf hf _
        · exact hZ
      · rw [e0, if_pos hm1]; exact hV
    · rw [e2, ho.1]
      refine hp Z ?_ hZ
      rw [e0, if_neg (fun g => z ((j_gt1 hb).mpr g))]
theorem m_powA {k : Int32} (hk : isK k) {n : Int32} {f1 b1 b2 b3 : Int32} {b4 : Int64} {b5 : Int32} {g : Nat → Int32} {post : Int64 → (Int32 × Int32 × Int32 × Int32 × Int64 × Int32 × (Nat → Int32)) → Prop} : ∀ (r m : Nat) (Y : FP.Core.Datum), 0 < m → m < 2 ^ r → r ≤ 62 → FP.Core.fits (fm k) Y → ∀ q, (∀ V, V = powA (fm k) (r + q) m Y → FP.Core.fits (fm k) V → post (if 0 ≤ n then tb k V else tb k (sOver (fm k) (oneK k) V)) (f1, b1, b2, b3, b4, b5, g)) → wX6_power_55 k n post (r + 1) (jZ (m : Int)) (tb k Y) f1 b1 b2 b3 b4 b5 g := by
  have hf := fm_good hk
  intro r
  induction r with
  | zero => intro m Y h0 hm; omega
  | succ r ih =>
    intro m Y h0 hm hr hY q hp
    have hp62 : 2 ^ (r + 1) ≤ 2 ^ 62 := Nat.pow_le_pow_right (by decide) hr
    have hp2 : 2 ^ (r + 1) = 2 * 2 ^ r := by rw [Nat.pow_succ]; omega
    have hb : m < 9223372036854775808 := by omega
    have e0 : powA (fm k) (r + 1 + q) m Y = if m % 2 = 0 then powA (fm k) (r + q) (m / 2) (sTimes (fm k) Y Y) else powB (fm k) 64 m Y Y := by
      rw [show r + 1 + q = r + q + 1 by omega]; rfl
    have hpar : (klrem (jZ (m : Int)) 2 = 0) ↔ m % 2 = 0 := j_par hb 0 (by decide)
    unfold wX6_power_55
    refine ⟨fun z => ?_, fun z => ?_⟩
    · have hm0 := hpar.mp z
      obtain ⟨t1, t2⟩ := (m_acts hk hY hY).1
      refine ⟨t2, fun x3 e3 x4 e4 => ?_⟩
      rw [e3, t1, e4, j_half hb]
      refine ih (m / 2) _ (by omega) (by omega) (by omega) (rf hf _) q (fun V hV hVf => hp V ?_ hVf)
      rw [e0, if_pos hm0]; exact hV
    · have hm0 : ¬ m % 2 = 0 := fun g => z (hpar.mpr g)
      refine ⟨62 + 1, m_powB hk 62 m Y Y (by omega) (by decide) hY hY 2 (fun V hV hVf => hp V ?_ hVf)⟩
      rw [e0, if_neg hm0]; exact hV
theorem m_power {a1 a2 a3 : Int32} {a4 : Int64} {a5 : Int32} {g : Nat → Int32} {k : Int32} {x : Int64} {n : Int32} {post : Int64 → (Int32 × Int32 × Int32 × Int32 × Int64 × Int32 × (Nat → Int32)) → Prop} {v : Int64} {f : Nat} (hs : V_power k x n v f) (hp : ∀ b1 b2 b3 b4 b5, post v (kZ (f : Int), b1, b2, b3, b4, b5, cF g f)) : wX6_power a1 a2 a3 a4 a5 g k x n post := by
  have hki := isKind_6 k
  have hr := kI_r n
  unfold wX6_power
  refine ⟨fun hk0 => ?_, fun hk0 x4 e4 => ?_⟩
  · obtain ⟨e1, e2⟩ := SPr_y hs (hki.mp hk0)
    subst e1 e2
    exact m_fail (f := 9) (by decide) (by decide) (hp _ _ _ _ _)
  · have hk : isK k := Classical.byContradiction (fun z => hk0 (hki.mpr z))
    obtain ⟨e1, e2⟩ := SPr_n hs (fun z => z hk)
    subst e1
    have h0 : ((0 : Int32) ≤ n) ↔ 0 ≤ n.toInt := i_ge n (a := 0) (by omega) (by omega)
    have hx4 : x4 = jZ ((n.toInt.natAbs : Nat) : Int) := by
      rw [e4, kx_j]
      by_cases h : 0 ≤ n.toInt
      · rw [if_pos (h0.mpr h)]; congr 1; omega
      · rw [if_neg (fun z => h (h0.mp z)), jZ_neg]; congr 1; omega
    have hz : (x4 = 0) ↔ n = 0 := by
      rw [hx4, jc0 (by omega), show (0 : Int32) = kZ 0 from rfl, i_eq n (by omega) (by omega)]
      omega
    unfold powS at e2
    refine ⟨fun z => ?_, fun z => ?_⟩
    · rw [if_pos (hz.mp z)] at e2
      rw [oneOf_k hk, ← e2]
      exact hp _ _ _ _ _
    · have hn0 : ¬ n = 0 := fun g => z (hz.mpr g)
      rw [if_neg hn0] at e2
      have hn1 : ¬ n.toInt = 0 := fun z => hn0 ((i_eq n (a := 0) (by omega) (by omega)).mpr z)
      refine m_told hk x (fun u => ⟨32 + 1, ?_⟩)
      rw [hx4]
      refine m_powA hk 32 _ (fr k x) (by omega) (by omega) (by decide) (fr_fits hk x) 32 (fun V hV hVf => ?_)
      have hV' : V = powA (fm k) 64 n.toInt.natAbs (fr k x) := hV
      rw [← hV'] at e2
      by_cases h1 : 0 ≤ n
      · rw [if_pos h1] at e2 ⊢
        rw [← e2]; exact hp _ _ _ _ _
      · rw [if_neg h1] at e2 ⊢
        rw [← e2]; exact hp _ _ _ _ _
