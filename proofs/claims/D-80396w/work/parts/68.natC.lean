/-! the class's naturals: 64 limbs of 32 bits -/
def nBC : Nat := 2 ^ 2048
def NC (fl : Nat → Int32) (N : Nat) : Prop := ∀ k, k < 64 → fl k = kZ ((N / 2 ^ (32 * k) % 2 ^ 32 : Nat) : Int)
theorem NC_lt (N k : Nat) : N / 2 ^ (32 * k) % 2 ^ 32 < 4294967296 := Nat.mod_lt _ (by decide)
theorem ct_le {k : Nat} (hk : k ≤ 64) : ((64 : Int32) ≤ kZ k) ↔ 64 ≤ k := by
  have h := kZ_le (a := 64) (b := (k : Int)) (by omega) (by omega) (by omega) (by omega)
  constructor
  · intro h1; have := h.mp h1; omega
  · intro h1; exact h.mpr (by omega)
theorem updI_eq (f : Nat → Int32) (k : Nat) (x : Int32) : upd f k x k = x := by simp [upd]
theorem updI_ne (f : Nat → Int32) {k j : Nat} (x : Int32) (h : j ≠ k) : upd f k x j = f j := by simp [upd, h]
theorem pz32 (k : Nat) : 2 ^ (32 * (k + 1)) = 2 ^ (32 * k) * 2 ^ 32 := by rw [Nat.mul_add, Nat.pow_add]
theorem kZ_u (z : Int) : (kZ z).toInt64 &&& 4294967295 = jZ (z % 4294967296) := by
  rw [kx_j, jZ_mask _ (k := 32) (by decide) (by decide)]
  congr 1
  rw [show ((2 ^ 32 : Nat) : Int) = 4294967296 from rfl, Int32.toInt_ofInt]
  exact Int.bmod_emod
theorem kZ_un {n : Nat} (h : n < 4294967296) : (kZ n).toInt64 &&& 4294967295 = jZ n := by
  rw [kZ_u]
  congr 1
  omega
theorem jshr_c : ∀ k : Nat, k < 64 → ((kZ k).toInt64 &&& 63).toBitVec.smod 64 = BitVec.ofNat 64 k := jc_c
theorem jZ_shr {z : Int} (h1 : -9223372036854775808 ≤ z) (h2 : z < 9223372036854775808) {k : Nat} (hk : k < 64) : jshr (jZ z) (kZ k) = jZ (z / ((2 ^ k : Nat) : Int)) := by
  unfold jshr
  refine Int64.toBitVec_inj.mp ?_
  rw [Int64.toBitVec_shiftRight, jc_c k hk, BitVec.sshiftRight_eq', BitVec.toNat_ofNat, Nat.mod_eq_of_lt (Nat.lt_trans hk (by decide))]
  refine BitVec.eq_of_toInt_eq ?_
  rw [BitVec.toInt_sshiftRight, Int.shiftRight_eq_div_pow]
  show (jZ z).toInt / _ = (jZ _).toInt
  have hp : (0 : Int) < ((2 ^ k : Nat) : Int) := by have := Nat.two_pow_pos k; omega
  have g1 : z / ((2 ^ k : Nat) : Int) < 9223372036854775808 := by
    refine Int.ediv_lt_of_lt_mul hp ?_
    have : (9223372036854775808 : Int) * 1 ≤ 9223372036854775808 * ((2 ^ k : Nat) : Int) := Int.mul_le_mul_of_nonneg_left (by omega) (by decide)
    omega
  have g2 : -9223372036854775808 ≤ z / ((2 ^ k : Nat) : Int) := by
    refine Int.le_ediv_of_mul_le hp ?_
    have : (9223372036854775808 : Int) * 1 ≤ 9223372036854775808 * ((2 ^ k : Nat) : Int) := Int.mul_le_mul_of_nonneg_left (by omega) (by decide)
    rw [Int.neg_mul]
    omega
  rw [jZ_I h1 h2, jZ_I g2 g1]
theorem ln_low {N : Nat} (hN : N < 18446744073709551616) {post : Int32 → Int64 → Prop} (hp : post (kZ N) (jZ ((N / 4294967296 : Nat) : Int))) : wX3_low (jZ N) post := by
  unfold wX3_low
  intro x1 e1
  rw [show (32 : Int32) = kZ ((32 : Nat) : Int) from rfl, jZ_ushr hN (by decide)] at e1
  rw [e1, jZ_k]
  exact hp
theorem ln_set_go {v : Nat} (hv : v < 18446744073709551616) {post : (Int64 × (Nat → Int32)) → Prop} (hp : ∀ u : Int64 × (Nat → Int32), NC u.2 v → post u) : ∀ (r k : Nat) (cy : Int64) (fl : Nat → Int32), k + r = 64 → 2 ≤ k → (∀ j, 2 ≤ j → j < k → fl j = 0) → wX3_set_2 (jZ v) post (r + 1) (kZ k) cy fl := by
  intro r
  induction r with
  | zero =>
    intro k cy fl hk h2 h
    unfold wX3_set_2
    refine ⟨fun _ => ?_, fun h1 => absurd ((ct_le (by omega)).mpr (by omega)) h1⟩
    unfold wX3_set_21
    intro x1 e1
    rw [show (32 : Int32) = kZ ((32 : Nat) : Int) from rfl, jZ_ushr hv (by decide), jZ_k] at e1
    refine hp _ (fun j hj => ?_)
    show upd (upd fl 0 (jZ v).toInt32) 1 x1 j = _
    by_cases j1 : j = 1
    · subst j1
      rw [updI_eq, e1]
      congr 2
      rw [Nat.mod_eq_of_lt]
      refine Nat.div_lt_of_lt_mul ?_
      omega
    · rw [updI_ne _ _ j1]
      by_cases j0 : j = 0
      · subst j0
        rw [updI_eq, jZ_k, Nat.mul_zero, Nat.pow_zero, Nat.div_one]
        refine kZ_eqm ?_
        rw [Int.natCast_emod]
        exact (Int.emod_emod_of_dvd _ (Int.dvd_refl _)).symm
      · rw [updI_ne _ _ j0, h j (by omega) (by omega)]
        have h3 : v < 2 ^ (32 * j) := Nat.lt_of_lt_of_le hv (by
          have : 2 ^ 64 ≤ 2 ^ (32 * j) := Nat.pow_le_pow_right (by decide) (by omega)
          exact this)
        rw [Nat.div_eq_of_lt h3]
        rfl
  | succ r ih =>
    intro k cy fl hk h2 h
    unfold wX3_set_2
    refine ⟨fun h1 => absurd ((ct_le (by omega)).mp h1) (by omega), fun _ => ⟨kz_in (by omega) (by decide), fun x2 e2 => ?_⟩⟩
    rw [e2, nt_s, kZ_cl (by omega)]
    refine ih (k + 1) _ _ (by omega) (by omega) (fun j hj hj2 => ?_)
    by_cases hjk : j = k
    · subst hjk; exact updI_eq _ _ _
    · rw [updI_ne _ _ hjk]; exact h j hj (by omega)
theorem ln_set (cy : Int64) (fl : Nat → Int32) {v : Nat} (hv : v < 18446744073709551616) {post : (Int64 × (Nat → Int32)) → Prop} (hp : ∀ u : Int64 × (Nat → Int32), NC u.2 v → post u) : wX3_set cy fl (jZ v) post :=
  ⟨63, ln_set_go hv hp 62 2 cy fl rfl (by decide) (fun j h1 h2 => absurd h2 (by omega))⟩
theorem ln_times_go {N by_ c : Nat} (hb : by_ < 65536) (hc : c < 65536) {post : (Int64 × (Nat → Int32)) → Prop} (hp : ∀ u : Int64 × (Nat → Int32), NC u.2 (N * by_ + c) → post u) : ∀ (r k : Nat) (fl : Nat → Int32), k + r = 64 →
    (∀ j, j < k → fl j = kZ (((N * by_ + c) / 2 ^ (32 * j) % 2 ^ 32 : Nat) : Int)) → (∀ j, k ≤ j → j < 64 → fl j = kZ ((N / 2 ^ (32 * j) % 2 ^ 32 : Nat) : Int)) →
    wX3_times_8 (kZ by_) post (r + 1) (kZ k) (jZ (((N % 2 ^ (32 * k)) * by_ + c) / 2 ^ (32 * k) : Nat)) fl := by
  intro r
  induction r with
  | zero =>
    intro k fl hk h1 h2
    unfold wX3_times_8
    exact ⟨fun _ => hp _ (fun j hj => h1 j (by omega)), fun h => absurd ((ct_le (by omega)).mpr (by omega)) h⟩
  | succ r ih =>
    intro k fl hk h1 h2
    unfold wX3_times_8
    refine ⟨fun h => absurd ((ct_le (by omega)).mp h) (by omega), fun _ => ⟨kz_in (by omega) (by decide), ?_⟩⟩
    have hP := Nat.two_pow_pos (32 * k)
    have t1 := lb_t1 (B := 2 ^ 32) hP N by_ c
    have t3 := lb_t3 (B := 2 ^ 32) hP N by_ c
    have t4 := lb_t4 hP N by_ c
    have hl := NC_lt N k
    rw [← pz32] at t3
    rw [kZ_cl (by omega), h2 k (Nat.le_refl _) (by omega), kZ_un hl, kZ_j (by omega) (by omega), jZ_mul, jZ_add, ← Int.natCast_mul, ← Int.natCast_add, Nat.add_comm]
    generalize hlimb : N / 2 ^ (32 * k) % 2 ^ 32 = limb at *
    generalize hcy : (N % 2 ^ (32 * k) * by_ + c) / 2 ^ (32 * k) = cy at *
    have hm : limb * by_ ≤ 4294967296 * 65536 := Nat.mul_le_mul (Nat.le_of_lt hl) (Nat.le_of_lt hb)
    refine ln_low (by omega) ⟨kz_in (by omega) (by decide), fun x4 e4 => ?_⟩
    rw [e4, nt_s, show (4294967296 : Nat) = 2 ^ 32 from rfl, t3]
    refine ih (k + 1) _ (by omega) (fun j hj => ?_) (fun j hj hj2 => ?_)
    · by_cases hjk : j = k
      · subst hjk
        rw [updI_eq, ← t1]
        refine kZ_eqm ?_
        rw [Int.natCast_emod]
        exact (Int.emod_emod_of_dvd _ (Int.dvd_refl _)).symm
      · rw [updI_ne _ _ hjk]; exact h1 j (by omega)
    · rw [updI_ne _ _ (by omega)]; exact h2 j (by omega) hj2
theorem ln_times {fl : Nat → Int32} {N by_ c : Nat} (h : NC fl N) (hb : by_ < 65536) (hc : c < 65536) {post : (Int64 × (Nat → Int32)) → Prop} (hp : ∀ u : Int64 × (Nat → Int32), NC u.2 (N * by_ + c) → post u) : wX3_times fl (kZ by_) (kZ c) post := by
  refine ⟨65, ?_⟩
  have h0 := ln_times_go (N := N) hb hc hp 64 0 fl rfl (fun j hj => absurd hj (Nat.not_lt_zero j)) (fun j _ hj => h j hj)
  rw [Nat.mul_zero, Nat.pow_zero, Nat.mod_one, Nat.zero_mul, Nat.zero_add, Nat.div_one] at h0
  rw [kZ_j (by omega) (by omega)]
  exact h0
theorem kushr_U (x : Int32) {k : Nat} (hk : k < 32) : kU (kushr x (kZ k)) = kU x / 2 ^ k := by
  unfold kushr kU
  show ((x.toUInt32 >>> ((kZ k).toUInt32 &&& Int32.toUInt32 31)).toBitVec).toNat = _
  rw [UInt32.toBitVec_shiftRight, BitVec.ushiftRight_eq', BitVec.toNat_ushiftRight, Nat.shiftRight_eq_div_pow, BitVec.toNat_umod, kc_u k hk]
  congr 2
  exact Nat.mod_eq_of_lt hk
theorem kZ_ushr {a : Nat} (ha : a < 4294967296) {k : Nat} (hk : k < 32) : kushr (kZ a) (kZ k) = kZ ((a / 2 ^ k : Nat) : Int) := by
  refine kU_ext ?_
  rw [kushr_U _ hk, kU_n ha, kU_n (Nat.lt_of_le_of_lt (Nat.div_le_self _ _) ha)]
theorem kshl_U (x : Int32) {k : Nat} (hk : k < 32) : kU (kshl x (kZ k)) = kU x * 2 ^ k % 4294967296 := by
  unfold kshl kU
  rw [Int32.toBitVec_shiftLeft, kc_c k hk, BitVec.shiftLeft_eq', BitVec.toNat_shiftLeft, BitVec.toNat_ofNat, Nat.shiftLeft_eq, Nat.mod_eq_of_lt (Nat.lt_trans hk (by decide))]
theorem kZ_shl {a : Nat} (ha : a < 4294967296) {k : Nat} (hk : k < 32) : kshl (kZ a) (kZ k) = kZ ((a * 2 ^ k % 4294967296 : Nat) : Int) := by
  refine kU_ext ?_
  rw [kshl_U _ hk, kU_n ha, kU_n (Nat.mod_lt _ (by decide))]
theorem ln_half_go {N : Nat} {post : (Int64 × (Nat → Int32)) → Prop} (hp : ∀ u : Int64 × (Nat → Int32), NC u.2 (N / 2) → post u) (hN : N < nBC) : ∀ (r k : Nat) (cy : Int64) (fl : Nat → Int32), k + r = 64 →
    (∀ j, j < k → fl j = kZ ((N / 2 / 2 ^ (32 * j) % 2 ^ 32 : Nat) : Int)) → (∀ j, k ≤ j → j < 64 → fl j = kZ ((N / 2 ^ (32 * j) % 2 ^ 32 : Nat) : Int)) → wX3_half_2 post (r + 1) (kZ k) cy fl := by
  intro r
  induction r with
  | zero =>
    intro k cy fl hk h1 h2
    unfold wX3_half_2
    exact ⟨fun _ => hp _ (fun j hj => h1 j (by omega)), fun h => absurd ((ct_le (by omega)).mpr (by omega)) h⟩
  | succ r ih =>
    intro k cy fl hk h1 h2
    unfold wX3_half_2
    refine ⟨fun h => absurd ((ct_le (by omega)).mp h) (by omega), fun _ => ⟨⟨fun _ => trivial, fun hg => ?_⟩, fun x2 e2 => ⟨kz_in (by omega) (by decide), fun x4 e4 => ⟨kz_in (by omega) (by decide), fun x5 e5 => ?_⟩⟩⟩⟩
    · rw [nt_s] at hg ⊢
      have : ¬ 64 ≤ k + 1 := fun z => hg ((ct_le (by omega)).mpr z)
      exact kz_in (by omega) (by decide)
    · have hl := NC_lt N k
      have hl1 := NC_lt N (k + 1)
      have hz : x2 = kZ ((N / 2 ^ (32 * (k + 1)) % 2 ^ 32 : Nat) : Int) := by
        rw [e2, nt_s]
        by_cases hk1 : 64 ≤ k + 1
        · rw [if_pos ((ct_le (by omega)).mpr hk1)]
          have : N / 2 ^ (32 * (k + 1)) = 0 := Nat.div_eq_of_lt (by
            have e : k + 1 = 64 := by omega
            rw [e]
            exact hN)
          rw [this]
          rfl
        · rw [if_neg (fun z => hk1 ((ct_le (by omega)).mp z)), kZ_cl (by omega), h2 (k + 1) (by omega) (by omega)]
      have hv := lb_half N 32 k (by decide)
      rw [kZ_cl (by omega), h2 k (Nat.le_refl _) (by omega), show (1 : Int32) = kZ ((1 : Nat) : Int) from rfl, kZ_ushr hl (by decide), hz, show (31 : Int32) = kZ ((31 : Nat) : Int) from rfl, kZ_shl hl1 (by decide)] at e4
      generalize N / 2 ^ (32 * (k + 1)) % 2 ^ 32 = b at *
      generalize N / 2 ^ (32 * k) % 2 ^ 32 = limb at *
      rw [show b * 2 ^ 31 % 4294967296 = b % 2 * 2 ^ 31 by omega] at e4
      rw [kZ_or (by omega) (by omega), Nat.or_comm, ← Nat.shiftLeft_eq, ← Nat.shiftLeft_add_eq_or_of_lt (by omega), Nat.shiftLeft_eq] at e4
      rw [e5, nt_s, kZ_cl (by omega)]
      refine ih (k + 1) _ _ (by omega) (fun j hj => ?_) (fun j hj hj2 => ?_)
      · by_cases hjk : j = k
        · subst hjk
          rw [updI_eq, e4, hv, Nat.add_comm]
        · rw [updI_ne _ _ hjk]; exact h1 j (by omega)
      · rw [updI_ne _ _ (by omega)]; exact h2 j (by omega) hj2
theorem ln_half (cy : Int64) {fl : Nat → Int32} {N : Nat} (h : NC fl N) (hN : N < nBC) {post : (Int64 × (Nat → Int32)) → Prop} (hp : ∀ u : Int64 × (Nat → Int32), NC u.2 (N / 2) → post u) : wX3_half cy fl post :=
  ⟨65, ln_half_go hp hN 64 0 cy fl rfl (fun j hj => absurd hj (Nat.not_lt_zero j)) (fun j _ hj => h j hj)⟩
