/-! the class's naturals (2) -/
theorem ln_left_go {N a b : Nat} (ha : a < 64) (hb : b < 32) {post : (Int64 × (Nat → Int32)) → Prop} (hp : ∀ u : Int64 × (Nat → Int32), NC u.2 (N * 2 ^ (32 * a + b)) → post u) : ∀ (r : Nat) (cy : Int64) (fl : Nat → Int32), r ≤ 64 →
    (∀ j, r ≤ j → j < 64 → fl j = kZ ((N * 2 ^ (32 * a + b) / 2 ^ (32 * j) % 2 ^ 32 : Nat) : Int)) → (∀ j, j < r → fl j = kZ ((N / 2 ^ (32 * j) % 2 ^ 32 : Nat) : Int)) →
    wX3_left_14 post (r + 1) (kZ a) (kZ b) (kZ ((r : Int) - 1)) cy fl := by
  intro r
  induction r with
  | zero =>
    intro cy fl hr h1 h2
    unfold wX3_left_14
    exact ⟨fun _ => hp _ (fun j hj => h1 j (Nat.zero_le _) hj), fun h => absurd ((kneg (by omega) (by omega)).mpr (by omega)) h⟩
  | succ k ih =>
    intro cy fl hr h1 h2
    have ek : ((k + 1 : Nat) : Int) - 1 = (k : Int) := by omega
    rw [ek]
    unfold wX3_left_14
    have hlt : (kZ k < kZ a) ↔ k < a := by
      rw [kZ_lt (by omega) (by omega) (by omega) (by omega)]; omega
    have hle : (kZ k ≤ kZ a) ↔ k ≤ a := by
      rw [kZ_le (by omega) (by omega) (by omega) (by omega)]; omega
    have es : kZ k - kZ a = kZ ((k : Int) - (a : Int)) := kZ_sub _ _
    refine ⟨fun h => absurd ((kneg (by omega) (by omega)).mp h) (by omega), fun _ => ⟨⟨fun _ => trivial, fun h => ?_⟩, fun x2 e2 => ⟨⟨fun _ => trivial, fun h => ?_⟩, fun x4 e4 x6 e6 => ⟨kz_in (by omega) (by decide), fun x7 e7 => ?_⟩⟩⟩⟩
    · rw [hlt] at h
      rw [es, show (k : Int) - (a : Int) = ((k - a : Nat) : Int) by omega]
      exact kz_in (by omega) (by decide)
    · rw [hle] at h
      rw [es, show (1 : Int32) = kZ 1 from rfl, kZ_sub, show (k : Int) - (a : Int) - 1 = ((k - a - 1 : Nat) : Int) by omega]
      exact kz_in (by omega) (by decide)
    · have hpb : 2 ^ b ≤ 2 ^ 31 := Nat.pow_le_pow_right (by decide) (by omega)
      have key : ∀ hi lo : Nat, hi < 4294967296 → lo < 4294967296 → x2 = jZ hi → x4 = jZ lo → x6 = kZ (((hi * 2 ^ b + lo / 2 ^ (32 - b)) % 2 ^ 32 : Nat) : Int) := by
        intro hi lo hhi hlo g2 g4
        rw [e6, g2, g4, show (32 : Int32) = kZ ((32 : Nat) : Int) from rfl, jZ_shl _ (by decide), ← Int.natCast_mul, jZ_or (by omega) (by omega), ← Nat.shiftLeft_eq, ← Nat.shiftLeft_add_eq_or_of_lt (by omega), Nat.shiftLeft_eq, jZ_shl _ (by omega), ← Int.natCast_mul]
        have hmul : (hi * 2 ^ 32 + lo) * 2 ^ b / 2 ^ 32 = hi * 2 ^ b + lo / 2 ^ (32 - b) := by
          rw [Nat.add_mul, Nat.mul_right_comm, Nat.add_comm, Nat.add_mul_div_right _ _ (by decide)]
          have : lo * 2 ^ b / 2 ^ 32 = lo / 2 ^ (32 - b) := by
            rw [show 2 ^ 32 = 2 ^ (32 - b) * 2 ^ b by rw [← Nat.pow_add]; congr 1; omega]
            exact Nat.mul_div_mul_right _ _ (Nat.two_pow_pos _)
          rw [this, Nat.add_comm]
        have hm : jZ (((hi * 2 ^ 32 + lo) * 2 ^ b : Nat) : Int) = jZ (((hi * 2 ^ 32 + lo) * 2 ^ b % 18446744073709551616 : Nat) : Int) := jZ_eqm (by
          rw [Int.natCast_emod]
          exact (Int.emod_emod_of_dvd _ (Int.dvd_refl _)).symm)
        rw [hm, jZ_ushr (Nat.mod_lt _ (by decide)) (by decide), jZ_k]
        congr 2
        rw [← hmul, show 18446744073709551616 = 2 ^ 32 * 2 ^ 32 from rfl, Nat.mod_mul, Nat.add_mul_div_left _ _ (by decide), Nat.div_eq_of_lt (Nat.mod_lt _ (by decide)), Nat.zero_add]
      have e6' : x6 = kZ ((N * 2 ^ (32 * a + b) / 2 ^ (32 * k) % 2 ^ 32 : Nat) : Int) := by
        rcases Nat.lt_trichotomy k a with hka | hka | hka
        · rw [if_pos (hlt.mpr hka)] at e2
          rw [if_pos (hle.mpr (by omega))] at e4
          rw [key 0 0 (by omega) (by omega) e2 e4, lb_l0 N rfl (by omega)]
          rw [Nat.zero_mul, Nat.zero_div]
        · subst hka
          rw [if_neg (fun z => by have := hlt.mp z; omega), es, show (k : Int) - (k : Int) = ((0 : Nat) : Int) by omega, kZ_cl (by omega), h2 0 (by omega), kZ_un (NC_lt N 0)] at e2
          rw [if_pos (hle.mpr (by omega))] at e4
          rw [key _ 0 (NC_lt N 0) (by omega) e2 e4, lb_l1 N k b k (by omega), show k - k = 0 by omega, lb_l2 N b (by omega), Nat.zero_div, Nat.add_zero]
        · obtain ⟨j, hj⟩ := Nat.exists_eq_add_of_le (show a + 1 ≤ k from hka)
          rw [if_neg (fun z => by have := hlt.mp z; omega), es, show (k : Int) - (a : Int) = ((j + 1 : Nat) : Int) by omega, kZ_cl (by omega), h2 (j + 1) (by omega), kZ_un (NC_lt N (j + 1))] at e2
          rw [if_neg (fun z => by have := hle.mp z; omega), es, show (1 : Int32) = kZ 1 from rfl, kZ_sub, show (k : Int) - (a : Int) - 1 = ((j : Nat) : Int) by omega, kZ_cl (by omega), h2 j (by omega), kZ_un (NC_lt N j)] at e4
          rw [key _ _ (NC_lt N (j + 1)) (NC_lt N j) e2 e4, lb_l1 N a b k (by omega), show k - a = j + 1 by omega, lb_l3 N b j (by omega)]
      rw [e7, kZ_cl (by omega), k_dec]
      refine ih _ _ (by omega) (fun j hj hj2 => ?_) (fun j hj => ?_)
      · by_cases hjk : j = k
        · subst hjk; rw [updI_eq]; exact e6'
        · rw [updI_ne _ _ hjk]; exact h1 j (by omega) hj2
      · rw [updI_ne _ _ (by omega)]; exact h2 j (by omega)
theorem ln_left (cy : Int64) {fl : Nat → Int32} {N n : Nat} (h : NC fl N) (hn : n < 2048) {post : (Int64 × (Nat → Int32)) → Prop} (hp : ∀ u : Int64 × (Nat → Int32), NC u.2 (N * 2 ^ n) → post u) : wX3_left cy fl (kZ n) post := by
  unfold wX3_left
  intro x1 e1 x2 e2
  rw [show (32 : Int32) = kZ ((32 : Nat) : Int) from rfl, kZ_div (by omega) (by omega)] at e1
  rw [show (32 : Int32) = kZ ((32 : Nat) : Int) from rfl, kZ_rem (by omega) (by omega)] at e2
  rw [e1, e2]
  have hd := Nat.div_add_mod n 32
  refine ⟨65, ln_left_go (N := N) (a := n / 32) (b := n % 32) (by omega) (Nat.mod_lt _ (by decide)) (fun u h' => hp u ?_) 64 cy fl (by decide) (fun j hj hj2 => absurd hj2 (by omega)) (fun j hj => h j hj)⟩
  rw [hd] at h'
  exact h'
theorem k_min : (-2147483648 : Int32) = kZ (-2147483648) := Int32.toInt_inj.mp (by rw [kZ_I (by omega) (by omega)]; rfl)
theorem k_cmp {x y : Int32} {a b : Nat} (h1 : y ≤ x ↔ b ≤ a) (h2 : x = y ↔ a = b) : fJ4_compare x y = kZ (nOrd a b) := by
  unfold fJ4_compare lt_ nOrd
  rcases Nat.lt_trichotomy a b with h | h | h
  · rw [if_neg (fun z => by have := h1.mp z; omega), if_pos h]; rfl
  · rw [if_pos (h1.mpr (by omega)), if_pos (h2.mpr h), if_neg (by omega), if_neg (by omega)]; rfl
  · rw [if_pos (h1.mpr (by omega)), if_neg (fun z => by have := h2.mp z; omega), if_neg (by omega), if_pos h]; rfl
theorem k_cmpU {a b : Nat} (ha : a < 4294967296) (hb : b < 4294967296) : fJ4_compareUnsigned (kZ a) (kZ b) = kZ (nOrd a b) := by
  have h1 : kZ ((b : Int) + -2147483648) ≤ kZ ((a : Int) + -2147483648) ↔ b ≤ a := by
    rw [kZ_le (by omega) (by omega) (by omega) (by omega)]
    omega
  have h2 : kZ ((a : Int) + -2147483648) = kZ ((b : Int) + -2147483648) ↔ a = b := by
    rw [kZ_eq (by omega) (by omega) (by omega) (by omega)]
    omega
  unfold fJ4_compareUnsigned
  rw [k_min, kZ_add, kZ_add]
  exact k_cmp h1 h2
theorem ln_below_end {fl0 fl1 : Nat → Int32} {N M : Nat} (hN : NC fl0 N) (hM : NC fl1 M) {k : Nat} (hk : k < 64) (he : N / 2 ^ (32 * (k + 1)) = M / 2 ^ (32 * (k + 1))) (hs : k = 0 ∨ N / 2 ^ (32 * k) % 2 ^ 32 ≠ M / 2 ^ (32 * k) % 2 ^ 32) :
    (if 0 ≤ fJ4_compareUnsigned (fl0 (kZ k).toNatClampNeg) (fl1 (kZ k).toNatClampNeg) then (0 : Int32) else 1) = kZ (if N < M then 1 else 0) := by
  rw [kZ_cl (by omega), hN k hk, hM k hk, k_cmpU (NC_lt N k) (NC_lt M k)]
  have c1 := lb_cmp (c := 32) he
  have c2 := lb_cmp (c := 32) he.symm
  have h0 : nOrd (N / 2 ^ (32 * k) % 2 ^ 32) (M / 2 ^ (32 * k) % 2 ^ 32) = nOrd N M := by
    unfold nOrd
    rcases Nat.lt_trichotomy (N / 2 ^ (32 * k) % 2 ^ 32) (M / 2 ^ (32 * k) % 2 ^ 32) with h | h | h
    · have := c1 h
      rw [if_pos h, if_pos this]
    · have h0 : k = 0 := by rcases hs with h1 | h1; exact h1; exact absurd h h1
      have h3 := lb_top (c := 32) he h
      subst h0
      rw [Nat.mul_zero, Nat.pow_zero, Nat.div_one, Nat.div_one] at h3
      subst h3
      rw [if_neg (Nat.lt_irrefl _), if_neg (Nat.lt_irrefl _), if_neg (Nat.lt_irrefl _), if_neg (Nat.lt_irrefl _)]
    · have := c2 h
      rw [if_neg (by omega), if_pos h, if_neg (by omega), if_pos this]
  rw [h0]
  rcases Nat.lt_trichotomy N M with h | h | h
  · rw [show nOrd N M = -1 by unfold nOrd; rw [if_pos h], if_pos h, if_neg (show ¬ (0 : Int32) ≤ kZ (-1) by decide)]; rfl
  · rw [show nOrd N M = 0 by unfold nOrd; rw [if_neg (by omega), if_neg (by omega)], if_neg (show ¬ N < M by omega), if_pos (show (0 : Int32) ≤ kZ 0 by decide)]; rfl
  · rw [show nOrd N M = 1 by unfold nOrd; rw [if_neg (by omega), if_pos h], if_neg (show ¬ N < M by omega), if_pos (show (0 : Int32) ≤ kZ 1 by decide)]; rfl
theorem ln_below_go {fl0 fl1 : Nat → Int32} {N M : Nat} (hN : NC fl0 N) (hM : NC fl1 M) {post : Int32 → Prop} (hp : post (kZ (if N < M then 1 else 0))) : ∀ (k : Nat), k < 64 → N / 2 ^ (32 * (k + 1)) = M / 2 ^ (32 * (k + 1)) → wX3_isBelow_3 fl0 fl1 post (k + 1) (kZ k) := by
  intro k
  induction k with
  | zero =>
    intro hk he
    unfold wX3_isBelow_3
    refine ⟨fun _ => ⟨kz_in hk (by decide), kz_in hk (by decide), fun x2 e2 => ?_⟩, fun h => absurd ((kpos (by omega)).mpr rfl) h⟩
    rw [e2, ln_below_end hN hM hk he (Or.inl rfl)]
    exact hp
  | succ k ih =>
    intro hk he
    unfold wX3_isBelow_3
    refine ⟨fun h => absurd ((kpos (by omega)).mp h) (by omega), fun _ => ⟨kz_in hk (by decide), kz_in hk (by decide), fun h x7 e7 => ?_, fun h => ⟨kz_in hk (by decide), kz_in hk (by decide), fun x5 e5 => ?_⟩⟩⟩
    · have hl := NC_lt N (k + 1)
      have hl2 := NC_lt M (k + 1)
      rw [kZ_cl (by omega), hN _ hk, hM _ hk] at h
      have h2 := congrArg kU h
      rw [kU_n hl, kU_n hl2] at h2
      rw [e7, nt_p]
      exact ih (by omega) (lb_top (c := 32) he h2)
    · rw [e5, ln_below_end hN hM hk he (Or.inr (fun h2 => h (by rw [kZ_cl (by omega), hN _ hk, hM _ hk, h2])))]
      exact hp
theorem ln_below {fl0 fl1 : Nat → Int32} {N M : Nat} (hN : NC fl0 N) (hM : NC fl1 M) (lN : N < nBC) (lM : M < nBC) {post : Int32 → Prop} (hp : post (kZ (if N < M then 1 else 0))) : wX3_isBelow fl0 fl1 post := by
  refine ⟨64, ln_below_go hN hM hp 63 (by decide) ?_⟩
  rw [show 2 ^ (32 * (63 + 1)) = nBC from rfl, Nat.div_eq_of_lt lN, Nat.div_eq_of_lt lM]
theorem ln_less_go {fl1 : Nat → Int32} {N M : Nat} (hM : NC fl1 M) (hle : M ≤ N) {post : (Int64 × (Nat → Int32)) → Prop} (hp : ∀ u : Int64 × (Nat → Int32), NC u.2 (N - M) → post u) : ∀ (r k : Nat) (fl : Nat → Int32), k + r = 64 →
    (∀ j, j < k → fl j = kZ (((N - M) / 2 ^ (32 * j) % 2 ^ 32 : Nat) : Int)) → (∀ j, k ≤ j → j < 64 → fl j = kZ ((N / 2 ^ (32 * j) % 2 ^ 32 : Nat) : Int)) →
    wX3_less_7 fl1 post (r + 1) (kZ k) (jZ (-(if N % 2 ^ (32 * k) < M % 2 ^ (32 * k) then 1 else 0))) fl := by
  intro r
  induction r with
  | zero =>
    intro k fl hk h1 h2
    unfold wX3_less_7
    exact ⟨fun _ => hp _ (fun j hj => h1 j (by omega)), fun h => absurd ((ct_le (by omega)).mpr (by omega)) h⟩
  | succ r ih =>
    intro k fl hk h1 h2
    unfold wX3_less_7
    refine ⟨fun h => absurd ((ct_le (by omega)).mp h) (by omega), fun _ => ⟨kz_in (by omega) (by decide), kz_in (by omega) (by decide), fun x2 e2 => ⟨kz_in (by omega) (by decide), fun x3 e3 x4 e4 => ?_⟩⟩⟩
    have hP := Nat.two_pow_pos (32 * k)
    have t1 := lb_s1 (B := 2 ^ 32) hP (by decide) hle
    have t3 := lb_s3 (B := 2 ^ 32) hP N M
    have hl := NC_lt N k
    have hl2 := NC_lt M k
    rw [← pz32] at t3
    rw [kZ_cl (by omega), h2 k (Nat.le_refl _) (by omega), hM k (by omega), kZ_un hl, kZ_un hl2, jZ_sub, jZ_add] at e2
    generalize N / 2 ^ (32 * k) % 2 ^ 32 = a at *
    generalize M / 2 ^ (32 * k) % 2 ^ 32 = b at *
    have hcy : (0 : Int) ≤ (if N % 2 ^ (32 * k) < M % 2 ^ (32 * k) then 1 else 0) ∧ (if N % 2 ^ (32 * k) < M % 2 ^ (32 * k) then 1 else 0) ≤ (1 : Int) := by split <;> omega
    generalize (if N % 2 ^ (32 * k) < M % 2 ^ (32 * k) then 1 else 0 : Int) = cy at *
    rw [show (a : Int) - (b : Int) + -cy = (a : Int) - (b : Int) - cy by omega] at e2
    have e3' : x3 = jZ (-(if N % 2 ^ (32 * (k + 1)) < M % 2 ^ (32 * (k + 1)) then 1 else 0)) := by
      rw [e3, e2, show (32 : Int32) = kZ ((32 : Nat) : Int) from rfl, jZ_shr (by omega) (by omega) (by decide)]
      congr 1
      show _ / 4294967296 = _
      by_cases hx : N % 2 ^ (32 * (k + 1)) < M % 2 ^ (32 * (k + 1))
      · have := t3.mpr hx
        rw [if_pos hx]
        omega
      · have : ¬ ((a : Int) - (b : Int) - cy < 0) := fun z => hx (t3.mp z)
        rw [if_neg hx]
        omega
    rw [e4, nt_s, kZ_cl (by omega), e3']
    refine ih (k + 1) _ (by omega) (fun j hj => ?_) (fun j hj hj2 => ?_)
    · by_cases hjk : j = k
      · subst hjk
        rw [updI_eq, e2, jZ_k, ← t1]
        refine kZ_eqm ?_
        exact (Int.emod_emod_of_dvd _ (Int.dvd_refl _)).symm
      · rw [updI_ne _ _ hjk]; exact h1 j (by omega)
    · rw [updI_ne _ _ (by omega)]; exact h2 j (by omega) hj2
theorem ln_less {fl fl1 : Nat → Int32} {N M : Nat} (h : NC fl N) (hM : NC fl1 M) (hle : M ≤ N) {post : (Int64 × (Nat → Int32)) → Prop} (hp : ∀ u : Int64 × (Nat → Int32), NC u.2 (N - M) → post u) : wX3_less fl fl1 post := by
  refine ⟨65, ?_⟩
  have h0 := ln_less_go (N := N) hM hle hp 64 0 fl rfl (fun j hj => absurd hj (Nat.not_lt_zero j)) (fun j _ hj => h j hj)
  rw [Nat.mul_zero, Nat.pow_zero, Nat.mod_one, Nat.mod_one, if_neg (Nat.lt_irrefl 0)] at h0
  exact h0
/-- leading zeros of 32 bits -/
theorem lz_div {L s : Nat} (h : 2 ^ s ≤ L) : (L / 2 ^ s).log2 + s = L.log2 ∧ 0 < L / 2 ^ s := by
  have hp := Nat.two_pow_pos s
  have h1 : 0 < L / 2 ^ s := Nat.div_pos h hp
  refine ⟨?_, h1⟩
  have hL : L ≠ 0 := by omega
  refine Eq.symm ((Nat.log2_eq_iff hL).mpr ?_)
  have g1 := Nat.log2_self_le (n := L / 2 ^ s) (by omega)
  have g2 := Nat.lt_log2_self (n := L / 2 ^ s)
  generalize (L / 2 ^ s).log2 = m at *
  constructor
  · rw [Nat.pow_add]
    exact (Nat.le_div_iff_mul_le hp).mp g1
  · rw [show m + s + 1 = (m + 1) + s by omega, Nat.pow_add]
    exact (Nat.div_lt_iff_lt_mul hp).mp g2
theorem lz_step {L n s : Nat} (hL : 0 < L) (hL2 : L < 2147483648) (hs : s < 31) (hn : n ≤ 31) (hsn : s ≤ n) (T : Int32) (hT : T = kZ ((2 ^ s : Nat) : Int)) (S : Int32) (hS : S = kZ ((s : Nat) : Int)) (V : Int32) (hV : kZ n + V = kZ ((n - s : Nat) : Int)) :
    ∃ L' n' : Nat, (if kZ L < T then (kZ L, kZ n) else lt_ (kZ n + V) (fun x5 : Int32 => lt_ (kushr (kZ L) S) (fun x6 : Int32 => (x6, x5)))) = (kZ L', kZ n') ∧ 0 < L' ∧ L' ≤ L ∧ n' ≤ n ∧ n' + L.log2 = n + L'.log2 ∧ (L < 2 ^ s ∧ L' = L ∨ 2 ^ s ≤ L ∧ L' = L / 2 ^ s) := by
  subst hT
  subst hS
  have hps : 2 ^ s ≤ 2 ^ 30 := Nat.pow_le_pow_right (by decide) (by omega)
  have hq : 2 ^ s < 2147483648 := Nat.lt_of_le_of_lt hps (by decide)
  have hc : kZ L < kZ ((2 ^ s : Nat) : Int) ↔ L < 2 ^ s := by
    rw [kZ_lt (by omega) (by omega) (Int.le_trans (by decide) (Int.natCast_nonneg _)) (Int.ofNat_lt.mpr hq)]
    exact Int.ofNat_lt
  by_cases h : L < 2 ^ s
  · refine ⟨L, n, ?_, hL, Nat.le_refl _, Nat.le_refl _, rfl, Or.inl ⟨h, rfl⟩⟩
    rw [if_pos (hc.mpr h)]
  · have h' : 2 ^ s ≤ L := by omega
    obtain ⟨g1, g2⟩ := lz_div h'
    refine ⟨L / 2 ^ s, n - s, ?_, g2, Nat.div_le_self _ _, by omega, by omega, Or.inr ⟨h', rfl⟩⟩
    rw [if_neg (fun z => h (hc.mp z))]
    unfold lt_
    rw [hV, kZ_ushr (by omega) (by omega)]
theorem lz_32 {L : Nat} (h0 : 0 < L) (h : L < 4294967296) : fJ4_numberOfLeadingZeros (kZ L) = kZ ((31 - L.log2 : Nat) : Int) := by
  unfold fJ4_numberOfLeadingZeros
  by_cases hn : L < 2147483648
  · have hc : ((0 : Int32) < kZ L) ↔ (0 : Int) < (L : Int) := kZ_lt (a := 0) (b := (L : Int)) (by omega) (by omega) (by omega) (by omega)
    rw [if_pos (hc.mpr (by omega))]
    have hlog : L.log2 ≤ 30 := by
      have := (Nat.log2_lt (n := L) (k := 31) (by omega)).mpr hn
      omega
    have s1 : ∃ L' n' : Nat, (if kZ L < 65536 then (kZ L, (31 : Int32)) else lt_ (kushr (kZ L) 16) (fun x5 : Int32 => (x5, 15))) = (kZ L', kZ n') ∧ 0 < L' ∧ L' < 65536 ∧ n' ≤ 31 ∧ n' + L.log2 = 31 + L'.log2 ∧ 15 ≤ n' := by
      have hc2 : (kZ L < (65536 : Int32)) ↔ (L : Int) < 65536 := kZ_lt (a := (L : Int)) (b := 65536) (by omega) (by omega) (by omega) (by omega)
      by_cases h1 : L < 65536
      · refine ⟨L, 31, ?_, h0, h1, Nat.le_refl _, rfl, by decide⟩
        rw [if_pos (hc2.mpr (by omega))]
        rfl
      · obtain ⟨g1, g2⟩ := lz_div (L := L) (s := 16) (by omega)
        refine ⟨L / 2 ^ 16, 15, ?_, g2, by omega, by decide, by omega, by decide⟩
        rw [if_neg (fun z => by have := hc2.mp z; omega)]
        unfold lt_
        rw [show (16 : Int32) = kZ ((16 : Nat) : Int) from rfl, kZ_ushr h (by decide)]
        rfl
    obtain ⟨L1, n1, e1, a1, a2, a3, a4, a5⟩ := s1
    rw [e1]
    unfold lt_
    dsimp only
    obtain ⟨L2, n2, e2, b1, b2, b3, b4, b5⟩ := lz_step (L := L1) (n := n1) (s := 8) a1 (by omega) (by decide) a3 (by omega) 256 rfl 8 rfl (-8) (by rw [show (-8 : Int32) = kZ (-8) from rfl, kZ_add]; congr 1; omega)
    unfold lt_ at e2
    rw [e2]
    dsimp only
    have c1 : L2 < 256 := by rcases b5 with ⟨x, y⟩ | ⟨x, y⟩ <;> omega
    have hn2 : 7 ≤ n2 := by
      rcases b5 with ⟨x, y⟩ | ⟨x, y⟩
      · subst y; omega
      · have := (lz_div (L := L1) (s := 8) x).1
        subst y; omega
    obtain ⟨L3, n3, e3, d1, d2, d3, d4, d5⟩ := lz_step (L := L2) (n := n2) (s := 4) b1 (by omega) (by decide) (by omega) (by omega) 16 rfl 4 rfl (-4) (by rw [show (-4 : Int32) = kZ (-4) from rfl, kZ_add]; congr 1; omega)
    unfold lt_ at e3
    rw [e3]
    dsimp only
    have c2 : L3 < 16 := by rcases d5 with ⟨x, y⟩ | ⟨x, y⟩ <;> omega
    have hn3 : 3 ≤ n3 := by
      rcases d5 with ⟨x, y⟩ | ⟨x, y⟩
      · subst y; omega
      · have := (lz_div (L := L2) (s := 4) x).1
        subst y; omega
    obtain ⟨L4, n4, e4, f1, f2, f3, f4, f5⟩ := lz_step (L := L3) (n := n3) (s := 2) d1 (by omega) (by decide) (by omega) (by omega) 4 rfl 2 rfl (-2) (by rw [show (-2 : Int32) = kZ (-2) from rfl, kZ_add]; congr 1; omega)
    unfold lt_ at e4
    rw [e4]
    dsimp only
    have c3 : L4 < 4 := by rcases f5 with ⟨x, y⟩ | ⟨x, y⟩ <;> omega
    rw [show (1 : Int32) = kZ ((1 : Nat) : Int) from rfl, kZ_ushr (by omega) (by decide), kZ_sub]
    have hlast : L4.log2 = L4 / 2 ^ 1 := by
      rcases (show L4 = 1 ∨ L4 = 2 ∨ L4 = 3 by omega) with h | h | h <;> subst h <;> decide
    congr 1
    have : n4 = 31 - L.log2 + L4.log2 := by omega
    omega
  · have hc : ¬ (0 < kZ L) := by
      rw [show kZ (L : Int) = kZ ((L : Int) - 4294967296) from kZ_eqm (by omega)]
      intro h9
      have := (kZ_lt (a := 0) (b := (L : Int) - 4294967296) (by omega) (by omega) (by omega) (by omega)).mp h9
      omega
    have hz : ¬ (kZ L = 0) := by
      intro hz
      have := congrArg kU hz
      rw [kU_n h] at this
      have h9 : kU 0 = 0 := rfl
      omega
    rw [if_neg hc]
    unfold lt_
    rw [if_neg hz]
    have hlog : L.log2 = 31 := (Nat.log2_eq_iff (by omega)).mpr ⟨by omega, by omega⟩
    rw [hlog]
    rfl
theorem ln_bits_go {fl : Nat → Int32} {N : Nat} (hN : NC fl N) {post : Int32 → Prop} (hp : post (kZ (nLen N))) : ∀ (r : Nat), r ≤ 64 → N / 2 ^ (32 * r) = 0 → wX3_bits_3 fl post (r + 1) (kZ ((r : Int) - 1)) := by
  intro r
  induction r with
  | zero =>
    intro hr h0
    rw [Nat.mul_zero, Nat.pow_zero, Nat.div_one] at h0
    subst h0
    unfold wX3_bits_3
    refine ⟨fun _ => ?_, fun h => absurd ((kneg (by omega) (by omega)).mpr (by omega)) h⟩
    unfold wX3_bits_22
    refine ⟨⟨fun h => absurd h kge0n, fun _ => trivial⟩, fun x1 e1 => ?_⟩
    rw [e1, if_neg kge0n]
    exact hp
  | succ k ih =>
    intro hr h0
    rw [show ((k + 1 : Nat) : Int) - 1 = (k : Int) by omega]
    have hl := NC_lt N k
    have hb : N / 2 ^ (32 * k) % 2 ^ 32 = N / 2 ^ (32 * k) := by
      refine Nat.mod_eq_of_lt ?_
      rw [pz32, ← Nat.div_div_eq_div_mul] at h0
      rcases Nat.lt_or_ge (N / 2 ^ (32 * k)) (2 ^ 32) with h | h
      · exact h
      · have := Nat.div_le_div_right (c := 2 ^ 32) h
        rw [Nat.div_self (by decide)] at this
        omega
    have e0 : fl (kZ k).toNatClampNeg = kZ ((N / 2 ^ (32 * k) : Nat) : Int) := by rw [kZ_cl (by omega), hN k (by omega), hb]
    rw [hb] at hl
    unfold wX3_bits_3
    refine ⟨fun h => absurd ((kneg (by omega) (by omega)).mp h) (by omega), fun _ => ⟨kz_in (by omega) (by decide), fun h x3 e3 => ?_, fun h => ?_⟩⟩
    · rw [e0] at h
      have h2 := congrArg kU h
      rw [kU_n hl] at h2
      rw [e3, k_dec]
      exact ih (by omega) h2
    · unfold wX3_bits_22
      refine ⟨⟨fun _ => kz_in (by omega) (by decide), fun _ => trivial⟩, fun x1 e1 => ?_⟩
      rw [if_pos (kge0 (by omega)), e0] at e1
      rw [e0] at h
      have hL0 : N / 2 ^ (32 * k) ≠ 0 := fun z => h (by rw [z]; rfl)
      rw [lz_32 (by omega) hl] at e1
      have d1 := Nat.div_add_mod' N (2 ^ (32 * k))
      have d2 := Nat.mod_lt N (Nat.two_pow_pos (32 * k))
      generalize N / 2 ^ (32 * k) = L at *
      have g1 := Nat.log2_self_le hL0
      have g2 := Nat.lt_log2_self (n := L)
      have g3 : L.log2 ≤ 31 := by
        have := (Nat.log2_lt (n := L) (k := 32) hL0).mpr hl
        omega
      have hn : nLen N = 32 * k + L.log2 + 1 := by
        refine nLen_of ?_ ?_
        · rw [Nat.pow_add, Nat.mul_comm (2 ^ (32 * k))]
          have := Nat.mul_le_mul_right (2 ^ (32 * k)) g1
          omega
        · rw [Nat.add_assoc, Nat.pow_add, Nat.mul_comm (2 ^ (32 * k))]
          have h9 := Nat.mul_le_mul_right (2 ^ (32 * k)) (Nat.succ_le_of_lt g2)
          rw [Nat.succ_mul] at h9
          omega
      rw [e1, show (32 : Int32) = kZ 32 from rfl, kZ_mul, kZ_add, kZ_sub, show (32 : Int) * (k : Int) + 32 - ((31 - L.log2 : Nat) : Int) = ((nLen N : Nat) : Int) by omega]
      exact hp
theorem ln_bits {fl : Nat → Int32} {N : Nat} (hN : NC fl N) (lN : N < nBC) {post : Int32 → Prop} (hp : post (kZ (nLen N))) : wX3_bits fl post := by
  have h := ln_bits_go hN hp 64 (by decide) (by rw [show 2 ^ (32 * 64) = nBC from rfl]; exact Nat.div_eq_of_lt lN)
  exact ⟨65, h⟩
