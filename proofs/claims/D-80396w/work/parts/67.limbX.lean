/-! great wholes of the model (2): sums, differences, order, length, moves -/
theorem NA_of {fa : Nat → Int64} {N : Nat} (h : NA fa N) {k : Nat} (hk : k < 170) : fa k = jZ ((N / 2 ^ (30 * k) % 2 ^ 30 : Nat) : Int) := h k hk
theorem lm_copy_go {fa0 : Nat → Int64} {N : Nat} (h0 : NA fa0 N) {post : (Nat → Int64) → Prop} (hp : ∀ fa', NA fa' N → post fa') : ∀ (r k : Nat) (fa : Nat → Int64), k + r = 170 →
    (∀ j, j < k → fa j = jZ ((N / 2 ^ (30 * j) % 2 ^ 30 : Nat) : Int)) → wX6_copyOf_2 fa0 post (r + 1) (kZ k) fa := by
  intro r
  induction r with
  | zero =>
    intro k fa hk h1
    unfold wX6_copyOf_2
    refine ⟨fun _ => hp fa (fun j hj => h1 j (by omega)), fun h => absurd ((nt_le (by omega)).mpr (by omega)) h⟩
  | succ r ih =>
    intro k fa hk h1
    unfold wX6_copyOf_2
    refine ⟨fun h => absurd ((nt_le (by omega)).mp h) (by omega), fun _ => ⟨kz_in (by omega) (by decide), fun x2 e2 => ⟨kz_in (by omega) (by decide), fun x3 e3 => ?_⟩⟩⟩
    rw [e3, nt_s, kZ_cl (by omega)]
    rw [kZ_cl (by omega), h0 k (by omega)] at e2
    refine ih (k + 1) _ (by omega) (fun j hj => ?_)
    by_cases hjk : j = k
    · subst hjk; rw [upd_eq]; exact e2
    · rw [upd_ne _ _ hjk]; exact h1 j (by omega)
theorem lm_copy {fa0 : Nat → Int64} {N : Nat} (h0 : NA fa0 N) (fa1 : Nat → Int64) {post : (Nat → Int64) → Prop} (hp : ∀ fa', NA fa' N → post fa') : wX6_copyOf fa0 fa1 post :=
  ⟨171, lm_copy_go h0 hp 170 0 fa1 rfl (fun j hj => absurd hj (Nat.not_lt_zero j))⟩
theorem lm_more_go {fa1 : Nat → Int64} {N M : Nat} (hM : NA fa1 M) {post : (Nat → Int64) → Prop} (hp : ∀ fa', NA fa' (N + M) → post fa') : ∀ (r k : Nat) (fa : Nat → Int64), k + r = 170 →
    (∀ j, j < k → fa j = jZ (((N + M) / 2 ^ (30 * j) % 2 ^ 30 : Nat) : Int)) → (∀ j, k ≤ j → j < 170 → fa j = jZ ((N / 2 ^ (30 * j) % 2 ^ 30 : Nat) : Int)) →
    wX6_more_5 fa1 post (r + 1) (jZ ((N % 2 ^ (30 * k) + M % 2 ^ (30 * k)) / 2 ^ (30 * k) : Nat)) (kZ k) fa := by
  intro r
  induction r with
  | zero =>
    intro k fa hk h1 h2
    unfold wX6_more_5
    refine ⟨fun _ => hp fa (fun j hj => h1 j (by omega)), fun h => absurd ((nt_le (by omega)).mpr (by omega)) h⟩
  | succ r ih =>
    intro k fa hk h1 h2
    unfold wX6_more_5
    refine ⟨fun h => absurd ((nt_le (by omega)).mp h) (by omega), fun _ => ⟨kz_in (by omega) (by decide), kz_in (by omega) (by decide), fun x2 e2 x3 e3 => ⟨kz_in (by omega) (by decide), fun x4 e4 x5 e5 => ?_⟩⟩⟩
    have hP := Nat.two_pow_pos (30 * k)
    have t1 := lb_a1 (B := 2 ^ 30) hP N M
    have t3 := lb_a3 (B := 2 ^ 30) hP (by decide) N M
    have hl := NA_lt N k
    have hl2 := NA_lt M k
    rw [← pz30] at t3
    have hc : (N % 2 ^ (30 * k) + M % 2 ^ (30 * k)) / 2 ^ (30 * k) ≤ 1 := by
      have g1 := Nat.mod_lt N hP
      have g2 := Nat.mod_lt M hP
      refine Nat.lt_succ_iff.mp ((Nat.div_lt_iff_lt_mul hP).mpr ?_)
      omega
    rw [kZ_cl (by omega), h2 k (Nat.le_refl _) (by omega), hM k (by omega), jZ_add, jZ_add, ← Int.natCast_add, ← Int.natCast_add] at e2
    generalize N / 2 ^ (30 * k) % 2 ^ 30 = a at *
    generalize M / 2 ^ (30 * k) % 2 ^ 30 = b at *
    generalize (N % 2 ^ (30 * k) + M % 2 ^ (30 * k)) / 2 ^ (30 * k) = cy at *
    rw [e2, jZ_mask _ (by decide) (show (1073741823 : Int64) = jZ ((2 ^ 30 - 1 : Nat) : Int) by decide), ← Int.natCast_emod, t1] at e3
    rw [e2, show (30 : Int32) = kZ (30 : Nat) from rfl, jZ_ushr (by omega) (by decide), t3] at e4
    rw [e5, nt_s, kZ_cl (by omega), e4]
    refine ih (k + 1) _ (by omega) (fun j hj => ?_) (fun j hj hj2 => ?_)
    · by_cases hjk : j = k
      · subst hjk; rw [upd_eq]; exact e3
      · rw [upd_ne _ _ hjk]; exact h1 j (by omega)
    · rw [upd_ne _ _ (by omega)]; exact h2 j (by omega) hj2
theorem lm_more {fa fa1 : Nat → Int64} {N M : Nat} (h : NA fa N) (hM : NA fa1 M) {post : (Nat → Int64) → Prop} (hp : ∀ fa', NA fa' (N + M) → post fa') : wX6_more fa fa1 post := by
  refine ⟨171, ?_⟩
  have h0 := lm_more_go (N := N) hM hp 170 0 fa rfl (fun j hj => absurd hj (Nat.not_lt_zero j)) (fun j _ hj => h j hj)
  rw [Nat.mul_zero, Nat.pow_zero, Nat.mod_one, Nat.mod_one] at h0
  exact h0
theorem lm_less_go {fa1 : Nat → Int64} {N M : Nat} (hM : NA fa1 M) (hle : M ≤ N) {post : (Nat → Int64) → Prop} (hp : ∀ fa', NA fa' (N - M) → post fa') : ∀ (r k : Nat) (fa : Nat → Int64), k + r = 170 →
    (∀ j, j < k → fa j = jZ (((N - M) / 2 ^ (30 * j) % 2 ^ 30 : Nat) : Int)) → (∀ j, k ≤ j → j < 170 → fa j = jZ ((N / 2 ^ (30 * j) % 2 ^ 30 : Nat) : Int)) →
    wX6_less_5 fa1 post (r + 1) (jZ (if N % 2 ^ (30 * k) < M % 2 ^ (30 * k) then 1 else 0)) (kZ k) fa := by
  intro r
  induction r with
  | zero =>
    intro k fa hk h1 h2
    unfold wX6_less_5
    refine ⟨fun _ => hp fa (fun j hj => h1 j (by omega)), fun h => absurd ((nt_le (by omega)).mpr (by omega)) h⟩
  | succ r ih =>
    intro k fa hk h1 h2
    unfold wX6_less_5
    refine ⟨fun h => absurd ((nt_le (by omega)).mp h) (by omega), fun _ => ⟨kz_in (by omega) (by decide), kz_in (by omega) (by decide), fun x2 e2 x3 e3 x5 e5 => ⟨kz_in (by omega) (by decide), fun x6 e6 => ?_⟩⟩⟩
    have hP := Nat.two_pow_pos (30 * k)
    have t1 := lb_s1 (B := 2 ^ 30) hP (by decide) hle
    have t3 := lb_s3 (B := 2 ^ 30) hP N M
    have hl := NA_lt N k
    have hl2 := NA_lt M k
    rw [← pz30] at t3
    rw [kZ_cl (by omega), h2 k (Nat.le_refl _) (by omega), hM k (by omega), jZ_sub, jZ_sub] at e2
    generalize N / 2 ^ (30 * k) % 2 ^ 30 = a at *
    generalize M / 2 ^ (30 * k) % 2 ^ 30 = b at *
    have hcy : (0 : Int) ≤ (if N % 2 ^ (30 * k) < M % 2 ^ (30 * k) then 1 else 0) ∧ (if N % 2 ^ (30 * k) < M % 2 ^ (30 * k) then 1 else 0) ≤ (1 : Int) := by split <;> omega
    generalize (if N % 2 ^ (30 * k) < M % 2 ^ (30 * k) then 1 else 0 : Int) = cy at *
    rw [e2, jZ_mask _ (by decide) (show (1073741823 : Int64) = jZ ((2 ^ 30 - 1 : Nat) : Int) by decide), t1] at e5
    have hlt : (x2 < 0) ↔ N % 2 ^ (30 * (k + 1)) < M % 2 ^ (30 * (k + 1)) := by
      rw [e2, ← t3]
      exact jZ_lt (b := 0) (by omega) (by omega) (by omega) (by omega)
    have e3' : x3 = jZ (if N % 2 ^ (30 * (k + 1)) < M % 2 ^ (30 * (k + 1)) then 1 else 0) := by
      rw [e3]
      by_cases hx : N % 2 ^ (30 * (k + 1)) < M % 2 ^ (30 * (k + 1))
      · rw [if_pos hx, if_pos (hlt.mpr hx)]; rfl
      · rw [if_neg hx, if_neg (fun z => hx (hlt.mp z))]; rfl
    rw [e6, nt_s, kZ_cl (by omega), e3']
    refine ih (k + 1) _ (by omega) (fun j hj => ?_) (fun j hj hj2 => ?_)
    · by_cases hjk : j = k
      · subst hjk; rw [upd_eq]; exact e5
      · rw [upd_ne _ _ hjk]; exact h1 j (by omega)
    · rw [upd_ne _ _ (by omega)]; exact h2 j (by omega) hj2
theorem lm_less {fa fa1 : Nat → Int64} {N M : Nat} (h : NA fa N) (hM : NA fa1 M) (hle : M ≤ N) {post : (Nat → Int64) → Prop} (hp : ∀ fa', NA fa' (N - M) → post fa') : wX6_less fa fa1 post := by
  refine ⟨171, ?_⟩
  have h0 := lm_less_go (N := N) hM hle hp 170 0 fa rfl (fun j hj => absurd hj (Nat.not_lt_zero j)) (fun j _ hj => h j hj)
  rw [Nat.mul_zero, Nat.pow_zero, Nat.mod_one, Nat.mod_one, if_neg (Nat.lt_irrefl 0)] at h0
  exact h0
theorem k_dec (z : Int) : kZ z + (-1) = kZ (z - 1) := by
  rw [show (-1 : Int32) = kZ (-1) from rfl, kZ_add]
  congr 1
theorem kge0 {k : Nat} (hk : k < 2147483648) : (0 : Int32) ≤ kZ k := (kZ_le (a := 0) (b := (k : Int)) (by omega) (by omega) (by omega) (by omega)).mpr (by omega)
theorem kge0n : ¬ (0 : Int32) ≤ kZ (((0 : Nat) : Int) - 1) := by decide
/-- -1, 0, 1 -/
def nOrd (N M : Nat) : Int := if N < M then -1 else if M < N then 1 else 0
theorem kpos {k : Nat} (hk : k < 2147483648) : (kZ k ≤ 0) ↔ k = 0 := by
  have h := kZ_le (a := (k : Int)) (b := 0) (by omega) (by omega) (by omega) (by omega)
  constructor
  · intro h1; have := h.mp h1; omega
  · intro h1; exact h.mpr (by omega)
theorem kneg {z : Int} (h1 : -2147483648 ≤ z) (h2 : z < 2147483648) : (kZ z < 0) ↔ z < 0 := kZ_lt (b := 0) h1 h2 (by omega) (by omega)
theorem nt_p {k : Nat} : kZ ((k + 1 : Nat) : Int) + (-1) = kZ (k : Int) := by
  rw [show (-1 : Int32) = kZ (-1) from rfl, kZ_add]
  congr 1
  omega
theorem lm_order_end {fa0 fa1 : Nat → Int64} {N M : Nat} (hN : NA fa0 N) (hM : NA fa1 M) {post : Int32 → Prop} (hp : post (kZ (nOrd N M))) {k : Nat} (hk : k < 170) (he : N / 2 ^ (30 * (k + 1)) = M / 2 ^ (30 * (k + 1))) (hs : k = 0 ∨ N / 2 ^ (30 * k) % 2 ^ 30 ≠ M / 2 ^ (30 * k) % 2 ^ 30) : wX6_order_24 fa0 fa1 post (kZ k) := by
  unfold wX6_order_24
  refine ⟨kz_in hk (by decide), kz_in hk (by decide), ⟨fun _ => trivial, fun _ => ⟨kz_in hk (by decide), kz_in hk (by decide)⟩⟩, fun x1 e1 => ?_⟩
  have hl := NA_lt N k
  have hl2 := NA_lt M k
  have hcmp : (fa0 (kZ k).toNatClampNeg < fa1 (kZ k).toNatClampNeg ↔ N < M) ∧ (fa1 (kZ k).toNatClampNeg < fa0 (kZ k).toNatClampNeg ↔ M < N) := by
    rw [kZ_cl (by omega), hN k hk, hM k hk, jZ_lt (by omega) (by omega) (by omega) (by omega), jZ_lt (by omega) (by omega) (by omega) (by omega)]
    have c1 := lb_cmp (c := 30) he
    have c2 := lb_cmp (c := 30) he.symm
    rcases Nat.lt_trichotomy (N / 2 ^ (30 * k) % 2 ^ 30) (M / 2 ^ (30 * k) % 2 ^ 30) with h | h | h
    · have := c1 h
      omega
    · have h0 : k = 0 := by rcases hs with h1 | h1; exact h1; exact absurd h h1
      have h3 := lb_top (c := 30) he h
      subst h0
      rw [Nat.mul_zero, Nat.pow_zero, Nat.div_one, Nat.div_one] at h3
      subst h3
      omega
    · have := c2 h
      omega
  rw [e1]
  have e2 : (if fa0 (kZ k).toNatClampNeg < fa1 (kZ k).toNatClampNeg then (-1 : Int32) else (if fa1 (kZ k).toNatClampNeg < fa0 (kZ k).toNatClampNeg then 1 else 0)) = kZ (nOrd N M) := by
    unfold nOrd
    simp only [hcmp.1, hcmp.2]
    split
    · rfl
    · split <;> rfl
  rw [e2]
  exact hp
theorem lm_order_go {fa0 fa1 : Nat → Int64} {N M : Nat} (hN : NA fa0 N) (hM : NA fa1 M) {post : Int32 → Prop} (hp : post (kZ (nOrd N M))) : ∀ (k : Nat), k < 170 → N / 2 ^ (30 * (k + 1)) = M / 2 ^ (30 * (k + 1)) → wX6_order_4 fa0 fa1 post (k + 1) (kZ k) := by
  intro k
  induction k with
  | zero =>
    intro hk he
    unfold wX6_order_4
    exact ⟨fun _ => lm_order_end hN hM hp hk he (Or.inl rfl), fun h => absurd ((kpos (by omega)).mpr rfl) h⟩
  | succ k ih =>
    intro hk he
    unfold wX6_order_4
    refine ⟨fun h => absurd ((kpos (by omega)).mp h) (by omega), fun _ => ⟨kz_in hk (by decide), kz_in hk (by decide), fun h x3 e3 => ?_, fun h => lm_order_end hN hM hp hk he (Or.inr ?_)⟩⟩
    · have hl := NA_lt N (k + 1)
      have hl2 := NA_lt M (k + 1)
      rw [kZ_cl (by omega), hN _ hk, hM _ hk, jZ_eq (by omega) (by omega) (by omega) (by omega)] at h
      rw [e3, nt_p]
      exact ih (by omega) (lb_top (c := 30) he (by omega))
    · intro h2
      apply h
      rw [kZ_cl (by omega), hN _ hk, hM _ hk, h2]
theorem lm_order {fa0 fa1 : Nat → Int64} {N M : Nat} (hN : NA fa0 N) (hM : NA fa1 M) (lN : N < nBM) (lM : M < nBM) {post : Int32 → Prop} (hp : post (kZ (nOrd N M))) : wX6_order fa0 fa1 post := by
  refine ⟨170, lm_order_go hN hM hp 169 (by decide) ?_⟩
  rw [show 2 ^ (30 * (169 + 1)) = nBM from rfl, Nat.div_eq_of_lt lN, Nat.div_eq_of_lt lM]
theorem kZ_n (n : Nat) : kZ (n : Int) = Int32.ofNat n := Int32.ofInt_eq_ofNat
theorem kZ_div {a b : Nat} (ha : a < 2147483648) (hb : b < 2147483648) : kZ a / kZ b = kZ ((a / b : Nat) : Int) := by
  rw [kZ_n, kZ_n, kZ_n]
  exact (Int32.ofNat_div ha hb).symm
theorem kZ_rem {a b : Nat} (ha : a < 2147483648) (hb : b < 2147483648) : kirem (kZ a) (kZ b) = kZ ((a % b : Nat) : Int) := by
  unfold kirem
  rw [kZ_div ha hb, kZ_mul, kZ_sub]
  congr 1
  have h := Nat.div_add_mod' a b
  rw [← Int.natCast_mul]
  omega
theorem lm_left_go {N a b : Nat} (ha : a < 170) (hb : b < 30) {post : (Nat → Int64) → Prop} (hp : ∀ fa', NA fa' (N * 2 ^ (30 * a + b)) → post fa') : ∀ (r : Nat) (fa : Nat → Int64), r ≤ 170 →
    (∀ j, r ≤ j → j < 170 → fa j = jZ ((N * 2 ^ (30 * a + b) / 2 ^ (30 * j) % 2 ^ 30 : Nat) : Int)) → (∀ j, j < r → fa j = jZ ((N / 2 ^ (30 * j) % 2 ^ 30 : Nat) : Int)) →
    wX6_left_15 post (r + 1) (kZ a) (kZ b) (kZ ((r : Int) - 1)) fa := by
  intro r
  induction r with
  | zero =>
    intro fa hr h1 h2
    unfold wX6_left_15
    exact ⟨fun _ => hp fa (fun j hj => h1 j (Nat.zero_le _) hj), fun h => absurd ((kneg (by omega) (by omega)).mpr (by omega)) h⟩
  | succ k ih =>
    intro fa hr h1 h2
    have ek : ((k + 1 : Nat) : Int) - 1 = (k : Int) := by omega
    rw [ek]
    unfold wX6_left_15
    have hlt : (kZ k < kZ a) ↔ k < a := by
      rw [kZ_lt (by omega) (by omega) (by omega) (by omega)]; omega
    have hle : (kZ k ≤ kZ a) ↔ k ≤ a := by
      rw [kZ_le (by omega) (by omega) (by omega) (by omega)]; omega
    have hb0 : (kZ b ≤ 0) ↔ b = 0 := kpos (by omega)
    have es : kZ k - kZ a = kZ ((k : Int) - (a : Int)) := kZ_sub _ _
    refine ⟨fun h => absurd ((kneg (by omega) (by omega)).mp h) (by omega), fun _ => ⟨⟨fun _ => trivial, fun h => ?_⟩, fun x2 e2 => ⟨⟨fun _ => trivial, fun h => ⟨fun _ => trivial, fun _ => ?_⟩⟩, fun x4 e4 x7 e7 => ⟨kz_in (by omega) (by decide), fun x8 e8 => ?_⟩⟩⟩⟩
    · rw [hlt] at h
      rw [es, show (k : Int) - (a : Int) = ((k - a : Nat) : Int) by omega]
      exact kz_in (by omega) (by decide)
    · rw [hle] at h
      rw [es, show (1 : Int32) = kZ 1 from rfl, kZ_sub, show (k : Int) - (a : Int) - 1 = ((k - a - 1 : Nat) : Int) by omega]
      exact kz_in (by omega) (by decide)
    · have e7' : x7 = jZ ((N * 2 ^ (30 * a + b) / 2 ^ (30 * k) % 2 ^ 30 : Nat) : Int) := by
        rw [e7]
        have hm : (1073741823 : Int64) = jZ ((2 ^ 30 - 1 : Nat) : Int) := by decide
        have hpb : 2 ^ b ≤ 2 ^ 29 := Nat.pow_le_pow_right (by decide) (by omega)
        rcases Nat.lt_trichotomy k a with hka | hka | hka
        · rw [if_pos (hlt.mpr hka)] at e2
          rw [if_pos (hle.mpr (by omega))] at e4
          rw [e2, e4, lb_l0 N rfl (by omega)]
          rfl
        · subst hka
          rw [if_neg (fun z => by have := hlt.mp z; omega), es, show (k : Int) - (k : Int) = ((0 : Nat) : Int) by omega, kZ_cl (by omega), h2 0 (by omega), jZ_shl _ (by omega), ← Int.natCast_mul] at e2
          rw [if_pos (hle.mpr (by omega))] at e4
          rw [e2, e4, lb_l1 N k b k (by omega), show k - k = 0 by omega, lb_l2 N b (by omega)]
          have hl := NA_lt N 0
          generalize N / 2 ^ (30 * 0) % 2 ^ 30 = L at *
          have hL : L * 2 ^ b ≤ 1073741824 * 2 ^ 29 := Nat.mul_le_mul (Nat.le_of_lt hl) hpb
          rw [show (0 : Int64) = jZ ((0 : Nat) : Int) from rfl, jZ_or (by omega) (by omega), Nat.or_zero, jZ_mask _ (by decide) hm, ← Int.natCast_emod]
        · obtain ⟨j, hj⟩ := Nat.exists_eq_add_of_le (show a + 1 ≤ k from hka)
          rw [if_neg (fun z => by have := hlt.mp z; omega), es, show (k : Int) - (a : Int) = ((j + 1 : Nat) : Int) by omega, kZ_cl (by omega), h2 (j + 1) (by omega), jZ_shl _ (by omega), ← Int.natCast_mul] at e2
          rw [if_neg (fun z => by have := hle.mp z; omega)] at e4
          have hl := NA_lt N (j + 1)
          have hl2 := NA_lt N j
          have e4' : x4 = jZ ((N / 2 ^ (30 * j) % 2 ^ 30 / 2 ^ (30 - b) : Nat) : Int) := by
            rw [e4]
            by_cases hb1 : b = 0
            · rw [if_pos (hb0.mpr hb1)]
              subst hb1
              rw [Nat.div_eq_of_lt (by omega)]
              rfl
            · rw [if_neg (fun z => hb1 (hb0.mp z)), es, show (1 : Int32) = kZ 1 from rfl, kZ_sub, show (k : Int) - (a : Int) - 1 = ((j : Nat) : Int) by omega, kZ_cl (by omega), h2 j (by omega), show (30 : Int32) = kZ 30 from rfl, kZ_sub, show (30 : Int) - (b : Int) = ((30 - b : Nat) : Int) by omega, jZ_ushr (by omega) (by omega)]
          rw [lb_l1 N a b k (by omega), show k - a = j + 1 by omega, lb_l3 N b j (by omega), e2, e4']
          generalize N / 2 ^ (30 * (j + 1)) % 2 ^ 30 = L at *
          generalize N / 2 ^ (30 * j) % 2 ^ 30 = L2 at *
          have hL : L * 2 ^ b ≤ 1073741824 * 2 ^ 29 := Nat.mul_le_mul (Nat.le_of_lt hl) hpb
          have hs : L2 / 2 ^ (30 - b) < 2 ^ b := by
            rw [Nat.div_lt_iff_lt_mul (Nat.two_pow_pos _), ← Nat.pow_add, show b + (30 - b) = 30 by omega]
            exact hl2
          rw [jZ_or (by omega) (by omega), ← Nat.shiftLeft_eq, ← Nat.shiftLeft_add_eq_or_of_lt hs, Nat.shiftLeft_eq, jZ_mask _ (by decide) hm, ← Int.natCast_emod]
      rw [e8, kZ_cl (by omega), k_dec]
      refine ih _ (by omega) (fun j hj hj2 => ?_) (fun j hj => ?_)
      · by_cases hjk : j = k
        · subst hjk; rw [upd_eq]; exact e7'
        · rw [upd_ne _ _ hjk]; exact h1 j (by omega) hj2
      · rw [upd_ne _ _ (by omega)]; exact h2 j (by omega)
theorem lm_left {fa : Nat → Int64} {N n : Nat} (h : NA fa N) (hn : n < 5100) {post : (Nat → Int64) → Prop} (hp : ∀ fa', NA fa' (N * 2 ^ n) → post fa') : wX6_left fa (kZ n) post := by
  unfold wX6_left
  intro x1 e1 x2 e2
  rw [show (30 : Int32) = kZ ((30 : Nat) : Int) from rfl, kZ_div (by omega) (by omega)] at e1
  rw [show (30 : Int32) = kZ ((30 : Nat) : Int) from rfl, kZ_rem (by omega) (by omega)] at e2
  rw [e1, e2]
  have hd := Nat.div_add_mod n 30
  refine ⟨171, lm_left_go (N := N) (a := n / 30) (b := n % 30) (by omega) (Nat.mod_lt _ (by decide)) (fun fa' h' => hp fa' ?_) 170 fa (by decide) (fun j hj hj2 => absurd hj2 (by omega)) (fun j hj => h j hj)⟩
  rw [hd] at h'
  exact h'
/-- how many bits -/
def nLen (N : Nat) : Nat := if N = 0 then 0 else N.log2 + 1
theorem lm_len2 {post : Int32 → Prop} {k : Nat} (hk : k < 170) : ∀ (m y L : Nat), m ≤ y → y ≤ 5100 → 2 ^ 29 ≤ L * 2 ^ m → L * 2 ^ m < 2 ^ 30 → post (kZ ((y - m : Nat) : Int)) → wX6_length_43 post (m + 1) (kZ k) (kZ y) (jZ L) := by
  intro m
  induction m with
  | zero =>
    intro y L hmy hy h1 h2 hp
    rw [Nat.pow_zero, Nat.mul_one] at h1 h2
    unfold wX6_length_43
    refine ⟨fun h => absurd ((kneg (by omega) (by omega)).mp h) (by omega), fun _ => ⟨fun h => ?_, fun _ x5 e5 => ?_⟩⟩
    · rw [show (536870912 : Int64) = jZ 536870912 from rfl, jZ_lt (by omega) (by omega) (by omega) (by omega)] at h
      omega
    · rw [e5, if_pos (kge0 (by omega))]
      exact hp
  | succ m ih =>
    intro y L hmy hy h1 h2 hp
    rw [show L * 2 ^ (m + 1) = L * 2 * 2 ^ m by rw [Nat.pow_succ, Nat.mul_comm (2 ^ m), ← Nat.mul_assoc]] at h1 h2
    have hL : L * 2 < 2 ^ 30 := Nat.lt_of_le_of_lt (Nat.le_mul_of_pos_right _ (Nat.two_pow_pos m)) h2
    unfold wX6_length_43
    refine ⟨fun h => absurd ((kneg (by omega) (by omega)).mp h) (by omega), fun _ => ⟨fun _ x7 e7 x8 e8 => ?_, fun h => ?_⟩⟩
    · rw [e7, e8, show kZ (y : Int) + (-1) = kZ ((y - 1 : Nat) : Int) by rw [show (-1 : Int32) = kZ (-1) from rfl, kZ_add]; congr 1; omega, show (2 : Int64) = jZ 2 from rfl, jZ_mul, show (L : Int) * 2 = ((L * 2 : Nat) : Int) by omega]
      exact ih (y - 1) (L * 2) (by omega) (by omega) h1 h2 (by rw [show y - 1 - m = y - (m + 1) by omega]; exact hp)
    · exfalso
      apply h
      rw [show (536870912 : Int64) = jZ 536870912 from rfl, jZ_lt (by omega) (by omega) (by omega) (by omega)]
      omega
theorem nLen_of {N l : Nat} (h1 : 2 ^ l ≤ N) (h2 : N < 2 ^ (l + 1)) : nLen N = l + 1 := by
  have h0 := Nat.two_pow_pos l
  unfold nLen
  rw [if_neg (by omega)]
  have a1 := (Nat.le_log2 (n := N) (k := l) (by omega)).mpr h1
  have a2 := (Nat.log2_lt (n := N) (k := l + 1) (by omega)).mpr h2
  omega
theorem lm_len_go {fa : Nat → Int64} {N : Nat} (hN : NA fa N) {post : Int32 → Prop} (hp : post (kZ (nLen N))) : ∀ (r : Nat), r ≤ 170 → N / 2 ^ (30 * r) = 0 → wX6_length_4 fa post (r + 1) (kZ ((r : Int) - 1)) := by
  intro r
  induction r with
  | zero =>
    intro hr h0
    rw [Nat.mul_zero, Nat.pow_zero, Nat.div_one] at h0
    subst h0
    unfold wX6_length_4
    refine ⟨fun _ x2 e2 => ⟨⟨fun h => absurd h kge0n, fun _ => trivial⟩, fun x3 e3 => ⟨1, ?_⟩⟩, fun h => absurd ((kneg (by omega) (by omega)).mpr (by omega)) h⟩
    unfold wX6_length_43
    refine ⟨fun _ x5 e5 => ?_, fun h => absurd ((kneg (by omega) (by omega)).mpr (by omega)) h⟩
    rw [e5, if_neg (fun h => absurd h kge0n)]
    exact hp
  | succ k ih =>
    intro hr h0
    rw [show ((k + 1 : Nat) : Int) - 1 = (k : Int) by omega]
    have hl := NA_lt N k
    have hb : N / 2 ^ (30 * k) % 2 ^ 30 = N / 2 ^ (30 * k) := by
      refine Nat.mod_eq_of_lt ?_
      rw [pz30, ← Nat.div_div_eq_div_mul] at h0
      rcases Nat.lt_or_ge (N / 2 ^ (30 * k)) (2 ^ 30) with h | h
      · exact h
      · have := Nat.div_le_div_right (c := 2 ^ 30) h
        rw [Nat.div_self (by decide)] at this
        omega
    have e0 : fa (kZ k).toNatClampNeg = jZ ((N / 2 ^ (30 * k) : Nat) : Int) := by rw [kZ_cl (by omega), hN k (by omega), hb]
    rw [hb] at hl
    unfold wX6_length_4
    refine ⟨fun h => absurd ((kneg (by omega) (by omega)).mp h) (by omega), fun _ => ⟨kz_in (by omega) (by decide), fun h x11 e11 => ?_, fun h x7 e7 => ⟨⟨fun _ => kz_in (by omega) (by decide), fun _ => trivial⟩, fun x8 e8 => ?_⟩⟩⟩
    · rw [e0, show (0 : Int64) = jZ 0 from rfl, jZ_eq (by omega) (by omega) (by omega) (by omega)] at h
      rw [e11, k_dec]
      exact ih (by omega) (by omega)
    · rw [if_pos (kge0 (by omega)), e0] at e8
      rw [e0, show (0 : Int64) = jZ 0 from rfl, jZ_eq (by omega) (by omega) (by omega) (by omega)] at h
      have hL0 : N / 2 ^ (30 * k) ≠ 0 := by omega
      rw [e7, e8, show (30 : Int32) * (kZ (k : Int) + 1) = kZ ((30 * (k + 1) : Nat) : Int) by
        rw [show (1 : Int32) = kZ 1 from rfl, show (30 : Int32) = kZ 30 from rfl, kZ_add, kZ_mul]; congr 1]
      have d1 := Nat.div_add_mod' N (2 ^ (30 * k))
      have d2 := Nat.mod_lt N (Nat.two_pow_pos (30 * k))
      generalize N / 2 ^ (30 * k) = L at *
      have g1 := Nat.log2_self_le hL0
      have g2 := Nat.lt_log2_self (n := L)
      have g3 : L.log2 ≤ 29 := by
        have := (Nat.log2_lt (n := L) (k := 30) hL0).mpr hl
        omega
      refine ⟨29 - L.log2 + 1, lm_len2 (by omega) _ _ _ (by omega) (by omega) ?_ ?_ ?_⟩
      · rw [show 29 = L.log2 + (29 - L.log2) by omega, Nat.pow_add]
        rw [show L.log2 + (29 - L.log2) - L.log2 = 29 - L.log2 by omega]
        exact Nat.mul_le_mul_right _ g1
      · rw [show 30 = (L.log2 + 1) + (29 - L.log2) by omega, Nat.pow_add]
        exact Nat.mul_lt_mul_of_pos_right g2 (Nat.two_pow_pos _)
      · have hn : nLen N = 30 * k + L.log2 + 1 := by
          refine nLen_of ?_ ?_
          · rw [Nat.pow_add, Nat.mul_comm (2 ^ (30 * k))]
            have := Nat.mul_le_mul_right (2 ^ (30 * k)) g1
            omega
          · rw [Nat.add_assoc, Nat.pow_add, Nat.mul_comm (2 ^ (30 * k))]
            have h9 := Nat.mul_le_mul_right (2 ^ (30 * k)) (Nat.succ_le_of_lt g2)
            rw [Nat.succ_mul] at h9
            omega
        rw [show 30 * (k + 1) - (29 - L.log2) = nLen N by omega]
        exact hp
theorem lm_len {fa : Nat → Int64} {N : Nat} (hN : NA fa N) (lN : N < nBM) {post : Int32 → Prop} (hp : post (kZ (nLen N))) : wX6_length fa post := by
  have h := lm_len_go hN hp 170 (by decide) (by rw [show 2 ^ (30 * 170) = nBM from rfl]; exact Nat.div_eq_of_lt lN)
  exact ⟨171, h⟩
