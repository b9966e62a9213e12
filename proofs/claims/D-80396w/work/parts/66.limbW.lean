/-! great wholes of the model: 170 limbs of 30 bits -/
def nBM : Nat := 2 ^ 5100
/-- the array holds the number -/
def NA (fa : Nat → Int64) (N : Nat) : Prop := ∀ k, k < 170 → fa k = jZ ((N / 2 ^ (30 * k) % 2 ^ 30 : Nat) : Int)
theorem NA_lt (N k : Nat) : N / 2 ^ (30 * k) % 2 ^ 30 < 1073741824 := Nat.mod_lt _ (by decide)
theorem nt_le {k : Nat} (hk : k ≤ 170) : ((170 : Int32) ≤ kZ k) ↔ 170 ≤ k := by
  have h := kZ_le (a := 170) (b := (k : Int)) (by omega) (by omega) (by omega) (by omega)
  constructor
  · intro h1; have := h.mp h1; omega
  · intro h1; exact h.mpr (by omega)
theorem nt_s (k : Nat) : kZ k + 1 = kZ ((k + 1 : Nat) : Int) := kZ_add k 1
theorem upd_eq (f : Nat → Int64) (k : Nat) (x : Int64) : vp_updL f k x k = x := by simp [vp_updL]
theorem upd_ne (f : Nat → Int64) {k j : Nat} (x : Int64) (h : j ≠ k) : vp_updL f k x j = f j := by simp [vp_updL, h]
theorem pz30 (k : Nat) : 2 ^ (30 * (k + 1)) = 2 ^ (30 * k) * 2 ^ 30 := by rw [Nat.mul_add, Nat.pow_add]
theorem lm_clear_go {post : (Nat → Int64) → Prop} (hp : ∀ fa', (∀ k, k < 170 → fa' k = 0) → post fa') : ∀ (r k : Nat) (fa : Nat → Int64), k + r = 170 → (∀ j, j < k → fa j = 0) → wX6_clear_2 post (r + 1) (kZ k) fa := by
  intro r
  induction r with
  | zero =>
    intro k fa hk h
    unfold wX6_clear_2
    refine ⟨fun _ => hp fa (fun j hj => h j (by omega)), fun h1 => absurd ((nt_le (by omega)).mpr (by omega)) h1⟩
  | succ r ih =>
    intro k fa hk h
    unfold wX6_clear_2
    refine ⟨fun h1 => absurd ((nt_le (by omega)).mp h1) (by omega), fun _ => ⟨kz_in (by omega) (by decide), fun x2 e2 => ?_⟩⟩
    rw [e2, nt_s, kZ_cl (by omega)]
    refine ih (k + 1) _ (by omega) (fun j hj => ?_)
    by_cases hjk : j = k
    · subst hjk; exact upd_eq _ _ _
    · rw [upd_ne _ _ hjk]; exact h j (by omega)
theorem lm_clear (fa : Nat → Int64) {post : (Nat → Int64) → Prop} (hp : ∀ fa', NA fa' 0 → post fa') : wX6_clear fa post := by
  refine ⟨171, lm_clear_go (fun fa' h => hp fa' (fun k hk => ?_)) 170 0 fa rfl (fun j hj => absurd hj (Nat.not_lt_zero j))⟩
  rw [h k hk, Nat.zero_div, Nat.zero_mod]
  rfl
theorem lm_set (fa : Nat → Int64) {v : Nat} (hv : v < 18446744073709551616) {post : (Nat → Int64) → Prop} (hp : ∀ fa', NA fa' v → post fa') : wX6_set fa (jZ v) post := by
  unfold wX6_set
  refine lm_clear fa (fun u2 h2 => ?_)
  intro x3 e3 x4 e4 x5 e5
  refine hp _ (fun k hk => ?_)
  have m : (1073741823 : Int64) = jZ ((2 ^ 30 - 1 : Nat) : Int) := by decide
  rw [jZ_mask _ (by decide) m] at e3
  rw [show (30 : Int32) = kZ (30 : Nat) from rfl, jZ_ushr hv (by decide), jZ_mask _ (by decide) m] at e4
  rw [show (60 : Int32) = kZ (60 : Nat) from rfl, jZ_ushr hv (by decide)] at e5
  by_cases k2 : k = 2
  · subst k2
    rw [upd_eq, e5]
    congr 2
    rw [Nat.mod_eq_of_lt]
    refine Nat.div_lt_of_lt_mul ?_
    omega
  · rw [upd_ne _ _ k2]
    by_cases k1 : k = 1
    · subst k1
      rw [upd_eq, e4, ← Int.natCast_emod]
    · rw [upd_ne _ _ k1]
      by_cases k0 : k = 0
      · subst k0
        rw [upd_eq, e3, ← Int.natCast_emod, Nat.mul_zero, Nat.pow_zero, Nat.div_one]
      · rw [upd_ne _ _ k0, h2 k hk]
        have h3 : v < 2 ^ (30 * k) := Nat.lt_of_lt_of_le hv (by
          have : 2 ^ 64 ≤ 2 ^ (30 * k) := Nat.pow_le_pow_right (by decide) (by omega)
          exact this)
        rw [Nat.zero_div, Nat.div_eq_of_lt h3]
theorem lm_times_go {N by_ c : Nat} (hb : by_ < 4294967296) (hc : c < 4294967296) {post : (Nat → Int64) → Prop} (hp : ∀ fa', NA fa' (N * by_ + c) → post fa') : ∀ (r k : Nat) (fa : Nat → Int64), k + r = 170 →
    (∀ j, j < k → fa j = jZ (((N * by_ + c) / 2 ^ (30 * j) % 2 ^ 30 : Nat) : Int)) → (∀ j, k ≤ j → j < 170 → fa j = jZ ((N / 2 ^ (30 * j) % 2 ^ 30 : Nat) : Int)) →
    wX6_times_6 (jZ by_) post (r + 1) (jZ (((N % 2 ^ (30 * k)) * by_ + c) / 2 ^ (30 * k) : Nat)) (kZ k) fa := by
  intro r
  induction r with
  | zero =>
    intro k fa hk h1 h2
    unfold wX6_times_6
    refine ⟨fun _ => hp fa (fun j hj => h1 j (by omega)), fun h => absurd ((nt_le (by omega)).mpr (by omega)) h⟩
  | succ r ih =>
    intro k fa hk h1 h2
    unfold wX6_times_6
    refine ⟨fun h => absurd ((nt_le (by omega)).mp h) (by omega), fun _ => ⟨kz_in (by omega) (by decide), fun x2 e2 x3 e3 => ⟨kz_in (by omega) (by decide), fun x4 e4 x5 e5 => ?_⟩⟩⟩
    have hP := Nat.two_pow_pos (30 * k)
    have t1 := lb_t1 (B := 2 ^ 30) hP N by_ c
    have t3 := lb_t3 (B := 2 ^ 30) hP N by_ c
    have t4 := lb_t4 hP N by_ c
    have hl := NA_lt N k
    rw [← pz30] at t3
    rw [kZ_cl (by omega), h2 k (Nat.le_refl _) (by omega), jZ_mul, jZ_add, ← Int.natCast_mul, ← Int.natCast_add, Nat.add_comm] at e2
    generalize hlimb : N / 2 ^ (30 * k) % 2 ^ 30 = limb at *
    generalize hcy : (N % 2 ^ (30 * k) * by_ + c) / 2 ^ (30 * k) = cy at *
    have hm : limb * by_ ≤ 1073741824 * 4294967296 := Nat.mul_le_mul (Nat.le_of_lt hl) (Nat.le_of_lt hb)
    rw [e2, jZ_mask _ (by decide) (show (1073741823 : Int64) = jZ ((2 ^ 30 - 1 : Nat) : Int) by decide), ← Int.natCast_emod, t1] at e3
    rw [e2, show (30 : Int32) = kZ (30 : Nat) from rfl, jZ_ushr (by omega) (by decide), t3] at e4
    rw [e5, nt_s, kZ_cl (by omega), e4]
    refine ih (k + 1) _ (by omega) (fun j hj => ?_) (fun j hj hj2 => ?_)
    · by_cases hjk : j = k
      · subst hjk; rw [upd_eq]; exact e3
      · rw [upd_ne _ _ hjk]; exact h1 j (by omega)
    · rw [upd_ne _ _ (by omega)]; exact h2 j (by omega) hj2
theorem lm_times {fa : Nat → Int64} {N by_ c : Nat} (h : NA fa N) (hb : by_ < 4294967296) (hc : c < 4294967296) {post : (Nat → Int64) → Prop} (hp : ∀ fa', NA fa' (N * by_ + c) → post fa') : wX6_times fa (jZ by_) (jZ c) post := by
  refine ⟨171, ?_⟩
  have h0 := lm_times_go (N := N) hb hc hp 170 0 fa rfl (fun j hj => absurd hj (Nat.not_lt_zero j)) (fun j _ hj => h j hj)
  rw [Nat.mul_zero, Nat.pow_zero, Nat.mod_one, Nat.zero_mul, Nat.zero_add, Nat.div_one] at h0
  exact h0
theorem lm_half_go {N : Nat} {post : (Nat → Int64) → Prop} (hp : ∀ fa', NA fa' (N / 2) → post fa') (hN : N < nBM) : ∀ (r k : Nat) (fa : Nat → Int64), k + r = 170 →
    (∀ j, j < k → fa j = jZ ((N / 2 / 2 ^ (30 * j) % 2 ^ 30 : Nat) : Int)) → (∀ j, k ≤ j → j < 170 → fa j = jZ ((N / 2 ^ (30 * j) % 2 ^ 30 : Nat) : Int)) → wX6_half_2 post (r + 1) (kZ k) fa := by
  intro r
  induction r with
  | zero =>
    intro k fa hk h1 h2
    unfold wX6_half_2
    refine ⟨fun _ => hp fa (fun j hj => h1 j (by omega)), fun h => absurd ((nt_le (by omega)).mpr (by omega)) h⟩
  | succ r ih =>
    intro k fa hk h1 h2
    unfold wX6_half_2
    refine ⟨fun h => absurd ((nt_le (by omega)).mp h) (by omega), fun _ => ⟨⟨fun _ => trivial, fun hg => ?_⟩, fun x2 e2 => ⟨kz_in (by omega) (by decide), fun x4 e4 => ⟨kz_in (by omega) (by decide), fun x5 e5 => ?_⟩⟩⟩⟩
    · rw [nt_s] at hg ⊢
      have : ¬ 170 ≤ k + 1 := fun z => hg ((nt_le (by omega)).mpr z)
      exact kz_in (by omega) (by decide)
    · have hl := NA_lt N k
      have hz : x2 = jZ ((N / 2 ^ (30 * (k + 1)) % 2 ^ 30 % 2 : Nat) : Int) := by
        rw [e2, nt_s]
        by_cases hk1 : 170 ≤ k + 1
        · rw [if_pos ((nt_le (by omega)).mpr hk1)]
          have : N / 2 ^ (30 * (k + 1)) = 0 := Nat.div_eq_of_lt (by
            have e : k + 1 = 170 := by omega
            rw [e]
            exact hN)
          rw [this]
          rfl
        · rw [if_neg (fun z => hk1 ((nt_le (by omega)).mp z)), kZ_cl (by omega), h2 (k + 1) (by omega) (by omega), jZ_mask _ (k := 1) (by decide) (by decide), ← Int.natCast_emod]
      have hv := lb_half N 30 k (by decide)
      rw [kZ_cl (by omega), h2 k (Nat.le_refl _) (by omega), show (1 : Int32) = kZ (1 : Nat) from rfl, jZ_ushr (by omega) (by decide), hz, show (29 : Int32) = kZ (29 : Nat) from rfl, jZ_shl _ (by decide), ← Int.natCast_mul] at e4
      have hb : N / 2 ^ (30 * (k + 1)) % 2 ^ 30 % 2 < 2 := Nat.mod_lt _ (by decide)
      generalize N / 2 ^ (30 * (k + 1)) % 2 ^ 30 % 2 = b at *
      generalize N / 2 ^ (30 * k) % 2 ^ 30 = limb at *
      rw [jZ_or (by omega) (by omega), Nat.or_comm, ← Nat.shiftLeft_eq, ← Nat.shiftLeft_add_eq_or_of_lt (by omega), Nat.shiftLeft_eq] at e4
      rw [e5, nt_s, kZ_cl (by omega)]
      refine ih (k + 1) _ (by omega) (fun j hj => ?_) (fun j hj hj2 => ?_)
      · by_cases hjk : j = k
        · subst hjk
          rw [upd_eq, e4, hv, Nat.add_comm]
        · rw [upd_ne _ _ hjk]; exact h1 j (by omega)
      · rw [upd_ne _ _ (by omega)]; exact h2 j (by omega) hj2
theorem lm_half {fa : Nat → Int64} {N : Nat} (h : NA fa N) (hN : N < nBM) {post : (Nat → Int64) → Prop} (hp : ∀ fa', NA fa' (N / 2) → post fa') : wX6_half fa post :=
  ⟨171, lm_half_go hp hN 170 0 fa rfl (fun j hj => absurd hj (Nat.not_lt_zero j)) (fun j _ hj => h j hj)⟩
