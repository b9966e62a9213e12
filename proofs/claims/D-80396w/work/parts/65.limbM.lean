/-! great wholes by limbs: arithmetic of the limbs -/
theorem lb_mm (N P B : Nat) : N % (P * B) = N % P + P * (N / P % B) := Nat.mod_mul
theorem lb_t2 {P B : Nat} (hP : 0 < P) (N by_ c : Nat) : ((N % P) * by_ + c) / P + (N / P % B) * by_ = ((N % (P * B)) * by_ + c) / P := by
  rw [lb_mm, Nat.add_mul, Nat.mul_assoc, show N % P * by_ + P * (N / P % B * by_) + c = N % P * by_ + c + P * (N / P % B * by_) by omega, Nat.add_mul_div_left _ _ hP]
theorem lb_t1 {P B : Nat} (hP : 0 < P) (N by_ c : Nat) : (((N % P) * by_ + c) / P + (N / P % B) * by_) % B = (N * by_ + c) / P % B := by
  rw [lb_t2 hP]
  conv => rhs; rw [← Nat.mod_add_div N (P * B)]
  rw [Nat.add_mul, show N % (P * B) * by_ + P * B * (N / (P * B)) * by_ + c = N % (P * B) * by_ + c + P * (B * (N / (P * B) * by_)) by
    rw [Nat.mul_assoc P B, Nat.mul_assoc P, Nat.mul_assoc B]; omega, Nat.add_mul_div_left _ _ hP, Nat.add_mul_mod_self_left]
theorem lb_t3 {P B : Nat} (hP : 0 < P) (N by_ c : Nat) : (((N % P) * by_ + c) / P + (N / P % B) * by_) / B = ((N % (P * B)) * by_ + c) / (P * B) := by
  rw [lb_t2 hP, Nat.div_div_eq_div_mul]
theorem lb_t4 {P : Nat} (hP : 0 < P) (N by_ c : Nat) : ((N % P) * by_ + c) / P ≤ by_ + c := by
  refine Nat.div_le_of_le_mul ?_
  have h1 := Nat.mod_lt N hP
  have h2 : N % P * by_ ≤ P * by_ := Nat.mul_le_mul_right _ (Nat.le_of_lt h1)
  have h3 : c ≤ P * c := Nat.le_mul_of_pos_left c hP
  rw [Nat.mul_add]
  omega
theorem lb_a1 {P B : Nat} (hP : 0 < P) (N M : Nat) : (N / P % B + M / P % B + (N % P + M % P) / P) % B = (N + M) / P % B := by
  have h1 : (N + M) / P = N / P + M / P + (N % P + M % P) / P := by
    conv => lhs; rw [← Nat.mod_add_div N P, ← Nat.mod_add_div M P]
    rw [show N % P + P * (N / P) + (M % P + P * (M / P)) = N % P + M % P + P * (N / P + M / P) by rw [Nat.mul_add]; omega, Nat.add_mul_div_left _ _ hP]
    omega
  rw [h1]
  generalize N / P = x
  generalize M / P = y
  generalize (N % P + M % P) / P = z
  rw [Nat.add_assoc, Nat.mod_add_mod, Nat.add_left_comm, Nat.mod_add_mod]
  congr 1
  omega
theorem lb_a3 {P B : Nat} (hP : 0 < P) (hB : 0 < B) (N M : Nat) : (N / P % B + M / P % B + (N % P + M % P) / P) / B = (N % (P * B) + M % (P * B)) / (P * B) := by
  rw [lb_mm, lb_mm, show N % P + P * (N / P % B) + (M % P + P * (M / P % B)) = N % P + M % P + P * (N / P % B + M / P % B) by rw [Nat.mul_add]; omega, ← Nat.div_div_eq_div_mul, Nat.add_mul_div_left _ _ hP]
  congr 1
  omega
theorem lb_s0 {P : Nat} (hP : 0 < P) {N M : Nat} (h : M ≤ N) : (N - M) / P = N / P - M / P - (if N % P < M % P then 1 else 0) ∧ M / P + (if N % P < M % P then 1 else 0) ≤ N / P := by
  have e1 := Nat.mod_add_div N P
  have e2 := Nat.mod_add_div M P
  have l1 := Nat.mod_lt N hP
  have l2 := Nat.mod_lt M hP
  have hle : M / P ≤ N / P := Nat.div_le_div_right h
  generalize ha : N / P = a at *
  generalize hb : M / P = b at *
  generalize hr : N % P = r at *
  generalize ht : M % P = t at *
  by_cases hlt : r < t
  · rw [if_pos hlt]
    have hab : b + 1 ≤ a := by
      rcases Nat.lt_or_ge b a with h1 | h1
      · exact h1
      · have : a = b := Nat.le_antisymm h1 hle
        subst this
        omega
    refine ⟨?_, hab⟩
    have h2 : N - M = (P + r - t) + P * (a - b - 1) := by
      obtain ⟨z, hz⟩ := Nat.exists_eq_add_of_le hab
      subst hz
      rw [show b + 1 + z - b - 1 = z by omega]
      rw [Nat.mul_add, Nat.mul_add, Nat.mul_one] at e1
      omega
    rw [h2, Nat.add_mul_div_left _ _ hP, Nat.div_eq_of_lt (by omega), Nat.zero_add]
  · rw [if_neg hlt]
    refine ⟨?_, by omega⟩
    have h2 : N - M = (r - t) + P * (a - b) := by
      obtain ⟨z, hz⟩ := Nat.exists_eq_add_of_le hle
      subst hz
      rw [show b + z - b = z by omega]
      rw [Nat.mul_add] at e1
      omega
    rw [h2, Nat.add_mul_div_left _ _ hP, Nat.div_eq_of_lt (by omega), Nat.zero_add]
    omega
theorem lb_s1 {P B : Nat} (hP : 0 < P) (hB : 0 < B) {N M : Nat} (h : M ≤ N) : (((N / P % B : Nat) : Int) - ((M / P % B : Nat) : Int) - (if N % P < M % P then 1 else 0)) % (B : Int) = (((N - M) / P % B : Nat) : Int) := by
  obtain ⟨h1, h2⟩ := lb_s0 hP h
  rw [h1]
  generalize hy : (if N % P < M % P then 1 else 0 : Nat) = y at *
  have hy' : (if N % P < M % P then 1 else 0 : Int) = (y : Int) := by rw [← hy]; split <;> rfl
  rw [hy', Int.natCast_emod, Int.natCast_emod, Int.natCast_emod]
  have h3 : ((N / P - M / P - y : Nat) : Int) = ((N / P : Nat) : Int) - ((M / P : Nat) : Int) - (y : Int) := by omega
  rw [h3]
  generalize ((N / P : Nat) : Int) = a
  generalize ((M / P : Nat) : Int) = b
  have e1 := Int.emod_add_mul_ediv a (B : Int)
  have e2 := Int.emod_add_mul_ediv b (B : Int)
  have h4 : a - b - (y : Int) = a % (B : Int) - b % (B : Int) - (y : Int) + (B : Int) * (a / (B : Int) - b / (B : Int)) := by
    rw [Int.mul_sub]
    omega
  rw [h4, Int.add_mul_emod_self_left]
theorem lb_s3 {P B : Nat} (hP : 0 < P) (N M : Nat) : (((N / P % B : Nat) : Int) - ((M / P % B : Nat) : Int) - (if N % P < M % P then 1 else 0) < 0) ↔ N % (P * B) < M % (P * B) := by
  rw [lb_mm, lb_mm]
  have l1 := Nat.mod_lt N hP
  have l2 := Nat.mod_lt M hP
  generalize N / P % B = a at *
  generalize M / P % B = b at *
  generalize N % P = r at *
  generalize M % P = t at *
  rcases Nat.lt_trichotomy a b with h | h | h
  · obtain ⟨z, rfl⟩ := Nat.exists_eq_add_of_le (show a + 1 ≤ b from h)
    rw [Nat.mul_add, Nat.mul_add, Nat.mul_one]
    generalize P * a = u
    generalize hv : P * z = v
    split <;> omega
  · subst h
    generalize P * a = u
    split <;> omega
  · obtain ⟨z, rfl⟩ := Nat.exists_eq_add_of_le (show b + 1 ≤ a from h)
    rw [Nat.mul_add, Nat.mul_add, Nat.mul_one]
    generalize P * b = u
    generalize hv : P * z = v
    split <;> omega
/-- a limb of a number moved to the left -/
theorem lb_l0 {B c : Nat} (N : Nat) (hc : 2 ^ c = B) {n k : Nat} (h : c * (k + 1) ≤ n) : N * 2 ^ n / 2 ^ (c * k) % B = 0 := by
  obtain ⟨z, rfl⟩ := Nat.exists_eq_add_of_le h
  subst hc
  rw [show c * (k + 1) + z = c * k + (c + z) by rw [Nat.mul_add, Nat.mul_one]; omega, Nat.pow_add 2 (c * k), ← Nat.mul_assoc, Nat.mul_comm N, Nat.mul_assoc, Nat.mul_div_cancel_left _ (Nat.two_pow_pos _), Nat.pow_add, Nat.mul_comm (2 ^ c), ← Nat.mul_assoc, Nat.mul_mod_left]
theorem lb_l1 {c : Nat} (N a b k : Nat) (h : a ≤ k) : N * 2 ^ (c * a + b) / 2 ^ (c * k) = N * 2 ^ b / 2 ^ (c * (k - a)) := by
  obtain ⟨z, rfl⟩ := Nat.exists_eq_add_of_le h
  rw [show a + z - a = z by omega, Nat.mul_add, Nat.pow_add, Nat.pow_add, Nat.mul_comm (2 ^ (c * a)) (2 ^ b), ← Nat.mul_assoc, Nat.mul_comm (2 ^ (c * a)) (2 ^ (c * z))]
  exact Nat.mul_div_mul_right _ _ (Nat.two_pow_pos _)
theorem lb_l2 {c : Nat} (N b : Nat) (hb : b ≤ c) : N * 2 ^ b / 2 ^ (c * 0) % 2 ^ c = N / 2 ^ (c * 0) % 2 ^ c * 2 ^ b % 2 ^ c := by
  rw [Nat.mul_zero, Nat.pow_zero, Nat.div_one, Nat.div_one, Nat.mod_mul_mod]
theorem lb_l3 {c : Nat} (N b j : Nat) (hb : b ≤ c) : N * 2 ^ b / 2 ^ (c * (j + 1)) % 2 ^ c = (N / 2 ^ (c * (j + 1)) % 2 ^ c * 2 ^ b + N / 2 ^ (c * j) % 2 ^ c / 2 ^ (c - b)) % 2 ^ c := by
  obtain ⟨z, rfl⟩ := Nat.exists_eq_add_of_le hb
  rw [show b + z - b = z by omega]
  have e1 : 2 ^ ((b + z) * (j + 1)) = 2 ^ b * (2 ^ ((b + z) * j) * 2 ^ z) := by
    rw [← Nat.pow_add, ← Nat.pow_add]; congr 1; rw [Nat.mul_add, Nat.mul_one]; omega
  have e2 : N * 2 ^ b / 2 ^ ((b + z) * (j + 1)) = N / 2 ^ ((b + z) * j) / 2 ^ z := by
    rw [e1, Nat.mul_comm N, Nat.mul_div_mul_left _ _ (Nat.two_pow_pos _), Nat.div_div_eq_div_mul]
  have e3 : N / 2 ^ ((b + z) * (j + 1)) = N / 2 ^ ((b + z) * j) / 2 ^ (b + z) := by
    rw [Nat.div_div_eq_div_mul, ← Nat.pow_add]; congr 2
  rw [e2, e3]
  generalize N / 2 ^ ((b + z) * j) = Y
  have e4 : Y / 2 ^ z = Y % 2 ^ (b + z) / 2 ^ z + 2 ^ b * (Y / 2 ^ (b + z)) := by
    conv => lhs; rw [← Nat.mod_add_div Y (2 ^ (b + z))]
    rw [show 2 ^ (b + z) * (Y / 2 ^ (b + z)) = 2 ^ z * (2 ^ b * (Y / 2 ^ (b + z))) by rw [← Nat.mul_assoc, ← Nat.pow_add, Nat.add_comm z b], Nat.add_mul_div_left _ _ (Nat.two_pow_pos _)]
  rw [e4]
  conv => rhs; rw [Nat.add_mod, Nat.mod_mul_mod, ← Nat.add_mod]
  rw [Nat.add_comm, Nat.mul_comm (2 ^ b)]
theorem lb_top {c N M j : Nat} (h : N / 2 ^ (c * (j + 1)) = M / 2 ^ (c * (j + 1))) (h2 : N / 2 ^ (c * j) % 2 ^ c = M / 2 ^ (c * j) % 2 ^ c) : N / 2 ^ (c * j) = M / 2 ^ (c * j) := by
  have e : ∀ X : Nat, X / 2 ^ (c * (j + 1)) = X / 2 ^ (c * j) / 2 ^ c := fun X => by
    rw [Nat.div_div_eq_div_mul, ← Nat.pow_add]; congr 2
  rw [e, e] at h
  rw [← Nat.mod_add_div (N / 2 ^ (c * j)) (2 ^ c), h, h2, Nat.mod_add_div]
theorem lb_cmp {c N M j : Nat} (h : N / 2 ^ (c * (j + 1)) = M / 2 ^ (c * (j + 1))) (h2 : N / 2 ^ (c * j) % 2 ^ c < M / 2 ^ (c * j) % 2 ^ c) : N < M := by
  have e : ∀ X : Nat, X / 2 ^ (c * (j + 1)) = X / 2 ^ (c * j) / 2 ^ c := fun X => by
    rw [Nat.div_div_eq_div_mul, ← Nat.pow_add]; congr 2
  rw [e, e] at h
  have h3 : N / 2 ^ (c * j) < M / 2 ^ (c * j) := by
    rw [← Nat.mod_add_div (N / 2 ^ (c * j)) (2 ^ c), ← Nat.mod_add_div (M / 2 ^ (c * j)) (2 ^ c), h]
    omega
  rcases Nat.lt_or_ge N M with h4 | h4
  · exact h4
  · exact absurd (Nat.div_le_div_right (c := 2 ^ (c * j)) h4) (by omega)
theorem lb_half (N c k : Nat) (hc : 1 ≤ c) : N / 2 / 2 ^ (c * k) % 2 ^ c = N / 2 ^ (c * k) % 2 ^ c / 2 + (N / 2 ^ (c * (k + 1)) % 2 ^ c) % 2 * 2 ^ (c - 1) := by
  obtain ⟨z, rfl⟩ := Nat.exists_eq_add_of_le hc
  have e3 : N / 2 ^ ((1 + z) * (k + 1)) = N / 2 ^ ((1 + z) * k) / 2 ^ (1 + z) := by
    rw [Nat.div_div_eq_div_mul, ← Nat.pow_add]; congr 2
  rw [e3, Nat.div_div_eq_div_mul, Nat.mul_comm 2, ← Nat.div_div_eq_div_mul]
  generalize N / 2 ^ ((1 + z) * k) = Y
  rw [show 1 + z - 1 = z by omega, Nat.add_comm 1 z, Nat.pow_succ]
  have hp := Nat.two_pow_pos z
  generalize 2 ^ z = p at *
  have h1 : Y % (p * 2) / 2 = Y / 2 % p := by
    rw [Nat.mul_comm, Nat.mod_mul, Nat.add_mul_div_left _ _ (by decide), Nat.div_eq_of_lt (Nat.mod_lt _ (by decide)), Nat.zero_add]
  have h2 : Y / (p * 2) % (p * 2) % 2 = Y / 2 / p % 2 := by
    rw [Nat.mul_comm p 2, ← Nat.div_div_eq_div_mul, Nat.mod_mul_right_mod]
  rw [h1, h2, Nat.mod_mul, Nat.mul_comm p]
