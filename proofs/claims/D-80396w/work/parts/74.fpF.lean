/-! floats, plain (6): sums, products, quotients of floats, rounded to doubles first -/
theorem dr_prod {c d : Nat} {q r : Int} (hc : c < 16777216) (hd : d < 16777216) (h1 : -149 ≤ q) (h2 : q ≤ 104) (h3 : -149 ≤ r) (h4 : r ≤ 104) : dr_ok (((c : Rat) * pw2 q) * ((d : Rat) * pw2 r)) := by
  have e : ((c : Rat) * pw2 q) * ((d : Rat) * pw2 r) = ((c * d : Nat) : Rat) * pw2 (q + r) := by
    rw [Rat.natCast_mul, pw2_add]
    grind
  rw [e]
  refine dr_exact ?_ (by omega) (by omega)
  have := Nat.mul_le_mul (Nat.le_of_lt hc) (Nat.le_of_lt hd)
  omega
theorem dr_add {c d : Nat} {q r : Int} (hc : c < 16777216) (hd : d < 16777216) (hr : -149 ≤ r) (hqr : r ≤ q) (hq : q ≤ 104) (hn : q = -149 ∨ 8388608 ≤ c) {v : Rat} (h0 : 0 ≤ v)
    (hv : v = (c : Rat) * pw2 q + (d : Rat) * pw2 r ∨ v = (c : Rat) * pw2 q - (d : Rat) * pw2 r ∨ v = (d : Rat) * pw2 r - (c : Rat) * pw2 q) : dr_ok v := by
  obtain ⟨n, rfl⟩ := Int.le.dest hqr
  have hP := pw2_pos r
  have eX : (c : Rat) * pw2 (r + (n : Int)) = ((c * 2 ^ n : Nat) : Rat) * pw2 r := by
    rw [pw2_add, pw2_nat, Rat.natCast_mul]
    grind
  by_cases hn28 : n ≤ 28
  · have hb : c * 2 ^ n < 16777216 * 2 ^ 28 := by
      refine Nat.lt_of_le_of_lt (Nat.mul_le_mul_left _ (Nat.pow_le_pow_right (by decide) hn28)) ?_
      omega
    rw [eX] at hv
    generalize c * 2 ^ n = z at *
    have key : ∀ {A B : Nat} {x : Rat}, 0 ≤ x → x = (A : Rat) * pw2 r - (B : Rat) * pw2 r → A < 16777216 * 2 ^ 28 → dr_ok x := by
      intro A B x hx0 hx hA
      have hle : B ≤ A := by
        rcases Nat.lt_or_ge A B with h | h
        · exfalso
          have := fq_mpwl (e := r) (fq_clt h)
          grind
        · exact h
      have e9 : x = ((A - B : Nat) : Rat) * pw2 r := by
        have h9 : (A : Rat) = ((A - B + B : Nat) : Rat) := by congr 1; omega
        rw [Rat.natCast_add] at h9
        rw [hx, h9]
        grind
      rw [e9]
      exact dr_exact (by omega) (by omega) (by omega)
    rcases hv with hv | hv | hv
    · have e9 : v = ((z + d : Nat) : Rat) * pw2 r := by
        rw [hv, Rat.natCast_add]
        grind
      rw [e9]
      exact dr_exact (by omega) (by omega) (by omega)
    · exact key h0 hv hb
    · exact key h0 hv (by omega)
  · have hc2 : 8388608 ≤ c := by rcases hn with h | h; omega; exact h
    have e5 : pw2 (r + (n : Int)) = 32 * pw2 (r + (n : Int) - 5) := by
      rw [show r + (n : Int) = (r + (n : Int) - 5) + ((5 : Nat) : Int) by omega, pw2_add, pw2_nat, show (r + (n : Int) - 5 + ((5 : Nat) : Int)) - 5 = r + (n : Int) - 5 by omega, show ((2 ^ 5 : Nat) : Rat) = 32 from rfl, Rat.mul_comm]
    have hY : (d : Rat) * pw2 r ≤ pw2 (r + (n : Int) - 5) := by
      have h1 := fq_mpw (e := r) (fq_cle (Nat.le_of_lt hd))
      rw [show ((16777216 : Nat) : Rat) = pw2 ((24 : Nat) : Int) by rw [pw2_nat], ← pw2_add] at h1
      exact Rat.le_trans h1 (pw2_le (by omega))
    have hY0 : 0 ≤ (d : Rat) * pw2 r := Rat.mul_nonneg Rat.natCast_nonneg (Rat.le_of_lt hP)
    have hP5 := pw2_pos (r + (n : Int) - 5)
    have hc1r : ((32 * c - 1 : Nat) : Rat) = 32 * (c : Rat) - 1 := by
      have h9 : ((32 * c : Nat) : Rat) = ((32 * c - 1 + 1 : Nat) : Rat) := by congr 1; omega
      rw [Rat.natCast_add, Rat.natCast_mul, Rat.natCast_ofNat, show ((1 : Nat) : Rat) = 1 from rfl] at h9
      grind
    have hc2r : ((32 * c + 1 : Nat) : Rat) = 32 * (c : Rat) + 1 := by
      rw [Rat.natCast_add, Rat.natCast_mul, Rat.natCast_ofNat, show ((1 : Nat) : Rat) = 1 from rfl]
    have hcr : (8388608 : Rat) ≤ (c : Rat) := by have := fq_cle hc2; exact this
    have hcP := Rat.mul_le_mul_of_nonneg_right hcr (Rat.le_of_lt hP5)
    have hl : ((32 * c - 1 : Nat) : Rat) * pw2 (r + (n : Int) - 5) ≤ v := by
      rw [hc1r]
      rw [e5] at hv
      generalize (d : Rat) * pw2 r = Y at *
      generalize pw2 (r + (n : Int) - 5) = P at *
      rcases hv with hv | hv | hv <;> grind
    have hu : v ≤ ((32 * c + 1 : Nat) : Rat) * pw2 (r + (n : Int) - 5) := by
      rw [hc2r]
      rw [e5] at hv
      generalize (d : Rat) * pw2 r = Y at *
      generalize pw2 (r + (n : Int) - 5) = P at *
      rcases hv with hv | hv | hv <;> grind
    intro s
    rcases fq_rv_cases fq_g64 s h0 with ⟨c', q', k1, k2, k3⟩ | ⟨k1, k2⟩
    · refine ⟨c', q', k1, ?_⟩
      have w1 := (k3 (32 * c - 1) (r + (n : Int) - 5) (by rw [qn64.2.2]; omega) (by rw [qn64.1]; omega)).2 hl
      have w2 := (k3 (32 * c + 1) (r + (n : Int) - 5) (by rw [qn64.2.2]; omega) (by rw [qn64.1]; omega)).1 hu
      rw [dr_near s hc2 hc (by omega) w1 w2, dr_near s hc2 hc (by omega) hl hu]
    · have := k2 (32 * c + 1) (r + (n : Int) - 5) (by rw [qn64.2.2]; omega) (by rw [qn64.1]; omega) (by rw [qn64.2.1]; omega)
      exact absurd hu (Rat.not_le.mpr this)
theorem dr_sum {s t : Bool} {c d : Nat} {q r : Int} (h1 : FP.Core.fits FP.Core.b32 (.fin s c q)) (h2 : FP.Core.fits FP.Core.b32 (.fin t d r)) :
    dr_ok (if fq_sg s * ((c : Rat) * pw2 q) + fq_sg t * ((d : Rat) * pw2 r) < 0 then -(fq_sg s * ((c : Rat) * pw2 q) + fq_sg t * ((d : Rat) * pw2 r)) else fq_sg s * ((c : Rat) * pw2 q) + fq_sg t * ((d : Rat) * pw2 r)) := by
  obtain ⟨a1, a2, a3, a4⟩ := h1
  obtain ⟨b1, b2, b3, b4⟩ := h2
  obtain ⟨g1, g2, g3⟩ := qn32
  rw [g1] at a2 a4 b2 b4
  rw [g2] at a3 b3
  have ht : FP.Core.b32.tails = 8388608 := by decide
  rw [ht] at a4 b4
  have hp : 2 ^ FP.Core.b32.p = 16777216 := by decide
  rw [hp] at a1 b1
  have hs : fq_sg s = 1 ∨ fq_sg s = -1 := by cases s; exact Or.inl rfl; exact Or.inr rfl
  have hs2 : fq_sg t = 1 ∨ fq_sg t = -1 := by cases t; exact Or.inl rfl; exact Or.inr rfl
  have hX : 0 ≤ (c : Rat) * pw2 q := Rat.mul_nonneg Rat.natCast_nonneg (Rat.le_of_lt (pw2_pos q))
  have hY : 0 ≤ (d : Rat) * pw2 r := Rat.mul_nonneg Rat.natCast_nonneg (Rat.le_of_lt (pw2_pos r))
  rcases Int.le_total r q with hle | hle
  · refine dr_add (c := c) (d := d) a1 b1 b2 hle a3 a4 ?_ ?_
    · generalize (c : Rat) * pw2 q = X at *
      generalize (d : Rat) * pw2 r = Y at *
      split <;> grind
    · generalize (c : Rat) * pw2 q = X at *
      generalize (d : Rat) * pw2 r = Y at *
      rcases hs with hs | hs <;> rcases hs2 with hs2 | hs2 <;> rw [hs, hs2] <;> split <;> grind
  · refine dr_add (c := d) (d := c) b1 a1 a2 hle b3 b4 ?_ ?_
    · generalize (c : Rat) * pw2 q = X at *
      generalize (d : Rat) * pw2 r = Y at *
      split <;> grind
    · generalize (c : Rat) * pw2 q = X at *
      generalize (d : Rat) * pw2 r = Y at *
      rcases hs with hs | hs <;> rcases hs2 with hs2 | hs2 <;> rw [hs, hs2] <;> split <;> grind
theorem nl_mul {x y p : Nat} (h : x * p < y * p) : x * p + p ≤ y * p := by
  have h1 : x < y := Nat.lt_of_mul_lt_mul_right h
  have h2 := Nat.mul_le_mul_right p (show x + 1 ≤ y from h1)
  rw [Nat.add_mul, Nat.one_mul] at h2
  exact h2
theorem nl_1 {c d k a b : Nat} (hc : c < 16777216) (hd0 : 0 < d) (hd : d < 16777216) (hk : 1 ≤ k) (hab : a = 0 ∨ b = 0) (h : c * 2 ^ a < d * k * 2 ^ 27 * 2 ^ b) : c * 2 ^ a + d * 2 ^ b ≤ d * k * 2 ^ 27 * 2 ^ b := by
  have hdk : d ≤ d * k := Nat.le_mul_of_pos_right d hk
  rcases hab with rfl | rfl
  · rw [Nat.pow_zero, Nat.mul_one] at h ⊢
    have hb := Nat.two_pow_pos b
    have h1 : d * 2 ^ b ≤ d * k * 2 ^ b := Nat.mul_le_mul_right _ hdk
    have h2 : 1 ≤ d * 2 ^ b := Nat.mul_pos hd0 hb
    rw [Nat.mul_right_comm (d * k)]
    generalize d * k * 2 ^ b = z at *
    omega
  · rw [Nat.pow_zero, Nat.mul_one] at h ⊢
    rw [Nat.mul_one]
    rcases Nat.le_total 27 a with ha | ha
    · obtain ⟨z, rfl⟩ := Nat.exists_eq_add_of_le ha
      rw [Nat.add_comm 27 z, Nat.pow_add, ← Nat.mul_assoc] at h ⊢
      have := nl_mul h
      omega
    · obtain ⟨z, hz⟩ := Nat.exists_eq_add_of_le ha
      have e : d * k * 2 ^ 27 = d * k * 2 ^ z * 2 ^ a := by rw [Nat.mul_assoc (d * k) (2 ^ z), ← Nat.pow_add, Nat.add_comm z a, ← hz]
      rcases Nat.le_total d (2 ^ a) with h5 | h5
      · rw [e] at h ⊢
        have := nl_mul h
        omega
      · have h6 : c * 2 ^ a ≤ 16777216 * d := Nat.mul_le_mul (Nat.le_of_lt hc) h5
        have h7 : d * 2 ^ 27 ≤ d * k * 2 ^ 27 := Nat.mul_le_mul_right _ hdk
        refine Nat.le_trans (Nat.add_le_add_right h6 d) (Nat.le_trans ?_ h7)
        clear h e h6 h7
        omega
theorem nl_2 {c d k a b : Nat} (hc : c < 16777216) (hd0 : 0 < d) (hd : d < 16777216) (hk : 1 ≤ k) (hab : a = 0 ∨ b = 0) (h : d * k * 2 ^ 27 * 2 ^ b < c * 2 ^ a) : d * k * 2 ^ 27 * 2 ^ b + d * 2 ^ b ≤ c * 2 ^ a := by
  have hdk : d ≤ d * k := Nat.le_mul_of_pos_right d hk
  rcases hab with rfl | rfl
  · rw [Nat.pow_zero, Nat.mul_one] at h ⊢
    have hb := Nat.two_pow_pos b
    have h1 : 1 ≤ d * k * 2 ^ b := Nat.mul_pos (Nat.mul_pos hd0 hk) hb
    rw [Nat.mul_right_comm (d * k)] at h
    generalize d * k * 2 ^ b = z at *
    omega
  · rw [Nat.pow_zero, Nat.mul_one] at h ⊢
    rw [Nat.mul_one]
    rcases Nat.le_total 27 a with ha | ha
    · obtain ⟨z, rfl⟩ := Nat.exists_eq_add_of_le ha
      rw [Nat.add_comm 27 z, Nat.pow_add, ← Nat.mul_assoc] at h ⊢
      have := nl_mul h
      omega
    · obtain ⟨z, hz⟩ := Nat.exists_eq_add_of_le ha
      have e : d * k * 2 ^ 27 = d * k * 2 ^ z * 2 ^ a := by rw [Nat.mul_assoc (d * k) (2 ^ z), ← Nat.pow_add, Nat.add_comm z a, ← hz]
      rcases Nat.le_total d (2 ^ a) with h5 | h5
      · rw [e] at h ⊢
        have := nl_mul h
        omega
      · have h6 : c * 2 ^ a ≤ 16777216 * d := Nat.mul_le_mul (Nat.le_of_lt hc) h5
        have h7 : d * 2 ^ 27 ≤ d * k * 2 ^ 27 := Nat.mul_le_mul_right _ hdk
        have h8 := Nat.lt_of_le_of_lt h7 (Nat.lt_of_lt_of_le h h6)
        clear h e h6 h7
        omega
theorem fq_base2 (e d : Int) : ∃ (m : Int) (x y : Nat), e = m + x ∧ d = m + y ∧ (x = 0 ∨ y = 0) := ⟨min e d, (e - min e d).toNat, (d - min e d).toNat, by omega, by omega, by omega⟩
theorem dr_div {c d : Nat} {q r : Int} (hc0 : 0 < c) (hc : c < 16777216) (hd0 : 0 < d) (hd : d < 16777216) (h1 : -149 ≤ q) (h2 : q ≤ 104) (h3 : -149 ≤ r) (h4 : r ≤ 104) : dr_ok (((c : Rat) * pw2 q) / ((d : Rat) * pw2 r)) := by
  have hcr := fq_cpos hc0
  have hdr := fq_cpos hd0
  have hpr := pw2_pos r
  have hps := pw2_pos (q - r)
  have hv : ((c : Rat) * pw2 q) / ((d : Rat) * pw2 r) = (c : Rat) / (d : Rat) * pw2 (q - r) := by
    have e3 : pw2 q = pw2 (q - r) * pw2 r := by rw [← pw2_add]; congr 1; omega
    have n1 : (d : Rat) ≠ 0 := fun h => by rw [h] at hdr; exact absurd hdr Rat.lt_irrefl
    have n2 : pw2 r ≠ 0 := fun h => by rw [h] at hpr; exact absurd hpr Rat.lt_irrefl
    rw [e3]
    grind
  rw [hv]
  obtain ⟨s0, hs0⟩ : ∃ s0 : Int, s0 = q - r := ⟨_, rfl⟩
  rw [← hs0] at hps ⊢
  have hvd : (c : Rat) / (d : Rat) * pw2 s0 * (d : Rat) = (c : Rat) * pw2 s0 := by
    have n1 : (d : Rat) ≠ 0 := fun h => by rw [h] at hdr; exact absurd hdr Rat.lt_irrefl
    grind
  generalize (c : Rat) / (d : Rat) * pw2 s0 = v at *
  have cmp : ∀ (m : Nat) (u : Int), (v ≤ (m : Rat) * pw2 u ↔ (c : Rat) * pw2 s0 ≤ ((d * m : Nat) : Rat) * pw2 u) := by
    intro m u
    rw [← hvd, Rat.natCast_mul]
    constructor
    · intro h
      have := Rat.mul_le_mul_of_nonneg_right h (Rat.le_of_lt hdr)
      grind
    · intro h
      refine Rat.le_of_mul_le_mul_right (c := (d : Rat)) ?_ hdr
      grind
  have cmp2 : ∀ (m : Nat) (u : Int), ((m : Rat) * pw2 u ≤ v ↔ ((d * m : Nat) : Rat) * pw2 u ≤ (c : Rat) * pw2 s0) := by
    intro m u
    rw [← hvd, Rat.natCast_mul]
    constructor
    · intro h
      have := Rat.mul_le_mul_of_nonneg_right h (Rat.le_of_lt hdr)
      grind
    · intro h
      refine Rat.le_of_mul_le_mul_right (c := (d : Rat)) ?_ hdr
      grind
  have inN : ∀ (A B x y : Nat) (m : Int), ((A : Rat) * pw2 (m + x) ≤ (B : Rat) * pw2 (m + y) ↔ A * 2 ^ x ≤ B * 2 ^ y) := by
    intro A B x y m
    rw [pw2_add, pw2_add, pw2_nat, pw2_nat, ← Rat.natCast_le_natCast, Rat.natCast_mul, Rat.natCast_mul]
    have hm := pw2_pos m
    constructor
    · intro h
      refine Rat.le_of_mul_le_mul_right (c := pw2 m) ?_ hm
      grind
    · intro h
      have := Rat.mul_le_mul_of_nonneg_right h (Rat.le_of_lt hm)
      grind
  have hv0 : pw2 (-1074) ≤ v := by
    have := (cmp2 1 (-1074)).mpr
    rw [show ((1 : Nat) : Rat) = 1 from rfl, Rat.one_mul] at this
    refine this ?_
    obtain ⟨z, hz⟩ := Int.le.dest (show (-1074 : Int) ≤ s0 by omega)
    have h9 := (inN (d * 1) c 0 z (-1074)).mpr (by
      rw [Nat.pow_zero, Nat.mul_one, Nat.mul_one]
      have hz2 : 2 ^ 24 ≤ 2 ^ z := Nat.pow_le_pow_right (by decide) (by omega)
      have : 1 * 2 ^ z ≤ c * 2 ^ z := Nat.mul_le_mul_right _ hc0
      omega)
    rw [hz, show (-1074 : Int) + ((0 : Nat) : Int) = -1074 from rfl] at h9
    exact h9
  have hvp : 0 < v := Std.lt_of_lt_of_le (pw2_pos _) hv0
  intro s
  rcases fq_rv_cases fq_g64 s (Rat.le_of_lt hvp) with ⟨c', q', k1, k2, k3⟩ | ⟨k1, k2⟩
  · refine ⟨c', q', k1, ?_⟩
    have k3' : ∀ (k : Nat) (u : Int), k < 9007199254740992 → -1074 ≤ u → (v ≤ (k : Rat) * pw2 u → (c' : Rat) * pw2 q' ≤ (k : Rat) * pw2 u) ∧ ((k : Rat) * pw2 u ≤ v → (k : Rat) * pw2 u ≤ (c' : Rat) * pw2 q') := fun k u a b => k3 k u (by rw [qn64.2.2]; exact a) (by rw [qn64.1]; exact b)
    have hw0 : 0 < (c' : Rat) * pw2 q' := by
      have := (k3' 1 (-1074) (by omega) (by omega)).2 (by rw [show ((1 : Nat) : Rat) = 1 from rfl, Rat.one_mul]; exact hv0)
      rw [show ((1 : Nat) : Rat) = 1 from rfl, Rat.one_mul] at this
      exact Std.lt_of_lt_of_le (pw2_pos _) this
    refine fq_transfer fq_g32 s hvp hw0 (fun k u hk1 hk2 hu => ?_)
    rw [qn32.2.2] at hk2
    rw [qn32.1] at hu
    have hk3 : k < 67108864 := hk2
    obtain ⟨m0, m1⟩ := k3' k u (by omega) (by omega)
    refine ⟨⟨m0, m1⟩, fun hlt => ?_, fun hlt => ?_⟩
    · obtain ⟨m, x, y, e1, e2, e3⟩ := fq_base2 s0 (u - 27)
      have eu : (k : Rat) * pw2 u = ((k * 2 ^ 27 : Nat) : Rat) * pw2 (u - 27) := by
        rw [Rat.natCast_mul, ← pw2_nat, Rat.mul_assoc, ← pw2_add]; congr 2; omega
      have h5 : ¬ ((k * 2 ^ 27 : Nat) : Rat) * pw2 (u - 27) ≤ v := by rw [← eu]; exact Rat.not_le.mpr hlt
      rw [cmp2, e1, e2, inN] at h5
      have h6 := nl_1 (c := c) (d := d) (k := k) (a := x) (b := y) hc hd0 hd hk1 e3 (by rw [Nat.mul_assoc d k]; omega)
      have h7 : v ≤ ((k * 2 ^ 27 - 1 : Nat) : Rat) * pw2 (u - 27) := by
        rw [cmp, e1, e2, inN, Nat.mul_sub, Nat.sub_mul, Nat.mul_one]
        rw [Nat.mul_assoc d k] at h6
        omega
      have h8 := (k3' (k * 2 ^ 27 - 1) (u - 27) (by omega) (by omega)).1 h7
      refine Std.lt_of_le_of_lt h8 ?_
      rw [eu]
      exact fq_mpwl (fq_clt (by omega))
    · obtain ⟨m, x, y, e1, e2, e3⟩ := fq_base2 s0 (u - 27)
      have eu : (k : Rat) * pw2 u = ((k * 2 ^ 27 : Nat) : Rat) * pw2 (u - 27) := by
        rw [Rat.natCast_mul, ← pw2_nat, Rat.mul_assoc, ← pw2_add]; congr 2; omega
      have h5 : ¬ v ≤ ((k * 2 ^ 27 : Nat) : Rat) * pw2 (u - 27) := by rw [← eu]; exact Rat.not_le.mpr hlt
      rw [cmp, e1, e2, inN] at h5
      have h6 := nl_2 (c := c) (d := d) (k := k) (a := x) (b := y) hc hd0 hd hk1 e3 (by rw [Nat.mul_assoc d k]; omega)
      have h7 : ((k * 2 ^ 27 + 1 : Nat) : Rat) * pw2 (u - 27) ≤ v := by
        rw [cmp2, e1, e2, inN, Nat.mul_add, Nat.add_mul, Nat.mul_one]
        rw [Nat.mul_assoc d k] at h6
        omega
      have h8 := (k3' (k * 2 ^ 27 + 1) (u - 27) (by omega) (by omega)).2 h7
      refine Std.lt_of_lt_of_le ?_ h8
      rw [eu]
      exact fq_mpwl (fq_clt (by omega))
  · exfalso
    have h9 := k2 1 (900 : Int) (by rw [qn64.2.2]; decide) (by rw [qn64.1]; omega) (by rw [qn64.2.1]; omega)
    refine absurd ((cmp 1 900).mpr ?_) (Rat.not_le.mpr h9)
    obtain ⟨z, hz⟩ := Int.le.dest (show s0 ≤ (900 : Int) by omega)
    have h10 := (inN c (d * 1) 0 z s0).mpr (by
      rw [Nat.pow_zero, Nat.mul_one, Nat.mul_one]
      have hz2 : 2 ^ 24 ≤ 2 ^ z := Nat.pow_le_pow_right (by decide) (by omega)
      have : 1 * 2 ^ z ≤ d * 2 ^ z := Nat.mul_le_mul_right _ hd0
      omega)
    rw [hz, show s0 + ((0 : Nat) : Int) = s0 by omega] at h10
    exact h10
