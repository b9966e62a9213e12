/-! floats, plain (5): what rounds alike; rounding twice -/
theorem fq_tri (a b : Rat) : a < b ∨ a = b ∨ b < a := by grind
theorem fq_transfer {f : FP.Core.Fmt} (hf : fq_good f) (s : Bool) {v w : Rat} (hv : 0 < v) (hw : 0 < w)
    (h : ∀ (k : Nat) (u : Int), 1 ≤ k → k < 2 ^ (f.p + 2) → f.qmin - 1 ≤ u → ((v ≤ (k : Rat) * pw2 u → w ≤ (k : Rat) * pw2 u) ∧ ((k : Rat) * pw2 u ≤ v → (k : Rat) * pw2 u ≤ w)) ∧ ((v < (k : Rat) * pw2 u → w < (k : Rat) * pw2 u) ∧ ((k : Rat) * pw2 u < v → (k : Rat) * pw2 u < w))) :
    fq_rv f s w = fq_rv f s v := by
  obtain ⟨q, c, h1, h2, h3⟩ := fq_rv_ex hf s hv
  rw [h3]
  have hN := (fq_NQ hf h1 h2).1
  have e5 := hf.2
  obtain ⟨q1, q2, q3⟩ := h1
  obtain ⟨c1, c2, c3, c4⟩ := h2
  have hp2 : 2 ^ (f.p + 2) = 4 * 2 ^ f.p := by rw [Nat.pow_add]; omega
  have hpos := Nat.two_pow_pos f.p
  have hwu : w * pw2 (-q) * pw2 q = w := fq_unit
  have hvu : v * pw2 (-q) * pw2 q = v := fq_unit
  have hqm : pw2 q = 2 * pw2 (q - 1) := by rw [← pw2_succ]; congr 1; omega
  have hqm' := pw2_pos (q - 1)
  rw [hqm] at hwu hvu
  have h1pw : ∀ u : Int, ((1 : Nat) : Rat) * pw2 u = pw2 u := fun u => by rw [show ((1 : Nat) : Rat) = 1 from rfl, Rat.one_mul]
  have g1 : 1 < 2 ^ (f.p + 2) := by omega
  refine fq_rv_spec hf s hw ⟨q1, ?_, ?_⟩ ⟨?_, ?_, ?_, ?_⟩
  · have := ((h 1 (q + f.p) (Nat.le_refl _) g1 (by omega)).2).1
    rw [h1pw] at this
    exact this q2
  · rcases q3 with h4 | h4
    · exact Or.inl h4
    · right
      have := ((h 1 (q + f.p - 1) (Nat.le_refl _) g1 (by omega)).1).2
      rw [h1pw] at this
      exact this h4
  · rcases Nat.eq_zero_or_pos c with h0 | h0
    · rw [h0, show ((0 : Nat) : Rat) = 0 from rfl]
      have := Rat.mul_pos hw (pw2_pos (-q))
      grind
    · have := ((h (2 * c - 1) (q - 1) (by omega) (by omega) (by omega)).1).2
      have hc : ((2 * c - 1 : Nat) : Rat) = 2 * (c : Rat) - 1 := by
        have h9 : ((2 * c : Nat) : Rat) = ((2 * c - 1 + 1 : Nat) : Rat) := by congr 1; omega
        rw [Rat.natCast_add, Rat.natCast_mul, Rat.natCast_ofNat, show ((1 : Nat) : Rat) = 1 from rfl] at h9
        grind
      rw [hc] at this
      generalize pw2 (q - 1) = P at *
      generalize w * pw2 (-q) = y at *
      generalize v * pw2 (-q) = x at *
      have h6 : (2 * (c : Rat) - 1) * P ≤ v := by
        have := Rat.mul_le_mul_of_nonneg_right (show 2 * (c : Rat) - 1 ≤ 2 * x by grind) (Rat.le_of_lt hqm')
        grind
      have h7 := this h6
      have h8 : (2 * (c : Rat) - 1) * P ≤ (2 * y) * P := by grind
      have := Rat.le_of_mul_le_mul_right h8 hqm'
      grind
  · have := ((h (2 * c + 1) (q - 1) (by omega) (by omega) (by omega)).1).1
    have hc : ((2 * c + 1 : Nat) : Rat) = 2 * (c : Rat) + 1 := by
      rw [Rat.natCast_add, Rat.natCast_mul, Rat.natCast_ofNat, show ((1 : Nat) : Rat) = 1 from rfl]
    rw [hc] at this
    generalize pw2 (q - 1) = P at *
    generalize w * pw2 (-q) = y at *
    generalize v * pw2 (-q) = x at *
    have h6 : v ≤ (2 * (c : Rat) + 1) * P := by
      have := Rat.mul_le_mul_of_nonneg_right c2 (Rat.le_of_lt hqm')
      grind
    have h7 := this h6
    have h8 : (2 * y) * P ≤ (2 * (c : Rat) + 1) * P := by grind
    exact Rat.le_of_mul_le_mul_right h8 hqm'
  · intro heq
    have hh := h (2 * c + 1) (q - 1) (by omega) (by omega) (by omega)
    have hc : ((2 * c + 1 : Nat) : Rat) = 2 * (c : Rat) + 1 := by
      rw [Rat.natCast_add, Rat.natCast_mul, Rat.natCast_ofNat, show ((1 : Nat) : Rat) = 1 from rfl]
    rw [hc] at hh
    generalize pw2 (q - 1) = P at *
    generalize w * pw2 (-q) = y at *
    have hwe : w = (2 * (c : Rat) + 1) * P := by
      rw [← heq]
      grind
    have hve : v = (2 * (c : Rat) + 1) * P := by
      rcases fq_tri v ((2 * (c : Rat) + 1) * P) with h5 | h5 | h5
      · have := hh.2.1 h5
        rw [hwe] at this
        exact absurd this Rat.lt_irrefl
      · exact h5
      · have := hh.2.2 h5
        rw [hwe] at this
        exact absurd this Rat.lt_irrefl
    refine c3 ?_
    generalize v * pw2 (-q) = x at *
    have h8 : (2 * x) * P = (2 * (c : Rat) + 1) * P := by grind
    exact fq_cancel hqm' h8
  · intro heq
    rcases Nat.eq_zero_or_pos c with h0 | h0
    · rw [h0]
    · have hh := h (2 * c - 1) (q - 1) (by omega) (by omega) (by omega)
      have hc : ((2 * c - 1 : Nat) : Rat) = 2 * (c : Rat) - 1 := by
        have h9 : ((2 * c : Nat) : Rat) = ((2 * c - 1 + 1 : Nat) : Rat) := by congr 1; omega
        rw [Rat.natCast_add, Rat.natCast_mul, Rat.natCast_ofNat, show ((1 : Nat) : Rat) = 1 from rfl] at h9
        grind
      rw [hc] at hh
      generalize pw2 (q - 1) = P at *
      generalize w * pw2 (-q) = y at *
      have hwe : w = (2 * (c : Rat) - 1) * P := by grind
      have hve : v = (2 * (c : Rat) - 1) * P := by
        rcases fq_tri v ((2 * (c : Rat) - 1) * P) with h5 | h5 | h5
        · have := hh.2.1 h5
          rw [hwe] at this
          exact absurd this Rat.lt_irrefl
        · exact h5
        · have := hh.2.2 h5
          rw [hwe] at this
          exact absurd this Rat.lt_irrefl
      refine c4 ?_
      generalize v * pw2 (-q) = x at *
      have h8 : (2 * (c : Rat)) * P = (2 * x + 1) * P := by grind
      exact fq_cancel hqm' h8
/-- rounded to doubles first -/
def dr_ok (v : Rat) : Prop := ∀ s : Bool, ∃ (c : Nat) (q : Int), fq_rv FP.Core.b64 s v = .fin s c q ∧ fq_rv FP.Core.b32 s ((c : Rat) * pw2 q) = fq_rv FP.Core.b32 s v
theorem qn64 : FP.Core.b64.qmin = -1074 ∧ FP.Core.b64.qmax = 971 ∧ FP.Core.b64.p = 53 := by decide
theorem qn32 : FP.Core.b32.qmin = -149 ∧ FP.Core.b32.qmax = 104 ∧ FP.Core.b32.p = 24 := by decide
theorem dr_exact {c : Nat} {q : Int} (hc : c < 9007199254740992) (h1 : -1074 ≤ q) (h2 : q ≤ 971) : dr_ok ((c : Rat) * pw2 q) := by
  intro s
  obtain ⟨c', q', k1, k2, k3⟩ := fq_exact fq_g64 s (c := c) (q := q) hc (by rw [qn64.1]; exact h1) (by rw [qn64.2.1]; exact h2)
  exact ⟨c', q', k1, by rw [k3]⟩
/-- near a number of the format, so near that it is hit -/
theorem dr_near (s : Bool) {c : Nat} {q : Int} {v : Rat} (h1 : 8388608 ≤ c) (h2 : c < 16777216) (hq : -149 < q) (l : ((32 * c - 1 : Nat) : Rat) * pw2 (q - 5) ≤ v) (u : v ≤ ((32 * c + 1 : Nat) : Rat) * pw2 (q - 5)) : fq_rv FP.Core.b32 s v = FP.Core.settle FP.Core.b32 s c q := by
  have hP := pw2_pos (q - 5)
  have e1 : pw2 q = 32 * pw2 (q - 5) := by
    rw [show q = (q - 5) + ((5 : Nat) : Int) by omega, pw2_add, pw2_nat, show (q - 5 + ((5 : Nat) : Int)) - 5 = q - 5 by omega, show ((2 ^ 5 : Nat) : Rat) = 32 from rfl, Rat.mul_comm]
  have hc1 : ((32 * c - 1 : Nat) : Rat) = 32 * (c : Rat) - 1 := by
    have h9 : ((32 * c : Nat) : Rat) = ((32 * c - 1 + 1 : Nat) : Rat) := by congr 1; omega
    rw [Rat.natCast_add, Rat.natCast_mul, Rat.natCast_ofNat, show ((1 : Nat) : Rat) = 1 from rfl] at h9
    grind
  have hc2 : ((32 * c + 1 : Nat) : Rat) = 32 * (c : Rat) + 1 := by
    rw [Rat.natCast_add, Rat.natCast_mul, Rat.natCast_ofNat, show ((1 : Nat) : Rat) = 1 from rfl]
  rw [hc1] at l
  rw [hc2] at u
  have hcr : (8388608 : Rat) ≤ (c : Rat) := by have := fq_cle h1; exact this
  have hcr2 : (c : Rat) ≤ 16777215 := by have := fq_cle (show c ≤ 16777215 by omega); exact this
  have hv : 0 < v := by
    have := Rat.mul_pos (show (0 : Rat) < 32 * (c : Rat) - 1 by grind) hP
    grind
  have e24 : pw2 (q + (24 : Int)) = 16777216 * pw2 q := by
    rw [pw2_add, show (24 : Int) = ((24 : Nat) : Int) from rfl, pw2_nat, Rat.mul_comm]; rfl
  have e23 : pw2 (q + (24 : Int) - 1) = 8388608 * pw2 q := by
    rw [show q + (24 : Int) - 1 = q + ((23 : Nat) : Int) by omega, pw2_add, pw2_nat, Rat.mul_comm]; rfl
  have e22 : pw2 (q - 1 + (24 : Int) - 1) = 4194304 * pw2 q := by
    rw [show q - 1 + (24 : Int) - 1 = q + ((22 : Nat) : Int) by omega, pw2_add, pw2_nat, Rat.mul_comm]; rfl
  have ei := pw2_neg q
  have hu : v * pw2 (-q) * pw2 q = v := fq_unit
  by_cases hlow : pw2 (q + (24 : Int) - 1) ≤ v
  · refine fq_rv_spec fq_g32 s hv ⟨by rw [qn32.1]; omega, ?_, Or.inr ?_⟩ ?_
    · rw [qn32.2.2]
      show v < pw2 (q + (24 : Int))
      rw [e24, e1]
      have := Rat.mul_le_mul_of_nonneg_right (show 32 * (c : Rat) + 1 ≤ 536870881 by grind) (Rat.le_of_lt hP)
      grind
    · rw [qn32.2.2]; exact hlow
    · rw [e1] at hu
      generalize pw2 (q - 5) = P at *
      generalize v * pw2 (-q) = x at *
      have hx1 : (32 * (c : Rat) - 1) * P ≤ (32 * x) * P := by grind
      have hx2 : (32 * x) * P ≤ (32 * (c : Rat) + 1) * P := by grind
      have y1 := Rat.le_of_mul_le_mul_right hx1 hP
      have y2 := Rat.le_of_mul_le_mul_right hx2 hP
      exact ⟨by grind, by grind, fun h => by exfalso; grind, fun h => by exfalso; grind⟩
  · have hlt : v < 8388608 * pw2 q := by rw [← e23]; exact Rat.not_le.mp hlow
    have hc : c = 8388608 := by
      rcases Nat.lt_or_ge 8388608 c with h | h
      · exfalso
        have h9 : (8388609 : Rat) ≤ (c : Rat) := by have := fq_cle (show 8388609 ≤ c from h); exact this
        have := Rat.mul_le_mul_of_nonneg_right (show (268435487 : Rat) ≤ 32 * (c : Rat) - 1 by grind) (Rat.le_of_lt hP)
        rw [e1] at hlt
        grind
      · omega
    subst hc
    have hset : FP.Core.settle FP.Core.b32 s 16777216 (q - 1) = FP.Core.settle FP.Core.b32 s 8388608 q := by
      unfold FP.Core.settle
      rw [if_neg (by decide), if_pos (by decide), show q - 1 + 1 = q by omega]
      rfl
    rw [← hset]
    refine fq_rv_spec fq_g32 s hv ⟨by rw [qn32.1]; omega, ?_, Or.inr ?_⟩ ?_
    · rw [qn32.2.2]
      show v < pw2 (q - 1 + (24 : Int))
      rw [show q - 1 + (24 : Int) = q + (24 : Int) - 1 by omega, e23]
      exact hlt
    · rw [qn32.2.2]
      show pw2 (q - 1 + (24 : Int) - 1) ≤ v
      rw [e22, e1]
      have h9 : (((8388608 : Nat)) : Rat) = 8388608 := rfl
      grind
    · have e3 : pw2 (-(q - 1)) = 2 * pw2 (-q) := by rw [← pw2_succ]; congr 1; omega
      rw [e3]
      have h9 : (((8388608 : Nat)) : Rat) = 8388608 := rfl
      have h10 : (((16777216 : Nat)) : Rat) = 16777216 := rfl
      rw [h9] at l u
      rw [e1] at hu hlt
      have hx : v * (2 * pw2 (-q)) = 2 * (v * pw2 (-q)) := by grind
      rw [hx]
      generalize pw2 (q - 5) = P at *
      generalize v * pw2 (-q) = x at *
      have hx1 : (32 * 8388608 - 1) * P ≤ (32 * x) * P := by grind
      have hx2 : (32 * x) * P ≤ (32 * 8388608) * P := by grind
      have y1 := Rat.le_of_mul_le_mul_right hx1 hP
      have y2 := Rat.le_of_mul_le_mul_right hx2 hP
      exact ⟨by grind, by grind, fun h => by exfalso; grind, fun h => by exfalso; grind⟩
