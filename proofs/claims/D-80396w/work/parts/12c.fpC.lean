/-! floats, plain (3): what a rounding gives -/
theorem fq_leq {a b : Rat} (h : a = b) : a ≤ b := by rw [h]; exact Rat.le_refl
theorem fq_cancel {a b c : Rat} (hc : 0 < c) (h : a * c = b * c) : a = b := Rat.le_antisymm (Rat.le_of_mul_le_mul_right (fq_leq h) hc) (Rat.le_of_mul_le_mul_right (fq_leq h.symm) hc)
theorem fq_tpw {f : FP.Core.Fmt} : ((f.tails : Nat) : Rat) = pw2 ((f.p - 1 : Nat) : Int) := by rw [pw2_nat]; rfl
theorem fq_ppw {f : FP.Core.Fmt} : ((2 ^ f.p : Nat) : Rat) = pw2 (f.p : Int) := by rw [pw2_nat]
theorem fq_mpw {a b : Rat} {e : Int} (h : a ≤ b) : a * pw2 e ≤ b * pw2 e := Rat.mul_le_mul_of_nonneg_right h (Rat.le_of_lt (pw2_pos e))
theorem fq_mpwl {a b : Rat} {e : Int} (h : a < b) : a * pw2 e < b * pw2 e := Rat.mul_lt_mul_of_pos_right h (pw2_pos e)
theorem fq_unit {v : Rat} {q : Int} : v * pw2 (-q) * pw2 q = v := by
  rw [Rat.mul_assoc, ← pw2_add, Int.add_left_neg, pw2_zero, Rat.mul_one]
theorem fq_settle {f : FP.Core.Fmt} (hf : fq_good f) (s : Bool) {c : Nat} {q : Int} (hc : c ≤ 2 ^ f.p) (h1 : f.qmin ≤ q) (h2 : q = f.qmin ∨ f.tails ≤ c) :
    (∃ (c' : Nat) (q' : Int), FP.Core.settle f s c q = .fin s c' q' ∧ FP.Core.fits f (.fin s c' q') ∧ (c' : Rat) * pw2 q' = (c : Rat) * pw2 q) ∨ (FP.Core.settle f s c q = .inf s ∧ pw2 (f.qmax + f.p) ≤ (c : Rat) * pw2 q) := by
  have e1 := fq_2t hf
  have e2 := fq_qq (f := f)
  have e3 := fq_emax hf
  have e4 := fq_tp f
  have e5 := hf.2
  unfold FP.Core.settle FP.Core.bound
  by_cases hl : c < 2 ^ f.p
  · rw [if_pos hl]
    by_cases hq : q ≤ f.qmax
    · rw [if_pos hq]
      exact Or.inl ⟨c, q, rfl, ⟨hl, h1, hq, h2⟩, rfl⟩
    · rw [if_neg hq]
      refine Or.inr ⟨rfl, ?_⟩
      have h3 : f.tails ≤ c := by rcases h2 with h | h; omega; exact h
      have h4 := fq_mpw (e := q) (fq_cle h3)
      rw [fq_tpw, ← pw2_add] at h4
      exact Rat.le_trans (pw2_le (by omega)) h4
  · rw [if_neg hl]
    have h3 : c = 2 ^ f.p := by omega
    subst h3
    by_cases hq : q + 1 ≤ f.qmax
    · rw [if_pos hq]
      refine Or.inl ⟨f.tails, q + 1, rfl, ⟨by omega, by omega, hq, Or.inr (Nat.le_refl _)⟩, ?_⟩
      rw [pw2_succ, e1, Rat.natCast_mul, Rat.natCast_ofNat]
      grind
    · rw [if_neg hq]
      refine Or.inr ⟨rfl, ?_⟩
      rw [fq_ppw, ← pw2_add]
      exact pw2_le (by omega)
theorem fq_NQ {f : FP.Core.Fmt} (hf : fq_good f) {v : Rat} {q : Int} {c : Nat} (hq : fq_isQ f v q) (hc : fq_isN (v * pw2 (-q)) c) : c ≤ 2 ^ f.p ∧ (q = f.qmin ∨ f.tails ≤ c) := by
  obtain ⟨q1, q2, q3⟩ := hq
  have e5 := hf.2
  constructor
  · refine fq_isN_le ?_ hc
    have h := fq_mpwl (e := -q) q2
    rw [← pw2_add, show q + (f.p : Int) + -q = f.p by omega, ← fq_ppw] at h
    exact Rat.le_of_lt h
  · rcases q3 with h | h
    · exact Or.inl h
    · right
      refine fq_isN_ge ?_ hc
      have h := fq_mpw (e := -q) h
      rw [← pw2_add, show q + (f.p : Int) - 1 + -q = ((f.p - 1 : Nat) : Int) by omega, ← fq_tpw] at h
      exact h
/-- a grid point that the value doesn't pass isn't passed by its rounding -/
theorem fq_gle {f : FP.Core.Fmt} {v : Rat} {q u : Int} {c k : Nat} (hq : fq_isQ f v q) (hc : fq_isN (v * pw2 (-q)) c) (hk : k < 2 ^ f.p) (hu : f.qmin ≤ u) (h : v ≤ (k : Rat) * pw2 u) : (c : Rat) * pw2 q ≤ (k : Rat) * pw2 u := by
  obtain ⟨q1, q2, q3⟩ := hq
  have hqu : q ≤ u := by
    rcases q3 with h3 | h3
    · omega
    · have h4 := fq_mpwl (e := u) (fq_clt hk)
      rw [fq_ppw, ← pw2_add] at h4
      have := pw2_lt' (Std.lt_of_le_of_lt (Rat.le_trans h3 h) h4)
      omega
  obtain ⟨n, rfl⟩ := Int.le.dest hqu
  have h5 : v * pw2 (-q) ≤ ((k * 2 ^ n : Nat) : Rat) := by
    have h6 := fq_mpw (e := -q) h
    rw [Rat.mul_assoc, ← pw2_add, show q + (n : Int) + -q = (n : Int) by omega, pw2_nat, ← Rat.natCast_mul] at h6
    exact h6
  have h7 := fq_mpw (e := q) (fq_cle (fq_isN_le h5 hc))
  rw [Rat.natCast_mul, ← pw2_nat, Rat.mul_assoc, ← pw2_add, Int.add_comm] at h7
  exact h7
theorem fq_gge {f : FP.Core.Fmt} (hf : fq_good f) {v : Rat} {q u : Int} {c k : Nat} (hq : fq_isQ f v q) (hc : fq_isN (v * pw2 (-q)) c) (hk : k < 2 ^ f.p) (hu : f.qmin ≤ u) (h : (k : Rat) * pw2 u ≤ v) : (k : Rat) * pw2 u ≤ (c : Rat) * pw2 q := by
  have hN := (fq_NQ hf hq hc).2
  obtain ⟨q1, q2, q3⟩ := hq
  have e5 := hf.2
  rcases Int.lt_or_le u q with hlt | hqu
  · have h1 : f.tails ≤ c := by rcases hN with h | h; omega; exact h
    have h2 := fq_mpw (e := q) (fq_cle h1)
    rw [fq_tpw, ← pw2_add] at h2
    have h4 := fq_mpwl (e := u) (fq_clt hk)
    rw [fq_ppw, ← pw2_add] at h4
    exact Rat.le_trans (Rat.le_of_lt h4) (Rat.le_trans (pw2_le (by omega)) h2)
  · obtain ⟨n, rfl⟩ := Int.le.dest hqu
    have h5 : ((k * 2 ^ n : Nat) : Rat) ≤ v * pw2 (-q) := by
      have h6 := fq_mpw (e := -q) h
      rw [Rat.mul_assoc, ← pw2_add, show q + (n : Int) + -q = (n : Int) by omega, pw2_nat, ← Rat.natCast_mul] at h6
      exact h6
    have h7 := fq_mpw (e := q) (fq_cle (fq_isN_ge h5 hc))
    rw [Rat.natCast_mul, ← pw2_nat, Rat.mul_assoc, ← pw2_add, Int.add_comm] at h7
    exact h7
/-- the rounding of a rational that is not below 0 -/
def fq_rv (f : FP.Core.Fmt) (s : Bool) (v : Rat) : FP.Core.Datum := FP.Core.roundRatio f s v.num.natAbs v.den 0
theorem fq_ratio {v : Rat} (h : 0 < v) : 0 < v.num.natAbs ∧ 0 < v.den ∧ ((v.num.natAbs : Nat) : Rat) / ((v.den : Nat) : Rat) * pw2 0 = v := by
  have h1 : 0 < v.num := by
    have h9 := (Rat.lt_iff 0 v).mp h
    have h8 := v.den_pos
    simp at h9
    omega
  refine ⟨by omega, v.den_pos, ?_⟩
  have h2 : ((v.num.natAbs : Nat) : Rat) = ((v.num : Int) : Rat) := by
    rw [← Rat.intCast_natCast]
    congr 1
    omega
  rw [h2, pw2_zero, Rat.mul_one]
  have h3 := Rat.num_divInt_den v
  rw [Rat.divInt_eq_div] at h3
  exact h3
theorem fq_rv0 {f : FP.Core.Fmt} {s : Bool} : fq_rv f s 0 = .fin s 0 f.qmin := rfl
theorem fq_rv_eq {f : FP.Core.Fmt} (hf : fq_good f) (s : Bool) (A : Nat) {B : Nat} (e : Int) (hB : 0 < B) : FP.Core.roundRatio f s A B e = fq_rv f s ((A : Rat) / (B : Rat) * pw2 e) := by
  rcases Nat.eq_zero_or_pos A with rfl | hA
  · have h : ((0 : Nat) : Rat) / (B : Rat) * pw2 e = 0 := by
      rw [Rat.div_def, show ((0 : Nat) : Rat) = 0 from rfl, Rat.zero_mul, Rat.zero_mul]
    rw [h, fq_rv0]
    rfl
  · have hv : 0 < (A : Rat) / (B : Rat) * pw2 e := by
      refine Rat.mul_pos ?_ (pw2_pos e)
      rw [Rat.lt_div_iff (fq_cpos hB), Rat.zero_mul]
      exact fq_cpos hA
    obtain ⟨h1, h2, h3⟩ := fq_ratio hv
    exact fq_round_congr hf hA hB h1 h2 s h3.symm
theorem fq_rv_one {f : FP.Core.Fmt} (hf : fq_good f) (s : Bool) (A : Nat) (e : Int) : FP.Core.roundRatio f s A 1 e = fq_rv f s ((A : Rat) * pw2 e) := by
  rw [fq_rv_eq hf s A e (by decide), show ((1 : Nat) : Rat) = 1 from rfl]
  congr 2
  grind
theorem fq_rv_ex {f : FP.Core.Fmt} (hf : fq_good f) (s : Bool) {v : Rat} (h : 0 < v) : ∃ (q : Int) (c : Nat), fq_isQ f v q ∧ fq_isN (v * pw2 (-q)) c ∧ fq_rv f s v = FP.Core.settle f s c q := by
  obtain ⟨h1, h2, h3⟩ := fq_ratio h
  obtain ⟨q, c, k1, k2, k3⟩ := fq_round_ex (f := f) (e := 0) hf h1 h2 s
  rw [h3] at k1 k2
  exact ⟨q, c, k1, k2, k3⟩
theorem fq_rv_spec {f : FP.Core.Fmt} (hf : fq_good f) (s : Bool) {v : Rat} {q : Int} {c : Nat} (h : 0 < v) (hq : fq_isQ f v q) (hc : fq_isN (v * pw2 (-q)) c) : fq_rv f s v = FP.Core.settle f s c q := by
  obtain ⟨q', c', h1, h2, h3⟩ := fq_rv_ex hf s h
  cases fq_isQ_uniq hq h1
  cases fq_isN_uniq hc h2
  exact h3
/-- finite: the value lies between the same grid points; or infinite -/
theorem fq_rv_cases {f : FP.Core.Fmt} (hf : fq_good f) (s : Bool) {v : Rat} (h : 0 ≤ v) :
    (∃ (c : Nat) (q : Int), fq_rv f s v = .fin s c q ∧ FP.Core.fits f (.fin s c q) ∧ (∀ (k : Nat) (u : Int), k < 2 ^ f.p → f.qmin ≤ u → (v ≤ (k : Rat) * pw2 u → (c : Rat) * pw2 q ≤ (k : Rat) * pw2 u) ∧ ((k : Rat) * pw2 u ≤ v → (k : Rat) * pw2 u ≤ (c : Rat) * pw2 q)))
    ∨ (fq_rv f s v = .inf s ∧ ∀ (k : Nat) (u : Int), k < 2 ^ f.p → f.qmin ≤ u → u ≤ f.qmax → (k : Rat) * pw2 u < v) := by
  rcases Rat.le_iff_lt_or_eq.mp h with h | h
  · obtain ⟨q, c, h1, h2, h3⟩ := fq_rv_ex hf s h
    obtain ⟨n1, n2⟩ := fq_NQ hf h1 h2
    rcases fq_settle hf s n1 h1.1 n2 with ⟨c', q', k1, k2, k3⟩ | ⟨k1, k2⟩
    · left
      refine ⟨c', q', h3.trans k1, k2, fun k u hk hu => ?_⟩
      rw [k3]
      exact ⟨fq_gle h1 h2 hk hu, fq_gge hf h1 h2 hk hu⟩
    · right
      refine ⟨h3.trans k1, fun k u hk hu hm => ?_⟩
      refine Rat.not_le.mp (fun hle => ?_)
      have h4 := fq_gle h1 h2 hk hu hle
      have h5 := fq_mpwl (e := u) (fq_clt hk)
      rw [fq_ppw, ← pw2_add] at h5
      have h6 := pw2_lt' (Std.lt_of_le_of_lt (Rat.le_trans k2 h4) h5)
      omega
  · left
    subst h
    refine ⟨0, f.qmin, fq_rv0, ⟨Nat.two_pow_pos _, by omega, by have := fq_qq (f := f); have := fq_emax hf; omega, Or.inl rfl⟩, fun k u hk hu => ?_⟩
    rw [show ((0 : Nat) : Rat) = 0 from rfl, Rat.zero_mul]
    exact ⟨id, id⟩
theorem fq_rv_fits {f : FP.Core.Fmt} (hf : fq_good f) (s : Bool) {v : Rat} (h : 0 ≤ v) : FP.Core.fits f (fq_rv f s v) := by
  rcases fq_rv_cases hf s h with ⟨c, q, h1, h2, -⟩ | ⟨h1, -⟩
  · rw [h1]; exact h2
  · rw [h1]; trivial
/-- what is of the format's grid is hit -/
theorem fq_exact {f : FP.Core.Fmt} (hf : fq_good f) (s : Bool) {c : Nat} {q : Int} (hc : c < 2 ^ f.p) (h1 : f.qmin ≤ q) (h2 : q ≤ f.qmax) :
    ∃ (c' : Nat) (q' : Int), fq_rv f s ((c : Rat) * pw2 q) = .fin s c' q' ∧ FP.Core.fits f (.fin s c' q') ∧ (c' : Rat) * pw2 q' = (c : Rat) * pw2 q := by
  have h0 : 0 ≤ (c : Rat) * pw2 q := Rat.mul_nonneg (Rat.natCast_nonneg) (Rat.le_of_lt (pw2_pos q))
  rcases fq_rv_cases hf s h0 with ⟨c', q', k1, k2, k3⟩ | ⟨k1, k2⟩
  · exact ⟨c', q', k1, k2, Rat.le_antisymm ((k3 c q hc h1).1 Rat.le_refl) ((k3 c q hc h1).2 Rat.le_refl)⟩
  · exact absurd (k2 c q hc h1 h2) Rat.lt_irrefl
theorem fq_uniq {f : FP.Core.Fmt} (hf : fq_good f) {s t : Bool} {c d : Nat} {q r : Int} (h1 : FP.Core.fits f (.fin s c q)) (h2 : FP.Core.fits f (.fin t d r)) (h : (c : Rat) * pw2 q = (d : Rat) * pw2 r) : c = d ∧ q = r := by
  have key : ∀ {s t : Bool} {c d : Nat} {q r : Int}, FP.Core.fits f (.fin s c q) → FP.Core.fits f (.fin t d r) → (c : Rat) * pw2 q = (d : Rat) * pw2 r → r ≤ q := by
    intro s t c d q r ⟨a1, a2, a3, a4⟩ ⟨b1, b2, b3, b4⟩ h
    rcases Int.lt_or_le q r with hlt | hge
    · exfalso
      obtain ⟨n, hn⟩ := Int.le.dest (show q + 1 ≤ r from hlt)
      have h3 : f.tails ≤ d := by rcases b4 with h | h; omega; exact h
      have h4 : (c : Rat) = ((d * 2 ^ (n + 1) : Nat) : Rat) := by
        have h5 : (c : Rat) * pw2 q = (d : Rat) * pw2 ((n + 1 : Nat) : Int) * pw2 q := by
          rw [h, Rat.mul_assoc, ← pw2_add]; congr 2; omega
        rw [Rat.natCast_mul, ← pw2_nat]
        exact fq_cancel (pw2_pos q) h5
      have h6 := Rat.natCast_inj.mp h4
      have h7 := fq_2t hf
      have h8 : d * 2 ≤ d * 2 ^ (n + 1) := Nat.mul_le_mul_left _ (by rw [Nat.pow_succ]; have := Nat.two_pow_pos n; omega)
      omega
    · exact hge
  have hqr : q = r := Int.le_antisymm (key h2 h1 h.symm) (key h1 h2 h)
  subst hqr
  refine ⟨Rat.natCast_inj.mp ?_, rfl⟩
  exact fq_cancel (pw2_pos q) h
theorem fq_rv_self {f : FP.Core.Fmt} (hf : fq_good f) (s : Bool) {t : Bool} {c : Nat} {q : Int} (h : FP.Core.fits f (.fin t c q)) : fq_rv f s ((c : Rat) * pw2 q) = .fin s c q := by
  obtain ⟨c', q', k1, k2, k3⟩ := fq_exact hf s h.1 h.2.1 h.2.2.1
  obtain ⟨rfl, rfl⟩ := fq_uniq hf k2 h k3
  exact k1
