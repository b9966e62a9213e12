/-! floats, plain (2): powers of two as rationals; the rounding of a rational -/
def pw2 (e : Int) : Rat := (2 : Rat) ^ e
theorem pw2_pos (e : Int) : 0 < pw2 e := Rat.zpow_pos (by decide)
theorem pw2_add (a b : Int) : pw2 (a + b) = pw2 a * pw2 b := Rat.zpow_add (by decide) a b
theorem pw2_nat (n : Nat) : pw2 (n : Int) = ((2 ^ n : Nat) : Rat) := by
  unfold pw2
  rw [Rat.zpow_natCast, Rat.natCast_pow]
  rfl
theorem pw2_zero : pw2 0 = 1 := Rat.zpow_zero 2
theorem pw2_one : pw2 1 = 2 := Rat.zpow_one 2
theorem pw2_succ (e : Int) : pw2 (e + 1) = 2 * pw2 e := by rw [pw2_add, pw2_one, Rat.mul_comm]
theorem pw2_neg (e : Int) : pw2 e * pw2 (-e) = 1 := by rw [← pw2_add, Int.add_right_neg, pw2_zero]
theorem fq_cle {a b : Nat} (h : a ≤ b) : (a : Rat) ≤ (b : Rat) := Rat.natCast_le_natCast.mpr h
theorem fq_clt {a b : Nat} (h : a < b) : (a : Rat) < (b : Rat) := Rat.natCast_lt_natCast.mpr h
theorem fq_cpos {a : Nat} (h : 0 < a) : 0 < (a : Rat) := Rat.natCast_pos.mpr h
theorem pw2_le {a b : Int} (h : a ≤ b) : pw2 a ≤ pw2 b := by
  obtain ⟨n, rfl⟩ := Int.le.dest h
  rw [pw2_add, pw2_nat]
  have h1 : ((1 : Nat) : Rat) ≤ ((2 ^ n : Nat) : Rat) := fq_cle (Nat.two_pow_pos n)
  have h2 := Rat.mul_le_mul_of_nonneg_left h1 (Rat.le_of_lt (pw2_pos a))
  rw [show ((1 : Nat) : Rat) = 1 from rfl, Rat.mul_one] at h2
  exact h2
theorem pw2_lt {a b : Int} (h : a < b) : pw2 a < pw2 b := by
  have h1 := pw2_pos a
  have h2 := pw2_le (show a + 1 ≤ b from h)
  rw [pw2_succ] at h2
  grind
theorem pw2_lt' {a b : Int} (h : pw2 a < pw2 b) : a < b := by
  rcases Int.lt_or_le a b with h1 | h1
  · exact h1
  · exact absurd (pw2_le h1) (Rat.not_le.mpr h)
theorem pw2_le' {a b : Int} (h : pw2 a ≤ pw2 b) : a ≤ b := by
  rcases Int.lt_or_le b a with h1 | h1
  · exact absurd (pw2_lt h1) (Rat.not_lt.mpr h)
  · exact h1
theorem pw2_toNat (t : Int) : ((2 ^ t.toNat : Nat) : Rat) = pw2 t * ((2 ^ (-t).toNat : Nat) : Rat) := by
  rw [← pw2_nat, ← pw2_nat, ← pw2_add]
  congr 1
  omega
theorem fq_lediv {y a b : Rat} (hb : 0 < b) : y ≤ a / b ↔ y * b ≤ a := by
  rw [← Rat.not_lt, Rat.div_lt_iff hb, Rat.not_lt]
/-- the whole number nearest to x; ties to even -/
def fq_isN (x : Rat) (c : Nat) : Prop := 2 * (c : Rat) ≤ 2 * x + 1 ∧ 2 * x ≤ 2 * (c : Rat) + 1 ∧ (2 * x = 2 * (c : Rat) + 1 → c % 2 = 0) ∧ (2 * (c : Rat) = 2 * x + 1 → c % 2 = 0)
theorem fq_isN_mono {x y : Rat} {c d : Nat} (h : x ≤ y) (hc : fq_isN x c) (hd : fq_isN y d) : c ≤ d := by
  obtain ⟨c1, c2, c3, c4⟩ := hc
  obtain ⟨d1, d2, d3, d4⟩ := hd
  rcases Nat.lt_or_ge d c with hlt | hge
  · have h1 : ((d + 1 : Nat) : Rat) ≤ (c : Rat) := fq_cle hlt
    rw [Rat.natCast_add, show ((1 : Nat) : Rat) = 1 from rfl] at h1
    have e1 : 2 * (c : Rat) = 2 * x + 1 := by grind
    have e2 : 2 * y = 2 * (d : Rat) + 1 := by grind
    have e3 : (c : Rat) = ((d + 1 : Nat) : Rat) := by
      rw [Rat.natCast_add, show ((1 : Nat) : Rat) = 1 from rfl]
      grind
    have e4 : c = d + 1 := Rat.natCast_inj.mp e3
    have e5 := c4 e1
    have e6 := d3 e2
    omega
  · exact hge
theorem fq_isN_uniq {x : Rat} {c d : Nat} (hc : fq_isN x c) (hd : fq_isN x d) : c = d := Nat.le_antisymm (fq_isN_mono Rat.le_refl hc hd) (fq_isN_mono Rat.le_refl hd hc)
theorem fq_isN_self (M : Nat) : fq_isN (M : Rat) M := by
  refine ⟨by grind, by grind, fun h => by grind, fun h => by grind⟩
theorem fq_isN_ge {x : Rat} {c M : Nat} (h : (M : Rat) ≤ x) (hc : fq_isN x c) : M ≤ c := fq_isN_mono h (fq_isN_self M) hc
theorem fq_isN_le {x : Rat} {c M : Nat} (h : x ≤ (M : Rat)) (hc : fq_isN x c) : c ≤ M := fq_isN_mono h hc (fq_isN_self M)
theorem fq_isN_div {N D c : Nat} (hD : 0 < D) (h1 : 2 * (c * D) ≤ 2 * N + D) (h2 : 2 * N ≤ 2 * (c * D) + D) (h3 : 2 * N = 2 * (c * D) + D → c % 2 = 0) (h4 : 2 * (c * D) = 2 * N + D → c % 2 = 0) : fq_isN ((N : Rat) / (D : Rat)) c := by
  have hd := fq_cpos hD
  have hN : (N : Rat) / (D : Rat) * (D : Rat) = (N : Rat) := Rat.div_mul_cancel (fun h => by rw [h] at hd; exact absurd hd Rat.lt_irrefl)
  generalize (N : Rat) / (D : Rat) = x at hN ⊢
  have k1 : ((2 * (c * D) : Nat) : Rat) ≤ ((2 * N + D : Nat) : Rat) := fq_cle h1
  have k2 : ((2 * N : Nat) : Rat) ≤ ((2 * (c * D) + D : Nat) : Rat) := fq_cle h2
  simp only [Rat.natCast_add, Rat.natCast_mul, Rat.natCast_ofNat] at k1 k2
  refine ⟨?_, ?_, fun h => h3 ?_, fun h => h4 ?_⟩
  · exact Rat.le_of_mul_le_mul_right (by grind) hd
  · exact Rat.le_of_mul_le_mul_right (by grind) hd
  · refine Rat.natCast_inj.mp ?_
    simp only [Rat.natCast_add, Rat.natCast_mul, Rat.natCast_ofNat]
    grind
  · refine Rat.natCast_inj.mp ?_
    simp only [Rat.natCast_add, Rat.natCast_mul, Rat.natCast_ofNat]
    grind
theorem fq_nearest {N D : Nat} (hD : 0 < D) : fq_isN ((N : Rat) / (D : Rat)) (FP.Core.nearest N D) := by
  have h0 := Nat.div_add_mod' N D
  have h1 := Nat.mod_lt N hD
  unfold FP.Core.nearest
  split
  · exact fq_isN_div hD (by omega) (by omega) (fun h => by omega) (fun h => by omega)
  · split
    · have e : (N / D + 1) * D = N / D * D + D := by rw [Nat.add_mul, Nat.one_mul]
      exact fq_isN_div hD (by omega) (by omega) (fun h => by omega) (fun h => by omega)
    · rcases Nat.mod_two_eq_zero_or_one (N / D) with h | h
      · rw [h, Nat.add_zero]
        exact fq_isN_div hD (by omega) (by omega) (fun _ => h) (fun _ => h)
      · rw [h]
        have e : (N / D + 1) * D = N / D * D + D := by rw [Nat.add_mul, Nat.one_mul]
        exact fq_isN_div hD (by omega) (by omega) (fun _ => by omega) (fun _ => by omega)
/-- the exponent of the last digit kept -/
def fq_isQ (f : FP.Core.Fmt) (v : Rat) (q : Int) : Prop := f.qmin ≤ q ∧ v < pw2 (q + f.p) ∧ (q = f.qmin ∨ pw2 (q + f.p - 1) ≤ v)
theorem fq_isQ_mono {f : FP.Core.Fmt} {v w : Rat} {q r : Int} (h : v ≤ w) (hq : fq_isQ f v q) (hr : fq_isQ f w r) : q ≤ r := by
  obtain ⟨q1, q2, q3⟩ := hq
  obtain ⟨r1, r2, r3⟩ := hr
  rcases Int.lt_or_le r q with hlt | hge
  · rcases q3 with rfl | q3
    · omega
    · have := pw2_lt' (Std.lt_of_le_of_lt (Rat.le_trans q3 h) r2)
      omega
  · exact hge
theorem fq_isQ_uniq {f : FP.Core.Fmt} {v : Rat} {q r : Int} (hq : fq_isQ f v q) (hr : fq_isQ f v r) : q = r := Int.le_antisymm (fq_isQ_mono Rat.le_refl hq hr) (fq_isQ_mono Rat.le_refl hr hq)
theorem fq_log {A : Nat} (hA : 0 < A) : pw2 (A.log2 : Int) ≤ (A : Rat) ∧ (A : Rat) < pw2 ((A.log2 : Int) + 1) := by
  constructor
  · rw [pw2_nat]; exact fq_cle (Nat.log2_self_le (by omega))
  · rw [show (A.log2 : Int) + 1 = ((A.log2 + 1 : Nat) : Int) from rfl, pw2_nat]; exact fq_clt Nat.lt_log2_self
theorem fq_leading {A B : Nat} (hA : 0 < A) (hB : 0 < B) : pw2 (FP.Core.leading A B) ≤ (A : Rat) / (B : Rat) ∧ (A : Rat) / (B : Rat) < pw2 (FP.Core.leading A B + 1) := by
  obtain ⟨a1, a2⟩ := fq_log hA
  obtain ⟨b1, b2⟩ := fq_log hB
  have hb := fq_cpos hB
  unfold FP.Core.leading
  generalize hk : ((A.log2 : Int) - (B.log2 : Int)) = k
  have ek : (A.log2 : Int) = k + (B.log2 : Int) := by omega
  have hc : (B * 2 ^ k.toNat ≤ A * 2 ^ (-k).toNat) ↔ pw2 k * (B : Rat) ≤ (A : Rat) := by
    rw [← Rat.natCast_le_natCast, Rat.natCast_mul, Rat.natCast_mul, pw2_toNat k]
    have hp := fq_cpos (Nat.two_pow_pos (-k).toNat)
    generalize ((2 ^ (-k).toNat : Nat) : Rat) = z at hp ⊢
    constructor
    · intro h; exact Rat.le_of_mul_le_mul_right (by grind) hp
    · intro h
      have := Rat.mul_le_mul_of_nonneg_right h (Rat.le_of_lt hp)
      grind
  show pw2 (if B * 2 ^ k.toNat ≤ A * 2 ^ (-k).toNat then k else k - 1) ≤ _ ∧ _ < pw2 ((if B * 2 ^ k.toNat ≤ A * 2 ^ (-k).toNat then k else k - 1) + 1)
  rw [fq_lediv hb, Rat.div_lt_iff hb]
  by_cases h : B * 2 ^ k.toNat ≤ A * 2 ^ (-k).toNat
  · rw [if_pos h]
    refine ⟨hc.mp h, ?_⟩
    have h1 : pw2 ((A.log2 : Int) + 1) = pw2 (k + 1) * pw2 (B.log2 : Int) := by rw [← pw2_add]; congr 1; omega
    have h2 := Rat.mul_le_mul_of_nonneg_left b1 (Rat.le_of_lt (pw2_pos (k + 1)))
    grind
  · rw [if_neg h]
    have h3 : (A : Rat) < pw2 k * (B : Rat) := Rat.not_le.mp (fun z => h (hc.mpr z))
    refine ⟨?_, by rw [show k - 1 + 1 = k by omega]; exact h3⟩
    have h1 : pw2 (A.log2 : Int) = pw2 (k - 1) * pw2 ((B.log2 : Int) + 1) := by rw [← pw2_add]; congr 1; omega
    have h2 := Rat.mul_le_mul_of_nonneg_left (Rat.le_of_lt b2) (Rat.le_of_lt (pw2_pos (k - 1)))
    grind
theorem fq_units {A B : Nat} (hB : 0 < B) (e q : Int) : ((FP.Core.unitsNum A e q : Nat) : Rat) / ((FP.Core.unitsDen B e q : Nat) : Rat) = (A : Rat) / (B : Rat) * pw2 e * pw2 (-q) := by
  unfold FP.Core.unitsNum FP.Core.unitsDen
  rw [Rat.natCast_mul, Rat.natCast_mul, pw2_toNat (e - q), show -(e - q) = q - e by omega, show pw2 (e - q) = pw2 e * pw2 (-q) by rw [← pw2_add]; rfl]
  have hp := fq_cpos (Nat.two_pow_pos (q - e).toNat)
  have hb := fq_cpos hB
  generalize ((2 ^ (q - e).toNat : Nat) : Rat) = z at hp ⊢
  have h1 : z ≠ 0 := fun h => by rw [h] at hp; exact absurd hp Rat.lt_irrefl
  have h2 : (B : Rat) ≠ 0 := fun h => by rw [h] at hb; exact absurd hb Rat.lt_irrefl
  grind
theorem fq_quantum {f : FP.Core.Fmt} {A B : Nat} {e : Int} (hf : fq_good f) (hA : 0 < A) (hB : 0 < B) : fq_isQ f ((A : Rat) / (B : Rat) * pw2 e) (FP.Core.quantum f A B e) := by
  obtain ⟨h1, h2⟩ := fq_leading hA hB
  have hp := pw2_pos e
  have k1 := Rat.mul_le_mul_of_nonneg_right h1 (Rat.le_of_lt hp)
  have k2 := Rat.mul_lt_mul_of_pos_right h2 hp
  rw [← pw2_add] at k1 k2
  unfold FP.Core.quantum
  generalize FP.Core.leading A B = L at *
  generalize (A : Rat) / (B : Rat) * pw2 e = v at *
  refine ⟨by omega, ?_, ?_⟩
  · exact Std.lt_of_lt_of_le k2 (pw2_le (by omega))
  · rcases Int.lt_or_le (L + e - ((f.p : Int) - 1)) f.qmin with h | h
    · left; omega
    · right
      refine Rat.le_trans (pw2_le ?_) k1
      omega
theorem fq_round_ex {f : FP.Core.Fmt} {A B : Nat} {e : Int} (hf : fq_good f) (hA : 0 < A) (hB : 0 < B) (s : Bool) : ∃ (q : Int) (c : Nat), fq_isQ f ((A : Rat) / (B : Rat) * pw2 e) q ∧ fq_isN ((A : Rat) / (B : Rat) * pw2 e * pw2 (-q)) c ∧ FP.Core.roundRatio f s A B e = FP.Core.settle f s c q := by
  refine ⟨FP.Core.quantum f A B e, FP.Core.nearest (FP.Core.unitsNum A e (FP.Core.quantum f A B e)) (FP.Core.unitsDen B e (FP.Core.quantum f A B e)), fq_quantum hf hA hB, ?_, ?_⟩
  · rw [← fq_units hB]
    exact fq_nearest (Nat.mul_pos hB (Nat.two_pow_pos _))
  · unfold FP.Core.roundRatio
    rw [if_neg (by omega)]
    rfl
theorem fq_round {f : FP.Core.Fmt} {A B : Nat} {e q : Int} {c : Nat} {v : Rat} (hf : fq_good f) (hA : 0 < A) (hB : 0 < B) (s : Bool) (hv : v = (A : Rat) / (B : Rat) * pw2 e) (hq : fq_isQ f v q) (hc : fq_isN (v * pw2 (-q)) c) : FP.Core.roundRatio f s A B e = FP.Core.settle f s c q := by
  obtain ⟨q', c', h1, h2, h3⟩ := fq_round_ex (f := f) (e := e) hf hA hB s
  rw [← hv] at h1 h2
  cases fq_isQ_uniq hq h1
  cases fq_isN_uniq hc h2
  exact h3
theorem fq_round_congr {f : FP.Core.Fmt} {A B A' B' : Nat} {e e' : Int} (hf : fq_good f) (hA : 0 < A) (hB : 0 < B) (hA' : 0 < A') (hB' : 0 < B') (s : Bool) (hv : (A : Rat) / (B : Rat) * pw2 e = (A' : Rat) / (B' : Rat) * pw2 e') : FP.Core.roundRatio f s A B e = FP.Core.roundRatio f s A' B' e' := by
  obtain ⟨q', c', h1, h2, h3⟩ := fq_round_ex (f := f) (e := e') hf hA' hB' s
  rw [h3]
  exact fq_round hf hA hB s hv.symm h1 h2
