/-! floats, plain (4): the acts, as rationals -/
def fq_sg (s : Bool) : Rat := if s then -1 else 1
theorem fq_inU {c : Nat} {q m : Int} (h : m ≤ q) : ((FP.Core.inUnits c q m : Nat) : Rat) * pw2 m = (c : Rat) * pw2 q := by
  unfold FP.Core.inUnits
  rw [Rat.natCast_mul, ← pw2_nat, Rat.mul_assoc, ← pw2_add]
  congr 2
  omega
theorem fq_signed (s : Bool) (c : Nat) : ((FP.Core.signed s c : Int) : Rat) = fq_sg s * (c : Rat) := by
  cases s
  · show ((c : Int) : Rat) = 1 * (c : Rat)
    rw [Rat.one_mul]; rfl
  · show ((-(c : Int) : Int) : Rat) = (-1) * (c : Rat)
    rw [Rat.intCast_neg, Rat.intCast_natCast]
    grind
/-- a rational that may be below 0; z: the sign of a zero -/
def fq_rs (f : FP.Core.Fmt) (z : Bool) (w : Rat) : FP.Core.Datum := fq_rv f (if w = 0 then z else decide (w < 0)) (if w < 0 then -w else w)
theorem fq_rs_int {f : FP.Core.Fmt} (hf : fq_good f) (z : Bool) (S : Int) (m : Int) : FP.Core.roundRatio f (if S = 0 then z else decide (S < 0)) S.natAbs 1 m = fq_rs f z ((S : Rat) * pw2 m) := by
  have hp := pw2_pos m
  rw [fq_rv_one hf]
  unfold fq_rs
  rcases Int.lt_trichotomy S 0 with h | h | h
  · have h1 : (S : Rat) < 0 := Rat.intCast_neg_iff.mpr h
    have h2 : (S : Rat) * pw2 m < 0 := by
      have := Rat.mul_lt_mul_of_pos_right h1 hp
      rwa [Rat.zero_mul] at this
    rw [if_neg (by omega), if_neg (fun e => by rw [e] at h2; exact absurd h2 Rat.lt_irrefl), if_pos h2, decide_eq_true h, decide_eq_true h2]
    congr 1
    have h3 : ((S.natAbs : Nat) : Rat) = -(S : Rat) := by
      rw [← Rat.intCast_natCast, ← Rat.intCast_neg]
      congr 1
      omega
    rw [h3]
    grind
  · subst h
    rw [show ((0 : Int) : Rat) = 0 from rfl, Rat.zero_mul, if_pos rfl, if_pos rfl, if_neg Rat.lt_irrefl]
    rw [show ((Int.natAbs 0 : Nat) : Rat) = 0 from rfl, Rat.zero_mul]
  · have h1 : 0 < (S : Rat) := Rat.intCast_pos.mpr h
    have h2 : 0 < (S : Rat) * pw2 m := Rat.mul_pos h1 hp
    have h4 : ¬ (S : Rat) * pw2 m < 0 := Rat.not_lt.mpr (Rat.le_of_lt h2)
    rw [if_neg (by omega), if_neg (fun e => by rw [e] at h2; exact absurd h2 Rat.lt_irrefl), if_neg h4, decide_eq_false (by omega), decide_eq_false h4]
    congr 1
    have h3 : ((S.natAbs : Nat) : Rat) = (S : Rat) := by
      rw [← Rat.intCast_natCast]
      congr 1
      omega
    rw [h3]
theorem fq_sum {f : FP.Core.Fmt} (hf : fq_good f) (s t : Bool) (c d : Nat) (q r : Int) : FP.Core.round f (FP.Core.exactSum (.fin s c q) (.fin t d r)) = fq_rs f (s && t) (fq_sg s * ((c : Rat) * pw2 q) + fq_sg t * ((d : Rat) * pw2 r)) := by
  show FP.Core.roundRatio f (FP.Core.sumSign s t _) _ 1 _ = _
  unfold FP.Core.sumSign
  rw [fq_rs_int hf]
  congr 1
  unfold FP.Core.sumUnits
  rw [Rat.intCast_add, fq_signed, fq_signed, Rat.add_mul, Rat.mul_assoc, Rat.mul_assoc, fq_inU (by omega), fq_inU (by omega)]
theorem fq_prod {f : FP.Core.Fmt} (hf : fq_good f) (s t : Bool) (c d : Nat) (q r : Int) : FP.Core.round f (FP.Core.exactProduct (.fin s c q) (.fin t d r)) = fq_rv f (s != t) (((c : Rat) * pw2 q) * ((d : Rat) * pw2 r)) := by
  show FP.Core.roundRatio f (s != t) (c * d) 1 (q + r) = _
  rw [fq_rv_one hf, Rat.natCast_mul, pw2_add]
  congr 1
  grind
theorem fq_quot {f : FP.Core.Fmt} (hf : fq_good f) (s t : Bool) (c d : Nat) (q r : Int) (hd : 0 < d) : FP.Core.quotient f (.fin s c q) (.fin t d r) = fq_rv f (s != t) (((c : Rat) * pw2 q) / ((d : Rat) * pw2 r)) := by
  show (if d = 0 then _ else FP.Core.roundRatio f (s != t) c d (q - r)) = _
  rw [if_neg (by omega), fq_rv_eq hf _ _ _ hd]
  congr 1
  have h1 := fq_cpos hd
  have h2 := pw2_pos r
  have h3 : pw2 q = pw2 (q - r) * pw2 r := by rw [← pw2_add]; congr 1; omega
  have h4 : (d : Rat) ≠ 0 := fun h => by rw [h] at h1; exact absurd h1 Rat.lt_irrefl
  have h5 : pw2 r ≠ 0 := fun h => by rw [h] at h2; exact absurd h2 Rat.lt_irrefl
  rw [h3]
  grind
/-- what is left of x by y, cut toward 0 -/
def fq_rm (x y : Rat) : Rat := x - y * ((x / y).floor : Rat)
theorem fq_floor_nat {A B : Nat} (hB : 0 < B) : ((A : Rat) / (B : Rat)).floor = ((A / B : Nat) : Int) := by
  have hb := fq_cpos hB
  have h0 := Nat.div_add_mod' A B
  have h1 := Nat.mod_lt A hB
  apply Int.le_antisymm
  · refine Int.lt_add_one_iff.mp (Rat.floor_lt_iff.mpr ?_)
    rw [Rat.div_lt_iff hb, show (((A / B : Nat) : Int) + 1) = ((A / B + 1 : Nat) : Int) from rfl, Rat.intCast_natCast, ← Rat.natCast_mul]
    refine fq_clt ?_
    rw [Nat.add_mul, Nat.one_mul]
    omega
  · refine Rat.le_floor_iff.mpr ?_
    rw [Rat.intCast_natCast, fq_lediv hb, ← Rat.natCast_mul]
    exact fq_cle (by omega)
theorem fq_rm_nat {A B : Nat} {m : Int} (hB : 0 < B) : fq_rm ((A : Rat) * pw2 m) ((B : Rat) * pw2 m) = ((A % B : Nat) : Rat) * pw2 m := by
  have hb := fq_cpos hB
  have hp := pw2_pos m
  have h4 : (B : Rat) ≠ 0 := fun h => by rw [h] at hb; exact absurd hb Rat.lt_irrefl
  have h5 : pw2 m ≠ 0 := fun h => by rw [h] at hp; exact absurd hp Rat.lt_irrefl
  have h6 : (A : Rat) * pw2 m / ((B : Rat) * pw2 m) = (A : Rat) / (B : Rat) := by grind
  unfold fq_rm
  rw [h6, fq_floor_nat hB, Rat.intCast_natCast]
  have h7 : ((A : Nat) : Rat) = ((A / B * B + A % B : Nat) : Rat) := by rw [Nat.div_add_mod']
  rw [Rat.natCast_add, Rat.natCast_mul] at h7
  generalize ((A / B : Nat) : Rat) = z at *
  generalize ((A % B : Nat) : Rat) = y at *
  rw [h7]
  grind
theorem fq_rem {f : FP.Core.Fmt} (hf : fq_good f) (s t : Bool) (c d : Nat) (q r : Int) (hd : 0 < d) : FP.Core.round f (FP.Core.exactRemainder (.fin s c q) (.fin t d r)) = fq_rv f s (fq_rm ((c : Rat) * pw2 q) ((d : Rat) * pw2 r)) := by
  have h1 : FP.Core.exactRemainder (.fin s c q) (.fin t d r) = .fin s (FP.Core.inUnits c q (min q r) % FP.Core.inUnits d r (min q r)) (min q r) := by
    show (if d = 0 then _ else _) = _
    rw [if_neg (by omega)]
  rw [h1]
  show FP.Core.roundRatio f s _ 1 _ = _
  rw [fq_rv_one hf, ← fq_inU (show min q r ≤ q by omega), ← fq_inU (show min q r ≤ r by omega), fq_rm_nat]
  exact Nat.mul_pos hd (Nat.two_pow_pos _)
def fq_cmp (x y : Rat) : Ordering := if x < y then .lt else if x = y then .eq else .gt
theorem fq_cmp_int (a b : Int) {m : Int} : fq_cmp ((a : Rat) * pw2 m) ((b : Rat) * pw2 m) = compare a b := by
  have hp := pw2_pos m
  unfold fq_cmp
  show _ = (if a < b then Ordering.lt else if a = b then .eq else .gt)
  have h1 : ((a : Rat) * pw2 m < (b : Rat) * pw2 m) ↔ a < b := by
    rw [Rat.mul_lt_mul_right hp, Rat.intCast_lt_intCast]
  have h2 : ((a : Rat) * pw2 m = (b : Rat) * pw2 m) ↔ a = b := by
    constructor
    · intro h
      refine Rat.intCast_inj.mp ?_
      exact fq_cancel hp h
    · intro h; rw [h]
  simp only [h1, h2]
theorem fq_order (s t : Bool) (c d : Nat) (q r : Int) : FP.Core.order (.fin s c q) (.fin t d r) = some (fq_cmp (fq_sg s * ((c : Rat) * pw2 q)) (fq_sg t * ((d : Rat) * pw2 r))) := by
  show some (compare (FP.Core.signed s (FP.Core.inUnits c q (min q r))) (FP.Core.signed t (FP.Core.inUnits d r (min q r)))) = _
  rw [← fq_cmp_int _ _ (m := min q r), fq_signed, fq_signed, Rat.mul_assoc, Rat.mul_assoc, fq_inU (by omega), fq_inU (by omega)]
/-- one format within the other -/
theorem fq_wid {c : Nat} {q : Int} {s : Bool} (h : FP.Core.fits FP.Core.b32 (.fin s c q)) : ∃ (c' : Nat) (q' : Int), FP.Core.round FP.Core.b64 (.fin s c q) = .fin s c' q' ∧ FP.Core.fits FP.Core.b64 (.fin s c' q') ∧ (c' : Rat) * pw2 q' = (c : Rat) * pw2 q := by
  obtain ⟨h1, h2, h3, h4⟩ := h
  have e : FP.Core.round FP.Core.b64 (.fin s c q) = fq_rv FP.Core.b64 s ((c : Rat) * pw2 q) := fq_rv_one fq_g64 s c q
  rw [e]
  have k1 : FP.Core.b32.qmin = -149 := by decide
  have k2 : FP.Core.b32.qmax = 104 := by decide
  have k3 : FP.Core.b64.qmin = -1074 := by decide
  have k4 : FP.Core.b64.qmax = 971 := by decide
  refine fq_exact fq_g64 s ?_ (by omega) (by omega)
  exact Nat.lt_trans h1 (by decide)
