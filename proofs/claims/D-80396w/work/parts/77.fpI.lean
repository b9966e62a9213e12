/-! floats, plain (9): the acts of data, and of data held by doubles -/
def sPlus (f : FP.Core.Fmt) (x y : FP.Core.Datum) : FP.Core.Datum := FP.Core.round f (FP.Core.exactSum x y)
def sMinus (f : FP.Core.Fmt) (x y : FP.Core.Datum) : FP.Core.Datum := FP.Core.round f (FP.Core.exactSum x (FP.Core.negate y))
def sTimes (f : FP.Core.Fmt) (x y : FP.Core.Datum) : FP.Core.Datum := FP.Core.round f (FP.Core.exactProduct x y)
def sOver (f : FP.Core.Fmt) (x y : FP.Core.Datum) : FP.Core.Datum := FP.Core.quotient f x y
def sRest (f : FP.Core.Fmt) (x y : FP.Core.Datum) : FP.Core.Datum := FP.Core.round f (FP.Core.exactRemainder x y)
theorem idem {f : FP.Core.Fmt} (hf : fq_good f) (d : FP.Core.Datum) : FP.Core.round f (FP.Core.round f d) = FP.Core.round f d := rself hf (rf hf d)
theorem fin32 {s : Bool} {c : Nat} {q : Int} (h : FP.Core.fits FP.Core.b32 (.fin s c q)) : c < 16777216 ∧ -149 ≤ q ∧ q ≤ 104 ∧ (q = -149 ∨ 8388608 ≤ c) := by
  obtain ⟨h1, h2, h3, h4⟩ := h
  obtain ⟨g1, g2, g3⟩ := qn32
  rw [g3] at h1
  rw [g1] at h2 h4
  rw [g2] at h3
  rw [t32.1] at h4
  exact ⟨by omega, h2, h3, h4⟩
theorem dr_round {s : Bool} {v : Rat} (h : dr_ok v) : FP.Core.round FP.Core.b32 (fq_rv FP.Core.b64 s v) = fq_rv FP.Core.b32 s v := by
  obtain ⟨c, q, h1, h2⟩ := h s
  rw [h1]
  show FP.Core.roundRatio FP.Core.b32 s c 1 q = _
  rw [fq_rv_one fq_g32]
  exact h2
theorem dS32 {x y : FP.Core.Datum} (hx : FP.Core.fits FP.Core.b32 x) (hy : FP.Core.fits FP.Core.b32 y) : FP.Core.round FP.Core.b32 (FP.Core.round FP.Core.b64 (FP.Core.exactSum (FP.Core.round FP.Core.b64 x) (FP.Core.round FP.Core.b64 y))) = FP.Core.round FP.Core.b32 (FP.Core.exactSum x y) := by
  cases x with
  | nan => rfl
  | inf s =>
    cases y with
    | nan => rfl
    | inf t => cases s <;> cases t <;> rfl
    | fin t d r =>
      obtain ⟨d', r', e1, -, -⟩ := fq_wid hy
      rw [e1]; rfl
  | fin s c q =>
    obtain ⟨c', q', e1, -, e3⟩ := fq_wid hx
    rw [e1]
    cases y with
    | nan => rfl
    | inf t => rfl
    | fin t d r =>
      obtain ⟨d', r', f1, -, f3⟩ := fq_wid hy
      rw [f1, fq_sum fq_g64, fq_sum fq_g32, e3, f3]
      unfold fq_rs
      exact dr_round (dr_sum hx hy)
theorem dP32 {x y : FP.Core.Datum} (hx : FP.Core.fits FP.Core.b32 x) (hy : FP.Core.fits FP.Core.b32 y) : FP.Core.round FP.Core.b32 (FP.Core.round FP.Core.b64 (FP.Core.exactProduct (FP.Core.round FP.Core.b64 x) (FP.Core.round FP.Core.b64 y))) = FP.Core.round FP.Core.b32 (FP.Core.exactProduct x y) := by
  cases x with
  | nan => rfl
  | inf s =>
    cases y with
    | nan => rfl
    | inf t => rfl
    | fin t d r =>
      obtain ⟨d', r', e1, -, e3⟩ := fq_wid hy
      rw [e1]
      show FP.Core.round _ (FP.Core.round _ (if d' = 0 then _ else _)) = FP.Core.round _ (if d = 0 then _ else _)
      have := val0 e3
      by_cases h : d = 0
      · rw [if_pos h, if_pos (this.mpr h)]; rfl
      · rw [if_neg h, if_neg (fun z => h (this.mp z))]; rfl
  | fin s c q =>
    obtain ⟨c', q', e1, -, e3⟩ := fq_wid hx
    rw [e1]
    cases y with
    | nan => rfl
    | inf t =>
      show FP.Core.round _ (FP.Core.round _ (if c' = 0 then _ else _)) = FP.Core.round _ (if c = 0 then _ else _)
      have := val0 e3
      by_cases h : c = 0
      · rw [if_pos h, if_pos (this.mpr h)]; rfl
      · rw [if_neg h, if_neg (fun z => h (this.mp z))]; rfl
    | fin t d r =>
      obtain ⟨d', r', f1, -, f3⟩ := fq_wid hy
      obtain ⟨a1, a2, a3, -⟩ := fin32 hx
      obtain ⟨b1, b2, b3, -⟩ := fin32 hy
      rw [f1, fq_prod fq_g64, fq_prod fq_g32, e3, f3]
      exact dr_round (dr_prod a1 b1 a2 a3 b2 b3)
theorem dr_zero : dr_ok 0 := fun s => ⟨0, FP.Core.b64.qmin, rfl, by rw [show ((0 : Nat) : Rat) = 0 from rfl, Rat.zero_mul]⟩
theorem dQ32 {x y : FP.Core.Datum} (hx : FP.Core.fits FP.Core.b32 x) (hy : FP.Core.fits FP.Core.b32 y) : FP.Core.round FP.Core.b32 (FP.Core.quotient FP.Core.b64 (FP.Core.round FP.Core.b64 x) (FP.Core.round FP.Core.b64 y)) = FP.Core.quotient FP.Core.b32 x y := by
  cases x with
  | nan => rfl
  | inf s =>
    cases y with
    | nan => rfl
    | inf t => rfl
    | fin t d r =>
      obtain ⟨d', r', e1, -, e3⟩ := fq_wid hy
      rw [e1]; rfl
  | fin s c q =>
    obtain ⟨c', q', e1, -, e3⟩ := fq_wid hx
    rw [e1]
    cases y with
    | nan => rfl
    | inf t => rfl
    | fin t d r =>
      obtain ⟨d', r', f1, -, f3⟩ := fq_wid hy
      obtain ⟨a1, a2, a3, -⟩ := fin32 hx
      obtain ⟨b1, b2, b3, -⟩ := fin32 hy
      rw [f1]
      have hc := val0 e3
      have hd := val0 f3
      by_cases h : d = 0
      · show FP.Core.round _ (if d' = 0 then _ else _) = (if d = 0 then _ else _)
        rw [if_pos h, if_pos (hd.mpr h)]
        by_cases h2 : c = 0
        · rw [if_pos h2, if_pos (hc.mpr h2)]; rfl
        · rw [if_neg h2, if_neg (fun z => h2 (hc.mp z))]; rfl
      · rw [fq_quot fq_g64 _ _ _ _ _ _ (Nat.pos_of_ne_zero (fun z => h (hd.mp z))), fq_quot fq_g32 _ _ _ _ _ _ (Nat.pos_of_ne_zero h), e3, f3]
        by_cases h2 : c = 0
        · rw [h2, show ((0 : Nat) : Rat) = 0 from rfl, Rat.zero_mul, Rat.div_def, Rat.zero_mul]
          exact dr_round dr_zero
        · exact dr_round (dr_div (Nat.pos_of_ne_zero h2) a1 (Nat.pos_of_ne_zero h) b1 a2 a3 b2 b3)
theorem dR32 {x y : FP.Core.Datum} (hx : FP.Core.fits FP.Core.b32 x) (hy : FP.Core.fits FP.Core.b32 y) : FP.Core.round FP.Core.b64 (FP.Core.exactRemainder (FP.Core.round FP.Core.b64 x) (FP.Core.round FP.Core.b64 y)) = FP.Core.round FP.Core.b64 (FP.Core.round FP.Core.b32 (FP.Core.exactRemainder x y)) := by
  cases x with
  | nan => rfl
  | inf s =>
    cases y with
    | nan => rfl
    | inf t => rfl
    | fin t d r =>
      obtain ⟨d', r', e1, -, e3⟩ := fq_wid hy
      rw [e1]; rfl
  | fin s c q =>
    cases y with
    | nan =>
      obtain ⟨c', q', e1, -, e3⟩ := fq_wid hx
      rw [e1]; rfl
    | inf t =>
      have e0 : FP.Core.exactRemainder (.fin s c q) (.inf t) = .fin s c q := rfl
      rw [e0, rself fq_g32 hx]
      obtain ⟨c', q', e1, -, e3⟩ := fq_wid hx
      rw [e1]
      show FP.Core.round FP.Core.b64 (.fin s c' q') = _
      rw [← e1]
      exact idem fq_g64 _
    | fin t d r =>
      obtain ⟨c', q', e1, -, e3⟩ := fq_wid hx
      obtain ⟨d', r', f1, -, f3⟩ := fq_wid hy
      obtain ⟨a1, a2, a3, -⟩ := fin32 hx
      obtain ⟨b1, b2, b3, -⟩ := fin32 hy
      rw [e1, f1]
      have hd := val0 f3
      by_cases h : d = 0
      · show FP.Core.round _ (if d' = 0 then _ else _) = FP.Core.round _ (FP.Core.round _ (if d = 0 then _ else _))
        rw [if_pos h, if_pos (hd.mpr h)]; rfl
      · rw [fq_rem fq_g64 _ _ _ _ _ _ (Nat.pos_of_ne_zero (fun z => h (hd.mp z))), fq_rem fq_g32 _ _ _ _ _ _ (Nat.pos_of_ne_zero h), e3, f3]
        have hU := Nat.mul_pos (Nat.pos_of_ne_zero h) (Nat.two_pow_pos (r - min q r).toNat)
        have e9 : fq_rm ((c : Rat) * pw2 q) ((d : Rat) * pw2 r) = ((FP.Core.inUnits c q (min q r) % FP.Core.inUnits d r (min q r) : Nat) : Rat) * pw2 (min q r) := by
          rw [← fq_inU (show min q r ≤ q by omega), ← fq_inU (show min q r ≤ r by omega), fq_rm_nat]
          exact hU
        have hK : FP.Core.inUnits c q (min q r) % FP.Core.inUnits d r (min q r) < 16777216 := by
          rcases Int.le_total q r with hle | hle
          · have : FP.Core.inUnits c q (min q r) = c := by
              unfold FP.Core.inUnits
              rw [show (q - min q r).toNat = 0 by omega, Nat.pow_zero, Nat.mul_one]
            rw [this]
            exact Nat.lt_of_le_of_lt (Nat.mod_le _ _) a1
          · have : FP.Core.inUnits d r (min q r) = d := by
              unfold FP.Core.inUnits
              rw [show (r - min q r).toNat = 0 by omega, Nat.pow_zero, Nat.mul_one]
            rw [this]
            exact Nat.lt_trans (Nat.mod_lt _ (Nat.pos_of_ne_zero h)) b1
        rw [e9]
        obtain ⟨c3, q3, k1, k2, k3⟩ := fq_exact fq_g32 s (c := FP.Core.inUnits c q (min q r) % FP.Core.inUnits d r (min q r)) (q := min q r) (by rw [qn32.2.2]; exact hK) (by rw [qn32.1]; omega) (by rw [qn32.2.1]; omega)
        rw [k1]
        show _ = FP.Core.roundRatio FP.Core.b64 s c3 1 q3
        rw [fq_rv_one fq_g64, k3]
/-! how the machine's acts show on the data -/
theorem add_W (x y : FP.Core.Datum) : FP.dadd (WD x) (WD y) = E64 (FP.Core.round FP.Core.b64 (FP.Core.exactSum (FP.Core.round FP.Core.b64 x) (FP.Core.round FP.Core.b64 y))) := by
  show UInt64.ofNat (FP.Core.encode FP.Core.b64 (FP.Core.round FP.Core.b64 (FP.Core.exactSum (V64 (WD x)) (V64 (WD y))))) = _
  rw [V64_WD, V64_WD]; rfl
theorem sub_W (x y : FP.Core.Datum) : FP.dsub (WD x) (WD y) = E64 (FP.Core.round FP.Core.b64 (FP.Core.exactSum (FP.Core.round FP.Core.b64 x) (FP.Core.negate (FP.Core.round FP.Core.b64 y)))) := by
  show UInt64.ofNat (FP.Core.encode FP.Core.b64 (FP.Core.round FP.Core.b64 (FP.Core.exactSum (V64 (WD x)) (FP.Core.negate (V64 (WD y)))))) = _
  rw [V64_WD, V64_WD]; rfl
theorem mul_W (x y : FP.Core.Datum) : FP.dmul (WD x) (WD y) = E64 (FP.Core.round FP.Core.b64 (FP.Core.exactProduct (FP.Core.round FP.Core.b64 x) (FP.Core.round FP.Core.b64 y))) := by
  show UInt64.ofNat (FP.Core.encode FP.Core.b64 (FP.Core.round FP.Core.b64 (FP.Core.exactProduct (V64 (WD x)) (V64 (WD y))))) = _
  rw [V64_WD, V64_WD]; rfl
theorem div_W (x y : FP.Core.Datum) : FP.ddiv (WD x) (WD y) = E64 (FP.Core.quotient FP.Core.b64 (FP.Core.round FP.Core.b64 x) (FP.Core.round FP.Core.b64 y)) := by
  show UInt64.ofNat (FP.Core.encode FP.Core.b64 (FP.Core.quotient FP.Core.b64 (V64 (WD x)) (V64 (WD y)))) = _
  rw [V64_WD, V64_WD]; rfl
theorem rem_W (x y : FP.Core.Datum) : FP.drem (WD x) (WD y) = E64 (FP.Core.round FP.Core.b64 (FP.Core.exactRemainder (FP.Core.round FP.Core.b64 x) (FP.Core.round FP.Core.b64 y))) := by
  show UInt64.ofNat (FP.Core.encode FP.Core.b64 (FP.Core.round FP.Core.b64 (FP.Core.exactRemainder (V64 (WD x)) (V64 (WD y))))) = _
  rw [V64_WD, V64_WD]; rfl
theorem neg_round (f : FP.Core.Fmt) (x : FP.Core.Datum) : FP.Core.negate (FP.Core.round f x) = FP.Core.round f (FP.Core.negate x) := by
  cases x with
  | nan => rfl
  | inf s => rfl
  | fin s c q =>
    show FP.Core.negate (FP.Core.roundRatio f s c 1 q) = FP.Core.roundRatio f (!s) c 1 q
    unfold FP.Core.roundRatio FP.Core.roundAt FP.Core.settle FP.Core.bound
    split
    · rfl
    · split <;> split <;> rfl
theorem dneg_W {x : FP.Core.Datum} (h : x ≠ .nan) : FP.dneg (WD x) = WD (FP.Core.negate x) := by
  unfold WD
  rw [dneg_E (rf fq_g64 x) (ne_round h), neg_round]
theorem quo_fits {f : FP.Core.Fmt} (hf : fq_good f) (x y : FP.Core.Datum) : FP.Core.fits f (FP.Core.quotient f x y) := by
  have hz : ∀ s : Bool, FP.Core.fits f (.fin s 0 f.qmin) := fun s => rf hf (.fin s 0 f.qmin)
  cases x with
  | nan => trivial
  | inf s => cases y <;> trivial
  | fin s c q =>
    cases y with
    | nan => trivial
    | inf t => exact hz _
    | fin t d r =>
      by_cases h : d = 0
      · show FP.Core.fits f (if d = 0 then _ else _)
        rw [if_pos h]
        split <;> trivial
      · rw [fq_quot hf _ _ _ _ _ _ (Nat.pos_of_ne_zero h)]
        refine fq_rv_fits hf _ ?_
        rw [fq_lediv (Rat.mul_pos (fq_cpos (Nat.pos_of_ne_zero h)) (pw2_pos r)), Rat.zero_mul]
        exact Rat.mul_nonneg Rat.natCast_nonneg (Rat.le_of_lt (pw2_pos q))
