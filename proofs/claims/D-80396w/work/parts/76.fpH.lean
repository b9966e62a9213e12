/-! floats, plain (8): a class's number is held by a double; conditions on it -/
def fitK (d : FP.Core.Datum) : Prop := FP.Core.fits FP.Core.b32 d ∨ FP.Core.fits FP.Core.b64 d
theorem wid2 {s : Bool} {c : Nat} {q : Int} (h : fitK (.fin s c q)) : ∃ (c' : Nat) (q' : Int), FP.Core.round FP.Core.b64 (.fin s c q) = .fin s c' q' ∧ FP.Core.fits FP.Core.b64 (.fin s c' q') ∧ (c' : Rat) * pw2 q' = (c : Rat) * pw2 q := by
  rcases h with h | h
  · exact fq_wid h
  · exact ⟨c, q, rself fq_g64 h, h, rfl⟩
theorem val0 {c c' : Nat} {q q' : Int} (h : (c' : Rat) * pw2 q' = (c : Rat) * pw2 q) : c' = 0 ↔ c = 0 := by
  have key : ∀ {a b : Nat} {i j : Int}, (a : Rat) * pw2 i = (b : Rat) * pw2 j → a = 0 → b = 0 := by
    intro a b i j h h0
    rw [h0, show ((0 : Nat) : Rat) = 0 from rfl, Rat.zero_mul] at h
    rcases Rat.mul_eq_zero.mp h.symm with h1 | h1
    · exact Rat.natCast_eq_zero_iff.mp h1
    · exact absurd h1 (fun z => by have := pw2_pos j; rw [z] at this; exact absurd this Rat.lt_irrefl)
  exact ⟨key h, key h.symm⟩
theorem order_r {x y : FP.Core.Datum} (hx : fitK x) (hy : fitK y) : FP.Core.order (FP.Core.round FP.Core.b64 x) (FP.Core.round FP.Core.b64 y) = FP.Core.order x y := by
  cases x with
  | nan => rfl
  | inf s =>
    cases y with
    | nan => rfl
    | inf t => rfl
    | fin t d r =>
      obtain ⟨d', r', e1, -, -⟩ := wid2 hy
      rw [e1]; rfl
  | fin s c q =>
    obtain ⟨c', q', e1, -, e3⟩ := wid2 hx
    rw [e1]
    cases y with
    | nan => rfl
    | inf t => rfl
    | fin t d r =>
      obtain ⟨d', r', f1, -, f3⟩ := wid2 hy
      rw [f1, fq_order, fq_order, e3, f3]
theorem cmp_W {x y : FP.Core.Datum} (hx : fitK x) (hy : fitK y) : FP.dcmp (WD x) (WD y) = FP.Core.order x y := by
  show FP.Core.order (V64 (WD x)) (V64 (WD y)) = _
  rw [V64_WD, V64_WD, order_r hx hy]
def isInf : FP.Core.Datum → Bool
  | .inf _ => true
  | _ => false
def isZ : FP.Core.Datum → Bool
  | .fin _ c _ => decide (c = 0)
  | _ => false
def zD : FP.Core.Datum := .fin false 0 (-1074)
def oneD : FP.Core.Datum := .fin false 4503599627370496 (-52)
def maxD (s : Bool) : FP.Core.Datum := .fin s 9007199254740991 971
theorem k_z : fitK zD := Or.inr (by unfold zD; exact ⟨by decide, by decide, by decide, Or.inl (by decide)⟩)
theorem k_one : fitK oneD := Or.inr (by unfold oneD; exact ⟨by decide, by decide, by decide, Or.inr (by decide)⟩)
theorem k_max (s : Bool) : fitK (maxD s) := Or.inr (by unfold maxD; exact ⟨by decide, by decide, by decide, Or.inr (by decide)⟩)
theorem k_inf (s : Bool) : fitK (.inf s) := Or.inr trivial
theorem k_nan : fitK .nan := Or.inr trivial
theorem k_neg {x : FP.Core.Datum} (h : fitK x) : fitK (FP.Core.negate x) := by
  rcases h with h | h
  · exact Or.inl (neg_fits h)
  · exact Or.inr (neg_fits h)
theorem w_nan : (9221120237041090560 : UInt64) = WD .nan := by decide +kernel
theorem w_z : FP.dconst0 = WD zD := by decide +kernel
theorem w_one : FP.dconst1 = WD oneD := by decide +kernel
theorem w_inf : (9218868437227405312 : UInt64) = WD (.inf false) := by decide +kernel
theorem w_ninf : (18442240474082181120 : UInt64) = WD (.inf true) := by decide +kernel
theorem w_max : (9218868437227405311 : UInt64) = WD (maxD false) := by decide +kernel
theorem w_nmax : (18442240474082181119 : UInt64) = WD (maxD true) := by decide +kernel
theorem order_self {x : FP.Core.Datum} : FP.Core.order x x = some .eq ↔ x ≠ .nan := by
  cases x with
  | nan => exact ⟨fun h => (by cases h), fun h => absurd rfl h⟩
  | inf s => exact ⟨fun _ h => (by cases h), fun _ => by cases s <;> rfl⟩
  | fin s c q =>
    refine ⟨fun _ h => (by cases h), fun _ => ?_⟩
    rw [fq_order]
    unfold fq_cmp
    rw [if_neg Rat.lt_irrefl, if_pos rfl]
theorem eqself_W {x : FP.Core.Datum} (hx : fitK x) : Deq (WD x) (WD x) ↔ x ≠ .nan := by
  show FP.dcmp (WD x) (WD x) = some .eq ↔ _
  rw [cmp_W hx hx]
  exact order_self
theorem number_W {x y : FP.Core.Datum} (hx : fitK x) (hy : fitK y) : (fX0_isNumber (WD x) (WD y) = 0) ↔ (x = .nan ∨ y = .nan) := by
  unfold fX0_isNumber lt_
  by_cases h1 : x = .nan
  · rw [if_neg (fun z => (eqself_W hx).mp z h1)]
    exact ⟨fun _ => Or.inl h1, fun _ => rfl⟩
  · rw [if_pos ((eqself_W hx).mpr h1)]
    by_cases h2 : y = .nan
    · rw [if_neg (fun z => (eqself_W hy).mp z h2)]
      exact ⟨fun _ => Or.inr h2, fun _ => rfl⟩
    · rw [if_pos ((eqself_W hy).mpr h2)]
      exact ⟨fun h => by exact absurd h (by decide), fun h => by rcases h with h | h; exact absurd h h1; exact absurd h h2⟩
theorem fitK_max {s : Bool} {c : Nat} {q : Int} (h : fitK (.fin s c q)) : (c : Rat) * pw2 q ≤ ((9007199254740991 : Nat) : Rat) * pw2 971 := by
  have key : c ≤ 9007199254740991 → q ≤ 971 → (c : Rat) * pw2 q ≤ ((9007199254740991 : Nat) : Rat) * pw2 971 := by
    intro h1 h2
    exact Rat.le_trans (fq_mpw (fq_cle h1)) (Rat.mul_le_mul_of_nonneg_left (pw2_le h2) Rat.natCast_nonneg)
  rcases h with ⟨h1, h2, h3, h4⟩ | ⟨h1, h2, h3, h4⟩
  · rw [qn32.2.2] at h1
    rw [qn32.2.1] at h3
    exact key (by omega) (by omega)
  · rw [qn64.2.2] at h1
    rw [qn64.2.1] at h3
    exact key (by omega) (by omega)
theorem cmp_lt {a b : Rat} : fq_cmp a b = .lt ↔ a < b := by
  unfold fq_cmp
  constructor
  · intro h
    split at h
    · assumption
    · split at h <;> cases h
  · intro h; rw [if_pos h]
theorem cmp_eq {a b : Rat} : fq_cmp a b = .eq ↔ a = b := by
  unfold fq_cmp
  constructor
  · intro h
    split at h
    · cases h
    · split at h
      · assumption
      · cases h
  · intro h; rw [if_neg (by rw [h]; exact Rat.lt_irrefl), if_pos h]
theorem cmp_gt {a b : Rat} : fq_cmp a b = .gt ↔ b < a := by
  unfold fq_cmp
  constructor
  · intro h
    split at h
    · cases h
    · split at h
      · cases h
      · rcases fq_tri a b with h1 | h1 | h1
        · contradiction
        · contradiction
        · exact h1
  · intro h
    rw [if_neg (Rat.not_lt.mpr (Rat.le_of_lt h)), if_neg (fun e => by rw [e] at h; exact absurd h Rat.lt_irrefl)]
theorem endless_W {x : FP.Core.Datum} (hx : fitK x) : (fX0_isEndless (WD x) = 0) ↔ isInf x = false := by
  unfold fX0_isEndless lt_
  rw [w_max, w_nmax]
  have c1 : Dgt (WD x) (WD (maxD false)) ↔ FP.Core.order x (maxD false) = some .gt := by
    show FP.dcmp _ _ = some .gt ↔ _
    rw [cmp_W hx (k_max _)]
  have c2 : Dlt (WD x) (WD (maxD true)) ↔ FP.Core.order x (maxD true) = some .lt := by
    show FP.dcmp _ _ = some .lt ↔ _
    rw [cmp_W hx (k_max _)]
  cases x with
  | nan =>
    rw [if_neg (fun z => by have := c1.mp z; cases this), if_neg (fun z => by have := c2.mp z; cases this)]
    exact ⟨fun _ => rfl, fun _ => rfl⟩
  | inf s =>
    cases s
    · rw [if_pos (c1.mpr rfl)]
      exact ⟨fun h => absurd h (by decide), fun h => by cases h⟩
    · rw [if_neg (fun z => by have := c1.mp z; cases this), if_pos (c2.mpr rfl)]
      exact ⟨fun h => absurd h (by decide), fun h => by cases h⟩
  | fin s c q =>
    have hm := fitK_max hx
    have h0 : 0 ≤ (c : Rat) * pw2 q := Rat.mul_nonneg Rat.natCast_nonneg (Rat.le_of_lt (pw2_pos q))
    have hs : fq_sg s = 1 ∨ fq_sg s = -1 := by cases s; exact Or.inl rfl; exact Or.inr rfl
    rw [if_neg ?_, if_neg ?_]
    · exact ⟨fun _ => rfl, fun _ => rfl⟩
    · intro z
      have h9 := c2.mp z
      unfold maxD at h9
      rw [fq_order] at h9
      have h8 := cmp_lt.mp (Option.some.inj h9)
      rw [show fq_sg true = -1 from rfl] at h8
      rcases hs with hs | hs
      · rw [hs] at h8
        generalize (c : Rat) * pw2 q = X at *
        generalize ((9007199254740991 : Nat) : Rat) * pw2 971 = M at *
        grind
      · rw [hs] at h8
        generalize (c : Rat) * pw2 q = X at *
        generalize ((9007199254740991 : Nat) : Rat) * pw2 971 = M at *
        grind
    · intro z
      have h9 := c1.mp z
      unfold maxD at h9
      rw [fq_order] at h9
      have h8 := cmp_gt.mp (Option.some.inj h9)
      rw [show fq_sg false = 1 from rfl] at h8
      rcases hs with hs | hs
      · rw [hs] at h8
        generalize (c : Rat) * pw2 q = X at *
        generalize ((9007199254740991 : Nat) : Rat) * pw2 971 = M at *
        grind
      · rw [hs] at h8
        generalize (c : Rat) * pw2 q = X at *
        generalize ((9007199254740991 : Nat) : Rat) * pw2 971 = M at *
        grind
theorem eqz_W {x : FP.Core.Datum} (hx : fitK x) : Deq (WD x) FP.dconst0 ↔ isZ x = true := by
  rw [w_z]
  show FP.dcmp _ _ = some .eq ↔ _
  rw [cmp_W hx k_z]
  cases x with
  | nan => exact ⟨fun h => (by cases h), fun h => by cases h⟩
  | inf s => exact ⟨fun h => (by cases s <;> cases h), fun h => by cases h⟩
  | fin s c q =>
    unfold zD
    rw [fq_order]
    show _ ↔ decide (c = 0) = true
    rw [show ((0 : Nat) : Rat) = 0 from rfl, Rat.zero_mul, Rat.mul_zero, decide_eq_true_iff]
    have hs : fq_sg s = 1 ∨ fq_sg s = -1 := by cases s; exact Or.inl rfl; exact Or.inr rfl
    unfold fq_cmp
    constructor
    · intro h
      split at h
      · cases h
      · split at h
        · rename_i h2
          have h3 : (c : Rat) * pw2 q = 0 := by
            generalize (c : Rat) * pw2 q = X at *
            rcases hs with hs | hs <;> grind
          have := (val0 (c := 0) (c' := c) (q := 0) (q' := q) (by rw [h3, show ((0 : Nat) : Rat) = 0 from rfl, Rat.zero_mul])).mpr rfl
          exact this
        · cases h
    · intro h
      subst h
      rw [show ((0 : Nat) : Rat) = 0 from rfl, Rat.zero_mul, Rat.mul_zero, if_neg Rat.lt_irrefl, if_pos rfl]
theorem E64_nan : E64 .nan = WD .nan := rfl
theorem fit_D {Z : FP.Core.Datum} (h : FP.Core.fits FP.Core.b64 Z) : fX1_fit (E64 Z) = WD (FP.Core.round FP.Core.b64 Z) := by
  unfold fX1_fit WD
  rw [rself fq_g64 (rf fq_g64 Z), rself fq_g64 h]
theorem ne_round {f : FP.Core.Fmt} {d : FP.Core.Datum} (h : d ≠ .nan) : FP.Core.round f d ≠ .nan := by
  cases d with
  | nan => exact absurd rfl h
  | inf s => intro z; cases z
  | fin s c q =>
    intro z
    have z' : FP.Core.roundRatio f s c 1 q = .nan := z
    unfold FP.Core.roundRatio FP.Core.roundAt FP.Core.settle FP.Core.bound at z'
    split at z'
    · cases z'
    · split at z'
      · split at z' <;> cases z'
      · split at z' <;> cases z'
theorem fit_F {Z : FP.Core.Datum} (h : FP.Core.fits FP.Core.b64 Z) : fX2_fit (E64 Z) = WD (FP.Core.round FP.Core.b32 Z) ∧ oX2_fit (E64 Z) := by
  have hZ : E64 Z = WD Z := (WD_64 h).symm
  have hk : fitK Z := Or.inr h
  unfold fX2_fit oX2_fit lt_
  by_cases hn : Z = .nan
  · subst hn
    have hne : ¬ Deq (E64 .nan) (E64 .nan) := fun z => (eqself_W k_nan).mp z rfl
    rw [if_neg hne, w_nan]
    exact ⟨rfl, ⟨fun z => absurd z hne, fun _ => trivial⟩⟩
  · have he : Deq (E64 Z) (E64 Z) := by rw [hZ]; exact (eqself_W hk).mpr hn
    rw [if_pos he, d2f_E h hn, f2d_E (rf fq_g32 Z) (ne_round hn)]
    refine ⟨rfl, ⟨fun _ => ⟨(vf32_iff _).mpr ?_, (vf64_iff _).mpr ?_⟩, fun z => absurd he z⟩⟩
    · rw [V32_E32 (rf fq_g32 Z)]; exact ne_round hn
    · rw [V64_WD]; exact ne_round (ne_round hn)
