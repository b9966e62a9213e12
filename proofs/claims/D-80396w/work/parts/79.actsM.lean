/-! floats, plain (11): the five acts of the model, on data -/
theorem nQraw {f : FP.Core.Fmt} {s t : Bool} {c d : Nat} {q r : Int} (h : FP.Core.quotient f (.fin s c q) (.fin t d r) = .nan) : c = 0 ∧ d = 0 := by
  have h' : (if d = 0 then (if c = 0 then FP.Core.Datum.nan else .inf (s != t)) else FP.Core.roundRatio f (s != t) c d (q - r)) = .nan := h
  by_cases h2 : d = 0
  · rw [if_pos h2] at h'
    by_cases h3 : c = 0
    · exact ⟨h3, h2⟩
    · rw [if_neg h3] at h'; cases h'
  · rw [if_neg h2] at h'
    exact absurd h' (rr_ne _ _ _ _ _)

theorem cmp_E32 {x y : FP.Core.Datum} (hx : FP.Core.fits FP.Core.b32 x) (hy : FP.Core.fits FP.Core.b32 y) : FP.fcmp (E32 x) (E32 y) = FP.Core.order x y := by
  show FP.Core.order (V32 (E32 x)) (V32 (E32 y)) = _
  rw [V32_E32 hx, V32_E32 hy]
theorem e_nan32 : (2143289344 : UInt32) = E32 .nan := by decide +kernel
theorem e_inf32 : (2139095040 : UInt32) = E32 (.inf false) := by decide +kernel
theorem e_ninf32 : (4286578688 : UInt32) = E32 (.inf true) := by decide +kernel
theorem e_z32 : FP.fconst0 = E32 (.fin false 0 (-149)) := by decide +kernel
theorem fz32 : FP.Core.fits FP.Core.b32 (.fin false 0 (-149)) := ⟨by decide, by decide, by decide, Or.inl (by decide)⟩
theorem eqself_E32 {x : FP.Core.Datum} (hx : FP.Core.fits FP.Core.b32 x) : Feq (E32 x) (E32 x) ↔ x ≠ .nan := by
  show FP.fcmp (E32 x) (E32 x) = some .eq ↔ _
  rw [cmp_E32 hx hx]
  exact order_self
theorem endless_E32 {x : FP.Core.Datum} (hx : FP.Core.fits FP.Core.b32 x) : (fX6_endless (E32 x) = 0) ↔ isInf x = false := by
  unfold fX6_endless lt_
  have c1 : Feq (E32 x) 2139095040 ↔ FP.Core.order x (.inf false) = some .eq := by
    rw [e_inf32]; show FP.fcmp _ _ = some .eq ↔ _; rw [cmp_E32 hx (show FP.Core.fits FP.Core.b32 (.inf false) from trivial)]
  have c2 : Feq (E32 x) 4286578688 ↔ FP.Core.order x (.inf true) = some .eq := by
    rw [e_ninf32]; show FP.fcmp _ _ = some .eq ↔ _; rw [cmp_E32 hx (show FP.Core.fits FP.Core.b32 (.inf true) from trivial)]
  cases x with
  | nan =>
    rw [if_neg (fun z => by have := c1.mp z; cases this), if_neg (fun z => by have := c2.mp z; cases this)]
    exact ⟨fun _ => rfl, fun _ => rfl⟩
  | inf s =>
    cases s
    · rw [if_pos (c1.mpr rfl)]
      exact ⟨fun h => absurd h (by decide), fun h => by cases h⟩
    · rw [if_neg (fun z => by have := c1.mp z; cases this), if_pos (c2.mpr rfl)]
      exact ⟨fun h => absurd h (by decide), fun h => by cases h⟩
  | fin s c q =>
    rw [if_neg (fun z => by have := c1.mp z; cases this), if_neg (fun z => by have := c2.mp z; cases this)]
    exact ⟨fun _ => rfl, fun _ => rfl⟩
theorem eqz_E32 {x : FP.Core.Datum} (hx : FP.Core.fits FP.Core.b32 x) : Feq (E32 x) FP.fconst0 ↔ isZ x = true := by
  rw [e_z32]
  show FP.fcmp _ _ = some .eq ↔ _
  rw [cmp_E32 hx fz32, ← eqz_W (x := x) (Or.inl hx), w_z]
  show _ ↔ FP.dcmp _ _ = some .eq
  rw [cmp_W (Or.inl hx) k_z]
  cases x with
  | nan => exact Iff.rfl
  | inf s => exact Iff.rfl
  | fin s c q =>
    unfold zD; rw [fq_order, fq_order, show ((0 : Nat) : Rat) = 0 from rfl, Rat.zero_mul, Rat.zero_mul]

theorem cmp_E64 {x y : FP.Core.Datum} (hx : FP.Core.fits FP.Core.b64 x) (hy : FP.Core.fits FP.Core.b64 y) : FP.dcmp (E64 x) (E64 y) = FP.Core.order x y := by
  show FP.Core.order (V64 (E64 x)) (V64 (E64 y)) = _
  rw [V64_E64 hx, V64_E64 hy]
theorem e_nan64 : (9221120237041090560 : UInt64) = E64 .nan := by decide +kernel
theorem e_inf64 : (9218868437227405312 : UInt64) = E64 (.inf false) := by decide +kernel
theorem e_ninf64 : (18442240474082181120 : UInt64) = E64 (.inf true) := by decide +kernel
theorem e_z64 : FP.dconst0 = E64 (.fin false 0 (-1074)) := by decide +kernel
theorem fz64 : FP.Core.fits FP.Core.b64 (.fin false 0 (-1074)) := ⟨by decide, by decide, by decide, Or.inl (by decide)⟩
theorem eqself_E64 {x : FP.Core.Datum} (hx : FP.Core.fits FP.Core.b64 x) : Deq (E64 x) (E64 x) ↔ x ≠ .nan := by
  show FP.dcmp (E64 x) (E64 x) = some .eq ↔ _
  rw [cmp_E64 hx hx]
  exact order_self
theorem endless_E64 {x : FP.Core.Datum} (hx : FP.Core.fits FP.Core.b64 x) : (fX6_endless_2 (E64 x) = 0) ↔ isInf x = false := by
  unfold fX6_endless_2 lt_
  have c1 : Deq (E64 x) 9218868437227405312 ↔ FP.Core.order x (.inf false) = some .eq := by
    rw [e_inf64]; show FP.dcmp _ _ = some .eq ↔ _; rw [cmp_E64 hx (show FP.Core.fits FP.Core.b64 (.inf false) from trivial)]
  have c2 : Deq (E64 x) 18442240474082181120 ↔ FP.Core.order x (.inf true) = some .eq := by
    rw [e_ninf64]; show FP.dcmp _ _ = some .eq ↔ _; rw [cmp_E64 hx (show FP.Core.fits FP.Core.b64 (.inf true) from trivial)]
  cases x with
  | nan =>
    rw [if_neg (fun z => by have := c1.mp z; cases this), if_neg (fun z => by have := c2.mp z; cases this)]
    exact ⟨fun _ => rfl, fun _ => rfl⟩
  | inf s =>
    cases s
    · rw [if_pos (c1.mpr rfl)]
      exact ⟨fun h => absurd h (by decide), fun h => by cases h⟩
    · rw [if_neg (fun z => by have := c1.mp z; cases this), if_pos (c2.mpr rfl)]
      exact ⟨fun h => absurd h (by decide), fun h => by cases h⟩
  | fin s c q =>
    rw [if_neg (fun z => by have := c1.mp z; cases this), if_neg (fun z => by have := c2.mp z; cases this)]
    exact ⟨fun _ => rfl, fun _ => rfl⟩
theorem eqz_E64 {x : FP.Core.Datum} (hx : FP.Core.fits FP.Core.b64 x) : Deq (E64 x) FP.dconst0 ↔ isZ x = true := by
  rw [e_z64]
  show FP.dcmp _ _ = some .eq ↔ _
  rw [cmp_E64 hx fz64, ← eqz_W (x := x) (Or.inr hx), w_z]
  show _ ↔ FP.dcmp _ _ = some .eq
  rw [cmp_W (Or.inr hx) k_z]
  cases x with
  | nan => exact Iff.rfl
  | inf s => exact Iff.rfl
  | fin s c q =>
    exact Iff.rfl

theorem m_sumOf_32 {x y : FP.Core.Datum} (hx : FP.Core.fits FP.Core.b32 x) (hy : FP.Core.fits FP.Core.b32 y) : fX6_sumOf (E32 x) (E32 y) = E32 (sPlus FP.Core.b32 x y) ∧ oX6_sumOf (E32 x) (E32 y) := by
  have hP1 := eqself_E32 hx
  have hP2 := eqself_E32 hy
  have hE1 := endless_E32 hx
  have hE2 := endless_E32 hy
  have hZ1 := eqz_E32 hx
  have hZ2 := eqz_E32 hy
  have hQ : Feq (E32 x) (E32 y) ↔ FP.Core.order x y = some .eq := by show FP.fcmp _ _ = some .eq ↔ _; rw [cmp_E32 hx hy]
  have G : FP.Core.exactSum x y ≠ .nan → FP.fadd (E32 x) (E32 y) = E32 (sPlus FP.Core.b32 x y) ∧ vf_n32 (FP.fadd (E32 x) (E32 y)) := by
    intro hz
    have e : FP.fadd (E32 x) (E32 y) = E32 (sPlus FP.Core.b32 x y) := by
      show UInt32.ofNat (FP.Core.encode FP.Core.b32 (FP.Core.round FP.Core.b32 (FP.Core.exactSum (V32 (E32 x)) (V32 (E32 y))))) = _
      rw [V32_E32 hx, V32_E32 hy]; rfl
    refine ⟨e, (vf32_iff _).mpr ?_⟩
    rw [e, V32_E32 (show FP.Core.fits FP.Core.b32 (sPlus FP.Core.b32 x y) from (rf fq_g32 _))]
    exact ne_round hz
  unfold fX6_sumOf oX6_sumOf lt_
  by_cases h1 : Feq (E32 x) (E32 x)
  · rw [if_pos h1]
    by_cases h2 : Feq (E32 y) (E32 y)
    · rw [if_pos h2]
      by_cases h3 : fX6_endless (E32 x) = 0
      · rw [if_pos h3]
        have n1 : x ≠ .nan := hP1.mp h1
        have n2 : y ≠ .nan := hP2.mp h2
        have i1 : isInf x = false := hE1.mp h3
        obtain ⟨g1, g2⟩ := G (fun hz => by clear G hP1 hP2 hE1 hE2 hZ1 hZ2 hQ; (rcases x with _ | s | ⟨s, c, q⟩ <;> rcases y with _ | t | ⟨t, d, r⟩ <;> first | exact n1 rfl | exact n2 rfl | (cases hz; done) | (cases i1; done) | (cases i2; done) | (cases s <;> cases t <;> first | (cases hz; done) | exact absurd rfl q1 | cases q1)))
        exact ⟨g1, ⟨fun _ => ⟨fun _ => ⟨fun _ => g2, fun z => absurd h3 z⟩, fun z => absurd h2 z⟩, fun z => absurd h1 z⟩⟩
      · rw [if_neg h3]
        by_cases h4 : fX6_endless (E32 y) = 0
        · rw [if_pos h4]
          have n1 : x ≠ .nan := hP1.mp h1
          have n2 : y ≠ .nan := hP2.mp h2
          have i1 : isInf x = true := bnf (fun z => h3 (hE1.mpr z))
          have i2 : isInf y = false := hE2.mp h4
          obtain ⟨g1, g2⟩ := G (fun hz => by clear G hP1 hP2 hE1 hE2 hZ1 hZ2 hQ; (rcases x with _ | s | ⟨s, c, q⟩ <;> rcases y with _ | t | ⟨t, d, r⟩ <;> first | exact n1 rfl | exact n2 rfl | (cases hz; done) | (cases i1; done) | (cases i2; done) | (cases s <;> cases t <;> first | (cases hz; done) | exact absurd rfl q1 | cases q1)))
          exact ⟨g1, ⟨fun _ => ⟨fun _ => ⟨fun z => absurd z h3, fun _ => ⟨fun _ => g2, fun z => absurd h4 z⟩⟩, fun z => absurd h2 z⟩, fun z => absurd h1 z⟩⟩
        · rw [if_neg h4]
          by_cases h5 : Feq (E32 x) (E32 y)
          · rw [if_pos h5]
            have n1 : x ≠ .nan := hP1.mp h1
            have n2 : y ≠ .nan := hP2.mp h2
            have i1 : isInf x = true := bnf (fun z => h3 (hE1.mpr z))
            have i2 : isInf y = true := bnf (fun z => h4 (hE2.mpr z))
            have q1 : FP.Core.order x y = some .eq := hQ.mp h5
            obtain ⟨g1, g2⟩ := G (fun hz => by clear G hP1 hP2 hE1 hE2 hZ1 hZ2 hQ; (rcases x with _ | s | ⟨s, c, q⟩ <;> rcases y with _ | t | ⟨t, d, r⟩ <;> first | exact n1 rfl | exact n2 rfl | (cases hz; done) | (cases i1; done) | (cases i2; done) | (cases s <;> cases t <;> first | (cases hz; done) | exact absurd rfl q1 | cases q1)))
            exact ⟨g1, ⟨fun _ => ⟨fun _ => ⟨fun z => absurd z h3, fun _ => ⟨fun z => absurd z h4, fun _ => ⟨fun _ => g2, fun z => absurd h5 z⟩⟩⟩, fun z => absurd h2 z⟩, fun z => absurd h1 z⟩⟩
          · rw [if_neg h5]
            have n1 : x ≠ .nan := hP1.mp h1
            have n2 : y ≠ .nan := hP2.mp h2
            have i1 : isInf x = true := bnf (fun z => h3 (hE1.mpr z))
            have i2 : isInf y = true := bnf (fun z => h4 (hE2.mpr z))
            have q1 : ¬ FP.Core.order x y = some .eq := fun z => h5 (hQ.mpr z)
            have e : sPlus FP.Core.b32 x y = .nan := by clear G hP1 hP2 hE1 hE2 hZ1 hZ2 hQ; (rcases x with _ | s | ⟨s, c, q⟩ <;> rcases y with _ | t | ⟨t, d, r⟩ <;> first | rfl | (cases i1; done) | (cases i2; done) | (cases s <;> cases t <;> first | rfl | exact absurd rfl q1 | cases q1))
            rw [e_nan32, e]
            exact ⟨rfl, ⟨fun _ => ⟨fun _ => ⟨fun z => absurd z h3, fun _ => ⟨fun z => absurd z h4, fun _ => ⟨fun z => absurd z h5, fun _ => trivial⟩⟩⟩, fun z => absurd h2 z⟩, fun z => absurd h1 z⟩⟩
    · rw [if_neg h2]
      have n1 : x ≠ .nan := hP1.mp h1
      have n2 : y = .nan := Classical.byContradiction (fun z => h2 (hP2.mpr z))
      have e : sPlus FP.Core.b32 x y = .nan := by subst n2; cases x <;> rfl
      rw [e_nan32, e]
      exact ⟨rfl, ⟨fun _ => ⟨fun z => absurd z h2, fun _ => trivial⟩, fun z => absurd h1 z⟩⟩
  · rw [if_neg h1]
    have n1 : x = .nan := Classical.byContradiction (fun z => h1 (hP1.mpr z))
    have e : sPlus FP.Core.b32 x y = .nan := by subst n1; rfl
    rw [e_nan32, e]
    exact ⟨rfl, ⟨fun z => absurd z h1, fun _ => trivial⟩⟩
theorem m_differenceOf_32 {x y : FP.Core.Datum} (hx : FP.Core.fits FP.Core.b32 x) (hy : FP.Core.fits FP.Core.b32 y) : fX6_differenceOf (E32 x) (E32 y) = E32 (sMinus FP.Core.b32 x y) ∧ oX6_differenceOf (E32 x) (E32 y) := by
  have hP1 := eqself_E32 hx
  have hP2 := eqself_E32 hy
  have hE1 := endless_E32 hx
  have hE2 := endless_E32 hy
  have hZ1 := eqz_E32 hx
  have hZ2 := eqz_E32 hy
  have hQ : Feq (E32 x) (E32 y) ↔ FP.Core.order x y = some .eq := by show FP.fcmp _ _ = some .eq ↔ _; rw [cmp_E32 hx hy]
  have G : FP.Core.exactSum x (FP.Core.negate y) ≠ .nan → FP.fsub (E32 x) (E32 y) = E32 (sMinus FP.Core.b32 x y) ∧ vf_n32 (FP.fsub (E32 x) (E32 y)) := by
    intro hz
    have e : FP.fsub (E32 x) (E32 y) = E32 (sMinus FP.Core.b32 x y) := by
      show UInt32.ofNat (FP.Core.encode FP.Core.b32 (FP.Core.round FP.Core.b32 (FP.Core.exactSum (V32 (E32 x)) (FP.Core.negate (V32 (E32 y)))))) = _
      rw [V32_E32 hx, V32_E32 hy]; rfl
    refine ⟨e, (vf32_iff _).mpr ?_⟩
    rw [e, V32_E32 (show FP.Core.fits FP.Core.b32 (sMinus FP.Core.b32 x y) from (rf fq_g32 _))]
    exact ne_round hz
  unfold fX6_differenceOf oX6_differenceOf lt_
  by_cases h1 : Feq (E32 x) (E32 x)
  · rw [if_pos h1]
    by_cases h2 : Feq (E32 y) (E32 y)
    · rw [if_pos h2]
      by_cases h3 : fX6_endless (E32 x) = 0
      · rw [if_pos h3]
        have n1 : x ≠ .nan := hP1.mp h1
        have n2 : y ≠ .nan := hP2.mp h2
        have i1 : isInf x = false := hE1.mp h3
        obtain ⟨g1, g2⟩ := G (fun hz => by clear G hP1 hP2 hE1 hE2 hZ1 hZ2 hQ; (rcases x with _ | s | ⟨s, c, q⟩ <;> rcases y with _ | t | ⟨t, d, r⟩ <;> first | exact n1 rfl | exact n2 rfl | (cases hz; done) | (cases i1; done) | (cases i2; done) | (cases s <;> cases t <;> first | (cases hz; done) | exact absurd rfl q1 | cases q1)))
        exact ⟨g1, ⟨fun _ => ⟨fun _ => ⟨fun _ => g2, fun z => absurd h3 z⟩, fun z => absurd h2 z⟩, fun z => absurd h1 z⟩⟩
      · rw [if_neg h3]
        by_cases h4 : Feq (E32 x) (E32 y)
        · rw [if_pos h4]
          have n1 : x ≠ .nan := hP1.mp h1
          have n2 : y ≠ .nan := hP2.mp h2
          have i1 : isInf x = true := bnf (fun z => h3 (hE1.mpr z))
          have q1 : FP.Core.order x y = some .eq := hQ.mp h4
          have e : sMinus FP.Core.b32 x y = .nan := by clear G hP1 hP2 hE1 hE2 hZ1 hZ2 hQ; (rcases x with _ | s | ⟨s, c, q⟩ <;> rcases y with _ | t | ⟨t, d, r⟩ <;> first | rfl | (cases i1; done) | (cases i2; done) | (cases s <;> cases t <;> first | rfl | exact absurd rfl q1 | cases q1))
          rw [e_nan32, e]
          exact ⟨rfl, ⟨fun _ => ⟨fun _ => ⟨fun z => absurd z h3, fun _ => ⟨fun _ => trivial, fun z => absurd h4 z⟩⟩, fun z => absurd h2 z⟩, fun z => absurd h1 z⟩⟩
        · rw [if_neg h4]
          have n1 : x ≠ .nan := hP1.mp h1
          have n2 : y ≠ .nan := hP2.mp h2
          have i1 : isInf x = true := bnf (fun z => h3 (hE1.mpr z))
          have q1 : ¬ FP.Core.order x y = some .eq := fun z => h4 (hQ.mpr z)
          obtain ⟨g1, g2⟩ := G (fun hz => by clear G hP1 hP2 hE1 hE2 hZ1 hZ2 hQ; (rcases x with _ | s | ⟨s, c, q⟩ <;> rcases y with _ | t | ⟨t, d, r⟩ <;> first | exact n1 rfl | exact n2 rfl | (cases hz; done) | (cases i1; done) | (cases i2; done) | (cases s <;> cases t <;> first | (cases hz; done) | exact absurd rfl q1 | cases q1)))
          exact ⟨g1, ⟨fun _ => ⟨fun _ => ⟨fun z => absurd z h3, fun _ => ⟨fun z => absurd z h4, fun _ => g2⟩⟩, fun z => absurd h2 z⟩, fun z => absurd h1 z⟩⟩
    · rw [if_neg h2]
      have n1 : x ≠ .nan := hP1.mp h1
      have n2 : y = .nan := Classical.byContradiction (fun z => h2 (hP2.mpr z))
      have e : sMinus FP.Core.b32 x y = .nan := by subst n2; cases x <;> rfl
      rw [e_nan32, e]
      exact ⟨rfl, ⟨fun _ => ⟨fun z => absurd z h2, fun _ => trivial⟩, fun z => absurd h1 z⟩⟩
  · rw [if_neg h1]
    have n1 : x = .nan := Classical.byContradiction (fun z => h1 (hP1.mpr z))
    have e : sMinus FP.Core.b32 x y = .nan := by subst n1; rfl
    rw [e_nan32, e]
    exact ⟨rfl, ⟨fun z => absurd z h1, fun _ => trivial⟩⟩
theorem m_productOf_32 {x y : FP.Core.Datum} (hx : FP.Core.fits FP.Core.b32 x) (hy : FP.Core.fits FP.Core.b32 y) : fX6_productOf (E32 x) (E32 y) = E32 (sTimes FP.Core.b32 x y) ∧ oX6_productOf (E32 x) (E32 y) := by
  have hP1 := eqself_E32 hx
  have hP2 := eqself_E32 hy
  have hE1 := endless_E32 hx
  have hE2 := endless_E32 hy
  have hZ1 := eqz_E32 hx
  have hZ2 := eqz_E32 hy
  have hQ : Feq (E32 x) (E32 y) ↔ FP.Core.order x y = some .eq := by show FP.fcmp _ _ = some .eq ↔ _; rw [cmp_E32 hx hy]
  have G : FP.Core.exactProduct x y ≠ .nan → FP.fmul (E32 x) (E32 y) = E32 (sTimes FP.Core.b32 x y) ∧ vf_n32 (FP.fmul (E32 x) (E32 y)) := by
    intro hz
    have e : FP.fmul (E32 x) (E32 y) = E32 (sTimes FP.Core.b32 x y) := by
      show UInt32.ofNat (FP.Core.encode FP.Core.b32 (FP.Core.round FP.Core.b32 (FP.Core.exactProduct (V32 (E32 x)) (V32 (E32 y))))) = _
      rw [V32_E32 hx, V32_E32 hy]; rfl
    refine ⟨e, (vf32_iff _).mpr ?_⟩
    rw [e, V32_E32 (show FP.Core.fits FP.Core.b32 (sTimes FP.Core.b32 x y) from (rf fq_g32 _))]
    exact ne_round hz
  unfold fX6_productOf oX6_productOf lt_
  by_cases h1 : Feq (E32 x) (E32 x)
  · rw [if_pos h1]
    by_cases h2 : Feq (E32 y) (E32 y)
    · rw [if_pos h2]
      by_cases h3 : Feq (E32 x) FP.fconst0
      · rw [if_pos h3]
        by_cases h4 : fX6_endless (E32 y) = 0
        · rw [if_pos h4]
          by_cases h5 : fX6_endless (E32 x) = 0
          · rw [if_pos h5]
            have n1 : x ≠ .nan := hP1.mp h1
            have n2 : y ≠ .nan := hP2.mp h2
            have z1 : isZ x = true := hZ1.mp h3
            have i2 : isInf y = false := hE2.mp h4
            have i1 : isInf x = false := hE1.mp h5
            obtain ⟨g1, g2⟩ := G (fun hz => by clear G hP1 hP2 hE1 hE2 hZ1 hZ2 hQ; (rcases x with _ | s | ⟨s, c, q⟩ <;> rcases y with _ | t | ⟨t, d, r⟩ <;> simp_all [isInf, isZ, FP.Core.exactProduct]))
            exact ⟨g1, ⟨fun _ => ⟨fun _ => ⟨fun _ => ⟨fun _ => ⟨fun _ => g2, fun z => absurd h5 z⟩, fun z => absurd h4 z⟩, fun z => absurd h3 z⟩, fun z => absurd h2 z⟩, fun z => absurd h1 z⟩⟩
          · rw [if_neg h5]
            by_cases h6 : Feq (E32 y) FP.fconst0
            · rw [if_pos h6]
              have n1 : x ≠ .nan := hP1.mp h1
              have n2 : y ≠ .nan := hP2.mp h2
              have z1 : isZ x = true := hZ1.mp h3
              have i2 : isInf y = false := hE2.mp h4
              have i1 : isInf x = true := bnf (fun z => h5 (hE1.mpr z))
              have z2 : isZ y = true := hZ2.mp h6
              have e : sTimes FP.Core.b32 x y = .nan := by clear G hP1 hP2 hE1 hE2 hZ1 hZ2 hQ; (rcases x with _ | s | ⟨s, c, q⟩ <;> rcases y with _ | t | ⟨t, d, r⟩ <;> first | rfl | skip) <;> (unfold sTimes; simp_all [isInf, isZ, FP.Core.exactProduct, FP.Core.round])
              rw [e_nan32, e]
              exact ⟨rfl, ⟨fun _ => ⟨fun _ => ⟨fun _ => ⟨fun _ => ⟨fun z => absurd z h5, fun _ => ⟨fun _ => trivial, fun z => absurd h6 z⟩⟩, fun z => absurd h4 z⟩, fun z => absurd h3 z⟩, fun z => absurd h2 z⟩, fun z => absurd h1 z⟩⟩
            · rw [if_neg h6]
              have n1 : x ≠ .nan := hP1.mp h1
              have n2 : y ≠ .nan := hP2.mp h2
              have z1 : isZ x = true := hZ1.mp h3
              have i2 : isInf y = false := hE2.mp h4
              have i1 : isInf x = true := bnf (fun z => h5 (hE1.mpr z))
              have z2 : isZ y = false := bnt (fun z => h6 (hZ2.mpr z))
              obtain ⟨g1, g2⟩ := G (fun hz => by clear G hP1 hP2 hE1 hE2 hZ1 hZ2 hQ; (rcases x with _ | s | ⟨s, c, q⟩ <;> rcases y with _ | t | ⟨t, d, r⟩ <;> simp_all [isInf, isZ, FP.Core.exactProduct]))
              exact ⟨g1, ⟨fun _ => ⟨fun _ => ⟨fun _ => ⟨fun _ => ⟨fun z => absurd z h5, fun _ => ⟨fun z => absurd z h6, fun _ => g2⟩⟩, fun z => absurd h4 z⟩, fun z => absurd h3 z⟩, fun z => absurd h2 z⟩, fun z => absurd h1 z⟩⟩
        · rw [if_neg h4]
          have n1 : x ≠ .nan := hP1.mp h1
          have n2 : y ≠ .nan := hP2.mp h2
          have z1 : isZ x = true := hZ1.mp h3
          have i2 : isInf y = true := bnf (fun z => h4 (hE2.mpr z))
          have e : sTimes FP.Core.b32 x y = .nan := by clear G hP1 hP2 hE1 hE2 hZ1 hZ2 hQ; (rcases x with _ | s | ⟨s, c, q⟩ <;> rcases y with _ | t | ⟨t, d, r⟩ <;> first | rfl | skip) <;> (unfold sTimes; simp_all [isInf, isZ, FP.Core.exactProduct, FP.Core.round])
          rw [e_nan32, e]
          exact ⟨rfl, ⟨fun _ => ⟨fun _ => ⟨fun _ => ⟨fun z => absurd z h4, fun _ => trivial⟩, fun z => absurd h3 z⟩, fun z => absurd h2 z⟩, fun z => absurd h1 z⟩⟩
      · rw [if_neg h3]
        by_cases h7 : fX6_endless (E32 x) = 0
        · rw [if_pos h7]
          have n1 : x ≠ .nan := hP1.mp h1
          have n2 : y ≠ .nan := hP2.mp h2
          have z1 : isZ x = false := bnt (fun z => h3 (hZ1.mpr z))
          have i1 : isInf x = false := hE1.mp h7
          obtain ⟨g1, g2⟩ := G (fun hz => by clear G hP1 hP2 hE1 hE2 hZ1 hZ2 hQ; (rcases x with _ | s | ⟨s, c, q⟩ <;> rcases y with _ | t | ⟨t, d, r⟩ <;> simp_all [isInf, isZ, FP.Core.exactProduct]))
          exact ⟨g1, ⟨fun _ => ⟨fun _ => ⟨fun z => absurd z h3, fun _ => ⟨fun _ => g2, fun z => absurd h7 z⟩⟩, fun z => absurd h2 z⟩, fun z => absurd h1 z⟩⟩
        · rw [if_neg h7]
          by_cases h8 : Feq (E32 y) FP.fconst0
          · rw [if_pos h8]
            have n1 : x ≠ .nan := hP1.mp h1
            have n2 : y ≠ .nan := hP2.mp h2
            have z1 : isZ x = false := bnt (fun z => h3 (hZ1.mpr z))
            have i1 : isInf x = true := bnf (fun z => h7 (hE1.mpr z))
            have z2 : isZ y = true := hZ2.mp h8
            have e : sTimes FP.Core.b32 x y = .nan := by clear G hP1 hP2 hE1 hE2 hZ1 hZ2 hQ; (rcases x with _ | s | ⟨s, c, q⟩ <;> rcases y with _ | t | ⟨t, d, r⟩ <;> first | rfl | skip) <;> (unfold sTimes; simp_all [isInf, isZ, FP.Core.exactProduct, FP.Core.round])
            rw [e_nan32, e]
            exact ⟨rfl, ⟨fun _ => ⟨fun _ => ⟨fun z => absurd z h3, fun _ => ⟨fun z => absurd z h7, fun _ => ⟨fun _ => trivial, fun z => absurd h8 z⟩⟩⟩, fun z => absurd h2 z⟩, fun z => absurd h1 z⟩⟩
          · rw [if_neg h8]
            have n1 : x ≠ .nan := hP1.mp h1
            have n2 : y ≠ .nan := hP2.mp h2
            have z1 : isZ x = false := bnt (fun z => h3 (hZ1.mpr z))
            have i1 : isInf x = true := bnf (fun z => h7 (hE1.mpr z))
            have z2 : isZ y = false := bnt (fun z => h8 (hZ2.mpr z))
            obtain ⟨g1, g2⟩ := G (fun hz => by clear G hP1 hP2 hE1 hE2 hZ1 hZ2 hQ; (rcases x with _ | s | ⟨s, c, q⟩ <;> rcases y with _ | t | ⟨t, d, r⟩ <;> simp_all [isInf, isZ, FP.Core.exactProduct]))
            exact ⟨g1, ⟨fun _ => ⟨fun _ => ⟨fun z => absurd z h3, fun _ => ⟨fun z => absurd z h7, fun _ => ⟨fun z => absurd z h8, fun _ => g2⟩⟩⟩, fun z => absurd h2 z⟩, fun z => absurd h1 z⟩⟩
    · rw [if_neg h2]
      have n1 : x ≠ .nan := hP1.mp h1
      have n2 : y = .nan := Classical.byContradiction (fun z => h2 (hP2.mpr z))
      have e : sTimes FP.Core.b32 x y = .nan := by subst n2; cases x <;> rfl
      rw [e_nan32, e]
      exact ⟨rfl, ⟨fun _ => ⟨fun z => absurd z h2, fun _ => trivial⟩, fun z => absurd h1 z⟩⟩
  · rw [if_neg h1]
    have n1 : x = .nan := Classical.byContradiction (fun z => h1 (hP1.mpr z))
    have e : sTimes FP.Core.b32 x y = .nan := by subst n1; rfl
    rw [e_nan32, e]
    exact ⟨rfl, ⟨fun z => absurd z h1, fun _ => trivial⟩⟩
theorem m_quotientOf_32 {x y : FP.Core.Datum} (hx : FP.Core.fits FP.Core.b32 x) (hy : FP.Core.fits FP.Core.b32 y) : fX6_quotientOf (E32 x) (E32 y) = E32 (sOver FP.Core.b32 x y) ∧ oX6_quotientOf (E32 x) (E32 y) := by
  have hP1 := eqself_E32 hx
  have hP2 := eqself_E32 hy
  have hE1 := endless_E32 hx
  have hE2 := endless_E32 hy
  have hZ1 := eqz_E32 hx
  have hZ2 := eqz_E32 hy
  have hQ : Feq (E32 x) (E32 y) ↔ FP.Core.order x y = some .eq := by show FP.fcmp _ _ = some .eq ↔ _; rw [cmp_E32 hx hy]
  have G : FP.Core.quotient FP.Core.b32 x y ≠ .nan → FP.fdiv (E32 x) (E32 y) = E32 (sOver FP.Core.b32 x y) ∧ vf_n32 (FP.fdiv (E32 x) (E32 y)) := by
    intro hz
    have e : FP.fdiv (E32 x) (E32 y) = E32 (sOver FP.Core.b32 x y) := by
      show UInt32.ofNat (FP.Core.encode FP.Core.b32 (FP.Core.quotient FP.Core.b32 (V32 (E32 x)) (V32 (E32 y)))) = _
      rw [V32_E32 hx, V32_E32 hy]; rfl
    refine ⟨e, (vf32_iff _).mpr ?_⟩
    rw [e, V32_E32 (show FP.Core.fits FP.Core.b32 (sOver FP.Core.b32 x y) from (quo_fits fq_g32 _ _))]
    exact hz
  unfold fX6_quotientOf oX6_quotientOf lt_
  by_cases h1 : Feq (E32 x) (E32 x)
  · rw [if_pos h1]
    by_cases h2 : Feq (E32 y) (E32 y)
    · rw [if_pos h2]
      by_cases h3 : Feq (E32 x) FP.fconst0
      · rw [if_pos h3]
        by_cases h4 : Feq (E32 y) FP.fconst0
        · rw [if_pos h4]
          have n1 : x ≠ .nan := hP1.mp h1
          have n2 : y ≠ .nan := hP2.mp h2
          have z1 : isZ x = true := hZ1.mp h3
          have z2 : isZ y = true := hZ2.mp h4
          have e : sOver FP.Core.b32 x y = .nan := by clear G hP1 hP2 hE1 hE2 hZ1 hZ2 hQ; (rcases x with _ | s | ⟨s, c, q⟩ <;> rcases y with _ | t | ⟨t, d, r⟩ <;> first | rfl | skip) <;> (unfold sOver; simp_all [isInf, isZ, FP.Core.quotient])
          rw [e_nan32, e]
          exact ⟨rfl, ⟨fun _ => ⟨fun _ => ⟨fun _ => ⟨fun _ => trivial, fun z => absurd h4 z⟩, fun z => absurd h3 z⟩, fun z => absurd h2 z⟩, fun z => absurd h1 z⟩⟩
        · rw [if_neg h4]
          by_cases h5 : fX6_endless (E32 x) = 0
          · rw [if_pos h5]
            have n1 : x ≠ .nan := hP1.mp h1
            have n2 : y ≠ .nan := hP2.mp h2
            have z1 : isZ x = true := hZ1.mp h3
            have z2 : isZ y = false := bnt (fun z => h4 (hZ2.mpr z))
            have i1 : isInf x = false := hE1.mp h5
            obtain ⟨g1, g2⟩ := G (fun hz => by clear G hP1 hP2 hE1 hE2 hZ1 hZ2 hQ; (rcases x with _ | s | ⟨s, c, q⟩ <;> rcases y with _ | t | ⟨t, d, r⟩ <;> first | (simp_all [isInf, isZ, FP.Core.quotient]; done) | skip) <;> (have hz2 := nQraw hz; simp_all [isInf, isZ]))
            exact ⟨g1, ⟨fun _ => ⟨fun _ => ⟨fun _ => ⟨fun z => absurd z h4, fun _ => ⟨fun _ => g2, fun z => absurd h5 z⟩⟩, fun z => absurd h3 z⟩, fun z => absurd h2 z⟩, fun z => absurd h1 z⟩⟩
          · rw [if_neg h5]
            by_cases h6 : fX6_endless (E32 y) = 0
            · rw [if_pos h6]
              have n1 : x ≠ .nan := hP1.mp h1
              have n2 : y ≠ .nan := hP2.mp h2
              have z1 : isZ x = true := hZ1.mp h3
              have z2 : isZ y = false := bnt (fun z => h4 (hZ2.mpr z))
              have i1 : isInf x = true := bnf (fun z => h5 (hE1.mpr z))
              have i2 : isInf y = false := hE2.mp h6
              obtain ⟨g1, g2⟩ := G (fun hz => by clear G hP1 hP2 hE1 hE2 hZ1 hZ2 hQ; (rcases x with _ | s | ⟨s, c, q⟩ <;> rcases y with _ | t | ⟨t, d, r⟩ <;> first | (simp_all [isInf, isZ, FP.Core.quotient]; done) | skip) <;> (have hz2 := nQraw hz; simp_all [isInf, isZ]))
              exact ⟨g1, ⟨fun _ => ⟨fun _ => ⟨fun _ => ⟨fun z => absurd z h4, fun _ => ⟨fun z => absurd z h5, fun _ => ⟨fun _ => g2, fun z => absurd h6 z⟩⟩⟩, fun z => absurd h3 z⟩, fun z => absurd h2 z⟩, fun z => absurd h1 z⟩⟩
            · rw [if_neg h6]
              have n1 : x ≠ .nan := hP1.mp h1
              have n2 : y ≠ .nan := hP2.mp h2
              have z1 : isZ x = true := hZ1.mp h3
              have z2 : isZ y = false := bnt (fun z => h4 (hZ2.mpr z))
              have i1 : isInf x = true := bnf (fun z => h5 (hE1.mpr z))
              have i2 : isInf y = true := bnf (fun z => h6 (hE2.mpr z))
              have e : sOver FP.Core.b32 x y = .nan := by clear G hP1 hP2 hE1 hE2 hZ1 hZ2 hQ; (rcases x with _ | s | ⟨s, c, q⟩ <;> rcases y with _ | t | ⟨t, d, r⟩ <;> first | rfl | skip) <;> (unfold sOver; simp_all [isInf, isZ, FP.Core.quotient])
              rw [e_nan32, e]
              exact ⟨rfl, ⟨fun _ => ⟨fun _ => ⟨fun _ => ⟨fun z => absurd z h4, fun _ => ⟨fun z => absurd z h5, fun _ => ⟨fun z => absurd z h6, fun _ => trivial⟩⟩⟩, fun z => absurd h3 z⟩, fun z => absurd h2 z⟩, fun z => absurd h1 z⟩⟩
      · rw [if_neg h3]
        by_cases h7 : fX6_endless (E32 x) = 0
        · rw [if_pos h7]
          have n1 : x ≠ .nan := hP1.mp h1
          have n2 : y ≠ .nan := hP2.mp h2
          have z1 : isZ x = false := bnt (fun z => h3 (hZ1.mpr z))
          have i1 : isInf x = false := hE1.mp h7
          obtain ⟨g1, g2⟩ := G (fun hz => by clear G hP1 hP2 hE1 hE2 hZ1 hZ2 hQ; (rcases x with _ | s | ⟨s, c, q⟩ <;> rcases y with _ | t | ⟨t, d, r⟩ <;> first | (simp_all [isInf, isZ, FP.Core.quotient]; done) | skip) <;> (have hz2 := nQraw hz; simp_all [isInf, isZ]))
          exact ⟨g1, ⟨fun _ => ⟨fun _ => ⟨fun z => absurd z h3, fun _ => ⟨fun _ => g2, fun z => absurd h7 z⟩⟩, fun z => absurd h2 z⟩, fun z => absurd h1 z⟩⟩
        · rw [if_neg h7]
          by_cases h8 : fX6_endless (E32 y) = 0
          · rw [if_pos h8]
            have n1 : x ≠ .nan := hP1.mp h1
            have n2 : y ≠ .nan := hP2.mp h2
            have z1 : isZ x = false := bnt (fun z => h3 (hZ1.mpr z))
            have i1 : isInf x = true := bnf (fun z => h7 (hE1.mpr z))
            have i2 : isInf y = false := hE2.mp h8
            obtain ⟨g1, g2⟩ := G (fun hz => by clear G hP1 hP2 hE1 hE2 hZ1 hZ2 hQ; (rcases x with _ | s | ⟨s, c, q⟩ <;> rcases y with _ | t | ⟨t, d, r⟩ <;> first | (simp_all [isInf, isZ, FP.Core.quotient]; done) | skip) <;> (have hz2 := nQraw hz; simp_all [isInf, isZ]))
            exact ⟨g1, ⟨fun _ => ⟨fun _ => ⟨fun z => absurd z h3, fun _ => ⟨fun z => absurd z h7, fun _ => ⟨fun _ => g2, fun z => absurd h8 z⟩⟩⟩, fun z => absurd h2 z⟩, fun z => absurd h1 z⟩⟩
          · rw [if_neg h8]
            have n1 : x ≠ .nan := hP1.mp h1
            have n2 : y ≠ .nan := hP2.mp h2
            have z1 : isZ x = false := bnt (fun z => h3 (hZ1.mpr z))
            have i1 : isInf x = true := bnf (fun z => h7 (hE1.mpr z))
            have i2 : isInf y = true := bnf (fun z => h8 (hE2.mpr z))
            have e : sOver FP.Core.b32 x y = .nan := by clear G hP1 hP2 hE1 hE2 hZ1 hZ2 hQ; (rcases x with _ | s | ⟨s, c, q⟩ <;> rcases y with _ | t | ⟨t, d, r⟩ <;> first | rfl | skip) <;> (unfold sOver; simp_all [isInf, isZ, FP.Core.quotient])
            rw [e_nan32, e]
            exact ⟨rfl, ⟨fun _ => ⟨fun _ => ⟨fun z => absurd z h3, fun _ => ⟨fun z => absurd z h7, fun _ => ⟨fun z => absurd z h8, fun _ => trivial⟩⟩⟩, fun z => absurd h2 z⟩, fun z => absurd h1 z⟩⟩
    · rw [if_neg h2]
      have n1 : x ≠ .nan := hP1.mp h1
      have n2 : y = .nan := Classical.byContradiction (fun z => h2 (hP2.mpr z))
      have e : sOver FP.Core.b32 x y = .nan := by subst n2; cases x <;> rfl
      rw [e_nan32, e]
      exact ⟨rfl, ⟨fun _ => ⟨fun z => absurd z h2, fun _ => trivial⟩, fun z => absurd h1 z⟩⟩
  · rw [if_neg h1]
    have n1 : x = .nan := Classical.byContradiction (fun z => h1 (hP1.mpr z))
    have e : sOver FP.Core.b32 x y = .nan := by subst n1; rfl
    rw [e_nan32, e]
    exact ⟨rfl, ⟨fun z => absurd z h1, fun _ => trivial⟩⟩
theorem m_restOf_32 {x y : FP.Core.Datum} (hx : FP.Core.fits FP.Core.b32 x) (hy : FP.Core.fits FP.Core.b32 y) : fX6_restOf (E32 x) (E32 y) = E32 (sRest FP.Core.b32 x y) ∧ oX6_restOf (E32 x) (E32 y) := by
  have hP1 := eqself_E32 hx
  have hP2 := eqself_E32 hy
  have hE1 := endless_E32 hx
  have hE2 := endless_E32 hy
  have hZ1 := eqz_E32 hx
  have hZ2 := eqz_E32 hy
  have hQ : Feq (E32 x) (E32 y) ↔ FP.Core.order x y = some .eq := by show FP.fcmp _ _ = some .eq ↔ _; rw [cmp_E32 hx hy]
  have G : FP.Core.exactRemainder x y ≠ .nan → FP.frem (E32 x) (E32 y) = E32 (sRest FP.Core.b32 x y) ∧ vf_n32 (FP.frem (E32 x) (E32 y)) := by
    intro hz
    have e : FP.frem (E32 x) (E32 y) = E32 (sRest FP.Core.b32 x y) := by
      show UInt32.ofNat (FP.Core.encode FP.Core.b32 (FP.Core.round FP.Core.b32 (FP.Core.exactRemainder (V32 (E32 x)) (V32 (E32 y))))) = _
      rw [V32_E32 hx, V32_E32 hy]; rfl
    refine ⟨e, (vf32_iff _).mpr ?_⟩
    rw [e, V32_E32 (show FP.Core.fits FP.Core.b32 (sRest FP.Core.b32 x y) from (rf fq_g32 _))]
    exact ne_round hz
  unfold fX6_restOf oX6_restOf lt_
  by_cases h1 : Feq (E32 x) (E32 x)
  · rw [if_pos h1]
    by_cases h2 : Feq (E32 y) (E32 y)
    · rw [if_pos h2]
      by_cases h3 : fX6_endless (E32 x) = 0
      · rw [if_pos h3]
        by_cases h4 : Feq (E32 y) FP.fconst0
        · rw [if_pos h4]
          have n1 : x ≠ .nan := hP1.mp h1
          have n2 : y ≠ .nan := hP2.mp h2
          have i1 : isInf x = false := hE1.mp h3
          have z2 : isZ y = true := hZ2.mp h4
          have e : sRest FP.Core.b32 x y = .nan := by clear G hP1 hP2 hE1 hE2 hZ1 hZ2 hQ; (rcases x with _ | s | ⟨s, c, q⟩ <;> rcases y with _ | t | ⟨t, d, r⟩ <;> first | rfl | skip) <;> (unfold sRest; simp_all [isInf, isZ, FP.Core.exactRemainder, FP.Core.round])
          rw [e_nan32, e]
          exact ⟨rfl, ⟨fun _ => ⟨fun _ => ⟨fun _ => ⟨fun _ => trivial, fun z => absurd h4 z⟩, fun z => absurd h3 z⟩, fun z => absurd h2 z⟩, fun z => absurd h1 z⟩⟩
        · rw [if_neg h4]
          have n1 : x ≠ .nan := hP1.mp h1
          have n2 : y ≠ .nan := hP2.mp h2
          have i1 : isInf x = false := hE1.mp h3
          have z2 : isZ y = false := bnt (fun z => h4 (hZ2.mpr z))
          obtain ⟨g1, g2⟩ := G (fun hz => by clear G hP1 hP2 hE1 hE2 hZ1 hZ2 hQ; (rcases x with _ | s | ⟨s, c, q⟩ <;> rcases y with _ | t | ⟨t, d, r⟩ <;> simp_all [isInf, isZ, FP.Core.exactRemainder]))
          exact ⟨g1, ⟨fun _ => ⟨fun _ => ⟨fun _ => ⟨fun z => absurd z h4, fun _ => g2⟩, fun z => absurd h3 z⟩, fun z => absurd h2 z⟩, fun z => absurd h1 z⟩⟩
      · rw [if_neg h3]
        have n1 : x ≠ .nan := hP1.mp h1
        have n2 : y ≠ .nan := hP2.mp h2
        have i1 : isInf x = true := bnf (fun z => h3 (hE1.mpr z))
        have e : sRest FP.Core.b32 x y = .nan := by clear G hP1 hP2 hE1 hE2 hZ1 hZ2 hQ; (rcases x with _ | s | ⟨s, c, q⟩ <;> rcases y with _ | t | ⟨t, d, r⟩ <;> first | rfl | skip) <;> (unfold sRest; simp_all [isInf, isZ, FP.Core.exactRemainder, FP.Core.round])
        rw [e_nan32, e]
        exact ⟨rfl, ⟨fun _ => ⟨fun _ => ⟨fun z => absurd z h3, fun _ => trivial⟩, fun z => absurd h2 z⟩, fun z => absurd h1 z⟩⟩
    · rw [if_neg h2]
      have n1 : x ≠ .nan := hP1.mp h1
      have n2 : y = .nan := Classical.byContradiction (fun z => h2 (hP2.mpr z))
      have e : sRest FP.Core.b32 x y = .nan := by subst n2; cases x <;> rfl
      rw [e_nan32, e]
      exact ⟨rfl, ⟨fun _ => ⟨fun z => absurd z h2, fun _ => trivial⟩, fun z => absurd h1 z⟩⟩
  · rw [if_neg h1]
    have n1 : x = .nan := Classical.byContradiction (fun z => h1 (hP1.mpr z))
    have e : sRest FP.Core.b32 x y = .nan := by subst n1; rfl
    rw [e_nan32, e]
    exact ⟨rfl, ⟨fun z => absurd z h1, fun _ => trivial⟩⟩
theorem m_sumOf_64 {x y : FP.Core.Datum} (hx : FP.Core.fits FP.Core.b64 x) (hy : FP.Core.fits FP.Core.b64 y) : fX6_sumOf_2 (E64 x) (E64 y) = E64 (sPlus FP.Core.b64 x y) ∧ oX6_sumOf_2 (E64 x) (E64 y) := by
  have hP1 := eqself_E64 hx
  have hP2 := eqself_E64 hy
  have hE1 := endless_E64 hx
  have hE2 := endless_E64 hy
  have hZ1 := eqz_E64 hx
  have hZ2 := eqz_E64 hy
  have hQ : Deq (E64 x) (E64 y) ↔ FP.Core.order x y = some .eq := by show FP.dcmp _ _ = some .eq ↔ _; rw [cmp_E64 hx hy]
  have G : FP.Core.exactSum x y ≠ .nan → FP.dadd (E64 x) (E64 y) = E64 (sPlus FP.Core.b64 x y) ∧ vf_n64 (FP.dadd (E64 x) (E64 y)) := by
    intro hz
    have e : FP.dadd (E64 x) (E64 y) = E64 (sPlus FP.Core.b64 x y) := by
      show UInt64.ofNat (FP.Core.encode FP.Core.b64 (FP.Core.round FP.Core.b64 (FP.Core.exactSum (V64 (E64 x)) (V64 (E64 y))))) = _
      rw [V64_E64 hx, V64_E64 hy]; rfl
    refine ⟨e, (vf64_iff _).mpr ?_⟩
    rw [e, V64_E64 (show FP.Core.fits FP.Core.b64 (sPlus FP.Core.b64 x y) from (rf fq_g64 _))]
    exact ne_round hz
  unfold fX6_sumOf_2 oX6_sumOf_2 lt_
  by_cases h1 : Deq (E64 x) (E64 x)
  · rw [if_pos h1]
    by_cases h2 : Deq (E64 y) (E64 y)
    · rw [if_pos h2]
      by_cases h3 : fX6_endless_2 (E64 x) = 0
      · rw [if_pos h3]
        have n1 : x ≠ .nan := hP1.mp h1
        have n2 : y ≠ .nan := hP2.mp h2
        have i1 : isInf x = false := hE1.mp h3
        obtain ⟨g1, g2⟩ := G (fun hz => by clear G hP1 hP2 hE1 hE2 hZ1 hZ2 hQ; (rcases x with _ | s | ⟨s, c, q⟩ <;> rcases y with _ | t | ⟨t, d, r⟩ <;> first | exact n1 rfl | exact n2 rfl | (cases hz; done) | (cases i1; done) | (cases i2; done) | (cases s <;> cases t <;> first | (cases hz; done) | exact absurd rfl q1 | cases q1)))
        exact ⟨g1, ⟨fun _ => ⟨fun _ => ⟨fun _ => g2, fun z => absurd h3 z⟩, fun z => absurd h2 z⟩, fun z => absurd h1 z⟩⟩
      · rw [if_neg h3]
        by_cases h4 : fX6_endless_2 (E64 y) = 0
        · rw [if_pos h4]
          have n1 : x ≠ .nan := hP1.mp h1
          have n2 : y ≠ .nan := hP2.mp h2
          have i1 : isInf x = true := bnf (fun z => h3 (hE1.mpr z))
          have i2 : isInf y = false := hE2.mp h4
          obtain ⟨g1, g2⟩ := G (fun hz => by clear G hP1 hP2 hE1 hE2 hZ1 hZ2 hQ; (rcases x with _ | s | ⟨s, c, q⟩ <;> rcases y with _ | t | ⟨t, d, r⟩ <;> first | exact n1 rfl | exact n2 rfl | (cases hz; done) | (cases i1; done) | (cases i2; done) | (cases s <;> cases t <;> first | (cases hz; done) | exact absurd rfl q1 | cases q1)))
          exact ⟨g1, ⟨fun _ => ⟨fun _ => ⟨fun z => absurd z h3, fun _ => ⟨fun _ => g2, fun z => absurd h4 z⟩⟩, fun z => absurd h2 z⟩, fun z => absurd h1 z⟩⟩
        · rw [if_neg h4]
          by_cases h5 : Deq (E64 x) (E64 y)
          · rw [if_pos h5]
            have n1 : x ≠ .nan := hP1.mp h1
            have n2 : y ≠ .nan := hP2.mp h2
            have i1 : isInf x = true := bnf (fun z => h3 (hE1.mpr z))
            have i2 : isInf y = true := bnf (fun z => h4 (hE2.mpr z))
            have q1 : FP.Core.order x y = some .eq := hQ.mp h5
            obtain ⟨g1, g2⟩ := G (fun hz => by clear G hP1 hP2 hE1 hE2 hZ1 hZ2 hQ; (rcases x with _ | s | ⟨s, c, q⟩ <;> rcases y with _ | t | ⟨t, d, r⟩ <;> first | exact n1 rfl | exact n2 rfl | (cases hz; done) | (cases i1; done) | (cases i2; done) | (cases s <;> cases t <;> first | (cases hz; done) | exact absurd rfl q1 | cases q1)))
            exact ⟨g1, ⟨fun _ => ⟨fun _ => ⟨fun z => absurd z h3, fun _ => ⟨fun z => absurd z h4, fun _ => ⟨fun _ => g2, fun z => absurd h5 z⟩⟩⟩, fun z => absurd h2 z⟩, fun z => absurd h1 z⟩⟩
          · rw [if_neg h5]
            have n1 : x ≠ .nan := hP1.mp h1
            have n2 : y ≠ .nan := hP2.mp h2
            have i1 : isInf x = true := bnf (fun z => h3 (hE1.mpr z))
            have i2 : isInf y = true := bnf (fun z => h4 (hE2.mpr z))
            have q1 : ¬ FP.Core.order x y = some .eq := fun z => h5 (hQ.mpr z)
            have e : sPlus FP.Core.b64 x y = .nan := by clear G hP1 hP2 hE1 hE2 hZ1 hZ2 hQ; (rcases x with _ | s | ⟨s, c, q⟩ <;> rcases y with _ | t | ⟨t, d, r⟩ <;> first | rfl | (cases i1; done) | (cases i2; done) | (cases s <;> cases t <;> first | rfl | exact absurd rfl q1 | cases q1))
            rw [e_nan64, e]
            exact ⟨rfl, ⟨fun _ => ⟨fun _ => ⟨fun z => absurd z h3, fun _ => ⟨fun z => absurd z h4, fun _ => ⟨fun z => absurd z h5, fun _ => trivial⟩⟩⟩, fun z => absurd h2 z⟩, fun z => absurd h1 z⟩⟩
    · rw [if_neg h2]
      have n1 : x ≠ .nan := hP1.mp h1
      have n2 : y = .nan := Classical.byContradiction (fun z => h2 (hP2.mpr z))
      have e : sPlus FP.Core.b64 x y = .nan := by subst n2; cases x <;> rfl
      rw [e_nan64, e]
      exact ⟨rfl, ⟨fun _ => ⟨fun z => absurd z h2, fun _ => trivial⟩, fun z => absurd h1 z⟩⟩
  · rw [if_neg h1]
    have n1 : x = .nan := Classical.byContradiction (fun z => h1 (hP1.mpr z))
    have e : sPlus FP.Core.b64 x y = .nan := by subst n1; rfl
    rw [e_nan64, e]
    exact ⟨rfl, ⟨fun z => absurd z h1, fun _ => trivial⟩⟩
theorem m_differenceOf_64 {x y : FP.Core.Datum} (hx : FP.Core.fits FP.Core.b64 x) (hy : FP.Core.fits FP.Core.b64 y) : fX6_differenceOf_2 (E64 x) (E64 y) = E64 (sMinus FP.Core.b64 x y) ∧ oX6_differenceOf_2 (E64 x) (E64 y) := by
  have hP1 := eqself_E64 hx
  have hP2 := eqself_E64 hy
  have hE1 := endless_E64 hx
  have hE2 := endless_E64 hy
  have hZ1 := eqz_E64 hx
  have hZ2 := eqz_E64 hy
  have hQ : Deq (E64 x) (E64 y) ↔ FP.Core.order x y = some .eq := by show FP.dcmp _ _ = some .eq ↔ _; rw [cmp_E64 hx hy]
  have G : FP.Core.exactSum x (FP.Core.negate y) ≠ .nan → FP.dsub (E64 x) (E64 y) = E64 (sMinus FP.Core.b64 x y) ∧ vf_n64 (FP.dsub (E64 x) (E64 y)) := by
    intro hz
    have e : FP.dsub (E64 x) (E64 y) = E64 (sMinus FP.Core.b64 x y) := by
      show UInt64.ofNat (FP.Core.encode FP.Core.b64 (FP.Core.round FP.Core.b64 (FP.Core.exactSum (V64 (E64 x)) (FP.Core.negate (V64 (E64 y)))))) = _
      rw [V64_E64 hx, V64_E64 hy]; rfl
    refine ⟨e, (vf64_iff _).mpr ?_⟩
    rw [e, V64_E64 (show FP.Core.fits FP.Core.b64 (sMinus FP.Core.b64 x y) from (rf fq_g64 _))]
    exact ne_round hz
  unfold fX6_differenceOf_2 oX6_differenceOf_2 lt_
  by_cases h1 : Deq (E64 x) (E64 x)
  · rw [if_pos h1]
    by_cases h2 : Deq (E64 y) (E64 y)
    · rw [if_pos h2]
      by_cases h3 : fX6_endless_2 (E64 x) = 0
      · rw [if_pos h3]
        have n1 : x ≠ .nan := hP1.mp h1
        have n2 : y ≠ .nan := hP2.mp h2
        have i1 : isInf x = false := hE1.mp h3
        obtain ⟨g1, g2⟩ := G (fun hz => by clear G hP1 hP2 hE1 hE2 hZ1 hZ2 hQ; (rcases x with _ | s | ⟨s, c, q⟩ <;> rcases y with _ | t | ⟨t, d, r⟩ <;> first | exact n1 rfl | exact n2 rfl | (cases hz; done) | (cases i1; done) | (cases i2; done) | (cases s <;> cases t <;> first | (cases hz; done) | exact absurd rfl q1 | cases q1)))
        exact ⟨g1, ⟨fun _ => ⟨fun _ => ⟨fun _ => g2, fun z => absurd h3 z⟩, fun z => absurd h2 z⟩, fun z => absurd h1 z⟩⟩
      · rw [if_neg h3]
        by_cases h4 : Deq (E64 x) (E64 y)
        · rw [if_pos h4]
          have n1 : x ≠ .nan := hP1.mp h1
          have n2 : y ≠ .nan := hP2.mp h2
          have i1 : isInf x = true := bnf (fun z => h3 (hE1.mpr z))
          have q1 : FP.Core.order x y = some .eq := hQ.mp h4
          have e : sMinus FP.Core.b64 x y = .nan := by clear G hP1 hP2 hE1 hE2 hZ1 hZ2 hQ; (rcases x with _ | s | ⟨s, c, q⟩ <;> rcases y with _ | t | ⟨t, d, r⟩ <;> first | rfl | (cases i1; done) | (cases i2; done) | (cases s <;> cases t <;> first | rfl | exact absurd rfl q1 | cases q1))
          rw [e_nan64, e]
          exact ⟨rfl, ⟨fun _ => ⟨fun _ => ⟨fun z => absurd z h3, fun _ => ⟨fun _ => trivial, fun z => absurd h4 z⟩⟩, fun z => absurd h2 z⟩, fun z => absurd h1 z⟩⟩
        · rw [if_neg h4]
          have n1 : x ≠ .nan := hP1.mp h1
          have n2 : y ≠ .nan := hP2.mp h2
          have i1 : isInf x = true := bnf (fun z => h3 (hE1.mpr z))
          have q1 : ¬ FP.Core.order x y = some .eq := fun z => h4 (hQ.mpr z)
          obtain ⟨g1, g2⟩ := G (fun hz => by clear G hP1 hP2 hE1 hE2 hZ1 hZ2 hQ; (rcases x with _ | s | ⟨s, c, q⟩ <;> rcases y with _ | t | ⟨t, d, r⟩ <;> first | exact n1 rfl | exact n2 rfl | (cases hz; done) | (cases i1; done) | (cases i2; done) | (cases s <;> cases t <;> first | (cases hz; done) | exact absurd rfl q1 | cases q1)))
          exact ⟨g1, ⟨fun _ => ⟨fun _ => ⟨fun z => absurd z h3, fun _ => ⟨fun z => absurd z h4, fun _ => g2⟩⟩, fun z => absurd h2 z⟩, fun z => absurd h1 z⟩⟩
    · rw [if_neg h2]
      have n1 : x ≠ .nan := hP1.mp h1
      have n2 : y = .nan := Classical.byContradiction (fun z => h2 (hP2.mpr z))
      have e : sMinus FP.Core.b64 x y = .nan := by subst n2; cases x <;> rfl
      rw [e_nan64, e]
      exact ⟨rfl, ⟨fun _ => ⟨fun z => absurd z h2, fun _ => trivial⟩, fun z => absurd h1 z⟩⟩
  · rw [if_neg h1]
    have n1 : x = .nan := Classical.byContradiction (fun z => h1 (hP1.mpr z))
    have e : sMinus FP.Core.b64 x y = .nan := by subst n1; rfl
    rw [e_nan64, e]
    exact ⟨rfl, ⟨fun z => absurd z h1, fun _ => trivial⟩⟩
theorem m_productOf_64 {x y : FP.Core.Datum} (hx : FP.Core.fits FP.Core.b64 x) (hy : FP.Core.fits FP.Core.b64 y) : fX6_productOf_2 (E64 x) (E64 y) = E64 (sTimes FP.Core.b64 x y) ∧ oX6_productOf_2 (E64 x) (E64 y) := by
  have hP1 := eqself_E64 hx
  have hP2 := eqself_E64 hy
  have hE1 := endless_E64 hx
  have hE2 := endless_E64 hy
  have hZ1 := eqz_E64 hx
  have hZ2 := eqz_E64 hy
  have hQ : Deq (E64 x) (E64 y) ↔ FP.Core.order x y = some .eq := by show FP.dcmp _ _ = some .eq ↔ _; rw [cmp_E64 hx hy]
  have G : FP.Core.exactProduct x y ≠ .nan → FP.dmul (E64 x) (E64 y) = E64 (sTimes FP.Core.b64 x y) ∧ vf_n64 (FP.dmul (E64 x) (E64 y)) := by
    intro hz
    have e : FP.dmul (E64 x) (E64 y) = E64 (sTimes FP.Core.b64 x y) := by
      show UInt64.ofNat (FP.Core.encode FP.Core.b64 (FP.Core.round FP.Core.b64 (FP.Core.exactProduct (V64 (E64 x)) (V64 (E64 y))))) = _
      rw [V64_E64 hx, V64_E64 hy]; rfl
    refine ⟨e, (vf64_iff _).mpr ?_⟩
    rw [e, V64_E64 (show FP.Core.fits FP.Core.b64 (sTimes FP.Core.b64 x y) from (rf fq_g64 _))]
    exact ne_round hz
  unfold fX6_productOf_2 oX6_productOf_2 lt_
  by_cases h1 : Deq (E64 x) (E64 x)
  · rw [if_pos h1]
    by_cases h2 : Deq (E64 y) (E64 y)
    · rw [if_pos h2]
      by_cases h3 : Deq (E64 x) FP.dconst0
      · rw [if_pos h3]
        by_cases h4 : fX6_endless_2 (E64 y) = 0
        · rw [if_pos h4]
          by_cases h5 : fX6_endless_2 (E64 x) = 0
          · rw [if_pos h5]
            have n1 : x ≠ .nan := hP1.mp h1
            have n2 : y ≠ .nan := hP2.mp h2
            have z1 : isZ x = true := hZ1.mp h3
            have i2 : isInf y = false := hE2.mp h4
            have i1 : isInf x = false := hE1.mp h5
            obtain ⟨g1, g2⟩ := G (fun hz => by clear G hP1 hP2 hE1 hE2 hZ1 hZ2 hQ; (rcases x with _ | s | ⟨s, c, q⟩ <;> rcases y with _ | t | ⟨t, d, r⟩ <;> simp_all [isInf, isZ, FP.Core.exactProduct]))
            exact ⟨g1, ⟨fun _ => ⟨fun _ => ⟨fun _ => ⟨fun _ => ⟨fun _ => g2, fun z => absurd h5 z⟩, fun z => absurd h4 z⟩, fun z => absurd h3 z⟩, fun z => absurd h2 z⟩, fun z => absurd h1 z⟩⟩
          · rw [if_neg h5]
            by_cases h6 : Deq (E64 y) FP.dconst0
            · rw [if_pos h6]
              have n1 : x ≠ .nan := hP1.mp h1
              have n2 : y ≠ .nan := hP2.mp h2
              have z1 : isZ x = true := hZ1.mp h3
              have i2 : isInf y = false := hE2.mp h4
              have i1 : isInf x = true := bnf (fun z => h5 (hE1.mpr z))
              have z2 : isZ y = true := hZ2.mp h6
              have e : sTimes FP.Core.b64 x y = .nan := by clear G hP1 hP2 hE1 hE2 hZ1 hZ2 hQ; (rcases x with _ | s | ⟨s, c, q⟩ <;> rcases y with _ | t | ⟨t, d, r⟩ <;> first | rfl | skip) <;> (unfold sTimes; simp_all [isInf, isZ, FP.Core.exactProduct, FP.Core.round])
              rw [e_nan64, e]
              exact ⟨rfl, ⟨fun _ => ⟨fun _ => ⟨fun _ => ⟨fun _ => ⟨fun z => absurd z h5, fun _ => ⟨fun _ => trivial, fun z => absurd h6 z⟩⟩, fun z => absurd h4 z⟩, fun z => absurd h3 z⟩, fun z => absurd h2 z⟩, fun z => absurd h1 z⟩⟩
            · rw [if_neg h6]
              have n1 : x ≠ .nan := hP1.mp h1
              have n2 : y ≠ .nan := hP2.mp h2
              have z1 : isZ x = true := hZ1.mp h3
              have i2 : isInf y = false := hE2.mp h4
              have i1 : isInf x = true := bnf (fun z => h5 (hE1.mpr z))
              have z2 : isZ y = false := bnt (fun z => h6 (hZ2.mpr z))
              obtain ⟨g1, g2⟩ := G (fun hz => by clear G hP1 hP2 hE1 hE2 hZ1 hZ2 hQ; (rcases x with _ | s | ⟨s, c, q⟩ <;> rcases y with _ | t | ⟨t, d, r⟩ <;> simp_all [isInf, isZ, FP.Core.exactProduct]))
              exact ⟨g1, ⟨fun _ => ⟨fun _ => ⟨fun _ => ⟨fun _ => ⟨fun z => absurd z h5, fun _ => ⟨fun z => absurd z h6, fun _ => g2⟩⟩, fun z => absurd h4 z⟩, fun z => absurd h3 z⟩, fun z => absurd h2 z⟩, fun z => absurd h1 z⟩⟩
        · rw [if_neg h4]
          have n1 : x ≠ .nan := hP1.mp h1
          have n2 : y ≠ .nan := hP2.mp h2
          have z1 : isZ x = true := hZ1.mp h3
          have i2 : isInf y = true := bnf (fun z => h4 (hE2.mpr z))
          have e : sTimes FP.Core.b64 x y = .nan := by clear G hP1 hP2 hE1 hE2 hZ1 hZ2 hQ; (rcases x with _ | s | ⟨s, c, q⟩ <;> rcases y with _ | t | ⟨t, d, r⟩ <;> first | rfl | skip) <;> (unfold sTimes; simp_all [isInf, isZ, FP.Core.exactProduct, FP.Core.round])
          rw [e_nan64, e]
          exact ⟨rfl, ⟨fun _ => ⟨fun _ => ⟨fun _ => ⟨fun z => absurd z h4, fun _ => trivial⟩, fun z => absurd h3 z⟩, fun z => absurd h2 z⟩, fun z => absurd h1 z⟩⟩
      · rw [if_neg h3]
        by_cases h7 : fX6_endless_2 (E64 x) = 0
        · rw [if_pos h7]
          have n1 : x ≠ .nan := hP1.mp h1
          have n2 : y ≠ .nan := hP2.mp h2
          have z1 : isZ x = false := bnt (fun z => h3 (hZ1.mpr z))
          have i1 : isInf x = false := hE1.mp h7
          obtain ⟨g1, g2⟩ := G (fun hz => by clear G hP1 hP2 hE1 hE2 hZ1 hZ2 hQ; (rcases x with _ | s | ⟨s, c, q⟩ <;> rcases y with _ | t | ⟨t, d, r⟩ <;> simp_all [isInf, isZ, FP.Core.exactProduct]))
          exact ⟨g1, ⟨fun _ => ⟨fun _ => ⟨fun z => absurd z h3, fun _ => ⟨fun _ => g2, fun z => absurd h7 z⟩⟩, fun z => absurd h2 z⟩, fun z => absurd h1 z⟩⟩
        · rw [if_neg h7]
          by_cases h8 : Deq (E64 y) FP.dconst0
          · rw [if_pos h8]
            have n1 : x ≠ .nan := hP1.mp h1
            have n2 : y ≠ .nan := hP2.mp h2
            have z1 : isZ x = false := bnt (fun z => h3 (hZ1.mpr z))
            have i1 : isInf x = true := bnf (fun z => h7 (hE1.mpr z))
            have z2 : isZ y = true := hZ2.mp h8
            have e : sTimes FP.Core.b64 x y = .nan := by clear G hP1 hP2 hE1 hE2 hZ1 hZ2 hQ; (rcases x with _ | s | ⟨s, c, q⟩ <;> rcases y with _ | t | ⟨t, d, r⟩ <;> first | rfl | skip) <;> (unfold sTimes; simp_all [isInf, isZ, FP.Core.exactProduct, FP.Core.round])
            rw [e_nan64, e]
            exact ⟨rfl, ⟨fun _ => ⟨fun _ => ⟨fun z => absurd z h3, fun _ => ⟨fun z => absurd z h7, fun _ => ⟨fun _ => trivial, fun z => absurd h8 z⟩⟩⟩, fun z => absurd h2 z⟩, fun z => absurd h1 z⟩⟩
          · rw [if_neg h8]
            have n1 : x ≠ .nan := hP1.mp h1
            have n2 : y ≠ .nan := hP2.mp h2
            have z1 : isZ x = false := bnt (fun z => h3 (hZ1.mpr z))
            have i1 : isInf x = true := bnf (fun z => h7 (hE1.mpr z))
            have z2 : isZ y = false := bnt (fun z => h8 (hZ2.mpr z))
            obtain ⟨g1, g2⟩ := G (fun hz => by clear G hP1 hP2 hE1 hE2 hZ1 hZ2 hQ; (rcases x with _ | s | ⟨s, c, q⟩ <;> rcases y with _ | t | ⟨t, d, r⟩ <;> simp_all [isInf, isZ, FP.Core.exactProduct]))
            exact ⟨g1, ⟨fun _ => ⟨fun _ => ⟨fun z => absurd z h3, fun _ => ⟨fun z => absurd z h7, fun _ => ⟨fun z => absurd z h8, fun _ => g2⟩⟩⟩, fun z => absurd h2 z⟩, fun z => absurd h1 z⟩⟩
    · rw [if_neg h2]
      have n1 : x ≠ .nan := hP1.mp h1
      have n2 : y = .nan := Classical.byContradiction (fun z => h2 (hP2.mpr z))
      have e : sTimes FP.Core.b64 x y = .nan := by subst n2; cases x <;> rfl
      rw [e_nan64, e]
      exact ⟨rfl, ⟨fun _ => ⟨fun z => absurd z h2, fun _ => trivial⟩, fun z => absurd h1 z⟩⟩
  · rw [if_neg h1]
    have n1 : x = .nan := Classical.byContradiction (fun z => h1 (hP1.mpr z))
    have e : sTimes FP.Core.b64 x y = .nan := by subst n1; rfl
    rw [e_nan64, e]
    exact ⟨rfl, ⟨fun z => absurd z h1, fun _ => trivial⟩⟩
theorem m_quotientOf_64 {x y : FP.Core.Datum} (hx : FP.Core.fits FP.Core.b64 x) (hy : FP.Core.fits FP.Core.b64 y) : fX6_quotientOf_2 (E64 x) (E64 y) = E64 (sOver FP.Core.b64 x y) ∧ oX6_quotientOf_2 (E64 x) (E64 y) := by
  have hP1 := eqself_E64 hx
  have hP2 := eqself_E64 hy
  have hE1 := endless_E64 hx
  have hE2 := endless_E64 hy
  have hZ1 := eqz_E64 hx
  have hZ2 := eqz_E64 hy
  have hQ : Deq (E64 x) (E64 y) ↔ FP.Core.order x y = some .eq := by show FP.dcmp _ _ = some .eq ↔ _; rw [cmp_E64 hx hy]
  have G : FP.Core.quotient FP.Core.b64 x y ≠ .nan → FP.ddiv (E64 x) (E64 y) = E64 (sOver FP.Core.b64 x y) ∧ vf_n64 (FP.ddiv (E64 x) (E64 y)) := by
    intro hz
    have e : FP.ddiv (E64 x) (E64 y) = E64 (sOver FP.Core.b64 x y) := by
      show UInt64.ofNat (FP.Core.encode FP.Core.b64 (FP.Core.quotient FP.Core.b64 (V64 (E64 x)) (V64 (E64 y)))) = _
      rw [V64_E64 hx, V64_E64 hy]; rfl
    refine ⟨e, (vf64_iff _).mpr ?_⟩
    rw [e, V64_E64 (show FP.Core.fits FP.Core.b64 (sOver FP.Core.b64 x y) from (quo_fits fq_g64 _ _))]
    exact hz
  unfold fX6_quotientOf_2 oX6_quotientOf_2 lt_
  by_cases h1 : Deq (E64 x) (E64 x)
  · rw [if_pos h1]
    by_cases h2 : Deq (E64 y) (E64 y)
    · rw [if_pos h2]
      by_cases h3 : Deq (E64 x) FP.dconst0
      · rw [if_pos h3]
        by_cases h4 : Deq (E64 y) FP.dconst0
        · rw [if_pos h4]
          have n1 : x ≠ .nan := hP1.mp h1
          have n2 : y ≠ .nan := hP2.mp h2
          have z1 : isZ x = true := hZ1.mp h3
          have z2 : isZ y = true := hZ2.mp h4
          have e : sOver FP.Core.b64 x y = .nan := by clear G hP1 hP2 hE1 hE2 hZ1 hZ2 hQ; (rcases x with _ | s | ⟨s, c, q⟩ <;> rcases y with _ | t | ⟨t, d, r⟩ <;> first | rfl | skip) <;> (unfold sOver; simp_all [isInf, isZ, FP.Core.quotient])
          rw [e_nan64, e]
          exact ⟨rfl, ⟨fun _ => ⟨fun _ => ⟨fun _ => ⟨fun _ => trivial, fun z => absurd h4 z⟩, fun z => absurd h3 z⟩, fun z => absurd h2 z⟩, fun z => absurd h1 z⟩⟩
        · rw [if_neg h4]
          by_cases h5 : fX6_endless_2 (E64 x) = 0
          · rw [if_pos h5]
            have n1 : x ≠ .nan := hP1.mp h1
            have n2 : y ≠ .nan := hP2.mp h2
            have z1 : isZ x = true := hZ1.mp h3
            have z2 : isZ y = false := bnt (fun z => h4 (hZ2.mpr z))
            have i1 : isInf x = false := hE1.mp h5
            obtain ⟨g1, g2⟩ := G (fun hz => by clear G hP1 hP2 hE1 hE2 hZ1 hZ2 hQ; (rcases x with _ | s | ⟨s, c, q⟩ <;> rcases y with _ | t | ⟨t, d, r⟩ <;> first | (simp_all [isInf, isZ, FP.Core.quotient]; done) | skip) <;> (have hz2 := nQraw hz; simp_all [isInf, isZ]))
            exact ⟨g1, ⟨fun _ => ⟨fun _ => ⟨fun _ => ⟨fun z => absurd z h4, fun _ => ⟨fun _ => g2, fun z => absurd h5 z⟩⟩, fun z => absurd h3 z⟩, fun z => absurd h2 z⟩, fun z => absurd h1 z⟩⟩
          · rw [if_neg h5]
            by_cases h6 : fX6_endless_2 (E64 y) = 0
            · rw [if_pos h6]
              have n1 : x ≠ .nan := hP1.mp h1
              have n2 : y ≠ .nan := hP2.mp h2
              have z1 : isZ x = true := hZ1.mp h3
              have z2 : isZ y = false := bnt (fun z => h4 (hZ2.mpr z))
              have i1 : isInf x = true := bnf (fun z => h5 (hE1.mpr z))
              have i2 : isInf y = false := hE2.mp h6
              obtain ⟨g1, g2⟩ := G (fun hz => by clear G hP1 hP2 hE1 hE2 hZ1 hZ2 hQ; (rcases x with _ | s | ⟨s, c, q⟩ <;> rcases y with _ | t | ⟨t, d, r⟩ <;> first | (simp_all [isInf, isZ, FP.Core.quotient]; done) | skip) <;> (have hz2 := nQraw hz; simp_all [isInf, isZ]))
              exact ⟨g1, ⟨fun _ => ⟨fun _ => ⟨fun _ => ⟨fun z => absurd z h4, fun _ => ⟨fun z => absurd z h5, fun _ => ⟨fun _ => g2, fun z => absurd h6 z⟩⟩⟩, fun z => absurd h3 z⟩, fun z => absurd h2 z⟩, fun z => absurd h1 z⟩⟩
            · rw [if_neg h6]
              have n1 : x ≠ .nan := hP1.mp h1
              have n2 : y ≠ .nan := hP2.mp h2
              have z1 : isZ x = true := hZ1.mp h3
              have z2 : isZ y = false := bnt (fun z => h4 (hZ2.mpr z))
              have i1 : isInf x = true := bnf (fun z => h5 (hE1.mpr z))
              have i2 : isInf y = true := bnf (fun z => h6 (hE2.mpr z))
              have e : sOver FP.Core.b64 x y = .nan := by clear G hP1 hP2 hE1 hE2 hZ1 hZ2 hQ; (rcases x with _ | s | ⟨s, c, q⟩ <;> rcases y with _ | t | ⟨t, d, r⟩ <;> first | rfl | skip) <;> (unfold sOver; simp_all [isInf, isZ, FP.Core.quotient])
              rw [e_nan64, e]
              exact ⟨rfl, ⟨fun _ => ⟨fun _ => ⟨fun _ => ⟨fun z => absurd z h4, fun _ => ⟨fun z => absurd z h5, fun _ => ⟨fun z => absurd z h6, fun _ => trivial⟩⟩⟩, fun z => absurd h3 z⟩, fun z => absurd h2 z⟩, fun z => absurd h1 z⟩⟩
      · rw [if_neg h3]
        by_cases h7 : fX6_endless_2 (E64 x) = 0
        · rw [if_pos h7]
          have n1 : x ≠ .nan := hP1.mp h1
          have n2 : y ≠ .nan := hP2.mp h2
          have z1 : isZ x = false := bnt (fun z => h3 (hZ1.mpr z))
          have i1 : isInf x = false := hE1.mp h7
          obtain ⟨g1, g2⟩ := G (fun hz => by clear G hP1 hP2 hE1 hE2 hZ1 hZ2 hQ; (rcases x with _ | s | ⟨s, c, q⟩ <;> rcases y with _ | t | ⟨t, d, r⟩ <;> first | (simp_all [isInf, isZ, FP.Core.quotient]; done) | skip) <;> (have hz2 := nQraw hz; simp_all [isInf, isZ]))
          exact ⟨g1, ⟨fun _ => ⟨fun _ => ⟨fun z => absurd z h3, fun _ => ⟨fun _ => g2, fun z => absurd h7 z⟩⟩, fun z => absurd h2 z⟩, fun z => absurd h1 z⟩⟩
        · rw [if_neg h7]
          by_cases h8 : fX6_endless_2 (E64 y) = 0
          · rw [if_pos h8]
            have n1 : x ≠ .nan := hP1.mp h1
            have n2 : y ≠ .nan := hP2.mp h2
            have z1 : isZ x = false := bnt (fun z => h3 (hZ1.mpr z))
            have i1 : isInf x = true := bnf (fun z => h7 (hE1.mpr z))
            have i2 : isInf y = false := hE2.mp h8
            obtain ⟨g1, g2⟩ := G (fun hz => by clear G hP1 hP2 hE1 hE2 hZ1 hZ2 hQ; (rcases x with _ | s | ⟨s, c, q⟩ <;> rcases y with _ | t | ⟨t, d, r⟩ <;> first | (simp_all [isInf, isZ, FP.Core.quotient]; done) | skip) <;> (have hz2 := nQraw hz; simp_all [isInf, isZ]))
            exact ⟨g1, ⟨fun _ => ⟨fun _ => ⟨fun z => absurd z h3, fun _ => ⟨fun z => absurd z h7, fun _ => ⟨fun _ => g2, fun z => absurd h8 z⟩⟩⟩, fun z => absurd h2 z⟩, fun z => absurd h1 z⟩⟩
          · rw [if_neg h8]
            have n1 : x ≠ .nan := hP1.mp h1
            have n2 : y ≠ .nan := hP2.mp h2
            have z1 : isZ x = false := bnt (fun z => h3 (hZ1.mpr z))
            have i1 : isInf x = true := bnf (fun z => h7 (hE1.mpr z))
            have i2 : isInf y = true := bnf (fun z => h8 (hE2.mpr z))
            have e : sOver FP.Core.b64 x y = .nan := by clear G hP1 hP2 hE1 hE2 hZ1 hZ2 hQ; (rcases x with _ | s | ⟨s, c, q⟩ <;> rcases y with _ | t | ⟨t, d, r⟩ <;> first | rfl | skip) <;> (unfold sOver; simp_all [isInf, isZ, FP.Core.quotient])
            rw [e_nan64, e]
            exact ⟨rfl, ⟨fun _ => ⟨fun _ => ⟨fun z => absurd z h3, fun _ => ⟨fun z => absurd z h7, fun _ => ⟨fun z => absurd z h8, fun _ => trivial⟩⟩⟩, fun z => absurd h2 z⟩, fun z => absurd h1 z⟩⟩
    · rw [if_neg h2]
      have n1 : x ≠ .nan := hP1.mp h1
      have n2 : y = .nan := Classical.byContradiction (fun z => h2 (hP2.mpr z))
      have e : sOver FP.Core.b64 x y = .nan := by subst n2; cases x <;> rfl
      rw [e_nan64, e]
      exact ⟨rfl, ⟨fun _ => ⟨fun z => absurd z h2, fun _ => trivial⟩, fun z => absurd h1 z⟩⟩
  · rw [if_neg h1]
    have n1 : x = .nan := Classical.byContradiction (fun z => h1 (hP1.mpr z))
    have e : sOver FP.Core.b64 x y = .nan := by subst n1; rfl
    rw [e_nan64, e]
    exact ⟨rfl, ⟨fun z => absurd z h1, fun _ => trivial⟩⟩
theorem m_restOf_64 {x y : FP.Core.Datum} (hx : FP.Core.fits FP.Core.b64 x) (hy : FP.Core.fits FP.Core.b64 y) : fX6_restOf_2 (E64 x) (E64 y) = E64 (sRest FP.Core.b64 x y) ∧ oX6_restOf_2 (E64 x) (E64 y) := by
  have hP1 := eqself_E64 hx
  have hP2 := eqself_E64 hy
  have hE1 := endless_E64 hx
  have hE2 := endless_E64 hy
  have hZ1 := eqz_E64 hx
  have hZ2 := eqz_E64 hy
  have hQ : Deq (E64 x) (E64 y) ↔ FP.Core.order x y = some .eq := by show FP.dcmp _ _ = some .eq ↔ _; rw [cmp_E64 hx hy]
  have G : FP.Core.exactRemainder x y ≠ .nan → FP.drem (E64 x) (E64 y) = E64 (sRest FP.Core.b64 x y) ∧ vf_n64 (FP.drem (E64 x) (E64 y)) := by
    intro hz
    have e : FP.drem (E64 x) (E64 y) = E64 (sRest FP.Core.b64 x y) := by
      show UInt64.ofNat (FP.Core.encode FP.Core.b64 (FP.Core.round FP.Core.b64 (FP.Core.exactRemainder (V64 (E64 x)) (V64 (E64 y))))) = _
      rw [V64_E64 hx, V64_E64 hy]; rfl
    refine ⟨e, (vf64_iff _).mpr ?_⟩
    rw [e, V64_E64 (show FP.Core.fits FP.Core.b64 (sRest FP.Core.b64 x y) from (rf fq_g64 _))]
    exact ne_round hz
  unfold fX6_restOf_2 oX6_restOf_2 lt_
  by_cases h1 : Deq (E64 x) (E64 x)
  · rw [if_pos h1]
    by_cases h2 : Deq (E64 y) (E64 y)
    · rw [if_pos h2]
      by_cases h3 : fX6_endless_2 (E64 x) = 0
      · rw [if_pos h3]
        by_cases h4 : Deq (E64 y) FP.dconst0
        · rw [if_pos h4]
          have n1 : x ≠ .nan := hP1.mp h1
          have n2 : y ≠ .nan := hP2.mp h2
          have i1 : isInf x = false := hE1.mp h3
          have z2 : isZ y = true := hZ2.mp h4
          have e : sRest FP.Core.b64 x y = .nan := by clear G hP1 hP2 hE1 hE2 hZ1 hZ2 hQ; (rcases x with _ | s | ⟨s, c, q⟩ <;> rcases y with _ | t | ⟨t, d, r⟩ <;> first | rfl | skip) <;> (unfold sRest; simp_all [isInf, isZ, FP.Core.exactRemainder, FP.Core.round])
          rw [e_nan64, e]
          exact ⟨rfl, ⟨fun _ => ⟨fun _ => ⟨fun _ => ⟨fun _ => trivial, fun z => absurd h4 z⟩, fun z => absurd h3 z⟩, fun z => absurd h2 z⟩, fun z => absurd h1 z⟩⟩
        · rw [if_neg h4]
          have n1 : x ≠ .nan := hP1.mp h1
          have n2 : y ≠ .nan := hP2.mp h2
          have i1 : isInf x = false := hE1.mp h3
          have z2 : isZ y = false := bnt (fun z => h4 (hZ2.mpr z))
          obtain ⟨g1, g2⟩ := G (fun hz => by clear G hP1 hP2 hE1 hE2 hZ1 hZ2 hQ; (rcases x with _ | s | ⟨s, c, q⟩ <;> rcases y with _ | t | ⟨t, d, r⟩ <;> simp_all [isInf, isZ, FP.Core.exactRemainder]))
          exact ⟨g1, ⟨fun _ => ⟨fun _ => ⟨fun _ => ⟨fun z => absurd z h4, fun _ => g2⟩, fun z => absurd h3 z⟩, fun z => absurd h2 z⟩, fun z => absurd h1 z⟩⟩
      · rw [if_neg h3]
        have n1 : x ≠ .nan := hP1.mp h1
        have n2 : y ≠ .nan := hP2.mp h2
        have i1 : isInf x = true := bnf (fun z => h3 (hE1.mpr z))
        have e : sRest FP.Core.b64 x y = .nan := by clear G hP1 hP2 hE1 hE2 hZ1 hZ2 hQ; (rcases x with _ | s | ⟨s, c, q⟩ <;> rcases y with _ | t | ⟨t, d, r⟩ <;> first | rfl | skip) <;> (unfold sRest; simp_all [isInf, isZ, FP.Core.exactRemainder, FP.Core.round])
        rw [e_nan64, e]
        exact ⟨rfl, ⟨fun _ => ⟨fun _ => ⟨fun z => absurd z h3, fun _ => trivial⟩, fun z => absurd h2 z⟩, fun z => absurd h1 z⟩⟩
    · rw [if_neg h2]
      have n1 : x ≠ .nan := hP1.mp h1
      have n2 : y = .nan := Classical.byContradiction (fun z => h2 (hP2.mpr z))
      have e : sRest FP.Core.b64 x y = .nan := by subst n2; cases x <;> rfl
      rw [e_nan64, e]
      exact ⟨rfl, ⟨fun _ => ⟨fun z => absurd z h2, fun _ => trivial⟩, fun z => absurd h1 z⟩⟩
  · rw [if_neg h1]
    have n1 : x = .nan := Classical.byContradiction (fun z => h1 (hP1.mpr z))
    have e : sRest FP.Core.b64 x y = .nan := by subst n1; rfl
    rw [e_nan64, e]
    exact ⟨rfl, ⟨fun z => absurd z h1, fun _ => trivial⟩⟩
