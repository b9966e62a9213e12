/-! floats, plain (10): the five acts of a kind, on data -/
theorem isInf_r {x : FP.Core.Datum} (h : fitK x) : (∃ s, FP.Core.round FP.Core.b64 x = .inf s ∧ x = .inf s) ∨ (FP.Core.round FP.Core.b64 x = .nan ∧ x = .nan) ∨ ∃ s c q c' q', FP.Core.round FP.Core.b64 x = .fin s c' q' ∧ x = .fin s c q ∧ (c' = 0 ↔ c = 0) := by
  cases x with
  | nan => exact Or.inr (Or.inl ⟨rfl, rfl⟩)
  | inf s => exact Or.inl ⟨s, rfl, rfl⟩
  | fin s c q =>
    obtain ⟨c', q', e1, -, e3⟩ := wid2 h
    exact Or.inr (Or.inr ⟨s, c, q, c', q', e1, rfl, val0 e3⟩)
theorem nS {x y : FP.Core.Datum} (hx : fitK x) (hy : fitK y) (h : FP.Core.exactSum (FP.Core.round FP.Core.b64 x) (FP.Core.round FP.Core.b64 y) = .nan) : FP.Core.exactSum x y = .nan := by
  rcases isInf_r hx with ⟨s, e1, rfl⟩ | ⟨e1, rfl⟩ | ⟨s, c, q, c', q', e1, rfl, e3⟩ <;> rcases isInf_r hy with ⟨t, f1, rfl⟩ | ⟨f1, rfl⟩ | ⟨t, d, r, d', r', f1, rfl, f3⟩ <;> simp only [e1, f1] at h <;> first | rfl | exact h | cases h
theorem nM {x y : FP.Core.Datum} (hx : fitK x) (hy : fitK y) (h : FP.Core.exactSum (FP.Core.round FP.Core.b64 x) (FP.Core.negate (FP.Core.round FP.Core.b64 y)) = .nan) : FP.Core.exactSum x (FP.Core.negate y) = .nan := by
  rw [neg_round] at h
  exact nS hx (k_neg hy) h
theorem nP {x y : FP.Core.Datum} (hx : fitK x) (hy : fitK y) (h : FP.Core.exactProduct (FP.Core.round FP.Core.b64 x) (FP.Core.round FP.Core.b64 y) = .nan) : FP.Core.exactProduct x y = .nan := by
  rcases isInf_r hx with ⟨s, e1, rfl⟩ | ⟨e1, rfl⟩ | ⟨s, c, q, c', q', e1, rfl, e3⟩ <;> rcases isInf_r hy with ⟨t, f1, rfl⟩ | ⟨f1, rfl⟩ | ⟨t, d, r, d', r', f1, rfl, f3⟩ <;> simp only [e1, f1] at h <;> first | rfl | exact h | (cases h; done) | skip
  · have h' : (if d' = 0 then FP.Core.Datum.nan else .inf (s != t)) = .nan := h
    show (if d = 0 then FP.Core.Datum.nan else .inf (s != t)) = .nan
    by_cases h2 : d = 0
    · rw [if_pos h2]
    · rw [if_neg (fun z => h2 (f3.mp z))] at h'; cases h'
  · have h' : (if c' = 0 then FP.Core.Datum.nan else .inf (s != t)) = .nan := h
    show (if c = 0 then FP.Core.Datum.nan else .inf (s != t)) = .nan
    by_cases h2 : c = 0
    · rw [if_pos h2]
    · rw [if_neg (fun z => h2 (e3.mp z))] at h'; cases h'
theorem nQ {x y : FP.Core.Datum} (hx : fitK x) (hy : fitK y) (h : FP.Core.quotient FP.Core.b64 (FP.Core.round FP.Core.b64 x) (FP.Core.round FP.Core.b64 y) = .nan) : x = .nan ∨ y = .nan ∨ (isInf x = true ∧ isInf y = true) ∨ (isZ x = true ∧ isZ y = true) := by
  rcases isInf_r hx with ⟨s, e1, rfl⟩ | ⟨e1, rfl⟩ | ⟨s, c, q, c', q', e1, rfl, e3⟩ <;> rcases isInf_r hy with ⟨t, f1, rfl⟩ | ⟨f1, rfl⟩ | ⟨t, d, r, d', r', f1, rfl, f3⟩ <;> simp only [e1, f1] at h
  · exact Or.inr (Or.inr (Or.inl ⟨rfl, rfl⟩))
  · exact Or.inr (Or.inl rfl)
  · cases h
  · exact Or.inl rfl
  · exact Or.inl rfl
  · exact Or.inl rfl
  · cases h
  · exact Or.inr (Or.inl rfl)
  · have h' : (if d' = 0 then (if c' = 0 then FP.Core.Datum.nan else .inf (s != t)) else FP.Core.roundRatio FP.Core.b64 (s != t) c' d' (q' - r')) = .nan := h
    by_cases h2 : d' = 0
    · rw [if_pos h2] at h'
      by_cases h3 : c' = 0
      · exact Or.inr (Or.inr (Or.inr ⟨decide_eq_true (e3.mp h3), decide_eq_true (f3.mp h2)⟩))
      · rw [if_neg h3] at h'; cases h'
    · rw [if_neg h2] at h'
      exact absurd h' (rr_ne _ _ _ _ _)
theorem nR {x y : FP.Core.Datum} (hx : fitK x) (hy : fitK y) (h : FP.Core.exactRemainder (FP.Core.round FP.Core.b64 x) (FP.Core.round FP.Core.b64 y) = .nan) : x = .nan ∨ y = .nan ∨ isInf x = true ∨ isZ y = true := by
  rcases isInf_r hx with ⟨s, e1, rfl⟩ | ⟨e1, rfl⟩ | ⟨s, c, q, c', q', e1, rfl, e3⟩ <;> rcases isInf_r hy with ⟨t, f1, rfl⟩ | ⟨f1, rfl⟩ | ⟨t, d, r, d', r', f1, rfl, f3⟩ <;> simp only [e1, f1] at h
  · exact Or.inr (Or.inr (Or.inl rfl))
  · exact Or.inr (Or.inl rfl)
  · exact Or.inr (Or.inr (Or.inl rfl))
  · exact Or.inl rfl
  · exact Or.inl rfl
  · exact Or.inl rfl
  · cases h
  · exact Or.inr (Or.inl rfl)
  · have h' : (if d' = 0 then FP.Core.Datum.nan else _) = .nan := h
    by_cases h2 : d' = 0
    · exact Or.inr (Or.inr (Or.inr (decide_eq_true (f3.mp h2))))
    · rw [if_neg h2] at h'; cases h'
theorem bnf {b : Bool} (h : ¬ b = false) : b = true := by cases b; exact absurd rfl h; rfl
theorem bnt {b : Bool} (h : ¬ b = true) : b = false := by cases b; rfl; exact absurd rfl h
theorem dS64 {x y : FP.Core.Datum} (hx : FP.Core.fits FP.Core.b64 x) (hy : FP.Core.fits FP.Core.b64 y) : FP.Core.round FP.Core.b64 (FP.Core.round FP.Core.b64 (FP.Core.exactSum (FP.Core.round FP.Core.b64 x) (FP.Core.round FP.Core.b64 y))) = FP.Core.round FP.Core.b64 (FP.Core.exactSum x y) := by rw [rself fq_g64 hx, rself fq_g64 hy, idem fq_g64]
theorem dP64 {x y : FP.Core.Datum} (hx : FP.Core.fits FP.Core.b64 x) (hy : FP.Core.fits FP.Core.b64 y) : FP.Core.round FP.Core.b64 (FP.Core.round FP.Core.b64 (FP.Core.exactProduct (FP.Core.round FP.Core.b64 x) (FP.Core.round FP.Core.b64 y))) = FP.Core.round FP.Core.b64 (FP.Core.exactProduct x y) := by rw [rself fq_g64 hx, rself fq_g64 hy, idem fq_g64]
theorem dQ64 {x y : FP.Core.Datum} (hx : FP.Core.fits FP.Core.b64 x) (hy : FP.Core.fits FP.Core.b64 y) : FP.Core.round FP.Core.b64 (FP.Core.quotient FP.Core.b64 (FP.Core.round FP.Core.b64 x) (FP.Core.round FP.Core.b64 y)) = FP.Core.quotient FP.Core.b64 x y := by rw [rself fq_g64 hx, rself fq_g64 hy, rself fq_g64 (quo_fits fq_g64 _ _)]
theorem dR64 {x y : FP.Core.Datum} (hx : FP.Core.fits FP.Core.b64 x) (hy : FP.Core.fits FP.Core.b64 y) : FP.Core.round FP.Core.b64 (FP.Core.exactRemainder (FP.Core.round FP.Core.b64 x) (FP.Core.round FP.Core.b64 y)) = FP.Core.round FP.Core.b64 (FP.Core.round FP.Core.b64 (FP.Core.exactRemainder x y)) := by rw [rself fq_g64 hx, rself fq_g64 hy, idem fq_g64]

theorem c_plus_F {x y : FP.Core.Datum} (hx : FP.Core.fits FP.Core.b32 x) (hy : FP.Core.fits FP.Core.b32 y) : fX8_plus_F (WD x) (WD y) = WD (sPlus FP.Core.b32 x y) ∧ oX8_plus_F (WD x) (WD y) := by
  have kx : fitK x := Or.inl hx
  have ky : fitK y := Or.inl hy
  have hN := number_W kx ky
  have hE1 := endless_W kx
  have hE2 := endless_W ky
  have hZ1 := eqz_W kx
  have hZ2 := eqz_W ky
  have hQ : Deq (WD x) (WD y) ↔ FP.Core.order x y = some .eq := by show FP.dcmp _ _ = some .eq ↔ _; rw [cmp_W kx ky]
  have G : FP.Core.exactSum (FP.Core.round FP.Core.b64 x) (FP.Core.round FP.Core.b64 y) ≠ .nan → fX2_fit (FP.dadd (WD x) (WD y)) = WD (sPlus FP.Core.b32 x y) ∧ vf_n64 (FP.dadd (WD x) (WD y)) ∧ oX2_fit (FP.dadd (WD x) (WD y)) := by
    intro hz
    rw [add_W]
    refine ⟨?_, (vf64_iff _).mpr (by rw [V64_E64 (rf fq_g64 _)]; exact ne_round hz), (fit_F (rf fq_g64 _)).2⟩
    rw [(fit_F (rf fq_g64 _)).1]
    unfold sPlus
    rw [dS32 hx hy]
  unfold fX8_plus_F oX8_plus_F lt_
  by_cases h0 : fX0_isNumber (WD x) (WD y) = 0
  · rw [if_pos h0, w_nan]
    refine ⟨?_, fun _ => trivial, fun z => absurd h0 z⟩
    unfold sPlus
    rcases hN.mp h0 with rfl | rfl
    · rfl
    · cases x <;> rfl
  · rw [if_neg h0]
    have n1 : x ≠ .nan := fun z => h0 (hN.mpr (Or.inl z))
    have n2 : y ≠ .nan := fun z => h0 (hN.mpr (Or.inr z))
    by_cases h1 : fX0_isEndless (WD x) = 0
    · rw [if_pos h1]
      have i1 : isInf x = false := hE1.mp h1
      obtain ⟨g1, g2⟩ := G (fun hz => by have hz2 := nS kx ky hz; clear G hN hE1 hE2 hZ1 hZ2 hQ h0 hz; (rcases x with _ | s | ⟨s, c, q⟩ <;> rcases y with _ | t | ⟨t, d, r⟩ <;> first | exact n1 rfl | exact n2 rfl | (cases hz2; done) | (cases i1; done) | (cases s <;> cases t <;> first | (cases hz2; done) | exact s1 rfl)))
      exact ⟨g1, ⟨fun z => absurd z h0, fun _ => ⟨fun _ => g2, fun z => absurd h1 z⟩⟩⟩
    · rw [if_neg h1]
      have hS : Deq (WD y) (FP.dneg (WD x)) ↔ FP.Core.order y (FP.Core.negate x) = some .eq := by rw [dneg_W n1]; show FP.dcmp _ _ = some .eq ↔ _; rw [cmp_W ky (k_neg kx)]
      by_cases h2 : Deq (WD y) (FP.dneg (WD x))
      · rw [if_pos h2]
        have i1 : isInf x = true := bnf (fun z => h1 (hE1.mpr z))
        have s1 : FP.Core.order y (FP.Core.negate x) = some .eq := hS.mp h2
        have e : sPlus FP.Core.b32 x y = .nan := by clear G hN hE1 hE2 hZ1 hZ2 hQ h0; (rcases x with _ | s | ⟨s, c, q⟩ <;> rcases y with _ | t | ⟨t, d, r⟩ <;> first | rfl | (cases i1; done) | (cases s <;> cases t <;> first | rfl | cases s1))
        rw [w_nan, e]
        exact ⟨rfl, ⟨fun z => absurd z h0, fun _ => ⟨fun z => absurd z h1, fun _ => ⟨fun _ => trivial, fun z => absurd h2 z⟩⟩⟩⟩
      · rw [if_neg h2]
        have i1 : isInf x = true := bnf (fun z => h1 (hE1.mpr z))
        have s1 : ¬ FP.Core.order y (FP.Core.negate x) = some .eq := fun z => h2 (hS.mpr z)
        obtain ⟨g1, g2⟩ := G (fun hz => by have hz2 := nS kx ky hz; clear G hN hE1 hE2 hZ1 hZ2 hQ h0 hz; (rcases x with _ | s | ⟨s, c, q⟩ <;> rcases y with _ | t | ⟨t, d, r⟩ <;> first | exact n1 rfl | exact n2 rfl | (cases hz2; done) | (cases i1; done) | (cases s <;> cases t <;> first | (cases hz2; done) | exact s1 rfl)))
        exact ⟨g1, ⟨fun z => absurd z h0, fun _ => ⟨fun z => absurd z h1, fun _ => ⟨fun z => absurd z h2, fun _ => g2⟩⟩⟩⟩
theorem c_minus_F {x y : FP.Core.Datum} (hx : FP.Core.fits FP.Core.b32 x) (hy : FP.Core.fits FP.Core.b32 y) : fX8_minus_F (WD x) (WD y) = WD (sMinus FP.Core.b32 x y) ∧ oX8_minus_F (WD x) (WD y) := by
  have kx : fitK x := Or.inl hx
  have ky : fitK y := Or.inl hy
  have hN := number_W kx ky
  have hE1 := endless_W kx
  have hE2 := endless_W ky
  have hZ1 := eqz_W kx
  have hZ2 := eqz_W ky
  have hQ : Deq (WD x) (WD y) ↔ FP.Core.order x y = some .eq := by show FP.dcmp _ _ = some .eq ↔ _; rw [cmp_W kx ky]
  have G : FP.Core.exactSum (FP.Core.round FP.Core.b64 x) (FP.Core.negate (FP.Core.round FP.Core.b64 y)) ≠ .nan → fX2_fit (FP.dsub (WD x) (WD y)) = WD (sMinus FP.Core.b32 x y) ∧ vf_n64 (FP.dsub (WD x) (WD y)) ∧ oX2_fit (FP.dsub (WD x) (WD y)) := by
    intro hz
    rw [sub_W]
    refine ⟨?_, (vf64_iff _).mpr (by rw [V64_E64 (rf fq_g64 _)]; exact ne_round hz), (fit_F (rf fq_g64 _)).2⟩
    rw [(fit_F (rf fq_g64 _)).1]
    unfold sMinus
    rw [neg_round]
    rw [dS32 hx (neg_fits hy)]
  unfold fX8_minus_F oX8_minus_F lt_
  by_cases h0 : fX0_isNumber (WD x) (WD y) = 0
  · rw [if_pos h0, w_nan]
    refine ⟨?_, fun _ => trivial, fun z => absurd h0 z⟩
    unfold sMinus
    rcases hN.mp h0 with rfl | rfl
    · rfl
    · cases x <;> rfl
  · rw [if_neg h0]
    have n1 : x ≠ .nan := fun z => h0 (hN.mpr (Or.inl z))
    have n2 : y ≠ .nan := fun z => h0 (hN.mpr (Or.inr z))
    by_cases h1 : fX0_isEndless (WD x) = 0
    · rw [if_pos h1]
      have i1 : isInf x = false := hE1.mp h1
      obtain ⟨g1, g2⟩ := G (fun hz => by have hz2 := nM kx ky hz; clear G hN hE1 hE2 hZ1 hZ2 hQ h0 hz; (rcases x with _ | s | ⟨s, c, q⟩ <;> rcases y with _ | t | ⟨t, d, r⟩ <;> first | exact n1 rfl | exact n2 rfl | (cases hz2; done) | (cases i1; done) | (cases s <;> cases t <;> first | (cases hz2; done) | exact q1 rfl)))
      exact ⟨g1, ⟨fun z => absurd z h0, fun _ => ⟨fun _ => g2, fun z => absurd h1 z⟩⟩⟩
    · rw [if_neg h1]
      by_cases h2 : Deq (WD x) (WD y)
      · rw [if_pos h2]
        have i1 : isInf x = true := bnf (fun z => h1 (hE1.mpr z))
        have q1 : FP.Core.order x y = some .eq := hQ.mp h2
        have e : sMinus FP.Core.b32 x y = .nan := by clear G hN hE1 hE2 hZ1 hZ2 hQ h0; (rcases x with _ | s | ⟨s, c, q⟩ <;> rcases y with _ | t | ⟨t, d, r⟩ <;> first | rfl | (cases i1; done) | (cases s <;> cases t <;> first | rfl | cases q1))
        rw [w_nan, e]
        exact ⟨rfl, ⟨fun z => absurd z h0, fun _ => ⟨fun z => absurd z h1, fun _ => ⟨fun _ => trivial, fun z => absurd h2 z⟩⟩⟩⟩
      · rw [if_neg h2]
        have i1 : isInf x = true := bnf (fun z => h1 (hE1.mpr z))
        have q1 : ¬ FP.Core.order x y = some .eq := fun z => h2 (hQ.mpr z)
        obtain ⟨g1, g2⟩ := G (fun hz => by have hz2 := nM kx ky hz; clear G hN hE1 hE2 hZ1 hZ2 hQ h0 hz; (rcases x with _ | s | ⟨s, c, q⟩ <;> rcases y with _ | t | ⟨t, d, r⟩ <;> first | exact n1 rfl | exact n2 rfl | (cases hz2; done) | (cases i1; done) | (cases s <;> cases t <;> first | (cases hz2; done) | exact q1 rfl)))
        exact ⟨g1, ⟨fun z => absurd z h0, fun _ => ⟨fun z => absurd z h1, fun _ => ⟨fun z => absurd z h2, fun _ => g2⟩⟩⟩⟩
theorem c_times_F {x y : FP.Core.Datum} (hx : FP.Core.fits FP.Core.b32 x) (hy : FP.Core.fits FP.Core.b32 y) : fX8_times_F (WD x) (WD y) = WD (sTimes FP.Core.b32 x y) ∧ oX8_times_F (WD x) (WD y) := by
  have kx : fitK x := Or.inl hx
  have ky : fitK y := Or.inl hy
  have hN := number_W kx ky
  have hE1 := endless_W kx
  have hE2 := endless_W ky
  have hZ1 := eqz_W kx
  have hZ2 := eqz_W ky
  have hQ : Deq (WD x) (WD y) ↔ FP.Core.order x y = some .eq := by show FP.dcmp _ _ = some .eq ↔ _; rw [cmp_W kx ky]
  have G : FP.Core.exactProduct (FP.Core.round FP.Core.b64 x) (FP.Core.round FP.Core.b64 y) ≠ .nan → fX2_fit (FP.dmul (WD x) (WD y)) = WD (sTimes FP.Core.b32 x y) ∧ vf_n64 (FP.dmul (WD x) (WD y)) ∧ oX2_fit (FP.dmul (WD x) (WD y)) := by
    intro hz
    rw [mul_W]
    refine ⟨?_, (vf64_iff _).mpr (by rw [V64_E64 (rf fq_g64 _)]; exact ne_round hz), (fit_F (rf fq_g64 _)).2⟩
    rw [(fit_F (rf fq_g64 _)).1]
    unfold sTimes
    rw [dP32 hx hy]
  unfold fX8_times_F oX8_times_F lt_
  by_cases h0 : fX0_isNumber (WD x) (WD y) = 0
  · rw [if_pos h0, w_nan]
    refine ⟨?_, fun _ => trivial, fun z => absurd h0 z⟩
    unfold sTimes
    rcases hN.mp h0 with rfl | rfl
    · rfl
    · cases x <;> rfl
  · rw [if_neg h0]
    have n1 : x ≠ .nan := fun z => h0 (hN.mpr (Or.inl z))
    have n2 : y ≠ .nan := fun z => h0 (hN.mpr (Or.inr z))
    by_cases h1 : Deq (WD x) FP.dconst0
    · rw [if_pos h1]
      by_cases h2 : fX0_isEndless (WD y) = 0
      · rw [if_pos h2]
        by_cases h3 : fX0_isEndless (WD x) = 0
        · rw [if_pos h3]
          have z1 : isZ x = true := hZ1.mp h1
          have i2 : isInf y = false := hE2.mp h2
          have i1 : isInf x = false := hE1.mp h3
          obtain ⟨g1, g2⟩ := G (fun hz => by have hz2 := nP kx ky hz; clear G hN hE1 hE2 hZ1 hZ2 hQ h0 hz; (rcases x with _ | s | ⟨s, c, q⟩ <;> rcases y with _ | t | ⟨t, d, r⟩ <;> simp_all [isInf, isZ, FP.Core.exactProduct]))
          exact ⟨g1, ⟨fun z => absurd z h0, fun _ => ⟨fun _ => ⟨fun _ => ⟨fun _ => g2, fun z => absurd h3 z⟩, fun z => absurd h2 z⟩, fun z => absurd h1 z⟩⟩⟩
        · rw [if_neg h3]
          by_cases h4 : Deq (WD y) FP.dconst0
          · rw [if_pos h4]
            have z1 : isZ x = true := hZ1.mp h1
            have i2 : isInf y = false := hE2.mp h2
            have i1 : isInf x = true := bnf (fun z => h3 (hE1.mpr z))
            have z2 : isZ y = true := hZ2.mp h4
            have e : sTimes FP.Core.b32 x y = .nan := by clear G hN hE1 hE2 hZ1 hZ2 hQ h0; (rcases x with _ | s | ⟨s, c, q⟩ <;> rcases y with _ | t | ⟨t, d, r⟩ <;> first | rfl | skip) <;> (unfold sTimes; simp_all [isInf, isZ, FP.Core.exactProduct, FP.Core.round])
            rw [w_nan, e]
            exact ⟨rfl, ⟨fun z => absurd z h0, fun _ => ⟨fun _ => ⟨fun _ => ⟨fun z => absurd z h3, fun _ => ⟨fun _ => trivial, fun z => absurd h4 z⟩⟩, fun z => absurd h2 z⟩, fun z => absurd h1 z⟩⟩⟩
          · rw [if_neg h4]
            have z1 : isZ x = true := hZ1.mp h1
            have i2 : isInf y = false := hE2.mp h2
            have i1 : isInf x = true := bnf (fun z => h3 (hE1.mpr z))
            have z2 : isZ y = false := bnt (fun z => h4 (hZ2.mpr z))
            obtain ⟨g1, g2⟩ := G (fun hz => by have hz2 := nP kx ky hz; clear G hN hE1 hE2 hZ1 hZ2 hQ h0 hz; (rcases x with _ | s | ⟨s, c, q⟩ <;> rcases y with _ | t | ⟨t, d, r⟩ <;> simp_all [isInf, isZ, FP.Core.exactProduct]))
            exact ⟨g1, ⟨fun z => absurd z h0, fun _ => ⟨fun _ => ⟨fun _ => ⟨fun z => absurd z h3, fun _ => ⟨fun z => absurd z h4, fun _ => g2⟩⟩, fun z => absurd h2 z⟩, fun z => absurd h1 z⟩⟩⟩
      · rw [if_neg h2]
        have z1 : isZ x = true := hZ1.mp h1
        have i2 : isInf y = true := bnf (fun z => h2 (hE2.mpr z))
        have e : sTimes FP.Core.b32 x y = .nan := by clear G hN hE1 hE2 hZ1 hZ2 hQ h0; (rcases x with _ | s | ⟨s, c, q⟩ <;> rcases y with _ | t | ⟨t, d, r⟩ <;> first | rfl | skip) <;> (unfold sTimes; simp_all [isInf, isZ, FP.Core.exactProduct, FP.Core.round])
        rw [w_nan, e]
        exact ⟨rfl, ⟨fun z => absurd z h0, fun _ => ⟨fun _ => ⟨fun z => absurd z h2, fun _ => trivial⟩, fun z => absurd h1 z⟩⟩⟩
    · rw [if_neg h1]
      by_cases h5 : fX0_isEndless (WD x) = 0
      · rw [if_pos h5]
        have z1 : isZ x = false := bnt (fun z => h1 (hZ1.mpr z))
        have i1 : isInf x = false := hE1.mp h5
        obtain ⟨g1, g2⟩ := G (fun hz => by have hz2 := nP kx ky hz; clear G hN hE1 hE2 hZ1 hZ2 hQ h0 hz; (rcases x with _ | s | ⟨s, c, q⟩ <;> rcases y with _ | t | ⟨t, d, r⟩ <;> simp_all [isInf, isZ, FP.Core.exactProduct]))
        exact ⟨g1, ⟨fun z => absurd z h0, fun _ => ⟨fun z => absurd z h1, fun _ => ⟨fun _ => g2, fun z => absurd h5 z⟩⟩⟩⟩
      · rw [if_neg h5]
        by_cases h6 : Deq (WD y) FP.dconst0
        · rw [if_pos h6]
          have z1 : isZ x = false := bnt (fun z => h1 (hZ1.mpr z))
          have i1 : isInf x = true := bnf (fun z => h5 (hE1.mpr z))
          have z2 : isZ y = true := hZ2.mp h6
          have e : sTimes FP.Core.b32 x y = .nan := by clear G hN hE1 hE2 hZ1 hZ2 hQ h0; (rcases x with _ | s | ⟨s, c, q⟩ <;> rcases y with _ | t | ⟨t, d, r⟩ <;> first | rfl | skip) <;> (unfold sTimes; simp_all [isInf, isZ, FP.Core.exactProduct, FP.Core.round])
          rw [w_nan, e]
          exact ⟨rfl, ⟨fun z => absurd z h0, fun _ => ⟨fun z => absurd z h1, fun _ => ⟨fun z => absurd z h5, fun _ => ⟨fun _ => trivial, fun z => absurd h6 z⟩⟩⟩⟩⟩
        · rw [if_neg h6]
          have z1 : isZ x = false := bnt (fun z => h1 (hZ1.mpr z))
          have i1 : isInf x = true := bnf (fun z => h5 (hE1.mpr z))
          have z2 : isZ y = false := bnt (fun z => h6 (hZ2.mpr z))
          obtain ⟨g1, g2⟩ := G (fun hz => by have hz2 := nP kx ky hz; clear G hN hE1 hE2 hZ1 hZ2 hQ h0 hz; (rcases x with _ | s | ⟨s, c, q⟩ <;> rcases y with _ | t | ⟨t, d, r⟩ <;> simp_all [isInf, isZ, FP.Core.exactProduct]))
          exact ⟨g1, ⟨fun z => absurd z h0, fun _ => ⟨fun z => absurd z h1, fun _ => ⟨fun z => absurd z h5, fun _ => ⟨fun z => absurd z h6, fun _ => g2⟩⟩⟩⟩⟩
theorem c_over_F {x y : FP.Core.Datum} (hx : FP.Core.fits FP.Core.b32 x) (hy : FP.Core.fits FP.Core.b32 y) : fX8_over_F (WD x) (WD y) = WD (sOver FP.Core.b32 x y) ∧ oX8_over_F (WD x) (WD y) := by
  have kx : fitK x := Or.inl hx
  have ky : fitK y := Or.inl hy
  have hN := number_W kx ky
  have hE1 := endless_W kx
  have hE2 := endless_W ky
  have hZ1 := eqz_W kx
  have hZ2 := eqz_W ky
  have hQ : Deq (WD x) (WD y) ↔ FP.Core.order x y = some .eq := by show FP.dcmp _ _ = some .eq ↔ _; rw [cmp_W kx ky]
  have G : FP.Core.quotient FP.Core.b64 (FP.Core.round FP.Core.b64 x) (FP.Core.round FP.Core.b64 y) ≠ .nan → fX2_fit (FP.ddiv (WD x) (WD y)) = WD (sOver FP.Core.b32 x y) ∧ vf_n64 (FP.ddiv (WD x) (WD y)) ∧ oX2_fit (FP.ddiv (WD x) (WD y)) := by
    intro hz
    rw [div_W]
    refine ⟨?_, (vf64_iff _).mpr (by rw [V64_E64 (quo_fits fq_g64 _ _)]; exact hz), (fit_F (quo_fits fq_g64 _ _)).2⟩
    rw [(fit_F (quo_fits fq_g64 _ _)).1]
    unfold sOver
    rw [dQ32 hx hy]
  unfold fX8_over_F oX8_over_F lt_
  by_cases h0 : fX0_isNumber (WD x) (WD y) = 0
  · rw [if_pos h0, w_nan]
    refine ⟨?_, fun _ => trivial, fun z => absurd h0 z⟩
    unfold sOver
    rcases hN.mp h0 with rfl | rfl
    · rfl
    · cases x <;> rfl
  · rw [if_neg h0]
    have n1 : x ≠ .nan := fun z => h0 (hN.mpr (Or.inl z))
    have n2 : y ≠ .nan := fun z => h0 (hN.mpr (Or.inr z))
    by_cases h1 : Deq (WD x) FP.dconst0
    · rw [if_pos h1]
      by_cases h2 : Deq (WD y) FP.dconst0
      · rw [if_pos h2]
        have z1 : isZ x = true := hZ1.mp h1
        have z2 : isZ y = true := hZ2.mp h2
        have e : sOver FP.Core.b32 x y = .nan := by clear G hN hE1 hE2 hZ1 hZ2 hQ h0; (rcases x with _ | s | ⟨s, c, q⟩ <;> rcases y with _ | t | ⟨t, d, r⟩ <;> first | rfl | skip) <;> (unfold sOver; simp_all [isInf, isZ, FP.Core.quotient])
        rw [w_nan, e]
        exact ⟨rfl, ⟨fun z => absurd z h0, fun _ => ⟨fun _ => ⟨fun _ => trivial, fun z => absurd h2 z⟩, fun z => absurd h1 z⟩⟩⟩
      · rw [if_neg h2]
        by_cases h3 : fX0_isEndless (WD x) = 0
        · rw [if_pos h3]
          have z1 : isZ x = true := hZ1.mp h1
          have z2 : isZ y = false := bnt (fun z => h2 (hZ2.mpr z))
          have i1 : isInf x = false := hE1.mp h3
          obtain ⟨g1, g2⟩ := G (fun hz => by have hz2 := nQ kx ky hz; clear G hN hE1 hE2 hZ1 hZ2 hQ h0 hz; (rcases x with _ | s | ⟨s, c, q⟩ <;> rcases y with _ | t | ⟨t, d, r⟩ <;> simp_all [isInf, isZ]))
          exact ⟨g1, ⟨fun z => absurd z h0, fun _ => ⟨fun _ => ⟨fun z => absurd z h2, fun _ => ⟨fun _ => g2, fun z => absurd h3 z⟩⟩, fun z => absurd h1 z⟩⟩⟩
        · rw [if_neg h3]
          by_cases h4 : fX0_isEndless (WD y) = 0
          · rw [if_pos h4]
            have z1 : isZ x = true := hZ1.mp h1
            have z2 : isZ y = false := bnt (fun z => h2 (hZ2.mpr z))
            have i1 : isInf x = true := bnf (fun z => h3 (hE1.mpr z))
            have i2 : isInf y = false := hE2.mp h4
            obtain ⟨g1, g2⟩ := G (fun hz => by have hz2 := nQ kx ky hz; clear G hN hE1 hE2 hZ1 hZ2 hQ h0 hz; (rcases x with _ | s | ⟨s, c, q⟩ <;> rcases y with _ | t | ⟨t, d, r⟩ <;> simp_all [isInf, isZ]))
            exact ⟨g1, ⟨fun z => absurd z h0, fun _ => ⟨fun _ => ⟨fun z => absurd z h2, fun _ => ⟨fun z => absurd z h3, fun _ => ⟨fun _ => g2, fun z => absurd h4 z⟩⟩⟩, fun z => absurd h1 z⟩⟩⟩
          · rw [if_neg h4]
            have z1 : isZ x = true := hZ1.mp h1
            have z2 : isZ y = false := bnt (fun z => h2 (hZ2.mpr z))
            have i1 : isInf x = true := bnf (fun z => h3 (hE1.mpr z))
            have i2 : isInf y = true := bnf (fun z => h4 (hE2.mpr z))
            have e : sOver FP.Core.b32 x y = .nan := by clear G hN hE1 hE2 hZ1 hZ2 hQ h0; (rcases x with _ | s | ⟨s, c, q⟩ <;> rcases y with _ | t | ⟨t, d, r⟩ <;> first | rfl | skip) <;> (unfold sOver; simp_all [isInf, isZ, FP.Core.quotient])
            rw [w_nan, e]
            exact ⟨rfl, ⟨fun z => absurd z h0, fun _ => ⟨fun _ => ⟨fun z => absurd z h2, fun _ => ⟨fun z => absurd z h3, fun _ => ⟨fun z => absurd z h4, fun _ => trivial⟩⟩⟩, fun z => absurd h1 z⟩⟩⟩
    · rw [if_neg h1]
      by_cases h5 : fX0_isEndless (WD x) = 0
      · rw [if_pos h5]
        have z1 : isZ x = false := bnt (fun z => h1 (hZ1.mpr z))
        have i1 : isInf x = false := hE1.mp h5
        obtain ⟨g1, g2⟩ := G (fun hz => by have hz2 := nQ kx ky hz; clear G hN hE1 hE2 hZ1 hZ2 hQ h0 hz; (rcases x with _ | s | ⟨s, c, q⟩ <;> rcases y with _ | t | ⟨t, d, r⟩ <;> simp_all [isInf, isZ]))
        exact ⟨g1, ⟨fun z => absurd z h0, fun _ => ⟨fun z => absurd z h1, fun _ => ⟨fun _ => g2, fun z => absurd h5 z⟩⟩⟩⟩
      · rw [if_neg h5]
        by_cases h6 : fX0_isEndless (WD y) = 0
        · rw [if_pos h6]
          have z1 : isZ x = false := bnt (fun z => h1 (hZ1.mpr z))
          have i1 : isInf x = true := bnf (fun z => h5 (hE1.mpr z))
          have i2 : isInf y = false := hE2.mp h6
          obtain ⟨g1, g2⟩ := G (fun hz => by have hz2 := nQ kx ky hz; clear G hN hE1 hE2 hZ1 hZ2 hQ h0 hz; (rcases x with _ | s | ⟨s, c, q⟩ <;> rcases y with _ | t | ⟨t, d, r⟩ <;> simp_all [isInf, isZ]))
          exact ⟨g1, ⟨fun z => absurd z h0, fun _ => ⟨fun z => absurd z h1, fun _ => ⟨fun z => absurd z h5, fun _ => ⟨fun _ => g2, fun z => absurd h6 z⟩⟩⟩⟩⟩
        · rw [if_neg h6]
          have z1 : isZ x = false := bnt (fun z => h1 (hZ1.mpr z))
          have i1 : isInf x = true := bnf (fun z => h5 (hE1.mpr z))
          have i2 : isInf y = true := bnf (fun z => h6 (hE2.mpr z))
          have e : sOver FP.Core.b32 x y = .nan := by clear G hN hE1 hE2 hZ1 hZ2 hQ h0; (rcases x with _ | s | ⟨s, c, q⟩ <;> rcases y with _ | t | ⟨t, d, r⟩ <;> first | rfl | skip) <;> (unfold sOver; simp_all [isInf, isZ, FP.Core.quotient])
          rw [w_nan, e]
          exact ⟨rfl, ⟨fun z => absurd z h0, fun _ => ⟨fun z => absurd z h1, fun _ => ⟨fun z => absurd z h5, fun _ => ⟨fun z => absurd z h6, fun _ => trivial⟩⟩⟩⟩⟩
theorem c_rest_F {x y : FP.Core.Datum} (hx : FP.Core.fits FP.Core.b32 x) (hy : FP.Core.fits FP.Core.b32 y) : fX8_rest_F (WD x) (WD y) = WD (sRest FP.Core.b32 x y) ∧ oX8_rest_F (WD x) (WD y) := by
  have kx : fitK x := Or.inl hx
  have ky : fitK y := Or.inl hy
  have hN := number_W kx ky
  have hE1 := endless_W kx
  have hE2 := endless_W ky
  have hZ1 := eqz_W kx
  have hZ2 := eqz_W ky
  have hQ : Deq (WD x) (WD y) ↔ FP.Core.order x y = some .eq := by show FP.dcmp _ _ = some .eq ↔ _; rw [cmp_W kx ky]
  have G : FP.Core.exactRemainder (FP.Core.round FP.Core.b64 x) (FP.Core.round FP.Core.b64 y) ≠ .nan → FP.drem (WD x) (WD y) = WD (sRest FP.Core.b32 x y) ∧ vf_n64 (FP.drem (WD x) (WD y)) := by
    intro hz
    rw [rem_W]
    refine ⟨?_, (vf64_iff _).mpr (by rw [V64_E64 (rf fq_g64 _)]; exact ne_round hz)⟩
    unfold sRest WD
    rw [dR32 hx hy]
  unfold fX8_rest_F oX8_rest_F lt_
  by_cases h0 : fX0_isNumber (WD x) (WD y) = 0
  · rw [if_pos h0, w_nan]
    refine ⟨?_, fun _ => trivial, fun z => absurd h0 z⟩
    unfold sRest
    rcases hN.mp h0 with rfl | rfl
    · rfl
    · cases x <;> rfl
  · rw [if_neg h0]
    have n1 : x ≠ .nan := fun z => h0 (hN.mpr (Or.inl z))
    have n2 : y ≠ .nan := fun z => h0 (hN.mpr (Or.inr z))
    by_cases h1 : fX0_isEndless (WD x) = 0
    · rw [if_pos h1]
      by_cases h2 : Deq (WD y) FP.dconst0
      · rw [if_pos h2]
        have i1 : isInf x = false := hE1.mp h1
        have z2 : isZ y = true := hZ2.mp h2
        have e : sRest FP.Core.b32 x y = .nan := by clear G hN hE1 hE2 hZ1 hZ2 hQ h0; (rcases x with _ | s | ⟨s, c, q⟩ <;> rcases y with _ | t | ⟨t, d, r⟩ <;> first | rfl | skip) <;> (unfold sRest; simp_all [isInf, isZ, FP.Core.exactRemainder, FP.Core.round])
        rw [w_nan, e]
        exact ⟨rfl, ⟨fun z => absurd z h0, fun _ => ⟨fun _ => ⟨fun _ => trivial, fun z => absurd h2 z⟩, fun z => absurd h1 z⟩⟩⟩
      · rw [if_neg h2]
        have i1 : isInf x = false := hE1.mp h1
        have z2 : isZ y = false := bnt (fun z => h2 (hZ2.mpr z))
        obtain ⟨g1, g2⟩ := G (fun hz => by have hz2 := nR kx ky hz; clear G hN hE1 hE2 hZ1 hZ2 hQ h0 hz; (rcases x with _ | s | ⟨s, c, q⟩ <;> rcases y with _ | t | ⟨t, d, r⟩ <;> simp_all [isInf, isZ]))
        exact ⟨g1, ⟨fun z => absurd z h0, fun _ => ⟨fun _ => ⟨fun z => absurd z h2, fun _ => g2⟩, fun z => absurd h1 z⟩⟩⟩
    · rw [if_neg h1]
      have i1 : isInf x = true := bnf (fun z => h1 (hE1.mpr z))
      have e : sRest FP.Core.b32 x y = .nan := by clear G hN hE1 hE2 hZ1 hZ2 hQ h0; (rcases x with _ | s | ⟨s, c, q⟩ <;> rcases y with _ | t | ⟨t, d, r⟩ <;> first | rfl | skip) <;> (unfold sRest; simp_all [isInf, isZ, FP.Core.exactRemainder, FP.Core.round])
      rw [w_nan, e]
      exact ⟨rfl, ⟨fun z => absurd z h0, fun _ => ⟨fun z => absurd z h1, fun _ => trivial⟩⟩⟩
theorem c_plus_D {x y : FP.Core.Datum} (hx : FP.Core.fits FP.Core.b64 x) (hy : FP.Core.fits FP.Core.b64 y) : fX8_plus_D (WD x) (WD y) = WD (sPlus FP.Core.b64 x y) ∧ oX8_plus_D (WD x) (WD y) := by
  have kx : fitK x := Or.inr hx
  have ky : fitK y := Or.inr hy
  have hN := number_W kx ky
  have hE1 := endless_W kx
  have hE2 := endless_W ky
  have hZ1 := eqz_W kx
  have hZ2 := eqz_W ky
  have hQ : Deq (WD x) (WD y) ↔ FP.Core.order x y = some .eq := by show FP.dcmp _ _ = some .eq ↔ _; rw [cmp_W kx ky]
  have G : FP.Core.exactSum (FP.Core.round FP.Core.b64 x) (FP.Core.round FP.Core.b64 y) ≠ .nan → fX1_fit (FP.dadd (WD x) (WD y)) = WD (sPlus FP.Core.b64 x y) ∧ vf_n64 (FP.dadd (WD x) (WD y)) := by
    intro hz
    rw [add_W]
    refine ⟨?_, (vf64_iff _).mpr (by rw [V64_E64 (rf fq_g64 _)]; exact ne_round hz)⟩
    rw [fit_D (rf fq_g64 _)]
    unfold sPlus
    rw [dS64 hx hy]
  unfold fX8_plus_D oX8_plus_D lt_
  by_cases h0 : fX0_isNumber (WD x) (WD y) = 0
  · rw [if_pos h0, w_nan]
    refine ⟨?_, fun _ => trivial, fun z => absurd h0 z⟩
    unfold sPlus
    rcases hN.mp h0 with rfl | rfl
    · rfl
    · cases x <;> rfl
  · rw [if_neg h0]
    have n1 : x ≠ .nan := fun z => h0 (hN.mpr (Or.inl z))
    have n2 : y ≠ .nan := fun z => h0 (hN.mpr (Or.inr z))
    by_cases h1 : fX0_isEndless (WD x) = 0
    · rw [if_pos h1]
      have i1 : isInf x = false := hE1.mp h1
      obtain ⟨g1, g2⟩ := G (fun hz => by have hz2 := nS kx ky hz; clear G hN hE1 hE2 hZ1 hZ2 hQ h0 hz; (rcases x with _ | s | ⟨s, c, q⟩ <;> rcases y with _ | t | ⟨t, d, r⟩ <;> first | exact n1 rfl | exact n2 rfl | (cases hz2; done) | (cases i1; done) | (cases s <;> cases t <;> first | (cases hz2; done) | exact s1 rfl)))
      exact ⟨g1, ⟨fun z => absurd z h0, fun _ => ⟨fun _ => g2, fun z => absurd h1 z⟩⟩⟩
    · rw [if_neg h1]
      have hS : Deq (WD y) (FP.dneg (WD x)) ↔ FP.Core.order y (FP.Core.negate x) = some .eq := by rw [dneg_W n1]; show FP.dcmp _ _ = some .eq ↔ _; rw [cmp_W ky (k_neg kx)]
      by_cases h2 : Deq (WD y) (FP.dneg (WD x))
      · rw [if_pos h2]
        have i1 : isInf x = true := bnf (fun z => h1 (hE1.mpr z))
        have s1 : FP.Core.order y (FP.Core.negate x) = some .eq := hS.mp h2
        have e : sPlus FP.Core.b64 x y = .nan := by clear G hN hE1 hE2 hZ1 hZ2 hQ h0; (rcases x with _ | s | ⟨s, c, q⟩ <;> rcases y with _ | t | ⟨t, d, r⟩ <;> first | rfl | (cases i1; done) | (cases s <;> cases t <;> first | rfl | cases s1))
        rw [w_nan, e]
        exact ⟨rfl, ⟨fun z => absurd z h0, fun _ => ⟨fun z => absurd z h1, fun _ => ⟨fun _ => trivial, fun z => absurd h2 z⟩⟩⟩⟩
      · rw [if_neg h2]
        have i1 : isInf x = true := bnf (fun z => h1 (hE1.mpr z))
        have s1 : ¬ FP.Core.order y (FP.Core.negate x) = some .eq := fun z => h2 (hS.mpr z)
        obtain ⟨g1, g2⟩ := G (fun hz => by have hz2 := nS kx ky hz; clear G hN hE1 hE2 hZ1 hZ2 hQ h0 hz; (rcases x with _ | s | ⟨s, c, q⟩ <;> rcases y with _ | t | ⟨t, d, r⟩ <;> first | exact n1 rfl | exact n2 rfl | (cases hz2; done) | (cases i1; done) | (cases s <;> cases t <;> first | (cases hz2; done) | exact s1 rfl)))
        exact ⟨g1, ⟨fun z => absurd z h0, fun _ => ⟨fun z => absurd z h1, fun _ => ⟨fun z => absurd z h2, fun _ => g2⟩⟩⟩⟩
theorem c_minus_D {x y : FP.Core.Datum} (hx : FP.Core.fits FP.Core.b64 x) (hy : FP.Core.fits FP.Core.b64 y) : fX8_minus_D (WD x) (WD y) = WD (sMinus FP.Core.b64 x y) ∧ oX8_minus_D (WD x) (WD y) := by
  have kx : fitK x := Or.inr hx
  have ky : fitK y := Or.inr hy
  have hN := number_W kx ky
  have hE1 := endless_W kx
  have hE2 := endless_W ky
  have hZ1 := eqz_W kx
  have hZ2 := eqz_W ky
  have hQ : Deq (WD x) (WD y) ↔ FP.Core.order x y = some .eq := by show FP.dcmp _ _ = some .eq ↔ _; rw [cmp_W kx ky]
  have G : FP.Core.exactSum (FP.Core.round FP.Core.b64 x) (FP.Core.negate (FP.Core.round FP.Core.b64 y)) ≠ .nan → fX1_fit (FP.dsub (WD x) (WD y)) = WD (sMinus FP.Core.b64 x y) ∧ vf_n64 (FP.dsub (WD x) (WD y)) := by
    intro hz
    rw [sub_W]
    refine ⟨?_, (vf64_iff _).mpr (by rw [V64_E64 (rf fq_g64 _)]; exact ne_round hz)⟩
    rw [fit_D (rf fq_g64 _)]
    unfold sMinus
    rw [neg_round]
    rw [dS64 hx (neg_fits hy)]
  unfold fX8_minus_D oX8_minus_D lt_
  by_cases h0 : fX0_isNumber (WD x) (WD y) = 0
  · rw [if_pos h0, w_nan]
    refine ⟨?_, fun _ => trivial, fun z => absurd h0 z⟩
    unfold sMinus
    rcases hN.mp h0 with rfl | rfl
    · rfl
    · cases x <;> rfl
  · rw [if_neg h0]
    have n1 : x ≠ .nan := fun z => h0 (hN.mpr (Or.inl z))
    have n2 : y ≠ .nan := fun z => h0 (hN.mpr (Or.inr z))
    by_cases h1 : fX0_isEndless (WD x) = 0
    · rw [if_pos h1]
      have i1 : isInf x = false := hE1.mp h1
      obtain ⟨g1, g2⟩ := G (fun hz => by have hz2 := nM kx ky hz; clear G hN hE1 hE2 hZ1 hZ2 hQ h0 hz; (rcases x with _ | s | ⟨s, c, q⟩ <;> rcases y with _ | t | ⟨t, d, r⟩ <;> first | exact n1 rfl | exact n2 rfl | (cases hz2; done) | (cases i1; done) | (cases s <;> cases t <;> first | (cases hz2; done) | exact q1 rfl)))
      exact ⟨g1, ⟨fun z => absurd z h0, fun _ => ⟨fun _ => g2, fun z => absurd h1 z⟩⟩⟩
    · rw [if_neg h1]
      by_cases h2 : Deq (WD x) (WD y)
      · rw [if_pos h2]
        have i1 : isInf x = true := bnf (fun z => h1 (hE1.mpr z))
        have q1 : FP.Core.order x y = some .eq := hQ.mp h2
        have e : sMinus FP.Core.b64 x y = .nan := by clear G hN hE1 hE2 hZ1 hZ2 hQ h0; (rcases x with _ | s | ⟨s, c, q⟩ <;> rcases y with _ | t | ⟨t, d, r⟩ <;> first | rfl | (cases i1; done) | (cases s <;> cases t <;> first | rfl | cases q1))
        rw [w_nan, e]
        exact ⟨rfl, ⟨fun z => absurd z h0, fun _ => ⟨fun z => absurd z h1, fun _ => ⟨fun _ => trivial, fun z => absurd h2 z⟩⟩⟩⟩
      · rw [if_neg h2]
        have i1 : isInf x = true := bnf (fun z => h1 (hE1.mpr z))
        have q1 : ¬ FP.Core.order x y = some .eq := fun z => h2 (hQ.mpr z)
        obtain ⟨g1, g2⟩ := G (fun hz => by have hz2 := nM kx ky hz; clear G hN hE1 hE2 hZ1 hZ2 hQ h0 hz; (rcases x with _ | s | ⟨s, c, q⟩ <;> rcases y with _ | t | ⟨t, d, r⟩ <;> first | exact n1 rfl | exact n2 rfl | (cases hz2; done) | (cases i1; done) | (cases s <;> cases t <;> first | (cases hz2; done) | exact q1 rfl)))
        exact ⟨g1, ⟨fun z => absurd z h0, fun _ => ⟨fun z => absurd z h1, fun _ => ⟨fun z => absurd z h2, fun _ => g2⟩⟩⟩⟩
theorem c_times_D {x y : FP.Core.Datum} (hx : FP.Core.fits FP.Core.b64 x) (hy : FP.Core.fits FP.Core.b64 y) : fX8_times_D (WD x) (WD y) = WD (sTimes FP.Core.b64 x y) ∧ oX8_times_D (WD x) (WD y) := by
  have kx : fitK x := Or.inr hx
  have ky : fitK y := Or.inr hy
  have hN := number_W kx ky
  have hE1 := endless_W kx
  have hE2 := endless_W ky
  have hZ1 := eqz_W kx
  have hZ2 := eqz_W ky
  have hQ : Deq (WD x) (WD y) ↔ FP.Core.order x y = some .eq := by show FP.dcmp _ _ = some .eq ↔ _; rw [cmp_W kx ky]
  have G : FP.Core.exactProduct (FP.Core.round FP.Core.b64 x) (FP.Core.round FP.Core.b64 y) ≠ .nan → fX1_fit (FP.dmul (WD x) (WD y)) = WD (sTimes FP.Core.b64 x y) ∧ vf_n64 (FP.dmul (WD x) (WD y)) := by
    intro hz
    rw [mul_W]
    refine ⟨?_, (vf64_iff _).mpr (by rw [V64_E64 (rf fq_g64 _)]; exact ne_round hz)⟩
    rw [fit_D (rf fq_g64 _)]
    unfold sTimes
    rw [dP64 hx hy]
  unfold fX8_times_D oX8_times_D lt_
  by_cases h0 : fX0_isNumber (WD x) (WD y) = 0
  · rw [if_pos h0, w_nan]
    refine ⟨?_, fun _ => trivial, fun z => absurd h0 z⟩
    unfold sTimes
    rcases hN.mp h0 with rfl | rfl
    · rfl
    · cases x <;> rfl
  · rw [if_neg h0]
    have n1 : x ≠ .nan := fun z => h0 (hN.mpr (Or.inl z))
    have n2 : y ≠ .nan := fun z => h0 (hN.mpr (Or.inr z))
    by_cases h1 : Deq (WD x) FP.dconst0
    · rw [if_pos h1]
      by_cases h2 : fX0_isEndless (WD y) = 0
      · rw [if_pos h2]
        by_cases h3 : fX0_isEndless (WD x) = 0
        · rw [if_pos h3]
          have z1 : isZ x = true := hZ1.mp h1
          have i2 : isInf y = false := hE2.mp h2
          have i1 : isInf x = false := hE1.mp h3
          obtain ⟨g1, g2⟩ := G (fun hz => by have hz2 := nP kx ky hz; clear G hN hE1 hE2 hZ1 hZ2 hQ h0 hz; (rcases x with _ | s | ⟨s, c, q⟩ <;> rcases y with _ | t | ⟨t, d, r⟩ <;> simp_all [isInf, isZ, FP.Core.exactProduct]))
          exact ⟨g1, ⟨fun z => absurd z h0, fun _ => ⟨fun _ => ⟨fun _ => ⟨fun _ => g2, fun z => absurd h3 z⟩, fun z => absurd h2 z⟩, fun z => absurd h1 z⟩⟩⟩
        · rw [if_neg h3]
          by_cases h4 : Deq (WD y) FP.dconst0
          · rw [if_pos h4]
            have z1 : isZ x = true := hZ1.mp h1
            have i2 : isInf y = false := hE2.mp h2
            have i1 : isInf x = true := bnf (fun z => h3 (hE1.mpr z))
            have z2 : isZ y = true := hZ2.mp h4
            have e : sTimes FP.Core.b64 x y = .nan := by clear G hN hE1 hE2 hZ1 hZ2 hQ h0; (rcases x with _ | s | ⟨s, c, q⟩ <;> rcases y with _ | t | ⟨t, d, r⟩ <;> first | rfl | skip) <;> (unfold sTimes; simp_all [isInf, isZ, FP.Core.exactProduct, FP.Core.round])
            rw [w_nan, e]
            exact ⟨rfl, ⟨fun z => absurd z h0, fun _ => ⟨fun _ => ⟨fun _ => ⟨fun z => absurd z h3, fun _ => ⟨fun _ => trivial, fun z => absurd h4 z⟩⟩, fun z => absurd h2 z⟩, fun z => absurd h1 z⟩⟩⟩
          · rw [if_neg h4]
            have z1 : isZ x = true := hZ1.mp h1
            have i2 : isInf y = false := hE2.mp h2
            have i1 : isInf x = true := bnf (fun z => h3 (hE1.mpr z))
            have z2 : isZ y = false := bnt (fun z => h4 (hZ2.mpr z))
            obtain ⟨g1, g2⟩ := G (fun hz => by have hz2 := nP kx ky hz; clear G hN hE1 hE2 hZ1 hZ2 hQ h0 hz; (rcases x with _ | s | ⟨s, c, q⟩ <;> rcases y with _ | t | ⟨t, d, r⟩ <;> simp_all [isInf, isZ, FP.Core.exactProduct]))
            exact ⟨g1, ⟨fun z => absurd z h0, fun _ => ⟨fun _ => ⟨fun _ => ⟨fun z => absurd z h3, fun _ => ⟨fun z => absurd z h4, fun _ => g2⟩⟩, fun z => absurd h2 z⟩, fun z => absurd h1 z⟩⟩⟩
      · rw [if_neg h2]
        have z1 : isZ x = true := hZ1.mp h1
        have i2 : isInf y = true := bnf (fun z => h2 (hE2.mpr z))
        have e : sTimes FP.Core.b64 x y = .nan := by clear G hN hE1 hE2 hZ1 hZ2 hQ h0; (rcases x with _ | s | ⟨s, c, q⟩ <;> rcases y with _ | t | ⟨t, d, r⟩ <;> first | rfl | skip) <;> (unfold sTimes; simp_all [isInf, isZ, FP.Core.exactProduct, FP.Core.round])
        rw [w_nan, e]
        exact ⟨rfl, ⟨fun z => absurd z h0, fun _ => ⟨fun _ => ⟨fun z => absurd z h2, fun _ => trivial⟩, fun z => absurd h1 z⟩⟩⟩
    · rw [if_neg h1]
      by_cases h5 : fX0_isEndless (WD x) = 0
      · rw [if_pos h5]
        have z1 : isZ x = false := bnt (fun z => h1 (hZ1.mpr z))
        have i1 : isInf x = false := hE1.mp h5
        obtain ⟨g1, g2⟩ := G (fun hz => by have hz2 := nP kx ky hz; clear G hN hE1 hE2 hZ1 hZ2 hQ h0 hz; (rcases x with _ | s | ⟨s, c, q⟩ <;> rcases y with _ | t | ⟨t, d, r⟩ <;> simp_all [isInf, isZ, FP.Core.exactProduct]))
        exact ⟨g1, ⟨fun z => absurd z h0, fun _ => ⟨fun z => absurd z h1, fun _ => ⟨fun _ => g2, fun z => absurd h5 z⟩⟩⟩⟩
      · rw [if_neg h5]
        by_cases h6 : Deq (WD y) FP.dconst0
        · rw [if_pos h6]
          have z1 : isZ x = false := bnt (fun z => h1 (hZ1.mpr z))
          have i1 : isInf x = true := bnf (fun z => h5 (hE1.mpr z))
          have z2 : isZ y = true := hZ2.mp h6
          have e : sTimes FP.Core.b64 x y = .nan := by clear G hN hE1 hE2 hZ1 hZ2 hQ h0; (rcases x with _ | s | ⟨s, c, q⟩ <;> rcases y with _ | t | ⟨t, d, r⟩ <;> first | rfl | skip) <;> (unfold sTimes; simp_all [isInf, isZ, FP.Core.exactProduct, FP.Core.round])
          rw [w_nan, e]
          exact ⟨rfl, ⟨fun z => absurd z h0, fun _ => ⟨fun z => absurd z h1, fun _ => ⟨fun z => absurd z h5, fun _ => ⟨fun _ => trivial, fun z => absurd h6 z⟩⟩⟩⟩⟩
        · rw [if_neg h6]
          have z1 : isZ x = false := bnt (fun z => h1 (hZ1.mpr z))
          have i1 : isInf x = true := bnf (fun z => h5 (hE1.mpr z))
          have z2 : isZ y = false := bnt (fun z => h6 (hZ2.mpr z))
          obtain ⟨g1, g2⟩ := G (fun hz => by have hz2 := nP kx ky hz; clear G hN hE1 hE2 hZ1 hZ2 hQ h0 hz; (rcases x with _ | s | ⟨s, c, q⟩ <;> rcases y with _ | t | ⟨t, d, r⟩ <;> simp_all [isInf, isZ, FP.Core.exactProduct]))
          exact ⟨g1, ⟨fun z => absurd z h0, fun _ => ⟨fun z => absurd z h1, fun _ => ⟨fun z => absurd z h5, fun _ => ⟨fun z => absurd z h6, fun _ => g2⟩⟩⟩⟩⟩
theorem c_over_D {x y : FP.Core.Datum} (hx : FP.Core.fits FP.Core.b64 x) (hy : FP.Core.fits FP.Core.b64 y) : fX8_over_D (WD x) (WD y) = WD (sOver FP.Core.b64 x y) ∧ oX8_over_D (WD x) (WD y) := by
  have kx : fitK x := Or.inr hx
  have ky : fitK y := Or.inr hy
  have hN := number_W kx ky
  have hE1 := endless_W kx
  have hE2 := endless_W ky
  have hZ1 := eqz_W kx
  have hZ2 := eqz_W ky
  have hQ : Deq (WD x) (WD y) ↔ FP.Core.order x y = some .eq := by show FP.dcmp _ _ = some .eq ↔ _; rw [cmp_W kx ky]
  have G : FP.Core.quotient FP.Core.b64 (FP.Core.round FP.Core.b64 x) (FP.Core.round FP.Core.b64 y) ≠ .nan → fX1_fit (FP.ddiv (WD x) (WD y)) = WD (sOver FP.Core.b64 x y) ∧ vf_n64 (FP.ddiv (WD x) (WD y)) := by
    intro hz
    rw [div_W]
    refine ⟨?_, (vf64_iff _).mpr (by rw [V64_E64 (quo_fits fq_g64 _ _)]; exact hz)⟩
    rw [fit_D (quo_fits fq_g64 _ _)]
    unfold sOver
    rw [dQ64 hx hy]
  unfold fX8_over_D oX8_over_D lt_
  by_cases h0 : fX0_isNumber (WD x) (WD y) = 0
  · rw [if_pos h0, w_nan]
    refine ⟨?_, fun _ => trivial, fun z => absurd h0 z⟩
    unfold sOver
    rcases hN.mp h0 with rfl | rfl
    · rfl
    · cases x <;> rfl
  · rw [if_neg h0]
    have n1 : x ≠ .nan := fun z => h0 (hN.mpr (Or.inl z))
    have n2 : y ≠ .nan := fun z => h0 (hN.mpr (Or.inr z))
    by_cases h1 : Deq (WD x) FP.dconst0
    · rw [if_pos h1]
      by_cases h2 : Deq (WD y) FP.dconst0
      · rw [if_pos h2]
        have z1 : isZ x = true := hZ1.mp h1
        have z2 : isZ y = true := hZ2.mp h2
        have e : sOver FP.Core.b64 x y = .nan := by clear G hN hE1 hE2 hZ1 hZ2 hQ h0; (rcases x with _ | s | ⟨s, c, q⟩ <;> rcases y with _ | t | ⟨t, d, r⟩ <;> first | rfl | skip) <;> (unfold sOver; simp_all [isInf, isZ, FP.Core.quotient])
        rw [w_nan, e]
        exact ⟨rfl, ⟨fun z => absurd z h0, fun _ => ⟨fun _ => ⟨fun _ => trivial, fun z => absurd h2 z⟩, fun z => absurd h1 z⟩⟩⟩
      · rw [if_neg h2]
        by_cases h3 : fX0_isEndless (WD x) = 0
        · rw [if_pos h3]
          have z1 : isZ x = true := hZ1.mp h1
          have z2 : isZ y = false := bnt (fun z => h2 (hZ2.mpr z))
          have i1 : isInf x = false := hE1.mp h3
          obtain ⟨g1, g2⟩ := G (fun hz => by have hz2 := nQ kx ky hz; clear G hN hE1 hE2 hZ1 hZ2 hQ h0 hz; (rcases x with _ | s | ⟨s, c, q⟩ <;> rcases y with _ | t | ⟨t, d, r⟩ <;> simp_all [isInf, isZ]))
          exact ⟨g1, ⟨fun z => absurd z h0, fun _ => ⟨fun _ => ⟨fun z => absurd z h2, fun _ => ⟨fun _ => g2, fun z => absurd h3 z⟩⟩, fun z => absurd h1 z⟩⟩⟩
        · rw [if_neg h3]
          by_cases h4 : fX0_isEndless (WD y) = 0
          · rw [if_pos h4]
            have z1 : isZ x = true := hZ1.mp h1
            have z2 : isZ y = false := bnt (fun z => h2 (hZ2.mpr z))
            have i1 : isInf x = true := bnf (fun z => h3 (hE1.mpr z))
            have i2 : isInf y = false := hE2.mp h4
            obtain ⟨g1, g2⟩ := G (fun hz => by have hz2 := nQ kx ky hz; clear G hN hE1 hE2 hZ1 hZ2 hQ h0 hz; (rcases x with _ | s | ⟨s, c, q⟩ <;> rcases y with _ | t | ⟨t, d, r⟩ <;> simp_all [isInf, isZ]))
            exact ⟨g1, ⟨fun z => absurd z h0, fun _ => ⟨fun _ => ⟨fun z => absurd z h2, fun _ => ⟨fun z => absurd z h3, fun _ => ⟨fun _ => g2, fun z => absurd h4 z⟩⟩⟩, fun z => absurd h1 z⟩⟩⟩
          · rw [if_neg h4]
            have z1 : isZ x = true := hZ1.mp h1
            have z2 : isZ y = false := bnt (fun z => h2 (hZ2.mpr z))
            have i1 : isInf x = true := bnf (fun z => h3 (hE1.mpr z))
            have i2 : isInf y = true := bnf (fun z => h4 (hE2.mpr z))
            have e : sOver FP.Core.b64 x y = .nan := by clear G hN hE1 hE2 hZ1 hZ2 hQ h0; (rcases x with _ | s | ⟨s, c, q⟩ <;> rcases y with _ | t | ⟨t, d, r⟩ <;> first | rfl | skip) <;> (unfold sOver; simp_all [isInf, isZ, FP.Core.quotient])
            rw [w_nan, e]
            exact ⟨rfl, ⟨fun z => absurd z h0, fun _ => ⟨fun _ => ⟨fun z => absurd z h2, fun _ => ⟨fun z => absurd z h3, fun _ => ⟨fun z => absurd z h4, fun _ => trivial⟩⟩⟩, fun z => absurd h1 z⟩⟩⟩
    · rw [if_neg h1]
      by_cases h5 : fX0_isEndless (WD x) = 0
      · rw [if_pos h5]
        have z1 : isZ x = false := bnt (fun z => h1 (hZ1.mpr z))
        have i1 : isInf x = false := hE1.mp h5
        obtain ⟨g1, g2⟩ := G (fun hz => by have hz2 := nQ kx ky hz; clear G hN hE1 hE2 hZ1 hZ2 hQ h0 hz; (rcases x with _ | s | ⟨s, c, q⟩ <;> rcases y with _ | t | ⟨t, d, r⟩ <;> simp_all [isInf, isZ]))
        exact ⟨g1, ⟨fun z => absurd z h0, fun _ => ⟨fun z => absurd z h1, fun _ => ⟨fun _ => g2, fun z => absurd h5 z⟩⟩⟩⟩
      · rw [if_neg h5]
        by_cases h6 : fX0_isEndless (WD y) = 0
        · rw [if_pos h6]
          have z1 : isZ x = false := bnt (fun z => h1 (hZ1.mpr z))
          have i1 : isInf x = true := bnf (fun z => h5 (hE1.mpr z))
          have i2 : isInf y = false := hE2.mp h6
          obtain ⟨g1, g2⟩ := G (fun hz => by have hz2 := nQ kx ky hz; clear G hN hE1 hE2 hZ1 hZ2 hQ h0 hz; (rcases x with _ | s | ⟨s, c, q⟩ <;> rcases y with _ | t | ⟨t, d, r⟩ <;> simp_all [isInf, isZ]))
          exact ⟨g1, ⟨fun z => absurd z h0, fun _ => ⟨fun z => absurd z h1, fun _ => ⟨fun z => absurd z h5, fun _ => ⟨fun _ => g2, fun z => absurd h6 z⟩⟩⟩⟩⟩
        · rw [if_neg h6]
          have z1 : isZ x = false := bnt (fun z => h1 (hZ1.mpr z))
          have i1 : isInf x = true := bnf (fun z => h5 (hE1.mpr z))
          have i2 : isInf y = true := bnf (fun z => h6 (hE2.mpr z))
          have e : sOver FP.Core.b64 x y = .nan := by clear G hN hE1 hE2 hZ1 hZ2 hQ h0; (rcases x with _ | s | ⟨s, c, q⟩ <;> rcases y with _ | t | ⟨t, d, r⟩ <;> first | rfl | skip) <;> (unfold sOver; simp_all [isInf, isZ, FP.Core.quotient])
          rw [w_nan, e]
          exact ⟨rfl, ⟨fun z => absurd z h0, fun _ => ⟨fun z => absurd z h1, fun _ => ⟨fun z => absurd z h5, fun _ => ⟨fun z => absurd z h6, fun _ => trivial⟩⟩⟩⟩⟩
theorem c_rest_D {x y : FP.Core.Datum} (hx : FP.Core.fits FP.Core.b64 x) (hy : FP.Core.fits FP.Core.b64 y) : fX8_rest_D (WD x) (WD y) = WD (sRest FP.Core.b64 x y) ∧ oX8_rest_D (WD x) (WD y) := by
  have kx : fitK x := Or.inr hx
  have ky : fitK y := Or.inr hy
  have hN := number_W kx ky
  have hE1 := endless_W kx
  have hE2 := endless_W ky
  have hZ1 := eqz_W kx
  have hZ2 := eqz_W ky
  have hQ : Deq (WD x) (WD y) ↔ FP.Core.order x y = some .eq := by show FP.dcmp _ _ = some .eq ↔ _; rw [cmp_W kx ky]
  have G : FP.Core.exactRemainder (FP.Core.round FP.Core.b64 x) (FP.Core.round FP.Core.b64 y) ≠ .nan → FP.drem (WD x) (WD y) = WD (sRest FP.Core.b64 x y) ∧ vf_n64 (FP.drem (WD x) (WD y)) := by
    intro hz
    rw [rem_W]
    refine ⟨?_, (vf64_iff _).mpr (by rw [V64_E64 (rf fq_g64 _)]; exact ne_round hz)⟩
    unfold sRest WD
    rw [dR64 hx hy]
  unfold fX8_rest_D oX8_rest_D lt_
  by_cases h0 : fX0_isNumber (WD x) (WD y) = 0
  · rw [if_pos h0, w_nan]
    refine ⟨?_, fun _ => trivial, fun z => absurd h0 z⟩
    unfold sRest
    rcases hN.mp h0 with rfl | rfl
    · rfl
    · cases x <;> rfl
  · rw [if_neg h0]
    have n1 : x ≠ .nan := fun z => h0 (hN.mpr (Or.inl z))
    have n2 : y ≠ .nan := fun z => h0 (hN.mpr (Or.inr z))
    by_cases h1 : fX0_isEndless (WD x) = 0
    · rw [if_pos h1]
      by_cases h2 : Deq (WD y) FP.dconst0
      · rw [if_pos h2]
        have i1 : isInf x = false := hE1.mp h1
        have z2 : isZ y = true := hZ2.mp h2
        have e : sRest FP.Core.b64 x y = .nan := by clear G hN hE1 hE2 hZ1 hZ2 hQ h0; (rcases x with _ | s | ⟨s, c, q⟩ <;> rcases y with _ | t | ⟨t, d, r⟩ <;> first | rfl | skip) <;> (unfold sRest; simp_all [isInf, isZ, FP.Core.exactRemainder, FP.Core.round])
        rw [w_nan, e]
        exact ⟨rfl, ⟨fun z => absurd z h0, fun _ => ⟨fun _ => ⟨fun _ => trivial, fun z => absurd h2 z⟩, fun z => absurd h1 z⟩⟩⟩
      · rw [if_neg h2]
        have i1 : isInf x = false := hE1.mp h1
        have z2 : isZ y = false := bnt (fun z => h2 (hZ2.mpr z))
        obtain ⟨g1, g2⟩ := G (fun hz => by have hz2 := nR kx ky hz; clear G hN hE1 hE2 hZ1 hZ2 hQ h0 hz; (rcases x with _ | s | ⟨s, c, q⟩ <;> rcases y with _ | t | ⟨t, d, r⟩ <;> simp_all [isInf, isZ]))
        exact ⟨g1, ⟨fun z => absurd z h0, fun _ => ⟨fun _ => ⟨fun z => absurd z h2, fun _ => g2⟩, fun z => absurd h1 z⟩⟩⟩
    · rw [if_neg h1]
      have i1 : isInf x = true := bnf (fun z => h1 (hE1.mpr z))
      have e : sRest FP.Core.b64 x y = .nan := by clear G hN hE1 hE2 hZ1 hZ2 hQ h0; (rcases x with _ | s | ⟨s, c, q⟩ <;> rcases y with _ | t | ⟨t, d, r⟩ <;> first | rfl | skip) <;> (unfold sRest; simp_all [isInf, isZ, FP.Core.exactRemainder, FP.Core.round])
      rw [w_nan, e]
      exact ⟨rfl, ⟨fun z => absurd z h0, fun _ => ⟨fun z => absurd z h1, fun _ => trivial⟩⟩⟩
