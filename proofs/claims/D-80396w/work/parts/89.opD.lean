/-! what is answered: two -/
def twoS (k act : Int32) (X Y : FP.Core.Datum) : FP.Core.Datum := if act = 0 then sPlus (fm k) X Y else if act = 1 then sMinus (fm k) X Y else if act = 2 then sTimes (fm k) X Y else if act = 3 then sOver (fm k) X Y else if act = 4 then sRest (fm k) X Y else if act = 5 then (if Dle (WD X) (WD Y) then Y else X) else if act = 6 then (if Dle (WD X) (WD Y) then X else Y) else setS (sgn Y) X
theorem twoS_fits {k : Int32} (hk : isK k) (act : Int32) {X Y : FP.Core.Datum} (hX : FP.Core.fits (fm k) X) (hY : FP.Core.fits (fm k) Y) : FP.Core.fits (fm k) (twoS k act X Y) := by
  have hf := fm_good hk
  unfold twoS
  split
  · exact rf hf _
  split
  · exact rf hf _
  split
  · exact rf hf _
  split
  · exact quo_fits hf _ _
  split
  · exact rf hf _
  split
  · split
    · exact hY
    · exact hX
  split
  · split
    · exact hX
    · exact hY
  · exact setS_fits _ hX
theorem copy_W {X Y : FP.Core.Datum} (hX : fitK X) (hY : fitK Y) : (lt_ (if Deq (WD X) (WD X) then (lt_ (if Deq (WD Y) (WD Y) then (WD Y) else FP.dconst1) (fun x14 : UInt64 => (csignD (WD X) x14))) else 9221120237041090560) (fun x12 : UInt64 => x12)) = WD (setS (sgn Y) X) ∧ (((Deq (WD X) (WD X)) → (∀ x14 : UInt64, x14 = (if Deq (WD Y) (WD Y) then (WD Y) else FP.dconst1) → ((vf_n64 x14)))) ∧ (¬ (Deq (WD X) (WD X)) → True)) := by
  have hx := eqself_W hX
  have hy := eqself_W hY
  have ho : ∀ x14 : UInt64, x14 = (if Deq (WD Y) (WD Y) then (WD Y) else FP.dconst1) → vf_n64 x14 := by
    intro x14 e
    rw [e]
    by_cases hn : Y = .nan
    · rw [if_neg (fun z => hy.mp z hn), w_one]
      exact vfW (fun z => by cases z)
    · rw [if_pos (hy.mpr hn)]
      exact vfW hn
  refine ⟨?_, fun _ => ho, fun _ => trivial⟩
  rw [lt_eq]
  by_cases hn : X = .nan
  · rw [if_neg (fun z => hx.mp z hn), hn]
    exact w_nan
  · rw [if_pos (hx.mpr hn), lt_eq]
    by_cases hm : Y = .nan
    · rw [if_neg (fun z => hy.mp z hm), w_one, csign_W hn (fun z => by cases z), hm]
      rfl
    · rw [if_pos (hy.mpr hm), csign_W hn hm]
theorem two_F (act : Int32) {X Y : FP.Core.Datum} (hX : FP.Core.fits FP.Core.b32 X) (hY : FP.Core.fits FP.Core.b32 Y) : fX8_two_F act (WD X) (WD Y) = WD (twoS 0 act X Y) ∧ oX8_two_F act (WD X) (WD Y) := by
  obtain ⟨a1, b1⟩ := c_plus_F hX hY
  obtain ⟨a2, b2⟩ := c_minus_F hX hY
  obtain ⟨a3, b3⟩ := c_times_F hX hY
  obtain ⟨a4, b4⟩ := c_over_F hX hY
  obtain ⟨a5, b5⟩ := c_rest_F hX hY
  obtain ⟨a6, b6⟩ := copy_W (Or.inl hX) (Or.inl hY)
  refine ⟨?_, fun _ => b1, fun _ => ⟨fun _ => b2, fun _ => ⟨fun _ => b3, fun _ => ⟨fun _ => b4, fun _ => ⟨fun _ => b5, fun _ => ⟨fun _ => trivial, fun _ => ⟨fun _ => trivial, fun _ => b6⟩⟩⟩⟩⟩⟩⟩
  unfold fX8_two_F twoS
  split
  · exact a1
  split
  · exact a2
  split
  · exact a3
  split
  · exact a4
  split
  · exact a5
  split
  · rw [lt_eq]
    split
    · rfl
    · rfl
  split
  · rw [lt_eq]
    split
    · rfl
    · rfl
  · exact a6
theorem two_D (act : Int32) {X Y : FP.Core.Datum} (hX : FP.Core.fits FP.Core.b64 X) (hY : FP.Core.fits FP.Core.b64 Y) : fX8_two_D act (WD X) (WD Y) = WD (twoS 1 act X Y) ∧ oX8_two_D act (WD X) (WD Y) := by
  obtain ⟨a1, b1⟩ := c_plus_D hX hY
  obtain ⟨a2, b2⟩ := c_minus_D hX hY
  obtain ⟨a3, b3⟩ := c_times_D hX hY
  obtain ⟨a4, b4⟩ := c_over_D hX hY
  obtain ⟨a5, b5⟩ := c_rest_D hX hY
  obtain ⟨a6, b6⟩ := copy_W (Or.inr hX) (Or.inr hY)
  refine ⟨?_, fun _ => b1, fun _ => ⟨fun _ => b2, fun _ => ⟨fun _ => b3, fun _ => ⟨fun _ => b4, fun _ => ⟨fun _ => b5, fun _ => ⟨fun _ => trivial, fun _ => ⟨fun _ => trivial, fun _ => b6⟩⟩⟩⟩⟩⟩⟩
  unfold fX8_two_D twoS
  split
  · exact a1
  split
  · exact a2
  split
  · exact a3
  split
  · exact a4
  split
  · exact a5
  split
  · rw [lt_eq]
    split
    · rfl
    · rfl
  split
  · rw [lt_eq]
    split
    · rfl
    · rfl
  · exact a6
theorem m_plain {k : Int32} (hk : isK k) {act : Int32} (h1 : 0 ≤ act.toInt) (h2 : act.toInt ≤ 4) (x y : Int64) : fX6_plain act k x y = tb k (twoS k act (fr k x) (fr k y)) ∧ oX6_plain act k x y := by
  have e4 : ¬ act = 0 → ¬ act = 1 → ¬ act = 2 → ¬ act = 3 → act = 4 := by
    intro i0 i1 i2 i3
    refine (i_eq act (a := 4) (by omega) (by omega)).mpr ?_
    have n0 : ¬ act.toInt = 0 := fun z => i0 ((i_eq act (a := 0) (by omega) (by omega)).mpr z)
    have n1 : ¬ act.toInt = 1 := fun z => i1 ((i_eq act (a := 1) (by omega) (by omega)).mpr z)
    have n2 : ¬ act.toInt = 2 := fun z => i2 ((i_eq act (a := 2) (by omega) (by omega)).mpr z)
    have n3 : ¬ act.toInt = 3 := fun z => i3 ((i_eq act (a := 3) (by omega) (by omega)).mpr z)
    omega
  rcases hk with rfl | rfl
  · have hX := fr0_fits x
    have hY := fr0_fits y
    obtain ⟨s1, s2⟩ := single_E x
    obtain ⟨s3, s4⟩ := single_E y
    obtain ⟨a1, b1⟩ := m_sumOf_32 hX hY
    obtain ⟨a2, b2⟩ := m_differenceOf_32 hX hY
    obtain ⟨a3, b3⟩ := m_productOf_32 hX hY
    obtain ⟨a4, b4⟩ := m_quotientOf_32 hX hY
    obtain ⟨a5, b5⟩ := m_restOf_32 hX hY
    constructor
    · unfold fX6_plain
      rw [if_pos (show (0 : Int32) = 0 from rfl), lt_eq, lt_eq, lt_eq, s1, s3, a1, a2, a3, a4, a5]
      have hf := twoS_fits (k := 0) (Or.inl rfl) act hX hY
      rw [← mbits32 hf]
      congr 1
      unfold twoS
      split
      · rfl
      split
      · rfl
      split
      · rfl
      split
      · rfl
      · rw [if_pos (e4 (by assumption) (by assumption) (by assumption) (by assumption))]
        rfl
    · refine ⟨fun _ => ⟨s2, fun a ea => ⟨s4, fun b eb => ?_⟩⟩, fun z => absurd rfl z⟩
      rw [ea, eb, s1, s3]
      exact ⟨fun _ => b1, fun _ => ⟨fun _ => b2, fun _ => ⟨fun _ => b3, fun _ => ⟨fun _ => b4, fun _ => b5⟩⟩⟩⟩
  · have hX := fr1_fits x
    have hY := fr1_fits y
    obtain ⟨s1, s2⟩ := real_W (k := 1) (Or.inr rfl) x
    obtain ⟨s3, s4⟩ := real_W (k := 1) (Or.inr rfl) y
    rw [WD_64 hX] at s1
    rw [WD_64 hY] at s3
    obtain ⟨a1, b1⟩ := m_sumOf_64 hX hY
    obtain ⟨a2, b2⟩ := m_differenceOf_64 hX hY
    obtain ⟨a3, b3⟩ := m_productOf_64 hX hY
    obtain ⟨a4, b4⟩ := m_quotientOf_64 hX hY
    obtain ⟨a5, b5⟩ := m_restOf_64 hX hY
    constructor
    · unfold fX6_plain
      rw [if_neg (show ¬ (1 : Int32) = 0 by decide), lt_eq, lt_eq, lt_eq, s1, s3, a1, a2, a3, a4, a5]
      have hf := twoS_fits (k := 1) (Or.inr rfl) act hX hY
      rw [← mbits64 hf]
      congr 1
      unfold twoS
      split
      · rfl
      split
      · rfl
      split
      · rfl
      split
      · rfl
      · rw [if_pos (e4 (by assumption) (by assumption) (by assumption) (by assumption))]
        rfl
    · refine ⟨fun z => absurd z (by decide), fun _ => ⟨s2, fun a ea => ⟨s4, fun b eb => ?_⟩⟩⟩
      rw [ea, eb, s1, s3]
      exact ⟨fun _ => b1, fun _ => ⟨fun _ => b2, fun _ => ⟨fun _ => b3, fun _ => ⟨fun _ => b4, fun _ => b5⟩⟩⟩⟩
theorem m_chosen {a1 a2 a3 : Int32} {a4 : Int64} {a5 : Int32} {k : Int32} (hk : isK k) {act : Int32} (h1 : 0 ≤ act.toInt) (h2 : act.toInt ≤ 7) (x y : Int64) {post : Int64 → (Int32 × Int32 × Int32 × Int64 × Int32) → Prop} (hp : ∀ u, post (tb k (twoS k act (fr k x) (fr k y))) u) : wX6_chosen a1 a2 a3 a4 a5 act k x y post := by
  have c5 : ((5 : Int32) ≤ act) ↔ 5 ≤ act.toInt := i_ge act (a := 5) (by omega) (by omega)
  have c7 : ((7 : Int32) ≤ act) ↔ 7 ≤ act.toInt := i_ge act (a := 7) (by omega) (by omega)
  have ne : ∀ a : Int, 0 ≤ a → a ≤ 7 → ¬ act.toInt = a → ¬ act = kZ a := fun a g1 g2 z e => z ((i_eq act (by omega) (by omega)).mp e)
  obtain ⟨r1, r2⟩ := real_W hk x
  obtain ⟨r3, r4⟩ := real_W hk y
  unfold wX6_chosen
  refine ⟨fun g5 => ⟨r2, r4, fun x2 e2 => ⟨fun g7 => ?_, fun g7 => ?_⟩⟩, fun g5 => ?_⟩
  · have g7' := c7.mp g7
    have hT : twoS k act (fr k x) (fr k y) = setS (sgn (fr k y)) (fr k x) := by
      unfold twoS
      rw [if_neg (show ¬ act = 0 from ne 0 (by omega) (by omega) (by omega)), if_neg (show ¬ act = 1 from ne 1 (by omega) (by omega) (by omega)), if_neg (show ¬ act = 2 from ne 2 (by omega) (by omega) (by omega)), if_neg (show ¬ act = 3 from ne 3 (by omega) (by omega) (by omega)), if_neg (show ¬ act = 4 from ne 4 (by omega) (by omega) (by omega)), if_neg (show ¬ act = 5 from ne 5 (by omega) (by omega) (by omega)), if_neg (show ¬ act = 6 from ne 6 (by omega) (by omega) (by omega))]
    rw [hT] at hp
    have key : ∀ s : Bool, s = sgn (fr k y) → wX6_take k x (fun u8 => (∀ x9 : Int64, x9 = (if u8.2.1 = 0 then (fX6_signed k (fX6_sizeOf k x) (bz s)) else (fX6_nanOf k)) → post x9 (u8.1, u8.2.1, u8.2.2.1, u8.2.2.2.1, u8.2.2.2.2))) := by
      intro s hs
      refine take_K hk x ?_
      have hne : fr k x ≠ .nan → ∀ x9, x9 = fX6_signed k (fX6_sizeOf k x) (bz s) → ∀ u, post x9 u := by
        intro hn x9 e9 u
        rw [e9, m_signed hk hn, hs]
        exact hp u
      rcases hd : fr k x with _ | t | ⟨t, c, q⟩
      · intro m n x9 e9
        rw [if_neg (show ¬ (1 : Int32) = 0 by decide), nanOf_k hk] at e9
        rw [hd] at hp
        rw [e9]
        exact hp _
      · intro n x9 e9
        rw [if_pos (show (0 : Int32) = 0 from rfl)] at e9
        exact hne (by rw [hd]; intro z; cases z) x9 e9 _
      · intro x9 e9
        rw [if_pos (show (0 : Int32) = 0 from rfl)] at e9
        exact hne (by rw [hd]; intro z; cases z) x9 e9 _
    refine take_K hk y ?_
    rcases hd : fr k y with _ | t | ⟨t, c, q⟩
    · exact fun m n => key false (by rw [hd]; rfl)
    · exact fun n => key t (by rw [hd]; rfl)
    · exact key t (by rw [hd]; rfl)
  · have g5' := c5.mp g5
    have g7' : ¬ 7 ≤ act.toInt := fun z => g7 (c7.mpr z)
    intro x11 e11 x13 e13
    refine m_told hk x13 (fun u => ?_)
    have hv : fr k x13 = twoS k act (fr k x) (fr k y) := by
      unfold twoS
      rw [if_neg (show ¬ act = 0 from ne 0 (by omega) (by omega) (by omega)), if_neg (show ¬ act = 1 from ne 1 (by omega) (by omega) (by omega)), if_neg (show ¬ act = 2 from ne 2 (by omega) (by omega) (by omega)), if_neg (show ¬ act = 3 from ne 3 (by omega) (by omega) (by omega)), if_neg (show ¬ act = 4 from ne 4 (by omega) (by omega) (by omega))]
      rw [r1, r3] at e2
      by_cases i5 : act = 5
      · rw [if_pos i5] at e11 ⊢
        by_cases hle : Dle (WD (fr k x)) (WD (fr k y))
        · rw [if_pos hle] at e2 ⊢
          rw [e13, e2, e11, if_pos rfl]
        · rw [if_neg hle] at e2 ⊢
          rw [e13, e2, e11, if_neg (by decide)]
      · have i6 : act = 6 := by
          refine (i_eq act (a := 6) (by omega) (by omega)).mpr ?_
          have n5 : ¬ act.toInt = 5 := fun z => i5 ((i_eq act (a := 5) (by omega) (by omega)).mpr z)
          omega
        rw [if_neg i5] at e11 ⊢
        rw [if_pos i6]
        by_cases hle : Dle (WD (fr k x)) (WD (fr k y))
        · rw [if_pos hle] at e2 ⊢
          rw [e13, e2, e11, if_neg (by decide)]
        · rw [if_neg hle] at e2 ⊢
          rw [e13, e2, e11, if_pos rfl]
    rw [hv]
    exact hp u
  · have g5' : ¬ 5 ≤ act.toInt := fun z => g5 (c5.mpr z)
    obtain ⟨p1, p2⟩ := m_plain hk h1 (by omega) x y
    refine ⟨p2, ?_⟩
    rw [p1]
    exact hp _
def V_two (act k : Int32) (x y v : Int64) (f : Nat) : Prop := SPr 0 (¬ (0 ≤ act.toInt ∧ act.toInt ≤ 7) ∨ ¬ isK k) (fun v f => f = 0 ∧ v = tb k (twoS k act (fr k x) (fr k y))) v f
theorem c_two {g : Nat → Int32} {act k : Int32} {x y : Int64} {post : Int64 → (Int32 × (Nat → Int32)) → Prop} (hp : ∀ v f, V_two act k x y v f → post v (kZ (f : Int), cF g f)) : wX0_two g act k x y post := by
  have hki := isKind_0 k
  have hb := isR_k act 0 7 (by omega) (by omega) (by omega)
  unfold wX0_two
  intro x1 e1
  have hx : x1 = 0 ↔ (¬ (0 ≤ act.toInt ∧ act.toInt ≤ 7) ∨ ¬ isK k) := by rw [e1, ref2, hki]; exact or_congr hb Iff.rfl
  refine c_refused (fun h => ⟨fun z => absurd z (by decide), fun _ => hp 0 9 (Or.inl ⟨hx.mp h, rfl, rfl⟩)⟩) (fun h => ⟨fun _ => ?_, fun z => absurd rfl z⟩)
  have hnr := fun z => h (hx.mpr z)
  have hk : isK k := Classical.byContradiction (fun z => hnr (Or.inr z))
  have hv : ∀ v, v = tb k (twoS k act (fr k x) (fr k y)) → post v (0, g) := fun v e => hp v 0 (Or.inr ⟨hnr, rfl, e⟩)
  rcases hk with rfl | rfl
  · obtain ⟨d1, d2⟩ := from_F x
    obtain ⟨d3, d4⟩ := from_F y
    obtain ⟨s1, s2⟩ := two_F act (fr0_fits x) (fr0_fits y)
    obtain ⟨t1, t2⟩ := to_F (twoS_fits (k := 0) (Or.inl rfl) act (fr0_fits x) (fr0_fits y))
    refine ⟨fun _ => ⟨d2, d4, ?_⟩, fun z => absurd rfl z⟩
    rw [d1, d3, s1, t1]
    exact ⟨s2, t2, hv _ rfl⟩
  · obtain ⟨d1, d2⟩ := from_D x
    obtain ⟨d3, d4⟩ := from_D y
    obtain ⟨s1, s2⟩ := two_D act (fr1_fits x) (fr1_fits y)
    have t1 := to_D (twoS_fits (k := 1) (Or.inr rfl) act (fr1_fits x) (fr1_fits y))
    refine ⟨fun z => absurd z (by decide), fun _ => ⟨d2, d4, ?_⟩⟩
    rw [d1, d3, s1, t1]
    exact ⟨s2, hv _ rfl⟩
theorem m_two {a1 a2 a3 : Int32} {a4 : Int64} {a5 : Int32} {g : Nat → Int32} {act k : Int32} {x y : Int64} {post : Int64 → (Int32 × Int32 × Int32 × Int32 × Int64 × Int32 × (Nat → Int32)) → Prop} {v : Int64} {f : Nat} (hs : V_two act k x y v f) (hp : ∀ b1 b2 b3 b4 b5, post v (kZ (f : Int), b1, b2, b3, b4, b5, cF g f)) : wX6_two a1 a2 a3 a4 a5 g act k x y post := by
  have hki := isKind_6 k
  have h0 : (act < (0 : Int32)) ↔ act.toInt < 0 := i_lt act (a := 0) (by omega) (by omega)
  have h7 : ((7 : Int32) < act) ↔ 7 < act.toInt := i_gt act (a := 7) (by omega) (by omega)
  have hbad : (¬ (0 ≤ act.toInt ∧ act.toInt ≤ 7) ∨ ¬ isK k) → ∀ b1 b2 b3 b4 b5, post 0 (9, b1, b2, b3, b4, b5, cF g 9) := fun h => by
    obtain ⟨e1, e2⟩ := SPr_y hs h
    subst e1 e2; exact hp
  unfold wX6_two
  refine ⟨fun h => m_fail (f := 9) (by decide) (by decide) (hbad (Or.inl (by have := h0.mp h; omega)) _ _ _ _ _), fun h => ⟨fun h2 => m_fail (f := 9) (by decide) (by decide) (hbad (Or.inl (by have := h7.mp h2; omega)) _ _ _ _ _), fun h2 => ⟨fun h3 => m_fail (f := 9) (by decide) (by decide) (hbad (Or.inr (hki.mp h3)) _ _ _ _ _), fun h3 => ?_⟩⟩⟩
  have hk : isK k := Classical.byContradiction (fun z => h3 (hki.mpr z))
  have g0 : ¬ act.toInt < 0 := fun z => h (h0.mpr z)
  have g7 : ¬ 7 < act.toInt := fun z => h2 (h7.mpr z)
  have hnr : ¬ (¬ (0 ≤ act.toInt ∧ act.toInt ≤ 7) ∨ ¬ isK k) := by
    rintro (z | z)
    · omega
    · exact z hk
  obtain ⟨e1, e2⟩ := SPr_n hs hnr
  subst e1
  refine m_chosen hk (by omega) (by omega) x y (fun u => ?_)
  rw [← e2]
  exact hp _ _ _ _ _
