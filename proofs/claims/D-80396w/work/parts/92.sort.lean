/-! what is answered: sort -/
def sortS (k : Int32) (X : FP.Core.Datum) : Int32 := match X with
  | .nan => 0
  | .inf s => (if s then 8 else 0) + 1
  | .fin s c _ => (if s then 8 else 0) + (if c = 0 then 2 else if c < (fm k).tails then 3 else 4)
theorem sg_lt (s : Bool) : Dlt (WD (setS s oneD)) FP.dconst0 ↔ s = true := by
  cases s
  · exact ⟨fun z => absurd z (by decide +kernel), fun z => by cases z⟩
  · exact ⟨fun _ => rfl, fun _ => by decide +kernel⟩
theorem sg8 (s : Bool) : (if Dlt (WD (setS s oneD)) FP.dconst0 then (8 : Int32) else 0) = if s then 8 else 0 := by
  cases s
  · rw [if_neg (fun z => by have := (sg_lt false).mp z; cases this)]; rfl
  · rw [if_pos ((sg_lt true).mpr rfl)]; rfl
def minN (k : Int32) : FP.Core.Datum := if k = 0 then .fin false 8388608 (-149) else .fin false 4503599627370496 (-1074)
theorem minN_fits {k : Int32} (hk : isK k) : FP.Core.fits (fm k) (minN k) := by
  rcases hk with rfl | rfl
  · exact ⟨by decide, by decide, by decide, Or.inr (by decide)⟩
  · exact ⟨by decide, by decide, by decide, Or.inr (by decide)⟩
theorem by1_F : fX2_by FP.dconst1 ((fX2_least + fX2_precision) - 1) = WD (minN 0) := by decide +kernel
theorem by1_D : fX1_by FP.dconst1 ((fX1_least + fX1_precision) - 1) = WD (minN 1) := by decide +kernel
theorem lt_min {k : Int32} (hk : isK k) {c : Nat} {q : Int} (h : FP.Core.fits (fm k) (.fin false c q)) : Dlt (WD (.fin false c q)) (WD (minN k)) ↔ c < (fm k).tails := by
  show FP.dcmp _ _ = some .lt ↔ _
  rw [cmp_W (fitK_of hk h) (fitK_of hk (minN_fits hk))]
  obtain ⟨f1, f2, f3, f4⟩ := fin_k hk h
  have e : minN k = .fin false (fm k).tails (fm k).qmin := by
    rcases hk with rfl | rfl
    · rfl
    · rfl
  rw [e, fq_order]
  have e2 : ∀ a b : Rat, (some (fq_cmp a b) = some Ordering.lt) ↔ a < b := fun a b => ⟨fun z => cmp_lt.mp (Option.some.inj z), fun z => by rw [cmp_lt.mpr z]⟩
  rw [e2, show fq_sg false = 1 from rfl, Rat.one_mul, Rat.one_mul]
  constructor
  · intro z
    rcases Nat.lt_or_ge c (fm k).tails with h9 | h9
    · exact h9
    · exfalso
      have h1 := fq_mpw (e := q) (fq_cle h9)
      have h2 := Rat.mul_le_mul_of_nonneg_left (pw2_le f2) (show 0 ≤ (((fm k).tails : Nat) : Rat) from Rat.natCast_nonneg)
      exact absurd z (Rat.not_lt.mpr (Rat.le_trans h2 h1))
  · intro z
    have hq : q = (fm k).qmin := by
      rcases f4 with h9 | h9
      · exact h9
      · omega
    rw [hq]
    exact fq_mpwl (fq_clt z)
theorem ob1_F : oX2_by FP.dconst1 ((fX2_least + fX2_precision) - 1) := by
  have h := (by_F (K := 1) (u := -126) (by omega) (by omega) (by omega)).2
  have e : FP.l2d (jZ ((1 : Nat) : Int)) = FP.dconst1 := by decide +kernel
  rw [e] at h
  exact h
theorem sort_F {X : FP.Core.Datum} (h : FP.Core.fits FP.Core.b32 X) : fX8_sort_F (WD X) = sortS 0 X ∧ oX8_sort_F (WD X) := by
  have hX := fitK_of (k := 0) (Or.inl rfl) h
  have he := eqself_W hX
  have hf := finite_F hX
  have hz := eqz_W hX
  constructor
  · unfold fX8_sort_F
    by_cases hn : X = .nan
    · rw [if_neg (fun z => he.mp z hn), hn]; rfl
    · rw [if_pos (he.mpr hn), lt_eq, lt_eq, lt_eq, by1_F, absD_W, w_one, csign_W (fun z => by cases z) hn, sg8]
      cases X with
      | nan => exact absurd rfl hn
      | inf s =>
        rw [if_pos (hf.mpr (Or.inr rfl))]
        rfl
      | fin s c q =>
        have hl := lt_min (k := 0) (Or.inl rfl) (c := c) (q := q) h
        have hz' : Deq (WD (.fin s c q)) FP.dconst0 ↔ c = 0 := eqz_fin hX
        rw [if_neg (show ¬ fX8_isFinite_F (WD (.fin s c q)) = 0 from fun z => by rcases hf.mp z with w | w <;> cases w)]
        show (if s then (8 : Int32) else 0) + _ = (if s then (8 : Int32) else 0) + (if c = 0 then 2 else if c < (fm 0).tails then 3 else 4)
        congr 1
        by_cases hc : c = 0
        · rw [if_pos (hz'.mpr hc), if_pos hc]
        · rw [if_neg (fun z => hc (hz'.mp z)), if_neg hc]
          by_cases hc2 : c < (fm 0).tails
          · rw [if_pos hc2]; exact if_pos (hl.mpr hc2)
          · rw [if_neg hc2]; exact if_neg (fun z => hc2 (hl.mp z))
  · unfold oX8_sort_F
    refine ⟨fun z => ?_, fun _ => trivial⟩
    have hv := vfW (he.mp z)
    exact ⟨hv, fun _ _ => ⟨hv, fun _ _ => ⟨fun _ => trivial, fun _ => ⟨fun _ => trivial, fun _ => ob1_F⟩⟩⟩⟩
theorem sort_D {X : FP.Core.Datum} (h : FP.Core.fits FP.Core.b64 X) : fX8_sort_D (WD X) = sortS 1 X ∧ oX8_sort_D (WD X) := by
  have hX := fitK_of (k := 1) (Or.inr rfl) h
  have he := eqself_W hX
  have hf := finite_D hX
  have hz := eqz_W hX
  constructor
  · unfold fX8_sort_D
    by_cases hn : X = .nan
    · rw [if_neg (fun z => he.mp z hn), hn]; rfl
    · rw [if_pos (he.mpr hn), lt_eq, lt_eq, lt_eq, by1_D, absD_W, w_one, csign_W (fun z => by cases z) hn, sg8]
      cases X with
      | nan => exact absurd rfl hn
      | inf s =>
        rw [if_pos (hf.mpr (Or.inr rfl))]
        rfl
      | fin s c q =>
        have hl := lt_min (k := 1) (Or.inr rfl) (c := c) (q := q) h
        have hz' : Deq (WD (.fin s c q)) FP.dconst0 ↔ c = 0 := eqz_fin hX
        rw [if_neg (show ¬ fX8_isFinite_D (WD (.fin s c q)) = 0 from fun z => by rcases hf.mp z with w | w <;> cases w)]
        show (if s then (8 : Int32) else 0) + _ = (if s then (8 : Int32) else 0) + (if c = 0 then 2 else if c < (fm 1).tails then 3 else 4)
        congr 1
        by_cases hc : c = 0
        · rw [if_pos (hz'.mpr hc), if_pos hc]
        · rw [if_neg (fun z => hc (hz'.mp z)), if_neg hc]
          by_cases hc2 : c < (fm 1).tails
          · rw [if_pos hc2]; exact if_pos (hl.mpr hc2)
          · rw [if_neg hc2]; exact if_neg (fun z => hc2 (hl.mp z))
  · unfold oX8_sort_D
    refine ⟨fun z => ?_, fun _ => trivial⟩
    have hv := vfW (he.mp z)
    exact ⟨hv, fun _ _ => ⟨hv, fun _ _ => ⟨fun _ => trivial, fun _ => ⟨fun _ => trivial, fun _ => by rw [w_one]; exact vfW (fun z => by cases z)⟩⟩⟩⟩
def V_sort (k : Int32) (x : Int64) (v : Int32) (f : Nat) : Prop := SPr 0 (¬ isK k) (fun v f => f = 0 ∧ v = sortS k (fr k x)) v f
theorem c_sort {g : Nat → Int32} {k : Int32} {x : Int64} {post : Int32 → (Int32 × (Nat → Int32)) → Prop} (hp : ∀ v f, V_sort k x v f → post v (kZ (f : Int), cF g f)) : wX0_sort g k x post := by
  have hki := isKind_0 k
  unfold wX0_sort
  refine c_refused (fun h => ⟨fun z => absurd z (by decide), fun _ => hp 0 9 (Or.inl ⟨hki.mp h, rfl, rfl⟩)⟩) (fun h => ⟨fun _ => ?_, fun z => absurd rfl z⟩)
  have hk : isK k := Classical.byContradiction (fun z => h (hki.mpr z))
  have hv : ∀ v, v = sortS k (fr k x) → post v (0, g) := fun v e => hp v 0 (Or.inr ⟨fun z => z hk, rfl, e⟩)
  rcases hk with rfl | rfl
  · obtain ⟨d1, d2⟩ := from_F x
    obtain ⟨s1, s2⟩ := sort_F (fr0_fits x)
    refine ⟨fun _ => ⟨d2, ?_⟩, fun z => absurd rfl z⟩
    rw [d1, s1]
    exact ⟨s2, hv _ rfl⟩
  · obtain ⟨d1, d2⟩ := from_D x
    obtain ⟨s1, s2⟩ := sort_D (fr1_fits x)
    refine ⟨fun z => absurd z (by decide), fun _ => ⟨d2, ?_⟩⟩
    rw [d1, s1]
    exact ⟨s2, hv _ rfl⟩
theorem bz8 (s : Bool) : (if bz s = 0 then (0 : Int32) else 8) = if s then 8 else 0 := by cases s <;> decide
theorem m_sort {a1 a2 a3 : Int32} {a4 : Int64} {a5 : Int32} {g : Nat → Int32} {k : Int32} {x : Int64} {post : Int32 → (Int32 × Int32 × Int32 × Int32 × Int64 × Int32 × (Nat → Int32)) → Prop} {v : Int32} {f : Nat} (hs : V_sort k x v f) (hp : ∀ b1 b2 b3 b4 b5, post v (kZ (f : Int), b1, b2, b3, b4, b5, cF g f)) : wX6_sort a1 a2 a3 a4 a5 g k x post := by
  have hki := isKind_6 k
  unfold wX6_sort
  refine ⟨fun hk0 => ?_, fun hk0 => ?_⟩
  · obtain ⟨e1, e2⟩ := SPr_y hs (hki.mp hk0)
    subst e1 e2
    exact m_fail (f := 9) (by decide) (by decide) (hp _ _ _ _ _)
  · have hk : isK k := Classical.byContradiction (fun z => hk0 (hki.mpr z))
    obtain ⟨e1, e2⟩ := SPr_n hs (fun z => z hk)
    subst e1
    have hn := fm_num hk
    have hfit := fr_fits hk x
    have hsh : jshl 1 (fX6_bitsOf k - 1) = jZ (((fm k).tails : Nat) : Int) := by
      rcases hk with rfl | rfl
      · decide
      · decide
    refine take_K hk x ?_
    rcases hd : fr k x with _ | s | ⟨s, c, q⟩
    · intro m n x6 e6 x11 e11
      rw [if_neg (show ¬ (1 : Int32) = 0 by decide)] at e6
      rw [if_pos (show (0 : Int32) = 0 from rfl)] at e11
      have hv : x6 + x11 = v := by rw [e6, e11, e2, hd]; rfl
      rw [hv]; exact hp _ _ _ _ _
    · intro n x6 e6 x11 e11
      rw [if_pos (show (0 : Int32) = 0 from rfl), if_neg (show ¬ (1 : Int32) = 0 by decide)] at e6
      have e3 : x11 = (if s then (8 : Int32) else 0) := e11.trans (bz8 s)
      have hv : x6 + x11 = v := by rw [e6, e3, e2, hd]; exact Int32.add_comm _ _
      rw [hv]; exact hp _ _ _ _ _
    · intro x6 e6 x11 e11
      rw [hd] at hfit
      obtain ⟨f1, f2, f3, f4⟩ := fin_k hk hfit
      have hpl : 2 ^ (fm k).p ≤ 2 ^ 53 := Nat.pow_le_pow_right (by decide) (by omega)
      have hcz := jc0 (c := c) (by omega)
      rw [if_pos (show (0 : Int32) = 0 from rfl), if_pos (show (0 : Int32) = 0 from rfl), hsh] at e6
      have hct : (jZ (c : Int) < jZ (((fm k).tails : Nat) : Int)) ↔ c < (fm k).tails := by
        rw [jZ_lt (by omega) (by omega) (by omega) (by omega)]
        omega
      have hv : x6 + x11 = v := by
        have e3 : x11 = (if s then (8 : Int32) else 0) := e11.trans (bz8 s)
        have e4 : x6 = (if c = 0 then (2 : Int32) else if c < (fm k).tails then 3 else 4) := by
          rw [e6]
          by_cases hc : c = 0
          · rw [if_pos (hcz.mpr hc), if_pos hc]
          · rw [if_neg (fun z => hc (hcz.mp z)), if_neg hc]
            by_cases hc2 : c < (fm k).tails
            · rw [if_pos (hct.mpr hc2), if_pos hc2]
            · rw [if_neg (fun z => hc2 (hct.mp z)), if_neg hc2]
        rw [e3, e4, e2, hd]
        exact Int32.add_comm _ _
      rw [hv]; exact hp _ _ _ _ _
