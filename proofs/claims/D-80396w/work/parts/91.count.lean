/-! what is answered: told, count, counted -/
def V_told (g : Nat → Int32) (p : Int32) (v : Int32) (f : Nat) : Prop := SPr 0 (¬ (1 ≤ p.toInt ∧ p.toInt ≤ 9)) (fun v f => f = 0 ∧ v = g p.toInt.toNat) v f
theorem cl_in (p : Int32) {n : Nat} (h1 : 0 ≤ p.toInt) (h2 : p.toInt < n) (hn : n ≤ 2147483647) : vp_in p n ∧ p.toNatClampNeg = p.toInt.toNat := by
  have e : p = kZ ((p.toInt.toNat : Nat) : Int) := by
    conv => lhs; rw [← kI_Z p]
    congr 1
    omega
  constructor
  · rw [e]; exact kz_in (by omega) hn
  · conv => lhs; rw [e]
    exact kZ_cl (by omega)
theorem c_told {g : Nat → Int32} {p : Int32} {post : Int32 → (Int32 × (Nat → Int32)) → Prop} (hp : ∀ v f, V_told g p v f → post v (kZ (f : Int), cF g f)) : wX0_told g p post := by
  have hb := isR_k p 1 9 (by omega) (by omega) (by omega)
  unfold wX0_told
  refine c_refused (fun h => ⟨⟨fun z => absurd z (by decide), fun _ => trivial⟩, fun x3 e3 => ?_⟩) (fun h => ?_)
  · rw [e3, if_neg (by decide)]
    exact hp 0 9 (Or.inl ⟨hb.mp h, rfl, rfl⟩)
  · have hin : 1 ≤ p.toInt ∧ p.toInt ≤ 9 := Classical.byContradiction (fun z => h (hb.mpr z))
    obtain ⟨i1, i2⟩ := cl_in p (n := 10) (by omega) (by omega) (by omega)
    refine ⟨⟨fun _ => i1, fun z => absurd rfl z⟩, fun x3 e3 => ?_⟩
    rw [e3, if_pos rfl, i2]
    exact hp _ 0 (Or.inr ⟨fun z => z hin, rfl, rfl⟩)
theorem m_toldN {g : Nat → Int32} {p : Int32} {post : Int32 → (Int32 × (Nat → Int32)) → Prop} {v : Int32} {f : Nat} (hs : V_told g p v f) (hp : post v (kZ (f : Int), cF g f)) : wX6_told g p post := by
  have h1 : (p < (1 : Int32)) ↔ p.toInt < 1 := i_lt p (a := 1) (by omega) (by omega)
  have h9 : (p ≤ (9 : Int32)) ↔ p.toInt ≤ 9 := i_le p (a := 9) (by omega) (by omega)
  have hbad : ¬ (1 ≤ p.toInt ∧ p.toInt ≤ 9) → post 0 (9, cF g 9) := fun h => by
    obtain ⟨e1, e2⟩ := SPr_y hs h
    subst e1 e2; exact hp
  unfold wX6_told
  refine ⟨fun h => m_fail (f := 9) (by decide) (by decide) (hbad (by have := h1.mp h; omega)), fun h => ⟨fun h2 => ?_, fun h2 => m_fail (f := 9) (by decide) (by decide) (hbad (fun z => h2 (h9.mpr z.2)))⟩⟩
  have g1 : ¬ p.toInt < 1 := fun z => h (h1.mpr z)
  have g9 := h9.mp h2
  obtain ⟨i1, i2⟩ := cl_in p (n := 10) (by omega) (by omega) (by omega)
  obtain ⟨e1, e2⟩ := SPr_n hs (fun z => z ⟨by omega, by omega⟩)
  subst e1
  refine ⟨i1, ?_⟩
  rw [i2, ← e2]
  exact hp
/-- a whole of a kind -/
def kN (f : FP.Core.Fmt) (K : Nat) : FP.Core.Datum := fq_rv f false (K : Rat)
theorem kN_fits {f : FP.Core.Fmt} (hf : fq_good f) (K : Nat) : FP.Core.fits f (kN f K) := fq_rv_fits hf _ Rat.natCast_nonneg
theorem fromI {f : FP.Core.Fmt} (hf : fq_good f) {K : Nat} (h : K < 2147483648) : FP.Core.fromInt f (kZ (K : Int)).toInt = FP.Core.encode f (kN f K) := by
  rw [kZ_I (by omega) (by omega)]
  unfold FP.Core.fromInt FP.Core.ofInt FP.Core.round
  rw [decide_eq_false (show ¬ (K : Int) < 0 by omega), Int.natAbs_natCast]
  unfold kN
  show FP.Core.encode f (FP.Core.roundRatio f false K 1 0) = _
  rw [fq_rv_one hf, pw2_zero, Rat.mul_one]
theorem i2f_k {K : Nat} (h : K < 2147483648) : FP.i2f (kZ (K : Int)) = E32 (kN FP.Core.b32 K) := by
  show UInt32.ofNat (FP.Core.fromInt FP.Core.b32 (kZ (K : Int)).toInt) = _
  rw [fromI fq_g32 h]
  rfl
theorem i2d_k {K : Nat} (h : K < 2147483648) : FP.i2d (kZ (K : Int)) = E64 (kN FP.Core.b64 K) := by
  show UInt64.ofNat (FP.Core.fromInt FP.Core.b64 (kZ (K : Int)).toInt) = _
  rw [fromI fq_g64 h]
  rfl
theorem i2w_D {K : Nat} (h : K < 16777216) : FP.i2d (kZ (K : Int)) = WD (kN FP.Core.b64 K) := by
  rw [i2d_k (by omega), WD_64 (kN_fits fq_g64 K)]
theorem i2w_F {K : Nat} (h : K < 16777216) : FP.i2d (kZ (K : Int)) = WD (kN FP.Core.b32 K) := by
  rw [i2d_k (by omega)]
  unfold WD
  congr 1
  obtain ⟨c', q', k1, k2, k3⟩ := fq_exact fq_g32 false (c := K) (q := 0) h (by decide) (by decide)
  rw [pw2_zero, Rat.mul_one] at k1 k3
  unfold kN
  rw [k1]
  show _ = FP.Core.roundRatio FP.Core.b64 false c' 1 q'
  rw [fq_rv_one fq_g64, k3]
def twoD (k : Int32) : FP.Core.Datum := if k = 0 then .fin false 8388608 (-22) else .fin false 4503599627370496 (-51)
theorem twoD_fits {k : Int32} (hk : isK k) : FP.Core.fits (fm k) (twoD k) := by
  rcases hk with rfl | rfl
  · exact ⟨by decide, by decide, by decide, Or.inr (by decide)⟩
  · exact ⟨by decide, by decide, by decide, Or.inr (by decide)⟩
theorem twoD_W {k : Int32} (hk : isK k) : (4611686018427387904 : UInt64) = WD (twoD k) := by
  rcases hk with rfl | rfl
  · decide +kernel
  · decide +kernel
theorem two32 : FP.fconst2 = E32 (twoD 0) := by decide +kernel
theorem two64 : (4611686018427387904 : UInt64) = E64 (twoD 1) := by decide +kernel
def nthS (k : Int32) (X Y : FP.Core.Datum) (K : Nat) : FP.Core.Datum := sPlus (fm k) X (sTimes (fm k) (kN (fm k) K) (sMinus (fm k) Y X))
def limS (k : Int32) (X Y Z : FP.Core.Datum) : FP.Core.Datum := sPlus (fm k) Z (sOver (fm k) (sMinus (fm k) Y X) (twoD k))
def goesB (k : Int32) (X Y Z : FP.Core.Datum) (K : Nat) : Bool := if Dge (WD Y) (WD X) then decide (Dle (WD (nthS k X Y K)) (WD (limS k X Y Z))) else decide (Dge (WD (nthS k X Y K)) (WD (limS k X Y Z)))
def mnS (G : Nat → Bool) : Nat → Nat → Nat
  | 0, K => K
  | r + 1, K => if 1000 < K then K else if G K then mnS G r (K + 1) else K
theorem nthS_fits {k : Int32} (hk : isK k) (X Y : FP.Core.Datum) (K : Nat) : FP.Core.fits (fm k) (nthS k X Y K) := rf (fm_good hk) _
theorem limS_fits {k : Int32} (hk : isK k) (X Y Z : FP.Core.Datum) : FP.Core.fits (fm k) (limS k X Y Z) := rf (fm_good hk) _
theorem mnS_le (G : Nat → Bool) : ∀ (r K : Nat), K ≤ 1001 → mnS G r K ≤ 1001 := by
  intro r
  induction r with
  | zero => exact fun _ h => h
  | succ r ih =>
    intro K h
    unfold mnS
    split
    · exact h
    split
    · exact ih _ (by omega)
    · exact h
theorem step_F {X Y : FP.Core.Datum} (hX : FP.Core.fits FP.Core.b32 X) (hY : FP.Core.fits FP.Core.b32 Y) {K : Nat} (hK : K < 16777216) : fX0_step_F (WD X) (WD Y) (kZ (K : Int)) = WD (nthS 0 X Y K) ∧ oX0_step_F (WD X) (WD Y) (kZ (K : Int)) := by
  obtain ⟨a1, b1⟩ := c_minus_F hY hX
  have f1 : FP.Core.fits FP.Core.b32 (sMinus FP.Core.b32 Y X) := rf fq_g32 _
  obtain ⟨a2, b2⟩ := c_times_F (kN_fits fq_g32 K) f1
  have f2 : FP.Core.fits FP.Core.b32 (sTimes FP.Core.b32 (kN FP.Core.b32 K) (sMinus FP.Core.b32 Y X)) := rf fq_g32 _
  obtain ⟨a3, b3⟩ := c_plus_F hX f2
  unfold fX0_step_F oX0_step_F
  rw [i2w_F hK, a1, a2, a3]
  exact ⟨rfl, b1, b2, b3⟩
theorem cnt_F {X Y Z : FP.Core.Datum} (hX : FP.Core.fits FP.Core.b32 X) (hY : FP.Core.fits FP.Core.b32 Y) {post : Int32 → Prop} : ∀ (r K : Nat), K + r = 1002 → K ≤ 1001 → post (kZ ((mnS (goesB 0 X Y Z) r K : Nat) : Int)) → wX0_countOf_F_46 (WD X) (WD Y) post (r + 1) (WD (limS 0 X Y Z)) (if Dge (WD Y) (WD X) then 1 else 0) (kZ (K : Int)) 1 := by
  intro r
  induction r with
  | zero => intro K h1 h2; omega
  | succ r ih =>
    intro K h1 h2 hp
    obtain ⟨s1, s2⟩ := step_F hX hY (K := K) (by omega)
    have hc : ((1000 : Int32) < kZ (K : Int)) ↔ 1000 < K := by
      rw [show (1000 : Int32) = kZ 1000 from rfl, kZ_lt (by omega) (by omega) (by omega) (by omega)]
      omega
    unfold wX0_countOf_F_46
    refine ⟨fun z => absurd z (by decide), fun _ => ⟨s2, fun x2 e2 x3 e3 x8 e8 x10 e10 => ?_⟩⟩
    rw [s1] at e2
    have h3 : x3 = if 1000 < K then 0 else if goesB 0 X Y Z K then 1 else 0 := by
      rw [e3, e2]
      by_cases g : 1000 < K
      · rw [if_pos (hc.mpr g), if_pos g]
      · rw [if_neg (fun z => g (hc.mp z)), if_neg g]
        unfold goesB
        by_cases g2 : Dge (WD Y) (WD X)
        · rw [if_pos g2, if_neg (show ¬ (1 : Int32) = 0 by decide), if_pos g2]
          by_cases g3 : Dle (WD (nthS 0 X Y K)) (WD (limS 0 X Y Z))
          · rw [if_pos g3, decide_eq_true g3, if_pos rfl]
          · rw [if_neg g3, decide_eq_false g3, if_neg (by decide)]
        · rw [if_neg g2, if_pos rfl, if_neg g2]
          by_cases g3 : Dge (WD (nthS 0 X Y K)) (WD (limS 0 X Y Z))
          · rw [if_pos g3, decide_eq_true g3, if_pos rfl]
          · rw [if_neg g3, decide_eq_false g3, if_neg (by decide)]
    unfold mnS at hp
    have stop : x3 = 0 → post (kZ (K : Int)) → wX0_countOf_F_46 (WD X) (WD Y) post (r + 1) (WD (limS 0 X Y Z)) (if Dge (WD Y) (WD X) then 1 else 0) x10 x3 := by
      intro z hpost
      rw [z, if_pos rfl] at e8
      rw [e10, e8, z]
      unfold wX0_countOf_F_46
      refine ⟨fun _ => ?_, fun z => absurd rfl z⟩
      rw [show (0 : Int32) = kZ 0 from rfl, kZ_add, Int.add_zero]
      exact hpost
    by_cases g : 1000 < K
    · rw [if_pos g] at hp h3
      exact stop h3 hp
    · rw [if_neg g] at hp h3
      by_cases g2 : goesB 0 X Y Z K = true
      · rw [if_pos g2] at hp h3
        rw [h3, if_neg (by decide)] at e8
        rw [e10, e8, h3, show (1 : Int32) = kZ 1 from rfl, kZ_add]
        exact ih (K + 1) (by omega) (by omega) hp
      · rw [if_neg g2] at hp h3
        exact stop h3 hp
theorem countOf_F {X Y Z : FP.Core.Datum} (hX : FP.Core.fits FP.Core.b32 X) (hY : FP.Core.fits FP.Core.b32 Y) (hZ : FP.Core.fits FP.Core.b32 Z) {post : Int32 → Prop} (hp : post (kZ ((mnS (goesB 0 X Y Z) 1002 0 : Nat) : Int))) : wX0_countOf_F (WD X) (WD Y) (WD Z) post := by
  obtain ⟨a1, b1⟩ := c_minus_F hY hX
  have f1 : FP.Core.fits FP.Core.b32 (sMinus FP.Core.b32 Y X) := rf fq_g32 _
  obtain ⟨a2, b2⟩ := c_over_F f1 (twoD_fits (k := 0) (Or.inl rfl))
  have f2 : FP.Core.fits FP.Core.b32 (sOver FP.Core.b32 (sMinus FP.Core.b32 Y X) (twoD 0)) := quo_fits fq_g32 _ _
  obtain ⟨a3, b3⟩ := c_plus_F hZ f2
  unfold wX0_countOf_F
  rw [twoD_W (k := 0) (Or.inl rfl), a1, a2, a3]
  refine ⟨b1, b2, b3, fun x1 e1 x2 e2 => ⟨1002 + 1, ?_⟩⟩
  rw [e1, e2]
  exact cnt_F hX hY 1002 0 rfl (by decide) hp
theorem step_D {X Y : FP.Core.Datum} (hX : FP.Core.fits FP.Core.b64 X) (hY : FP.Core.fits FP.Core.b64 Y) {K : Nat} (hK : K < 16777216) : fX0_step_D (WD X) (WD Y) (kZ (K : Int)) = WD (nthS 1 X Y K) ∧ oX0_step_D (WD X) (WD Y) (kZ (K : Int)) := by
  obtain ⟨a1, b1⟩ := c_minus_D hY hX
  have f1 : FP.Core.fits FP.Core.b64 (sMinus FP.Core.b64 Y X) := rf fq_g64 _
  obtain ⟨a2, b2⟩ := c_times_D (kN_fits fq_g64 K) f1
  have f2 : FP.Core.fits FP.Core.b64 (sTimes FP.Core.b64 (kN FP.Core.b64 K) (sMinus FP.Core.b64 Y X)) := rf fq_g64 _
  obtain ⟨a3, b3⟩ := c_plus_D hX f2
  unfold fX0_step_D oX0_step_D
  rw [i2w_D hK, a1, a2, a3]
  exact ⟨rfl, b1, b2, b3⟩
theorem cnt_D {X Y Z : FP.Core.Datum} (hX : FP.Core.fits FP.Core.b64 X) (hY : FP.Core.fits FP.Core.b64 Y) {post : Int32 → Prop} : ∀ (r K : Nat), K + r = 1002 → K ≤ 1001 → post (kZ ((mnS (goesB 1 X Y Z) r K : Nat) : Int)) → wX0_countOf_D_46 (WD X) (WD Y) post (r + 1) (WD (limS 1 X Y Z)) (if Dge (WD Y) (WD X) then 1 else 0) (kZ (K : Int)) 1 := by
  intro r
  induction r with
  | zero => intro K h1 h2; omega
  | succ r ih =>
    intro K h1 h2 hp
    obtain ⟨s1, s2⟩ := step_D hX hY (K := K) (by omega)
    have hc : ((1000 : Int32) < kZ (K : Int)) ↔ 1000 < K := by
      rw [show (1000 : Int32) = kZ 1000 from rfl, kZ_lt (by omega) (by omega) (by omega) (by omega)]
      omega
    unfold wX0_countOf_D_46
    refine ⟨fun z => absurd z (by decide), fun _ => ⟨s2, fun x2 e2 x3 e3 x8 e8 x10 e10 => ?_⟩⟩
    rw [s1] at e2
    have h3 : x3 = if 1000 < K then 0 else if goesB 1 X Y Z K then 1 else 0 := by
      rw [e3, e2]
      by_cases g : 1000 < K
      · rw [if_pos (hc.mpr g), if_pos g]
      · rw [if_neg (fun z => g (hc.mp z)), if_neg g]
        unfold goesB
        by_cases g2 : Dge (WD Y) (WD X)
        · rw [if_pos g2, if_neg (show ¬ (1 : Int32) = 0 by decide), if_pos g2]
          by_cases g3 : Dle (WD (nthS 1 X Y K)) (WD (limS 1 X Y Z))
          · rw [if_pos g3, decide_eq_true g3, if_pos rfl]
          · rw [if_neg g3, decide_eq_false g3, if_neg (by decide)]
        · rw [if_neg g2, if_pos rfl, if_neg g2]
          by_cases g3 : Dge (WD (nthS 1 X Y K)) (WD (limS 1 X Y Z))
          · rw [if_pos g3, decide_eq_true g3, if_pos rfl]
          · rw [if_neg g3, decide_eq_false g3, if_neg (by decide)]
    unfold mnS at hp
    have stop : x3 = 0 → post (kZ (K : Int)) → wX0_countOf_D_46 (WD X) (WD Y) post (r + 1) (WD (limS 1 X Y Z)) (if Dge (WD Y) (WD X) then 1 else 0) x10 x3 := by
      intro z hpost
      rw [z, if_pos rfl] at e8
      rw [e10, e8, z]
      unfold wX0_countOf_D_46
      refine ⟨fun _ => ?_, fun z => absurd rfl z⟩
      rw [show (0 : Int32) = kZ 0 from rfl, kZ_add, Int.add_zero]
      exact hpost
    by_cases g : 1000 < K
    · rw [if_pos g] at hp h3
      exact stop h3 hp
    · rw [if_neg g] at hp h3
      by_cases g2 : goesB 1 X Y Z K = true
      · rw [if_pos g2] at hp h3
        rw [h3, if_neg (by decide)] at e8
        rw [e10, e8, h3, show (1 : Int32) = kZ 1 from rfl, kZ_add]
        exact ih (K + 1) (by omega) (by omega) hp
      · rw [if_neg g2] at hp h3
        exact stop h3 hp
theorem countOf_D {X Y Z : FP.Core.Datum} (hX : FP.Core.fits FP.Core.b64 X) (hY : FP.Core.fits FP.Core.b64 Y) (hZ : FP.Core.fits FP.Core.b64 Z) {post : Int32 → Prop} (hp : post (kZ ((mnS (goesB 1 X Y Z) 1002 0 : Nat) : Int))) : wX0_countOf_D (WD X) (WD Y) (WD Z) post := by
  obtain ⟨a1, b1⟩ := c_minus_D hY hX
  have f1 : FP.Core.fits FP.Core.b64 (sMinus FP.Core.b64 Y X) := rf fq_g64 _
  obtain ⟨a2, b2⟩ := c_over_D f1 (twoD_fits (k := 1) (Or.inr rfl))
  have f2 : FP.Core.fits FP.Core.b64 (sOver FP.Core.b64 (sMinus FP.Core.b64 Y X) (twoD 1)) := quo_fits fq_g64 _ _
  obtain ⟨a3, b3⟩ := c_plus_D hZ f2
  unfold wX0_countOf_D
  rw [twoD_W (k := 1) (Or.inr rfl), a1, a2, a3]
  refine ⟨b1, b2, b3, fun x1 e1 x2 e2 => ⟨1002 + 1, ?_⟩⟩
  rw [e1, e2]
  exact cnt_D hX hY 1002 0 rfl (by decide) hp
theorem m_nth {k : Int32} (hk : isK k) (x y : Int64) {K : Nat} (hK : K < 16777216) : fX6_nth k x y (kZ (K : Int)) = tb k (nthS k (fr k x) (fr k y) K) ∧ oX6_nth k x y (kZ (K : Int)) := by
  rcases hk with rfl | rfl
  · have hX := fr0_fits x
    have hY := fr0_fits y
    obtain ⟨s1, s2⟩ := single_E x
    obtain ⟨s3, s4⟩ := single_E y
    obtain ⟨a1, b1⟩ := m_differenceOf_32 hY hX
    have f1 : FP.Core.fits FP.Core.b32 (sMinus FP.Core.b32 (fr 0 y) (fr 0 x)) := rf fq_g32 _
    obtain ⟨a2, b2⟩ := m_productOf_32 (kN_fits fq_g32 K) f1
    have f2 : FP.Core.fits FP.Core.b32 (sTimes FP.Core.b32 (kN FP.Core.b32 K) (sMinus FP.Core.b32 (fr 0 y) (fr 0 x))) := rf fq_g32 _
    obtain ⟨a3, b3⟩ := m_sumOf_32 hX f2
    constructor
    · unfold fX6_nth
      rw [if_pos (show (0 : Int32) = 0 from rfl), lt_eq, s1, s3, i2f_k (by omega), a1, a2, a3]
      exact mbits32 (rf fq_g32 _)
    · refine ⟨fun _ => ⟨s4, s2, ?_, fun x3 e3 => ⟨s2, ?_, ?_⟩⟩, fun z => absurd rfl z⟩
      · rw [s1, s3]; exact b1
      · rw [e3, s1, s3, i2f_k (by omega), a1]; exact b2
      · rw [e3, s1, s3, i2f_k (by omega), a1, a2]; exact b3
  · have hX := fr1_fits x
    have hY := fr1_fits y
    obtain ⟨s1, s2⟩ := real_W (k := 1) (Or.inr rfl) x
    obtain ⟨s3, s4⟩ := real_W (k := 1) (Or.inr rfl) y
    rw [WD_64 hX] at s1
    rw [WD_64 hY] at s3
    obtain ⟨a1, b1⟩ := m_differenceOf_64 hY hX
    have f1 : FP.Core.fits FP.Core.b64 (sMinus FP.Core.b64 (fr 1 y) (fr 1 x)) := rf fq_g64 _
    obtain ⟨a2, b2⟩ := m_productOf_64 (kN_fits fq_g64 K) f1
    have f2 : FP.Core.fits FP.Core.b64 (sTimes FP.Core.b64 (kN FP.Core.b64 K) (sMinus FP.Core.b64 (fr 1 y) (fr 1 x))) := rf fq_g64 _
    obtain ⟨a3, b3⟩ := m_sumOf_64 hX f2
    constructor
    · unfold fX6_nth
      rw [if_neg (show ¬ (1 : Int32) = 0 by decide), lt_eq, s1, s3, i2d_k (by omega), a1, a2, a3]
      exact mbits64 (rf fq_g64 _)
    · refine ⟨fun z => absurd z (by decide), fun _ => ⟨s4, s2, ?_, fun x3 e3 => ⟨s2, ?_, ?_⟩⟩⟩
      · rw [s1, s3]; exact b1
      · rw [e3, s1, s3, i2d_k (by omega), a1]; exact b2
      · rw [e3, s1, s3, i2d_k (by omega), a1, a2]; exact b3
/-- the bound as the model has it -/
theorem m_end {k : Int32} (hk : isK k) (x y z : Int64) : (if k = 0 then (lt_ (fX6_differenceOf (fX6_single y) (fX6_single x)) (fun x6 : UInt32 => lt_ (fX6_wide (fX6_sumOf (fX6_single z) (fX6_quotientOf x6 FP.fconst2))) (fun x7 : UInt64 => x7))) else (lt_ (fX6_sumOf_2 (fX6_real k z) (fX6_quotientOf_2 (fX6_differenceOf_2 (fX6_real k y) (fX6_real k x)) 4611686018427387904)) (fun x5 : UInt64 => x5))) = WD (limS k (fr k x) (fr k y) (fr k z)) ∧
    (((k = 0) → (oX6_single y) ∧ ((oX6_single x) ∧ ((oX6_differenceOf (fX6_single y) (fX6_single x)) ∧ (∀ x6 : UInt32, x6 = fX6_differenceOf (fX6_single y) (fX6_single x) → (oX6_single z) ∧ ((oX6_quotientOf x6 FP.fconst2) ∧ ((oX6_sumOf (fX6_single z) (fX6_quotientOf x6 FP.fconst2)) ∧ (oX6_wide (fX6_sumOf (fX6_single z) (fX6_quotientOf x6 FP.fconst2))))))))) ∧ (¬ (k = 0) → (oX6_real k z) ∧ ((oX6_real k y) ∧ ((oX6_real k x) ∧ ((oX6_differenceOf_2 (fX6_real k y) (fX6_real k x)) ∧ ((oX6_quotientOf_2 (fX6_differenceOf_2 (fX6_real k y) (fX6_real k x)) 4611686018427387904) ∧ (oX6_sumOf_2 (fX6_real k z) (fX6_quotientOf_2 (fX6_differenceOf_2 (fX6_real k y) (fX6_real k x)) 4611686018427387904)))))))) := by
  rcases hk with rfl | rfl
  · have hX := fr0_fits x
    have hY := fr0_fits y
    have hZ := fr0_fits z
    obtain ⟨s1, s2⟩ := single_E x
    obtain ⟨s3, s4⟩ := single_E y
    obtain ⟨s5, s6⟩ := single_E z
    obtain ⟨a1, b1⟩ := m_differenceOf_32 hY hX
    have f1 : FP.Core.fits FP.Core.b32 (sMinus FP.Core.b32 (fr 0 y) (fr 0 x)) := rf fq_g32 _
    obtain ⟨a2, b2⟩ := m_quotientOf_32 f1 (twoD_fits (k := 0) (Or.inl rfl))
    have f2 : FP.Core.fits FP.Core.b32 (sOver FP.Core.b32 (sMinus FP.Core.b32 (fr 0 y) (fr 0 x)) (twoD 0)) := quo_fits fq_g32 _ _
    obtain ⟨a3, b3⟩ := m_sumOf_32 hZ f2
    obtain ⟨a4, b4⟩ := wide_E (rf fq_g32 (FP.Core.exactSum (fr 0 z) (sOver FP.Core.b32 (sMinus FP.Core.b32 (fr 0 y) (fr 0 x)) (twoD 0))))
    refine ⟨?_, fun _ => ⟨s4, s2, ?_, fun x6 e6 => ⟨s6, ?_, ?_, ?_⟩⟩, fun z => absurd rfl z⟩
    · rw [if_pos (show (0 : Int32) = 0 from rfl), lt_eq, lt_eq, s1, s3, s5, two32, a1, a2, a3]
      exact a4
    · rw [s1, s3]; exact b1
    · rw [e6, s1, s3, two32, a1]; exact b2
    · rw [e6, s1, s3, s5, two32, a1, a2]; exact b3
    · rw [e6, s1, s3, s5, two32, a1, a2, a3]; exact b4
  · have hX := fr1_fits x
    have hY := fr1_fits y
    have hZ := fr1_fits z
    obtain ⟨s1, s2⟩ := real_W (k := 1) (Or.inr rfl) x
    obtain ⟨s3, s4⟩ := real_W (k := 1) (Or.inr rfl) y
    obtain ⟨s5, s6⟩ := real_W (k := 1) (Or.inr rfl) z
    rw [WD_64 hX] at s1
    rw [WD_64 hY] at s3
    rw [WD_64 hZ] at s5
    obtain ⟨a1, b1⟩ := m_differenceOf_64 hY hX
    have f1 : FP.Core.fits FP.Core.b64 (sMinus FP.Core.b64 (fr 1 y) (fr 1 x)) := rf fq_g64 _
    obtain ⟨a2, b2⟩ := m_quotientOf_64 f1 (twoD_fits (k := 1) (Or.inr rfl))
    have f2 : FP.Core.fits FP.Core.b64 (sOver FP.Core.b64 (sMinus FP.Core.b64 (fr 1 y) (fr 1 x)) (twoD 1)) := quo_fits fq_g64 _ _
    obtain ⟨a3, b3⟩ := m_sumOf_64 hZ f2
    refine ⟨?_, fun z => absurd z (by decide), fun _ => ⟨s6, s4, s2, ?_, ?_, ?_⟩⟩
    · rw [if_neg (show ¬ (1 : Int32) = 0 by decide), lt_eq, s1, s3, s5, two64, a1, a2, a3]
      exact (WD_64 (rf fq_g64 _)).symm
    · rw [s1, s3]; exact b1
    · rw [s1, s3, two64, a1]; exact b2
    · rw [s1, s3, s5, two64, a1, a2]; exact b3
theorem m_goes {k : Int32} (hk : isK k) (x y z : Int64) (K : Nat) : fX6_goes k x y z (tb k (nthS k (fr k x) (fr k y) K)) = (if goesB k (fr k x) (fr k y) (fr k z) K then 1 else 0) ∧ oX6_goes k x y z (tb k (nthS k (fr k x) (fr k y) K)) := by
  obtain ⟨r1, r2⟩ := real_W hk x
  obtain ⟨r3, r4⟩ := real_W hk y
  obtain ⟨r5, r6⟩ := real_W hk (tb k (nthS k (fr k x) (fr k y) K))
  rw [fr_tb hk (nthS_fits hk _ _ _)] at r5
  obtain ⟨e1, e2⟩ := m_end hk x y z
  constructor
  · unfold fX6_goes
    rw [lt_eq, e1, lt_eq, lt_eq, r1, r3, r5]
    unfold goesB
    by_cases g2 : Dge (WD (fr k y)) (WD (fr k x))
    · rw [if_pos g2, if_neg (show ¬ (1 : Int32) = 0 by decide), if_pos g2]
      by_cases g3 : Dle (WD (nthS k (fr k x) (fr k y) K)) (WD (limS k (fr k x) (fr k y) (fr k z)))
      · rw [if_pos g3, decide_eq_true g3, if_pos rfl]
      · rw [if_neg g3, decide_eq_false g3, if_neg (by decide)]
    · rw [if_neg g2, if_pos rfl, if_neg g2]
      by_cases g3 : Dge (WD (nthS k (fr k x) (fr k y) K)) (WD (limS k (fr k x) (fr k y) (fr k z)))
      · rw [if_pos g3, decide_eq_true g3, if_pos rfl]
      · rw [if_neg g3, decide_eq_false g3, if_neg (by decide)]
  · unfold oX6_goes
    exact ⟨r4, r2, fun x1 _ => ⟨e2, fun x3 _ => ⟨fun _ => r6, fun _ => r6⟩⟩⟩
theorem m_many_go {k : Int32} (hk : isK k) (x y z : Int64) {post : Int32 → Prop} : ∀ (r K : Nat), K + r = 1002 → K ≤ 1001 → post (kZ ((mnS (goesB k (fr k x) (fr k y) (fr k z)) r K : Nat) : Int)) → wX6_many_3 k x y z post r (kZ (K : Int)) := by
  intro r
  induction r with
  | zero => intro K h1 h2; omega
  | succ r ih =>
    intro K h1 h2 hp
    have hc : ((1000 : Int32) < kZ (K : Int)) ↔ 1000 < K := by
      rw [show (1000 : Int32) = kZ 1000 from rfl, kZ_lt (by omega) (by omega) (by omega) (by omega)]
      omega
    obtain ⟨n1, n2⟩ := m_nth hk x y (K := K) (by omega)
    obtain ⟨g1, g2⟩ := m_goes hk x y z K
    unfold mnS at hp
    unfold wX6_many_3
    rw [n1, g1]
    refine ⟨fun h => ?_, fun h => ⟨n2, g2, ?_⟩⟩
    · rw [if_pos (hc.mp h)] at hp
      exact hp
    · rw [if_neg (fun w => h (hc.mpr w))] at hp
      have hK : ¬ 1000 < K := fun w => h (hc.mpr w)
      by_cases g3 : goesB k (fr k x) (fr k y) (fr k z) K = true
      · rw [if_pos g3] at hp ⊢
        refine ⟨fun w => absurd w (by decide), fun _ x3 e3 => ?_⟩
        rw [e3, show (1 : Int32) = kZ 1 from rfl, kZ_add]
        exact ih (K + 1) (by omega) (by omega) hp
      · rw [if_neg g3] at hp ⊢
        exact ⟨fun _ => hp, fun w => absurd rfl w⟩
def cntN (k : Int32) (x y z : Int64) : Nat := mnS (goesB k (fr k x) (fr k y) (fr k z)) 1002 0
theorem cntN_le (k : Int32) (x y z : Int64) : cntN k x y z ≤ 1001 := mnS_le _ _ _ (by decide)
theorem m_many {k : Int32} (hk : isK k) (x y z : Int64) {post : Int32 → Prop} (hp : post (kZ ((cntN k x y z : Nat) : Int))) : wX6_many k x y z post := ⟨1002, m_many_go hk x y z 1002 0 rfl (by decide) hp⟩
def V_count (k : Int32) (x y z : Int64) (v : Int32) (f : Nat) : Prop := SPr 0 (¬ isK k) (fun v f => (cntN k x y z ≤ 1000 ∧ v = kZ ((cntN k x y z : Nat) : Int) ∧ f = 0) ∨ (1000 < cntN k x y z ∧ v = 0 ∧ f = 8)) v f
theorem n_le (k : Int32) (x y z : Int64) : (kZ ((cntN k x y z : Nat) : Int) ≤ (1000 : Int32)) ↔ cntN k x y z ≤ 1000 := by
  have := cntN_le k x y z
  rw [show (1000 : Int32) = kZ 1000 from rfl, kZ_le (by omega) (by omega) (by omega) (by omega)]
  omega
theorem c_count {g : Nat → Int32} {k : Int32} {x y z : Int64} {post : Int32 → (Int32 × (Nat → Int32)) → Prop} (hp : ∀ v f, V_count k x y z v f → post v (kZ (f : Int), cF g f)) : wX0_count g k x y z post := by
  have hki := isKind_0 k
  have hn := n_le k x y z
  unfold wX0_count
  refine c_refused (fun h => ⟨fun w => absurd w (by decide), fun _ => hp 0 9 (Or.inl ⟨hki.mp h, rfl, rfl⟩)⟩) (fun h => ⟨fun _ => ?_, fun w => absurd rfl w⟩)
  have hk : isK k := Classical.byContradiction (fun w => h (hki.mpr w))
  have hend : ((kZ ((cntN k x y z : Nat) : Int) ≤ (1000 : Int32)) → post (kZ ((cntN k x y z : Nat) : Int)) (0, g)) ∧ (¬ (kZ ((cntN k x y z : Nat) : Int) ≤ (1000 : Int32)) → wX0_fails g 8 (fun r7 u8 => post r7 (u8.1, u8.2))) := by
    refine ⟨fun w => hp _ 0 (Or.inr ⟨fun q => q hk, Or.inl ⟨hn.mp w, rfl, rfl⟩⟩), fun w => c_fails (f := 8) (by decide) (by decide) (hp 0 8 (Or.inr ⟨fun q => q hk, Or.inr ⟨?_, rfl, rfl⟩⟩))⟩
    have h8 : ¬ cntN k x y z ≤ 1000 := fun q => w (hn.mpr q)
    omega
  rcases hk with rfl | rfl
  · obtain ⟨d1, d2⟩ := from_F x
    obtain ⟨d3, d4⟩ := from_F y
    obtain ⟨d5, d6⟩ := from_F z
    refine ⟨fun _ => ⟨d2, d4, d6, ?_⟩, fun w => absurd rfl w⟩
    rw [d1, d3, d5]
    exact countOf_F (fr0_fits x) (fr0_fits y) (fr0_fits z) hend
  · obtain ⟨d1, d2⟩ := from_D x
    obtain ⟨d3, d4⟩ := from_D y
    obtain ⟨d5, d6⟩ := from_D z
    refine ⟨fun w => absurd w (by decide), fun _ => ⟨d2, d4, d6, ?_⟩⟩
    rw [d1, d3, d5]
    exact countOf_D (fr1_fits x) (fr1_fits y) (fr1_fits z) hend
theorem m_count {g : Nat → Int32} {k : Int32} {x y z : Int64} {post : Int32 → (Int32 × (Nat → Int32)) → Prop} {v : Int32} {f : Nat} (hs : V_count k x y z v f) (hp : post v (kZ (f : Int), cF g f)) : wX6_count g k x y z post := by
  have hki := isKind_6 k
  have hn := n_le k x y z
  unfold wX6_count
  refine ⟨fun hk0 => ?_, fun hk0 => ?_⟩
  · obtain ⟨e1, e2⟩ := SPr_y hs (hki.mp hk0)
    subst e1 e2
    exact m_fail (f := 9) (by decide) (by decide) hp
  · have hk : isK k := Classical.byContradiction (fun w => hk0 (hki.mpr w))
    have hv := SPr_n hs (fun w => w hk)
    refine m_many hk x y z ⟨fun w => ?_, fun w => ?_⟩
    · rcases hv with ⟨-, h2, h3⟩ | ⟨h1, -⟩
      · subst h3; rw [← h2]; exact hp
      · have := hn.mp w; omega
    · rcases hv with ⟨h1, -⟩ | ⟨-, h2, h3⟩
      · exact absurd (hn.mpr h1) w
      · subst h2 h3; exact m_fail (f := 8) (by decide) (by decide) hp
def V_counted (k : Int32) (x y z : Int64) (p : Int32) (v : Int64) (f : Nat) : Prop := SPr 0 (¬ isK k) (fun v f => (cntN k x y z ≤ 1000 ∧ 0 ≤ p.toInt ∧ p.toInt < cntN k x y z ∧ v = tb k (nthS k (fr k x) (fr k y) p.toInt.toNat) ∧ f = 0) ∨ (cntN k x y z ≤ 1000 ∧ ¬ (0 ≤ p.toInt ∧ p.toInt < cntN k x y z) ∧ v = 0 ∧ f = 2) ∨ (1000 < cntN k x y z ∧ v = 0 ∧ f = 8)) v f
theorem c_counted {g : Nat → Int32} {k : Int32} {x y z : Int64} {p : Int32} {post : Int64 → (Int32 × (Nat → Int32)) → Prop} (hp : ∀ v f, V_counted k x y z p v f → post v (kZ (f : Int), cF g f)) : wX0_counted g k x y z p post := by
  have hle := cntN_le k x y z
  have hpr := kI_r p
  unfold wX0_counted
  refine c_count (fun v f hv => ⟨fun hf => ?_, fun hf => ?_⟩)
  · rcases hv with ⟨-, -, h3⟩ | ⟨h1, ⟨h2, h3, h4⟩ | ⟨-, -, h4⟩⟩
    · subst h3; exact absurd hf (show ¬ (kZ ((9 : Nat) : Int)) ≤ 0 by decide)
    · subst h4
      have hk : isK k := Classical.byContradiction (fun w => h1 w)
      have hin : (fX0_isIn p.toInt64 0 ((v - 1).toInt64) = 0) ↔ ¬ (0 ≤ p.toInt ∧ p.toInt < cntN k x y z) := by
        rw [h3, show (1 : Int32) = kZ 1 from rfl, kZ_sub, kZ_j (by omega) (by omega)]
        have := isIn_k p (lo := 0) (hi := ((cntN k x y z : Nat) : Int) - 1) (by omega) (by omega) (by omega) (by omega)
        rw [show (0 : Int64) = jZ 0 from rfl, this]
        omega
      have hbad : (fX0_isIn p.toInt64 0 ((v - 1).toInt64) = 0) → wX0_fails g 2 (fun r6 u7 => post r6.toInt64 (u7.1, u7.2)) := fun w => c_fails (f := 2) (by decide) (by decide) (hp 0 2 (Or.inr ⟨h1, Or.inr (Or.inl ⟨h2, hin.mp w, rfl, rfl⟩)⟩))
      have hok : ¬ (fX0_isIn p.toInt64 0 ((v - 1).toInt64) = 0) → 0 ≤ p.toInt ∧ p.toInt < cntN k x y z := fun w => Classical.byContradiction (fun q => w (hin.mpr q))
      have hpk : 0 ≤ p.toInt → p = kZ ((p.toInt.toNat : Nat) : Int) := fun w => by
        conv => lhs; rw [← kI_Z p]
        congr 1
        omega
      have hfin : 0 ≤ p.toInt ∧ p.toInt < cntN k x y z → post (tb k (nthS k (fr k x) (fr k y) p.toInt.toNat)) (0, g) := fun w => hp _ 0 (Or.inr ⟨h1, Or.inl ⟨h2, w.1, w.2, rfl, rfl⟩⟩)
      rcases hk with rfl | rfl
      · refine ⟨fun _ => ⟨hbad, fun w => ?_⟩, fun w => absurd rfl w⟩
        have hr := hok w
        obtain ⟨d1, d2⟩ := from_F x
        obtain ⟨d3, d4⟩ := from_F y
        obtain ⟨s1, s2⟩ := step_F (fr0_fits x) (fr0_fits y) (K := p.toInt.toNat) (by omega)
        rw [← hpk hr.1] at s1 s2
        obtain ⟨t1, t2⟩ := to_F (nthS_fits (k := 0) (Or.inl rfl) (fr 0 x) (fr 0 y) p.toInt.toNat)
        refine ⟨d2, d4, ?_⟩
        rw [d1, d3, s1, t1]
        exact ⟨s2, t2, hfin hr⟩
      · refine ⟨fun w => absurd w (by decide), fun _ => ⟨hbad, fun w => ?_⟩⟩
        have hr := hok w
        obtain ⟨d1, d2⟩ := from_D x
        obtain ⟨d3, d4⟩ := from_D y
        obtain ⟨s1, s2⟩ := step_D (fr1_fits x) (fr1_fits y) (K := p.toInt.toNat) (by omega)
        rw [← hpk hr.1] at s1 s2
        have t1 := to_D (nthS_fits (k := 1) (Or.inr rfl) (fr 1 x) (fr 1 y) p.toInt.toNat)
        refine ⟨d2, d4, ?_⟩
        rw [d1, d3, s1, t1]
        exact ⟨s2, hfin hr⟩
    · subst h4; exact absurd hf (show ¬ (kZ ((8 : Nat) : Int)) ≤ 0 by decide)
  · rcases hv with ⟨h1, -, h3⟩ | ⟨h1, ⟨h2, h3, h4⟩ | ⟨h2, -, h4⟩⟩
    · subst h3; exact hp 0 9 (Or.inl ⟨h1, rfl, rfl⟩)
    · subst h4; exact absurd (show (kZ ((0 : Nat) : Int)) ≤ 0 by decide) hf
    · subst h4; exact hp 0 8 (Or.inr ⟨h1, Or.inr (Or.inr ⟨h2, rfl, rfl⟩)⟩)
theorem m_counted {g : Nat → Int32} {k : Int32} {x y z : Int64} {p : Int32} {post : Int64 → (Int32 × (Nat → Int32)) → Prop} {v : Int64} {f : Nat} (hs : V_counted k x y z p v f) (hp : post v (kZ (f : Int), cF g f)) : wX6_counted g k x y z p post := by
  have hki := isKind_6 k
  have hn := n_le k x y z
  have hle := cntN_le k x y z
  have hpr := kI_r p
  have h0 : (p < (0 : Int32)) ↔ p.toInt < 0 := i_lt p (a := 0) (by omega) (by omega)
  have h1 : (p < kZ ((cntN k x y z : Nat) : Int)) ↔ p.toInt < cntN k x y z := i_lt p (by omega) (by omega)
  unfold wX6_counted
  refine ⟨fun hk0 => ?_, fun hk0 => ?_⟩
  · obtain ⟨e1, e2⟩ := SPr_y hs (hki.mp hk0)
    subst e1 e2
    exact m_fail (f := 9) (by decide) (by decide) hp
  · have hk : isK k := Classical.byContradiction (fun w => hk0 (hki.mpr w))
    have hv := SPr_n hs (fun w => w hk)
    have bad2 : cntN k x y z ≤ 1000 → ¬ (0 ≤ p.toInt ∧ p.toInt < cntN k x y z) → wX6_fail g 2 (fun r7 u8 => post r7 (u8.1, u8.2)) := by
      intro w1 w2
      rcases hv with ⟨-, q2, q3, -⟩ | ⟨-, -, q3, q4⟩ | ⟨q1, -⟩
      · exact absurd ⟨q2, q3⟩ w2
      · subst q3 q4; exact m_fail (f := 2) (by decide) (by decide) hp
      · omega
    refine m_many hk x y z ⟨fun w => ⟨fun w2 => bad2 (hn.mp w) (by have := h0.mp w2; omega), fun w2 => ⟨fun w3 => ?_, fun w3 => bad2 (hn.mp w) (fun q => w3 (h1.mpr q.2))⟩⟩, fun w => ?_⟩
    · have g0 : ¬ p.toInt < 0 := fun q => w2 (h0.mpr q)
      have g1 := h1.mp w3
      have g2 := hn.mp w
      have hpk : p = kZ ((p.toInt.toNat : Nat) : Int) := by
        conv => lhs; rw [← kI_Z p]
        congr 1
        omega
      obtain ⟨n1, n2⟩ := m_nth hk x y (K := p.toInt.toNat) (by omega)
      rw [← hpk] at n1 n2
      refine ⟨n2, ?_⟩
      rw [n1]
      rcases hv with ⟨-, -, -, q4, q5⟩ | ⟨-, q2, -⟩ | ⟨q1, -⟩
      · subst q5; rw [← q4]; exact hp
      · exact absurd ⟨by omega, g1⟩ q2
      · omega
    · rcases hv with ⟨q1, -⟩ | ⟨q1, -⟩ | ⟨-, q3, q4⟩
      · exact absurd (hn.mpr q1) w
      · exact absurd (hn.mpr q1) w
      · subst q3 q4; exact m_fail (f := 8) (by decide) (by decide) hp
