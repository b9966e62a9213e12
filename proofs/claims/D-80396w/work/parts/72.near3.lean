/-! the model's rounding (3): whole -/
def nB3 : Nat := 2 ^ 3180
theorem kneg64 {z : Int} (h1 : -9223372036854775808 ≤ z) (h2 : z < 9223372036854775808) : (jZ z < 0) ↔ z < 0 := jZ_lt (b := 0) h1 h2 (by omega) (by omega)
theorem nLen_b {N : Nat} (h : 0 < N) : 2 ^ (nLen N - 1) ≤ N ∧ N < 2 ^ nLen N ∧ 0 < nLen N := by
  unfold nLen
  rw [if_neg (by omega)]
  exact ⟨by rw [show N.log2 + 1 - 1 = N.log2 by omega]; exact Nat.log2_self_le (by omega), Nat.lt_log2_self, by omega⟩
theorem nLen_3 {N : Nat} (h : N < nB3) : nLen N ≤ 3180 := by
  unfold nLen
  split
  · omega
  · have := (Nat.log2_lt (n := N) (k := 3180) (by assumption)).mpr h
    omega
theorem nLen_0 {N : Nat} : nLen N = 0 ↔ N = 0 := by
  unfold nLen
  constructor
  · intro h
    split at h
    · assumption
    · omega
  · intro h; rw [if_pos h]
theorem val_bounds {N M : Nat} (c : Int) (hN : 0 < N) (hM : 0 < M) : pw2 ((nLen N : Int) - (nLen M : Int) - 1 + c) ≤ (N : Rat) / (M : Rat) * pw2 c ∧ (N : Rat) / (M : Rat) * pw2 c < pw2 ((nLen N : Int) - (nLen M : Int) + 1 + c) := by
  obtain ⟨n1, n2, n3⟩ := nLen_b hN
  obtain ⟨m1, m2, m3⟩ := nLen_b hM
  have hm := fq_cpos hM
  have a1 := fq_cle n1
  have a2 := fq_clt n2
  have b1 := fq_cle m1
  have b2 := fq_clt m2
  rw [← pw2_nat] at a1 a2 b1 b2
  have hc := pw2_pos c
  constructor
  · rw [show (nLen N : Int) - (nLen M : Int) - 1 + c = ((nLen N : Int) - (nLen M : Int) - 1) + c by omega, pw2_add]
    refine fq_mpw ((fq_lediv hm).mpr ?_)
    have h1 := Rat.mul_le_mul_of_nonneg_left (Rat.le_of_lt b2) (Rat.le_of_lt (pw2_pos ((nLen N : Int) - (nLen M : Int) - 1)))
    rw [← pw2_add, show (nLen N : Int) - (nLen M : Int) - 1 + (nLen M : Int) = ((nLen N - 1 : Nat) : Int) by omega] at h1
    exact Rat.le_trans h1 a1
  · rw [show (nLen N : Int) - (nLen M : Int) + 1 + c = ((nLen N : Int) - (nLen M : Int) + 1) + c by omega, pw2_add]
    refine fq_mpwl ((Rat.div_lt_iff hm).mpr ?_)
    have h1 := Rat.mul_le_mul_of_nonneg_left b1 (Rat.le_of_lt (pw2_pos ((nLen N : Int) - (nLen M : Int) + 1)))
    rw [← pw2_add, show (nLen N : Int) - (nLen M : Int) + 1 + ((nLen M - 1 : Nat) : Int) = (nLen N : Int) by omega] at h1
    exact Std.lt_of_lt_of_le a2 h1
theorem rr_inf {f : FP.Core.Fmt} (hf : fq_good f) (s : Bool) {N M : Nat} {c g : Int} (hN : 0 < N) (hM : 0 < M) (h : pw2 (g + f.p - 1) ≤ (N : Rat) / (M : Rat) * pw2 c) (hg : f.qmax < g) : FP.Core.roundRatio f s N M c = .inf s := by
  obtain ⟨q, cc, h1, h2, h3⟩ := fq_round_ex (f := f) (e := c) hf hN hM s
  rw [h3]
  have h4 := pw2_lt' (Std.lt_of_le_of_lt h h1.2.1)
  unfold FP.Core.settle FP.Core.bound
  rw [if_neg (show ¬ q ≤ f.qmax by omega), if_neg (show ¬ q + 1 ≤ f.qmax by omega)]
  split <;> rfl
theorem rr_zero {f : FP.Core.Fmt} (hf : fq_good f) (s : Bool) {N M : Nat} {c g : Int} (hN : 0 < N) (hM : 0 < M) (h : (N : Rat) / (M : Rat) * pw2 c < pw2 g) (hg : g < f.qmin) : FP.Core.roundRatio f s N M c = .fin s 0 f.qmin := by
  obtain ⟨q, cc, h1, h2, h3⟩ := fq_round_ex (f := f) (e := c) hf hN hM s
  have e5 := hf.2
  have hq : q = f.qmin := by
    rcases h1.2.2 with h5 | h5
    · exact h5
    · have := pw2_lt' (Std.lt_of_le_of_lt h5 h)
      have := h1.1
      omega
  subst hq
  have h6 := fq_mpwl (e := -f.qmin) h
  rw [← pw2_add] at h6
  have h7 := Std.lt_of_lt_of_le h6 (pw2_le (show g + -f.qmin ≤ -1 by omega))
  have h8 : pw2 (-1) * 2 = 1 := by rw [← pw2_one, ← pw2_add]; exact pw2_zero
  have hc0 : cc = 0 := by
    have h9 := h2.1
    have h10 : ((2 * cc : Nat) : Rat) < ((2 : Nat) : Rat) := by
      rw [Rat.natCast_mul, Rat.natCast_ofNat]
      grind
    have := Rat.natCast_lt_natCast.mp h10
    omega
  rw [h3, hc0]
  have e2 := fq_qq (f := f)
  have e3 := fq_emax hf
  unfold FP.Core.settle FP.Core.bound
  rw [if_pos (Nat.two_pow_pos _), if_pos (by omega)]
/-- the first exponent is right, or one too low -/
theorem rr_near {f : FP.Core.Fmt} (hf : fq_good f) (s : Bool) {N M : Nat} {c a : Int} (hN : 0 < N) (hM : 0 < M) (ha : f.qmin ≤ a) (h1 : (N : Rat) / (M : Rat) * pw2 c < pw2 (a + f.p + 1)) (h2 : a = f.qmin ∨ pw2 (a + f.p - 1) ≤ (N : Rat) / (M : Rat) * pw2 c) :
    FP.Core.unitsNum N c a < FP.Core.unitsDen M c a * 2 ^ (f.p + 1) ∧ (a = f.qmin ∨ FP.Core.unitsDen M c a * f.tails ≤ FP.Core.unitsNum N c a) ∧
    FP.Core.roundRatio f s N M c = (if FP.Core.unitsNum N c a < FP.Core.unitsDen M c a * 2 ^ f.p then FP.Core.settle f s (FP.Core.nearest (FP.Core.unitsNum N c a) (FP.Core.unitsDen M c a)) a else FP.Core.settle f s (FP.Core.nearest (FP.Core.unitsNum N c a) (FP.Core.unitsDen M c a * 2)) (a + 1)) := by
  have hu := fq_units (A := N) hM c a
  have hD : 0 < FP.Core.unitsDen M c a := Nat.mul_pos hM (Nat.two_pow_pos _)
  generalize FP.Core.unitsNum N c a = X at *
  generalize FP.Core.unitsDen M c a = D at *
  have hd := fq_cpos hD
  have e5 := hf.2
  have hX : ∀ m : Nat, X < D * 2 ^ m ↔ (N : Rat) / (M : Rat) * pw2 c < pw2 (a + m) := by
    intro m
    have t1 : ((X : Rat) / (D : Rat) < ((2 ^ m : Nat) : Rat)) ↔ X < D * 2 ^ m := by
      rw [Rat.div_lt_iff hd, ← Rat.natCast_mul, Nat.mul_comm]
      exact Rat.natCast_lt_natCast
    rw [← t1, hu, ← pw2_nat]
    constructor
    · intro h
      have := fq_mpwl (e := a) h
      rw [fq_unit, ← pw2_add, Int.add_comm] at this
      exact this
    · intro h
      have := fq_mpwl (e := -a) h
      rw [← pw2_add, show a + (m : Int) + -a = m by omega] at this
      exact this
  have hXt : D * f.tails ≤ X ↔ pw2 (a + f.p - 1) ≤ (N : Rat) / (M : Rat) * pw2 c := by
    have := hX (f.p - 1)
    rw [show (a + ((f.p - 1 : Nat) : Int)) = a + f.p - 1 by omega] at this
    rw [← Rat.not_lt, ← this]
    show _ ↔ ¬ X < D * f.tails
    omega
  refine ⟨(hX (f.p + 1)).mpr (by rw [show a + ((f.p + 1 : Nat) : Int) = a + f.p + 1 by omega]; exact h1), ?_, ?_⟩
  · rcases h2 with h | h
    · exact Or.inl h
    · exact Or.inr (hXt.mpr h)
  · by_cases h3 : X < D * 2 ^ f.p
    · rw [if_pos h3]
      refine fq_round hf hN hM s rfl ⟨ha, (hX f.p).mp h3, h2⟩ ?_
      rw [← hu]
      exact fq_nearest hD
    · rw [if_neg h3]
      refine fq_round hf hN hM s rfl ⟨by omega, by rw [show a + 1 + (f.p : Int) = a + f.p + 1 by omega]; exact h1, Or.inr ?_⟩ ?_
      · rw [show a + 1 + (f.p : Int) - 1 = a + f.p by omega]
        exact Rat.not_lt.mp (fun z => h3 ((hX f.p).mpr z))
      · have h4 : (N : Rat) / (M : Rat) * pw2 c * pw2 (-(a + 1)) = (X : Rat) / ((D * 2 : Nat) : Rat) := by
          have h5 : pw2 (-a) = 2 * pw2 (-(a + 1)) := by rw [← pw2_succ]; congr 1; omega
          rw [h5] at hu
          rw [Rat.natCast_mul, Rat.natCast_ofNat]
          have h6 : (D : Rat) ≠ 0 := fun z => by rw [z] at hd; exact absurd hd Rat.lt_irrefl
          grind
        rw [h4]
        exact fq_nearest (by omega)
theorem lm_nearest {k : Int32} (hk : isK k) (s : Bool) {num den : Nat → Int64} (work : Nat → Int64) {N M : Nat} (hn : NA num N) (hd : NA den M) (hM0 : 0 < M) (lN : N < nB3) (lM : M < nB3) {c : Int} (hc1 : -1099511627776 ≤ c) (hc2 : c ≤ 1099511627776)
    {post : Int64 → ((Nat → Int64) × (Nat → Int64) × (Nat → Int64)) → Prop} (hp : ∀ u, post (tb k (FP.Core.roundRatio (fm k) s N M c)) u) : wX6_nearestOf num den work k (bz s) (jZ c) post := by
  have hf := fm_good hk
  have hcs := fm_num hk
  have hBM : nB3 < nBM := Nat.pow_lt_pow_right (by decide) (by decide)
  have lnN := nLen_3 lN
  have lnM := nLen_3 lM
  unfold wX6_nearestOf
  intro x1 e1
  rw [bitsOf_k hk] at e1
  refine lm_len hn (by omega) ⟨fun h => ?_, fun h => ?_⟩
  · have h0 : N = 0 := by
      rw [show (0 : Int32) = kZ 0 from rfl, kZ_eq (by omega) (by omega) (by omega) (by omega)] at h
      exact nLen_0.mp (by omega)
    subst h0
    rw [zero_k hk]
    exact hp _
  · have hN0 : 0 < N := by
      refine Nat.pos_of_ne_zero (fun z => h ?_)
      rw [nLen_0.mpr z]; rfl
    refine lm_len hd (by omega) (fun x5 e5 => ?_)
    obtain ⟨v1, v2⟩ := val_bounds c hN0 hM0
    have hpb : 24 ≤ (fm k).p ∧ (fm k).p ≤ 53 ∧ (fm k).qmin ≤ -149 ∧ -1074 ≤ (fm k).qmin ∧ (fm k).qmax ≤ 971 ∧ 104 ≤ (fm k).qmax := by
      rcases hcs with ⟨a, b, c, -⟩ | ⟨a, b, c, -⟩ <;> omega
    have e5' : x5 = jZ ((nLen N : Int) - (nLen M : Int) - ((fm k).p : Int) + c) := by
      rw [e5, e1, kZ_sub, kZ_sub, kZ_j (by omega) (by omega), jZ_add]
    clear e5
    obtain ⟨g, hg⟩ : ∃ g : Int, g = (nLen N : Int) - (nLen M : Int) - ((fm k).p : Int) + c := ⟨_, rfl⟩
    rw [← hg] at e5'
    rw [show (nLen N : Int) - (nLen M : Int) - 1 + c = g + ((fm k).p : Int) - 1 by omega] at v1
    rw [show (nLen N : Int) - (nLen M : Int) + 1 + c = g + ((fm k).p : Int) + 1 by omega] at v2
    have c1 : (2000 < x5) ↔ 2000 < g := by rw [e5']; exact jZ_lt (a := 2000) (by omega) (by omega) (by omega) (by omega)
    have c2 : (x5 < (-2000)) ↔ g < -2000 := by rw [e5', show (-2000 : Int64) = jZ (-2000) from rfl]; exact jZ_lt (by omega) (by omega) (by omega) (by omega)
    rw [c1, c2]
    refine ⟨fun h1 => ?_, fun h1 => ⟨fun h2 => ?_, fun h2 x8 e8 x10 e10 => ?_⟩⟩
    · rw [inf_k hk, ← rr_inf hf s hN0 hM0 v1 (by omega)]
      exact hp _
    · rw [zero_k hk, ← rr_zero hf s hN0 hM0 v2 (by omega)]
      exact hp _
    · obtain ⟨a, ha⟩ : ∃ a : Int, a = max g (fm k).qmin := ⟨_, rfl⟩
      have e8' : x8 = kZ a := by
        rw [e8, e5', least_k hk, jZ_k]
        by_cases hle : (fm k).qmin ≤ g
        · rw [if_pos ((kZ_le (by omega) (by omega) (by omega) (by omega)).mpr hle)]
          congr 1; omega
        · rw [if_neg (fun z => hle ((kZ_le (by omega) (by omega) (by omega) (by omega)).mp z))]
          congr 1; omega
      have e10' : x10 = jZ (a - c) := by rw [e10, e8', kZ_j (by omega) (by omega), jZ_sub]
      have hw1 : (N : Rat) / (M : Rat) * pw2 c < pw2 (a + (fm k).p + 1) := Std.lt_of_lt_of_le v2 (pw2_le (by omega))
      have hw2 : a = (fm k).qmin ∨ pw2 (a + (fm k).p - 1) ≤ (N : Rat) / (M : Rat) * pw2 c := by
        rcases Int.lt_or_le g (fm k).qmin with h3 | h3
        · left; omega
        · right
          refine Rat.le_trans (pw2_le ?_) v1
          omega
      obtain ⟨r1, r2, r3⟩ := rr_near hf s hN0 hM0 (show (fm k).qmin ≤ a by omega) hw1 hw2
      rw [r3] at hp
      obtain ⟨m1, m2, m3⟩ := nLen_b hM0
      have hDb : FP.Core.unitsDen M c a * 2 ^ ((fm k).p + 2) < nBM := by
        have h9 : FP.Core.unitsDen M c a < 2 ^ (nLen M + (a - c).toNat) := by
          unfold FP.Core.unitsDen
          rw [Nat.pow_add]
          exact Nat.mul_lt_mul_of_pos_right m2 (Nat.two_pow_pos _)
        have h10 := Nat.mul_lt_mul_of_pos_right h9 (Nat.two_pow_pos ((fm k).p + 2))
        rw [← Nat.pow_add] at h10
        refine Nat.lt_of_lt_of_le h10 (Nat.pow_le_pow_right (by decide) ?_)
        omega
      have hD0 : 0 < FP.Core.unitsDen M c a := Nat.mul_pos hM0 (Nat.two_pow_pos _)
      rw [e10', e8', e1, kneg64 (by omega) (by omega)]
      refine ⟨fun h3 => ?_, fun h3 => ?_⟩
      · rw [jZ_neg, jZ_k, show -(a - c) = ((c - a).toNat : Int) by omega]
        have hden : NA den (FP.Core.unitsDen M c a) := by
          unfold FP.Core.unitsDen
          rw [show (a - c).toNat = 0 by omega, Nat.pow_zero, Nat.mul_one]
          exact hd
        exact lm_left hn (by omega) (fun u13 hu13 => lm_near_140 hk s _ hu13 hden hD0 hDb r1 (by omega) (by omega) r2 hp)
      · rw [jZ_k, show a - c = ((a - c).toNat : Int) by omega]
        have hnum : NA num (FP.Core.unitsNum N c a) := by
          unfold FP.Core.unitsNum
          rw [show (c - a).toNat = 0 by omega, Nat.pow_zero, Nat.mul_one]
          exact hn
        refine lm_left hd (by omega) (fun u15 hu15 => lm_near_140 hk s _ hnum ?_ hD0 hDb r1 (by omega) (by omega) r2 hp)
        unfold FP.Core.unitsDen
        exact hu15
