/-! the model's rounding (2): the long division, and what is rounded -/
theorem lm_near_go {k : Int32} (hk : isK k) (s : Bool) {den : Nat → Int64} {N D : Nat} {q : Int} (hd : NA den D) (hD0 : 0 < D) (hD : D * 2 ^ ((fm k).p + 1) < nBM) (hN : N < D * 2 ^ (fm k).p) (h1 : (fm k).qmin ≤ q) (h2 : q ≤ 3000) (h3 : q = (fm k).qmin ∨ D * (fm k).tails ≤ N)
    {post : Int64 → ((Nat → Int64) × (Nat → Int64) × (Nat → Int64)) → Prop} (hp : ∀ u, post (tb k (FP.Core.settle (fm k) s (FP.Core.nearest N D) q)) u) : ∀ (r : Nat) (num work : Nat → Int64) (Q R : Nat), r ≤ (fm k).p + 1 →
      N = Q * D + R → R < D * 2 ^ r → Q % 2 ^ r = 0 → NA num R → (0 < r → NA work (D * 2 ^ (r - 1))) →
      wX6_nearestOf_212 k (bz s) post (r + 1) (kZ ((fm k).p : Int)) (kZ q) (jZ Q) (kZ ((r : Int) - 1)) num den work := by
  have hp53 : (fm k).p ≤ 53 ∧ 24 ≤ (fm k).p := by
    rcases fm_num hk with ⟨a, -⟩ | ⟨a, -⟩ <;> omega
  have hf := fm_good hk
  have hQb : ∀ {Q R : Nat}, N = Q * D + R → Q < 2 ^ (fm k).p := by
    intro Q R h
    refine Nat.lt_of_mul_lt_mul_left (a := D) ?_
    rw [Nat.mul_comm D Q]
    omega
  intro r
  induction r with
  | zero =>
    intro num work Q R hr hNQ hR hQ hn hw
    rw [Nat.pow_zero, Nat.mul_one] at hR
    unfold wX6_nearestOf_212
    refine ⟨fun _ => ?_, fun h => absurd ((kneg (by omega) (by omega)).mpr (by omega)) h⟩
    have h2D : 2 * D < nBM := by
      refine Nat.lt_of_le_of_lt ?_ hD
      rw [Nat.mul_comm 2 D]
      refine Nat.mul_le_mul_left _ ?_
      have : 2 ^ 1 ≤ 2 ^ ((fm k).p + 1) := Nat.pow_le_pow_right (by decide) (by omega)
      exact this
    refine lm_near_end hk s work hn hd hR h2D (hQb hNQ) h1 h2 ?_ (by rw [← hNQ]; exact hp)
    rcases h3 with h | h
    · exact Or.inl h
    · right
      rcases Nat.lt_or_ge Q (fm k).tails with h4 | h4
      · exfalso
        have : (Q + 1) * D ≤ (fm k).tails * D := Nat.mul_le_mul_right _ h4
        rw [Nat.add_mul, Nat.one_mul, Nat.mul_comm (fm k).tails] at this
        omega
      · exact h4
  | succ j ih =>
    intro num work Q R hr hNQ hR hQ hn hw
    have hw := hw (Nat.succ_pos j)
    rw [show j + 1 - 1 = j by omega] at hw
    rw [show ((j + 1 : Nat) : Int) - 1 = (j : Int) by omega]
    unfold wX6_nearestOf_212
    have hbig : D * 2 ^ (j + 1) < nBM := Nat.lt_of_le_of_lt (Nat.mul_le_mul_left _ (Nat.pow_le_pow_right (by decide) hr)) hD
    have hj2 : D * 2 ^ (j + 1) = 2 * (D * 2 ^ j) := by rw [Nat.pow_succ]; rw [← Nat.mul_assoc, Nat.mul_comm]
    refine ⟨fun h => absurd ((kneg (by omega) (by omega)).mp h) (by omega), fun _ => ?_⟩
    refine lm_order hn hw (by omega) (by omega) ⟨fun h => ?_, fun h => ?_⟩
    · have hlt : R < D * 2 ^ j := by
        rcases Nat.lt_trichotomy R (D * 2 ^ j) with h5 | h5 | h5
        · exact h5
        · rw [nOrd_e h5] at h; exact absurd h (by decide)
        · rw [nOrd_g h5] at h; exact absurd h (by decide)
      refine lm_half hw (by omega) (fun u5 hu5 x6 e6 => ?_)
      rw [e6, k_dec]
      refine ih num u5 Q R (by omega) hNQ hlt ?_ hn (fun hj => ?_)
      · rw [Nat.pow_succ, Nat.mod_mul] at hQ
        have := Nat.two_pow_pos j
        omega
      · obtain ⟨i, rfl⟩ := Nat.exists_eq_add_of_le (show 1 ≤ j from hj)
        rw [show 1 + i - 1 = i by omega]
        rw [Nat.add_comm 1 i, Nat.pow_succ, ← Nat.mul_assoc, Nat.mul_div_cancel _ (by decide)] at hu5
        exact hu5
    · have hge : D * 2 ^ j ≤ R := by
        rcases Nat.lt_or_ge R (D * 2 ^ j) with h5 | h5
        · rw [nOrd_l h5] at h; exact absurd (by decide) h
        · exact h5
      refine lm_less hn hw hge (fun u8 hu8 x9 e9 => lm_half hw (by omega) (fun u11 hu11 x12 e12 => ?_))
      have hQlt := hQb hNQ
      have hQ53 : 2 ^ (fm k).p ≤ 2 ^ 53 := Nat.pow_le_pow_right (by decide) hp53.1
      have hQ' : x9 = jZ ((Q + 2 ^ j : Nat) : Int) := by
        rw [e9, show (1 : Int64) = jZ 1 from rfl, jZ_shl _ (by omega), Int.one_mul]
        have hpj : 2 ^ j ≤ 2 ^ 53 := Nat.pow_le_pow_right (by decide) (by omega)
        have hdv := Nat.div_add_mod' Q (2 ^ (j + 1))
        rw [hQ, Nat.add_zero] at hdv
        have hpp : 2 ^ j < 2 ^ (j + 1) := Nat.pow_lt_pow_right (by decide) (by omega)
        rw [jZ_or (by omega) (by omega)]
        congr 2
        generalize Q / 2 ^ (j + 1) = z at hdv
        subst hdv
        rw [← Nat.shiftLeft_eq, ← Nat.shiftLeft_add_eq_or_of_lt hpp]
      rw [e12, k_dec, hQ']
      refine ih u8 u11 (Q + 2 ^ j) (R - D * 2 ^ j) (by omega) ?_ ?_ ?_ hu8 (fun hj => ?_)
      · rw [Nat.add_mul, Nat.mul_comm (2 ^ j) D]
        omega
      · omega
      · rw [Nat.add_mod_right]
        rw [Nat.pow_succ, Nat.mod_mul] at hQ
        have := Nat.two_pow_pos j
        omega
      · obtain ⟨i, rfl⟩ := Nat.exists_eq_add_of_le (show 1 ≤ j from hj)
        rw [show 1 + i - 1 = i by omega]
        rw [Nat.add_comm 1 i, Nat.pow_succ, ← Nat.mul_assoc, Nat.mul_div_cancel _ (by decide)] at hu11
        exact hu11
/-- at a first exponent at, which may be one too low -/
theorem lm_near_140 {k : Int32} (hk : isK k) (s : Bool) {num den : Nat → Int64} (work : Nat → Int64) {N D : Nat} {q : Int} (hn : NA num N) (hd : NA den D) (hD0 : 0 < D) (hD : D * 2 ^ ((fm k).p + 2) < nBM) (hN : N < D * 2 ^ ((fm k).p + 1)) (h1 : (fm k).qmin ≤ q) (h2 : q ≤ 2900) (h3 : q = (fm k).qmin ∨ D * (fm k).tails ≤ N)
    {post : Int64 → ((Nat → Int64) × (Nat → Int64) × (Nat → Int64)) → Prop} (hp : ∀ u, post (tb k (if N < D * 2 ^ (fm k).p then FP.Core.settle (fm k) s (FP.Core.nearest N D) q else FP.Core.settle (fm k) s (FP.Core.nearest N (D * 2)) (q + 1))) u) :
    wX6_nearestOf_140 k (bz s) post (kZ ((fm k).p : Int)) (kZ q) num den work := by
  have hp53 : (fm k).p ≤ 53 ∧ 24 ≤ (fm k).p := by
    rcases fm_num hk with ⟨a, -⟩ | ⟨a, -⟩ <;> omega
  have hf := fm_good hk
  have et := fq_2t hf
  have hs : D * 2 ^ ((fm k).p + 2) = 2 * (D * 2 ^ ((fm k).p + 1)) := by rw [Nat.pow_succ _ ((fm k).p + 1), ← Nat.mul_assoc, Nat.mul_comm]
  have hs1 : D * 2 ^ ((fm k).p + 1) = 2 * (D * 2 ^ (fm k).p) := by rw [Nat.pow_succ _ ((fm k).p), ← Nat.mul_assoc, Nat.mul_comm]
  unfold wX6_nearestOf_140
  refine lm_copy hd _ (fun u2 hu2 => lm_left hu2 (by omega) (fun u4 hu4 => lm_order hn hu4 (by omega) (by omega) ⟨fun h => ?_, fun h => ?_⟩))
  · have hlt : N < D * 2 ^ (fm k).p := by
      rcases Nat.lt_trichotomy N (D * 2 ^ (fm k).p) with h5 | h5 | h5
      · exact h5
      · rw [nOrd_e h5] at h; exact absurd h (by decide)
      · rw [nOrd_g h5] at h; exact absurd h (by decide)
    rw [if_pos hlt] at hp
    refine lm_copy hd _ (fun u8 hu8 => lm_left hu8 (by omega) (fun u10 hu10 => ⟨(fm k).p + 2, ?_⟩))
    have := lm_near_go hk s hd hD0 (by omega) hlt h1 (by omega) h3 hp ((fm k).p + 1) num u10 0 N (Nat.le_refl _) (by rw [Nat.zero_mul, Nat.zero_add]) hN (Nat.zero_mod _) hn (fun _ => hu10)
    rw [show (((fm k).p + 1 : Nat) : Int) - 1 = ((fm k).p : Int) by omega] at this
    exact this
  · have hge : ¬ N < D * 2 ^ (fm k).p := by
      intro h5
      rw [nOrd_l h5] at h; exact absurd (by decide) h
    rw [if_neg hge] at hp
    rw [show (1 : Int32) = kZ ((1 : Nat) : Int) from rfl]
    refine lm_left hd (by decide) (fun u13 hu13 x14 e14 => lm_copy hu13 _ (fun u16 hu16 => lm_left hu16 (by omega) (fun u18 hu18 => ⟨(fm k).p + 2, ?_⟩)))
    rw [Nat.pow_one] at hu13 hu16 hu18
    have e2 : ∀ z : Nat, D * 2 * z = 2 * (D * z) := fun z => by rw [Nat.mul_right_comm, Nat.mul_comm]
    have hDD : D * 2 * (fm k).tails = D * 2 ^ (fm k).p := by rw [et, Nat.mul_assoc]
    rw [e14, kZ_add, show ((1 : Nat) : Int) = 1 from rfl]
    have := lm_near_go hk s (N := N) (q := q + 1) hu13 (by omega) (by rw [e2]; omega) (by rw [e2]; omega) (by omega) (by omega) (Or.inr (by rw [hDD]; omega)) hp ((fm k).p + 1) num u18 0 N (Nat.le_refl _) (by rw [Nat.zero_mul, Nat.zero_add]) (by rw [e2]; omega) (Nat.zero_mod _) hn (fun _ => hu18)
    rw [show (((fm k).p + 1 : Nat) : Int) - 1 = ((fm k).p : Int) by omega] at this
    exact this
