/-! what is answered: decode, encode, exponent -/
/-- refused, no number, or a value -/
def SPn {α : Type} (z : α) (ref fin : Prop) (val : α → Nat → Prop) (v : α) (f : Nat) : Prop := (ref ∧ v = z ∧ f = 9) ∨ (¬ ref ∧ ¬ fin ∧ v = z ∧ f = 7) ∨ (¬ ref ∧ fin ∧ val v f)
theorem cF0 (g : Nat → Int32) : cF g 0 = g := rfl
theorem tb_zero {k : Int32} (hk : isK k) : tb k (.fin false 0 (fm k).qmin) = 0 := by
  rcases hk with rfl | rfl
  · decide +kernel
  · decide +kernel
theorem rr_zero0 (f : FP.Core.Fmt) (s : Bool) (n : Int) : FP.Core.roundRatio f s 0 1 n = .fin s 0 f.qmin := rfl
theorem rr_fits {f : FP.Core.Fmt} (hf : fq_good f) (s : Bool) (m : Nat) (n : Int) : FP.Core.fits f (FP.Core.roundRatio f s m 1 n) := by
  rw [fq_rv_one hf]
  exact fq_rv_fits hf s (Rat.mul_nonneg Rat.natCast_nonneg (Rat.le_of_lt (pw2_pos _)))
theorem m_scaled {k : Int32} (hk : isK k) (s : Bool) {m : Nat} (hm : m < 18446744073709551616) {n : Int} (h1 : -1099511627776 ≤ n) (h2 : n ≤ 1099511627776) (num den work : Nat → Int64) {post : Int64 → ((Nat → Int64) × (Nat → Int64) × (Nat → Int64)) → Prop} (hp : ∀ u, post (tb k (FP.Core.roundRatio (fm k) s m 1 n)) u) : wX6_scaled num den work k (bz s) (jZ (m : Int)) (jZ n) post := by
  have hB : 18446744073709551616 ≤ nB3 := by
    show 2 ^ 64 ≤ 2 ^ 3180
    exact Nat.pow_le_pow_right (by decide) (by decide)
  unfold wX6_scaled
  refine lm_set num hm (fun fa ha => ?_)
  refine lm_set den (v := 1) (by decide) (fun fb hb => ?_)
  exact lm_nearest hk s work ha hb (by decide) (by omega) (by omega) h1 h2 (fun u => hp _)
theorem one_F {s : Bool} {c : Nat} {q : Int} (h : FP.Core.fits FP.Core.b32 (.fin s c q)) (hc : 0 < c) : fX8_power2_F (WD (.fin s c q)) = kZ ((c.log2 : Int) + q - 23) ∧ oX8_power2_F (WD (.fin s c q)) ∧ oX0_scaledDown (WD (.fin s c q)) (fX8_power2_F (WD (.fin s c q))) ∧ FP.d2l (fX0_scaledDown (WD (.fin s c q)) (fX8_power2_F (WD (.fin s c q)))) = jZ (FP.Core.signed s (cP 0 c)) := by
  obtain ⟨f1, f2, f3, f4⟩ := fin32 h
  have hcp := c53_P (k := 0) (Or.inl rfl) hc h.1
  have e1 := power2_FW (Or.inl h) hc
  obtain ⟨k1, k2, k3⟩ := sclDn_W (t := 29) (n := (c.log2 : Int) + q - 23) (Or.inl h) hc (by omega) (by omega) (by omega)
  refine ⟨e1, (expOf_W (Or.inl h) hc).2, by rw [e1]; exact k2, ?_⟩
  rw [e1, k1]
  refine (d2l_t (t := 29) k3 (c53_b hc (by omega)).2.1).trans ?_
  rw [hcp, show 53 - (fm 0).p = 29 from rfl, Nat.mul_div_cancel _ (Nat.two_pow_pos 29)]
theorem one_D {s : Bool} {c : Nat} {q : Int} (h : FP.Core.fits FP.Core.b64 (.fin s c q)) (hc : 0 < c) : fX8_power2_D (WD (.fin s c q)) = kZ ((c.log2 : Int) + q - 52) ∧ oX8_power2_D (WD (.fin s c q)) ∧ oX0_scaledDown (WD (.fin s c q)) (fX8_power2_D (WD (.fin s c q))) ∧ FP.d2l (fX0_scaledDown (WD (.fin s c q)) (fX8_power2_D (WD (.fin s c q)))) = jZ (FP.Core.signed s (cP 1 c)) := by
  obtain ⟨f1, f2, f3, f4⟩ := fin64 h
  have hcp := c53_P (k := 1) (Or.inr rfl) hc h.1
  have e1 := power2_DW (Or.inr h) hc
  obtain ⟨k1, k2, k3⟩ := sclDn_W (t := 0) (n := (c.log2 : Int) + q - 52) (Or.inr h) hc (by omega) (by omega) (by omega)
  refine ⟨e1, (expOf_W (Or.inr h) hc).2, by rw [e1]; exact k2, ?_⟩
  rw [e1, k1]
  refine (d2l_t (t := 0) k3 (c53_b hc (by omega)).2.1).trans ?_
  rw [hcp, show 53 - (fm 1).p = 0 from rfl, Nat.pow_zero, Nat.mul_one, Nat.div_one]
theorem eqz_fin {s : Bool} {c : Nat} {q : Int} (h : fitK (.fin s c q)) : Deq (WD (.fin s c q)) FP.dconst0 ↔ c = 0 := by
  rw [eqz_W h]
  exact decide_eq_true_iff
theorem isR_k (p : Int32) (lo hi : Int) (h1 : -2147483648 ≤ lo) (h2 : hi < 2147483648) (h3 : lo ≤ hi) : (fX0_isIn p.toInt64 (jZ lo) (jZ hi) = 0) ↔ ¬ (lo ≤ p.toInt ∧ p.toInt ≤ hi) := isIn_k p (by omega) (by omega) (by omega) (by omega)
def V_decode (k : Int32) (x : Int64) (w : Int32) (v : Int64) (f : Nat) : Prop := SPn 0 (¬ (0 ≤ w.toInt ∧ w.toInt ≤ 1) ∨ ¬ isK k) (isFin (fr k x)) (fun v f => f = 0 ∧ ∀ s c q, fr k x = .fin s c q → v = if c = 0 then 0 else if w = 0 then jZ (FP.Core.signed s (cP k c)) else jZ ((c.log2 : Int) + q - ((fm k).p - 1))) v f
theorem c_decode {g : Nat → Int32} {k : Int32} {x : Int64} {w : Int32} {post : Int64 → (Int32 × (Nat → Int32)) → Prop} (hp : ∀ v f, V_decode k x w v f → post v (kZ (f : Int), cF g f)) : wX0_decode g k x w post := by
  have hb := isR_k w 0 1 (by omega) (by omega) (by omega)
  unfold wX0_decode
  refine c_lacks (fun hr => ⟨fun z => absurd z (by decide), fun _ => ?_⟩) (fun h1 hk h3 => ⟨fun z => absurd z (by decide), fun _ => ?_⟩) (fun h1 hk h3 => ⟨fun _ => ?_, fun z => absurd rfl z⟩)
  · refine hp 0 9 (Or.inl ⟨?_, rfl, rfl⟩)
    rcases hr with hr | hr
    · exact Or.inl (hb.mp hr)
    · exact Or.inr hr
  · refine hp 0 7 (Or.inr (Or.inl ⟨?_, h3, rfl, rfl⟩))
    rintro (z | z)
    · exact h1 (hb.mpr z)
    · exact z hk
  · have hnr : ¬ (¬ (0 ≤ w.toInt ∧ w.toInt ≤ 1) ∨ ¬ isK k) := by
      rintro (z | z)
      · exact h1 (hb.mpr z)
      · exact z hk
    obtain ⟨s, c, q, hd⟩ := h3
    have hv : ∀ v, (v = if c = 0 then 0 else if w = 0 then jZ (FP.Core.signed s (cP k c)) else jZ ((c.log2 : Int) + q - ((fm k).p - 1))) → post v (0, g) := fun v h => hp v 0 (Or.inr (Or.inr ⟨hnr, ⟨s, c, q, hd⟩, rfl, fun s' c' q' h' => by rw [hd] at h'; cases h'; exact h⟩))
    have hfit := fr_fits hk x
    rw [hd] at hfit
    have hez := eqz_fin (fitK_of hk hfit)
    obtain ⟨f1, f2⟩ := fin_k hk hfit
    rcases hk with rfl | rfl
    · obtain ⟨d1, d2⟩ := from_F x
      refine ⟨fun _ => ⟨d2, fun x5 e5 => ?_⟩, fun z => absurd rfl z⟩
      rw [e5, d1, hd]
      refine ⟨⟨fun _ => trivial, fun z => ?_⟩, fun x6 e6 => hv _ ?_⟩
      · have hc : 0 < c := Nat.pos_of_ne_zero (fun h => z (hez.mpr h))
        obtain ⟨o1, o2, o3, o4⟩ := one_F hfit hc
        exact ⟨fun _ => ⟨o2, o3⟩, fun _ => o2⟩
      · rw [e6]
        by_cases hc0 : c = 0
        · rw [if_pos (hez.mpr hc0), if_pos hc0]
        · obtain ⟨o1, o2, o3, o4⟩ := one_F hfit (Nat.pos_of_ne_zero hc0)
          rw [if_neg (fun z => hc0 (hez.mp z)), if_neg hc0]
          obtain ⟨b1, b2, b3, b4⟩ := fin32 hfit
          have hl := ld_lt (n := 24) (Nat.pos_of_ne_zero hc0) b1
          by_cases hw : w = 0
          · rw [if_pos hw, if_pos hw, o4]
          · rw [if_neg hw, if_neg hw, o1, kZ_j (by omega) (by omega)]
            rfl
    · obtain ⟨d1, d2⟩ := from_D x
      refine ⟨fun z => absurd z (by decide), fun _ => ⟨d2, fun x5 e5 => ?_⟩⟩
      rw [e5, d1, hd]
      refine ⟨⟨fun _ => trivial, fun z => ?_⟩, fun x6 e6 => hv _ ?_⟩
      · have hc : 0 < c := Nat.pos_of_ne_zero (fun h => z (hez.mpr h))
        obtain ⟨o1, o2, o3, o4⟩ := one_D hfit hc
        exact ⟨fun _ => ⟨o2, o3⟩, fun _ => o2⟩
      · rw [e6]
        by_cases hc0 : c = 0
        · rw [if_pos (hez.mpr hc0), if_pos hc0]
        · obtain ⟨o1, o2, o3, o4⟩ := one_D hfit (Nat.pos_of_ne_zero hc0)
          rw [if_neg (fun z => hc0 (hez.mp z)), if_neg hc0]
          obtain ⟨b1, b2, b3, b4⟩ := fin64 hfit
          have hl := ld_lt (n := 53) (Nat.pos_of_ne_zero hc0) b1
          by_cases hw : w = 0
          · rw [if_pos hw, if_pos hw, o4]
          · rw [if_neg hw, if_neg hw, o1, kZ_j (by omega) (by omega)]
            rfl
theorem jc0 {c : Nat} (h : c < 9223372036854775808) : (jZ (c : Int) = 0) ↔ c = 0 := by
  rw [show (0 : Int64) = jZ 0 from rfl, jZ_eq (by omega) (by omega) (by omega) (by omega)]
  omega
theorem m_decode {a1 a2 a3 : Int32} {a4 : Int64} {a5 : Int32} {g : Nat → Int32} {k : Int32} {x : Int64} {w : Int32} {post : Int64 → (Int32 × Int32 × Int32 × Int32 × Int64 × Int32 × (Nat → Int32)) → Prop} {v : Int64} {f : Nat} (hs : V_decode k x w v f) (hp : ∀ b1 b2 b3 b4 b5, post v (kZ (f : Int), b1, b2, b3, b4, b5, cF g f)) : wX6_decode a1 a2 a3 a4 a5 g k x w post := by
  have hki := isKind_6 k
  have hw0 := i_lt w (a := 0) (by omega) (by omega)
  have hw1 := i_le w (a := 1) (by omega) (by omega)
  have h9 : v = 0 → f = 9 → ∀ b1 b2 b3 b4 b5, post 0 (9, b1, b2, b3, b4, b5, cF g 9) := fun e1 e2 => by
    subst e1 e2; exact hp
  unfold wX6_decode
  refine ⟨fun hk0 => ?_, fun hk0 => ⟨fun hw => ?_, fun hw => ⟨fun hw2 => ?_, fun hw2 => ?_⟩⟩⟩
  · rcases hs with ⟨h1, h2, h3⟩ | ⟨h1, -⟩ | ⟨h1, -⟩
    · exact m_fail (f := 9) (by decide) (by decide) (h9 h2 h3 _ _ _ _ _)
    · exact absurd (Or.inr (hki.mp hk0)) h1
    · exact absurd (Or.inr (hki.mp hk0)) h1
  · have hw' : w.toInt < 0 := hw0.mp hw
    rcases hs with ⟨h1, h2, h3⟩ | ⟨h1, -⟩ | ⟨h1, -⟩
    · exact m_fail (f := 9) (by decide) (by decide) (h9 h2 h3 _ _ _ _ _)
    · exact absurd (Or.inl (by omega)) h1
    · exact absurd (Or.inl (by omega)) h1
  · have hw' : ¬ w.toInt < 0 := fun z => hw (hw0.mpr z)
    have hw1' : w.toInt ≤ 1 := hw1.mp hw2
    have hk : isK k := Classical.byContradiction (fun z => hk0 (hki.mpr z))
    have hnr : ¬ (¬ (0 ≤ w.toInt ∧ w.toInt ≤ 1) ∨ ¬ isK k) := by
      rintro (z | z)
      · omega
      · exact z hk
    have hfit := fr_fits hk x
    have hn := fm_num hk
    refine m_isFinite hk (fun hf u => ⟨fun _ => ?_, fun z => absurd rfl z⟩) (fun s c q hd => ⟨fun z => absurd z (by decide), fun _ => ?_⟩)
    · rcases hs with ⟨h1, -⟩ | ⟨h1, h2, h3, h4⟩ | ⟨h1, h2, -⟩
      · exact absurd h1 hnr
      · subst h3 h4
        exact m_fail (f := 7) (by decide) (by decide) (hp _ _ _ _ _)
      · exact absurd h2 hf
    · rcases hs with ⟨h1, -⟩ | ⟨h1, h2, -⟩ | ⟨h1, h2, h3, h4⟩
      · exact absurd h1 hnr
      · exact absurd ⟨s, c, q, hd⟩ h2
      · subst h3
        have hv := h4 s c q hd
        rw [hd] at hfit
        obtain ⟨f1, f2, f3, f4⟩ := fin_k hk hfit
        have hpl : 2 ^ (fm k).p ≤ 2 ^ 53 := Nat.pow_le_pow_right (by decide) (by omega)
        have hcz := jc0 (c := c) (by omega)
        refine ⟨fun z => ?_, fun z => ?_⟩
        · have hc0 := hcz.mp z
          rw [if_pos hc0] at hv
          rw [hv] at hp
          exact hp _ _ _ _ _
        · have hc0 : ¬ c = 0 := fun h => z (hcz.mpr h)
          rw [if_neg hc0] at hv
          have hl := ld_lt (Nat.pos_of_ne_zero hc0) f1
          refine m_fill hk (Nat.pos_of_ne_zero hc0) f1 (fun x16 e16 => ?_)
          have hvv : x16 = v := by
            rw [e16, hv]
            by_cases hw3 : w = 0
            · rw [if_neg (by rw [hw3]; decide), if_pos hw3]
              cases s
              · rw [if_pos (show (bz false) = 0 by decide)]; rfl
              · rw [if_neg (show ¬ (bz true) = 0 by decide)]; exact jZ_neg _
            · have hw4 : w = 1 := by
                refine (i_eq w (a := 1) (by omega) (by omega)).mpr ?_
                have : ¬ w.toInt = 0 := fun z => hw3 ((i_eq w (a := 0) (by omega) (by omega)).mpr z)
                omega
              rw [if_pos hw4, if_neg hw3]
              exact kZ_j (by omega) (by omega)
          rw [hvv]
          exact hp _ _ _ _ _
  · have hw' : ¬ w.toInt ≤ 1 := fun z => hw2 (hw1.mpr z)
    rcases hs with ⟨h1, h2, h3⟩ | ⟨h1, -⟩ | ⟨h1, -⟩
    · exact m_fail (f := 9) (by decide) (by decide) (h9 h2 h3 _ _ _ _ _)
    · exact absurd (Or.inl (by omega)) h1
    · exact absurd (Or.inl (by omega)) h1
