/-! the model's rounding of a ratio of great wholes -/
def fm (k : Int32) : FP.Core.Fmt := if k = 0 then FP.Core.b32 else FP.Core.b64
def isK (k : Int32) : Prop := k = 0 ∨ k = 1
def bz (s : Bool) : Int32 := if s then 1 else 0
def tbn (k : Int32) (n : Nat) : Int64 := if k = 0 then (kZ n).toInt64 else jZ n
/-- the bits of a datum, as the model tells them -/
def tb (k : Int32) (d : FP.Core.Datum) : Int64 := tbn k (FP.Core.encode (fm k) d)
theorem fm_good {k : Int32} (h : isK k) : fq_good (fm k) := by
  rcases h with rfl | rfl
  · exact fq_g32
  · exact fq_g64
theorem fm_num {k : Int32} (h : isK k) : ((fm k).p = 24 ∧ (fm k).qmin = -149 ∧ (fm k).qmax = 104 ∧ (fm k).tails = 8388608 ∧ (fm k).exps = 256 ∧ k = 0) ∨ ((fm k).p = 53 ∧ (fm k).qmin = -1074 ∧ (fm k).qmax = 971 ∧ (fm k).tails = 4503599627370496 ∧ (fm k).exps = 2048 ∧ k = 1) := by
  rcases h with rfl | rfl
  · left; decide
  · right; decide
theorem bitsOf_k {k : Int32} (h : isK k) : fX6_bitsOf k = kZ ((fm k).p : Int) := by
  rcases h with rfl | rfl
  · decide
  · decide
theorem least_k {k : Int32} (h : isK k) : fX6_least k = kZ (fm k).qmin := by
  rcases h with rfl | rfl
  · decide
  · decide
theorem bz_b (s : Bool) : (bz s = 0) ↔ s = false := by cases s <;> decide
theorem sg_of {k : Int32} (hk : isK k) (s : Bool) {n : Nat} (hn : n < (fm k).exps * (fm k).tails) : fX6_signed k (jZ n) (bz s) = tbn k (s.toNat * ((fm k).exps * (fm k).tails) + n) := by
  rcases fm_num hk with ⟨-, -, -, h4, h5, rfl⟩ | ⟨-, -, -, h4, h5, rfl⟩
  · rw [h4, h5] at hn ⊢
    unfold fX6_signed tbn lt_
    rw [if_pos (show (0 : Int32) = 0 from rfl), if_pos (show (0 : Int32) = 0 from rfl)]
    cases s
    · rw [if_pos (show bz false = 0 from rfl)]
      dsimp only
      rw [show (0 : Int64) = jZ ((0 : Nat) : Int) from rfl, jZ_or (by omega) (by omega), Nat.or_zero, jZ_k]
      congr 2
      simp
    · rw [if_neg (show ¬ bz true = 0 by decide)]
      dsimp only
      rw [show (2147483648 : Int64) = jZ ((1 <<< 31 : Nat) : Int) from rfl, jZ_or (by omega) (by decide), Nat.or_comm, ← Nat.shiftLeft_add_eq_or_of_lt (by omega), jZ_k]
      congr 2
  · rw [h4, h5] at hn ⊢
    unfold fX6_signed tbn lt_
    rw [if_neg (show ¬ (1 : Int32) = 0 by decide), if_neg (show ¬ (1 : Int32) = 0 by decide)]
    cases s
    · rw [if_pos (show bz false = 0 from rfl)]
      dsimp only
      congr 1
      simp
    · rw [if_neg (show ¬ bz true = 0 by decide)]
      dsimp only
      rw [show (-9223372036854775808 : Int64) = jZ ((1 <<< 63 : Nat) : Int) from by decide, jZ_or (by omega) (by decide), Nat.or_comm, ← Nat.shiftLeft_add_eq_or_of_lt (by omega)]
      congr 1
/-- the bits of what is settled -/
def sMag (f : FP.Core.Fmt) (c : Nat) (q : Int) : Nat := if c < f.tails then c else if q ≤ f.qmax then ((q - f.qmin).toNat + 1) * f.tails + (c - f.tails) else (f.exps - 1) * f.tails
theorem enc_settle {f : FP.Core.Fmt} (hf : fq_good f) (s : Bool) {c : Nat} {q : Int} (hc : c ≤ 2 ^ f.p) (h1 : f.qmin ≤ q) (h2 : q = f.qmin ∨ f.tails ≤ c) :
    FP.Core.encode f (FP.Core.settle f s c q) = s.toNat * (f.exps * f.tails) + (if c = 2 ^ f.p then sMag f f.tails (q + 1) else sMag f c q) := by
  have e1 := fq_2t hf
  have e2 := fq_qq (f := f)
  have e3 := fq_emax hf
  have e4 := fq_tp f
  unfold FP.Core.settle FP.Core.bound sMag
  have hinf : FP.Core.encode f (.inf s) = s.toNat * (f.exps * f.tails) + (f.exps - 1) * f.tails := by
    show FP.Core.assemble f s (f.exps - 1) 0 = _
    unfold FP.Core.assemble
    rw [Nat.add_mul, Nat.mul_assoc, Nat.add_zero]
  by_cases hl : c < 2 ^ f.p
  · rw [if_pos hl, if_neg (show ¬ c = 2 ^ f.p by omega)]
    by_cases hq : q ≤ f.qmax
    · rw [if_pos hq, if_pos hq]
      show (if c < f.tails then FP.Core.assemble f s 0 c else FP.Core.assemble f s ((q - f.qmin).toNat + 1) (c - f.tails)) = _
      unfold FP.Core.assemble
      by_cases hct : c < f.tails
      · rw [if_pos hct, if_pos hct, Nat.add_mul, Nat.zero_mul, Nat.add_zero, Nat.mul_assoc]
      · rw [if_neg hct, if_neg hct, Nat.add_mul, Nat.mul_assoc, Nat.add_assoc]
    · rw [if_neg hq, if_neg hq, if_neg (show ¬ c < f.tails by omega)]
      exact hinf
  · rw [if_neg hl, if_pos (show c = 2 ^ f.p by omega), if_neg (Nat.lt_irrefl f.tails)]
    by_cases hq : q + 1 ≤ f.qmax
    · rw [if_pos hq, if_pos hq]
      show (if f.tails < f.tails then _ else FP.Core.assemble f s ((q + 1 - f.qmin).toNat + 1) (f.tails - f.tails)) = _
      rw [if_neg (Nat.lt_irrefl f.tails)]
      unfold FP.Core.assemble
      rw [Nat.add_mul, Nat.mul_assoc, Nat.add_assoc]
    · rw [if_neg hq, if_neg hq]
      exact hinf
theorem inf_k {k : Int32} (hk : isK k) (s : Bool) : fX6_signed k (fX6_infinity k) (bz s) = tb k (.inf s) := by
  have h1 : fX6_infinity k = jZ (((fm k).exps - 1) * (fm k).tails : Nat) := by
    rcases hk with rfl | rfl
    · decide
    · decide
  rw [h1, sg_of hk s (Nat.mul_lt_mul_of_pos_right (by have := fq_ep (fm k); omega) (fq_tp _))]
  unfold tb
  congr 1
  show _ = FP.Core.assemble (fm k) s ((fm k).exps - 1) 0
  unfold FP.Core.assemble
  rw [Nat.add_mul, Nat.mul_assoc, Nat.add_zero]
theorem zero_k {k : Int32} (hk : isK k) (s : Bool) : fX6_signed k 0 (bz s) = tb k (.fin s 0 (fm k).qmin) := by
  rw [show (0 : Int64) = jZ ((0 : Nat) : Int) from rfl, sg_of hk s (Nat.mul_pos (fq_ep _) (fq_tp _))]
  unfold tb
  congr 1
  show _ = (if 0 < (fm k).tails then FP.Core.assemble (fm k) s 0 0 else _)
  rw [if_pos (fq_tp _)]
  unfold FP.Core.assemble
  rw [Nat.add_zero, Nat.add_zero, Nat.add_zero, Nat.mul_assoc]
theorem nOrd_l {a b : Nat} (h : a < b) : nOrd a b = -1 := by unfold nOrd; rw [if_pos h]
theorem nOrd_e {a b : Nat} (h : a = b) : nOrd a b = 0 := by unfold nOrd; rw [if_neg (show ¬ a < b by omega), if_neg (show ¬ b < a by omega)]
theorem nOrd_g {a b : Nat} (h : b < a) : nOrd a b = 1 := by unfold nOrd; rw [if_neg (show ¬ a < b by omega), if_pos h]
/-- the end: what is left decides, then the bits -/
theorem lm_near_end {k : Int32} (hk : isK k) (s : Bool) {num den : Nat → Int64} (work : Nat → Int64) {Q R D : Nat} {q : Int} (hn : NA num R) (hd : NA den D) (hR : R < D) (hD : 2 * D < nBM) (hQ : Q < 2 ^ (fm k).p) (h1 : (fm k).qmin ≤ q) (h2 : q ≤ 3000) (h3 : q = (fm k).qmin ∨ (fm k).tails ≤ Q)
    {post : Int64 → ((Nat → Int64) × (Nat → Int64) × (Nat → Int64)) → Prop} (hp : ∀ u, post (tb k (FP.Core.settle (fm k) s (FP.Core.nearest (Q * D + R) D) q)) u) :
    wX6_nearestOf_264 k (bz s) post (kZ ((fm k).p : Int)) (kZ q) (jZ Q) num den work := by
  unfold wX6_nearestOf_264
  rw [show (1 : Int32) = kZ ((1 : Nat) : Int) from rfl]
  refine lm_left hn (by decide) (fun u2 hu2 => ?_)
  refine lm_order hu2 hd (by omega) (by omega) (fun x4 e4 x8 e8 x9 e9 => ?_)
  have hf := fm_good hk
  have e1 := fq_2t hf
  have hp53 : 2 ^ (fm k).p ≤ 9007199254740992 ∧ (fm k).p ≤ 53 ∧ 24 ≤ (fm k).p ∧ (fm k).tails = 2 ^ ((fm k).p - 1) := by
    rcases fm_num hk with ⟨a, -, -, b, -, -⟩ | ⟨a, -, -, b, -, -⟩ <;> rw [a] <;> refine ⟨by decide, by decide, by decide, ?_⟩ <;> rw [b]
  generalize hcc : FP.Core.nearest (Q * D + R) D = c at hp
  have hm : (Q * D + R) % D = R ∧ (Q * D + R) / D = Q := by
    constructor
    · rw [Nat.mul_comm, Nat.mul_add_mod, Nat.mod_eq_of_lt hR]
    · rw [Nat.mul_comm, Nat.mul_add_div (by omega), Nat.div_eq_of_lt hR, Nat.add_zero]
  unfold FP.Core.nearest at hcc
  rw [hm.1, hm.2] at hcc
  have hx8 : x8 = jZ (c : Int) ∧ c ≤ Q + 1 ∧ Q ≤ c := by
    have h0 : (Q &&& 1 : Nat) = Q % 2 := Nat.and_two_pow_sub_one_eq_mod Q 1
    have hbit : (jZ (Q : Int) &&& 1 = 1) ↔ Q % 2 = 1 := by
      rw [jZ_mask _ (k := 1) (by decide) (by decide), show (1 : Int64) = jZ 1 from rfl, jZ_eq (by omega) (by omega) (by omega) (by omega)]
      omega
    rw [e8, e4, show nOrd (R * 2 ^ 1) D = nOrd (2 * R) D by rw [Nat.pow_one, Nat.mul_comm]]
    rcases Nat.lt_trichotomy (2 * R) D with h | h | h
    · rw [if_pos h] at hcc
      rw [nOrd_l h, if_neg (show ¬ (0 : Int32) < kZ (-1) by decide), if_neg (show ¬ kZ (-1) = (0 : Int32) by decide)]
      subst hcc
      exact ⟨by rw [show (0 : Int64) = jZ 0 from rfl, jZ_add, Int.add_zero], by omega, by omega⟩
    · rw [if_neg (show ¬ 2 * R < D by omega), if_neg (show ¬ D < 2 * R by omega)] at hcc
      rw [nOrd_e h, if_neg (show ¬ (0 : Int32) < kZ 0 by decide), if_pos (show kZ 0 = (0 : Int32) by decide)]
      by_cases hb : Q % 2 = 1
      · rw [if_pos (hbit.mpr hb), show (1 : Int64) = jZ 1 from rfl, jZ_add]
        refine ⟨?_, by omega, by omega⟩
        congr 1
        omega
      · rw [if_neg (fun z => hb (hbit.mp z)), show (0 : Int64) = jZ 0 from rfl, jZ_add]
        refine ⟨?_, by omega, by omega⟩
        congr 1
        omega
    · rw [if_neg (show ¬ 2 * R < D by omega), if_pos h] at hcc
      rw [nOrd_g h, if_pos (show (0 : Int32) < kZ 1 by decide), show (1 : Int64) = jZ 1 from rfl, jZ_add]
      subst hcc
      exact ⟨rfl, by omega, by omega⟩
  obtain ⟨hx, hc1, hc2⟩ := hx8
  have hct : q = (fm k).qmin ∨ (fm k).tails ≤ c := by rcases h3 with h | h; exact Or.inl h; exact Or.inr (by omega)
  have henc := enc_settle hf s (c := c) (q := q) (by omega) h1 hct
  have hpw : jshl 1 (kZ ((fm k).p : Int)) = jZ ((2 ^ (fm k).p : Nat) : Int) := by
    rw [show (1 : Int64) = jZ 1 from rfl, jZ_shl _ (by omega), Int.one_mul]
  have hpw1 : jshl 1 (kZ ((fm k).p : Int) - kZ ((1 : Nat) : Int)) = jZ (((fm k).tails : Nat) : Int) := by
    rw [kZ_sub, show ((fm k).p : Int) - ((1 : Nat) : Int) = (((fm k).p - 1 : Nat) : Int) by omega, show (1 : Int64) = jZ 1 from rfl, jZ_shl _ (by omega), Int.one_mul, hp53.2.2.2]
  -- the pair behind the carry
  have hpair : ∃ (c' : Nat) (q' : Int), x9 = (kZ q', jZ (c' : Int)) ∧ c' < 2 ^ (fm k).p ∧ (fm k).qmin ≤ q' ∧ q' ≤ 3001 ∧ (q' = (fm k).qmin ∨ (fm k).tails ≤ c') ∧ (if c = 2 ^ (fm k).p then sMag (fm k) (fm k).tails (q + 1) else sMag (fm k) c q) = sMag (fm k) c' q' := by
    by_cases hcp : c = 2 ^ (fm k).p
    · refine ⟨(fm k).tails, q + 1, ?_, by have := fq_tp (fm k); omega, by omega, by omega, Or.inr (Nat.le_refl _), by rw [if_pos hcp]⟩
      rw [e9, hx, hpw, hcp, if_pos rfl]
      unfold lt_
      rw [jZ_shr (by omega) (by omega) (by decide)]
      refine Prod.ext ?_ ?_
      · exact kZ_add _ _
      · show jZ _ = jZ _
        congr 1
        rw [e1]
        omega
    · refine ⟨c, q, ?_, by omega, h1, by omega, hct, by rw [if_neg hcp]⟩
      rw [e9, hx, hpw, if_neg (fun z => hcp ?_)]
      rw [jZ_eq (by omega) (by omega) (by omega) (by omega)] at z
      omega
  obtain ⟨c', q', hx9, g1, g2, g3, g4, g5⟩ := hpair
  rw [hx9]
  dsimp only
  rw [hpw1, least_k hk]
  rw [g5] at henc
  have hlt : (jZ (c' : Int) < jZ (((fm k).tails : Nat) : Int)) ↔ c' < (fm k).tails := by
    rw [jZ_lt (by omega) (by omega) (by omega) (by omega)]; omega
  have hcases := fm_num hk
  refine ⟨fun h => ?_, fun h x14 e14 x15 e15 => ⟨fun h15 => ?_, fun h15 => ?_⟩⟩
  · rw [hlt] at h
    have : sMag (fm k) c' q' = c' := by unfold sMag; rw [if_pos h]
    rw [sg_of hk s (Nat.lt_of_lt_of_le h (Nat.le_mul_of_pos_left _ (fq_ep _)))]
    rw [this] at henc
    rw [← henc]
    exact hp _
  · rw [hlt] at h
    have hx14 : x14 = jZ (q' - (fm k).qmin + 1) := by
      rw [e14, kZ_sub, kZ_j (by rcases hcases with ⟨-, b, -⟩ | ⟨-, b, -⟩ <;> omega) (by rcases hcases with ⟨-, b, -⟩ | ⟨-, b, -⟩ <;> omega), show (1 : Int64) = jZ 1 from rfl, jZ_add]
    have hx15 : x15 = jZ (((fm k).exps - 1 : Nat) : Int) := by
      rw [e15]
      rcases hcases with ⟨-, -, -, -, b, c⟩ | ⟨-, -, -, -, b, c⟩
      · rw [if_pos c, b]; rfl
      · rw [if_neg (by rw [c]; decide), b]; rfl
    rw [hx14, hx15, jZ_lt (by omega) (by rcases hcases with ⟨-, b, -⟩ | ⟨-, b, -⟩ <;> omega) (by omega) (by rcases hcases with ⟨-, -, -, -, b, -⟩ | ⟨-, -, -, -, b, -⟩ <;> omega)] at h15
    have hq : q' ≤ (fm k).qmax := by rcases hcases with ⟨-, b1, b2, -, b3, -⟩ | ⟨-, b1, b2, -, b3, -⟩ <;> omega
    have hM : sMag (fm k) c' q' = ((q' - (fm k).qmin).toNat + 1) * (fm k).tails + (c' - (fm k).tails) := by unfold sMag; rw [if_neg h, if_pos hq]
    have hlo : c' - (fm k).tails < 2 ^ ((fm k).p - 1) := by omega
    have hsm : ((q' - (fm k).qmin).toNat + 1) ≤ (fm k).exps - 2 := by rcases hcases with ⟨-, b1, b2, -, b3, -⟩ | ⟨-, b1, b2, -, b3, -⟩ <;> omega
    have hlt2 : ((q' - (fm k).qmin).toNat + 1) * (fm k).tails + (c' - (fm k).tails) < (fm k).exps * (fm k).tails := by
      have a1 : ((q' - (fm k).qmin).toNat + 1 + 1) * (fm k).tails ≤ (fm k).exps * (fm k).tails := Nat.mul_le_mul_right _ (by omega)
      rw [Nat.add_mul _ 1, Nat.one_mul] at a1
      have := hp53.2.2.2
      have := fq_tp (fm k)
      omega
    have hbig : (fm k).exps * (fm k).tails ≤ 9223372036854775808 := by
      rcases hcases with ⟨-, -, -, b1, b2, -⟩ | ⟨-, -, -, b1, b2, -⟩ <;> rw [b1, b2] <;> decide
    have hval : (jshl x14 (kZ ((fm k).p : Int) - kZ ((1 : Nat) : Int)) ||| (jZ (c' : Int) - jZ (((fm k).tails : Nat) : Int))) = jZ ((((q' - (fm k).qmin).toNat + 1) * (fm k).tails + (c' - (fm k).tails) : Nat) : Int) := by
      rw [hx14, kZ_sub, show ((fm k).p : Int) - ((1 : Nat) : Int) = (((fm k).p - 1 : Nat) : Int) by omega, jZ_shl _ (by omega), jZ_sub, show q' - (fm k).qmin + 1 = (((q' - (fm k).qmin).toNat + 1 : Nat) : Int) by omega, ← Int.natCast_mul, show (c' : Int) - ((fm k).tails : Int) = ((c' - (fm k).tails : Nat) : Int) by omega, ← hp53.2.2.2, jZ_or (by omega) (by omega)]
      rw [hp53.2.2.2] at hlo ⊢
      rw [← Nat.shiftLeft_eq, ← Nat.shiftLeft_add_eq_or_of_lt hlo, Nat.shiftLeft_eq]
    rw [hval, sg_of hk s hlt2, ← hM, ← henc]
    exact hp _
  · rw [hlt] at h
    have hx14 : x14 = jZ (q' - (fm k).qmin + 1) := by
      rw [e14, kZ_sub, kZ_j (by rcases hcases with ⟨-, b, -⟩ | ⟨-, b, -⟩ <;> omega) (by rcases hcases with ⟨-, b, -⟩ | ⟨-, b, -⟩ <;> omega), show (1 : Int64) = jZ 1 from rfl, jZ_add]
    have hx15 : x15 = jZ (((fm k).exps - 1 : Nat) : Int) := by
      rw [e15]
      rcases hcases with ⟨-, -, -, -, b, c⟩ | ⟨-, -, -, -, b, c⟩
      · rw [if_pos c, b]; rfl
      · rw [if_neg (by rw [c]; decide), b]; rfl
    rw [hx14, hx15, jZ_lt (by omega) (by rcases hcases with ⟨-, b, -⟩ | ⟨-, b, -⟩ <;> omega) (by omega) (by rcases hcases with ⟨-, -, -, -, b, -⟩ | ⟨-, -, -, -, b, -⟩ <;> omega)] at h15
    have hq : ¬ q' ≤ (fm k).qmax := by rcases hcases with ⟨-, b1, b2, -, b3, -⟩ | ⟨-, b1, b2, -, b3, -⟩ <;> omega
    have hM : sMag (fm k) c' q' = ((fm k).exps - 1) * (fm k).tails := by unfold sMag; rw [if_neg h, if_neg hq]
    rw [inf_k hk]
    rw [hM] at henc
    have e9 : tb k (.inf s) = tb k (FP.Core.settle (fm k) s c q) := by
      unfold tb
      congr 1
      rw [henc]
      show FP.Core.assemble (fm k) s ((fm k).exps - 1) 0 = _
      unfold FP.Core.assemble
      rw [Nat.add_mul, Nat.mul_assoc, Nat.add_zero]
    rw [e9]
    exact hp _
