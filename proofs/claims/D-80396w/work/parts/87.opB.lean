/-! what is answered: exponent, encode, scale -/
def SPr {α : Type} (z : α) (ref : Prop) (val : α → Nat → Prop) (v : α) (f : Nat) : Prop := (ref ∧ v = z ∧ f = 9) ∨ (¬ ref ∧ val v f)
theorem SPr_y {α : Type} {z : α} {ref : Prop} {val : α → Nat → Prop} {v : α} {f : Nat} (h : SPr z ref val v f) (hr : ref) : v = z ∧ f = 9 := by
  rcases h with ⟨-, h⟩ | ⟨h, -⟩
  · exact h
  · exact absurd hr h
theorem SPr_n {α : Type} {z : α} {ref : Prop} {val : α → Nat → Prop} {v : α} {f : Nat} (h : SPr z ref val v f) (hr : ¬ ref) : val v f := by
  rcases h with ⟨h, -⟩ | ⟨-, h⟩
  · exact absurd h hr
  · exact h
theorem SPn_y {α : Type} {z : α} {ref fin : Prop} {val : α → Nat → Prop} {v : α} {f : Nat} (h : SPn z ref fin val v f) (hr : ref) : v = z ∧ f = 9 := by
  rcases h with ⟨-, h⟩ | ⟨h, -⟩ | ⟨h, -⟩
  · exact h
  · exact absurd hr h
  · exact absurd hr h
theorem SPn_i {α : Type} {z : α} {ref fin : Prop} {val : α → Nat → Prop} {v : α} {f : Nat} (h : SPn z ref fin val v f) (hr : ¬ ref) (hf : ¬ fin) : v = z ∧ f = 7 := by
  rcases h with ⟨h, -⟩ | ⟨-, -, h⟩ | ⟨-, h, -⟩
  · exact absurd h hr
  · exact h
  · exact absurd h hf
theorem SPn_n {α : Type} {z : α} {ref fin : Prop} {val : α → Nat → Prop} {v : α} {f : Nat} (h : SPn z ref fin val v f) (hr : ¬ ref) (hf : fin) : val v f := by
  rcases h with ⟨h, -⟩ | ⟨-, h, -⟩ | ⟨-, -, h⟩
  · exact absurd h hr
  · exact absurd hf h
  · exact h
def V_exponent (k : Int32) (x : Int64) (v : Int32) (f : Nat) : Prop := SPn 0 (¬ isK k) (isFin (fr k x)) (fun v f => f = 0 ∧ ∀ s c q, fr k x = .fin s c q → v = if c = 0 then 0 else kZ ((c.log2 : Int) + q + 1)) v f
theorem c_exponent {g : Nat → Int32} {k : Int32} {x : Int64} {post : Int32 → (Int32 × (Nat → Int32)) → Prop} (hp : ∀ v f, V_exponent k x v f → post v (kZ (f : Int), cF g f)) : wX0_exponent g k x post := by
  unfold wX0_exponent
  refine c_lacks (fun hr => ⟨fun z => absurd z (by decide), fun _ => ?_⟩) (fun h1 hk h3 => ⟨fun z => absurd z (by decide), fun _ => ?_⟩) (fun h1 hk h3 => ⟨fun _ => ?_, fun z => absurd rfl z⟩)
  · refine hp 0 9 (Or.inl ⟨?_, rfl, rfl⟩)
    rcases hr with hr | hr
    · exact absurd hr (by decide)
    · exact hr
  · exact hp 0 7 (Or.inr (Or.inl ⟨fun z => z hk, h3, rfl, rfl⟩))
  · obtain ⟨s, c, q, hd⟩ := h3
    have hv : ∀ v, (v = if c = 0 then 0 else kZ ((c.log2 : Int) + q + 1)) → post v (0, g) := fun v h => hp v 0 (Or.inr (Or.inr ⟨fun z => z hk, ⟨s, c, q, hd⟩, rfl, fun s' c' q' h' => by rw [hd] at h'; cases h'; exact h⟩))
    have hfit := fr_fits hk x
    rw [hd] at hfit
    have hez := eqz_fin (fitK_of hk hfit)
    have hex := fun hc => expOf_W (fitK_of hk hfit) (c := c) hc
    have hval : (if Deq (WD (.fin s c q)) FP.dconst0 then (0 : Int32) else fX0_exponentOf (WD (.fin s c q)) + 1) = if c = 0 then 0 else kZ ((c.log2 : Int) + q + 1) := by
      by_cases hc0 : c = 0
      · rw [if_pos (hez.mpr hc0), if_pos hc0]
      · rw [if_neg (fun z => hc0 (hez.mp z)), if_neg hc0, (hex (Nat.pos_of_ne_zero hc0)).1, show (1 : Int32) = kZ 1 from rfl, kZ_add]
    rcases hk with rfl | rfl
    · obtain ⟨d1, d2⟩ := from_F x
      refine ⟨fun _ => ⟨d2, fun x5 e5 => ?_⟩, fun z => absurd rfl z⟩
      rw [e5, d1, hd]
      exact ⟨⟨fun _ => trivial, fun z => (hex (Nat.pos_of_ne_zero (fun h => z (hez.mpr h)))).2⟩, fun x6 e6 => hv _ (e6.trans hval)⟩
    · obtain ⟨d1, d2⟩ := from_D x
      refine ⟨fun z => absurd z (by decide), fun _ => ⟨d2, fun x5 e5 => ?_⟩⟩
      rw [e5, d1, hd]
      exact ⟨⟨fun _ => trivial, fun z => (hex (Nat.pos_of_ne_zero (fun h => z (hez.mpr h)))).2⟩, fun x6 e6 => hv _ (e6.trans hval)⟩
theorem m_exponent {a1 a2 a3 : Int32} {a4 : Int64} {a5 : Int32} {g : Nat → Int32} {k : Int32} {x : Int64} {post : Int32 → (Int32 × Int32 × Int32 × Int32 × Int64 × Int32 × (Nat → Int32)) → Prop} {v : Int32} {f : Nat} (hs : V_exponent k x v f) (hp : ∀ b1 b2 b3 b4 b5, post v (kZ (f : Int), b1, b2, b3, b4, b5, cF g f)) : wX6_exponent a1 a2 a3 a4 a5 g k x post := by
  have hki := isKind_6 k
  unfold wX6_exponent
  refine ⟨fun hk0 => ?_, fun hk0 => ?_⟩
  · obtain ⟨e1, e2⟩ := SPn_y hs (hki.mp hk0)
    subst e1 e2
    exact m_fail (f := 9) (by decide) (by decide) (hp _ _ _ _ _)
  · have hk : isK k := Classical.byContradiction (fun z => hk0 (hki.mpr z))
    have hfit := fr_fits hk x
    have hn := fm_num hk
    refine m_isFinite hk (fun hf u => ⟨fun _ => ?_, fun z => absurd rfl z⟩) (fun s c q hd => ⟨fun z => absurd z (by decide), fun _ => ?_⟩)
    · obtain ⟨e1, e2⟩ := SPn_i hs (fun z => z hk) hf
      subst e1 e2
      exact m_fail (f := 7) (by decide) (by decide) (hp _ _ _ _ _)
    · obtain ⟨e1, e2⟩ := SPn_n hs (fun z => z hk) ⟨s, c, q, hd⟩
      subst e1
      have hv := e2 s c q hd
      rw [hd] at hfit
      obtain ⟨f1, f2, f3, f4⟩ := fin_k hk hfit
      have hpl : 2 ^ (fm k).p ≤ 2 ^ 53 := Nat.pow_le_pow_right (by decide) (by omega)
      have hcz := jc0 (c := c) (by omega)
      refine ⟨fun z => ?_, fun z => ?_⟩
      · rw [if_pos (hcz.mp z)] at hv
        rw [hv] at hp
        exact hp _ _ _ _ _
      · have hc0 : ¬ c = 0 := fun h => z (hcz.mpr h)
        rw [if_neg hc0] at hv
        refine m_fill hk (Nat.pos_of_ne_zero hc0) f1 ?_
        rw [bitsOf_k hk, kZ_add, show (c.log2 : Int) + q - ((fm k).p - 1) + (fm k).p = (c.log2 : Int) + q + 1 by omega, ← hv]
        exact hp _ _ _ _ _
def V_encode (k : Int32) (p : Int64) (n : Int32) (v : Int64) (f : Nat) : Prop := SPr 0 (¬ isK k) (fun v f => f = 0 ∧ v = tb k (FP.Core.roundRatio (fm k) (decide (p.toInt < 0)) p.toInt.natAbs 1 n.toInt)) v f
theorem p_parts (p : Int64) : (if p < 0 then (1 : Int32) else 0) = bz (decide (p.toInt < 0)) ∧ (if p < 0 then -p else p) = jZ ((p.toInt.natAbs : Nat) : Int) ∧ p.toInt.natAbs < 18446744073709551616 := by
  have hr := jI_r p
  have hc : (p < 0) ↔ p.toInt < 0 := by
    conv => lhs; rw [← jI_Z p]
    exact kneg64 hr.1 hr.2
  by_cases h : p.toInt < 0
  · rw [if_pos (hc.mpr h), if_pos (hc.mpr h), decide_eq_true h]
    refine ⟨rfl, ?_, by omega⟩
    conv => lhs; rw [← jI_Z p]
    rw [jZ_neg]
    congr 1
    omega
  · rw [if_neg (fun z => h (hc.mp z)), if_neg (fun z => h (hc.mp z)), decide_eq_false h]
    refine ⟨rfl, ?_, by omega⟩
    conv => lhs; rw [← jI_Z p]
    congr 1
    omega
theorem c_encode {g : Nat → Int32} {k : Int32} {p : Int64} {n : Int32} {post : Int64 → (Int32 × (Nat → Int32)) → Prop} (hp : ∀ v f, V_encode k p n v f → post v (kZ (f : Int), cF g f)) : wX0_encode g k p n post := by
  have hki := isKind_0 k
  have hr := kI_r n
  obtain ⟨q1, q2, q3⟩ := p_parts p
  unfold wX0_encode
  refine c_refused (fun h => ⟨fun z => absurd z (by decide), fun _ => hp 0 9 (Or.inl ⟨hki.mp h, rfl, rfl⟩)⟩) (fun h => ⟨fun _ => ?_, fun z => absurd rfl z⟩)
  have hk : isK k := Classical.byContradiction (fun z => h (hki.mpr z))
  have hv : ∀ v, v = tb k (FP.Core.roundRatio (fm k) (decide (p.toInt < 0)) p.toInt.natAbs 1 n.toInt) → post v (0, g) := fun v e => hp v 0 (Or.inr ⟨fun z => z hk, rfl, e⟩)
  rcases hk with rfl | rfl
  · obtain ⟨r1, r2⟩ := round_FE (decide (p.toInt < 0)) (m := p.toInt.natAbs) (n := n.toInt) q3 (by omega) (by omega)
    obtain ⟨t1, t2⟩ := to_F (rr_fits fq_g32 (decide (p.toInt < 0)) p.toInt.natAbs n.toInt)
    refine ⟨fun _ x5 e5 x7 e7 => ?_, fun z => absurd rfl z⟩
    rw [e5, e7, q1, q2, kx_j]
    refine ⟨r2, ?_, ?_⟩
    · rw [r1]; exact t2
    · rw [r1, t1]; exact hv _ rfl
  · obtain ⟨r1, r2⟩ := round_DE (decide (p.toInt < 0)) (m := p.toInt.natAbs) (n := n.toInt) q3 (by omega) (by omega)
    have t1 := to_D (rr_fits fq_g64 (decide (p.toInt < 0)) p.toInt.natAbs n.toInt)
    refine ⟨fun z => absurd z (by decide), fun _ x5 e5 x7 e7 => ?_⟩
    rw [e5, e7, q1, q2, kx_j]
    refine ⟨r2, ?_⟩
    rw [r1, t1]; exact hv _ rfl
theorem m_encode {g : Nat → Int32} {num den work : Nat → Int64} {k : Int32} {p : Int64} {n : Int32} {post : Int64 → (Int32 × (Nat → Int32) × (Nat → Int64) × (Nat → Int64) × (Nat → Int64)) → Prop} {v : Int64} {f : Nat} (hs : V_encode k p n v f) (hp : ∀ b, post v (kZ (f : Int), cF g f, b)) : wX6_encode g num den work k p n post := by
  have hki := isKind_6 k
  have hr := kI_r n
  obtain ⟨q1, q2, q3⟩ := p_parts p
  unfold wX6_encode
  refine ⟨fun hk0 => ?_, fun hk0 => ?_⟩
  · obtain ⟨e1, e2⟩ := SPr_y hs (hki.mp hk0)
    subst e1 e2
    exact m_fail (f := 9) (by decide) (by decide) (hp _)
  · have hk : isK k := Classical.byContradiction (fun z => hk0 (hki.mpr z))
    obtain ⟨e1, e2⟩ := SPr_n hs (fun z => z hk)
    subst e1
    refine ⟨fun z => ?_, fun z x5 e5 x7 e7 => ?_⟩
    · have h0 : p.toInt = 0 := by rw [z]; rfl
      rw [h0] at e2
      have e3 : v = 0 := e2.trans (tb_zero hk)
      rw [e3] at hp
      exact hp _
    · rw [e5, e7, q1, q2, kx_j]
      refine m_scaled hk _ q3 (by omega) (by omega) _ _ _ (fun u => ?_)
      rw [← e2]
      exact hp _
theorem m_told {k : Int32} (hk : isK k) (x : Int64) {post : Int64 → (Int32 × Int32 × Int32 × Int64 × Int32) → Prop} (hp : ∀ u, post (tb k (fr k x)) u) : wX6_told_2 k x post := by
  unfold wX6_told_2
  have hv : fr k x ≠ .nan → (if k = 0 then x.toInt32.toInt64 else x) = tb k (fr k x) := by
    intro h
    rw [tb_fr hk h]
    unfold tbn bitsK
    by_cases h0 : k = 0
    · rw [if_pos h0, if_pos h0, if_pos h0, lo32]
    · rw [if_neg h0, if_neg h0, if_neg h0, jZ_U]
  refine take_K hk x ?_
  rcases hd : fr k x with _ | s | ⟨s, c, q⟩
  · intro m n x3 e3
    rw [if_neg (show ¬ (1 : Int32) = 0 by decide), nanOf_k hk, ← hd] at e3
    rw [e3]; exact hp _
  · intro n x3 e3
    rw [if_pos (show (0 : Int32) = 0 from rfl), hv (by rw [hd]; intro z; cases z)] at e3
    rw [e3]; exact hp _
  · intro x3 e3
    rw [if_pos (show (0 : Int32) = 0 from rfl), hv (by rw [hd]; intro z; cases z)] at e3
    rw [e3]; exact hp _
/-- by a power of two -/
def scD (f : FP.Core.Fmt) (d : FP.Core.Datum) (n : Int) : FP.Core.Datum := match d with
  | .nan => .nan
  | .inf s => .inf s
  | .fin s c q => fq_rv f s ((c : Rat) * pw2 (q + n))
theorem scD_fits {f : FP.Core.Fmt} (hf : fq_good f) (d : FP.Core.Datum) (n : Int) : FP.Core.fits f (scD f d n) := by
  cases d with
  | nan => trivial
  | inf s => trivial
  | fin s c q => exact fq_rv_fits hf s (Rat.mul_nonneg Rat.natCast_nonneg (Rat.le_of_lt (pw2_pos _)))
theorem scD_ne {f : FP.Core.Fmt} {d : FP.Core.Datum} (h : d ≠ .nan) (n : Int) : scD f d n ≠ .nan := by
  cases d with
  | nan => exact absurd rfl h
  | inf s => intro z; cases z
  | fin s c q => exact rv_ne _ _ _
theorem scD_32 {d : FP.Core.Datum} (h : FP.Core.fits FP.Core.b32 d) {n N : Int} (hN : N = max (min n 278) (-278)) : FP.Core.round FP.Core.b32 (scS (FP.Core.round FP.Core.b64 d) N) = scD FP.Core.b32 d n := by
  cases d with
  | nan => rfl
  | inf s => rfl
  | fin s c q =>
    obtain ⟨f1, f2, f3, f4⟩ := fin32 h
    obtain ⟨c', q', e1, e2, e3⟩ := fq_wid h
    rw [e1]
    show FP.Core.round FP.Core.b32 (fq_rv FP.Core.b64 s ((c' : Rat) * pw2 (q' + N))) = fq_rv FP.Core.b32 s ((c : Rat) * pw2 (q + n))
    rw [pw2_add, ← Rat.mul_assoc, e3, Rat.mul_assoc, ← pw2_add, dr_round (dr_exact (by omega) (by omega) (by omega))]
    rcases Nat.eq_zero_or_pos c with rfl | hc
    · rw [show ((0 : Nat) : Rat) = 0 from rfl, Rat.zero_mul, Rat.zero_mul]
    have low : ∀ e : Int, pw2 e ≤ (c : Rat) * pw2 e := fun e => by
      have := fq_mpw (e := e) (fq_cle hc)
      rw [show ((Nat.succ 0 : Nat) : Rat) = 1 from rfl, Rat.one_mul] at this
      exact this
    have up : ∀ e : Int, (c : Rat) * pw2 e < pw2 (24 + e) := fun e => by
      have := fq_mpwl (e := e) (fq_clt f1)
      rw [show ((16777216 : Nat) : Rat) = pw2 ((24 : Nat) : Int) by rw [pw2_nat], ← pw2_add] at this
      exact this
    have nn : ∀ e : Int, 0 ≤ (c : Rat) * pw2 e := fun e => Rat.mul_nonneg Rat.natCast_nonneg (Rat.le_of_lt (pw2_pos e))
    have hz := qn32.1
    have hi : FP.Core.b32.qmax + (FP.Core.b32.p : Int) = 128 := by decide
    rcases (show N = n ∨ (278 ≤ N ∧ 278 ≤ n) ∨ (N ≤ -278 ∧ n ≤ -278) by omega) with rfl | ⟨g1, g2⟩ | ⟨g1, g2⟩
    · rfl
    · rw [rv_inf fq_g32 s (Rat.le_trans (pw2_le (show FP.Core.b32.qmax + (FP.Core.b32.p : Int) ≤ q + N by omega)) (low _)), rv_inf fq_g32 s (Rat.le_trans (pw2_le (show FP.Core.b32.qmax + (FP.Core.b32.p : Int) ≤ q + n by omega)) (low _))]
    · rw [rv_zero fq_g32 s (nn _) (Std.lt_of_lt_of_le (up _) (pw2_le (by omega))), rv_zero fq_g32 s (nn _) (Std.lt_of_lt_of_le (up _) (pw2_le (by omega)))]
theorem clamp_k (n : Int32) : fJ2_max (fJ2_min n 278) (-278) = kZ (max (min n.toInt 278) (-278)) := by
  have hr := kI_r n
  have h1 : ((278 : Int32) < n) ↔ 278 < n.toInt := i_gt n (a := 278) (by omega) (by omega)
  unfold fJ2_max fJ2_min
  rw [lt_eq, lt_eq]
  by_cases g : 278 < n.toInt
  · rw [if_pos (h1.mpr g), if_neg (show ¬ (278 : Int32) < -278 by decide), show max (min n.toInt 278) (-278) = 278 by omega]
    rfl
  · rw [if_neg (fun z => g (h1.mp z))]
    have h2 : (n < (-278 : Int32)) ↔ n.toInt < -278 := by
      rw [show (-278 : Int32) = kZ (-278) by decide]
      exact i_lt n (a := -278) (by omega) (by omega)
    by_cases g2 : n.toInt < -278
    · rw [if_pos (h2.mpr g2), show max (min n.toInt 278) (-278) = -278 by omega]
      rfl
    · rw [if_neg (fun z => g2 (h2.mp z)), show max (min n.toInt 278) (-278) = n.toInt by omega, kI_Z]
theorem scalb32 {d : FP.Core.Datum} (h : FP.Core.fits FP.Core.b32 d) (hn : d ≠ .nan) (n : Int32) : fJ2_scalb_2 (E32 d) n = E32 (scD FP.Core.b32 d n.toInt) ∧ oJ2_scalb_2 (E32 d) n := by
  obtain ⟨N, hN⟩ : ∃ N, N = max (min n.toInt 278) (-278) := ⟨_, rfl⟩
  have hb := p2_bits (a := N) (by omega) (by omega)
  have hX : FP.Core.fits FP.Core.b64 (FP.Core.round FP.Core.b64 d) := rf fq_g64 d
  have hXn : FP.Core.round FP.Core.b64 d ≠ .nan := ne_round hn
  have hw : FP.f2d (E32 d) = E64 (FP.Core.round FP.Core.b64 d) := f2d_E h hn
  have hm := mul_p2 hX (a := N) (by omega) (by omega)
  have hd := d2f_E (scS_fits (FP.Core.round FP.Core.b64 d) N) (scS_ne hXn N)
  rw [scD_32 h hN] at hd
  constructor
  · unfold fJ2_scalb_2
    rw [lt_eq, clamp_k, ← hN, hb.1, hw, hm, hd]
  · intro x1 e1
    rw [e1, clamp_k, ← hN, hb.1, hw, hm, hd]
    exact ⟨(vf64_iff _).mpr (by rw [V64_E64 hX]; exact hXn), hb.2, (vf64_iff _).mpr (by rw [V64_E64 (scS_fits _ _)]; exact scS_ne hXn _), (vf32_iff _).mpr (by rw [V32_E32 (scD_fits fq_g32 _ _)]; exact scD_ne hn _)⟩
theorem scaled_F {d : FP.Core.Datum} (h : FP.Core.fits FP.Core.b32 d) (n : Int32) : fX2_scaled (WD d) n = WD (scD FP.Core.b32 d n.toInt) ∧ oX2_scaled (WD d) n := by
  have he := eqself_W (x := d) (Or.inl h)
  unfold fX2_scaled oX2_scaled
  rw [lt_eq]
  by_cases hn : d = .nan
  · have h1 : ¬ Deq (WD d) (WD d) := fun z => he.mp z hn
    rw [if_neg h1]
    refine ⟨?_, fun z => absurd z h1, fun _ => trivial⟩
    rw [hn, w_nan]; rfl
  · obtain ⟨s1, s2⟩ := scalb32 h hn n
    have hsf := scD_fits fq_g32 d n.toInt
    have hsn := scD_ne (f := FP.Core.b32) hn n.toInt
    rw [if_pos (he.mpr hn), d2f_W h hn, s1, f2d_E hsf hsn]
    refine ⟨rfl, fun _ => ⟨(vf32_iff _).mpr (by rw [V32_E32 h]; exact hn), s2, (vf64_iff _).mpr (by rw [V64_WD]; exact ne_round hsn)⟩, fun z => absurd (he.mpr hn) z⟩
def V_scale (k : Int32) (x : Int64) (n : Int32) (v : Int64) (f : Nat) : Prop := SPr 0 (¬ isK k) (fun v f => f = 0 ∧ v = tb k (scD (fm k) (fr k x) n.toInt)) v f
theorem c_scale {g : Nat → Int32} {k : Int32} {x : Int64} {n : Int32} {post : Int64 → (Int32 × (Nat → Int32)) → Prop} (hp : ∀ v f, V_scale k x n v f → post v (kZ (f : Int), cF g f)) : wX0_scale g k x n post := by
  have hki := isKind_0 k
  unfold wX0_scale
  refine c_refused (fun h => ⟨fun z => absurd z (by decide), fun _ => hp 0 9 (Or.inl ⟨hki.mp h, rfl, rfl⟩)⟩) (fun h => ⟨fun _ => ?_, fun z => absurd rfl z⟩)
  have hk : isK k := Classical.byContradiction (fun z => h (hki.mpr z))
  have hv : ∀ v, v = tb k (scD (fm k) (fr k x) n.toInt) → post v (0, g) := fun v e => hp v 0 (Or.inr ⟨fun z => z hk, rfl, e⟩)
  rcases hk with rfl | rfl
  · obtain ⟨d1, d2⟩ := from_F x
    obtain ⟨s1, s2⟩ := scaled_F (fr0_fits x) n
    obtain ⟨t1, t2⟩ := to_F (scD_fits fq_g32 (fr 0 x) n.toInt)
    refine ⟨fun _ => ⟨d2, fun x5 e5 => ?_⟩, fun z => absurd rfl z⟩
    rw [e5, d1]
    refine ⟨s2, ?_, ?_⟩
    · rw [s1]; exact t2
    · rw [s1, t1]; exact hv _ rfl
  · obtain ⟨d1, d2⟩ := from_D x
    have hf := fr1_fits x
    have he := eqself_W (x := fr 1 x) (Or.inr hf)
    refine ⟨fun z => absurd z (by decide), fun _ => ⟨d2, fun x5 e5 => ?_⟩⟩
    rw [e5, d1]
    refine ⟨⟨fun z => (vf64_iff _).mpr (by rw [V64_WD]; exact ne_round (he.mp z)), fun _ => trivial⟩, fun x8 e8 => ?_⟩
    have hx8 : x8 = WD (scD FP.Core.b64 (fr 1 x) n.toInt) := by
      rw [e8]
      by_cases hn : fr 1 x = .nan
      · rw [if_neg (fun z => he.mp z hn), hn]; rfl
      · rw [if_pos (he.mpr hn), WD_64 hf, WD_64 (scD_fits fq_g64 _ _)]
        exact sclD_E hf n.toInt
    rw [hx8, to_D (scD_fits fq_g64 _ _)]
    exact hv _ rfl
theorem m_scale {a1 a2 a3 : Int32} {a4 : Int64} {a5 : Int32} {g : Nat → Int32} {num den work : Nat → Int64} {k : Int32} {x : Int64} {n : Int32} {post : Int64 → (Int32 × Int32 × Int32 × Int32 × Int64 × Int32 × (Nat → Int32) × (Nat → Int64) × (Nat → Int64) × (Nat → Int64)) → Prop} {v : Int64} {f : Nat} (hs : V_scale k x n v f) (hp : ∀ b1 b2 b3 b4 b5 b, post v (kZ (f : Int), b1, b2, b3, b4, b5, cF g f, b)) : wX6_scale a1 a2 a3 a4 a5 g num den work k x n post := by
  have hki := isKind_6 k
  have hr := kI_r n
  unfold wX6_scale
  refine ⟨fun hk0 => ?_, fun hk0 => ?_⟩
  · obtain ⟨e1, e2⟩ := SPr_y hs (hki.mp hk0)
    subst e1 e2
    exact m_fail (f := 9) (by decide) (by decide) (hp _ _ _ _ _ _)
  · have hk : isK k := Classical.byContradiction (fun z => hk0 (hki.mpr z))
    obtain ⟨e1, e2⟩ := SPr_n hs (fun z => z hk)
    subst e1
    have hn := fm_num hk
    have hfit := fr_fits hk x
    refine take_K hk x ?_
    rcases hd : fr k x with _ | s | ⟨s, c, q⟩
    · have hv : v = tb k (fr k x) := by rw [e2, hd]; rfl
      exact fun m n' => ⟨fun z => absurd z (show ¬ (1 : Int32) = 0 by decide), fun _ => m_told hk x (fun u => by rw [← hv]; exact hp _ _ _ _ _ _)⟩
    · have hv : v = tb k (fr k x) := by rw [e2, hd]; rfl
      exact fun n' => ⟨fun _ => ⟨fun z => absurd z (show ¬ (1 : Int32) = 0 by decide), fun _ => m_told hk x (fun u => by rw [← hv]; exact hp _ _ _ _ _ _)⟩, fun z => absurd rfl z⟩
    · rw [hd] at hfit
      obtain ⟨f1, f2, f3, f4⟩ := fin_k hk hfit
      have hpl : 2 ^ (fm k).p ≤ 2 ^ 53 := Nat.pow_le_pow_right (by decide) (by omega)
      have hcz := jc0 (c := c) (by omega)
      refine ⟨fun _ => ⟨fun _ => ⟨fun z => ?_, fun z => ?_⟩, fun z => absurd rfl z⟩, fun z => absurd rfl z⟩
      · have hc0 := hcz.mp z
        have hv : v = tb k (fr k x) := by
          rw [e2, hd]
          subst hc0
          have hq : q = (fm k).qmin := by
            rcases f4 with h | h
            · exact h
            · omega
          show tb k (fq_rv (fm k) s (((0 : Nat) : Rat) * _)) = _
          rw [show ((0 : Nat) : Rat) = 0 from rfl, Rat.zero_mul, fq_rv0, hq]
        exact m_told hk x (fun u => by rw [← hv]; exact hp _ _ _ _ _ _)
      · show wX6_scaled num den work k (bz s) (jZ (c : Int)) ((kZ q).toInt64 + n.toInt64) _
        rw [kZ_j (by omega) (by omega), kx_j, jZ_add]
        refine m_scaled hk s (by omega) (by omega) (by omega) _ _ _ (fun u => ?_)
        have hv : v = tb k (FP.Core.roundRatio (fm k) s c 1 (q + n.toInt)) := by
          rw [e2, hd, fq_rv_one (fm_good hk)]; rfl
        rw [← hv]
        exact hp _ _ _ _ _ _
