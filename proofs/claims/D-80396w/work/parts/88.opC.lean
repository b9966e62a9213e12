/-! signs; what is answered: compare, two -/
def sgn : FP.Core.Datum → Bool
  | .nan => false
  | .inf s => s
  | .fin s _ _ => s
def setS (s : Bool) : FP.Core.Datum → FP.Core.Datum
  | .nan => .nan
  | .inf _ => .inf s
  | .fin _ c q => .fin s c q
theorem setS_fits {f : FP.Core.Fmt} {d : FP.Core.Datum} (s : Bool) (h : FP.Core.fits f d) : FP.Core.fits f (setS s d) := by
  cases d <;> exact h
theorem setS_ne {d : FP.Core.Datum} (s : Bool) (h : d ≠ .nan) : setS s d ≠ .nan := by
  cases d with
  | nan => exact absurd rfl h
  | inf t => intro z; cases z
  | fin t c q => intro z; cases z
theorem setS_self (d : FP.Core.Datum) : setS (sgn d) d = d := by
  cases d <;> rfl
theorem enc_sgn {f : FP.Core.Fmt} (hf : fq_good f) {d : FP.Core.Datum} (hn : d ≠ .nan) (h : FP.Core.fits f d) : ∃ m : Nat, m < f.exps * f.tails ∧ ∀ s, FP.Core.encode f (setS s d) = s.toNat * (f.exps * f.tails) + m := by
  have h1 := fq_exps hf
  have h2 := fq_2t hf
  have h4 := fq_qq (f := f)
  have ht := fq_tp f
  have hle : ∀ e t : Nat, e < f.exps → t < f.tails → e * f.tails + t < f.exps * f.tails := by
    intro e t he ht2
    have := Nat.mul_le_mul_right f.tails (show e + 1 ≤ f.exps from he)
    rw [Nat.add_mul, Nat.one_mul] at this
    omega
  have ha : ∀ (s : Bool) (e t : Nat), FP.Core.assemble f s e t = s.toNat * (f.exps * f.tails) + (e * f.tails + t) := by
    intro s e t
    unfold FP.Core.assemble
    rw [Nat.add_mul, Nat.mul_assoc, Nat.add_assoc]
  cases d with
  | nan => exact absurd rfl hn
  | inf t => exact ⟨(f.exps - 1) * f.tails + 0, hle _ _ (by omega) ht, fun s => ha s _ _⟩
  | fin t c q =>
    obtain ⟨g1, g2, g3, g4⟩ := h
    by_cases hc : c < f.tails
    · refine ⟨0 * f.tails + c, hle _ _ (by omega) hc, fun s => ?_⟩
      show (if c < f.tails then FP.Core.assemble f s 0 c else _) = _
      rw [if_pos hc]; exact ha _ _ _
    · refine ⟨((q - f.qmin).toNat + 1) * f.tails + (c - f.tails), hle _ _ (by omega) (by omega), fun s => ?_⟩
      show (if c < f.tails then _ else FP.Core.assemble f s ((q - f.qmin).toNat + 1) (c - f.tails)) = _
      rw [if_neg hc]; exact ha _ _ _
theorem csign_E {X Y : FP.Core.Datum} (hX : FP.Core.fits FP.Core.b64 X) (hXn : X ≠ .nan) (hY : FP.Core.fits FP.Core.b64 Y) (hYn : Y ≠ .nan) : csignD (E64 X) (E64 Y) = E64 (setS (sgn Y) X) := by
  obtain ⟨m, m1, m2⟩ := enc_sgn fq_g64 hXn hX
  obtain ⟨n, n1, n2⟩ := enc_sgn fq_g64 hYn hY
  rw [t64.1, t64.2] at m1 n1
  have eX := m2 (sgn X)
  rw [setS_self, t64.1, t64.2] at eX
  have eY := n2 (sgn Y)
  rw [setS_self, t64.1, t64.2] at eY
  have eR := m2 (sgn Y)
  rw [t64.1, t64.2] at eR
  refine UInt64.toNat_inj.mp ?_
  rw [E64_toNat (setS_fits _ hX), eR]
  have hb : ((E64 Y) >>> 63 == 1) = sgn Y := by
    have h1 : ((E64 Y) >>> 63).toNat = (sgn Y).toNat := by
      rw [UInt64.toNat_shiftRight, E64_toNat hY, eY, show (63 : UInt64).toNat % 64 = 63 from rfl, Nat.shiftRight_eq_div_pow]
      cases sgn Y
      · rw [Bool.toNat_false]; omega
      · rw [Bool.toNat_true]; omega
    cases hs : sgn Y with
    | false =>
      rw [hs] at h1
      have : (E64 Y) >>> 63 = 0 := UInt64.toNat_inj.mp h1
      rw [this]; rfl
    | true =>
      rw [hs] at h1
      have : (E64 Y) >>> 63 = 1 := UInt64.toNat_inj.mp h1
      rw [this]; rfl
  unfold csignD
  rw [hb, UInt64.toNat_or, u64_mask, E64_toNat hX, eX]
  have hm : ((sgn X).toNat * (2048 * 4503599627370496) + m) % 9223372036854775808 = m := by
    cases sgn X
    · rw [Bool.toNat_false]; omega
    · rw [Bool.toNat_true]; omega
  rw [hm]
  cases sgn Y with
  | false =>
    show m ||| 0 = _
    rw [Nat.or_zero, Bool.toNat_false]; omega
  | true =>
    show m ||| 9223372036854775808 = _
    rw [Nat.or_comm]
    have := Nat.two_pow_add_eq_or_of_lt (i := 63) (b := m) (by omega) 1
    rw [Bool.toNat_true, show (9223372036854775808 : Nat) = 2 ^ 63 * 1 by decide, ← this]
theorem setS_rr (f : FP.Core.Fmt) (s t : Bool) (A B : Nat) (e : Int) : setS t (FP.Core.roundRatio f s A B e) = FP.Core.roundRatio f t A B e ∧ sgn (FP.Core.roundRatio f s A B e) = s := by
  unfold FP.Core.roundRatio FP.Core.roundAt FP.Core.settle FP.Core.bound
  repeat' split
  all_goals exact ⟨rfl, rfl⟩
theorem setS_round (f : FP.Core.Fmt) (t : Bool) (d : FP.Core.Datum) : setS t (FP.Core.round f d) = FP.Core.round f (setS t d) ∧ sgn (FP.Core.round f d) = sgn d := by
  cases d with
  | nan => exact ⟨rfl, rfl⟩
  | inf s => exact ⟨rfl, rfl⟩
  | fin s c q => exact setS_rr f s t c 1 q
theorem csign_W {X Y : FP.Core.Datum} (hXn : X ≠ .nan) (hYn : Y ≠ .nan) : csignD (WD X) (WD Y) = WD (setS (sgn Y) X) := by
  unfold WD
  rw [csign_E (rf fq_g64 X) (ne_round hXn) (rf fq_g64 Y) (ne_round hYn), (setS_round FP.Core.b64 false Y).2, (setS_round FP.Core.b64 (sgn Y) X).1]
theorem absV_setS (d : FP.Core.Datum) : absV d = setS false d := by cases d <;> rfl
theorem absD_W (X : FP.Core.Datum) : absD (WD X) = WD (setS false X) := by
  unfold WD
  rw [absD_E (rf fq_g64 X), absV_setS, (setS_round FP.Core.b64 false X).1]
theorem vfW {X : FP.Core.Datum} (h : X ≠ .nan) : vf_n64 (WD X) := (vf64_iff _).mpr (by rw [V64_WD]; exact ne_round h)
/-- the model's bits without their sign -/
theorem m_size {k : Int32} (hk : isK k) {x : Int64} (hn : fr k x ≠ .nan) : ∃ m : Nat, m < (fm k).exps * (fm k).tails ∧ fX6_sizeOf k x = jZ (m : Int) ∧ ∀ s : Bool, tb k (setS s (fr k x)) = tbn k (s.toNat * ((fm k).exps * (fm k).tails) + m) := by
  obtain ⟨m, m1, m2⟩ := enc_sgn (fm_good hk) hn (fr_fits hk x)
  refine ⟨m, m1, ?_, fun s => by unfold tb; rw [m2]⟩
  have e := m2 (sgn (fr k x))
  rw [setS_self] at e
  have e2 : FP.Core.encode (fm k) (fr k x) = bitsK k x := fq_encdec (fm_good hk) (bitsK_lt hk x) hn
  rw [e2] at e
  have hb : (sgn (fr k x)).toNat < 2 := by cases sgn (fr k x) <;> decide
  unfold fX6_sizeOf
  rw [lt_eq]
  rcases fm_num hk with ⟨-, -, -, h4, h5, h6⟩ | ⟨-, -, -, h4, h5, h6⟩
  · rw [h4, h5] at e m1
    rw [if_pos h6, j_m31]
    unfold bitsK at e
    rw [if_pos h6] at e
    congr 1
    omega
  · rw [h4, h5] at e m1
    have h7 : ¬ k = 0 := by rw [h6]; decide
    rw [if_neg h7, j_m63]
    unfold bitsK at e
    rw [if_neg h7] at e
    congr 1
    omega
theorem m_signed {k : Int32} (hk : isK k) {x : Int64} (hn : fr k x ≠ .nan) (s : Bool) : fX6_signed k (fX6_sizeOf k x) (bz s) = tb k (setS s (fr k x)) := by
  obtain ⟨m, m1, m2, m3⟩ := m_size hk hn
  rw [m2, sg_of hk s m1, m3]
/-- comparisons -/
def cmpV (op : Int32) (a b : UInt64) : Int32 := if op = 0 then (if Deq a b then 1 else 0) else if op = 1 then (if Deq a b then 0 else 1) else if op = 2 then (if Dlt a b then 1 else 0) else if op = 3 then (if Dle a b then 1 else 0) else if op = 4 then (if Dgt a b then 1 else 0) else if op = 5 then (if Dge a b then 1 else 0) else (if Dlt a b then 0 else (if Deq a b then 1 else 2))
def V_compare (op k : Int32) (x y : Int64) (v : Int32) (f : Nat) : Prop := SPr 0 (¬ (0 ≤ op.toInt ∧ op.toInt ≤ 6) ∨ ¬ isK k) (fun v f => f = 0 ∧ v = cmpV op (WD (fr k x)) (WD (fr k y))) v f
theorem ref2 {b1 b2 : Int32} : ((if b1 = 0 then (0 : Int32) else (if b2 = 0 then 0 else 1)) = 0) ↔ (b1 = 0 ∨ b2 = 0) := by
  by_cases h1 : b1 = 0
  · rw [if_pos h1]; exact ⟨fun _ => Or.inl h1, fun _ => rfl⟩
  · rw [if_neg h1]
    by_cases h2 : b2 = 0
    · rw [if_pos h2]; exact ⟨fun _ => Or.inr h2, fun _ => rfl⟩
    · rw [if_neg h2]
      exact ⟨fun z => absurd z (by decide), fun z => by rcases z with z | z <;> contradiction⟩
theorem c_compare {g : Nat → Int32} {op k : Int32} {x y : Int64} {post : Int32 → (Int32 × (Nat → Int32)) → Prop} (hp : ∀ v f, V_compare op k x y v f → post v (kZ (f : Int), cF g f)) : wX0_compare g op k x y post := by
  have hki := isKind_0 k
  have hb := isR_k op 0 6 (by omega) (by omega) (by omega)
  unfold wX0_compare
  intro x1 e1
  have hx : x1 = 0 ↔ (¬ (0 ≤ op.toInt ∧ op.toInt ≤ 6) ∨ ¬ isK k) := by rw [e1, ref2, hki]; exact or_congr hb Iff.rfl
  refine c_refused (fun h => ⟨fun z => absurd z (by decide), fun _ => hp 0 9 (Or.inl ⟨hx.mp h, rfl, rfl⟩)⟩) (fun h => ⟨fun _ => ?_, fun z => absurd rfl z⟩)
  have hnr := fun z => h (hx.mpr z)
  have hk : isK k := Classical.byContradiction (fun z => hnr (Or.inr z))
  have hv : ∀ v, v = cmpV op (WD (fr k x)) (WD (fr k y)) → post v (0, g) := fun v e => hp v 0 (Or.inr ⟨hnr, rfl, e⟩)
  have hall : ∀ a b : UInt64, a = WD (fr k x) → b = WD (fr k y) → ((op = 0) → (∀ x11 : Int32, x11 = (if Deq a b then 1 else 0) → post x11 (0, g))) ∧ (¬ (op = 0) → ((op = 1) → (∀ x14 : Int32, x14 = (if Deq a b then 0 else 1) → post x14 (0, g))) ∧ (¬ (op = 1) → ((op = 2) → (∀ x17 : Int32, x17 = (if Dlt a b then 1 else 0) → post x17 (0, g))) ∧ (¬ (op = 2) → ((op = 3) → (∀ x20 : Int32, x20 = (if Dle a b then 1 else 0) → post x20 (0, g))) ∧ (¬ (op = 3) → ((op = 4) → (∀ x23 : Int32, x23 = (if Dgt a b then 1 else 0) → post x23 (0, g))) ∧ (¬ (op = 4) → ((op = 5) → (∀ x26 : Int32, x26 = (if Dge a b then 1 else 0) → post x26 (0, g))) ∧ (¬ (op = 5) → (∀ x28 : Int32, x28 = (if Dlt a b then 0 else (if Deq a b then 1 else 2)) → post x28 (0, g)))))))) := by
    intro a b ea eb
    rw [ea, eb]
    unfold cmpV at hv
    refine ⟨fun h0 v e => hv v (by rw [if_pos h0]; exact e), fun h0 => ?_⟩
    rw [if_neg h0] at hv
    refine ⟨fun h1 v e => hv v (by rw [if_pos h1]; exact e), fun h1 => ?_⟩
    rw [if_neg h1] at hv
    refine ⟨fun h2 v e => hv v (by rw [if_pos h2]; exact e), fun h2 => ?_⟩
    rw [if_neg h2] at hv
    refine ⟨fun h3 v e => hv v (by rw [if_pos h3]; exact e), fun h3 => ?_⟩
    rw [if_neg h3] at hv
    refine ⟨fun h4 v e => hv v (by rw [if_pos h4]; exact e), fun h4 => ?_⟩
    rw [if_neg h4] at hv
    refine ⟨fun h5 v e => hv v (by rw [if_pos h5]; exact e), fun h5 => ?_⟩
    rw [if_neg h5] at hv
    exact fun v e => hv v e
  rcases hk with rfl | rfl
  · obtain ⟨d1, d2⟩ := from_F x
    obtain ⟨d3, d4⟩ := from_F y
    exact ⟨fun _ => ⟨d2, fun x8 e8 => ⟨d4, fun x9 e9 => hall x8 x9 (e8.trans d1) (e9.trans d3)⟩⟩, fun z => absurd rfl z⟩
  · obtain ⟨d1, d2⟩ := from_D x
    obtain ⟨d3, d4⟩ := from_D y
    exact ⟨fun z => absurd z (by decide), fun _ => ⟨d2, fun x8 e8 => ⟨d4, fun x9 e9 => hall x8 x9 (e8.trans d1) (e9.trans d3)⟩⟩⟩
theorem b01 {P : Prop} [Decidable P] : (if (if P then (1 : Int32) else 0) = 0 then (0 : Int32) else 1) = if P then 1 else 0 := by
  by_cases h : P
  · rw [if_pos h, if_neg (by decide)]
  · rw [if_neg h, if_pos rfl]
theorem b10 {P : Prop} [Decidable P] : (if (if P then (0 : Int32) else 1) = 0 then (0 : Int32) else 1) = if P then 0 else 1 := by
  by_cases h : P
  · rw [if_pos h, if_pos rfl]
  · rw [if_neg h, if_neg (by decide)]
theorem m_compare {g : Nat → Int32} {op k : Int32} {x y : Int64} {post : Int32 → (Int32 × (Nat → Int32)) → Prop} {v : Int32} {f : Nat} (hs : V_compare op k x y v f) (hp : post v (kZ (f : Int), cF g f)) : wX6_compare g op k x y post := by
  have hki := isKind_6 k
  have h0 : (op < (0 : Int32)) ↔ op.toInt < 0 := i_lt op (a := 0) (by omega) (by omega)
  have h6 : ((6 : Int32) < op) ↔ 6 < op.toInt := i_gt op (a := 6) (by omega) (by omega)
  have hbad : (¬ (0 ≤ op.toInt ∧ op.toInt ≤ 6) ∨ ¬ isK k) → post 0 (9, cF g 9) := fun h => by
    obtain ⟨e1, e2⟩ := SPr_y hs h
    subst e1 e2; exact hp
  unfold wX6_compare
  refine ⟨fun h => m_fail (f := 9) (by decide) (by decide) (hbad (Or.inl (by have := h0.mp h; omega))), fun h => ⟨fun h2 => m_fail (f := 9) (by decide) (by decide) (hbad (Or.inl (by have := h6.mp h2; omega))), fun h2 => ⟨fun h3 => m_fail (f := 9) (by decide) (by decide) (hbad (Or.inr (hki.mp h3))), fun h3 => ?_⟩⟩⟩
  have hk : isK k := Classical.byContradiction (fun z => h3 (hki.mpr z))
  have g0 : ¬ op.toInt < 0 := fun z => h (h0.mpr z)
  have g6 : ¬ 6 < op.toInt := fun z => h2 (h6.mpr z)
  have hnr : ¬ (¬ (0 ≤ op.toInt ∧ op.toInt ≤ 6) ∨ ¬ isK k) := by
    rintro (z | z)
    · omega
    · exact z hk
  obtain ⟨e1, e2⟩ := SPr_n hs hnr
  subst e1
  obtain ⟨r1, r2⟩ := real_W hk x
  obtain ⟨r3, r4⟩ := real_W hk y
  refine ⟨r2, fun a ea => ⟨r4, fun b eb => ?_⟩⟩
  rw [ea, eb, r1, r3]
  unfold cmpV at e2
  refine ⟨fun i6 v' e' => ?_, fun i6 x13 e13 v' e' => ?_⟩
  · rw [if_neg (by rw [i6]; decide), if_neg (by rw [i6]; decide), if_neg (by rw [i6]; decide), if_neg (by rw [i6]; decide), if_neg (by rw [i6]; decide), if_neg (by rw [i6]; decide)] at e2
    rw [e', ← e2]
    exact hp
  · have hvv : v' = v := by
      rw [e', e13, e2]
      by_cases i0 : op = 0
      · rw [if_pos i0, if_pos i0]; exact b01
      rw [if_neg i0, if_neg i0]
      by_cases i1 : op = 1
      · rw [if_pos i1, if_pos i1]; exact b10
      rw [if_neg i1, if_neg i1]
      by_cases i2 : op = 2
      · rw [if_pos i2, if_pos i2]; exact b01
      rw [if_neg i2, if_neg i2]
      by_cases i3 : op = 3
      · rw [if_pos i3, if_pos i3]; exact b01
      rw [if_neg i3, if_neg i3]
      by_cases i4 : op = 4
      · rw [if_pos i4, if_pos i4]; exact b01
      rw [if_neg i4, if_neg i4]
      have i5 : op = 5 := by
        refine (i_eq op (a := 5) (by omega) (by omega)).mpr ?_
        have n0 : ¬ op.toInt = 0 := fun z => i0 ((i_eq op (a := 0) (by omega) (by omega)).mpr z)
        have n1 : ¬ op.toInt = 1 := fun z => i1 ((i_eq op (a := 1) (by omega) (by omega)).mpr z)
        have n2 : ¬ op.toInt = 2 := fun z => i2 ((i_eq op (a := 2) (by omega) (by omega)).mpr z)
        have n3 : ¬ op.toInt = 3 := fun z => i3 ((i_eq op (a := 3) (by omega) (by omega)).mpr z)
        have n4 : ¬ op.toInt = 4 := fun z => i4 ((i_eq op (a := 4) (by omega) (by omega)).mpr z)
        have n6 : ¬ op.toInt = 6 := fun z => i6 ((i_eq op (a := 6) (by omega) (by omega)).mpr z)
        omega
      rw [if_pos i5]; exact b01
    rw [hvv]
    exact hp
