/-! floats, plain (1): encodings -/
def fq_good (f : FP.Core.Fmt) : Prop := 2 ≤ f.w ∧ 2 ≤ f.p
theorem fq_g32 : fq_good FP.Core.b32 := ⟨by decide, by decide⟩
theorem fq_g64 : fq_good FP.Core.b64 := ⟨by decide, by decide⟩
theorem fq_tp (f : FP.Core.Fmt) : 0 < f.tails := Nat.two_pow_pos _
theorem fq_ep (f : FP.Core.Fmt) : 0 < f.exps := Nat.two_pow_pos _
theorem fq_fT {f : FP.Core.Fmt} {s : Bool} {e t : Nat} (ht : t < f.tails) : FP.Core.fieldT f (FP.Core.assemble f s e t) = t := by
  unfold FP.Core.fieldT FP.Core.assemble
  rw [Nat.add_comm, Nat.add_mul_mod_self_right]
  exact Nat.mod_eq_of_lt ht
theorem fq_div {f : FP.Core.Fmt} {s : Bool} {e t : Nat} (ht : t < f.tails) : FP.Core.assemble f s e t / f.tails = s.toNat * f.exps + e := by
  unfold FP.Core.assemble
  rw [Nat.add_comm, Nat.add_mul_div_right _ _ (fq_tp f), Nat.div_eq_of_lt ht, Nat.zero_add]
theorem fq_fE {f : FP.Core.Fmt} {s : Bool} {e t : Nat} (he : e < f.exps) (ht : t < f.tails) : FP.Core.fieldE f (FP.Core.assemble f s e t) = e := by
  unfold FP.Core.fieldE
  rw [fq_div ht, Nat.add_comm, Nat.add_mul_mod_self_right]
  exact Nat.mod_eq_of_lt he
theorem fq_fS {f : FP.Core.Fmt} {s : Bool} {e t : Nat} (he : e < f.exps) (ht : t < f.tails) : FP.Core.fieldS f (FP.Core.assemble f s e t) = s := by
  unfold FP.Core.fieldS
  rw [fq_div ht, Nat.add_comm, Nat.add_mul_div_right _ _ (fq_ep f), Nat.div_eq_of_lt he, Nat.zero_add]
  cases s <;> rfl
theorem fq_top {f : FP.Core.Fmt} {n : Nat} (h : n < 2 * f.exps * f.tails) : n / f.tails / f.exps < 2 := by
  rw [Nat.div_div_eq_div_mul]
  refine (Nat.div_lt_iff_lt_mul (Nat.mul_pos (fq_tp f) (fq_ep f))).2 ?_
  rw [Nat.mul_comm f.tails, ← Nat.mul_assoc]
  exact h
theorem fq_asm {f : FP.Core.Fmt} {n : Nat} (h : n < 2 * f.exps * f.tails) : FP.Core.assemble f (FP.Core.fieldS f n) (FP.Core.fieldE f n) (FP.Core.fieldT f n) = n := by
  unfold FP.Core.assemble FP.Core.fieldS FP.Core.fieldE FP.Core.fieldT
  have h1 := fq_top h
  have h2 : (n / f.tails / f.exps % 2 == 1).toNat = n / f.tails / f.exps := by
    generalize n / f.tails / f.exps = z at h1 ⊢
    rcases (show z = 0 ∨ z = 1 by omega) with h | h <;> rw [h] <;> rfl
  rw [h2, Nat.mul_comm (n / f.tails / f.exps) f.exps, Nat.div_add_mod, Nat.mul_comm, Nat.div_add_mod]
theorem fq_asmlt {f : FP.Core.Fmt} {s : Bool} {e t : Nat} (he : e < f.exps) (ht : t < f.tails) : FP.Core.assemble f s e t < 2 * f.exps * f.tails := by
  unfold FP.Core.assemble
  have h1 : s.toNat * f.exps + e + 1 ≤ 2 * f.exps := by
    cases s
    · simp; omega
    · simp; omega
  have h2 : (s.toNat * f.exps + e + 1) * f.tails ≤ 2 * f.exps * f.tails := Nat.mul_le_mul_right _ h1
  rw [Nat.add_mul, Nat.one_mul] at h2
  omega
theorem fq_exps {f : FP.Core.Fmt} (h : fq_good f) : f.exps = 2 * f.emax + 2 := by
  have h1 := Nat.two_pow_pos (f.w - 1)
  have h2 : 2 ^ f.w = 2 * 2 ^ (f.w - 1) := by
    conv => lhs; rw [show f.w = f.w - 1 + 1 by have := h.1; omega]
    rw [Nat.pow_succ]; omega
  unfold FP.Core.Fmt.exps FP.Core.Fmt.emax
  omega
theorem fq_emax {f : FP.Core.Fmt} (h : fq_good f) : 1 ≤ f.emax := by
  have h1 : 2 ^ 1 ≤ 2 ^ (f.w - 1) := Nat.pow_le_pow_right (by decide) (by have := h.1; omega)
  unfold FP.Core.Fmt.emax
  omega
theorem fq_2t {f : FP.Core.Fmt} (h : fq_good f) : 2 ^ f.p = 2 * f.tails := by
  unfold FP.Core.Fmt.tails
  conv => lhs; rw [show f.p = f.p - 1 + 1 by have := h.2; omega]
  rw [Nat.pow_succ]; omega
theorem fq_qq {f : FP.Core.Fmt} : f.qmax = f.qmin + 2 * (f.emax : Int) - 1 := by unfold FP.Core.Fmt.qmax FP.Core.Fmt.qmin; omega
theorem fq_t2 {f : FP.Core.Fmt} (h : fq_good f) : 2 ^ (f.p - 2) < f.tails ∧ 0 < 2 ^ (f.p - 2) := by
  refine ⟨Nat.pow_lt_pow_right (by decide) (by have := h.2; omega), Nat.two_pow_pos _⟩
/-- a datum of the format -/
theorem fq_decfits {f : FP.Core.Fmt} (h : fq_good f) (n : Nat) : FP.Core.fits f (FP.Core.decode f n) := by
  have hE : FP.Core.fieldE f n < f.exps := Nat.mod_lt _ (fq_ep f)
  have hT : FP.Core.fieldT f n < f.tails := Nat.mod_lt _ (fq_tp f)
  have h1 := fq_exps h
  have h2 := fq_2t h
  have h3 := fq_emax h
  have h4 := fq_qq (f := f)
  unfold FP.Core.decode
  split
  · split <;> trivial
  · split
    · exact ⟨by omega, by omega, by omega, Or.inl rfl⟩
    · exact ⟨by omega, by omega, by omega, Or.inr (by omega)⟩
theorem fq_decasm {f : FP.Core.Fmt} {s : Bool} {e t : Nat} (he : e < f.exps) (ht : t < f.tails) : FP.Core.decode f (FP.Core.assemble f s e t) = if e = f.exps - 1 then (if t = 0 then .inf s else .nan) else if e = 0 then .fin s t f.qmin else .fin s (f.tails + t) (f.qmin + ((e : Int) - 1)) := by
  unfold FP.Core.decode
  rw [fq_fE he ht, fq_fT ht, fq_fS he ht]
theorem fq_decenc {f : FP.Core.Fmt} (h : fq_good f) {d : FP.Core.Datum} (hd : FP.Core.fits f d) : FP.Core.decode f (FP.Core.encode f d) = d := by
  have h1 := fq_exps h
  have h2 := fq_2t h
  have h3 := fq_emax h
  have h4 := fq_qq (f := f)
  have h5 := fq_t2 h
  have ht := fq_tp f
  cases d with
  | nan =>
    show FP.Core.decode f (FP.Core.assemble f false (f.exps - 1) (2 ^ (f.p - 2))) = .nan
    rw [fq_decasm (by omega) h5.1, if_pos rfl, if_neg (by omega)]
  | inf s =>
    show FP.Core.decode f (FP.Core.assemble f s (f.exps - 1) 0) = .inf s
    rw [fq_decasm (by omega) ht, if_pos rfl, if_pos rfl]
  | fin s c q =>
    obtain ⟨g1, g2, g3, g4⟩ := hd
    show FP.Core.decode f (if c < f.tails then FP.Core.assemble f s 0 c else FP.Core.assemble f s ((q - f.qmin).toNat + 1) (c - f.tails)) = _
    by_cases hc : c < f.tails
    · rw [if_pos hc, fq_decasm (by omega) hc, if_neg (by omega), if_pos rfl]
      congr 1
      omega
    · rw [if_neg hc, fq_decasm (by omega) (by omega), if_neg (by omega), if_neg (by omega)]
      congr 1
      · omega
      · omega
theorem fq_enclt {f : FP.Core.Fmt} (h : fq_good f) {d : FP.Core.Datum} (hd : FP.Core.fits f d) : FP.Core.encode f d < 2 * f.exps * f.tails := by
  have h1 := fq_exps h
  have h2 := fq_2t h
  have h3 := fq_emax h
  have h4 := fq_qq (f := f)
  have h5 := fq_t2 h
  have ht := fq_tp f
  cases d with
  | nan => exact fq_asmlt (by omega) h5.1
  | inf s => exact fq_asmlt (by omega) ht
  | fin s c q =>
    obtain ⟨g1, g2, g3, g4⟩ := hd
    show (if c < f.tails then FP.Core.assemble f s 0 c else FP.Core.assemble f s ((q - f.qmin).toNat + 1) (c - f.tails)) < _
    split
    · exact fq_asmlt (by omega) (by omega)
    · exact fq_asmlt (by omega) (by omega)
theorem fq_encdec {f : FP.Core.Fmt} (h : fq_good f) {n : Nat} (hn : n < 2 * f.exps * f.tails) (hd : FP.Core.decode f n ≠ .nan) : FP.Core.encode f (FP.Core.decode f n) = n := by
  have hE : FP.Core.fieldE f n < f.exps := Nat.mod_lt _ (fq_ep f)
  have hT : FP.Core.fieldT f n < f.tails := Nat.mod_lt _ (fq_tp f)
  have ha := fq_asm hn
  revert hd
  unfold FP.Core.decode
  split
  · rename_i h1
    split
    · rename_i h2
      intro _
      show FP.Core.assemble f _ (f.exps - 1) 0 = n
      rw [← h1, ← h2]; exact ha
    · intro h; exact absurd rfl h
  · split
    · rename_i h1 h2
      intro _
      show (if FP.Core.fieldT f n < f.tails then FP.Core.assemble f _ 0 (FP.Core.fieldT f n) else _) = n
      rw [if_pos hT, ← h2]; exact ha
    · rename_i h1 h2
      intro _
      show (if f.tails + FP.Core.fieldT f n < f.tails then _ else FP.Core.assemble f _ ((f.qmin + ((FP.Core.fieldE f n : Int) - 1) - f.qmin).toNat + 1) (f.tails + FP.Core.fieldT f n - f.tails)) = n
      rw [if_neg (by omega), show (f.qmin + ((FP.Core.fieldE f n : Int) - 1) - f.qmin).toNat + 1 = FP.Core.fieldE f n by omega, show f.tails + FP.Core.fieldT f n - f.tails = FP.Core.fieldT f n by omega]
      exact ha
