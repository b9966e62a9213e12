/-! the model's number taken apart -/
def bitsK (k : Int32) (x : Int64) : Nat := if k = 0 then jU x % 4294967296 else jU x
/-- the datum of a number's bits -/
def fr (k : Int32) (x : Int64) : FP.Core.Datum := FP.Core.decode (fm k) (bitsK k x)
theorem fr_fits {k : Int32} (h : isK k) (x : Int64) : FP.Core.fits (fm k) (fr k x) := fq_decfits (fm_good h) _
/-- what take lays down -/
def TK (k : Int32) (d : FP.Core.Datum) (post : (Int32 × Int32 × Int32 × Int64 × Int32) → Prop) : Prop := match d with
  | .nan => ∀ (m : Int64) (n : Int32), post (0, 1, 0, m, n)
  | .inf s => ∀ n : Int32, post (bz s, 0, 1, jZ ((fm k).tails : Int), n)
  | .fin s c q => post (bz s, 0, 0, jZ (c : Int), kZ q)

theorem take_0 (p2 : Int64) {post : (Int32 × Int32 × Int32 × Int64 × Int32) → Prop} (hp : TK 0 (fr 0 p2) post) : wX6_take 0 p2 post := by
  unfold wX6_take
  intro x1 e1 x2 e2 x4 e4 x6 e6 x8 e8 x9 e9 x10 e10 x13 e13 x16 e16 x18 e18 x20 e20 x21 e21 x23 e23
  have h1 : x1 = 23 := by rw [e1]; decide
  have h2 : x2 = 8 := by rw [e2]; decide
  subst h1 h2
  clear e1 e2
  obtain ⟨n, hn⟩ : ∃ n : Nat, n = (jU p2 % 4294967296) := ⟨_, rfl⟩
  have hb := jU_lt p2
  have hnl : n < 4294967296 := by rw [hn]; exact Nat.mod_lt _ (by decide)
  have h4 : x4 = jZ (n : Int) := by
    rw [e4, if_pos (show (0 : Int32) = 0 from rfl)]
    conv => lhs; rw [← jZ_U p2]
    rw [jZ_mask _ (k := 32) (by decide) (by decide), hn]; rfl
  have hfr : fr 0 p2 = FP.Core.decode FP.Core.b32 n := by
    unfold fr bitsK
    rw [if_pos (show (0 : Int32) = 0 from rfl), hn]; rfl
  rw [hfr] at hp
  have hE : n / 8388608 % 256 < 256 := Nat.mod_lt _ (by decide)
  have hT : n % 8388608 < 8388608 := Nat.mod_lt _ (by decide)
  unfold FP.Core.decode FP.Core.fieldE FP.Core.fieldT FP.Core.fieldS at hp
  rw [t32.1, t32.2] at hp
  have h6 : x6 = bz (n / 8388608 / 256 % 2 == 1) := by
    rw [e6, h4, show (23 : Int32) + 8 = kZ ((31 : Nat) : Int) from by decide, jZ_ushr (by omega) (by decide), jZ_mask _ (k := 1) (by decide) (by decide), ← Int.natCast_emod]
    have e9 : n / 2 ^ 31 % 2 ^ 1 = n / 8388608 / 256 % 2 := by omega
    rw [e9]
    rcases (show n / 8388608 / 256 % 2 = 0 ∨ n / 8388608 / 256 % 2 = 1 by omega) with h | h
    · rw [h]; decide
    · rw [h]; decide
  have h8 : x8 = kZ ((n / 8388608 % 256 : Nat) : Int) := by
    rw [e8, h4, show (23 : Int32) = kZ ((23 : Nat) : Int) from rfl, jZ_ushr (by omega) (by decide), jZ_k, kZ_mask _ (k := 8) (by decide) (by decide), ← Int.natCast_emod]
  have h9 : x9 = jZ ((n % 8388608 : Nat) : Int) := by
    rw [e9, h4, jZ_mask _ (k := 23) (by decide) (by decide), ← Int.natCast_emod]
  have hm1 : (kshl 1 (8 : Int32)) - 1 = kZ (((256 - 1 : Nat)) : Int) := by decide
  rw [hm1] at e10 e13
  have c8 : ∀ z : Nat, z < 4096 → (x8 = kZ (z : Int) ↔ n / 8388608 % 256 = z) := by
    intro z hz
    rw [h8, kZ_eq (by omega) (by omega) (by omega) (by omega)]
    omega
  have c80 : x8 = 0 ↔ n / 8388608 % 256 = 0 := c8 0 (by decide)
  have c9 : x9 = 0 ↔ n % 8388608 = 0 := by
    rw [h9, show (0 : Int64) = jZ 0 from rfl, jZ_eq (by omega) (by omega) (by omega) (by omega)]
    omega
  generalize hS : (n / 8388608 / 256 % 2 == 1) = S at *
  generalize hEE : n / 8388608 % 256 = Ex at *
  generalize hTT : n % 8388608 = T at *
  clear e4 e6 e8 e9
  by_cases g1 : Ex = 256 - 1
  · rw [if_pos ((c8 _ (by decide)).mpr g1)] at e10 e13
    rw [if_pos g1] at hp
    by_cases g2 : T = 0
    · rw [if_pos (c9.mpr g2)] at e10 e13
      rw [if_pos g2] at hp
      rw [e10, if_pos (show (0 : Int32) = 0 from rfl)] at e21
      have h23 : x23 = bz S := by rw [e23, h6, e21]; cases S <;> decide
      refine ⟨by rw [h23]; cases S <;> rfl, ?_⟩
      rw [if_neg (fun z => by have := c80.mp z; omega)] at e16
      have h16 : x16 = jZ (((fm 0).tails : Nat) : Int) := by rw [e16, h9, g2]; decide
      rw [h23, e10, e13, h16]
      exact hp x20
    · rw [if_neg (fun z => g2 (c9.mp z))] at e10 e13
      rw [if_neg g2] at hp
      rw [e10, if_neg (show ¬ (1 : Int32) = 0 by decide)] at e21
      have h23 : x23 = 0 := by rw [e23, h6, e21]; cases S <;> decide
      refine ⟨by rw [h23]; rfl, ?_⟩
      rw [h23, e10, e13]
      exact hp x16 x20
  · rw [if_neg (fun z => g1 ((c8 _ (by decide)).mp z))] at e10 e13
    rw [if_neg g1] at hp
    rw [e10, if_pos (show (0 : Int32) = 0 from rfl)] at e21
    have h23 : x23 = bz S := by rw [e23, h6, e21]; cases S <;> decide
    refine ⟨by rw [h23]; cases S <;> rfl, ?_⟩
    rw [h23, e10, e13]
    by_cases g3 : Ex = 0
    · rw [if_pos (c80.mpr g3)] at e16 e18
      rw [if_pos g3] at hp
      have h20 : x20 = kZ (fm 0).qmin := by rw [e20, e18]; decide
      rw [e16, h9, h20]
      exact hp
    · rw [if_neg (fun z => g3 (c80.mp z))] at e16 e18
      rw [if_neg g3] at hp
      have h20 : x20 = kZ ((fm 0).qmin + ((Ex : Int) - 1)) := by
        have e18' : x18 = kZ ((Ex : Int) - 1) := by rw [e18, h8]; exact kZ_sub _ 1
        rw [e20, e18', show fX6_least 0 = kZ (fm 0).qmin from by decide, kZ_add]
        congr 1
        omega
      have h16 : x16 = jZ ((8388608 + T : Nat) : Int) := by
        rw [e16, h9, show jshl 1 (23 : Int32) = jZ ((1 <<< 23 : Nat) : Int) from by decide, jZ_or (by omega) (by decide), Nat.or_comm, ← Nat.shiftLeft_add_eq_or_of_lt (by omega), show (1 <<< 23 : Nat) = 8388608 from rfl]
      rw [h16, h20]
      exact hp

theorem take_1 (p2 : Int64) {post : (Int32 × Int32 × Int32 × Int64 × Int32) → Prop} (hp : TK 1 (fr 1 p2) post) : wX6_take 1 p2 post := by
  unfold wX6_take
  intro x1 e1 x2 e2 x4 e4 x6 e6 x8 e8 x9 e9 x10 e10 x13 e13 x16 e16 x18 e18 x20 e20 x21 e21 x23 e23
  have h1 : x1 = 52 := by rw [e1]; decide
  have h2 : x2 = 11 := by rw [e2]; decide
  subst h1 h2
  clear e1 e2
  obtain ⟨n, hn⟩ : ∃ n : Nat, n = (jU p2) := ⟨_, rfl⟩
  have hb := jU_lt p2
  have hnl : n < 18446744073709551616 := by rw [hn]; exact hb
  have h4 : x4 = jZ (n : Int) := by
    rw [e4, if_neg (show ¬ (1 : Int32) = 0 by decide)]
    conv => lhs; rw [← jZ_U p2]
    rw [hn]
  have hfr : fr 1 p2 = FP.Core.decode FP.Core.b64 n := by
    unfold fr bitsK
    rw [if_neg (show ¬ (1 : Int32) = 0 by decide), hn]; rfl
  rw [hfr] at hp
  have hE : n / 4503599627370496 % 2048 < 2048 := Nat.mod_lt _ (by decide)
  have hT : n % 4503599627370496 < 4503599627370496 := Nat.mod_lt _ (by decide)
  unfold FP.Core.decode FP.Core.fieldE FP.Core.fieldT FP.Core.fieldS at hp
  rw [t64.1, t64.2] at hp
  have h6 : x6 = bz (n / 4503599627370496 / 2048 % 2 == 1) := by
    rw [e6, h4, show (52 : Int32) + 11 = kZ ((63 : Nat) : Int) from by decide, jZ_ushr (by omega) (by decide), jZ_mask _ (k := 1) (by decide) (by decide), ← Int.natCast_emod]
    have e9 : n / 2 ^ 63 % 2 ^ 1 = n / 4503599627370496 / 2048 % 2 := by omega
    rw [e9]
    rcases (show n / 4503599627370496 / 2048 % 2 = 0 ∨ n / 4503599627370496 / 2048 % 2 = 1 by omega) with h | h
    · rw [h]; decide
    · rw [h]; decide
  have h8 : x8 = kZ ((n / 4503599627370496 % 2048 : Nat) : Int) := by
    rw [e8, h4, show (52 : Int32) = kZ ((52 : Nat) : Int) from rfl, jZ_ushr (by omega) (by decide), jZ_k, kZ_mask _ (k := 11) (by decide) (by decide), ← Int.natCast_emod]
  have h9 : x9 = jZ ((n % 4503599627370496 : Nat) : Int) := by
    rw [e9, h4, jZ_mask _ (k := 52) (by decide) (by decide), ← Int.natCast_emod]
  have hm1 : (kshl 1 (11 : Int32)) - 1 = kZ (((2048 - 1 : Nat)) : Int) := by decide
  rw [hm1] at e10 e13
  have c8 : ∀ z : Nat, z < 4096 → (x8 = kZ (z : Int) ↔ n / 4503599627370496 % 2048 = z) := by
    intro z hz
    rw [h8, kZ_eq (by omega) (by omega) (by omega) (by omega)]
    omega
  have c80 : x8 = 0 ↔ n / 4503599627370496 % 2048 = 0 := c8 0 (by decide)
  have c9 : x9 = 0 ↔ n % 4503599627370496 = 0 := by
    rw [h9, show (0 : Int64) = jZ 0 from rfl, jZ_eq (by omega) (by omega) (by omega) (by omega)]
    omega
  generalize hS : (n / 4503599627370496 / 2048 % 2 == 1) = S at *
  generalize hEE : n / 4503599627370496 % 2048 = Ex at *
  generalize hTT : n % 4503599627370496 = T at *
  clear e4 e6 e8 e9
  by_cases g1 : Ex = 2048 - 1
  · rw [if_pos ((c8 _ (by decide)).mpr g1)] at e10 e13
    rw [if_pos g1] at hp
    by_cases g2 : T = 0
    · rw [if_pos (c9.mpr g2)] at e10 e13
      rw [if_pos g2] at hp
      rw [e10, if_pos (show (0 : Int32) = 0 from rfl)] at e21
      have h23 : x23 = bz S := by rw [e23, h6, e21]; cases S <;> decide
      refine ⟨by rw [h23]; cases S <;> rfl, ?_⟩
      rw [if_neg (fun z => by have := c80.mp z; omega)] at e16
      have h16 : x16 = jZ (((fm 1).tails : Nat) : Int) := by rw [e16, h9, g2]; decide
      rw [h23, e10, e13, h16]
      exact hp x20
    · rw [if_neg (fun z => g2 (c9.mp z))] at e10 e13
      rw [if_neg g2] at hp
      rw [e10, if_neg (show ¬ (1 : Int32) = 0 by decide)] at e21
      have h23 : x23 = 0 := by rw [e23, h6, e21]; cases S <;> decide
      refine ⟨by rw [h23]; rfl, ?_⟩
      rw [h23, e10, e13]
      exact hp x16 x20
  · rw [if_neg (fun z => g1 ((c8 _ (by decide)).mp z))] at e10 e13
    rw [if_neg g1] at hp
    rw [e10, if_pos (show (0 : Int32) = 0 from rfl)] at e21
    have h23 : x23 = bz S := by rw [e23, h6, e21]; cases S <;> decide
    refine ⟨by rw [h23]; cases S <;> rfl, ?_⟩
    rw [h23, e10, e13]
    by_cases g3 : Ex = 0
    · rw [if_pos (c80.mpr g3)] at e16 e18
      rw [if_pos g3] at hp
      have h20 : x20 = kZ (fm 1).qmin := by rw [e20, e18]; decide
      rw [e16, h9, h20]
      exact hp
    · rw [if_neg (fun z => g3 (c80.mp z))] at e16 e18
      rw [if_neg g3] at hp
      have h20 : x20 = kZ ((fm 1).qmin + ((Ex : Int) - 1)) := by
        have e18' : x18 = kZ ((Ex : Int) - 1) := by rw [e18, h8]; exact kZ_sub _ 1
        rw [e20, e18', show fX6_least 1 = kZ (fm 1).qmin from by decide, kZ_add]
        congr 1
        omega
      have h16 : x16 = jZ ((4503599627370496 + T : Nat) : Int) := by
        rw [e16, h9, show jshl 1 (52 : Int32) = jZ ((1 <<< 52 : Nat) : Int) from by decide, jZ_or (by omega) (by decide), Nat.or_comm, ← Nat.shiftLeft_add_eq_or_of_lt (by omega), show (1 <<< 52 : Nat) = 4503599627370496 from rfl]
      rw [h16, h20]
      exact hp

theorem take_K {k : Int32} (hk : isK k) (p2 : Int64) {post : (Int32 × Int32 × Int32 × Int64 × Int32) → Prop} (hp : TK k (fr k p2) post) : wX6_take k p2 post := by
  rcases hk with rfl | rfl
  · exact take_0 p2 hp
  · exact take_1 p2 hp

