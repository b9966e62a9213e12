def wX0_take_N (p1 : Int32) (post : UInt64 → Unit → Prop) (px : Nat → Unit → Prop) : Prop := ((p1 = 0) → px 0 ()) ∧ (¬ (p1 = 0) → px 0 ())
set_option maxHeartbeats 4000000 in
set_option maxRecDepth 100000 in
theorem mX0_take_N (l : Launch) (D : va_G) (TY : Nat → ClassId) (sz : Nat) (p1 : Int32) (p2 : Int32) (post : UInt64 → Unit → Prop) (px : Nat → Unit → Prop) (hst : l.stackTraces = false) (hw : wX0_take_N p1 post px) : vy_Met l yX0_take (ws_ yX0_take cX0_take 4 (Option.some Jvm.ClassFile.FieldType.double)) ({ frames := 8, cells := 1, slots := 8, locals := 10240 }) (PC D TY [.null, .int p1, .int p2] sz []) (va_Qd post (fun (u : Unit) t => BB D TY (va_A [] sz) [] t) (va_A [] sz)) (vx_X (fun (u : Nat × Unit) => px u.1 u.2) (fun E _ (u : Nat × Unit) t => E = exN u.1 ∧ (u.1 = 0) ∧ BB D TY (va_A [] sz) [] t) (va_A [] sz)) 1 8 (va_A [] sz) := by
  refine vy_ofW (cc := cX0_take) (maxL := 4) (ret := (Option.some Jvm.ClassFile.FieldType.double)) (by decide) rfl ?_
  intro p e s m args below meth c s₁ B hml htab hv
  obtain ⟨rfl, hsz, hP, hK, hD0, hG⟩ := hv
  have hx := B.exec
  have hb := B.bytes
  have hr := B.returns
  have hts0 := atoms_spec (ws := ws_ yX0_take cX0_take 4 (Option.some Jvm.ClassFile.FieldType.double)) B.pre
  have hts : ∀ w ∈ lw_all, w.before _ s = true := fun w h => hts0 w (List.mem_cons_of_mem _ h)
  have hown : s.vm.findClass RX0 = some m.cls := findClass_of_methodNamed B.named
  have hlocks := B.notSynchronized
  subst hsz
  have hD := hD0.self (sz := s.heap.size)
  generalize hAe : va_A [] s.heap.size = A at hD hG ⊢
  have hA : ∀ q : Nat, s.heap.size ≤ q → A q := fun q h => by rw [← hAe]; exact Or.inr h
  have hS : va_S A s.heap s.heap [] := va_S.rf
  have hP : va_P D vwCl [] s.heap := hP
  have hl := lv_entry ([.null, .int p1, .int p2]) (n := 4) (Nat.le_of_ble_eq_true rfl)
  rw [lg_entry_eq]
  generalize (lg_sl ([.null, .int p1, .int p2]) ++ List.replicate (4 - (lg_sl ([.null, .int p1, .int p2])).length) Slot.unset).toArray = ls at hl ⊢
  have hl : lv_has ls 4 [(0, .null), (1, .int p1), (2, .int p2)] := hl
  unfold wX0_take_N at hw
  refine lv_iload_n hx hb dX0_take_0 rfl (lv_at hl 1 rfl) ?_
  refine lv_if_eq (tgt := 11) hx hb dX0_take_1 (by decide) (fun c1 => ?_) (fun c1 => ?_)
  · replace hw := hw.1 c1
    refine lv_aload_nN hx hb dX0_take_11 rfl (lv_at hl 0 rfl) ?_
    refine lv_castN hx hb dX0_take_12 ?_
    refine lv_iload_n hx hb dX0_take_15 rfl (lv_at hl 2 rfl) ?_
    refine vx_faloadN hx hb dX0_take_16 ?_
    refine nx_0 hx hst hts hG hS (hl.1.trans hml.symm) (Nat.le_of_ble_eq_true rfl) (Nat.le_of_ble_eq_true rfl) (Nat.le_of_ble_eq_true rfl) (Nat.le_of_ble_eq_true rfl) hlocks (fun H e2 ce2 ze2 ke2 hS he2 ve2 le2 => ?_)
    replace hP : va_P D vwCl [] H := va_P.grow hP ke2
    have hP9 := hP.sub (ws' := []) [] rfl
    have hD9 := hD.sub (ws' := []) [] (by decide) rfl
    refine vy_out (E := "java/lang/NullPointerException") (fun x h => (htab x h).elim) hlocks he2 ve2 le2 (fun t ht hvm => ⟨(0, ()), hw, ⟨rfl, rfl, BB.mkA hP9 hD9 hK ht hvm⟩, hS.F ht⟩) hS.2.2 (Nat.le_of_ble_eq_true rfl) (Nat.le_of_ble_eq_true rfl)
  · replace hw := hw.2 c1
    refine lv_aload_nN hx hb dX0_take_4 rfl (lv_at hl 0 rfl) ?_
    refine lv_castN hx hb dX0_take_5 ?_
    refine lv_iload_n hx hb dX0_take_8 rfl (lv_at hl 2 rfl) ?_
    refine vx_daloadN hx hb dX0_take_9 ?_
    refine nx_0 hx hst hts hG hS (hl.1.trans hml.symm) (Nat.le_of_ble_eq_true rfl) (Nat.le_of_ble_eq_true rfl) (Nat.le_of_ble_eq_true rfl) (Nat.le_of_ble_eq_true rfl) hlocks (fun H e3 ce3 ze3 ke3 hS he3 ve3 le3 => ?_)
    replace hP : va_P D vwCl [] H := va_P.grow hP ke3
    have hP9 := hP.sub (ws' := []) [] rfl
    have hD9 := hD.sub (ws' := []) [] (by decide) rfl
    refine vy_out (E := "java/lang/NullPointerException") (fun x h => (htab x h).elim) hlocks he3 ve3 le3 (fun t ht hvm => ⟨(0, ()), hw, ⟨rfl, rfl, BB.mkA hP9 hD9 hK ht hvm⟩, hS.F ht⟩) hS.2.2 (Nat.le_of_ble_eq_true rfl) (Nat.le_of_ble_eq_true rfl)

def wX0_take_F (n0 : Nat) (f0 : Nat → UInt32) (p1 : Int32) (p2 : Int32) (post : UInt64 → Unit → Prop) (px : Nat → Unit → Prop) : Prop := ((p1 = 0) → ((vp_in p2 n0) → ∀ x3 : UInt32, x3 = f0 p2.toNatClampNeg → (((Feq x3 x3) → (vf_n64 (FP.f2d x3))) ∧ (¬ (Feq x3 x3) → True)) ∧ (∀ x4 : UInt64, x4 = (if Feq x3 x3 then (FP.f2d x3) else 9221120237041090560) → post x4 ())) ∧ (¬ (vp_in p2 n0) → (n0 < 2147483648) ∧ (px 2 ()))) ∧ (¬ (p1 = 0) → px 1 ())
set_option maxHeartbeats 4000000 in
set_option maxRecDepth 100000 in
theorem mX0_take_F (l : Launch) (D : va_G) (TY : Nat → ClassId) (sz : Nat) (r0 : Nat) (n0 : Nat) (f0 : Nat → UInt32) (p1 : Int32) (p2 : Int32) (post : UInt64 → Unit → Prop) (px : Nat → Unit → Prop) (hst : l.stackTraces = false) (hw : wX0_take_F n0 f0 p1 p2 post px) : vy_Met l yX0_take (ws_ yX0_take cX0_take 4 (Option.some Jvm.ClassFile.FieldType.double)) ({ frames := 8, cells := 3, slots := 222, locals := 10241 }) (PC D TY [.ref r0, .int p1, .int p2] sz [(r0, .inl (TY 2, n0, .inr (.inr (.inl f0))))]) (va_Qd post (fun (u : Unit) t => BB D TY (va_A [(r0, .inl (TY 2, n0, .inr (.inr (.inl f0))))] sz) [(r0, .inl (TY 2, n0, .inr (.inr (.inl f0))))] t) (va_A [(r0, .inl (TY 2, n0, .inr (.inr (.inl f0))))] sz)) (vx_X (fun (u : Nat × Unit) => px u.1 u.2) (fun E _ (u : Nat × Unit) t => E = exN u.1 ∧ (u.1 = 1 ∨ u.1 = 2) ∧ BB D TY (va_A [(r0, .inl (TY 2, n0, .inr (.inr (.inl f0))))] sz) [(r0, .inl (TY 2, n0, .inr (.inr (.inl f0))))] t) (va_A [(r0, .inl (TY 2, n0, .inr (.inr (.inl f0))))] sz)) 3 222 (va_A [(r0, .inl (TY 2, n0, .inr (.inr (.inl f0))))] sz) := by
  refine vy_ofW (cc := cX0_take) (maxL := 4) (ret := (Option.some Jvm.ClassFile.FieldType.double)) (by decide) rfl ?_
  intro p e s m args below meth c s₁ B hml htab hv
  obtain ⟨rfl, hsz, hP, hK, hD0, hG⟩ := hv
  have hx := B.exec
  have hb := B.bytes
  have hr := B.returns
  have hts0 := atoms_spec (ws := ws_ yX0_take cX0_take 4 (Option.some Jvm.ClassFile.FieldType.double)) B.pre
  have hts : ∀ w ∈ lw_all, w.before _ s = true := fun w h => hts0 w (List.mem_cons_of_mem _ h)
  have hown : s.vm.findClass RX0 = some m.cls := findClass_of_methodNamed B.named
  have hlocks := B.notSynchronized
  subst hsz
  have hD := hD0.self (sz := s.heap.size)
  generalize hAe : va_A [(r0, .inl (TY 2, n0, .inr (.inr (.inl f0))))] s.heap.size = A at hD hG ⊢
  have hA : ∀ q : Nat, s.heap.size ≤ q → A q := fun q h => by rw [← hAe]; exact Or.inr h
  have hS : va_S A s.heap s.heap [] := va_S.rf
  have hP : va_P D vwCl [(r0, .inl (TY 2, n0, .inr (.inr (.inl f0))))] s.heap := hP
  have hl := lv_entry ([.ref r0, .int p1, .int p2]) (n := 4) (Nat.le_of_ble_eq_true rfl)
  rw [lg_entry_eq]
  generalize (lg_sl ([.ref r0, .int p1, .int p2]) ++ List.replicate (4 - (lg_sl ([.ref r0, .int p1, .int p2])).length) Slot.unset).toArray = ls at hl ⊢
  have hl : lv_has ls 4 [(0, .ref r0), (1, .int p1), (2, .int p2)] := hl
  unfold wX0_take_F at hw
  refine lv_iload_n hx hb dX0_take_0 rfl (lv_at hl 1 rfl) ?_
  refine lv_if_eq (tgt := 11) hx hb dX0_take_1 (by decide) (fun c1 => ?_) (fun c1 => ?_)
  · replace hw := hw.1 c1
    refine lv_aload_n hx hb dX0_take_11 rfl (lv_at hl 0 rfl) ?_
    refine va_castA hx hb hown (hts _ q1069) hP 0 rfl (nx_F (hK.2 2 _ rfl).2) dX0_take_12 ?_
    refine lv_iload_n hx hb dX0_take_15 rfl (lv_at hl 2 rfl) ?_
    by_cases c2 : vp_in p2 n0
    · replace hw := hw.1 c2
      refine va_fald (i := p2) hx hb hK hP 0 2 rfl rfl c2 dX0_take_16 ?_
      refine lv_topf (fun x3 ex3 => ?_)
      replace hw := hw x3 ex3
      refine lv_fstore_n (lv' := [(3, .float x3), (0, .ref r0), (1, .int p1), (2, .int p2)]) hx hb dX0_take_17 rfl hl (by decide) rfl (fun ls hl => ?_)
      refine lv_fload_n hx hb dX0_take_18 rfl (lv_at hl 0 rfl) ?_
      refine lv_fload_n hx hb dX0_take_19 rfl (lv_at hl 0 rfl) ?_
      obtain ⟨PJx4, hPJx4⟩ : ∃ P : UInt64 → Prop, ∀ x4 : UInt64, P x4 ↔ ∀ ls : Array Slot, lv_has ls 4 [] → W p l e (headSpec (ws_ yX0_take cX0_take 4 (Option.some Jvm.ClassFile.FieldType.double)) ({ frames := 8, cells := 3, slots := 222, locals := 10241 })).room s m ([.ref r0, .int p1, .int p2] : List Value).toArray below meth c s.heap ([]) 0 0 (vy_MQ below (va_Qd post (fun (u : Unit) t => BB D TY A [(r0, .inl (TY 2, n0, .inr (.inr (.inl f0))))] t) A) (vx_X (fun (u : Nat × Unit) => px u.1 u.2) (fun E _ (u : Nat × Unit) t => E = exN u.1 ∧ (u.1 = 1 ∨ u.1 = 2) ∧ BB D TY A [(r0, .inl (TY 2, n0, .inr (.inr (.inl f0))))] t) A) ([.ref r0, .int p1, .int p2] : List Value).toArray s 3 222 A) (F0 m 32 ls [.double x4]) := ⟨_, fun _ => Iff.rfl⟩
      have hox4 := hw.1
      have hjx4 : ∀ x4 : UInt64, x4 = (if Feq x3 x3 then (FP.f2d x3) else 9221120237041090560) → PJx4 x4 := by
        intro x4 ex4
        rw [hPJx4]
        intro ls hl
        replace hw := hw.2 x4 ex4
        refine vy_ret ?_
        have hP9 := hP.sub (ws' := [(r0, .inl (TY 2, n0, .inr (.inr (.inl f0))))]) [0] rfl
        have hD9 := hD.sub (ws' := [(r0, .inl (TY 2, n0, .inr (.inr (.inl f0))))]) [0] (by decide) rfl
        exact W.dret (v := x4) hx hb hr (fun t ht hW => ⟨⟨x4, (), rfl, hw, BB.mk hP9 hD9 hK ht hW⟩, hS.F ht⟩) hS.2.2 dX0_take_32
      replace hjx4 := hjx4 _ rfl
      refine lx_fleq (tgt := 30) hx hb dX0_take_20 dX0_take_21 (by decide) (fun c5 => ?_) (fun c5 => ?_)
      · replace hjx4 := pf_t (P := PJx4) c5 hjx4
        replace hox4 := hox4.1 c5
        refine lv_fload_n hx hb dX0_take_30 rfl (lv_at hl 0 rfl) ?_
        refine lv_f2d hx hb dX0_take_31 hox4 ?_
        exact (hPJx4 _).1 hjx4 _ (lv_sub hl [] rfl)
      · replace hjx4 := pf_f (P := PJx4) c5 hjx4
        refine va_gets hx hb hG.nn hS hown (hts _ q1079) (fun _ h => h) dX0_take_24 ?_
        refine lv_goto (tgt := 32) hx hb dX0_take_27 (by decide) ?_
        exact (hPJx4 _).1 hjx4 _ (lv_sub hl [] rfl)
    · replace hw := hw.2 c2
      have hnc2 := hw.1
      replace hw := hw.2
      refine vx_faldZ hx hb hK hP 0 2 rfl rfl c2 dX0_take_16 (fun tx etx => ?_)
      refine nx_2 (nb := 212) hx hst hts hG hS (hl.1.trans hml.symm) (by rw [etx]; exact index_text_modelled _ _) (by rw [etx]; exact index_text_bytes _ hnc2) (by decide) (Nat.le_of_ble_eq_true rfl) (Nat.le_of_ble_eq_true rfl) (Nat.le_of_ble_eq_true rfl) (Nat.le_of_ble_eq_true rfl) hlocks (fun H e6 ce6 ze6 ke6 hS he6 ve6 le6 => ?_)
      replace hP : va_P D vwCl [(r0, .inl (TY 2, n0, .inr (.inr (.inl f0))))] H := va_P.grow hP ke6
      have hP9 := hP.sub (ws' := [(r0, .inl (TY 2, n0, .inr (.inr (.inl f0))))]) [0] rfl
      have hD9 := hD.sub (ws' := [(r0, .inl (TY 2, n0, .inr (.inr (.inl f0))))]) [0] (by decide) rfl
      refine vy_out (E := "java/lang/ArrayIndexOutOfBoundsException") (fun x h => (htab x h).elim) hlocks he6 ve6 le6 (fun t ht hvm => ⟨(2, ()), hw, ⟨rfl, (Or.inr rfl), BB.mkA hP9 hD9 hK ht hvm⟩, hS.F ht⟩) hS.2.2 (Nat.le_of_ble_eq_true rfl) (Nat.le_of_ble_eq_true rfl)
  · replace hw := hw.2 c1
    refine lv_aload_n hx hb dX0_take_4 rfl (lv_at hl 0 rfl) ?_
    refine nx_castZ hx hb hown (hts _ q1071) hG (gz_nc165 hG) (Or.inl rfl) (nx_arr (ty := .float) hK hP 0 2 rfl rfl nx_F) dX0_take_5 (fun tx htx => ?_)
    refine nx_1 (nb := 212) hx hst hts hG hS (hl.1.trans hml.symm) htx.1 htx.2 (by decide) (Nat.le_of_ble_eq_true rfl) (Nat.le_of_ble_eq_true rfl) (Nat.le_of_ble_eq_true rfl) (Nat.le_of_ble_eq_true rfl) hlocks (fun H e7 ce7 ze7 ke7 hS he7 ve7 le7 => ?_)
    replace hP : va_P D vwCl [(r0, .inl (TY 2, n0, .inr (.inr (.inl f0))))] H := va_P.grow hP ke7
    have hP9 := hP.sub (ws' := [(r0, .inl (TY 2, n0, .inr (.inr (.inl f0))))]) [0] rfl
    have hD9 := hD.sub (ws' := [(r0, .inl (TY 2, n0, .inr (.inr (.inl f0))))]) [0] (by decide) rfl
    refine vy_out (E := "java/lang/ClassCastException") (fun x h => (htab x h).elim) hlocks he7 ve7 le7 (fun t ht hvm => ⟨(1, ()), hw, ⟨rfl, (Or.inl rfl), BB.mkA hP9 hD9 hK ht hvm⟩, hS.F ht⟩) hS.2.2 (Nat.le_of_ble_eq_true rfl) (Nat.le_of_ble_eq_true rfl)

def wX0_take_D (n0 : Nat) (f0 : Nat → UInt64) (p1 : Int32) (p2 : Int32) (post : UInt64 → Unit → Prop) (px : Nat → Unit → Prop) : Prop := ((p1 = 0) → px 1 ()) ∧ (¬ (p1 = 0) → ((vp_in p2 n0) → post (f0 p2.toNatClampNeg) ()) ∧ (¬ (vp_in p2 n0) → (n0 < 2147483648) ∧ (px 2 ())))
set_option maxHeartbeats 4000000 in
set_option maxRecDepth 100000 in
theorem mX0_take_D (l : Launch) (D : va_G) (TY : Nat → ClassId) (sz : Nat) (r0 : Nat) (n0 : Nat) (f0 : Nat → UInt64) (p1 : Int32) (p2 : Int32) (post : UInt64 → Unit → Prop) (px : Nat → Unit → Prop) (hst : l.stackTraces = false) (hw : wX0_take_D n0 f0 p1 p2 post px) : vy_Met l yX0_take (ws_ yX0_take cX0_take 4 (Option.some Jvm.ClassFile.FieldType.double)) ({ frames := 8, cells := 3, slots := 222, locals := 10241 }) (PC D TY [.ref r0, .int p1, .int p2] sz [(r0, .inl (TY 3, n0, .inr (.inr (.inr (.inl f0)))))]) (va_Qd post (fun (u : Unit) t => BB D TY (va_A [(r0, .inl (TY 3, n0, .inr (.inr (.inr (.inl f0)))))] sz) [(r0, .inl (TY 3, n0, .inr (.inr (.inr (.inl f0)))))] t) (va_A [(r0, .inl (TY 3, n0, .inr (.inr (.inr (.inl f0)))))] sz)) (vx_X (fun (u : Nat × Unit) => px u.1 u.2) (fun E _ (u : Nat × Unit) t => E = exN u.1 ∧ (u.1 = 1 ∨ u.1 = 2) ∧ BB D TY (va_A [(r0, .inl (TY 3, n0, .inr (.inr (.inr (.inl f0)))))] sz) [(r0, .inl (TY 3, n0, .inr (.inr (.inr (.inl f0)))))] t) (va_A [(r0, .inl (TY 3, n0, .inr (.inr (.inr (.inl f0)))))] sz)) 3 222 (va_A [(r0, .inl (TY 3, n0, .inr (.inr (.inr (.inl f0)))))] sz) := by
  refine vy_ofW (cc := cX0_take) (maxL := 4) (ret := (Option.some Jvm.ClassFile.FieldType.double)) (by decide) rfl ?_
  intro p e s m args below meth c s₁ B hml htab hv
  obtain ⟨rfl, hsz, hP, hK, hD0, hG⟩ := hv
  have hx := B.exec
  have hb := B.bytes
  have hr := B.returns
  have hts0 := atoms_spec (ws := ws_ yX0_take cX0_take 4 (Option.some Jvm.ClassFile.FieldType.double)) B.pre
  have hts : ∀ w ∈ lw_all, w.before _ s = true := fun w h => hts0 w (List.mem_cons_of_mem _ h)
  have hown : s.vm.findClass RX0 = some m.cls := findClass_of_methodNamed B.named
  have hlocks := B.notSynchronized
  subst hsz
  have hD := hD0.self (sz := s.heap.size)
  generalize hAe : va_A [(r0, .inl (TY 3, n0, .inr (.inr (.inr (.inl f0)))))] s.heap.size = A at hD hG ⊢
  have hA : ∀ q : Nat, s.heap.size ≤ q → A q := fun q h => by rw [← hAe]; exact Or.inr h
  have hS : va_S A s.heap s.heap [] := va_S.rf
  have hP : va_P D vwCl [(r0, .inl (TY 3, n0, .inr (.inr (.inr (.inl f0)))))] s.heap := hP
  have hl := lv_entry ([.ref r0, .int p1, .int p2]) (n := 4) (Nat.le_of_ble_eq_true rfl)
  rw [lg_entry_eq]
  generalize (lg_sl ([.ref r0, .int p1, .int p2]) ++ List.replicate (4 - (lg_sl ([.ref r0, .int p1, .int p2])).length) Slot.unset).toArray = ls at hl ⊢
  have hl : lv_has ls 4 [(0, .ref r0), (1, .int p1), (2, .int p2)] := hl
  unfold wX0_take_D at hw
  refine lv_iload_n hx hb dX0_take_0 rfl (lv_at hl 1 rfl) ?_
  refine lv_if_eq (tgt := 11) hx hb dX0_take_1 (by decide) (fun c1 => ?_) (fun c1 => ?_)
  · replace hw := hw.1 c1
    refine lv_aload_n hx hb dX0_take_11 rfl (lv_at hl 0 rfl) ?_
    refine nx_castZ hx hb hown (hts _ q1069) hG (gz_nc144 hG) (Or.inr rfl) (nx_arr (ty := .double) hK hP 0 3 rfl rfl nx_D) dX0_take_12 (fun tx htx => ?_)
    refine nx_1 (nb := 212) hx hst hts hG hS (hl.1.trans hml.symm) htx.1 htx.2 (by decide) (Nat.le_of_ble_eq_true rfl) (Nat.le_of_ble_eq_true rfl) (Nat.le_of_ble_eq_true rfl) (Nat.le_of_ble_eq_true rfl) hlocks (fun H e2 ce2 ze2 ke2 hS he2 ve2 le2 => ?_)
    replace hP : va_P D vwCl [(r0, .inl (TY 3, n0, .inr (.inr (.inr (.inl f0)))))] H := va_P.grow hP ke2
    have hP9 := hP.sub (ws' := [(r0, .inl (TY 3, n0, .inr (.inr (.inr (.inl f0)))))]) [0] rfl
    have hD9 := hD.sub (ws' := [(r0, .inl (TY 3, n0, .inr (.inr (.inr (.inl f0)))))]) [0] (by decide) rfl
    refine vy_out (E := "java/lang/ClassCastException") (fun x h => (htab x h).elim) hlocks he2 ve2 le2 (fun t ht hvm => ⟨(1, ()), hw, ⟨rfl, (Or.inl rfl), BB.mkA hP9 hD9 hK ht hvm⟩, hS.F ht⟩) hS.2.2 (Nat.le_of_ble_eq_true rfl) (Nat.le_of_ble_eq_true rfl)
  · replace hw := hw.2 c1
    refine lv_aload_n hx hb dX0_take_4 rfl (lv_at hl 0 rfl) ?_
    refine va_castA hx hb hown (hts _ q1071) hP 0 rfl (nx_D (hK.2 3 _ rfl).2) dX0_take_5 ?_
    refine lv_iload_n hx hb dX0_take_8 rfl (lv_at hl 2 rfl) ?_
    by_cases c3 : vp_in p2 n0
    · replace hw := hw.1 c3
      refine va_dald (i := p2) hx hb hK hP 0 3 rfl rfl c3 dX0_take_9 ?_
      refine vy_ret ?_
      have hP9 := hP.sub (ws' := [(r0, .inl (TY 3, n0, .inr (.inr (.inr (.inl f0)))))]) [0] rfl
      have hD9 := hD.sub (ws' := [(r0, .inl (TY 3, n0, .inr (.inr (.inr (.inl f0)))))]) [0] (by decide) rfl
      exact W.dret (v := f0 p2.toNatClampNeg) hx hb hr (fun t ht hW => ⟨⟨f0 p2.toNatClampNeg, (), rfl, hw, BB.mk hP9 hD9 hK ht hW⟩, hS.F ht⟩) hS.2.2 dX0_take_10
    · replace hw := hw.2 c3
      have hnc3 := hw.1
      replace hw := hw.2
      refine vx_daldZ hx hb hK hP 0 3 rfl rfl c3 dX0_take_9 (fun tx etx => ?_)
      refine nx_2 (nb := 212) hx hst hts hG hS (hl.1.trans hml.symm) (by rw [etx]; exact index_text_modelled _ _) (by rw [etx]; exact index_text_bytes _ hnc3) (by decide) (Nat.le_of_ble_eq_true rfl) (Nat.le_of_ble_eq_true rfl) (Nat.le_of_ble_eq_true rfl) (Nat.le_of_ble_eq_true rfl) hlocks (fun H e4 ce4 ze4 ke4 hS he4 ve4 le4 => ?_)
      replace hP : va_P D vwCl [(r0, .inl (TY 3, n0, .inr (.inr (.inr (.inl f0)))))] H := va_P.grow hP ke4
      have hP9 := hP.sub (ws' := [(r0, .inl (TY 3, n0, .inr (.inr (.inr (.inl f0)))))]) [0] rfl
      have hD9 := hD.sub (ws' := [(r0, .inl (TY 3, n0, .inr (.inr (.inr (.inl f0)))))]) [0] (by decide) rfl
      refine vy_out (E := "java/lang/ArrayIndexOutOfBoundsException") (fun x h => (htab x h).elim) hlocks he4 ve4 le4 (fun t ht hvm => ⟨(2, ()), hw, ⟨rfl, (Or.inr rfl), BB.mkA hP9 hD9 hK ht hvm⟩, hS.F ht⟩) hS.2.2 (Nat.le_of_ble_eq_true rfl) (Nat.le_of_ble_eq_true rfl)

def wX0_lay_N (p1 : Int32) (p3 : UInt64) (post : Unit → Prop) (px : Nat → Unit → Prop) : Prop := ((p1 = 0) → (((Deq p3 p3) → (vf_n32 (FP.d2f p3))) ∧ (¬ (Deq p3 p3) → True)) ∧ (∀ x3 : UInt32, x3 = (if Deq p3 p3 then (FP.d2f p3) else 2143289344) → px 0 ())) ∧ (¬ (p1 = 0) → px 0 ())
set_option maxHeartbeats 4000000 in
set_option maxRecDepth 100000 in
theorem mX0_lay_N (l : Launch) (D : va_G) (TY : Nat → ClassId) (sz : Nat) (p1 : Int32) (p2 : Int32) (p3 : UInt64) (post : Unit → Prop) (px : Nat → Unit → Prop) (hst : l.stackTraces = false) (hw : wX0_lay_N p1 p3 post px) : vy_Met l yX0_lay (ws_ yX0_lay cX0_lay 5 (Option.none : Option Jvm.ClassFile.FieldType)) ({ frames := 8, cells := 1, slots := 8, locals := 10240 }) (PC D TY [.null, .int p1, .int p2, .double p3] sz []) (va_Qv post (fun (u : Unit) t => BB D TY (va_A [] sz) [] t) (va_A [] sz)) (vx_X (fun (u : Nat × Unit) => px u.1 u.2) (fun E _ (u : Nat × Unit) t => E = exN u.1 ∧ (u.1 = 0) ∧ BB D TY (va_A [] sz) [] t) (va_A [] sz)) 1 8 (va_A [] sz) := by
  refine vy_ofW (cc := cX0_lay) (maxL := 5) (ret := (Option.none : Option Jvm.ClassFile.FieldType)) (by decide) rfl ?_
  intro p e s m args below meth c s₁ B hml htab hv
  obtain ⟨rfl, hsz, hP, hK, hD0, hG⟩ := hv
  have hx := B.exec
  have hb := B.bytes
  have hr := B.returns
  have hts0 := atoms_spec (ws := ws_ yX0_lay cX0_lay 5 (Option.none : Option Jvm.ClassFile.FieldType)) B.pre
  have hts : ∀ w ∈ lw_all, w.before _ s = true := fun w h => hts0 w (List.mem_cons_of_mem _ h)
  have hown : s.vm.findClass RX0 = some m.cls := findClass_of_methodNamed B.named
  have hlocks := B.notSynchronized
  subst hsz
  have hD := hD0.self (sz := s.heap.size)
  generalize hAe : va_A [] s.heap.size = A at hD hG ⊢
  have hA : ∀ q : Nat, s.heap.size ≤ q → A q := fun q h => by rw [← hAe]; exact Or.inr h
  have hS : va_S A s.heap s.heap [] := va_S.rf
  have hP : va_P D vwCl [] s.heap := hP
  have hl := lv_entry ([.null, .int p1, .int p2, .double p3]) (n := 5) (Nat.le_of_ble_eq_true rfl)
  rw [lg_entry_eq]
  generalize (lg_sl ([.null, .int p1, .int p2, .double p3]) ++ List.replicate (5 - (lg_sl ([.null, .int p1, .int p2, .double p3])).length) Slot.unset).toArray = ls at hl ⊢
  have hl : lv_has ls 5 [(0, .null), (1, .int p1), (2, .int p2), (3, .double p3)] := hl
  unfold wX0_lay_N at hw
  refine lv_iload_n hx hb dX0_lay_0 rfl (lv_at hl 1 rfl) ?_
  refine lv_if_ne (tgt := 27) hx hb dX0_lay_1 (by decide) (fun c1 => ?_) (fun c1 => ?_)
  · replace hw := hw.2 c1
    refine lv_aload_nN hx hb dX0_lay_27 rfl (lv_at hl 0 rfl) ?_
    refine lv_castN hx hb dX0_lay_28 ?_
    refine lv_iload_n hx hb dX0_lay_31 rfl (lv_at hl 2 rfl) ?_
    refine lv_dload_n hx hb dX0_lay_32 rfl (lv_at hl 3 rfl) ?_
    refine vx_dastoreN hx hb dX0_lay_33 ?_
    refine nx_0 hx hst hts hG hS (hl.1.trans hml.symm) (Nat.le_of_ble_eq_true rfl) (Nat.le_of_ble_eq_true rfl) (Nat.le_of_ble_eq_true rfl) (Nat.le_of_ble_eq_true rfl) hlocks (fun H e2 ce2 ze2 ke2 hS he2 ve2 le2 => ?_)
    replace hP : va_P D vwCl [] H := va_P.grow hP ke2
    have hP9 := hP.sub (ws' := []) [] rfl
    have hD9 := hD.sub (ws' := []) [] (by decide) rfl
    refine vy_out (E := "java/lang/NullPointerException") (fun x h => (htab x h).elim) hlocks he2 ve2 le2 (fun t ht hvm => ⟨(0, ()), hw, ⟨rfl, rfl, BB.mkA hP9 hD9 hK ht hvm⟩, hS.F ht⟩) hS.2.2 (Nat.le_of_ble_eq_true rfl) (Nat.le_of_ble_eq_true rfl)
  · replace hw := hw.1 c1
    refine lv_aload_nN hx hb dX0_lay_4 rfl (lv_at hl 0 rfl) ?_
    refine lv_castN hx hb dX0_lay_5 ?_
    refine lv_iload_n hx hb dX0_lay_8 rfl (lv_at hl 2 rfl) ?_
    refine lv_dload_n hx hb dX0_lay_9 rfl (lv_at hl 3 rfl) ?_
    refine lv_dload_n hx hb dX0_lay_10 rfl (lv_at hl 3 rfl) ?_
    obtain ⟨PJx3, hPJx3⟩ : ∃ P : UInt32 → Prop, ∀ x3 : UInt32, P x3 ↔ ∀ ls : Array Slot, lv_has ls 5 [] → W p l e (headSpec (ws_ yX0_lay cX0_lay 5 (Option.none : Option Jvm.ClassFile.FieldType)) ({ frames := 8, cells := 1, slots := 8, locals := 10240 })).room s m ([.null, .int p1, .int p2, .double p3] : List Value).toArray below meth c s.heap ([]) 0 0 (vy_MQ below (va_Qv post (fun (u : Unit) t => BB D TY A [] t) A) (vx_X (fun (u : Nat × Unit) => px u.1 u.2) (fun E _ (u : Nat × Unit) t => E = exN u.1 ∧ (u.1 = 0) ∧ BB D TY A [] t) A) ([.null, .int p1, .int p2, .double p3] : List Value).toArray s 1 8 A) (F0 m 23 ls [.float x3, .int p2, .null]) := ⟨_, fun _ => Iff.rfl⟩
    have hox3 := hw.1
    have hjx3 : ∀ x3 : UInt32, x3 = (if Deq p3 p3 then (FP.d2f p3) else 2143289344) → PJx3 x3 := by
      intro x3 ex3
      rw [hPJx3]
      intro ls hl
      replace hw := hw.2 x3 ex3
      refine vx_fastoreN hx hb dX0_lay_23 ?_
      refine nx_0 hx hst hts hG hS (hl.1.trans hml.symm) (Nat.le_of_ble_eq_true rfl) (Nat.le_of_ble_eq_true rfl) (Nat.le_of_ble_eq_true rfl) (Nat.le_of_ble_eq_true rfl) hlocks (fun H e5 ce5 ze5 ke5 hS he5 ve5 le5 => ?_)
      replace hP : va_P D vwCl [] H := va_P.grow hP ke5
      have hP9 := hP.sub (ws' := []) [] rfl
      have hD9 := hD.sub (ws' := []) [] (by decide) rfl
      refine vy_out (E := "java/lang/NullPointerException") (fun x h => (htab x h).elim) hlocks he5 ve5 le5 (fun t ht hvm => ⟨(0, ()), hw, ⟨rfl, rfl, BB.mkA hP9 hD9 hK ht hvm⟩, hS.F ht⟩) hS.2.2 (Nat.le_of_ble_eq_true rfl) (Nat.le_of_ble_eq_true rfl)
    replace hjx3 := hjx3 _ rfl
    refine lx_dleq (tgt := 21) hx hb dX0_lay_11 dX0_lay_12 (by decide) (fun c4 => ?_) (fun c4 => ?_)
    · replace hjx3 := pf_t (P := PJx3) c4 hjx3
      replace hox3 := hox3.1 c4
      refine lv_dload_n hx hb dX0_lay_21 rfl (lv_at hl 3 rfl) ?_
      refine lv_d2f hx hb dX0_lay_22 hox3 ?_
      exact (hPJx3 _).1 hjx3 _ (lv_sub hl [] rfl)
    · replace hjx3 := pf_f (P := PJx3) c4 hjx3
      refine lv_ldcwf (v := 2143289344) hx hb hown (hts _ q1070) dX0_lay_15 ?_
      refine lv_goto (tgt := 23) hx hb dX0_lay_18 (by decide) ?_
      exact (hPJx3 _).1 hjx3 _ (lv_sub hl [] rfl)

def wX0_lay_F (n0 : Nat) (f0 : Nat → UInt32) (p1 : Int32) (p2 : Int32) (p3 : UInt64) (post : (Nat → UInt32) → Prop) (px : Nat → (Nat → UInt32) → Prop) : Prop := ((p1 = 0) → (((Deq p3 p3) → (vf_n32 (FP.d2f p3))) ∧ (¬ (Deq p3 p3) → True)) ∧ (∀ x3 : UInt32, x3 = (if Deq p3 p3 then (FP.d2f p3) else 2143289344) → ((vp_in p2 n0) → post (vf_upd f0 p2.toNatClampNeg x3)) ∧ (¬ (vp_in p2 n0) → (n0 < 2147483648) ∧ (px 2 f0)))) ∧ (¬ (p1 = 0) → px 1 f0)
set_option maxHeartbeats 4000000 in
set_option maxRecDepth 100000 in
theorem mX0_lay_F (l : Launch) (D : va_G) (TY : Nat → ClassId) (sz : Nat) (r0 : Nat) (n0 : Nat) (f0 : Nat → UInt32) (p1 : Int32) (p2 : Int32) (p3 : UInt64) (post : (Nat → UInt32) → Prop) (px : Nat → (Nat → UInt32) → Prop) (hst : l.stackTraces = false) (hw : wX0_lay_F n0 f0 p1 p2 p3 post px) : vy_Met l yX0_lay (ws_ yX0_lay cX0_lay 5 (Option.none : Option Jvm.ClassFile.FieldType)) ({ frames := 8, cells := 3, slots := 222, locals := 10241 }) (PC D TY [.ref r0, .int p1, .int p2, .double p3] sz [(r0, .inl (TY 2, n0, .inr (.inr (.inl f0))))]) (va_Qv post (fun (u : (Nat → UInt32)) t => BB D TY (va_A [(r0, .inl (TY 2, n0, .inr (.inr (.inl f0))))] sz) [(r0, .inl (TY 2, n0, .inr (.inr (.inl u))))] t) (va_A [(r0, .inl (TY 2, n0, .inr (.inr (.inl f0))))] sz)) (vx_X (fun (u : Nat × (Nat → UInt32)) => px u.1 u.2) (fun E _ (u : Nat × (Nat → UInt32)) t => E = exN u.1 ∧ (u.1 = 1 ∨ u.1 = 2) ∧ BB D TY (va_A [(r0, .inl (TY 2, n0, .inr (.inr (.inl f0))))] sz) [(r0, .inl (TY 2, n0, .inr (.inr (.inl u.2))))] t) (va_A [(r0, .inl (TY 2, n0, .inr (.inr (.inl f0))))] sz)) 3 222 (va_A [(r0, .inl (TY 2, n0, .inr (.inr (.inl f0))))] sz) := by
  refine vy_ofW (cc := cX0_lay) (maxL := 5) (ret := (Option.none : Option Jvm.ClassFile.FieldType)) (by decide) rfl ?_
  intro p e s m args below meth c s₁ B hml htab hv
  obtain ⟨rfl, hsz, hP, hK, hD0, hG⟩ := hv
  have hx := B.exec
  have hb := B.bytes
  have hr := B.returns
  have hts0 := atoms_spec (ws := ws_ yX0_lay cX0_lay 5 (Option.none : Option Jvm.ClassFile.FieldType)) B.pre
  have hts : ∀ w ∈ lw_all, w.before _ s = true := fun w h => hts0 w (List.mem_cons_of_mem _ h)
  have hown : s.vm.findClass RX0 = some m.cls := findClass_of_methodNamed B.named
  have hlocks := B.notSynchronized
  subst hsz
  have hD := hD0.self (sz := s.heap.size)
  generalize hAe : va_A [(r0, .inl (TY 2, n0, .inr (.inr (.inl f0))))] s.heap.size = A at hD hG ⊢
  have hA : ∀ q : Nat, s.heap.size ≤ q → A q := fun q h => by rw [← hAe]; exact Or.inr h
  have hS : va_S A s.heap s.heap [] := va_S.rf
  have hP : va_P D vwCl [(r0, .inl (TY 2, n0, .inr (.inr (.inl f0))))] s.heap := hP
  have hl := lv_entry ([.ref r0, .int p1, .int p2, .double p3]) (n := 5) (Nat.le_of_ble_eq_true rfl)
  rw [lg_entry_eq]
  generalize (lg_sl ([.ref r0, .int p1, .int p2, .double p3]) ++ List.replicate (5 - (lg_sl ([.ref r0, .int p1, .int p2, .double p3])).length) Slot.unset).toArray = ls at hl ⊢
  have hl : lv_has ls 5 [(0, .ref r0), (1, .int p1), (2, .int p2), (3, .double p3)] := hl
  unfold wX0_lay_F at hw
  refine lv_iload_n hx hb dX0_lay_0 rfl (lv_at hl 1 rfl) ?_
  refine lv_if_ne (tgt := 27) hx hb dX0_lay_1 (by decide) (fun c1 => ?_) (fun c1 => ?_)
  · replace hw := hw.2 c1
    refine lv_aload_n hx hb dX0_lay_27 rfl (lv_at hl 0 rfl) ?_
    refine nx_castZ hx hb hown (hts _ q1071) hG (gz_nc165 hG) (Or.inl rfl) (nx_arr (ty := .float) hK hP 0 2 rfl rfl nx_F) dX0_lay_28 (fun tx htx => ?_)
    refine nx_1 (nb := 212) hx hst hts hG hS (hl.1.trans hml.symm) htx.1 htx.2 (by decide) (Nat.le_of_ble_eq_true rfl) (Nat.le_of_ble_eq_true rfl) (Nat.le_of_ble_eq_true rfl) (Nat.le_of_ble_eq_true rfl) hlocks (fun H e2 ce2 ze2 ke2 hS he2 ve2 le2 => ?_)
    replace hP : va_P D vwCl [(r0, .inl (TY 2, n0, .inr (.inr (.inl f0))))] H := va_P.grow hP ke2
    have hP9 := hP.sub (ws' := [(r0, .inl (TY 2, n0, .inr (.inr (.inl f0))))]) [0] rfl
    have hD9 := hD.sub (ws' := [(r0, .inl (TY 2, n0, .inr (.inr (.inl f0))))]) [0] (by decide) rfl
    refine vy_out (E := "java/lang/ClassCastException") (fun x h => (htab x h).elim) hlocks he2 ve2 le2 (fun t ht hvm => ⟨(1, f0), hw, ⟨rfl, (Or.inl rfl), BB.mkA hP9 hD9 hK ht hvm⟩, hS.F ht⟩) hS.2.2 (Nat.le_of_ble_eq_true rfl) (Nat.le_of_ble_eq_true rfl)
  · replace hw := hw.1 c1
    refine lv_aload_n hx hb dX0_lay_4 rfl (lv_at hl 0 rfl) ?_
    refine va_castA hx hb hown (hts _ q1069) hP 0 rfl (nx_F (hK.2 2 _ rfl).2) dX0_lay_5 ?_
    refine lv_iload_n hx hb dX0_lay_8 rfl (lv_at hl 2 rfl) ?_
    refine lv_dload_n hx hb dX0_lay_9 rfl (lv_at hl 3 rfl) ?_
    refine lv_dload_n hx hb dX0_lay_10 rfl (lv_at hl 3 rfl) ?_
    obtain ⟨PJx3, hPJx3⟩ : ∃ P : UInt32 → Prop, ∀ x3 : UInt32, P x3 ↔ ∀ ls : Array Slot, lv_has ls 5 [] → W p l e (headSpec (ws_ yX0_lay cX0_lay 5 (Option.none : Option Jvm.ClassFile.FieldType)) ({ frames := 8, cells := 3, slots := 222, locals := 10241 })).room s m ([.ref r0, .int p1, .int p2, .double p3] : List Value).toArray below meth c s.heap ([]) 0 0 (vy_MQ below (va_Qv post (fun (u : (Nat → UInt32)) t => BB D TY A [(r0, .inl (TY 2, n0, .inr (.inr (.inl u))))] t) A) (vx_X (fun (u : Nat × (Nat → UInt32)) => px u.1 u.2) (fun E _ (u : Nat × (Nat → UInt32)) t => E = exN u.1 ∧ (u.1 = 1 ∨ u.1 = 2) ∧ BB D TY A [(r0, .inl (TY 2, n0, .inr (.inr (.inl u.2))))] t) A) ([.ref r0, .int p1, .int p2, .double p3] : List Value).toArray s 3 222 A) (F0 m 23 ls [.float x3, .int p2, .ref r0]) := ⟨_, fun _ => Iff.rfl⟩
    have hox3 := hw.1
    have hjx3 : ∀ x3 : UInt32, x3 = (if Deq p3 p3 then (FP.d2f p3) else 2143289344) → PJx3 x3 := by
      intro x3 ex3
      rw [hPJx3]
      intro ls hl
      replace hw := hw.2 x3 ex3
      by_cases c5 : vp_in p2 n0
      · replace hw := hw.1 c5
        refine va_fast (i := p2) (x := x3) hx hb hK hP hD hS 0 2 rfl rfl c5 dX0_lay_23 (fun H locs hP hD hS => ?_)
        have hP : va_P D vwCl [(r0, .inl (TY 2, n0, .inr (.inr (.inl (vf_upd f0 p2.toNatClampNeg x3)))))] H := hP
        have hD : va_D A [(r0, .inl (TY 2, n0, .inr (.inr (.inl (vf_upd f0 p2.toNatClampNeg x3)))))] := hD
        refine lv_goto (tgt := 34) hx hb dX0_lay_24 (by decide) ?_
        refine vy_ret ?_
        have hP9 := hP.sub (ws' := [(r0, .inl (TY 2, n0, .inr (.inr (.inl (vf_upd f0 p2.toNatClampNeg x3)))))]) [0] rfl
        have hD9 := hD.sub (ws' := [(r0, .inl (TY 2, n0, .inr (.inr (.inl (vf_upd f0 p2.toNatClampNeg x3)))))]) [0] (by decide) rfl
        exact W.vret hx hb hr (fun t ht hW => ⟨⟨(vf_upd f0 p2.toNatClampNeg x3), rfl, hw, BB.mk hP9 hD9 hK ht hW⟩, hS.F ht⟩) hS.2.2 dX0_lay_34
      · replace hw := hw.2 c5
        have hnc5 := hw.1
        replace hw := hw.2
        refine vx_fastZ hx hb hK hP 0 2 rfl rfl c5 dX0_lay_23 (fun tx etx => ?_)
        refine nx_2 (nb := 212) hx hst hts hG hS (hl.1.trans hml.symm) (by rw [etx]; exact index_text_modelled _ _) (by rw [etx]; exact index_text_bytes _ hnc5) (by decide) (Nat.le_of_ble_eq_true rfl) (Nat.le_of_ble_eq_true rfl) (Nat.le_of_ble_eq_true rfl) (Nat.le_of_ble_eq_true rfl) hlocks (fun H e6 ce6 ze6 ke6 hS he6 ve6 le6 => ?_)
        replace hP : va_P D vwCl [(r0, .inl (TY 2, n0, .inr (.inr (.inl f0))))] H := va_P.grow hP ke6
        have hP9 := hP.sub (ws' := [(r0, .inl (TY 2, n0, .inr (.inr (.inl f0))))]) [0] rfl
        have hD9 := hD.sub (ws' := [(r0, .inl (TY 2, n0, .inr (.inr (.inl f0))))]) [0] (by decide) rfl
        refine vy_out (E := "java/lang/ArrayIndexOutOfBoundsException") (fun x h => (htab x h).elim) hlocks he6 ve6 le6 (fun t ht hvm => ⟨(2, f0), hw, ⟨rfl, (Or.inr rfl), BB.mkA hP9 hD9 hK ht hvm⟩, hS.F ht⟩) hS.2.2 (Nat.le_of_ble_eq_true rfl) (Nat.le_of_ble_eq_true rfl)
    replace hjx3 := hjx3 _ rfl
    refine lx_dleq (tgt := 21) hx hb dX0_lay_11 dX0_lay_12 (by decide) (fun c4 => ?_) (fun c4 => ?_)
    · replace hjx3 := pf_t (P := PJx3) c4 hjx3
      replace hox3 := hox3.1 c4
      refine lv_dload_n hx hb dX0_lay_21 rfl (lv_at hl 3 rfl) ?_
      refine lv_d2f hx hb dX0_lay_22 hox3 ?_
      exact (hPJx3 _).1 hjx3 _ (lv_sub hl [] rfl)
    · replace hjx3 := pf_f (P := PJx3) c4 hjx3
      refine lv_ldcwf (v := 2143289344) hx hb hown (hts _ q1070) dX0_lay_15 ?_
      refine lv_goto (tgt := 23) hx hb dX0_lay_18 (by decide) ?_
      exact (hPJx3 _).1 hjx3 _ (lv_sub hl [] rfl)

def wX0_lay_D (n0 : Nat) (f0 : Nat → UInt64) (p1 : Int32) (p2 : Int32) (p3 : UInt64) (post : (Nat → UInt64) → Prop) (px : Nat → (Nat → UInt64) → Prop) : Prop := ((p1 = 0) → px 1 f0) ∧ (¬ (p1 = 0) → ((vp_in p2 n0) → post (vf_upd f0 p2.toNatClampNeg p3)) ∧ (¬ (vp_in p2 n0) → (n0 < 2147483648) ∧ (px 2 f0)))
set_option maxHeartbeats 4000000 in
set_option maxRecDepth 100000 in
theorem mX0_lay_D (l : Launch) (D : va_G) (TY : Nat → ClassId) (sz : Nat) (r0 : Nat) (n0 : Nat) (f0 : Nat → UInt64) (p1 : Int32) (p2 : Int32) (p3 : UInt64) (post : (Nat → UInt64) → Prop) (px : Nat → (Nat → UInt64) → Prop) (hst : l.stackTraces = false) (hw : wX0_lay_D n0 f0 p1 p2 p3 post px) : vy_Met l yX0_lay (ws_ yX0_lay cX0_lay 5 (Option.none : Option Jvm.ClassFile.FieldType)) ({ frames := 8, cells := 3, slots := 222, locals := 10241 }) (PC D TY [.ref r0, .int p1, .int p2, .double p3] sz [(r0, .inl (TY 3, n0, .inr (.inr (.inr (.inl f0)))))]) (va_Qv post (fun (u : (Nat → UInt64)) t => BB D TY (va_A [(r0, .inl (TY 3, n0, .inr (.inr (.inr (.inl f0)))))] sz) [(r0, .inl (TY 3, n0, .inr (.inr (.inr (.inl u)))))] t) (va_A [(r0, .inl (TY 3, n0, .inr (.inr (.inr (.inl f0)))))] sz)) (vx_X (fun (u : Nat × (Nat → UInt64)) => px u.1 u.2) (fun E _ (u : Nat × (Nat → UInt64)) t => E = exN u.1 ∧ (u.1 = 1 ∨ u.1 = 2) ∧ BB D TY (va_A [(r0, .inl (TY 3, n0, .inr (.inr (.inr (.inl f0)))))] sz) [(r0, .inl (TY 3, n0, .inr (.inr (.inr (.inl u.2)))))] t) (va_A [(r0, .inl (TY 3, n0, .inr (.inr (.inr (.inl f0)))))] sz)) 3 222 (va_A [(r0, .inl (TY 3, n0, .inr (.inr (.inr (.inl f0)))))] sz) := by
  refine vy_ofW (cc := cX0_lay) (maxL := 5) (ret := (Option.none : Option Jvm.ClassFile.FieldType)) (by decide) rfl ?_
  intro p e s m args below meth c s₁ B hml htab hv
  obtain ⟨rfl, hsz, hP, hK, hD0, hG⟩ := hv
  have hx := B.exec
  have hb := B.bytes
  have hr := B.returns
  have hts0 := atoms_spec (ws := ws_ yX0_lay cX0_lay 5 (Option.none : Option Jvm.ClassFile.FieldType)) B.pre
  have hts : ∀ w ∈ lw_all, w.before _ s = true := fun w h => hts0 w (List.mem_cons_of_mem _ h)
  have hown : s.vm.findClass RX0 = some m.cls := findClass_of_methodNamed B.named
  have hlocks := B.notSynchronized
  subst hsz
  have hD := hD0.self (sz := s.heap.size)
  generalize hAe : va_A [(r0, .inl (TY 3, n0, .inr (.inr (.inr (.inl f0)))))] s.heap.size = A at hD hG ⊢
  have hA : ∀ q : Nat, s.heap.size ≤ q → A q := fun q h => by rw [← hAe]; exact Or.inr h
  have hS : va_S A s.heap s.heap [] := va_S.rf
  have hP : va_P D vwCl [(r0, .inl (TY 3, n0, .inr (.inr (.inr (.inl f0)))))] s.heap := hP
  have hl := lv_entry ([.ref r0, .int p1, .int p2, .double p3]) (n := 5) (Nat.le_of_ble_eq_true rfl)
  rw [lg_entry_eq]
  generalize (lg_sl ([.ref r0, .int p1, .int p2, .double p3]) ++ List.replicate (5 - (lg_sl ([.ref r0, .int p1, .int p2, .double p3])).length) Slot.unset).toArray = ls at hl ⊢
  have hl : lv_has ls 5 [(0, .ref r0), (1, .int p1), (2, .int p2), (3, .double p3)] := hl
  unfold wX0_lay_D at hw
  refine lv_iload_n hx hb dX0_lay_0 rfl (lv_at hl 1 rfl) ?_
  refine lv_if_ne (tgt := 27) hx hb dX0_lay_1 (by decide) (fun c1 => ?_) (fun c1 => ?_)
  · replace hw := hw.2 c1
    refine lv_aload_n hx hb dX0_lay_27 rfl (lv_at hl 0 rfl) ?_
    refine va_castA hx hb hown (hts _ q1071) hP 0 rfl (nx_D (hK.2 3 _ rfl).2) dX0_lay_28 ?_
    refine lv_iload_n hx hb dX0_lay_31 rfl (lv_at hl 2 rfl) ?_
    refine lv_dload_n hx hb dX0_lay_32 rfl (lv_at hl 3 rfl) ?_
    by_cases c2 : vp_in p2 n0
    · replace hw := hw.1 c2
      refine va_dast (i := p2) (x := p3) hx hb hK hP hD hS 0 3 rfl rfl c2 dX0_lay_33 (fun H locs hP hD hS => ?_)
      have hP : va_P D vwCl [(r0, .inl (TY 3, n0, .inr (.inr (.inr (.inl (vf_upd f0 p2.toNatClampNeg p3))))))] H := hP
      have hD : va_D A [(r0, .inl (TY 3, n0, .inr (.inr (.inr (.inl (vf_upd f0 p2.toNatClampNeg p3))))))] := hD
      refine vy_ret ?_
      have hP9 := hP.sub (ws' := [(r0, .inl (TY 3, n0, .inr (.inr (.inr (.inl (vf_upd f0 p2.toNatClampNeg p3))))))]) [0] rfl
      have hD9 := hD.sub (ws' := [(r0, .inl (TY 3, n0, .inr (.inr (.inr (.inl (vf_upd f0 p2.toNatClampNeg p3))))))]) [0] (by decide) rfl
      exact W.vret hx hb hr (fun t ht hW => ⟨⟨(vf_upd f0 p2.toNatClampNeg p3), rfl, hw, BB.mk hP9 hD9 hK ht hW⟩, hS.F ht⟩) hS.2.2 dX0_lay_34
    · replace hw := hw.2 c2
      have hnc2 := hw.1
      replace hw := hw.2
      refine vx_dastZ hx hb hK hP 0 3 rfl rfl c2 dX0_lay_33 (fun tx etx => ?_)
      refine nx_2 (nb := 212) hx hst hts hG hS (hl.1.trans hml.symm) (by rw [etx]; exact index_text_modelled _ _) (by rw [etx]; exact index_text_bytes _ hnc2) (by decide) (Nat.le_of_ble_eq_true rfl) (Nat.le_of_ble_eq_true rfl) (Nat.le_of_ble_eq_true rfl) (Nat.le_of_ble_eq_true rfl) hlocks (fun H e3 ce3 ze3 ke3 hS he3 ve3 le3 => ?_)
      replace hP : va_P D vwCl [(r0, .inl (TY 3, n0, .inr (.inr (.inr (.inl f0)))))] H := va_P.grow hP ke3
      have hP9 := hP.sub (ws' := [(r0, .inl (TY 3, n0, .inr (.inr (.inr (.inl f0)))))]) [0] rfl
      have hD9 := hD.sub (ws' := [(r0, .inl (TY 3, n0, .inr (.inr (.inr (.inl f0)))))]) [0] (by decide) rfl
      refine vy_out (E := "java/lang/ArrayIndexOutOfBoundsException") (fun x h => (htab x h).elim) hlocks he3 ve3 le3 (fun t ht hvm => ⟨(2, f0), hw, ⟨rfl, (Or.inr rfl), BB.mkA hP9 hD9 hK ht hvm⟩, hS.F ht⟩) hS.2.2 (Nat.le_of_ble_eq_true rfl) (Nat.le_of_ble_eq_true rfl)
  · replace hw := hw.1 c1
    refine lv_aload_n hx hb dX0_lay_4 rfl (lv_at hl 0 rfl) ?_
    refine nx_castZ hx hb hown (hts _ q1069) hG (gz_nc144 hG) (Or.inr rfl) (nx_arr (ty := .double) hK hP 0 3 rfl rfl nx_D) dX0_lay_5 (fun tx htx => ?_)
    refine nx_1 (nb := 212) hx hst hts hG hS (hl.1.trans hml.symm) htx.1 htx.2 (by decide) (Nat.le_of_ble_eq_true rfl) (Nat.le_of_ble_eq_true rfl) (Nat.le_of_ble_eq_true rfl) (Nat.le_of_ble_eq_true rfl) hlocks (fun H e4 ce4 ze4 ke4 hS he4 ve4 le4 => ?_)
    replace hP : va_P D vwCl [(r0, .inl (TY 3, n0, .inr (.inr (.inr (.inl f0)))))] H := va_P.grow hP ke4
    have hP9 := hP.sub (ws' := [(r0, .inl (TY 3, n0, .inr (.inr (.inr (.inl f0)))))]) [0] rfl
    have hD9 := hD.sub (ws' := [(r0, .inl (TY 3, n0, .inr (.inr (.inr (.inl f0)))))]) [0] (by decide) rfl
    refine vy_out (E := "java/lang/ClassCastException") (fun x h => (htab x h).elim) hlocks he4 ve4 le4 (fun t ht hvm => ⟨(1, f0), hw, ⟨rfl, (Or.inl rfl), BB.mkA hP9 hD9 hK ht hvm⟩, hS.F ht⟩) hS.2.2 (Nat.le_of_ble_eq_true rfl) (Nat.le_of_ble_eq_true rfl)

def wX0_lengthAs_N (p1 : Int32) (post : Int32 → Unit → Prop) (px : Nat → Unit → Prop) : Prop := ((p1 = 0) → px 0 ()) ∧ (¬ (p1 = 0) → px 0 ())
set_option maxHeartbeats 4000000 in
set_option maxRecDepth 100000 in
theorem mX0_lengthAs_N (l : Launch) (D : va_G) (TY : Nat → ClassId) (sz : Nat) (p1 : Int32) (post : Int32 → Unit → Prop) (px : Nat → Unit → Prop) (hst : l.stackTraces = false) (hw : wX0_lengthAs_N p1 post px) : vy_Met l yX0_lengthAs (ws_ yX0_lengthAs cX0_lengthAs 2 (Option.some Jvm.ClassFile.FieldType.int)) ({ frames := 8, cells := 1, slots := 8, locals := 10240 }) (PC D TY [.null, .int p1] sz []) (va_Qi post (fun (u : Unit) t => BB D TY (va_A [] sz) [] t) (va_A [] sz)) (vx_X (fun (u : Nat × Unit) => px u.1 u.2) (fun E _ (u : Nat × Unit) t => E = exN u.1 ∧ (u.1 = 0) ∧ BB D TY (va_A [] sz) [] t) (va_A [] sz)) 1 8 (va_A [] sz) := by
  refine vy_ofW (cc := cX0_lengthAs) (maxL := 2) (ret := (Option.some Jvm.ClassFile.FieldType.int)) (by decide) rfl ?_
  intro p e s m args below meth c s₁ B hml htab hv
  obtain ⟨rfl, hsz, hP, hK, hD0, hG⟩ := hv
  have hx := B.exec
  have hb := B.bytes
  have hr := B.returns
  have hts0 := atoms_spec (ws := ws_ yX0_lengthAs cX0_lengthAs 2 (Option.some Jvm.ClassFile.FieldType.int)) B.pre
  have hts : ∀ w ∈ lw_all, w.before _ s = true := fun w h => hts0 w (List.mem_cons_of_mem _ h)
  have hown : s.vm.findClass RX0 = some m.cls := findClass_of_methodNamed B.named
  have hlocks := B.notSynchronized
  subst hsz
  have hD := hD0.self (sz := s.heap.size)
  generalize hAe : va_A [] s.heap.size = A at hD hG ⊢
  have hA : ∀ q : Nat, s.heap.size ≤ q → A q := fun q h => by rw [← hAe]; exact Or.inr h
  have hS : va_S A s.heap s.heap [] := va_S.rf
  have hP : va_P D vwCl [] s.heap := hP
  have hl := lv_entry ([.null, .int p1]) (n := 2) (Nat.le_of_ble_eq_true rfl)
  rw [lg_entry_eq]
  generalize (lg_sl ([.null, .int p1]) ++ List.replicate (2 - (lg_sl ([.null, .int p1])).length) Slot.unset).toArray = ls at hl ⊢
  have hl : lv_has ls 2 [(0, .null), (1, .int p1)] := hl
  unfold wX0_lengthAs_N at hw
  refine lv_iload_n hx hb dX0_lengthAs_0 rfl (lv_at hl 1 rfl) ?_
  refine lv_if_ne (tgt := 12) hx hb dX0_lengthAs_1 (by decide) (fun c1 => ?_) (fun c1 => ?_)
  · replace hw := hw.2 c1
    refine lv_aload_nN hx hb dX0_lengthAs_12 rfl (lv_at hl 0 rfl) ?_
    refine lv_castN hx hb dX0_lengthAs_13 ?_
    refine vx_arraylengthN hx hb dX0_lengthAs_16 ?_
    refine nx_0 hx hst hts hG hS (hl.1.trans hml.symm) (Nat.le_of_ble_eq_true rfl) (Nat.le_of_ble_eq_true rfl) (Nat.le_of_ble_eq_true rfl) (Nat.le_of_ble_eq_true rfl) hlocks (fun H e2 ce2 ze2 ke2 hS he2 ve2 le2 => ?_)
    replace hP : va_P D vwCl [] H := va_P.grow hP ke2
    have hP9 := hP.sub (ws' := []) [] rfl
    have hD9 := hD.sub (ws' := []) [] (by decide) rfl
    refine vy_out (E := "java/lang/NullPointerException") (fun x h => (htab x h).elim) hlocks he2 ve2 le2 (fun t ht hvm => ⟨(0, ()), hw, ⟨rfl, rfl, BB.mkA hP9 hD9 hK ht hvm⟩, hS.F ht⟩) hS.2.2 (Nat.le_of_ble_eq_true rfl) (Nat.le_of_ble_eq_true rfl)
  · replace hw := hw.1 c1
    refine lv_aload_nN hx hb dX0_lengthAs_4 rfl (lv_at hl 0 rfl) ?_
    refine lv_castN hx hb dX0_lengthAs_5 ?_
    refine vx_arraylengthN hx hb dX0_lengthAs_8 ?_
    refine nx_0 hx hst hts hG hS (hl.1.trans hml.symm) (Nat.le_of_ble_eq_true rfl) (Nat.le_of_ble_eq_true rfl) (Nat.le_of_ble_eq_true rfl) (Nat.le_of_ble_eq_true rfl) hlocks (fun H e3 ce3 ze3 ke3 hS he3 ve3 le3 => ?_)
    replace hP : va_P D vwCl [] H := va_P.grow hP ke3
    have hP9 := hP.sub (ws' := []) [] rfl
    have hD9 := hD.sub (ws' := []) [] (by decide) rfl
    refine vy_out (E := "java/lang/NullPointerException") (fun x h => (htab x h).elim) hlocks he3 ve3 le3 (fun t ht hvm => ⟨(0, ()), hw, ⟨rfl, rfl, BB.mkA hP9 hD9 hK ht hvm⟩, hS.F ht⟩) hS.2.2 (Nat.le_of_ble_eq_true rfl) (Nat.le_of_ble_eq_true rfl)

def wX0_lengthAs_F (n0 : Nat) (p1 : Int32) (post : Int32 → Unit → Prop) (px : Nat → Unit → Prop) : Prop := ((p1 = 0) → post (Int32.ofNat n0) ()) ∧ (¬ (p1 = 0) → px 1 ())
set_option maxHeartbeats 4000000 in
set_option maxRecDepth 100000 in
theorem mX0_lengthAs_F (l : Launch) (D : va_G) (TY : Nat → ClassId) (sz : Nat) (r0 : Nat) (n0 : Nat) (f0 : Nat → UInt32) (p1 : Int32) (post : Int32 → Unit → Prop) (px : Nat → Unit → Prop) (hst : l.stackTraces = false) (hw : wX0_lengthAs_F n0 p1 post px) : vy_Met l yX0_lengthAs (ws_ yX0_lengthAs cX0_lengthAs 2 (Option.some Jvm.ClassFile.FieldType.int)) ({ frames := 8, cells := 3, slots := 222, locals := 10241 }) (PC D TY [.ref r0, .int p1] sz [(r0, .inl (TY 2, n0, .inr (.inr (.inl f0))))]) (va_Qi post (fun (u : Unit) t => BB D TY (va_A [(r0, .inl (TY 2, n0, .inr (.inr (.inl f0))))] sz) [(r0, .inl (TY 2, n0, .inr (.inr (.inl f0))))] t) (va_A [(r0, .inl (TY 2, n0, .inr (.inr (.inl f0))))] sz)) (vx_X (fun (u : Nat × Unit) => px u.1 u.2) (fun E _ (u : Nat × Unit) t => E = exN u.1 ∧ (u.1 = 1) ∧ BB D TY (va_A [(r0, .inl (TY 2, n0, .inr (.inr (.inl f0))))] sz) [(r0, .inl (TY 2, n0, .inr (.inr (.inl f0))))] t) (va_A [(r0, .inl (TY 2, n0, .inr (.inr (.inl f0))))] sz)) 3 222 (va_A [(r0, .inl (TY 2, n0, .inr (.inr (.inl f0))))] sz) := by
  refine vy_ofW (cc := cX0_lengthAs) (maxL := 2) (ret := (Option.some Jvm.ClassFile.FieldType.int)) (by decide) rfl ?_
  intro p e s m args below meth c s₁ B hml htab hv
  obtain ⟨rfl, hsz, hP, hK, hD0, hG⟩ := hv
  have hx := B.exec
  have hb := B.bytes
  have hr := B.returns
  have hts0 := atoms_spec (ws := ws_ yX0_lengthAs cX0_lengthAs 2 (Option.some Jvm.ClassFile.FieldType.int)) B.pre
  have hts : ∀ w ∈ lw_all, w.before _ s = true := fun w h => hts0 w (List.mem_cons_of_mem _ h)
  have hown : s.vm.findClass RX0 = some m.cls := findClass_of_methodNamed B.named
  have hlocks := B.notSynchronized
  subst hsz
  have hD := hD0.self (sz := s.heap.size)
  generalize hAe : va_A [(r0, .inl (TY 2, n0, .inr (.inr (.inl f0))))] s.heap.size = A at hD hG ⊢
  have hA : ∀ q : Nat, s.heap.size ≤ q → A q := fun q h => by rw [← hAe]; exact Or.inr h
  have hS : va_S A s.heap s.heap [] := va_S.rf
  have hP : va_P D vwCl [(r0, .inl (TY 2, n0, .inr (.inr (.inl f0))))] s.heap := hP
  have hl := lv_entry ([.ref r0, .int p1]) (n := 2) (Nat.le_of_ble_eq_true rfl)
  rw [lg_entry_eq]
  generalize (lg_sl ([.ref r0, .int p1]) ++ List.replicate (2 - (lg_sl ([.ref r0, .int p1])).length) Slot.unset).toArray = ls at hl ⊢
  have hl : lv_has ls 2 [(0, .ref r0), (1, .int p1)] := hl
  unfold wX0_lengthAs_F at hw
  refine lv_iload_n hx hb dX0_lengthAs_0 rfl (lv_at hl 1 rfl) ?_
  refine lv_if_ne (tgt := 12) hx hb dX0_lengthAs_1 (by decide) (fun c1 => ?_) (fun c1 => ?_)
  · replace hw := hw.2 c1
    refine lv_aload_n hx hb dX0_lengthAs_12 rfl (lv_at hl 0 rfl) ?_
    refine nx_castZ hx hb hown (hts _ q1071) hG (gz_nc165 hG) (Or.inl rfl) (nx_arr (ty := .float) hK hP 0 2 rfl rfl nx_F) dX0_lengthAs_13 (fun tx htx => ?_)
    refine nx_1 (nb := 212) hx hst hts hG hS (hl.1.trans hml.symm) htx.1 htx.2 (by decide) (Nat.le_of_ble_eq_true rfl) (Nat.le_of_ble_eq_true rfl) (Nat.le_of_ble_eq_true rfl) (Nat.le_of_ble_eq_true rfl) hlocks (fun H e2 ce2 ze2 ke2 hS he2 ve2 le2 => ?_)
    replace hP : va_P D vwCl [(r0, .inl (TY 2, n0, .inr (.inr (.inl f0))))] H := va_P.grow hP ke2
    have hP9 := hP.sub (ws' := [(r0, .inl (TY 2, n0, .inr (.inr (.inl f0))))]) [0] rfl
    have hD9 := hD.sub (ws' := [(r0, .inl (TY 2, n0, .inr (.inr (.inl f0))))]) [0] (by decide) rfl
    refine vy_out (E := "java/lang/ClassCastException") (fun x h => (htab x h).elim) hlocks he2 ve2 le2 (fun t ht hvm => ⟨(1, ()), hw, ⟨rfl, rfl, BB.mkA hP9 hD9 hK ht hvm⟩, hS.F ht⟩) hS.2.2 (Nat.le_of_ble_eq_true rfl) (Nat.le_of_ble_eq_true rfl)
  · replace hw := hw.1 c1
    refine lv_aload_n hx hb dX0_lengthAs_4 rfl (lv_at hl 0 rfl) ?_
    refine va_castA hx hb hown (hts _ q1069) hP 0 rfl (nx_F (hK.2 2 _ rfl).2) dX0_lengthAs_5 ?_
    refine va_alen (v := Int32.ofNat n0) hx hb hK hP 0 2 rfl rfl rfl dX0_lengthAs_8 ?_
    refine lv_goto (tgt := 17) hx hb dX0_lengthAs_9 (by decide) ?_
    refine vy_ret ?_
    have hP9 := hP.sub (ws' := [(r0, .inl (TY 2, n0, .inr (.inr (.inl f0))))]) [0] rfl
    have hD9 := hD.sub (ws' := [(r0, .inl (TY 2, n0, .inr (.inr (.inl f0))))]) [0] (by decide) rfl
    exact W.iret (v := Int32.ofNat n0) hx hb hr (fun t ht hW => ⟨⟨Int32.ofNat n0, (), rfl, hw, BB.mk hP9 hD9 hK ht hW⟩, hS.F ht⟩) hS.2.2 dX0_lengthAs_17

def wX0_lengthAs_D (n0 : Nat) (p1 : Int32) (post : Int32 → Unit → Prop) (px : Nat → Unit → Prop) : Prop := ((p1 = 0) → px 1 ()) ∧ (¬ (p1 = 0) → post (Int32.ofNat n0) ())
set_option maxHeartbeats 4000000 in
set_option maxRecDepth 100000 in
theorem mX0_lengthAs_D (l : Launch) (D : va_G) (TY : Nat → ClassId) (sz : Nat) (r0 : Nat) (n0 : Nat) (f0 : Nat → UInt64) (p1 : Int32) (post : Int32 → Unit → Prop) (px : Nat → Unit → Prop) (hst : l.stackTraces = false) (hw : wX0_lengthAs_D n0 p1 post px) : vy_Met l yX0_lengthAs (ws_ yX0_lengthAs cX0_lengthAs 2 (Option.some Jvm.ClassFile.FieldType.int)) ({ frames := 8, cells := 3, slots := 222, locals := 10241 }) (PC D TY [.ref r0, .int p1] sz [(r0, .inl (TY 3, n0, .inr (.inr (.inr (.inl f0)))))]) (va_Qi post (fun (u : Unit) t => BB D TY (va_A [(r0, .inl (TY 3, n0, .inr (.inr (.inr (.inl f0)))))] sz) [(r0, .inl (TY 3, n0, .inr (.inr (.inr (.inl f0)))))] t) (va_A [(r0, .inl (TY 3, n0, .inr (.inr (.inr (.inl f0)))))] sz)) (vx_X (fun (u : Nat × Unit) => px u.1 u.2) (fun E _ (u : Nat × Unit) t => E = exN u.1 ∧ (u.1 = 1) ∧ BB D TY (va_A [(r0, .inl (TY 3, n0, .inr (.inr (.inr (.inl f0)))))] sz) [(r0, .inl (TY 3, n0, .inr (.inr (.inr (.inl f0)))))] t) (va_A [(r0, .inl (TY 3, n0, .inr (.inr (.inr (.inl f0)))))] sz)) 3 222 (va_A [(r0, .inl (TY 3, n0, .inr (.inr (.inr (.inl f0)))))] sz) := by
  refine vy_ofW (cc := cX0_lengthAs) (maxL := 2) (ret := (Option.some Jvm.ClassFile.FieldType.int)) (by decide) rfl ?_
  intro p e s m args below meth c s₁ B hml htab hv
  obtain ⟨rfl, hsz, hP, hK, hD0, hG⟩ := hv
  have hx := B.exec
  have hb := B.bytes
  have hr := B.returns
  have hts0 := atoms_spec (ws := ws_ yX0_lengthAs cX0_lengthAs 2 (Option.some Jvm.ClassFile.FieldType.int)) B.pre
  have hts : ∀ w ∈ lw_all, w.before _ s = true := fun w h => hts0 w (List.mem_cons_of_mem _ h)
  have hown : s.vm.findClass RX0 = some m.cls := findClass_of_methodNamed B.named
  have hlocks := B.notSynchronized
  subst hsz
  have hD := hD0.self (sz := s.heap.size)
  generalize hAe : va_A [(r0, .inl (TY 3, n0, .inr (.inr (.inr (.inl f0)))))] s.heap.size = A at hD hG ⊢
  have hA : ∀ q : Nat, s.heap.size ≤ q → A q := fun q h => by rw [← hAe]; exact Or.inr h
  have hS : va_S A s.heap s.heap [] := va_S.rf
  have hP : va_P D vwCl [(r0, .inl (TY 3, n0, .inr (.inr (.inr (.inl f0)))))] s.heap := hP
  have hl := lv_entry ([.ref r0, .int p1]) (n := 2) (Nat.le_of_ble_eq_true rfl)
  rw [lg_entry_eq]
  generalize (lg_sl ([.ref r0, .int p1]) ++ List.replicate (2 - (lg_sl ([.ref r0, .int p1])).length) Slot.unset).toArray = ls at hl ⊢
  have hl : lv_has ls 2 [(0, .ref r0), (1, .int p1)] := hl
  unfold wX0_lengthAs_D at hw
  refine lv_iload_n hx hb dX0_lengthAs_0 rfl (lv_at hl 1 rfl) ?_
  refine lv_if_ne (tgt := 12) hx hb dX0_lengthAs_1 (by decide) (fun c1 => ?_) (fun c1 => ?_)
  · replace hw := hw.2 c1
    refine lv_aload_n hx hb dX0_lengthAs_12 rfl (lv_at hl 0 rfl) ?_
    refine va_castA hx hb hown (hts _ q1071) hP 0 rfl (nx_D (hK.2 3 _ rfl).2) dX0_lengthAs_13 ?_
    refine va_alen (v := Int32.ofNat n0) hx hb hK hP 0 3 rfl rfl rfl dX0_lengthAs_16 ?_
    refine vy_ret ?_
    have hP9 := hP.sub (ws' := [(r0, .inl (TY 3, n0, .inr (.inr (.inr (.inl f0)))))]) [0] rfl
    have hD9 := hD.sub (ws' := [(r0, .inl (TY 3, n0, .inr (.inr (.inr (.inl f0)))))]) [0] (by decide) rfl
    exact W.iret (v := Int32.ofNat n0) hx hb hr (fun t ht hW => ⟨⟨Int32.ofNat n0, (), rfl, hw, BB.mk hP9 hD9 hK ht hW⟩, hS.F ht⟩) hS.2.2 dX0_lengthAs_17
  · replace hw := hw.1 c1
    refine lv_aload_n hx hb dX0_lengthAs_4 rfl (lv_at hl 0 rfl) ?_
    refine nx_castZ hx hb hown (hts _ q1069) hG (gz_nc144 hG) (Or.inr rfl) (nx_arr (ty := .double) hK hP 0 3 rfl rfl nx_D) dX0_lengthAs_5 (fun tx htx => ?_)
    refine nx_1 (nb := 212) hx hst hts hG hS (hl.1.trans hml.symm) htx.1 htx.2 (by decide) (Nat.le_of_ble_eq_true rfl) (Nat.le_of_ble_eq_true rfl) (Nat.le_of_ble_eq_true rfl) (Nat.le_of_ble_eq_true rfl) hlocks (fun H e2 ce2 ze2 ke2 hS he2 ve2 le2 => ?_)
    replace hP : va_P D vwCl [(r0, .inl (TY 3, n0, .inr (.inr (.inr (.inl f0)))))] H := va_P.grow hP ke2
    have hP9 := hP.sub (ws' := [(r0, .inl (TY 3, n0, .inr (.inr (.inr (.inl f0)))))]) [0] rfl
    have hD9 := hD.sub (ws' := [(r0, .inl (TY 3, n0, .inr (.inr (.inr (.inl f0)))))]) [0] (by decide) rfl
    refine vy_out (E := "java/lang/ClassCastException") (fun x h => (htab x h).elim) hlocks he2 ve2 le2 (fun t ht hvm => ⟨(1, ()), hw, ⟨rfl, rfl, BB.mkA hP9 hD9 hK ht hvm⟩, hS.F ht⟩) hS.2.2 (Nat.le_of_ble_eq_true rfl) (Nat.le_of_ble_eq_true rfl)

def wX5_length_N  (post : Int32 → Unit → Prop) (px : Nat → Unit → Prop) : Prop := px 0 ()
set_option maxHeartbeats 4000000 in
set_option maxRecDepth 100000 in
theorem mX5_length_N (l : Launch) (D : va_G) (TY : Nat → ClassId) (sz : Nat) (h0 : Nat) (post : Int32 → Unit → Prop) (px : Nat → Unit → Prop) (hst : l.stackTraces = false) (hw : wX5_length_N post px) : vy_Met l yX5_length (ws_ yX5_length cX5_length 1 (Option.some Jvm.ClassFile.FieldType.int)) ({ frames := 8, cells := 1, slots := 8, locals := 10240 }) (PC D TY [.ref h0] sz [(h0, .inr (5, [.null]))]) (va_Qi post (fun (u : Unit) t => BB D TY (va_A [(h0, .inr (5, [.null]))] sz) [(h0, .inr (5, [.null]))] t) (va_A [(h0, .inr (5, [.null]))] sz)) (vx_X (fun (u : Nat × Unit) => px u.1 u.2) (fun E _ (u : Nat × Unit) t => E = exN u.1 ∧ (u.1 = 0) ∧ BB D TY (va_A [(h0, .inr (5, [.null]))] sz) [(h0, .inr (5, [.null]))] t) (va_A [(h0, .inr (5, [.null]))] sz)) 1 8 (va_A [(h0, .inr (5, [.null]))] sz) := by
  refine vy_ofW (cc := cX5_length) (maxL := 1) (ret := (Option.some Jvm.ClassFile.FieldType.int)) (by decide) rfl ?_
  intro p e s m args below meth c s₁ B hml htab hv
  obtain ⟨rfl, hsz, hP, hK, hD0, hG⟩ := hv
  have hx := B.exec
  have hb := B.bytes
  have hr := B.returns
  have hts0 := atoms_spec (ws := ws_ yX5_length cX5_length 1 (Option.some Jvm.ClassFile.FieldType.int)) B.pre
  have hts : ∀ w ∈ lw_all, w.before _ s = true := fun w h => hts0 w (List.mem_cons_of_mem _ h)
  have hown : s.vm.findClass RX5 = some m.cls := findClass_of_methodNamed B.named
  have hlocks := B.notSynchronized
  subst hsz
  have hD := hD0.self (sz := s.heap.size)
  generalize hAe : va_A [(h0, .inr (5, [.null]))] s.heap.size = A at hD hG ⊢
  have hA : ∀ q : Nat, s.heap.size ≤ q → A q := fun q h => by rw [← hAe]; exact Or.inr h
  have hS : va_S A s.heap s.heap [] := va_S.rf
  have hP : va_P D vwCl [(h0, .inr (5, [.null]))] s.heap := hP
  have hl := lv_entry ([.ref h0]) (n := 1) (Nat.le_of_ble_eq_true rfl)
  rw [lg_entry_eq]
  generalize (lg_sl ([.ref h0]) ++ List.replicate (1 - (lg_sl ([.ref h0])).length) Slot.unset).toArray = ls at hl ⊢
  have hl : lv_has ls 1 [(0, .ref h0)] := hl
  unfold wX5_length_N at hw
  refine lv_aload_n hx hb dX5_length_0 rfl (lv_at hl 0 rfl) ?_
  refine va_get (D := D) (ci := 5) (v := .null) (C := RX5) (T := TX5) (N := 1) hx hb hts in_X5 hown hK hP 0 rfl rfl 0 (by decide) (hts _ q948) (fun _ h9 => h9) rfl dX5_length_1 ?_
  refine lv_instN hx hb dX5_length_4 ?_
  refine lv_if_eq (tgt := 21) hx hb dX5_length_7 (by decide) (fun _ => ?_) (fun c2 => absurd c2 (by decide))
  refine lv_aload_n hx hb dX5_length_21 rfl (lv_at hl 0 rfl) ?_
  refine va_get (D := D) (ci := 5) (v := .null) (C := RX5) (T := TX5) (N := 1) hx hb hts in_X5 hown hK hP 0 rfl rfl 0 (by decide) (hts _ q948) (fun _ h9 => h9) rfl dX5_length_22 ?_
  refine lv_castN hx hb dX5_length_25 ?_
  refine vx_arraylengthN hx hb dX5_length_28 ?_
  refine nx_0 hx hst hts hG hS (hl.1.trans hml.symm) (Nat.le_of_ble_eq_true rfl) (Nat.le_of_ble_eq_true rfl) (Nat.le_of_ble_eq_true rfl) (Nat.le_of_ble_eq_true rfl) hlocks (fun H e1 ce1 ze1 ke1 hS he1 ve1 le1 => ?_)
  replace hP : va_P D vwCl [(h0, .inr (5, [.null]))] H := va_P.grow hP ke1
  have hP9 := hP.sub (ws' := [(h0, .inr (5, [.null]))]) [0] rfl
  have hD9 := hD.sub (ws' := [(h0, .inr (5, [.null]))]) [0] (by decide) rfl
  refine vy_out (E := "java/lang/NullPointerException") (fun x h => (htab x h).elim) hlocks he1 ve1 le1 (fun t ht hvm => ⟨(0, ()), hw, ⟨rfl, rfl, BB.mkA hP9 hD9 hK ht hvm⟩, hS.F ht⟩) hS.2.2 (Nat.le_of_ble_eq_true rfl) (Nat.le_of_ble_eq_true rfl)

def wX5_length_F (n0 : Nat) (post : Int32 → Unit → Prop) (px : Nat → Unit → Prop) : Prop := post (Int32.ofNat n0) ()
set_option maxHeartbeats 4000000 in
set_option maxRecDepth 100000 in
theorem mX5_length_F (l : Launch) (D : va_G) (TY : Nat → ClassId) (sz : Nat) (h0 : Nat) (r0 : Nat) (n0 : Nat) (f0 : Nat → UInt32) (post : Int32 → Unit → Prop) (px : Nat → Unit → Prop) (hst : l.stackTraces = false) (hw : wX5_length_F n0 post px) : vy_Met l yX5_length (ws_ yX5_length cX5_length 1 (Option.some Jvm.ClassFile.FieldType.int)) ({ frames := 0, cells := 0, slots := 0, locals := 0 }) (PC D TY [.ref h0] sz [(h0, .inr (5, [.ref r0])), (r0, .inl (TY 2, n0, .inr (.inr (.inl f0))))]) (va_Qi post (fun (u : Unit) t => BB D TY (va_A [(h0, .inr (5, [.ref r0])), (r0, .inl (TY 2, n0, .inr (.inr (.inl f0))))] sz) [(h0, .inr (5, [.ref r0])), (r0, .inl (TY 2, n0, .inr (.inr (.inl f0))))] t) (va_A [(h0, .inr (5, [.ref r0])), (r0, .inl (TY 2, n0, .inr (.inr (.inl f0))))] sz)) (vx_X (fun (u : Nat × Unit) => px u.1 u.2) (fun E _ (u : Nat × Unit) t => E = exN u.1 ∧ (False) ∧ BB D TY (va_A [(h0, .inr (5, [.ref r0])), (r0, .inl (TY 2, n0, .inr (.inr (.inl f0))))] sz) [(h0, .inr (5, [.ref r0])), (r0, .inl (TY 2, n0, .inr (.inr (.inl f0))))] t) (va_A [(h0, .inr (5, [.ref r0])), (r0, .inl (TY 2, n0, .inr (.inr (.inl f0))))] sz)) 0 0 (va_A [(h0, .inr (5, [.ref r0])), (r0, .inl (TY 2, n0, .inr (.inr (.inl f0))))] sz) := by
  refine vy_ofW (cc := cX5_length) (maxL := 1) (ret := (Option.some Jvm.ClassFile.FieldType.int)) (by decide) rfl ?_
  intro p e s m args below meth c s₁ B hml htab hv
  obtain ⟨rfl, hsz, hP, hK, hD0, hG⟩ := hv
  have hx := B.exec
  have hb := B.bytes
  have hr := B.returns
  have hts0 := atoms_spec (ws := ws_ yX5_length cX5_length 1 (Option.some Jvm.ClassFile.FieldType.int)) B.pre
  have hts : ∀ w ∈ lw_all, w.before _ s = true := fun w h => hts0 w (List.mem_cons_of_mem _ h)
  have hown : s.vm.findClass RX5 = some m.cls := findClass_of_methodNamed B.named
  have hlocks := B.notSynchronized
  subst hsz
  have hD := hD0.self (sz := s.heap.size)
  generalize hAe : va_A [(h0, .inr (5, [.ref r0])), (r0, .inl (TY 2, n0, .inr (.inr (.inl f0))))] s.heap.size = A at hD hG ⊢
  have hA : ∀ q : Nat, s.heap.size ≤ q → A q := fun q h => by rw [← hAe]; exact Or.inr h
  have hS : va_S A s.heap s.heap [] := va_S.rf
  have hP : va_P D vwCl [(h0, .inr (5, [.ref r0])), (r0, .inl (TY 2, n0, .inr (.inr (.inl f0))))] s.heap := hP
  have hl := lv_entry ([.ref h0]) (n := 1) (Nat.le_of_ble_eq_true rfl)
  rw [lg_entry_eq]
  generalize (lg_sl ([.ref h0]) ++ List.replicate (1 - (lg_sl ([.ref h0])).length) Slot.unset).toArray = ls at hl ⊢
  have hl : lv_has ls 1 [(0, .ref h0)] := hl
  unfold wX5_length_F at hw
  refine lv_aload_n hx hb dX5_length_0 rfl (lv_at hl 0 rfl) ?_
  refine va_get (D := D) (ci := 5) (v := .ref r0) (C := RX5) (T := TX5) (N := 1) hx hb hts in_X5 hown hK hP 0 rfl rfl 0 (by decide) (hts _ q948) (fun _ h9 => h9) rfl dX5_length_1 ?_
  refine nx_instA hx hb hown (hts _ q1110) (nx_arr (ty := .float) hK hP 1 2 rfl rfl nx_F) dX5_length_4 ?_
  refine lv_if_eq (tgt := 21) hx hb dX5_length_7 (by decide) (fun c1 => absurd c1 (by decide)) (fun _ => ?_)
  refine lv_aload_n hx hb dX5_length_10 rfl (lv_at hl 0 rfl) ?_
  refine va_get (D := D) (ci := 5) (v := .ref r0) (C := RX5) (T := TX5) (N := 1) hx hb hts in_X5 hown hK hP 0 rfl rfl 0 (by decide) (hts _ q948) (fun _ h9 => h9) rfl dX5_length_11 ?_
  refine va_castA hx hb hown (hts _ q1110) hP 1 rfl (nx_F (hK.2 2 _ rfl).2) dX5_length_14 ?_
  refine va_alen (v := Int32.ofNat n0) hx hb hK hP 1 2 rfl rfl rfl dX5_length_17 ?_
  refine lv_goto (tgt := 29) hx hb dX5_length_18 (by decide) ?_
  refine vy_ret ?_
  have hP9 := hP.sub (ws' := [(h0, .inr (5, [.ref r0])), (r0, .inl (TY 2, n0, .inr (.inr (.inl f0))))]) [0, 1] rfl
  have hD9 := hD.sub (ws' := [(h0, .inr (5, [.ref r0])), (r0, .inl (TY 2, n0, .inr (.inr (.inl f0))))]) [0, 1] (by decide) rfl
  exact W.iret (v := Int32.ofNat n0) hx hb hr (fun t ht hW => ⟨⟨Int32.ofNat n0, (), rfl, hw, BB.mk hP9 hD9 hK ht hW⟩, hS.F ht⟩) hS.2.2 dX5_length_29

def wX5_length_D (n0 : Nat) (post : Int32 → Unit → Prop) (px : Nat → Unit → Prop) : Prop := post (Int32.ofNat n0) ()
set_option maxHeartbeats 4000000 in
set_option maxRecDepth 100000 in
theorem mX5_length_D (l : Launch) (D : va_G) (TY : Nat → ClassId) (sz : Nat) (h0 : Nat) (r0 : Nat) (n0 : Nat) (f0 : Nat → UInt64) (post : Int32 → Unit → Prop) (px : Nat → Unit → Prop) (hst : l.stackTraces = false) (hw : wX5_length_D n0 post px) : vy_Met l yX5_length (ws_ yX5_length cX5_length 1 (Option.some Jvm.ClassFile.FieldType.int)) ({ frames := 0, cells := 0, slots := 0, locals := 0 }) (PC D TY [.ref h0] sz [(h0, .inr (5, [.ref r0])), (r0, .inl (TY 3, n0, .inr (.inr (.inr (.inl f0)))))]) (va_Qi post (fun (u : Unit) t => BB D TY (va_A [(h0, .inr (5, [.ref r0])), (r0, .inl (TY 3, n0, .inr (.inr (.inr (.inl f0)))))] sz) [(h0, .inr (5, [.ref r0])), (r0, .inl (TY 3, n0, .inr (.inr (.inr (.inl f0)))))] t) (va_A [(h0, .inr (5, [.ref r0])), (r0, .inl (TY 3, n0, .inr (.inr (.inr (.inl f0)))))] sz)) (vx_X (fun (u : Nat × Unit) => px u.1 u.2) (fun E _ (u : Nat × Unit) t => E = exN u.1 ∧ (False) ∧ BB D TY (va_A [(h0, .inr (5, [.ref r0])), (r0, .inl (TY 3, n0, .inr (.inr (.inr (.inl f0)))))] sz) [(h0, .inr (5, [.ref r0])), (r0, .inl (TY 3, n0, .inr (.inr (.inr (.inl f0)))))] t) (va_A [(h0, .inr (5, [.ref r0])), (r0, .inl (TY 3, n0, .inr (.inr (.inr (.inl f0)))))] sz)) 0 0 (va_A [(h0, .inr (5, [.ref r0])), (r0, .inl (TY 3, n0, .inr (.inr (.inr (.inl f0)))))] sz) := by
  refine vy_ofW (cc := cX5_length) (maxL := 1) (ret := (Option.some Jvm.ClassFile.FieldType.int)) (by decide) rfl ?_
  intro p e s m args below meth c s₁ B hml htab hv
  obtain ⟨rfl, hsz, hP, hK, hD0, hG⟩ := hv
  have hx := B.exec
  have hb := B.bytes
  have hr := B.returns
  have hts0 := atoms_spec (ws := ws_ yX5_length cX5_length 1 (Option.some Jvm.ClassFile.FieldType.int)) B.pre
  have hts : ∀ w ∈ lw_all, w.before _ s = true := fun w h => hts0 w (List.mem_cons_of_mem _ h)
  have hown : s.vm.findClass RX5 = some m.cls := findClass_of_methodNamed B.named
  have hlocks := B.notSynchronized
  subst hsz
  have hD := hD0.self (sz := s.heap.size)
  generalize hAe : va_A [(h0, .inr (5, [.ref r0])), (r0, .inl (TY 3, n0, .inr (.inr (.inr (.inl f0)))))] s.heap.size = A at hD hG ⊢
  have hA : ∀ q : Nat, s.heap.size ≤ q → A q := fun q h => by rw [← hAe]; exact Or.inr h
  have hS : va_S A s.heap s.heap [] := va_S.rf
  have hP : va_P D vwCl [(h0, .inr (5, [.ref r0])), (r0, .inl (TY 3, n0, .inr (.inr (.inr (.inl f0)))))] s.heap := hP
  have hl := lv_entry ([.ref h0]) (n := 1) (Nat.le_of_ble_eq_true rfl)
  rw [lg_entry_eq]
  generalize (lg_sl ([.ref h0]) ++ List.replicate (1 - (lg_sl ([.ref h0])).length) Slot.unset).toArray = ls at hl ⊢
  have hl : lv_has ls 1 [(0, .ref h0)] := hl
  unfold wX5_length_D at hw
  refine lv_aload_n hx hb dX5_length_0 rfl (lv_at hl 0 rfl) ?_
  refine va_get (D := D) (ci := 5) (v := .ref r0) (C := RX5) (T := TX5) (N := 1) hx hb hts in_X5 hown hK hP 0 rfl rfl 0 (by decide) (hts _ q948) (fun _ h9 => h9) rfl dX5_length_1 ?_
  refine va_instNo (C := "[D") hx hb hown (hts _ q1110) (gz_nc144 hG) (nx_arr (ty := .double) hK hP 1 3 rfl rfl nx_D) dX5_length_4 ?_
  refine lv_if_eq (tgt := 21) hx hb dX5_length_7 (by decide) (fun _ => ?_) (fun c1 => absurd c1 (by decide))
  refine lv_aload_n hx hb dX5_length_21 rfl (lv_at hl 0 rfl) ?_
  refine va_get (D := D) (ci := 5) (v := .ref r0) (C := RX5) (T := TX5) (N := 1) hx hb hts in_X5 hown hK hP 0 rfl rfl 0 (by decide) (hts _ q948) (fun _ h9 => h9) rfl dX5_length_22 ?_
  refine va_castA hx hb hown (hts _ q1111) hP 1 rfl (nx_D (hK.2 3 _ rfl).2) dX5_length_25 ?_
  refine va_alen (v := Int32.ofNat n0) hx hb hK hP 1 3 rfl rfl rfl dX5_length_28 ?_
  refine vy_ret ?_
  have hP9 := hP.sub (ws' := [(h0, .inr (5, [.ref r0])), (r0, .inl (TY 3, n0, .inr (.inr (.inr (.inl f0)))))]) [0, 1] rfl
  have hD9 := hD.sub (ws' := [(h0, .inr (5, [.ref r0])), (r0, .inl (TY 3, n0, .inr (.inr (.inr (.inl f0)))))]) [0, 1] (by decide) rfl
  exact W.iret (v := Int32.ofNat n0) hx hb hr (fun t ht hW => ⟨⟨Int32.ofNat n0, (), rfl, hw, BB.mk hP9 hD9 hK ht hW⟩, hS.F ht⟩) hS.2.2 dX5_length_29
