theorem hd_X0_isEndless : yX0_isEndless.cls ≠ "java/lang/invoke/MethodHandle" ∧ yX0_isEndless.cls ≠ "java/lang/invoke/VarHandle" ∧ (parseMethodDescriptor yX0_isEndless.desc).map (fun d => d.parameters.length) = some 1 := by decide +kernel
theorem hd_X0_isNumber : yX0_isNumber.cls ≠ "java/lang/invoke/MethodHandle" ∧ yX0_isNumber.cls ≠ "java/lang/invoke/VarHandle" ∧ (parseMethodDescriptor yX0_isNumber.desc).map (fun d => d.parameters.length) = some 2 := by decide +kernel
theorem hd_X1_fit : yX1_fit.cls ≠ "java/lang/invoke/MethodHandle" ∧ yX1_fit.cls ≠ "java/lang/invoke/VarHandle" ∧ (parseMethodDescriptor yX1_fit.desc).map (fun d => d.parameters.length) = some 1 := by decide +kernel
theorem hdF_fit : (⟨"FloatClasses$Reals", "fit", "(D)D"⟩ : MethodName).cls ≠ "java/lang/invoke/MethodHandle" ∧ (⟨"FloatClasses$Reals", "fit", "(D)D"⟩ : MethodName).cls ≠ "java/lang/invoke/VarHandle" ∧ (parseMethodDescriptor (⟨"FloatClasses$Reals", "fit", "(D)D"⟩ : MethodName).desc).map (fun d => d.parameters.length) = some 1 := by decide +kernel
def fX8_plus_D (p1 : UInt64) (p3 : UInt64) : UInt64 := lt_ (if (fX0_isNumber p1 p3) = 0 then 9221120237041090560 else (if (fX0_isEndless p1) = 0 then (fX1_fit (FP.dadd p1 p3)) else (if Deq p3 (FP.dneg p1) then 9221120237041090560 else (fX1_fit (FP.dadd p1 p3))))) (fun x1 : UInt64 => x1)
def oX8_plus_D (p1 : UInt64) (p3 : UInt64) : Prop := (((fX0_isNumber p1 p3) = 0) → True) ∧ (¬ ((fX0_isNumber p1 p3) = 0) → (((fX0_isEndless p1) = 0) → (vf_n64 (FP.dadd p1 p3))) ∧ (¬ ((fX0_isEndless p1) = 0) → ((Deq p3 (FP.dneg p1)) → True) ∧ (¬ (Deq p3 (FP.dneg p1)) → (vf_n64 (FP.dadd p1 p3)))))
set_option maxHeartbeats 4000000 in
set_option maxRecDepth 100000 in
theorem mX8_plus_D (l : Launch) (D : va_G) (TY : Nat → ClassId) (h0 : Nat) (p1 : UInt64) (p3 : UInt64) (post : UInt64 → Prop) (hw : post (fX8_plus_D p1 p3)) (hok : oX8_plus_D p1 p3) : Met l yX8_plus (ws_ yX8_plus cX8_plus 5 (Option.some Jvm.ClassFile.FieldType.double)) ({ frames := 1, cells := 0, slots := 0, locals := 23 }) (PR D TY [.ref h0, .double p1, .double p3] [(h0, .inr (1, []))]) (vp_Sd post) 0 0 (fun _ => False) := by
  refine ofWF (cc := cX8_plus) (maxL := 5) (ret := (Option.some Jvm.ClassFile.FieldType.double)) (plainFor_of_name (by decide)) rfl ?_
  intro p e s m args below meth c s₁ B hml hv
  obtain ⟨rfl, hP, hK, hG⟩ := hv
  have hx := B.exec
  have hb := B.bytes
  have hr := B.returns
  have hts0 := atoms_spec (ws := ws_ yX8_plus cX8_plus 5 (Option.some Jvm.ClassFile.FieldType.double)) B.pre
  have hts : ∀ w ∈ lw_all, w.before _ s = true := fun w h => hts0 w (List.mem_cons_of_mem _ h)
  have hown : s.vm.findClass RX8 = some m.cls := findClass_of_methodNamed B.named
  have hlocks := B.notSynchronized
  have hS : va_S (fun _ => False) s.heap s.heap [] := va_S.rf
  have hl := lv_entry ([.ref h0, .double p1, .double p3]) (n := 5) (Nat.le_of_ble_eq_true rfl)
  rw [lg_entry_eq]
  generalize (lg_sl ([.ref h0, .double p1, .double p3]) ++ List.replicate (5 - (lg_sl ([.ref h0, .double p1, .double p3])).length) Slot.unset).toArray = ls at hl ⊢
  have hl : lv_has ls 5 [(0, .ref h0), (1, .double p1), (3, .double p3)] := hl
  unfold fX8_plus_D at hw
  unfold oX8_plus_D at hok
  refine lv_dload_n hx hb dX8_plus_0 rfl (lv_at hl 1 rfl) ?_
  refine lv_dload_n hx hb dX8_plus_1 rfl (lv_at hl 2 rfl) ?_
  refine cSi (v := fX0_isNumber p1 p3) (run_weak (va_runSN (As := [.double p1, .double p3]) (rest := []) ⟨hx, hb, hml, hown, hts⟩ (mX0_isNumber l D TY p1 p3 (fun r => r = fX0_isNumber p1 p3) rfl) ⟨va_cnB 2 hts (lw_meth q459) rfl rfl rfl (gz_mn9 hG) (hts _ q44) hd_X0_isNumber ⟨Nat.le_of_ble_eq_true rfl, Nat.le_of_ble_eq_true rfl⟩, (hts _ q458), trivial⟩ (PR.S hP [] rfl hK hG hS) rfl rfl hl.1 rfl (lv_room (Nat.le_of_ble_eq_true rfl)) dX8_plus_2 ⟨Nat.le_of_ble_eq_true rfl, Nat.le_of_ble_eq_true rfl⟩)) ?_
  obtain ⟨PJx1, hPJx1⟩ : ∃ P : UInt64 → Prop, ∀ x1 : UInt64, P x1 ↔ ∀ ls : Array Slot, lv_has ls 5 [] → W p l e (headSpec (ws_ yX8_plus cX8_plus 5 (Option.some Jvm.ClassFile.FieldType.double)) ({ frames := 1, cells := 0, slots := 0, locals := 23 })).room s m ([.ref h0, .double p1, .double p3] : List Value).toArray below meth c s.heap ([]) 0 0 (MQ below (vp_Sd post) ([.ref h0, .double p1, .double p3] : List Value).toArray s 0 0 (fun _ => False)) (F0 m 37 ls [.double x1]) := ⟨_, fun _ => Iff.rfl⟩
  have hox1 := hok
  have hjx1 : ∀ x1 : UInt64, x1 = (if (fX0_isNumber p1 p3) = 0 then 9221120237041090560 else (if (fX0_isEndless p1) = 0 then (fX1_fit (FP.dadd p1 p3)) else (if Deq p3 (FP.dneg p1) then 9221120237041090560 else (fX1_fit (FP.dadd p1 p3))))) → PJx1 x1 := by
    intro x1 ex1
    rw [hPJx1]
    intro ls hl
    replace hw := pf_let (P := post) hw x1 ex1
    exact W.dret (v := x1) hx hb hr (fun t ht hW => ⟨_, rfl, hw, ht⟩) (fun q h => nomatch h) dX8_plus_37
  replace hjx1 := hjx1 _ rfl
  refine lv_if_eq (tgt := 22) hx hb dX8_plus_5 (by decide) (fun c2 => ?_) (fun c2 => ?_)
  · replace hjx1 := pf_t (P := PJx1) c2 hjx1
    refine va_getsN hx hb hG.nn hS hown (gz_fn8 hG _) (fun _ h => h) dX8_plus_22 ?_
    refine lv_goto (tgt := 37) hx hb dX8_plus_25 (by decide) ?_
    exact (hPJx1 _).1 hjx1 _ (lv_sub hl [] rfl)
  · replace hjx1 := pf_f (P := PJx1) c2 hjx1
    replace hox1 := hox1.2 c2
    refine lv_dload_n hx hb dX8_plus_8 rfl (lv_at hl 1 rfl) ?_
    refine cSi (v := fX0_isEndless p1) (run_weak (va_runSN (As := [.double p1]) (rest := []) ⟨hx, hb, hml, hown, hts⟩ (mX0_isEndless l D TY p1 (fun r => r = fX0_isEndless p1) rfl) ⟨va_cnB 1 hts (lw_meth q137) rfl rfl rfl (gz_mn6 hG) (hts _ q44) hd_X0_isEndless ⟨Nat.le_of_ble_eq_true rfl, Nat.le_of_ble_eq_true rfl⟩, (hts _ q136), trivial⟩ (PR.S hP [] rfl hK hG hS) rfl rfl hl.1 rfl (lv_room (Nat.le_of_ble_eq_true rfl)) dX8_plus_9 ⟨Nat.le_of_ble_eq_true rfl, Nat.le_of_ble_eq_true rfl⟩)) ?_
    refine lv_if_eq (tgt := 28) hx hb dX8_plus_12 (by decide) (fun c3 => ?_) (fun c3 => ?_)
    · replace hjx1 := pf_t (P := PJx1) c3 hjx1
      replace hox1 := hox1.1 c3
      refine lv_aload_n hx hb dX8_plus_28 rfl (lv_at hl 0 rfl) ?_
      refine lv_dload_n hx hb dX8_plus_29 rfl (lv_at hl 1 rfl) ?_
      refine lv_dload_n hx hb dX8_plus_30 rfl (lv_at hl 2 rfl) ?_
      refine lv_dadd hx hb dX8_plus_31 hox1 ?_
      refine cFSd (v := fX1_fit (FP.dadd p1 p3)) (va_runF (As := [.double (FP.dadd p1 p3)]) (rest := []) (hK.1 1 _ rfl).2 ⟨hx, hb, hml, hown, hts⟩ (mX1_fit l D TY h0 (FP.dadd p1 p3) (fun r => r = fX1_fit (FP.dadd p1 p3)) rfl) (va_cwF 1 hts (lw_F q461 q464 q466 q45 q468) rfl rfl rfl (gz_fw13 hG) hdF_fit ⟨Nat.le_of_ble_eq_true rfl, Nat.le_of_ble_eq_true rfl⟩) (PR.V (q0 := 0) (ci := 1) hP [0] rfl hK hG hS rfl rfl) rfl rfl hl.1 rfl (lv_room (Nat.le_of_ble_eq_true rfl)) dX8_plus_32 ⟨Nat.le_of_ble_eq_true rfl, Nat.le_of_ble_eq_true rfl⟩) ?_
      exact (hPJx1 _).1 hjx1 _ (lv_sub hl [] rfl)
    · replace hjx1 := pf_f (P := PJx1) c3 hjx1
      replace hox1 := hox1.2 c3
      refine lv_dload_n hx hb dX8_plus_15 rfl (lv_at hl 2 rfl) ?_
      refine lv_dload_n hx hb dX8_plus_16 rfl (lv_at hl 1 rfl) ?_
      refine lv_dneg hx hb dX8_plus_17 ?_
      refine lx_dlne (tgt := 28) hx hb dX8_plus_18 dX8_plus_19 (by decide) (fun c4 => ?_) (fun c4 => ?_)
      · replace hjx1 := pf_f (P := PJx1) c4 hjx1
        replace hox1 := hox1.2 c4
        refine lv_aload_n hx hb dX8_plus_28 rfl (lv_at hl 0 rfl) ?_
        refine lv_dload_n hx hb dX8_plus_29 rfl (lv_at hl 1 rfl) ?_
        refine lv_dload_n hx hb dX8_plus_30 rfl (lv_at hl 2 rfl) ?_
        refine lv_dadd hx hb dX8_plus_31 hox1 ?_
        refine cFSd (v := fX1_fit (FP.dadd p1 p3)) (va_runF (As := [.double (FP.dadd p1 p3)]) (rest := []) (hK.1 1 _ rfl).2 ⟨hx, hb, hml, hown, hts⟩ (mX1_fit l D TY h0 (FP.dadd p1 p3) (fun r => r = fX1_fit (FP.dadd p1 p3)) rfl) (va_cwF 1 hts (lw_F q461 q464 q466 q45 q468) rfl rfl rfl (gz_fw13 hG) hdF_fit ⟨Nat.le_of_ble_eq_true rfl, Nat.le_of_ble_eq_true rfl⟩) (PR.V (q0 := 0) (ci := 1) hP [0] rfl hK hG hS rfl rfl) rfl rfl hl.1 rfl (lv_room (Nat.le_of_ble_eq_true rfl)) dX8_plus_32 ⟨Nat.le_of_ble_eq_true rfl, Nat.le_of_ble_eq_true rfl⟩) ?_
        exact (hPJx1 _).1 hjx1 _ (lv_sub hl [] rfl)
      · replace hjx1 := pf_t (P := PJx1) c4 hjx1
        refine va_getsN hx hb hG.nn hS hown (gz_fn8 hG _) (fun _ h => h) dX8_plus_22 ?_
        refine lv_goto (tgt := 37) hx hb dX8_plus_25 (by decide) ?_
        exact (hPJx1 _).1 hjx1 _ (lv_sub hl [] rfl)

def fX8_plus_F (p1 : UInt64) (p3 : UInt64) : UInt64 := lt_ (if (fX0_isNumber p1 p3) = 0 then 9221120237041090560 else (if (fX0_isEndless p1) = 0 then (fX2_fit (FP.dadd p1 p3)) else (if Deq p3 (FP.dneg p1) then 9221120237041090560 else (fX2_fit (FP.dadd p1 p3))))) (fun x1 : UInt64 => x1)
def oX8_plus_F (p1 : UInt64) (p3 : UInt64) : Prop := (((fX0_isNumber p1 p3) = 0) → True) ∧ (¬ ((fX0_isNumber p1 p3) = 0) → (((fX0_isEndless p1) = 0) → (vf_n64 (FP.dadd p1 p3)) ∧ (oX2_fit (FP.dadd p1 p3))) ∧ (¬ ((fX0_isEndless p1) = 0) → ((Deq p3 (FP.dneg p1)) → True) ∧ (¬ (Deq p3 (FP.dneg p1)) → (vf_n64 (FP.dadd p1 p3)) ∧ (oX2_fit (FP.dadd p1 p3)))))
set_option maxHeartbeats 4000000 in
set_option maxRecDepth 100000 in
theorem mX8_plus_F (l : Launch) (D : va_G) (TY : Nat → ClassId) (h0 : Nat) (p1 : UInt64) (p3 : UInt64) (post : UInt64 → Prop) (hw : post (fX8_plus_F p1 p3)) (hok : oX8_plus_F p1 p3) : Met l yX8_plus (ws_ yX8_plus cX8_plus 5 (Option.some Jvm.ClassFile.FieldType.double)) ({ frames := 1, cells := 0, slots := 0, locals := 23 }) (PR D TY [.ref h0, .double p1, .double p3] [(h0, .inr (2, []))]) (vp_Sd post) 0 0 (fun _ => False) := by
  refine ofWF (cc := cX8_plus) (maxL := 5) (ret := (Option.some Jvm.ClassFile.FieldType.double)) (plainFor_of_name (by decide)) rfl ?_
  intro p e s m args below meth c s₁ B hml hv
  obtain ⟨rfl, hP, hK, hG⟩ := hv
  have hx := B.exec
  have hb := B.bytes
  have hr := B.returns
  have hts0 := atoms_spec (ws := ws_ yX8_plus cX8_plus 5 (Option.some Jvm.ClassFile.FieldType.double)) B.pre
  have hts : ∀ w ∈ lw_all, w.before _ s = true := fun w h => hts0 w (List.mem_cons_of_mem _ h)
  have hown : s.vm.findClass RX8 = some m.cls := findClass_of_methodNamed B.named
  have hlocks := B.notSynchronized
  have hS : va_S (fun _ => False) s.heap s.heap [] := va_S.rf
  have hl := lv_entry ([.ref h0, .double p1, .double p3]) (n := 5) (Nat.le_of_ble_eq_true rfl)
  rw [lg_entry_eq]
  generalize (lg_sl ([.ref h0, .double p1, .double p3]) ++ List.replicate (5 - (lg_sl ([.ref h0, .double p1, .double p3])).length) Slot.unset).toArray = ls at hl ⊢
  have hl : lv_has ls 5 [(0, .ref h0), (1, .double p1), (3, .double p3)] := hl
  unfold fX8_plus_F at hw
  unfold oX8_plus_F at hok
  refine lv_dload_n hx hb dX8_plus_0 rfl (lv_at hl 1 rfl) ?_
  refine lv_dload_n hx hb dX8_plus_1 rfl (lv_at hl 2 rfl) ?_
  refine cSi (v := fX0_isNumber p1 p3) (run_weak (va_runSN (As := [.double p1, .double p3]) (rest := []) ⟨hx, hb, hml, hown, hts⟩ (mX0_isNumber l D TY p1 p3 (fun r => r = fX0_isNumber p1 p3) rfl) ⟨va_cnB 2 hts (lw_meth q459) rfl rfl rfl (gz_mn9 hG) (hts _ q44) hd_X0_isNumber ⟨Nat.le_of_ble_eq_true rfl, Nat.le_of_ble_eq_true rfl⟩, (hts _ q458), trivial⟩ (PR.S hP [] rfl hK hG hS) rfl rfl hl.1 rfl (lv_room (Nat.le_of_ble_eq_true rfl)) dX8_plus_2 ⟨Nat.le_of_ble_eq_true rfl, Nat.le_of_ble_eq_true rfl⟩)) ?_
  obtain ⟨PJx1, hPJx1⟩ : ∃ P : UInt64 → Prop, ∀ x1 : UInt64, P x1 ↔ ∀ ls : Array Slot, lv_has ls 5 [] → W p l e (headSpec (ws_ yX8_plus cX8_plus 5 (Option.some Jvm.ClassFile.FieldType.double)) ({ frames := 1, cells := 0, slots := 0, locals := 23 })).room s m ([.ref h0, .double p1, .double p3] : List Value).toArray below meth c s.heap ([]) 0 0 (MQ below (vp_Sd post) ([.ref h0, .double p1, .double p3] : List Value).toArray s 0 0 (fun _ => False)) (F0 m 37 ls [.double x1]) := ⟨_, fun _ => Iff.rfl⟩
  have hox1 := hok
  have hjx1 : ∀ x1 : UInt64, x1 = (if (fX0_isNumber p1 p3) = 0 then 9221120237041090560 else (if (fX0_isEndless p1) = 0 then (fX2_fit (FP.dadd p1 p3)) else (if Deq p3 (FP.dneg p1) then 9221120237041090560 else (fX2_fit (FP.dadd p1 p3))))) → PJx1 x1 := by
    intro x1 ex1
    rw [hPJx1]
    intro ls hl
    replace hw := pf_let (P := post) hw x1 ex1
    exact W.dret (v := x1) hx hb hr (fun t ht hW => ⟨_, rfl, hw, ht⟩) (fun q h => nomatch h) dX8_plus_37
  replace hjx1 := hjx1 _ rfl
  refine lv_if_eq (tgt := 22) hx hb dX8_plus_5 (by decide) (fun c2 => ?_) (fun c2 => ?_)
  · replace hjx1 := pf_t (P := PJx1) c2 hjx1
    refine va_getsN hx hb hG.nn hS hown (gz_fn8 hG _) (fun _ h => h) dX8_plus_22 ?_
    refine lv_goto (tgt := 37) hx hb dX8_plus_25 (by decide) ?_
    exact (hPJx1 _).1 hjx1 _ (lv_sub hl [] rfl)
  · replace hjx1 := pf_f (P := PJx1) c2 hjx1
    replace hox1 := hox1.2 c2
    refine lv_dload_n hx hb dX8_plus_8 rfl (lv_at hl 1 rfl) ?_
    refine cSi (v := fX0_isEndless p1) (run_weak (va_runSN (As := [.double p1]) (rest := []) ⟨hx, hb, hml, hown, hts⟩ (mX0_isEndless l D TY p1 (fun r => r = fX0_isEndless p1) rfl) ⟨va_cnB 1 hts (lw_meth q137) rfl rfl rfl (gz_mn6 hG) (hts _ q44) hd_X0_isEndless ⟨Nat.le_of_ble_eq_true rfl, Nat.le_of_ble_eq_true rfl⟩, (hts _ q136), trivial⟩ (PR.S hP [] rfl hK hG hS) rfl rfl hl.1 rfl (lv_room (Nat.le_of_ble_eq_true rfl)) dX8_plus_9 ⟨Nat.le_of_ble_eq_true rfl, Nat.le_of_ble_eq_true rfl⟩)) ?_
    refine lv_if_eq (tgt := 28) hx hb dX8_plus_12 (by decide) (fun c3 => ?_) (fun c3 => ?_)
    · replace hjx1 := pf_t (P := PJx1) c3 hjx1
      replace hox1 := hox1.1 c3
      refine lv_aload_n hx hb dX8_plus_28 rfl (lv_at hl 0 rfl) ?_
      refine lv_dload_n hx hb dX8_plus_29 rfl (lv_at hl 1 rfl) ?_
      refine lv_dload_n hx hb dX8_plus_30 rfl (lv_at hl 2 rfl) ?_
      refine lv_dadd hx hb dX8_plus_31 hox1.1 ?_
      replace hox1 := hox1.2
      refine cFSd (v := fX2_fit (FP.dadd p1 p3)) (va_runF (As := [.double (FP.dadd p1 p3)]) (rest := []) (hK.1 2 _ rfl).2 ⟨hx, hb, hml, hown, hts⟩ (mX2_fit l D TY h0 (FP.dadd p1 p3) (fun r => r = fX2_fit (FP.dadd p1 p3)) rfl hox1) (va_cwF 1 hts (lw_F q461 q469 q252 q46 q254) rfl rfl rfl (gz_fw34 hG) hdF_fit ⟨Nat.le_of_ble_eq_true rfl, Nat.le_of_ble_eq_true rfl⟩) (PR.V (q0 := 0) (ci := 2) hP [0] rfl hK hG hS rfl rfl) rfl rfl hl.1 rfl (lv_room (Nat.le_of_ble_eq_true rfl)) dX8_plus_32 ⟨Nat.le_of_ble_eq_true rfl, Nat.le_of_ble_eq_true rfl⟩) ?_
      exact (hPJx1 _).1 hjx1 _ (lv_sub hl [] rfl)
    · replace hjx1 := pf_f (P := PJx1) c3 hjx1
      replace hox1 := hox1.2 c3
      refine lv_dload_n hx hb dX8_plus_15 rfl (lv_at hl 2 rfl) ?_
      refine lv_dload_n hx hb dX8_plus_16 rfl (lv_at hl 1 rfl) ?_
      refine lv_dneg hx hb dX8_plus_17 ?_
      refine lx_dlne (tgt := 28) hx hb dX8_plus_18 dX8_plus_19 (by decide) (fun c4 => ?_) (fun c4 => ?_)
      · replace hjx1 := pf_f (P := PJx1) c4 hjx1
        replace hox1 := hox1.2 c4
        refine lv_aload_n hx hb dX8_plus_28 rfl (lv_at hl 0 rfl) ?_
        refine lv_dload_n hx hb dX8_plus_29 rfl (lv_at hl 1 rfl) ?_
        refine lv_dload_n hx hb dX8_plus_30 rfl (lv_at hl 2 rfl) ?_
        refine lv_dadd hx hb dX8_plus_31 hox1.1 ?_
        replace hox1 := hox1.2
        refine cFSd (v := fX2_fit (FP.dadd p1 p3)) (va_runF (As := [.double (FP.dadd p1 p3)]) (rest := []) (hK.1 2 _ rfl).2 ⟨hx, hb, hml, hown, hts⟩ (mX2_fit l D TY h0 (FP.dadd p1 p3) (fun r => r = fX2_fit (FP.dadd p1 p3)) rfl hox1) (va_cwF 1 hts (lw_F q461 q469 q252 q46 q254) rfl rfl rfl (gz_fw34 hG) hdF_fit ⟨Nat.le_of_ble_eq_true rfl, Nat.le_of_ble_eq_true rfl⟩) (PR.V (q0 := 0) (ci := 2) hP [0] rfl hK hG hS rfl rfl) rfl rfl hl.1 rfl (lv_room (Nat.le_of_ble_eq_true rfl)) dX8_plus_32 ⟨Nat.le_of_ble_eq_true rfl, Nat.le_of_ble_eq_true rfl⟩) ?_
        exact (hPJx1 _).1 hjx1 _ (lv_sub hl [] rfl)
      · replace hjx1 := pf_t (P := PJx1) c4 hjx1
        refine va_getsN hx hb hG.nn hS hown (gz_fn8 hG _) (fun _ h => h) dX8_plus_22 ?_
        refine lv_goto (tgt := 37) hx hb dX8_plus_25 (by decide) ?_
        exact (hPJx1 _).1 hjx1 _ (lv_sub hl [] rfl)

def fX8_times_D (p1 : UInt64) (p3 : UInt64) : UInt64 := lt_ (if (fX0_isNumber p1 p3) = 0 then 9221120237041090560 else (if Deq p1 FP.dconst0 then (if (fX0_isEndless p3) = 0 then (if (fX0_isEndless p1) = 0 then (fX1_fit (FP.dmul p1 p3)) else (if Deq p3 FP.dconst0 then 9221120237041090560 else (fX1_fit (FP.dmul p1 p3)))) else 9221120237041090560) else (if (fX0_isEndless p1) = 0 then (fX1_fit (FP.dmul p1 p3)) else (if Deq p3 FP.dconst0 then 9221120237041090560 else (fX1_fit (FP.dmul p1 p3)))))) (fun x1 : UInt64 => x1)
def oX8_times_D (p1 : UInt64) (p3 : UInt64) : Prop := (((fX0_isNumber p1 p3) = 0) → True) ∧ (¬ ((fX0_isNumber p1 p3) = 0) → ((Deq p1 FP.dconst0) → (((fX0_isEndless p3) = 0) → (((fX0_isEndless p1) = 0) → (vf_n64 (FP.dmul p1 p3))) ∧ (¬ ((fX0_isEndless p1) = 0) → ((Deq p3 FP.dconst0) → True) ∧ (¬ (Deq p3 FP.dconst0) → (vf_n64 (FP.dmul p1 p3))))) ∧ (¬ ((fX0_isEndless p3) = 0) → True)) ∧ (¬ (Deq p1 FP.dconst0) → (((fX0_isEndless p1) = 0) → (vf_n64 (FP.dmul p1 p3))) ∧ (¬ ((fX0_isEndless p1) = 0) → ((Deq p3 FP.dconst0) → True) ∧ (¬ (Deq p3 FP.dconst0) → (vf_n64 (FP.dmul p1 p3))))))
set_option maxHeartbeats 4000000 in
set_option maxRecDepth 100000 in
theorem mX8_times_D (l : Launch) (D : va_G) (TY : Nat → ClassId) (h0 : Nat) (p1 : UInt64) (p3 : UInt64) (post : UInt64 → Prop) (hw : post (fX8_times_D p1 p3)) (hok : oX8_times_D p1 p3) : Met l yX8_times (ws_ yX8_times cX8_times 5 (Option.some Jvm.ClassFile.FieldType.double)) ({ frames := 1, cells := 0, slots := 0, locals := 23 }) (PR D TY [.ref h0, .double p1, .double p3] [(h0, .inr (1, []))]) (vp_Sd post) 0 0 (fun _ => False) := by
  refine ofWF (cc := cX8_times) (maxL := 5) (ret := (Option.some Jvm.ClassFile.FieldType.double)) (plainFor_of_name (by decide)) rfl ?_
  intro p e s m args below meth c s₁ B hml hv
  obtain ⟨rfl, hP, hK, hG⟩ := hv
  have hx := B.exec
  have hb := B.bytes
  have hr := B.returns
  have hts0 := atoms_spec (ws := ws_ yX8_times cX8_times 5 (Option.some Jvm.ClassFile.FieldType.double)) B.pre
  have hts : ∀ w ∈ lw_all, w.before _ s = true := fun w h => hts0 w (List.mem_cons_of_mem _ h)
  have hown : s.vm.findClass RX8 = some m.cls := findClass_of_methodNamed B.named
  have hlocks := B.notSynchronized
  have hS : va_S (fun _ => False) s.heap s.heap [] := va_S.rf
  have hl := lv_entry ([.ref h0, .double p1, .double p3]) (n := 5) (Nat.le_of_ble_eq_true rfl)
  rw [lg_entry_eq]
  generalize (lg_sl ([.ref h0, .double p1, .double p3]) ++ List.replicate (5 - (lg_sl ([.ref h0, .double p1, .double p3])).length) Slot.unset).toArray = ls at hl ⊢
  have hl : lv_has ls 5 [(0, .ref h0), (1, .double p1), (3, .double p3)] := hl
  unfold fX8_times_D at hw
  unfold oX8_times_D at hok
  refine lv_dload_n hx hb dX8_times_0 rfl (lv_at hl 1 rfl) ?_
  refine lv_dload_n hx hb dX8_times_1 rfl (lv_at hl 2 rfl) ?_
  refine cSi (v := fX0_isNumber p1 p3) (run_weak (va_runSN (As := [.double p1, .double p3]) (rest := []) ⟨hx, hb, hml, hown, hts⟩ (mX0_isNumber l D TY p1 p3 (fun r => r = fX0_isNumber p1 p3) rfl) ⟨va_cnB 2 hts (lw_meth q459) rfl rfl rfl (gz_mn9 hG) (hts _ q44) hd_X0_isNumber ⟨Nat.le_of_ble_eq_true rfl, Nat.le_of_ble_eq_true rfl⟩, (hts _ q458), trivial⟩ (PR.S hP [] rfl hK hG hS) rfl rfl hl.1 rfl (lv_room (Nat.le_of_ble_eq_true rfl)) dX8_times_2 ⟨Nat.le_of_ble_eq_true rfl, Nat.le_of_ble_eq_true rfl⟩)) ?_
  obtain ⟨PJx1, hPJx1⟩ : ∃ P : UInt64 → Prop, ∀ x1 : UInt64, P x1 ↔ ∀ ls : Array Slot, lv_has ls 5 [] → W p l e (headSpec (ws_ yX8_times cX8_times 5 (Option.some Jvm.ClassFile.FieldType.double)) ({ frames := 1, cells := 0, slots := 0, locals := 23 })).room s m ([.ref h0, .double p1, .double p3] : List Value).toArray below meth c s.heap ([]) 0 0 (MQ below (vp_Sd post) ([.ref h0, .double p1, .double p3] : List Value).toArray s 0 0 (fun _ => False)) (F0 m 49 ls [.double x1]) := ⟨_, fun _ => Iff.rfl⟩
  have hox1 := hok
  have hjx1 : ∀ x1 : UInt64, x1 = (if (fX0_isNumber p1 p3) = 0 then 9221120237041090560 else (if Deq p1 FP.dconst0 then (if (fX0_isEndless p3) = 0 then (if (fX0_isEndless p1) = 0 then (fX1_fit (FP.dmul p1 p3)) else (if Deq p3 FP.dconst0 then 9221120237041090560 else (fX1_fit (FP.dmul p1 p3)))) else 9221120237041090560) else (if (fX0_isEndless p1) = 0 then (fX1_fit (FP.dmul p1 p3)) else (if Deq p3 FP.dconst0 then 9221120237041090560 else (fX1_fit (FP.dmul p1 p3)))))) → PJx1 x1 := by
    intro x1 ex1
    rw [hPJx1]
    intro ls hl
    replace hw := pf_let (P := post) hw x1 ex1
    exact W.dret (v := x1) hx hb hr (fun t ht hW => ⟨_, rfl, hw, ht⟩) (fun q h => nomatch h) dX8_times_49
  replace hjx1 := hjx1 _ rfl
  refine lv_if_eq (tgt := 34) hx hb dX8_times_5 (by decide) (fun c2 => ?_) (fun c2 => ?_)
  · replace hjx1 := pf_t (P := PJx1) c2 hjx1
    refine va_getsN hx hb hG.nn hS hown (gz_fn8 hG _) (fun _ h => h) dX8_times_34 ?_
    refine lv_goto (tgt := 49) hx hb dX8_times_37 (by decide) ?_
    exact (hPJx1 _).1 hjx1 _ (lv_sub hl [] rfl)
  · replace hjx1 := pf_f (P := PJx1) c2 hjx1
    replace hox1 := hox1.2 c2
    refine lv_dload_n hx hb dX8_times_8 rfl (lv_at hl 1 rfl) ?_
    refine lv_dconst0 hx hb dX8_times_9 ?_
    refine lx_dlne (tgt := 21) hx hb dX8_times_10 dX8_times_11 (by decide) (fun c3 => ?_) (fun c3 => ?_)
    · replace hjx1 := pf_f (P := PJx1) c3 hjx1
      replace hox1 := hox1.2 c3
      refine lv_dload_n hx hb dX8_times_21 rfl (lv_at hl 1 rfl) ?_
      refine cSi (v := fX0_isEndless p1) (run_weak (va_runSN (As := [.double p1]) (rest := []) ⟨hx, hb, hml, hown, hts⟩ (mX0_isEndless l D TY p1 (fun r => r = fX0_isEndless p1) rfl) ⟨va_cnB 1 hts (lw_meth q137) rfl rfl rfl (gz_mn6 hG) (hts _ q44) hd_X0_isEndless ⟨Nat.le_of_ble_eq_true rfl, Nat.le_of_ble_eq_true rfl⟩, (hts _ q136), trivial⟩ (PR.S hP [] rfl hK hG hS) rfl rfl hl.1 rfl (lv_room (Nat.le_of_ble_eq_true rfl)) dX8_times_22 ⟨Nat.le_of_ble_eq_true rfl, Nat.le_of_ble_eq_true rfl⟩)) ?_
      refine lv_if_eq (tgt := 40) hx hb dX8_times_25 (by decide) (fun c4 => ?_) (fun c4 => ?_)
      · replace hjx1 := pf_t (P := PJx1) c4 hjx1
        replace hox1 := hox1.1 c4
        refine lv_aload_n hx hb dX8_times_40 rfl (lv_at hl 0 rfl) ?_
        refine lv_dload_n hx hb dX8_times_41 rfl (lv_at hl 1 rfl) ?_
        refine lv_dload_n hx hb dX8_times_42 rfl (lv_at hl 2 rfl) ?_
        refine lv_dmul hx hb dX8_times_43 hox1 ?_
        refine cFSd (v := fX1_fit (FP.dmul p1 p3)) (va_runF (As := [.double (FP.dmul p1 p3)]) (rest := []) (hK.1 1 _ rfl).2 ⟨hx, hb, hml, hown, hts⟩ (mX1_fit l D TY h0 (FP.dmul p1 p3) (fun r => r = fX1_fit (FP.dmul p1 p3)) rfl) (va_cwF 1 hts (lw_F q461 q464 q466 q45 q468) rfl rfl rfl (gz_fw13 hG) hdF_fit ⟨Nat.le_of_ble_eq_true rfl, Nat.le_of_ble_eq_true rfl⟩) (PR.V (q0 := 0) (ci := 1) hP [0] rfl hK hG hS rfl rfl) rfl rfl hl.1 rfl (lv_room (Nat.le_of_ble_eq_true rfl)) dX8_times_44 ⟨Nat.le_of_ble_eq_true rfl, Nat.le_of_ble_eq_true rfl⟩) ?_
        exact (hPJx1 _).1 hjx1 _ (lv_sub hl [] rfl)
      · replace hjx1 := pf_f (P := PJx1) c4 hjx1
        replace hox1 := hox1.2 c4
        refine lv_dload_n hx hb dX8_times_28 rfl (lv_at hl 2 rfl) ?_
        refine lv_dconst0 hx hb dX8_times_29 ?_
        refine lx_dlne (tgt := 40) hx hb dX8_times_30 dX8_times_31 (by decide) (fun c5 => ?_) (fun c5 => ?_)
        · replace hjx1 := pf_f (P := PJx1) c5 hjx1
          replace hox1 := hox1.2 c5
          refine lv_aload_n hx hb dX8_times_40 rfl (lv_at hl 0 rfl) ?_
          refine lv_dload_n hx hb dX8_times_41 rfl (lv_at hl 1 rfl) ?_
          refine lv_dload_n hx hb dX8_times_42 rfl (lv_at hl 2 rfl) ?_
          refine lv_dmul hx hb dX8_times_43 hox1 ?_
          refine cFSd (v := fX1_fit (FP.dmul p1 p3)) (va_runF (As := [.double (FP.dmul p1 p3)]) (rest := []) (hK.1 1 _ rfl).2 ⟨hx, hb, hml, hown, hts⟩ (mX1_fit l D TY h0 (FP.dmul p1 p3) (fun r => r = fX1_fit (FP.dmul p1 p3)) rfl) (va_cwF 1 hts (lw_F q461 q464 q466 q45 q468) rfl rfl rfl (gz_fw13 hG) hdF_fit ⟨Nat.le_of_ble_eq_true rfl, Nat.le_of_ble_eq_true rfl⟩) (PR.V (q0 := 0) (ci := 1) hP [0] rfl hK hG hS rfl rfl) rfl rfl hl.1 rfl (lv_room (Nat.le_of_ble_eq_true rfl)) dX8_times_44 ⟨Nat.le_of_ble_eq_true rfl, Nat.le_of_ble_eq_true rfl⟩) ?_
          exact (hPJx1 _).1 hjx1 _ (lv_sub hl [] rfl)
        · replace hjx1 := pf_t (P := PJx1) c5 hjx1
          refine va_getsN hx hb hG.nn hS hown (gz_fn8 hG _) (fun _ h => h) dX8_times_34 ?_
          refine lv_goto (tgt := 49) hx hb dX8_times_37 (by decide) ?_
          exact (hPJx1 _).1 hjx1 _ (lv_sub hl [] rfl)
    · replace hjx1 := pf_t (P := PJx1) c3 hjx1
      replace hox1 := hox1.1 c3
      refine lv_dload_n hx hb dX8_times_14 rfl (lv_at hl 2 rfl) ?_
      refine cSi (v := fX0_isEndless p3) (run_weak (va_runSN (As := [.double p3]) (rest := []) ⟨hx, hb, hml, hown, hts⟩ (mX0_isEndless l D TY p3 (fun r => r = fX0_isEndless p3) rfl) ⟨va_cnB 1 hts (lw_meth q137) rfl rfl rfl (gz_mn6 hG) (hts _ q44) hd_X0_isEndless ⟨Nat.le_of_ble_eq_true rfl, Nat.le_of_ble_eq_true rfl⟩, (hts _ q136), trivial⟩ (PR.S hP [] rfl hK hG hS) rfl rfl hl.1 rfl (lv_room (Nat.le_of_ble_eq_true rfl)) dX8_times_15 ⟨Nat.le_of_ble_eq_true rfl, Nat.le_of_ble_eq_true rfl⟩)) ?_
      refine lv_if_ne (tgt := 34) hx hb dX8_times_18 (by decide) (fun c6 => ?_) (fun c6 => ?_)
      · replace hjx1 := pf_f (P := PJx1) c6 hjx1
        refine va_getsN hx hb hG.nn hS hown (gz_fn8 hG _) (fun _ h => h) dX8_times_34 ?_
        refine lv_goto (tgt := 49) hx hb dX8_times_37 (by decide) ?_
        exact (hPJx1 _).1 hjx1 _ (lv_sub hl [] rfl)
      · replace hjx1 := pf_t (P := PJx1) c6 hjx1
        replace hox1 := hox1.1 c6
        refine lv_dload_n hx hb dX8_times_21 rfl (lv_at hl 1 rfl) ?_
        refine cSi (v := fX0_isEndless p1) (run_weak (va_runSN (As := [.double p1]) (rest := []) ⟨hx, hb, hml, hown, hts⟩ (mX0_isEndless l D TY p1 (fun r => r = fX0_isEndless p1) rfl) ⟨va_cnB 1 hts (lw_meth q137) rfl rfl rfl (gz_mn6 hG) (hts _ q44) hd_X0_isEndless ⟨Nat.le_of_ble_eq_true rfl, Nat.le_of_ble_eq_true rfl⟩, (hts _ q136), trivial⟩ (PR.S hP [] rfl hK hG hS) rfl rfl hl.1 rfl (lv_room (Nat.le_of_ble_eq_true rfl)) dX8_times_22 ⟨Nat.le_of_ble_eq_true rfl, Nat.le_of_ble_eq_true rfl⟩)) ?_
        refine lv_if_eq (tgt := 40) hx hb dX8_times_25 (by decide) (fun c7 => ?_) (fun c7 => ?_)
        · replace hjx1 := pf_t (P := PJx1) c7 hjx1
          replace hox1 := hox1.1 c7
          refine lv_aload_n hx hb dX8_times_40 rfl (lv_at hl 0 rfl) ?_
          refine lv_dload_n hx hb dX8_times_41 rfl (lv_at hl 1 rfl) ?_
          refine lv_dload_n hx hb dX8_times_42 rfl (lv_at hl 2 rfl) ?_
          refine lv_dmul hx hb dX8_times_43 hox1 ?_
          refine cFSd (v := fX1_fit (FP.dmul p1 p3)) (va_runF (As := [.double (FP.dmul p1 p3)]) (rest := []) (hK.1 1 _ rfl).2 ⟨hx, hb, hml, hown, hts⟩ (mX1_fit l D TY h0 (FP.dmul p1 p3) (fun r => r = fX1_fit (FP.dmul p1 p3)) rfl) (va_cwF 1 hts (lw_F q461 q464 q466 q45 q468) rfl rfl rfl (gz_fw13 hG) hdF_fit ⟨Nat.le_of_ble_eq_true rfl, Nat.le_of_ble_eq_true rfl⟩) (PR.V (q0 := 0) (ci := 1) hP [0] rfl hK hG hS rfl rfl) rfl rfl hl.1 rfl (lv_room (Nat.le_of_ble_eq_true rfl)) dX8_times_44 ⟨Nat.le_of_ble_eq_true rfl, Nat.le_of_ble_eq_true rfl⟩) ?_
          exact (hPJx1 _).1 hjx1 _ (lv_sub hl [] rfl)
        · replace hjx1 := pf_f (P := PJx1) c7 hjx1
          replace hox1 := hox1.2 c7
          refine lv_dload_n hx hb dX8_times_28 rfl (lv_at hl 2 rfl) ?_
          refine lv_dconst0 hx hb dX8_times_29 ?_
          refine lx_dlne (tgt := 40) hx hb dX8_times_30 dX8_times_31 (by decide) (fun c8 => ?_) (fun c8 => ?_)
          · replace hjx1 := pf_f (P := PJx1) c8 hjx1
            replace hox1 := hox1.2 c8
            refine lv_aload_n hx hb dX8_times_40 rfl (lv_at hl 0 rfl) ?_
            refine lv_dload_n hx hb dX8_times_41 rfl (lv_at hl 1 rfl) ?_
            refine lv_dload_n hx hb dX8_times_42 rfl (lv_at hl 2 rfl) ?_
            refine lv_dmul hx hb dX8_times_43 hox1 ?_
            refine cFSd (v := fX1_fit (FP.dmul p1 p3)) (va_runF (As := [.double (FP.dmul p1 p3)]) (rest := []) (hK.1 1 _ rfl).2 ⟨hx, hb, hml, hown, hts⟩ (mX1_fit l D TY h0 (FP.dmul p1 p3) (fun r => r = fX1_fit (FP.dmul p1 p3)) rfl) (va_cwF 1 hts (lw_F q461 q464 q466 q45 q468) rfl rfl rfl (gz_fw13 hG) hdF_fit ⟨Nat.le_of_ble_eq_true rfl, Nat.le_of_ble_eq_true rfl⟩) (PR.V (q0 := 0) (ci := 1) hP [0] rfl hK hG hS rfl rfl) rfl rfl hl.1 rfl (lv_room (Nat.le_of_ble_eq_true rfl)) dX8_times_44 ⟨Nat.le_of_ble_eq_true rfl, Nat.le_of_ble_eq_true rfl⟩) ?_
            exact (hPJx1 _).1 hjx1 _ (lv_sub hl [] rfl)
          · replace hjx1 := pf_t (P := PJx1) c8 hjx1
            refine va_getsN hx hb hG.nn hS hown (gz_fn8 hG _) (fun _ h => h) dX8_times_34 ?_
            refine lv_goto (tgt := 49) hx hb dX8_times_37 (by decide) ?_
            exact (hPJx1 _).1 hjx1 _ (lv_sub hl [] rfl)

def fX8_times_F (p1 : UInt64) (p3 : UInt64) : UInt64 := lt_ (if (fX0_isNumber p1 p3) = 0 then 9221120237041090560 else (if Deq p1 FP.dconst0 then (if (fX0_isEndless p3) = 0 then (if (fX0_isEndless p1) = 0 then (fX2_fit (FP.dmul p1 p3)) else (if Deq p3 FP.dconst0 then 9221120237041090560 else (fX2_fit (FP.dmul p1 p3)))) else 9221120237041090560) else (if (fX0_isEndless p1) = 0 then (fX2_fit (FP.dmul p1 p3)) else (if Deq p3 FP.dconst0 then 9221120237041090560 else (fX2_fit (FP.dmul p1 p3)))))) (fun x1 : UInt64 => x1)
def oX8_times_F (p1 : UInt64) (p3 : UInt64) : Prop := (((fX0_isNumber p1 p3) = 0) → True) ∧ (¬ ((fX0_isNumber p1 p3) = 0) → ((Deq p1 FP.dconst0) → (((fX0_isEndless p3) = 0) → (((fX0_isEndless p1) = 0) → (vf_n64 (FP.dmul p1 p3)) ∧ (oX2_fit (FP.dmul p1 p3))) ∧ (¬ ((fX0_isEndless p1) = 0) → ((Deq p3 FP.dconst0) → True) ∧ (¬ (Deq p3 FP.dconst0) → (vf_n64 (FP.dmul p1 p3)) ∧ (oX2_fit (FP.dmul p1 p3))))) ∧ (¬ ((fX0_isEndless p3) = 0) → True)) ∧ (¬ (Deq p1 FP.dconst0) → (((fX0_isEndless p1) = 0) → (vf_n64 (FP.dmul p1 p3)) ∧ (oX2_fit (FP.dmul p1 p3))) ∧ (¬ ((fX0_isEndless p1) = 0) → ((Deq p3 FP.dconst0) → True) ∧ (¬ (Deq p3 FP.dconst0) → (vf_n64 (FP.dmul p1 p3)) ∧ (oX2_fit (FP.dmul p1 p3))))))
set_option maxHeartbeats 4000000 in
set_option maxRecDepth 100000 in
theorem mX8_times_F (l : Launch) (D : va_G) (TY : Nat → ClassId) (h0 : Nat) (p1 : UInt64) (p3 : UInt64) (post : UInt64 → Prop) (hw : post (fX8_times_F p1 p3)) (hok : oX8_times_F p1 p3) : Met l yX8_times (ws_ yX8_times cX8_times 5 (Option.some Jvm.ClassFile.FieldType.double)) ({ frames := 1, cells := 0, slots := 0, locals := 23 }) (PR D TY [.ref h0, .double p1, .double p3] [(h0, .inr (2, []))]) (vp_Sd post) 0 0 (fun _ => False) := by
  refine ofWF (cc := cX8_times) (maxL := 5) (ret := (Option.some Jvm.ClassFile.FieldType.double)) (plainFor_of_name (by decide)) rfl ?_
  intro p e s m args below meth c s₁ B hml hv
  obtain ⟨rfl, hP, hK, hG⟩ := hv
  have hx := B.exec
  have hb := B.bytes
  have hr := B.returns
  have hts0 := atoms_spec (ws := ws_ yX8_times cX8_times 5 (Option.some Jvm.ClassFile.FieldType.double)) B.pre
  have hts : ∀ w ∈ lw_all, w.before _ s = true := fun w h => hts0 w (List.mem_cons_of_mem _ h)
  have hown : s.vm.findClass RX8 = some m.cls := findClass_of_methodNamed B.named
  have hlocks := B.notSynchronized
  have hS : va_S (fun _ => False) s.heap s.heap [] := va_S.rf
  have hl := lv_entry ([.ref h0, .double p1, .double p3]) (n := 5) (Nat.le_of_ble_eq_true rfl)
  rw [lg_entry_eq]
  generalize (lg_sl ([.ref h0, .double p1, .double p3]) ++ List.replicate (5 - (lg_sl ([.ref h0, .double p1, .double p3])).length) Slot.unset).toArray = ls at hl ⊢
  have hl : lv_has ls 5 [(0, .ref h0), (1, .double p1), (3, .double p3)] := hl
  unfold fX8_times_F at hw
  unfold oX8_times_F at hok
  refine lv_dload_n hx hb dX8_times_0 rfl (lv_at hl 1 rfl) ?_
  refine lv_dload_n hx hb dX8_times_1 rfl (lv_at hl 2 rfl) ?_
  refine cSi (v := fX0_isNumber p1 p3) (run_weak (va_runSN (As := [.double p1, .double p3]) (rest := []) ⟨hx, hb, hml, hown, hts⟩ (mX0_isNumber l D TY p1 p3 (fun r => r = fX0_isNumber p1 p3) rfl) ⟨va_cnB 2 hts (lw_meth q459) rfl rfl rfl (gz_mn9 hG) (hts _ q44) hd_X0_isNumber ⟨Nat.le_of_ble_eq_true rfl, Nat.le_of_ble_eq_true rfl⟩, (hts _ q458), trivial⟩ (PR.S hP [] rfl hK hG hS) rfl rfl hl.1 rfl (lv_room (Nat.le_of_ble_eq_true rfl)) dX8_times_2 ⟨Nat.le_of_ble_eq_true rfl, Nat.le_of_ble_eq_true rfl⟩)) ?_
  obtain ⟨PJx1, hPJx1⟩ : ∃ P : UInt64 → Prop, ∀ x1 : UInt64, P x1 ↔ ∀ ls : Array Slot, lv_has ls 5 [] → W p l e (headSpec (ws_ yX8_times cX8_times 5 (Option.some Jvm.ClassFile.FieldType.double)) ({ frames := 1, cells := 0, slots := 0, locals := 23 })).room s m ([.ref h0, .double p1, .double p3] : List Value).toArray below meth c s.heap ([]) 0 0 (MQ below (vp_Sd post) ([.ref h0, .double p1, .double p3] : List Value).toArray s 0 0 (fun _ => False)) (F0 m 49 ls [.double x1]) := ⟨_, fun _ => Iff.rfl⟩
  have hox1 := hok
  have hjx1 : ∀ x1 : UInt64, x1 = (if (fX0_isNumber p1 p3) = 0 then 9221120237041090560 else (if Deq p1 FP.dconst0 then (if (fX0_isEndless p3) = 0 then (if (fX0_isEndless p1) = 0 then (fX2_fit (FP.dmul p1 p3)) else (if Deq p3 FP.dconst0 then 9221120237041090560 else (fX2_fit (FP.dmul p1 p3)))) else 9221120237041090560) else (if (fX0_isEndless p1) = 0 then (fX2_fit (FP.dmul p1 p3)) else (if Deq p3 FP.dconst0 then 9221120237041090560 else (fX2_fit (FP.dmul p1 p3)))))) → PJx1 x1 := by
    intro x1 ex1
    rw [hPJx1]
    intro ls hl
    replace hw := pf_let (P := post) hw x1 ex1
    exact W.dret (v := x1) hx hb hr (fun t ht hW => ⟨_, rfl, hw, ht⟩) (fun q h => nomatch h) dX8_times_49
  replace hjx1 := hjx1 _ rfl
  refine lv_if_eq (tgt := 34) hx hb dX8_times_5 (by decide) (fun c2 => ?_) (fun c2 => ?_)
  · replace hjx1 := pf_t (P := PJx1) c2 hjx1
    refine va_getsN hx hb hG.nn hS hown (gz_fn8 hG _) (fun _ h => h) dX8_times_34 ?_
    refine lv_goto (tgt := 49) hx hb dX8_times_37 (by decide) ?_
    exact (hPJx1 _).1 hjx1 _ (lv_sub hl [] rfl)
  · replace hjx1 := pf_f (P := PJx1) c2 hjx1
    replace hox1 := hox1.2 c2
    refine lv_dload_n hx hb dX8_times_8 rfl (lv_at hl 1 rfl) ?_
    refine lv_dconst0 hx hb dX8_times_9 ?_
    refine lx_dlne (tgt := 21) hx hb dX8_times_10 dX8_times_11 (by decide) (fun c3 => ?_) (fun c3 => ?_)
    · replace hjx1 := pf_f (P := PJx1) c3 hjx1
      replace hox1 := hox1.2 c3
      refine lv_dload_n hx hb dX8_times_21 rfl (lv_at hl 1 rfl) ?_
      refine cSi (v := fX0_isEndless p1) (run_weak (va_runSN (As := [.double p1]) (rest := []) ⟨hx, hb, hml, hown, hts⟩ (mX0_isEndless l D TY p1 (fun r => r = fX0_isEndless p1) rfl) ⟨va_cnB 1 hts (lw_meth q137) rfl rfl rfl (gz_mn6 hG) (hts _ q44) hd_X0_isEndless ⟨Nat.le_of_ble_eq_true rfl, Nat.le_of_ble_eq_true rfl⟩, (hts _ q136), trivial⟩ (PR.S hP [] rfl hK hG hS) rfl rfl hl.1 rfl (lv_room (Nat.le_of_ble_eq_true rfl)) dX8_times_22 ⟨Nat.le_of_ble_eq_true rfl, Nat.le_of_ble_eq_true rfl⟩)) ?_
      refine lv_if_eq (tgt := 40) hx hb dX8_times_25 (by decide) (fun c4 => ?_) (fun c4 => ?_)
      · replace hjx1 := pf_t (P := PJx1) c4 hjx1
        replace hox1 := hox1.1 c4
        refine lv_aload_n hx hb dX8_times_40 rfl (lv_at hl 0 rfl) ?_
        refine lv_dload_n hx hb dX8_times_41 rfl (lv_at hl 1 rfl) ?_
        refine lv_dload_n hx hb dX8_times_42 rfl (lv_at hl 2 rfl) ?_
        refine lv_dmul hx hb dX8_times_43 hox1.1 ?_
        replace hox1 := hox1.2
        refine cFSd (v := fX2_fit (FP.dmul p1 p3)) (va_runF (As := [.double (FP.dmul p1 p3)]) (rest := []) (hK.1 2 _ rfl).2 ⟨hx, hb, hml, hown, hts⟩ (mX2_fit l D TY h0 (FP.dmul p1 p3) (fun r => r = fX2_fit (FP.dmul p1 p3)) rfl hox1) (va_cwF 1 hts (lw_F q461 q469 q252 q46 q254) rfl rfl rfl (gz_fw34 hG) hdF_fit ⟨Nat.le_of_ble_eq_true rfl, Nat.le_of_ble_eq_true rfl⟩) (PR.V (q0 := 0) (ci := 2) hP [0] rfl hK hG hS rfl rfl) rfl rfl hl.1 rfl (lv_room (Nat.le_of_ble_eq_true rfl)) dX8_times_44 ⟨Nat.le_of_ble_eq_true rfl, Nat.le_of_ble_eq_true rfl⟩) ?_
        exact (hPJx1 _).1 hjx1 _ (lv_sub hl [] rfl)
      · replace hjx1 := pf_f (P := PJx1) c4 hjx1
        replace hox1 := hox1.2 c4
        refine lv_dload_n hx hb dX8_times_28 rfl (lv_at hl 2 rfl) ?_
        refine lv_dconst0 hx hb dX8_times_29 ?_
        refine lx_dlne (tgt := 40) hx hb dX8_times_30 dX8_times_31 (by decide) (fun c5 => ?_) (fun c5 => ?_)
        · replace hjx1 := pf_f (P := PJx1) c5 hjx1
          replace hox1 := hox1.2 c5
          refine lv_aload_n hx hb dX8_times_40 rfl (lv_at hl 0 rfl) ?_
          refine lv_dload_n hx hb dX8_times_41 rfl (lv_at hl 1 rfl) ?_
          refine lv_dload_n hx hb dX8_times_42 rfl (lv_at hl 2 rfl) ?_
          refine lv_dmul hx hb dX8_times_43 hox1.1 ?_
          replace hox1 := hox1.2
          refine cFSd (v := fX2_fit (FP.dmul p1 p3)) (va_runF (As := [.double (FP.dmul p1 p3)]) (rest := []) (hK.1 2 _ rfl).2 ⟨hx, hb, hml, hown, hts⟩ (mX2_fit l D TY h0 (FP.dmul p1 p3) (fun r => r = fX2_fit (FP.dmul p1 p3)) rfl hox1) (va_cwF 1 hts (lw_F q461 q469 q252 q46 q254) rfl rfl rfl (gz_fw34 hG) hdF_fit ⟨Nat.le_of_ble_eq_true rfl, Nat.le_of_ble_eq_true rfl⟩) (PR.V (q0 := 0) (ci := 2) hP [0] rfl hK hG hS rfl rfl) rfl rfl hl.1 rfl (lv_room (Nat.le_of_ble_eq_true rfl)) dX8_times_44 ⟨Nat.le_of_ble_eq_true rfl, Nat.le_of_ble_eq_true rfl⟩) ?_
          exact (hPJx1 _).1 hjx1 _ (lv_sub hl [] rfl)
        · replace hjx1 := pf_t (P := PJx1) c5 hjx1
          refine va_getsN hx hb hG.nn hS hown (gz_fn8 hG _) (fun _ h => h) dX8_times_34 ?_
          refine lv_goto (tgt := 49) hx hb dX8_times_37 (by decide) ?_
          exact (hPJx1 _).1 hjx1 _ (lv_sub hl [] rfl)
    · replace hjx1 := pf_t (P := PJx1) c3 hjx1
      replace hox1 := hox1.1 c3
      refine lv_dload_n hx hb dX8_times_14 rfl (lv_at hl 2 rfl) ?_
      refine cSi (v := fX0_isEndless p3) (run_weak (va_runSN (As := [.double p3]) (rest := []) ⟨hx, hb, hml, hown, hts⟩ (mX0_isEndless l D TY p3 (fun r => r = fX0_isEndless p3) rfl) ⟨va_cnB 1 hts (lw_meth q137) rfl rfl rfl (gz_mn6 hG) (hts _ q44) hd_X0_isEndless ⟨Nat.le_of_ble_eq_true rfl, Nat.le_of_ble_eq_true rfl⟩, (hts _ q136), trivial⟩ (PR.S hP [] rfl hK hG hS) rfl rfl hl.1 rfl (lv_room (Nat.le_of_ble_eq_true rfl)) dX8_times_15 ⟨Nat.le_of_ble_eq_true rfl, Nat.le_of_ble_eq_true rfl⟩)) ?_
      refine lv_if_ne (tgt := 34) hx hb dX8_times_18 (by decide) (fun c6 => ?_) (fun c6 => ?_)
      · replace hjx1 := pf_f (P := PJx1) c6 hjx1
        refine va_getsN hx hb hG.nn hS hown (gz_fn8 hG _) (fun _ h => h) dX8_times_34 ?_
        refine lv_goto (tgt := 49) hx hb dX8_times_37 (by decide) ?_
        exact (hPJx1 _).1 hjx1 _ (lv_sub hl [] rfl)
      · replace hjx1 := pf_t (P := PJx1) c6 hjx1
        replace hox1 := hox1.1 c6
        refine lv_dload_n hx hb dX8_times_21 rfl (lv_at hl 1 rfl) ?_
        refine cSi (v := fX0_isEndless p1) (run_weak (va_runSN (As := [.double p1]) (rest := []) ⟨hx, hb, hml, hown, hts⟩ (mX0_isEndless l D TY p1 (fun r => r = fX0_isEndless p1) rfl) ⟨va_cnB 1 hts (lw_meth q137) rfl rfl rfl (gz_mn6 hG) (hts _ q44) hd_X0_isEndless ⟨Nat.le_of_ble_eq_true rfl, Nat.le_of_ble_eq_true rfl⟩, (hts _ q136), trivial⟩ (PR.S hP [] rfl hK hG hS) rfl rfl hl.1 rfl (lv_room (Nat.le_of_ble_eq_true rfl)) dX8_times_22 ⟨Nat.le_of_ble_eq_true rfl, Nat.le_of_ble_eq_true rfl⟩)) ?_
        refine lv_if_eq (tgt := 40) hx hb dX8_times_25 (by decide) (fun c7 => ?_) (fun c7 => ?_)
        · replace hjx1 := pf_t (P := PJx1) c7 hjx1
          replace hox1 := hox1.1 c7
          refine lv_aload_n hx hb dX8_times_40 rfl (lv_at hl 0 rfl) ?_
          refine lv_dload_n hx hb dX8_times_41 rfl (lv_at hl 1 rfl) ?_
          refine lv_dload_n hx hb dX8_times_42 rfl (lv_at hl 2 rfl) ?_
          refine lv_dmul hx hb dX8_times_43 hox1.1 ?_
          replace hox1 := hox1.2
          refine cFSd (v := fX2_fit (FP.dmul p1 p3)) (va_runF (As := [.double (FP.dmul p1 p3)]) (rest := []) (hK.1 2 _ rfl).2 ⟨hx, hb, hml, hown, hts⟩ (mX2_fit l D TY h0 (FP.dmul p1 p3) (fun r => r = fX2_fit (FP.dmul p1 p3)) rfl hox1) (va_cwF 1 hts (lw_F q461 q469 q252 q46 q254) rfl rfl rfl (gz_fw34 hG) hdF_fit ⟨Nat.le_of_ble_eq_true rfl, Nat.le_of_ble_eq_true rfl⟩) (PR.V (q0 := 0) (ci := 2) hP [0] rfl hK hG hS rfl rfl) rfl rfl hl.1 rfl (lv_room (Nat.le_of_ble_eq_true rfl)) dX8_times_44 ⟨Nat.le_of_ble_eq_true rfl, Nat.le_of_ble_eq_true rfl⟩) ?_
          exact (hPJx1 _).1 hjx1 _ (lv_sub hl [] rfl)
        · replace hjx1 := pf_f (P := PJx1) c7 hjx1
          replace hox1 := hox1.2 c7
          refine lv_dload_n hx hb dX8_times_28 rfl (lv_at hl 2 rfl) ?_
          refine lv_dconst0 hx hb dX8_times_29 ?_
          refine lx_dlne (tgt := 40) hx hb dX8_times_30 dX8_times_31 (by decide) (fun c8 => ?_) (fun c8 => ?_)
          · replace hjx1 := pf_f (P := PJx1) c8 hjx1
            replace hox1 := hox1.2 c8
            refine lv_aload_n hx hb dX8_times_40 rfl (lv_at hl 0 rfl) ?_
            refine lv_dload_n hx hb dX8_times_41 rfl (lv_at hl 1 rfl) ?_
            refine lv_dload_n hx hb dX8_times_42 rfl (lv_at hl 2 rfl) ?_
            refine lv_dmul hx hb dX8_times_43 hox1.1 ?_
            replace hox1 := hox1.2
            refine cFSd (v := fX2_fit (FP.dmul p1 p3)) (va_runF (As := [.double (FP.dmul p1 p3)]) (rest := []) (hK.1 2 _ rfl).2 ⟨hx, hb, hml, hown, hts⟩ (mX2_fit l D TY h0 (FP.dmul p1 p3) (fun r => r = fX2_fit (FP.dmul p1 p3)) rfl hox1) (va_cwF 1 hts (lw_F q461 q469 q252 q46 q254) rfl rfl rfl (gz_fw34 hG) hdF_fit ⟨Nat.le_of_ble_eq_true rfl, Nat.le_of_ble_eq_true rfl⟩) (PR.V (q0 := 0) (ci := 2) hP [0] rfl hK hG hS rfl rfl) rfl rfl hl.1 rfl (lv_room (Nat.le_of_ble_eq_true rfl)) dX8_times_44 ⟨Nat.le_of_ble_eq_true rfl, Nat.le_of_ble_eq_true rfl⟩) ?_
            exact (hPJx1 _).1 hjx1 _ (lv_sub hl [] rfl)
          · replace hjx1 := pf_t (P := PJx1) c8 hjx1
            refine va_getsN hx hb hG.nn hS hown (gz_fn8 hG _) (fun _ h => h) dX8_times_34 ?_
            refine lv_goto (tgt := 49) hx hb dX8_times_37 (by decide) ?_
            exact (hPJx1 _).1 hjx1 _ (lv_sub hl [] rfl)

def fX8_over_D (p1 : UInt64) (p3 : UInt64) : UInt64 := lt_ (if (fX0_isNumber p1 p3) = 0 then 9221120237041090560 else (if Deq p1 FP.dconst0 then (if Deq p3 FP.dconst0 then 9221120237041090560 else (if (fX0_isEndless p1) = 0 then (fX1_fit (FP.ddiv p1 p3)) else (if (fX0_isEndless p3) = 0 then (fX1_fit (FP.ddiv p1 p3)) else 9221120237041090560))) else (if (fX0_isEndless p1) = 0 then (fX1_fit (FP.ddiv p1 p3)) else (if (fX0_isEndless p3) = 0 then (fX1_fit (FP.ddiv p1 p3)) else 9221120237041090560)))) (fun x1 : UInt64 => x1)
def oX8_over_D (p1 : UInt64) (p3 : UInt64) : Prop := (((fX0_isNumber p1 p3) = 0) → True) ∧ (¬ ((fX0_isNumber p1 p3) = 0) → ((Deq p1 FP.dconst0) → ((Deq p3 FP.dconst0) → True) ∧ (¬ (Deq p3 FP.dconst0) → (((fX0_isEndless p1) = 0) → (vf_n64 (FP.ddiv p1 p3))) ∧ (¬ ((fX0_isEndless p1) = 0) → (((fX0_isEndless p3) = 0) → (vf_n64 (FP.ddiv p1 p3))) ∧ (¬ ((fX0_isEndless p3) = 0) → True)))) ∧ (¬ (Deq p1 FP.dconst0) → (((fX0_isEndless p1) = 0) → (vf_n64 (FP.ddiv p1 p3))) ∧ (¬ ((fX0_isEndless p1) = 0) → (((fX0_isEndless p3) = 0) → (vf_n64 (FP.ddiv p1 p3))) ∧ (¬ ((fX0_isEndless p3) = 0) → True))))
set_option maxHeartbeats 4000000 in
set_option maxRecDepth 100000 in
theorem mX8_over_D (l : Launch) (D : va_G) (TY : Nat → ClassId) (h0 : Nat) (p1 : UInt64) (p3 : UInt64) (post : UInt64 → Prop) (hw : post (fX8_over_D p1 p3)) (hok : oX8_over_D p1 p3) : Met l yX8_over (ws_ yX8_over cX8_over 5 (Option.some Jvm.ClassFile.FieldType.double)) ({ frames := 1, cells := 0, slots := 0, locals := 23 }) (PR D TY [.ref h0, .double p1, .double p3] [(h0, .inr (1, []))]) (vp_Sd post) 0 0 (fun _ => False) := by
  refine ofWF (cc := cX8_over) (maxL := 5) (ret := (Option.some Jvm.ClassFile.FieldType.double)) (plainFor_of_name (by decide)) rfl ?_
  intro p e s m args below meth c s₁ B hml hv
  obtain ⟨rfl, hP, hK, hG⟩ := hv
  have hx := B.exec
  have hb := B.bytes
  have hr := B.returns
  have hts0 := atoms_spec (ws := ws_ yX8_over cX8_over 5 (Option.some Jvm.ClassFile.FieldType.double)) B.pre
  have hts : ∀ w ∈ lw_all, w.before _ s = true := fun w h => hts0 w (List.mem_cons_of_mem _ h)
  have hown : s.vm.findClass RX8 = some m.cls := findClass_of_methodNamed B.named
  have hlocks := B.notSynchronized
  have hS : va_S (fun _ => False) s.heap s.heap [] := va_S.rf
  have hl := lv_entry ([.ref h0, .double p1, .double p3]) (n := 5) (Nat.le_of_ble_eq_true rfl)
  rw [lg_entry_eq]
  generalize (lg_sl ([.ref h0, .double p1, .double p3]) ++ List.replicate (5 - (lg_sl ([.ref h0, .double p1, .double p3])).length) Slot.unset).toArray = ls at hl ⊢
  have hl : lv_has ls 5 [(0, .ref h0), (1, .double p1), (3, .double p3)] := hl
  unfold fX8_over_D at hw
  unfold oX8_over_D at hok
  refine lv_dload_n hx hb dX8_over_0 rfl (lv_at hl 1 rfl) ?_
  refine lv_dload_n hx hb dX8_over_1 rfl (lv_at hl 2 rfl) ?_
  refine cSi (v := fX0_isNumber p1 p3) (run_weak (va_runSN (As := [.double p1, .double p3]) (rest := []) ⟨hx, hb, hml, hown, hts⟩ (mX0_isNumber l D TY p1 p3 (fun r => r = fX0_isNumber p1 p3) rfl) ⟨va_cnB 2 hts (lw_meth q459) rfl rfl rfl (gz_mn9 hG) (hts _ q44) hd_X0_isNumber ⟨Nat.le_of_ble_eq_true rfl, Nat.le_of_ble_eq_true rfl⟩, (hts _ q458), trivial⟩ (PR.S hP [] rfl hK hG hS) rfl rfl hl.1 rfl (lv_room (Nat.le_of_ble_eq_true rfl)) dX8_over_2 ⟨Nat.le_of_ble_eq_true rfl, Nat.le_of_ble_eq_true rfl⟩)) ?_
  obtain ⟨PJx1, hPJx1⟩ : ∃ P : UInt64 → Prop, ∀ x1 : UInt64, P x1 ↔ ∀ ls : Array Slot, lv_has ls 5 [] → W p l e (headSpec (ws_ yX8_over cX8_over 5 (Option.some Jvm.ClassFile.FieldType.double)) ({ frames := 1, cells := 0, slots := 0, locals := 23 })).room s m ([.ref h0, .double p1, .double p3] : List Value).toArray below meth c s.heap ([]) 0 0 (MQ below (vp_Sd post) ([.ref h0, .double p1, .double p3] : List Value).toArray s 0 0 (fun _ => False)) (F0 m 49 ls [.double x1]) := ⟨_, fun _ => Iff.rfl⟩
  have hox1 := hok
  have hjx1 : ∀ x1 : UInt64, x1 = (if (fX0_isNumber p1 p3) = 0 then 9221120237041090560 else (if Deq p1 FP.dconst0 then (if Deq p3 FP.dconst0 then 9221120237041090560 else (if (fX0_isEndless p1) = 0 then (fX1_fit (FP.ddiv p1 p3)) else (if (fX0_isEndless p3) = 0 then (fX1_fit (FP.ddiv p1 p3)) else 9221120237041090560))) else (if (fX0_isEndless p1) = 0 then (fX1_fit (FP.ddiv p1 p3)) else (if (fX0_isEndless p3) = 0 then (fX1_fit (FP.ddiv p1 p3)) else 9221120237041090560)))) → PJx1 x1 := by
    intro x1 ex1
    rw [hPJx1]
    intro ls hl
    replace hw := pf_let (P := post) hw x1 ex1
    exact W.dret (v := x1) hx hb hr (fun t ht hW => ⟨_, rfl, hw, ht⟩) (fun q h => nomatch h) dX8_over_49
  replace hjx1 := hjx1 _ rfl
  refine lv_if_eq (tgt := 34) hx hb dX8_over_5 (by decide) (fun c2 => ?_) (fun c2 => ?_)
  · replace hjx1 := pf_t (P := PJx1) c2 hjx1
    refine va_getsN hx hb hG.nn hS hown (gz_fn8 hG _) (fun _ h => h) dX8_over_34 ?_
    refine lv_goto (tgt := 49) hx hb dX8_over_37 (by decide) ?_
    exact (hPJx1 _).1 hjx1 _ (lv_sub hl [] rfl)
  · replace hjx1 := pf_f (P := PJx1) c2 hjx1
    replace hox1 := hox1.2 c2
    refine lv_dload_n hx hb dX8_over_8 rfl (lv_at hl 1 rfl) ?_
    refine lv_dconst0 hx hb dX8_over_9 ?_
    refine lx_dlne (tgt := 20) hx hb dX8_over_10 dX8_over_11 (by decide) (fun c3 => ?_) (fun c3 => ?_)
    · replace hjx1 := pf_f (P := PJx1) c3 hjx1
      replace hox1 := hox1.2 c3
      refine lv_dload_n hx hb dX8_over_20 rfl (lv_at hl 1 rfl) ?_
      refine cSi (v := fX0_isEndless p1) (run_weak (va_runSN (As := [.double p1]) (rest := []) ⟨hx, hb, hml, hown, hts⟩ (mX0_isEndless l D TY p1 (fun r => r = fX0_isEndless p1) rfl) ⟨va_cnB 1 hts (lw_meth q137) rfl rfl rfl (gz_mn6 hG) (hts _ q44) hd_X0_isEndless ⟨Nat.le_of_ble_eq_true rfl, Nat.le_of_ble_eq_true rfl⟩, (hts _ q136), trivial⟩ (PR.S hP [] rfl hK hG hS) rfl rfl hl.1 rfl (lv_room (Nat.le_of_ble_eq_true rfl)) dX8_over_21 ⟨Nat.le_of_ble_eq_true rfl, Nat.le_of_ble_eq_true rfl⟩)) ?_
      refine lv_if_eq (tgt := 40) hx hb dX8_over_24 (by decide) (fun c4 => ?_) (fun c4 => ?_)
      · replace hjx1 := pf_t (P := PJx1) c4 hjx1
        replace hox1 := hox1.1 c4
        refine lv_aload_n hx hb dX8_over_40 rfl (lv_at hl 0 rfl) ?_
        refine lv_dload_n hx hb dX8_over_41 rfl (lv_at hl 1 rfl) ?_
        refine lv_dload_n hx hb dX8_over_42 rfl (lv_at hl 2 rfl) ?_
        refine lv_ddiv hx hb dX8_over_43 hox1 ?_
        refine cFSd (v := fX1_fit (FP.ddiv p1 p3)) (va_runF (As := [.double (FP.ddiv p1 p3)]) (rest := []) (hK.1 1 _ rfl).2 ⟨hx, hb, hml, hown, hts⟩ (mX1_fit l D TY h0 (FP.ddiv p1 p3) (fun r => r = fX1_fit (FP.ddiv p1 p3)) rfl) (va_cwF 1 hts (lw_F q461 q464 q466 q45 q468) rfl rfl rfl (gz_fw13 hG) hdF_fit ⟨Nat.le_of_ble_eq_true rfl, Nat.le_of_ble_eq_true rfl⟩) (PR.V (q0 := 0) (ci := 1) hP [0] rfl hK hG hS rfl rfl) rfl rfl hl.1 rfl (lv_room (Nat.le_of_ble_eq_true rfl)) dX8_over_44 ⟨Nat.le_of_ble_eq_true rfl, Nat.le_of_ble_eq_true rfl⟩) ?_
        exact (hPJx1 _).1 hjx1 _ (lv_sub hl [] rfl)
      · replace hjx1 := pf_f (P := PJx1) c4 hjx1
        replace hox1 := hox1.2 c4
        refine lv_dload_n hx hb dX8_over_27 rfl (lv_at hl 2 rfl) ?_
        refine cSi (v := fX0_isEndless p3) (run_weak (va_runSN (As := [.double p3]) (rest := []) ⟨hx, hb, hml, hown, hts⟩ (mX0_isEndless l D TY p3 (fun r => r = fX0_isEndless p3) rfl) ⟨va_cnB 1 hts (lw_meth q137) rfl rfl rfl (gz_mn6 hG) (hts _ q44) hd_X0_isEndless ⟨Nat.le_of_ble_eq_true rfl, Nat.le_of_ble_eq_true rfl⟩, (hts _ q136), trivial⟩ (PR.S hP [] rfl hK hG hS) rfl rfl hl.1 rfl (lv_room (Nat.le_of_ble_eq_true rfl)) dX8_over_28 ⟨Nat.le_of_ble_eq_true rfl, Nat.le_of_ble_eq_true rfl⟩)) ?_
        refine lv_if_eq (tgt := 40) hx hb dX8_over_31 (by decide) (fun c5 => ?_) (fun c5 => ?_)
        · replace hjx1 := pf_t (P := PJx1) c5 hjx1
          replace hox1 := hox1.1 c5
          refine lv_aload_n hx hb dX8_over_40 rfl (lv_at hl 0 rfl) ?_
          refine lv_dload_n hx hb dX8_over_41 rfl (lv_at hl 1 rfl) ?_
          refine lv_dload_n hx hb dX8_over_42 rfl (lv_at hl 2 rfl) ?_
          refine lv_ddiv hx hb dX8_over_43 hox1 ?_
          refine cFSd (v := fX1_fit (FP.ddiv p1 p3)) (va_runF (As := [.double (FP.ddiv p1 p3)]) (rest := []) (hK.1 1 _ rfl).2 ⟨hx, hb, hml, hown, hts⟩ (mX1_fit l D TY h0 (FP.ddiv p1 p3) (fun r => r = fX1_fit (FP.ddiv p1 p3)) rfl) (va_cwF 1 hts (lw_F q461 q464 q466 q45 q468) rfl rfl rfl (gz_fw13 hG) hdF_fit ⟨Nat.le_of_ble_eq_true rfl, Nat.le_of_ble_eq_true rfl⟩) (PR.V (q0 := 0) (ci := 1) hP [0] rfl hK hG hS rfl rfl) rfl rfl hl.1 rfl (lv_room (Nat.le_of_ble_eq_true rfl)) dX8_over_44 ⟨Nat.le_of_ble_eq_true rfl, Nat.le_of_ble_eq_true rfl⟩) ?_
          exact (hPJx1 _).1 hjx1 _ (lv_sub hl [] rfl)
        · replace hjx1 := pf_f (P := PJx1) c5 hjx1
          refine va_getsN hx hb hG.nn hS hown (gz_fn8 hG _) (fun _ h => h) dX8_over_34 ?_
          refine lv_goto (tgt := 49) hx hb dX8_over_37 (by decide) ?_
          exact (hPJx1 _).1 hjx1 _ (lv_sub hl [] rfl)
    · replace hjx1 := pf_t (P := PJx1) c3 hjx1
      replace hox1 := hox1.1 c3
      refine lv_dload_n hx hb dX8_over_14 rfl (lv_at hl 2 rfl) ?_
      refine lv_dconst0 hx hb dX8_over_15 ?_
      refine lx_dleq (tgt := 34) hx hb dX8_over_16 dX8_over_17 (by decide) (fun c6 => ?_) (fun c6 => ?_)
      · replace hjx1 := pf_t (P := PJx1) c6 hjx1
        refine va_getsN hx hb hG.nn hS hown (gz_fn8 hG _) (fun _ h => h) dX8_over_34 ?_
        refine lv_goto (tgt := 49) hx hb dX8_over_37 (by decide) ?_
        exact (hPJx1 _).1 hjx1 _ (lv_sub hl [] rfl)
      · replace hjx1 := pf_f (P := PJx1) c6 hjx1
        replace hox1 := hox1.2 c6
        refine lv_dload_n hx hb dX8_over_20 rfl (lv_at hl 1 rfl) ?_
        refine cSi (v := fX0_isEndless p1) (run_weak (va_runSN (As := [.double p1]) (rest := []) ⟨hx, hb, hml, hown, hts⟩ (mX0_isEndless l D TY p1 (fun r => r = fX0_isEndless p1) rfl) ⟨va_cnB 1 hts (lw_meth q137) rfl rfl rfl (gz_mn6 hG) (hts _ q44) hd_X0_isEndless ⟨Nat.le_of_ble_eq_true rfl, Nat.le_of_ble_eq_true rfl⟩, (hts _ q136), trivial⟩ (PR.S hP [] rfl hK hG hS) rfl rfl hl.1 rfl (lv_room (Nat.le_of_ble_eq_true rfl)) dX8_over_21 ⟨Nat.le_of_ble_eq_true rfl, Nat.le_of_ble_eq_true rfl⟩)) ?_
        refine lv_if_eq (tgt := 40) hx hb dX8_over_24 (by decide) (fun c7 => ?_) (fun c7 => ?_)
        · replace hjx1 := pf_t (P := PJx1) c7 hjx1
          replace hox1 := hox1.1 c7
          refine lv_aload_n hx hb dX8_over_40 rfl (lv_at hl 0 rfl) ?_
          refine lv_dload_n hx hb dX8_over_41 rfl (lv_at hl 1 rfl) ?_
          refine lv_dload_n hx hb dX8_over_42 rfl (lv_at hl 2 rfl) ?_
          refine lv_ddiv hx hb dX8_over_43 hox1 ?_
          refine cFSd (v := fX1_fit (FP.ddiv p1 p3)) (va_runF (As := [.double (FP.ddiv p1 p3)]) (rest := []) (hK.1 1 _ rfl).2 ⟨hx, hb, hml, hown, hts⟩ (mX1_fit l D TY h0 (FP.ddiv p1 p3) (fun r => r = fX1_fit (FP.ddiv p1 p3)) rfl) (va_cwF 1 hts (lw_F q461 q464 q466 q45 q468) rfl rfl rfl (gz_fw13 hG) hdF_fit ⟨Nat.le_of_ble_eq_true rfl, Nat.le_of_ble_eq_true rfl⟩) (PR.V (q0 := 0) (ci := 1) hP [0] rfl hK hG hS rfl rfl) rfl rfl hl.1 rfl (lv_room (Nat.le_of_ble_eq_true rfl)) dX8_over_44 ⟨Nat.le_of_ble_eq_true rfl, Nat.le_of_ble_eq_true rfl⟩) ?_
          exact (hPJx1 _).1 hjx1 _ (lv_sub hl [] rfl)
        · replace hjx1 := pf_f (P := PJx1) c7 hjx1
          replace hox1 := hox1.2 c7
          refine lv_dload_n hx hb dX8_over_27 rfl (lv_at hl 2 rfl) ?_
          refine cSi (v := fX0_isEndless p3) (run_weak (va_runSN (As := [.double p3]) (rest := []) ⟨hx, hb, hml, hown, hts⟩ (mX0_isEndless l D TY p3 (fun r => r = fX0_isEndless p3) rfl) ⟨va_cnB 1 hts (lw_meth q137) rfl rfl rfl (gz_mn6 hG) (hts _ q44) hd_X0_isEndless ⟨Nat.le_of_ble_eq_true rfl, Nat.le_of_ble_eq_true rfl⟩, (hts _ q136), trivial⟩ (PR.S hP [] rfl hK hG hS) rfl rfl hl.1 rfl (lv_room (Nat.le_of_ble_eq_true rfl)) dX8_over_28 ⟨Nat.le_of_ble_eq_true rfl, Nat.le_of_ble_eq_true rfl⟩)) ?_
          refine lv_if_eq (tgt := 40) hx hb dX8_over_31 (by decide) (fun c8 => ?_) (fun c8 => ?_)
          · replace hjx1 := pf_t (P := PJx1) c8 hjx1
            replace hox1 := hox1.1 c8
            refine lv_aload_n hx hb dX8_over_40 rfl (lv_at hl 0 rfl) ?_
            refine lv_dload_n hx hb dX8_over_41 rfl (lv_at hl 1 rfl) ?_
            refine lv_dload_n hx hb dX8_over_42 rfl (lv_at hl 2 rfl) ?_
            refine lv_ddiv hx hb dX8_over_43 hox1 ?_
            refine cFSd (v := fX1_fit (FP.ddiv p1 p3)) (va_runF (As := [.double (FP.ddiv p1 p3)]) (rest := []) (hK.1 1 _ rfl).2 ⟨hx, hb, hml, hown, hts⟩ (mX1_fit l D TY h0 (FP.ddiv p1 p3) (fun r => r = fX1_fit (FP.ddiv p1 p3)) rfl) (va_cwF 1 hts (lw_F q461 q464 q466 q45 q468) rfl rfl rfl (gz_fw13 hG) hdF_fit ⟨Nat.le_of_ble_eq_true rfl, Nat.le_of_ble_eq_true rfl⟩) (PR.V (q0 := 0) (ci := 1) hP [0] rfl hK hG hS rfl rfl) rfl rfl hl.1 rfl (lv_room (Nat.le_of_ble_eq_true rfl)) dX8_over_44 ⟨Nat.le_of_ble_eq_true rfl, Nat.le_of_ble_eq_true rfl⟩) ?_
            exact (hPJx1 _).1 hjx1 _ (lv_sub hl [] rfl)
          · replace hjx1 := pf_f (P := PJx1) c8 hjx1
            refine va_getsN hx hb hG.nn hS hown (gz_fn8 hG _) (fun _ h => h) dX8_over_34 ?_
            refine lv_goto (tgt := 49) hx hb dX8_over_37 (by decide) ?_
            exact (hPJx1 _).1 hjx1 _ (lv_sub hl [] rfl)

def fX8_over_F (p1 : UInt64) (p3 : UInt64) : UInt64 := lt_ (if (fX0_isNumber p1 p3) = 0 then 9221120237041090560 else (if Deq p1 FP.dconst0 then (if Deq p3 FP.dconst0 then 9221120237041090560 else (if (fX0_isEndless p1) = 0 then (fX2_fit (FP.ddiv p1 p3)) else (if (fX0_isEndless p3) = 0 then (fX2_fit (FP.ddiv p1 p3)) else 9221120237041090560))) else (if (fX0_isEndless p1) = 0 then (fX2_fit (FP.ddiv p1 p3)) else (if (fX0_isEndless p3) = 0 then (fX2_fit (FP.ddiv p1 p3)) else 9221120237041090560)))) (fun x1 : UInt64 => x1)
def oX8_over_F (p1 : UInt64) (p3 : UInt64) : Prop := (((fX0_isNumber p1 p3) = 0) → True) ∧ (¬ ((fX0_isNumber p1 p3) = 0) → ((Deq p1 FP.dconst0) → ((Deq p3 FP.dconst0) → True) ∧ (¬ (Deq p3 FP.dconst0) → (((fX0_isEndless p1) = 0) → (vf_n64 (FP.ddiv p1 p3)) ∧ (oX2_fit (FP.ddiv p1 p3))) ∧ (¬ ((fX0_isEndless p1) = 0) → (((fX0_isEndless p3) = 0) → (vf_n64 (FP.ddiv p1 p3)) ∧ (oX2_fit (FP.ddiv p1 p3))) ∧ (¬ ((fX0_isEndless p3) = 0) → True)))) ∧ (¬ (Deq p1 FP.dconst0) → (((fX0_isEndless p1) = 0) → (vf_n64 (FP.ddiv p1 p3)) ∧ (oX2_fit (FP.ddiv p1 p3))) ∧ (¬ ((fX0_isEndless p1) = 0) → (((fX0_isEndless p3) = 0) → (vf_n64 (FP.ddiv p1 p3)) ∧ (oX2_fit (FP.ddiv p1 p3))) ∧ (¬ ((fX0_isEndless p3) = 0) → True))))
set_option maxHeartbeats 4000000 in
set_option maxRecDepth 100000 in
theorem mX8_over_F (l : Launch) (D : va_G) (TY : Nat → ClassId) (h0 : Nat) (p1 : UInt64) (p3 : UInt64) (post : UInt64 → Prop) (hw : post (fX8_over_F p1 p3)) (hok : oX8_over_F p1 p3) : Met l yX8_over (ws_ yX8_over cX8_over 5 (Option.some Jvm.ClassFile.FieldType.double)) ({ frames := 1, cells := 0, slots := 0, locals := 23 }) (PR D TY [.ref h0, .double p1, .double p3] [(h0, .inr (2, []))]) (vp_Sd post) 0 0 (fun _ => False) := by
  refine ofWF (cc := cX8_over) (maxL := 5) (ret := (Option.some Jvm.ClassFile.FieldType.double)) (plainFor_of_name (by decide)) rfl ?_
  intro p e s m args below meth c s₁ B hml hv
  obtain ⟨rfl, hP, hK, hG⟩ := hv
  have hx := B.exec
  have hb := B.bytes
  have hr := B.returns
  have hts0 := atoms_spec (ws := ws_ yX8_over cX8_over 5 (Option.some Jvm.ClassFile.FieldType.double)) B.pre
  have hts : ∀ w ∈ lw_all, w.before _ s = true := fun w h => hts0 w (List.mem_cons_of_mem _ h)
  have hown : s.vm.findClass RX8 = some m.cls := findClass_of_methodNamed B.named
  have hlocks := B.notSynchronized
  have hS : va_S (fun _ => False) s.heap s.heap [] := va_S.rf
  have hl := lv_entry ([.ref h0, .double p1, .double p3]) (n := 5) (Nat.le_of_ble_eq_true rfl)
  rw [lg_entry_eq]
  generalize (lg_sl ([.ref h0, .double p1, .double p3]) ++ List.replicate (5 - (lg_sl ([.ref h0, .double p1, .double p3])).length) Slot.unset).toArray = ls at hl ⊢
  have hl : lv_has ls 5 [(0, .ref h0), (1, .double p1), (3, .double p3)] := hl
  unfold fX8_over_F at hw
  unfold oX8_over_F at hok
  refine lv_dload_n hx hb dX8_over_0 rfl (lv_at hl 1 rfl) ?_
  refine lv_dload_n hx hb dX8_over_1 rfl (lv_at hl 2 rfl) ?_
  refine cSi (v := fX0_isNumber p1 p3) (run_weak (va_runSN (As := [.double p1, .double p3]) (rest := []) ⟨hx, hb, hml, hown, hts⟩ (mX0_isNumber l D TY p1 p3 (fun r => r = fX0_isNumber p1 p3) rfl) ⟨va_cnB 2 hts (lw_meth q459) rfl rfl rfl (gz_mn9 hG) (hts _ q44) hd_X0_isNumber ⟨Nat.le_of_ble_eq_true rfl, Nat.le_of_ble_eq_true rfl⟩, (hts _ q458), trivial⟩ (PR.S hP [] rfl hK hG hS) rfl rfl hl.1 rfl (lv_room (Nat.le_of_ble_eq_true rfl)) dX8_over_2 ⟨Nat.le_of_ble_eq_true rfl, Nat.le_of_ble_eq_true rfl⟩)) ?_
  obtain ⟨PJx1, hPJx1⟩ : ∃ P : UInt64 → Prop, ∀ x1 : UInt64, P x1 ↔ ∀ ls : Array Slot, lv_has ls 5 [] → W p l e (headSpec (ws_ yX8_over cX8_over 5 (Option.some Jvm.ClassFile.FieldType.double)) ({ frames := 1, cells := 0, slots := 0, locals := 23 })).room s m ([.ref h0, .double p1, .double p3] : List Value).toArray below meth c s.heap ([]) 0 0 (MQ below (vp_Sd post) ([.ref h0, .double p1, .double p3] : List Value).toArray s 0 0 (fun _ => False)) (F0 m 49 ls [.double x1]) := ⟨_, fun _ => Iff.rfl⟩
  have hox1 := hok
  have hjx1 : ∀ x1 : UInt64, x1 = (if (fX0_isNumber p1 p3) = 0 then 9221120237041090560 else (if Deq p1 FP.dconst0 then (if Deq p3 FP.dconst0 then 9221120237041090560 else (if (fX0_isEndless p1) = 0 then (fX2_fit (FP.ddiv p1 p3)) else (if (fX0_isEndless p3) = 0 then (fX2_fit (FP.ddiv p1 p3)) else 9221120237041090560))) else (if (fX0_isEndless p1) = 0 then (fX2_fit (FP.ddiv p1 p3)) else (if (fX0_isEndless p3) = 0 then (fX2_fit (FP.ddiv p1 p3)) else 9221120237041090560)))) → PJx1 x1 := by
    intro x1 ex1
    rw [hPJx1]
    intro ls hl
    replace hw := pf_let (P := post) hw x1 ex1
    exact W.dret (v := x1) hx hb hr (fun t ht hW => ⟨_, rfl, hw, ht⟩) (fun q h => nomatch h) dX8_over_49
  replace hjx1 := hjx1 _ rfl
  refine lv_if_eq (tgt := 34) hx hb dX8_over_5 (by decide) (fun c2 => ?_) (fun c2 => ?_)
  · replace hjx1 := pf_t (P := PJx1) c2 hjx1
    refine va_getsN hx hb hG.nn hS hown (gz_fn8 hG _) (fun _ h => h) dX8_over_34 ?_
    refine lv_goto (tgt := 49) hx hb dX8_over_37 (by decide) ?_
    exact (hPJx1 _).1 hjx1 _ (lv_sub hl [] rfl)
  · replace hjx1 := pf_f (P := PJx1) c2 hjx1
    replace hox1 := hox1.2 c2
    refine lv_dload_n hx hb dX8_over_8 rfl (lv_at hl 1 rfl) ?_
    refine lv_dconst0 hx hb dX8_over_9 ?_
    refine lx_dlne (tgt := 20) hx hb dX8_over_10 dX8_over_11 (by decide) (fun c3 => ?_) (fun c3 => ?_)
    · replace hjx1 := pf_f (P := PJx1) c3 hjx1
      replace hox1 := hox1.2 c3
      refine lv_dload_n hx hb dX8_over_20 rfl (lv_at hl 1 rfl) ?_
      refine cSi (v := fX0_isEndless p1) (run_weak (va_runSN (As := [.double p1]) (rest := []) ⟨hx, hb, hml, hown, hts⟩ (mX0_isEndless l D TY p1 (fun r => r = fX0_isEndless p1) rfl) ⟨va_cnB 1 hts (lw_meth q137) rfl rfl rfl (gz_mn6 hG) (hts _ q44) hd_X0_isEndless ⟨Nat.le_of_ble_eq_true rfl, Nat.le_of_ble_eq_true rfl⟩, (hts _ q136), trivial⟩ (PR.S hP [] rfl hK hG hS) rfl rfl hl.1 rfl (lv_room (Nat.le_of_ble_eq_true rfl)) dX8_over_21 ⟨Nat.le_of_ble_eq_true rfl, Nat.le_of_ble_eq_true rfl⟩)) ?_
      refine lv_if_eq (tgt := 40) hx hb dX8_over_24 (by decide) (fun c4 => ?_) (fun c4 => ?_)
      · replace hjx1 := pf_t (P := PJx1) c4 hjx1
        replace hox1 := hox1.1 c4
        refine lv_aload_n hx hb dX8_over_40 rfl (lv_at hl 0 rfl) ?_
        refine lv_dload_n hx hb dX8_over_41 rfl (lv_at hl 1 rfl) ?_
        refine lv_dload_n hx hb dX8_over_42 rfl (lv_at hl 2 rfl) ?_
        refine lv_ddiv hx hb dX8_over_43 hox1.1 ?_
        replace hox1 := hox1.2
        refine cFSd (v := fX2_fit (FP.ddiv p1 p3)) (va_runF (As := [.double (FP.ddiv p1 p3)]) (rest := []) (hK.1 2 _ rfl).2 ⟨hx, hb, hml, hown, hts⟩ (mX2_fit l D TY h0 (FP.ddiv p1 p3) (fun r => r = fX2_fit (FP.ddiv p1 p3)) rfl hox1) (va_cwF 1 hts (lw_F q461 q469 q252 q46 q254) rfl rfl rfl (gz_fw34 hG) hdF_fit ⟨Nat.le_of_ble_eq_true rfl, Nat.le_of_ble_eq_true rfl⟩) (PR.V (q0 := 0) (ci := 2) hP [0] rfl hK hG hS rfl rfl) rfl rfl hl.1 rfl (lv_room (Nat.le_of_ble_eq_true rfl)) dX8_over_44 ⟨Nat.le_of_ble_eq_true rfl, Nat.le_of_ble_eq_true rfl⟩) ?_
        exact (hPJx1 _).1 hjx1 _ (lv_sub hl [] rfl)
      · replace hjx1 := pf_f (P := PJx1) c4 hjx1
        replace hox1 := hox1.2 c4
        refine lv_dload_n hx hb dX8_over_27 rfl (lv_at hl 2 rfl) ?_
        refine cSi (v := fX0_isEndless p3) (run_weak (va_runSN (As := [.double p3]) (rest := []) ⟨hx, hb, hml, hown, hts⟩ (mX0_isEndless l D TY p3 (fun r => r = fX0_isEndless p3) rfl) ⟨va_cnB 1 hts (lw_meth q137) rfl rfl rfl (gz_mn6 hG) (hts _ q44) hd_X0_isEndless ⟨Nat.le_of_ble_eq_true rfl, Nat.le_of_ble_eq_true rfl⟩, (hts _ q136), trivial⟩ (PR.S hP [] rfl hK hG hS) rfl rfl hl.1 rfl (lv_room (Nat.le_of_ble_eq_true rfl)) dX8_over_28 ⟨Nat.le_of_ble_eq_true rfl, Nat.le_of_ble_eq_true rfl⟩)) ?_
        refine lv_if_eq (tgt := 40) hx hb dX8_over_31 (by decide) (fun c5 => ?_) (fun c5 => ?_)
        · replace hjx1 := pf_t (P := PJx1) c5 hjx1
          replace hox1 := hox1.1 c5
          refine lv_aload_n hx hb dX8_over_40 rfl (lv_at hl 0 rfl) ?_
          refine lv_dload_n hx hb dX8_over_41 rfl (lv_at hl 1 rfl) ?_
          refine lv_dload_n hx hb dX8_over_42 rfl (lv_at hl 2 rfl) ?_
          refine lv_ddiv hx hb dX8_over_43 hox1.1 ?_
          replace hox1 := hox1.2
          refine cFSd (v := fX2_fit (FP.ddiv p1 p3)) (va_runF (As := [.double (FP.ddiv p1 p3)]) (rest := []) (hK.1 2 _ rfl).2 ⟨hx, hb, hml, hown, hts⟩ (mX2_fit l D TY h0 (FP.ddiv p1 p3) (fun r => r = fX2_fit (FP.ddiv p1 p3)) rfl hox1) (va_cwF 1 hts (lw_F q461 q469 q252 q46 q254) rfl rfl rfl (gz_fw34 hG) hdF_fit ⟨Nat.le_of_ble_eq_true rfl, Nat.le_of_ble_eq_true rfl⟩) (PR.V (q0 := 0) (ci := 2) hP [0] rfl hK hG hS rfl rfl) rfl rfl hl.1 rfl (lv_room (Nat.le_of_ble_eq_true rfl)) dX8_over_44 ⟨Nat.le_of_ble_eq_true rfl, Nat.le_of_ble_eq_true rfl⟩) ?_
          exact (hPJx1 _).1 hjx1 _ (lv_sub hl [] rfl)
        · replace hjx1 := pf_f (P := PJx1) c5 hjx1
          refine va_getsN hx hb hG.nn hS hown (gz_fn8 hG _) (fun _ h => h) dX8_over_34 ?_
          refine lv_goto (tgt := 49) hx hb dX8_over_37 (by decide) ?_
          exact (hPJx1 _).1 hjx1 _ (lv_sub hl [] rfl)
    · replace hjx1 := pf_t (P := PJx1) c3 hjx1
      replace hox1 := hox1.1 c3
      refine lv_dload_n hx hb dX8_over_14 rfl (lv_at hl 2 rfl) ?_
      refine lv_dconst0 hx hb dX8_over_15 ?_
      refine lx_dleq (tgt := 34) hx hb dX8_over_16 dX8_over_17 (by decide) (fun c6 => ?_) (fun c6 => ?_)
      · replace hjx1 := pf_t (P := PJx1) c6 hjx1
        refine va_getsN hx hb hG.nn hS hown (gz_fn8 hG _) (fun _ h => h) dX8_over_34 ?_
        refine lv_goto (tgt := 49) hx hb dX8_over_37 (by decide) ?_
        exact (hPJx1 _).1 hjx1 _ (lv_sub hl [] rfl)
      · replace hjx1 := pf_f (P := PJx1) c6 hjx1
        replace hox1 := hox1.2 c6
        refine lv_dload_n hx hb dX8_over_20 rfl (lv_at hl 1 rfl) ?_
        refine cSi (v := fX0_isEndless p1) (run_weak (va_runSN (As := [.double p1]) (rest := []) ⟨hx, hb, hml, hown, hts⟩ (mX0_isEndless l D TY p1 (fun r => r = fX0_isEndless p1) rfl) ⟨va_cnB 1 hts (lw_meth q137) rfl rfl rfl (gz_mn6 hG) (hts _ q44) hd_X0_isEndless ⟨Nat.le_of_ble_eq_true rfl, Nat.le_of_ble_eq_true rfl⟩, (hts _ q136), trivial⟩ (PR.S hP [] rfl hK hG hS) rfl rfl hl.1 rfl (lv_room (Nat.le_of_ble_eq_true rfl)) dX8_over_21 ⟨Nat.le_of_ble_eq_true rfl, Nat.le_of_ble_eq_true rfl⟩)) ?_
        refine lv_if_eq (tgt := 40) hx hb dX8_over_24 (by decide) (fun c7 => ?_) (fun c7 => ?_)
        · replace hjx1 := pf_t (P := PJx1) c7 hjx1
          replace hox1 := hox1.1 c7
          refine lv_aload_n hx hb dX8_over_40 rfl (lv_at hl 0 rfl) ?_
          refine lv_dload_n hx hb dX8_over_41 rfl (lv_at hl 1 rfl) ?_
          refine lv_dload_n hx hb dX8_over_42 rfl (lv_at hl 2 rfl) ?_
          refine lv_ddiv hx hb dX8_over_43 hox1.1 ?_
          replace hox1 := hox1.2
          refine cFSd (v := fX2_fit (FP.ddiv p1 p3)) (va_runF (As := [.double (FP.ddiv p1 p3)]) (rest := []) (hK.1 2 _ rfl).2 ⟨hx, hb, hml, hown, hts⟩ (mX2_fit l D TY h0 (FP.ddiv p1 p3) (fun r => r = fX2_fit (FP.ddiv p1 p3)) rfl hox1) (va_cwF 1 hts (lw_F q461 q469 q252 q46 q254) rfl rfl rfl (gz_fw34 hG) hdF_fit ⟨Nat.le_of_ble_eq_true rfl, Nat.le_of_ble_eq_true rfl⟩) (PR.V (q0 := 0) (ci := 2) hP [0] rfl hK hG hS rfl rfl) rfl rfl hl.1 rfl (lv_room (Nat.le_of_ble_eq_true rfl)) dX8_over_44 ⟨Nat.le_of_ble_eq_true rfl, Nat.le_of_ble_eq_true rfl⟩) ?_
          exact (hPJx1 _).1 hjx1 _ (lv_sub hl [] rfl)
        · replace hjx1 := pf_f (P := PJx1) c7 hjx1
          replace hox1 := hox1.2 c7
          refine lv_dload_n hx hb dX8_over_27 rfl (lv_at hl 2 rfl) ?_
          refine cSi (v := fX0_isEndless p3) (run_weak (va_runSN (As := [.double p3]) (rest := []) ⟨hx, hb, hml, hown, hts⟩ (mX0_isEndless l D TY p3 (fun r => r = fX0_isEndless p3) rfl) ⟨va_cnB 1 hts (lw_meth q137) rfl rfl rfl (gz_mn6 hG) (hts _ q44) hd_X0_isEndless ⟨Nat.le_of_ble_eq_true rfl, Nat.le_of_ble_eq_true rfl⟩, (hts _ q136), trivial⟩ (PR.S hP [] rfl hK hG hS) rfl rfl hl.1 rfl (lv_room (Nat.le_of_ble_eq_true rfl)) dX8_over_28 ⟨Nat.le_of_ble_eq_true rfl, Nat.le_of_ble_eq_true rfl⟩)) ?_
          refine lv_if_eq (tgt := 40) hx hb dX8_over_31 (by decide) (fun c8 => ?_) (fun c8 => ?_)
          · replace hjx1 := pf_t (P := PJx1) c8 hjx1
            replace hox1 := hox1.1 c8
            refine lv_aload_n hx hb dX8_over_40 rfl (lv_at hl 0 rfl) ?_
            refine lv_dload_n hx hb dX8_over_41 rfl (lv_at hl 1 rfl) ?_
            refine lv_dload_n hx hb dX8_over_42 rfl (lv_at hl 2 rfl) ?_
            refine lv_ddiv hx hb dX8_over_43 hox1.1 ?_
            replace hox1 := hox1.2
            refine cFSd (v := fX2_fit (FP.ddiv p1 p3)) (va_runF (As := [.double (FP.ddiv p1 p3)]) (rest := []) (hK.1 2 _ rfl).2 ⟨hx, hb, hml, hown, hts⟩ (mX2_fit l D TY h0 (FP.ddiv p1 p3) (fun r => r = fX2_fit (FP.ddiv p1 p3)) rfl hox1) (va_cwF 1 hts (lw_F q461 q469 q252 q46 q254) rfl rfl rfl (gz_fw34 hG) hdF_fit ⟨Nat.le_of_ble_eq_true rfl, Nat.le_of_ble_eq_true rfl⟩) (PR.V (q0 := 0) (ci := 2) hP [0] rfl hK hG hS rfl rfl) rfl rfl hl.1 rfl (lv_room (Nat.le_of_ble_eq_true rfl)) dX8_over_44 ⟨Nat.le_of_ble_eq_true rfl, Nat.le_of_ble_eq_true rfl⟩) ?_
            exact (hPJx1 _).1 hjx1 _ (lv_sub hl [] rfl)
          · replace hjx1 := pf_f (P := PJx1) c8 hjx1
            refine va_getsN hx hb hG.nn hS hown (gz_fn8 hG _) (fun _ h => h) dX8_over_34 ?_
            refine lv_goto (tgt := 49) hx hb dX8_over_37 (by decide) ?_
            exact (hPJx1 _).1 hjx1 _ (lv_sub hl [] rfl)

def fX8_minus_D (p1 : UInt64) (p3 : UInt64) : UInt64 := lt_ (if (fX0_isNumber p1 p3) = 0 then 9221120237041090560 else (if (fX0_isEndless p1) = 0 then (fX1_fit (FP.dsub p1 p3)) else (if Deq p1 p3 then 9221120237041090560 else (fX1_fit (FP.dsub p1 p3))))) (fun x1 : UInt64 => x1)
def oX8_minus_D (p1 : UInt64) (p3 : UInt64) : Prop := (((fX0_isNumber p1 p3) = 0) → True) ∧ (¬ ((fX0_isNumber p1 p3) = 0) → (((fX0_isEndless p1) = 0) → (vf_n64 (FP.dsub p1 p3))) ∧ (¬ ((fX0_isEndless p1) = 0) → ((Deq p1 p3) → True) ∧ (¬ (Deq p1 p3) → (vf_n64 (FP.dsub p1 p3)))))
set_option maxHeartbeats 4000000 in
set_option maxRecDepth 100000 in
theorem mX8_minus_D (l : Launch) (D : va_G) (TY : Nat → ClassId) (h0 : Nat) (p1 : UInt64) (p3 : UInt64) (post : UInt64 → Prop) (hw : post (fX8_minus_D p1 p3)) (hok : oX8_minus_D p1 p3) : Met l yX8_minus (ws_ yX8_minus cX8_minus 5 (Option.some Jvm.ClassFile.FieldType.double)) ({ frames := 1, cells := 0, slots := 0, locals := 23 }) (PR D TY [.ref h0, .double p1, .double p3] [(h0, .inr (1, []))]) (vp_Sd post) 0 0 (fun _ => False) := by
  refine ofWF (cc := cX8_minus) (maxL := 5) (ret := (Option.some Jvm.ClassFile.FieldType.double)) (plainFor_of_name (by decide)) rfl ?_
  intro p e s m args below meth c s₁ B hml hv
  obtain ⟨rfl, hP, hK, hG⟩ := hv
  have hx := B.exec
  have hb := B.bytes
  have hr := B.returns
  have hts0 := atoms_spec (ws := ws_ yX8_minus cX8_minus 5 (Option.some Jvm.ClassFile.FieldType.double)) B.pre
  have hts : ∀ w ∈ lw_all, w.before _ s = true := fun w h => hts0 w (List.mem_cons_of_mem _ h)
  have hown : s.vm.findClass RX8 = some m.cls := findClass_of_methodNamed B.named
  have hlocks := B.notSynchronized
  have hS : va_S (fun _ => False) s.heap s.heap [] := va_S.rf
  have hl := lv_entry ([.ref h0, .double p1, .double p3]) (n := 5) (Nat.le_of_ble_eq_true rfl)
  rw [lg_entry_eq]
  generalize (lg_sl ([.ref h0, .double p1, .double p3]) ++ List.replicate (5 - (lg_sl ([.ref h0, .double p1, .double p3])).length) Slot.unset).toArray = ls at hl ⊢
  have hl : lv_has ls 5 [(0, .ref h0), (1, .double p1), (3, .double p3)] := hl
  unfold fX8_minus_D at hw
  unfold oX8_minus_D at hok
  refine lv_dload_n hx hb dX8_minus_0 rfl (lv_at hl 1 rfl) ?_
  refine lv_dload_n hx hb dX8_minus_1 rfl (lv_at hl 2 rfl) ?_
  refine cSi (v := fX0_isNumber p1 p3) (run_weak (va_runSN (As := [.double p1, .double p3]) (rest := []) ⟨hx, hb, hml, hown, hts⟩ (mX0_isNumber l D TY p1 p3 (fun r => r = fX0_isNumber p1 p3) rfl) ⟨va_cnB 2 hts (lw_meth q459) rfl rfl rfl (gz_mn9 hG) (hts _ q44) hd_X0_isNumber ⟨Nat.le_of_ble_eq_true rfl, Nat.le_of_ble_eq_true rfl⟩, (hts _ q458), trivial⟩ (PR.S hP [] rfl hK hG hS) rfl rfl hl.1 rfl (lv_room (Nat.le_of_ble_eq_true rfl)) dX8_minus_2 ⟨Nat.le_of_ble_eq_true rfl, Nat.le_of_ble_eq_true rfl⟩)) ?_
  obtain ⟨PJx1, hPJx1⟩ : ∃ P : UInt64 → Prop, ∀ x1 : UInt64, P x1 ↔ ∀ ls : Array Slot, lv_has ls 5 [] → W p l e (headSpec (ws_ yX8_minus cX8_minus 5 (Option.some Jvm.ClassFile.FieldType.double)) ({ frames := 1, cells := 0, slots := 0, locals := 23 })).room s m ([.ref h0, .double p1, .double p3] : List Value).toArray below meth c s.heap ([]) 0 0 (MQ below (vp_Sd post) ([.ref h0, .double p1, .double p3] : List Value).toArray s 0 0 (fun _ => False)) (F0 m 36 ls [.double x1]) := ⟨_, fun _ => Iff.rfl⟩
  have hox1 := hok
  have hjx1 : ∀ x1 : UInt64, x1 = (if (fX0_isNumber p1 p3) = 0 then 9221120237041090560 else (if (fX0_isEndless p1) = 0 then (fX1_fit (FP.dsub p1 p3)) else (if Deq p1 p3 then 9221120237041090560 else (fX1_fit (FP.dsub p1 p3))))) → PJx1 x1 := by
    intro x1 ex1
    rw [hPJx1]
    intro ls hl
    replace hw := pf_let (P := post) hw x1 ex1
    exact W.dret (v := x1) hx hb hr (fun t ht hW => ⟨_, rfl, hw, ht⟩) (fun q h => nomatch h) dX8_minus_36
  replace hjx1 := hjx1 _ rfl
  refine lv_if_eq (tgt := 21) hx hb dX8_minus_5 (by decide) (fun c2 => ?_) (fun c2 => ?_)
  · replace hjx1 := pf_t (P := PJx1) c2 hjx1
    refine va_getsN hx hb hG.nn hS hown (gz_fn8 hG _) (fun _ h => h) dX8_minus_21 ?_
    refine lv_goto (tgt := 36) hx hb dX8_minus_24 (by decide) ?_
    exact (hPJx1 _).1 hjx1 _ (lv_sub hl [] rfl)
  · replace hjx1 := pf_f (P := PJx1) c2 hjx1
    replace hox1 := hox1.2 c2
    refine lv_dload_n hx hb dX8_minus_8 rfl (lv_at hl 1 rfl) ?_
    refine cSi (v := fX0_isEndless p1) (run_weak (va_runSN (As := [.double p1]) (rest := []) ⟨hx, hb, hml, hown, hts⟩ (mX0_isEndless l D TY p1 (fun r => r = fX0_isEndless p1) rfl) ⟨va_cnB 1 hts (lw_meth q137) rfl rfl rfl (gz_mn6 hG) (hts _ q44) hd_X0_isEndless ⟨Nat.le_of_ble_eq_true rfl, Nat.le_of_ble_eq_true rfl⟩, (hts _ q136), trivial⟩ (PR.S hP [] rfl hK hG hS) rfl rfl hl.1 rfl (lv_room (Nat.le_of_ble_eq_true rfl)) dX8_minus_9 ⟨Nat.le_of_ble_eq_true rfl, Nat.le_of_ble_eq_true rfl⟩)) ?_
    refine lv_if_eq (tgt := 27) hx hb dX8_minus_12 (by decide) (fun c3 => ?_) (fun c3 => ?_)
    · replace hjx1 := pf_t (P := PJx1) c3 hjx1
      replace hox1 := hox1.1 c3
      refine lv_aload_n hx hb dX8_minus_27 rfl (lv_at hl 0 rfl) ?_
      refine lv_dload_n hx hb dX8_minus_28 rfl (lv_at hl 1 rfl) ?_
      refine lv_dload_n hx hb dX8_minus_29 rfl (lv_at hl 2 rfl) ?_
      refine lv_dsub hx hb dX8_minus_30 hox1 ?_
      refine cFSd (v := fX1_fit (FP.dsub p1 p3)) (va_runF (As := [.double (FP.dsub p1 p3)]) (rest := []) (hK.1 1 _ rfl).2 ⟨hx, hb, hml, hown, hts⟩ (mX1_fit l D TY h0 (FP.dsub p1 p3) (fun r => r = fX1_fit (FP.dsub p1 p3)) rfl) (va_cwF 1 hts (lw_F q461 q464 q466 q45 q468) rfl rfl rfl (gz_fw13 hG) hdF_fit ⟨Nat.le_of_ble_eq_true rfl, Nat.le_of_ble_eq_true rfl⟩) (PR.V (q0 := 0) (ci := 1) hP [0] rfl hK hG hS rfl rfl) rfl rfl hl.1 rfl (lv_room (Nat.le_of_ble_eq_true rfl)) dX8_minus_31 ⟨Nat.le_of_ble_eq_true rfl, Nat.le_of_ble_eq_true rfl⟩) ?_
      exact (hPJx1 _).1 hjx1 _ (lv_sub hl [] rfl)
    · replace hjx1 := pf_f (P := PJx1) c3 hjx1
      replace hox1 := hox1.2 c3
      refine lv_dload_n hx hb dX8_minus_15 rfl (lv_at hl 1 rfl) ?_
      refine lv_dload_n hx hb dX8_minus_16 rfl (lv_at hl 2 rfl) ?_
      refine lx_dlne (tgt := 27) hx hb dX8_minus_17 dX8_minus_18 (by decide) (fun c4 => ?_) (fun c4 => ?_)
      · replace hjx1 := pf_f (P := PJx1) c4 hjx1
        replace hox1 := hox1.2 c4
        refine lv_aload_n hx hb dX8_minus_27 rfl (lv_at hl 0 rfl) ?_
        refine lv_dload_n hx hb dX8_minus_28 rfl (lv_at hl 1 rfl) ?_
        refine lv_dload_n hx hb dX8_minus_29 rfl (lv_at hl 2 rfl) ?_
        refine lv_dsub hx hb dX8_minus_30 hox1 ?_
        refine cFSd (v := fX1_fit (FP.dsub p1 p3)) (va_runF (As := [.double (FP.dsub p1 p3)]) (rest := []) (hK.1 1 _ rfl).2 ⟨hx, hb, hml, hown, hts⟩ (mX1_fit l D TY h0 (FP.dsub p1 p3) (fun r => r = fX1_fit (FP.dsub p1 p3)) rfl) (va_cwF 1 hts (lw_F q461 q464 q466 q45 q468) rfl rfl rfl (gz_fw13 hG) hdF_fit ⟨Nat.le_of_ble_eq_true rfl, Nat.le_of_ble_eq_true rfl⟩) (PR.V (q0 := 0) (ci := 1) hP [0] rfl hK hG hS rfl rfl) rfl rfl hl.1 rfl (lv_room (Nat.le_of_ble_eq_true rfl)) dX8_minus_31 ⟨Nat.le_of_ble_eq_true rfl, Nat.le_of_ble_eq_true rfl⟩) ?_
        exact (hPJx1 _).1 hjx1 _ (lv_sub hl [] rfl)
      · replace hjx1 := pf_t (P := PJx1) c4 hjx1
        refine va_getsN hx hb hG.nn hS hown (gz_fn8 hG _) (fun _ h => h) dX8_minus_21 ?_
        refine lv_goto (tgt := 36) hx hb dX8_minus_24 (by decide) ?_
        exact (hPJx1 _).1 hjx1 _ (lv_sub hl [] rfl)

def fX8_minus_F (p1 : UInt64) (p3 : UInt64) : UInt64 := lt_ (if (fX0_isNumber p1 p3) = 0 then 9221120237041090560 else (if (fX0_isEndless p1) = 0 then (fX2_fit (FP.dsub p1 p3)) else (if Deq p1 p3 then 9221120237041090560 else (fX2_fit (FP.dsub p1 p3))))) (fun x1 : UInt64 => x1)
def oX8_minus_F (p1 : UInt64) (p3 : UInt64) : Prop := (((fX0_isNumber p1 p3) = 0) → True) ∧ (¬ ((fX0_isNumber p1 p3) = 0) → (((fX0_isEndless p1) = 0) → (vf_n64 (FP.dsub p1 p3)) ∧ (oX2_fit (FP.dsub p1 p3))) ∧ (¬ ((fX0_isEndless p1) = 0) → ((Deq p1 p3) → True) ∧ (¬ (Deq p1 p3) → (vf_n64 (FP.dsub p1 p3)) ∧ (oX2_fit (FP.dsub p1 p3)))))
set_option maxHeartbeats 4000000 in
set_option maxRecDepth 100000 in
theorem mX8_minus_F (l : Launch) (D : va_G) (TY : Nat → ClassId) (h0 : Nat) (p1 : UInt64) (p3 : UInt64) (post : UInt64 → Prop) (hw : post (fX8_minus_F p1 p3)) (hok : oX8_minus_F p1 p3) : Met l yX8_minus (ws_ yX8_minus cX8_minus 5 (Option.some Jvm.ClassFile.FieldType.double)) ({ frames := 1, cells := 0, slots := 0, locals := 23 }) (PR D TY [.ref h0, .double p1, .double p3] [(h0, .inr (2, []))]) (vp_Sd post) 0 0 (fun _ => False) := by
  refine ofWF (cc := cX8_minus) (maxL := 5) (ret := (Option.some Jvm.ClassFile.FieldType.double)) (plainFor_of_name (by decide)) rfl ?_
  intro p e s m args below meth c s₁ B hml hv
  obtain ⟨rfl, hP, hK, hG⟩ := hv
  have hx := B.exec
  have hb := B.bytes
  have hr := B.returns
  have hts0 := atoms_spec (ws := ws_ yX8_minus cX8_minus 5 (Option.some Jvm.ClassFile.FieldType.double)) B.pre
  have hts : ∀ w ∈ lw_all, w.before _ s = true := fun w h => hts0 w (List.mem_cons_of_mem _ h)
  have hown : s.vm.findClass RX8 = some m.cls := findClass_of_methodNamed B.named
  have hlocks := B.notSynchronized
  have hS : va_S (fun _ => False) s.heap s.heap [] := va_S.rf
  have hl := lv_entry ([.ref h0, .double p1, .double p3]) (n := 5) (Nat.le_of_ble_eq_true rfl)
  rw [lg_entry_eq]
  generalize (lg_sl ([.ref h0, .double p1, .double p3]) ++ List.replicate (5 - (lg_sl ([.ref h0, .double p1, .double p3])).length) Slot.unset).toArray = ls at hl ⊢
  have hl : lv_has ls 5 [(0, .ref h0), (1, .double p1), (3, .double p3)] := hl
  unfold fX8_minus_F at hw
  unfold oX8_minus_F at hok
  refine lv_dload_n hx hb dX8_minus_0 rfl (lv_at hl 1 rfl) ?_
  refine lv_dload_n hx hb dX8_minus_1 rfl (lv_at hl 2 rfl) ?_
  refine cSi (v := fX0_isNumber p1 p3) (run_weak (va_runSN (As := [.double p1, .double p3]) (rest := []) ⟨hx, hb, hml, hown, hts⟩ (mX0_isNumber l D TY p1 p3 (fun r => r = fX0_isNumber p1 p3) rfl) ⟨va_cnB 2 hts (lw_meth q459) rfl rfl rfl (gz_mn9 hG) (hts _ q44) hd_X0_isNumber ⟨Nat.le_of_ble_eq_true rfl, Nat.le_of_ble_eq_true rfl⟩, (hts _ q458), trivial⟩ (PR.S hP [] rfl hK hG hS) rfl rfl hl.1 rfl (lv_room (Nat.le_of_ble_eq_true rfl)) dX8_minus_2 ⟨Nat.le_of_ble_eq_true rfl, Nat.le_of_ble_eq_true rfl⟩)) ?_
  obtain ⟨PJx1, hPJx1⟩ : ∃ P : UInt64 → Prop, ∀ x1 : UInt64, P x1 ↔ ∀ ls : Array Slot, lv_has ls 5 [] → W p l e (headSpec (ws_ yX8_minus cX8_minus 5 (Option.some Jvm.ClassFile.FieldType.double)) ({ frames := 1, cells := 0, slots := 0, locals := 23 })).room s m ([.ref h0, .double p1, .double p3] : List Value).toArray below meth c s.heap ([]) 0 0 (MQ below (vp_Sd post) ([.ref h0, .double p1, .double p3] : List Value).toArray s 0 0 (fun _ => False)) (F0 m 36 ls [.double x1]) := ⟨_, fun _ => Iff.rfl⟩
  have hox1 := hok
  have hjx1 : ∀ x1 : UInt64, x1 = (if (fX0_isNumber p1 p3) = 0 then 9221120237041090560 else (if (fX0_isEndless p1) = 0 then (fX2_fit (FP.dsub p1 p3)) else (if Deq p1 p3 then 9221120237041090560 else (fX2_fit (FP.dsub p1 p3))))) → PJx1 x1 := by
    intro x1 ex1
    rw [hPJx1]
    intro ls hl
    replace hw := pf_let (P := post) hw x1 ex1
    exact W.dret (v := x1) hx hb hr (fun t ht hW => ⟨_, rfl, hw, ht⟩) (fun q h => nomatch h) dX8_minus_36
  replace hjx1 := hjx1 _ rfl
  refine lv_if_eq (tgt := 21) hx hb dX8_minus_5 (by decide) (fun c2 => ?_) (fun c2 => ?_)
  · replace hjx1 := pf_t (P := PJx1) c2 hjx1
    refine va_getsN hx hb hG.nn hS hown (gz_fn8 hG _) (fun _ h => h) dX8_minus_21 ?_
    refine lv_goto (tgt := 36) hx hb dX8_minus_24 (by decide) ?_
    exact (hPJx1 _).1 hjx1 _ (lv_sub hl [] rfl)
  · replace hjx1 := pf_f (P := PJx1) c2 hjx1
    replace hox1 := hox1.2 c2
    refine lv_dload_n hx hb dX8_minus_8 rfl (lv_at hl 1 rfl) ?_
    refine cSi (v := fX0_isEndless p1) (run_weak (va_runSN (As := [.double p1]) (rest := []) ⟨hx, hb, hml, hown, hts⟩ (mX0_isEndless l D TY p1 (fun r => r = fX0_isEndless p1) rfl) ⟨va_cnB 1 hts (lw_meth q137) rfl rfl rfl (gz_mn6 hG) (hts _ q44) hd_X0_isEndless ⟨Nat.le_of_ble_eq_true rfl, Nat.le_of_ble_eq_true rfl⟩, (hts _ q136), trivial⟩ (PR.S hP [] rfl hK hG hS) rfl rfl hl.1 rfl (lv_room (Nat.le_of_ble_eq_true rfl)) dX8_minus_9 ⟨Nat.le_of_ble_eq_true rfl, Nat.le_of_ble_eq_true rfl⟩)) ?_
    refine lv_if_eq (tgt := 27) hx hb dX8_minus_12 (by decide) (fun c3 => ?_) (fun c3 => ?_)
    · replace hjx1 := pf_t (P := PJx1) c3 hjx1
      replace hox1 := hox1.1 c3
      refine lv_aload_n hx hb dX8_minus_27 rfl (lv_at hl 0 rfl) ?_
      refine lv_dload_n hx hb dX8_minus_28 rfl (lv_at hl 1 rfl) ?_
      refine lv_dload_n hx hb dX8_minus_29 rfl (lv_at hl 2 rfl) ?_
      refine lv_dsub hx hb dX8_minus_30 hox1.1 ?_
      replace hox1 := hox1.2
      refine cFSd (v := fX2_fit (FP.dsub p1 p3)) (va_runF (As := [.double (FP.dsub p1 p3)]) (rest := []) (hK.1 2 _ rfl).2 ⟨hx, hb, hml, hown, hts⟩ (mX2_fit l D TY h0 (FP.dsub p1 p3) (fun r => r = fX2_fit (FP.dsub p1 p3)) rfl hox1) (va_cwF 1 hts (lw_F q461 q469 q252 q46 q254) rfl rfl rfl (gz_fw34 hG) hdF_fit ⟨Nat.le_of_ble_eq_true rfl, Nat.le_of_ble_eq_true rfl⟩) (PR.V (q0 := 0) (ci := 2) hP [0] rfl hK hG hS rfl rfl) rfl rfl hl.1 rfl (lv_room (Nat.le_of_ble_eq_true rfl)) dX8_minus_31 ⟨Nat.le_of_ble_eq_true rfl, Nat.le_of_ble_eq_true rfl⟩) ?_
      exact (hPJx1 _).1 hjx1 _ (lv_sub hl [] rfl)
    · replace hjx1 := pf_f (P := PJx1) c3 hjx1
      replace hox1 := hox1.2 c3
      refine lv_dload_n hx hb dX8_minus_15 rfl (lv_at hl 1 rfl) ?_
      refine lv_dload_n hx hb dX8_minus_16 rfl (lv_at hl 2 rfl) ?_
      refine lx_dlne (tgt := 27) hx hb dX8_minus_17 dX8_minus_18 (by decide) (fun c4 => ?_) (fun c4 => ?_)
      · replace hjx1 := pf_f (P := PJx1) c4 hjx1
        replace hox1 := hox1.2 c4
        refine lv_aload_n hx hb dX8_minus_27 rfl (lv_at hl 0 rfl) ?_
        refine lv_dload_n hx hb dX8_minus_28 rfl (lv_at hl 1 rfl) ?_
        refine lv_dload_n hx hb dX8_minus_29 rfl (lv_at hl 2 rfl) ?_
        refine lv_dsub hx hb dX8_minus_30 hox1.1 ?_
        replace hox1 := hox1.2
        refine cFSd (v := fX2_fit (FP.dsub p1 p3)) (va_runF (As := [.double (FP.dsub p1 p3)]) (rest := []) (hK.1 2 _ rfl).2 ⟨hx, hb, hml, hown, hts⟩ (mX2_fit l D TY h0 (FP.dsub p1 p3) (fun r => r = fX2_fit (FP.dsub p1 p3)) rfl hox1) (va_cwF 1 hts (lw_F q461 q469 q252 q46 q254) rfl rfl rfl (gz_fw34 hG) hdF_fit ⟨Nat.le_of_ble_eq_true rfl, Nat.le_of_ble_eq_true rfl⟩) (PR.V (q0 := 0) (ci := 2) hP [0] rfl hK hG hS rfl rfl) rfl rfl hl.1 rfl (lv_room (Nat.le_of_ble_eq_true rfl)) dX8_minus_31 ⟨Nat.le_of_ble_eq_true rfl, Nat.le_of_ble_eq_true rfl⟩) ?_
        exact (hPJx1 _).1 hjx1 _ (lv_sub hl [] rfl)
      · replace hjx1 := pf_t (P := PJx1) c4 hjx1
        refine va_getsN hx hb hG.nn hS hown (gz_fn8 hG _) (fun _ h => h) dX8_minus_21 ?_
        refine lv_goto (tgt := 36) hx hb dX8_minus_24 (by decide) ?_
        exact (hPJx1 _).1 hjx1 _ (lv_sub hl [] rfl)

def fX8_rest_D (p1 : UInt64) (p3 : UInt64) : UInt64 := lt_ (if (fX0_isNumber p1 p3) = 0 then 9221120237041090560 else (if (fX0_isEndless p1) = 0 then (if Deq p3 FP.dconst0 then 9221120237041090560 else (FP.drem p1 p3)) else 9221120237041090560)) (fun x1 : UInt64 => x1)
def oX8_rest_D (p1 : UInt64) (p3 : UInt64) : Prop := (((fX0_isNumber p1 p3) = 0) → True) ∧ (¬ ((fX0_isNumber p1 p3) = 0) → (((fX0_isEndless p1) = 0) → ((Deq p3 FP.dconst0) → True) ∧ (¬ (Deq p3 FP.dconst0) → (vf_n64 (FP.drem p1 p3)))) ∧ (¬ ((fX0_isEndless p1) = 0) → True))
set_option maxHeartbeats 4000000 in
set_option maxRecDepth 100000 in
theorem mX8_rest_D (l : Launch) (D : va_G) (TY : Nat → ClassId) (h0 : Nat) (p1 : UInt64) (p3 : UInt64) (post : UInt64 → Prop) (hw : post (fX8_rest_D p1 p3)) (hok : oX8_rest_D p1 p3) : Met l yX8_rest (ws_ yX8_rest cX8_rest 5 (Option.some Jvm.ClassFile.FieldType.double)) ({ frames := 1, cells := 0, slots := 0, locals := 23 }) (PR D TY [.ref h0, .double p1, .double p3] [(h0, .inr (1, []))]) (vp_Sd post) 0 0 (fun _ => False) := by
  refine ofWF (cc := cX8_rest) (maxL := 5) (ret := (Option.some Jvm.ClassFile.FieldType.double)) (plainFor_of_name (by decide)) rfl ?_
  intro p e s m args below meth c s₁ B hml hv
  obtain ⟨rfl, hP, hK, hG⟩ := hv
  have hx := B.exec
  have hb := B.bytes
  have hr := B.returns
  have hts0 := atoms_spec (ws := ws_ yX8_rest cX8_rest 5 (Option.some Jvm.ClassFile.FieldType.double)) B.pre
  have hts : ∀ w ∈ lw_all, w.before _ s = true := fun w h => hts0 w (List.mem_cons_of_mem _ h)
  have hown : s.vm.findClass RX8 = some m.cls := findClass_of_methodNamed B.named
  have hlocks := B.notSynchronized
  have hS : va_S (fun _ => False) s.heap s.heap [] := va_S.rf
  have hl := lv_entry ([.ref h0, .double p1, .double p3]) (n := 5) (Nat.le_of_ble_eq_true rfl)
  rw [lg_entry_eq]
  generalize (lg_sl ([.ref h0, .double p1, .double p3]) ++ List.replicate (5 - (lg_sl ([.ref h0, .double p1, .double p3])).length) Slot.unset).toArray = ls at hl ⊢
  have hl : lv_has ls 5 [(0, .ref h0), (1, .double p1), (3, .double p3)] := hl
  unfold fX8_rest_D at hw
  unfold oX8_rest_D at hok
  refine lv_dload_n hx hb dX8_rest_0 rfl (lv_at hl 1 rfl) ?_
  refine lv_dload_n hx hb dX8_rest_1 rfl (lv_at hl 2 rfl) ?_
  refine cSi (v := fX0_isNumber p1 p3) (run_weak (va_runSN (As := [.double p1, .double p3]) (rest := []) ⟨hx, hb, hml, hown, hts⟩ (mX0_isNumber l D TY p1 p3 (fun r => r = fX0_isNumber p1 p3) rfl) ⟨va_cnB 2 hts (lw_meth q459) rfl rfl rfl (gz_mn9 hG) (hts _ q44) hd_X0_isNumber ⟨Nat.le_of_ble_eq_true rfl, Nat.le_of_ble_eq_true rfl⟩, (hts _ q458), trivial⟩ (PR.S hP [] rfl hK hG hS) rfl rfl hl.1 rfl (lv_room (Nat.le_of_ble_eq_true rfl)) dX8_rest_2 ⟨Nat.le_of_ble_eq_true rfl, Nat.le_of_ble_eq_true rfl⟩)) ?_
  obtain ⟨PJx1, hPJx1⟩ : ∃ P : UInt64 → Prop, ∀ x1 : UInt64, P x1 ↔ ∀ ls : Array Slot, lv_has ls 5 [] → W p l e (headSpec (ws_ yX8_rest cX8_rest 5 (Option.some Jvm.ClassFile.FieldType.double)) ({ frames := 1, cells := 0, slots := 0, locals := 23 })).room s m ([.ref h0, .double p1, .double p3] : List Value).toArray below meth c s.heap ([]) 0 0 (MQ below (vp_Sd post) ([.ref h0, .double p1, .double p3] : List Value).toArray s 0 0 (fun _ => False)) (F0 m 30 ls [.double x1]) := ⟨_, fun _ => Iff.rfl⟩
  have hox1 := hok
  have hjx1 : ∀ x1 : UInt64, x1 = (if (fX0_isNumber p1 p3) = 0 then 9221120237041090560 else (if (fX0_isEndless p1) = 0 then (if Deq p3 FP.dconst0 then 9221120237041090560 else (FP.drem p1 p3)) else 9221120237041090560)) → PJx1 x1 := by
    intro x1 ex1
    rw [hPJx1]
    intro ls hl
    replace hw := pf_let (P := post) hw x1 ex1
    exact W.dret (v := x1) hx hb hr (fun t ht hW => ⟨_, rfl, hw, ht⟩) (fun q h => nomatch h) dX8_rest_30
  replace hjx1 := hjx1 _ rfl
  refine lv_if_eq (tgt := 21) hx hb dX8_rest_5 (by decide) (fun c2 => ?_) (fun c2 => ?_)
  · replace hjx1 := pf_t (P := PJx1) c2 hjx1
    refine va_getsN hx hb hG.nn hS hown (gz_fn8 hG _) (fun _ h => h) dX8_rest_21 ?_
    refine lv_goto (tgt := 30) hx hb dX8_rest_24 (by decide) ?_
    exact (hPJx1 _).1 hjx1 _ (lv_sub hl [] rfl)
  · replace hjx1 := pf_f (P := PJx1) c2 hjx1
    replace hox1 := hox1.2 c2
    refine lv_dload_n hx hb dX8_rest_8 rfl (lv_at hl 1 rfl) ?_
    refine cSi (v := fX0_isEndless p1) (run_weak (va_runSN (As := [.double p1]) (rest := []) ⟨hx, hb, hml, hown, hts⟩ (mX0_isEndless l D TY p1 (fun r => r = fX0_isEndless p1) rfl) ⟨va_cnB 1 hts (lw_meth q137) rfl rfl rfl (gz_mn6 hG) (hts _ q44) hd_X0_isEndless ⟨Nat.le_of_ble_eq_true rfl, Nat.le_of_ble_eq_true rfl⟩, (hts _ q136), trivial⟩ (PR.S hP [] rfl hK hG hS) rfl rfl hl.1 rfl (lv_room (Nat.le_of_ble_eq_true rfl)) dX8_rest_9 ⟨Nat.le_of_ble_eq_true rfl, Nat.le_of_ble_eq_true rfl⟩)) ?_
    refine lv_if_ne (tgt := 21) hx hb dX8_rest_12 (by decide) (fun c3 => ?_) (fun c3 => ?_)
    · replace hjx1 := pf_f (P := PJx1) c3 hjx1
      refine va_getsN hx hb hG.nn hS hown (gz_fn8 hG _) (fun _ h => h) dX8_rest_21 ?_
      refine lv_goto (tgt := 30) hx hb dX8_rest_24 (by decide) ?_
      exact (hPJx1 _).1 hjx1 _ (lv_sub hl [] rfl)
    · replace hjx1 := pf_t (P := PJx1) c3 hjx1
      replace hox1 := hox1.1 c3
      refine lv_dload_n hx hb dX8_rest_15 rfl (lv_at hl 2 rfl) ?_
      refine lv_dconst0 hx hb dX8_rest_16 ?_
      refine lx_dlne (tgt := 27) hx hb dX8_rest_17 dX8_rest_18 (by decide) (fun c4 => ?_) (fun c4 => ?_)
      · replace hjx1 := pf_f (P := PJx1) c4 hjx1
        replace hox1 := hox1.2 c4
        refine lv_dload_n hx hb dX8_rest_27 rfl (lv_at hl 1 rfl) ?_
        refine lv_dload_n hx hb dX8_rest_28 rfl (lv_at hl 2 rfl) ?_
        refine lv_drem hx hb dX8_rest_29 hox1 ?_
        exact (hPJx1 _).1 hjx1 _ (lv_sub hl [] rfl)
      · replace hjx1 := pf_t (P := PJx1) c4 hjx1
        refine va_getsN hx hb hG.nn hS hown (gz_fn8 hG _) (fun _ h => h) dX8_rest_21 ?_
        refine lv_goto (tgt := 30) hx hb dX8_rest_24 (by decide) ?_
        exact (hPJx1 _).1 hjx1 _ (lv_sub hl [] rfl)

def fX8_rest_F (p1 : UInt64) (p3 : UInt64) : UInt64 := lt_ (if (fX0_isNumber p1 p3) = 0 then 9221120237041090560 else (if (fX0_isEndless p1) = 0 then (if Deq p3 FP.dconst0 then 9221120237041090560 else (FP.drem p1 p3)) else 9221120237041090560)) (fun x1 : UInt64 => x1)
def oX8_rest_F (p1 : UInt64) (p3 : UInt64) : Prop := (((fX0_isNumber p1 p3) = 0) → True) ∧ (¬ ((fX0_isNumber p1 p3) = 0) → (((fX0_isEndless p1) = 0) → ((Deq p3 FP.dconst0) → True) ∧ (¬ (Deq p3 FP.dconst0) → (vf_n64 (FP.drem p1 p3)))) ∧ (¬ ((fX0_isEndless p1) = 0) → True))
set_option maxHeartbeats 4000000 in
set_option maxRecDepth 100000 in
theorem mX8_rest_F (l : Launch) (D : va_G) (TY : Nat → ClassId) (h0 : Nat) (p1 : UInt64) (p3 : UInt64) (post : UInt64 → Prop) (hw : post (fX8_rest_F p1 p3)) (hok : oX8_rest_F p1 p3) : Met l yX8_rest (ws_ yX8_rest cX8_rest 5 (Option.some Jvm.ClassFile.FieldType.double)) ({ frames := 1, cells := 0, slots := 0, locals := 23 }) (PR D TY [.ref h0, .double p1, .double p3] [(h0, .inr (2, []))]) (vp_Sd post) 0 0 (fun _ => False) := by
  refine ofWF (cc := cX8_rest) (maxL := 5) (ret := (Option.some Jvm.ClassFile.FieldType.double)) (plainFor_of_name (by decide)) rfl ?_
  intro p e s m args below meth c s₁ B hml hv
  obtain ⟨rfl, hP, hK, hG⟩ := hv
  have hx := B.exec
  have hb := B.bytes
  have hr := B.returns
  have hts0 := atoms_spec (ws := ws_ yX8_rest cX8_rest 5 (Option.some Jvm.ClassFile.FieldType.double)) B.pre
  have hts : ∀ w ∈ lw_all, w.before _ s = true := fun w h => hts0 w (List.mem_cons_of_mem _ h)
  have hown : s.vm.findClass RX8 = some m.cls := findClass_of_methodNamed B.named
  have hlocks := B.notSynchronized
  have hS : va_S (fun _ => False) s.heap s.heap [] := va_S.rf
  have hl := lv_entry ([.ref h0, .double p1, .double p3]) (n := 5) (Nat.le_of_ble_eq_true rfl)
  rw [lg_entry_eq]
  generalize (lg_sl ([.ref h0, .double p1, .double p3]) ++ List.replicate (5 - (lg_sl ([.ref h0, .double p1, .double p3])).length) Slot.unset).toArray = ls at hl ⊢
  have hl : lv_has ls 5 [(0, .ref h0), (1, .double p1), (3, .double p3)] := hl
  unfold fX8_rest_F at hw
  unfold oX8_rest_F at hok
  refine lv_dload_n hx hb dX8_rest_0 rfl (lv_at hl 1 rfl) ?_
  refine lv_dload_n hx hb dX8_rest_1 rfl (lv_at hl 2 rfl) ?_
  refine cSi (v := fX0_isNumber p1 p3) (run_weak (va_runSN (As := [.double p1, .double p3]) (rest := []) ⟨hx, hb, hml, hown, hts⟩ (mX0_isNumber l D TY p1 p3 (fun r => r = fX0_isNumber p1 p3) rfl) ⟨va_cnB 2 hts (lw_meth q459) rfl rfl rfl (gz_mn9 hG) (hts _ q44) hd_X0_isNumber ⟨Nat.le_of_ble_eq_true rfl, Nat.le_of_ble_eq_true rfl⟩, (hts _ q458), trivial⟩ (PR.S hP [] rfl hK hG hS) rfl rfl hl.1 rfl (lv_room (Nat.le_of_ble_eq_true rfl)) dX8_rest_2 ⟨Nat.le_of_ble_eq_true rfl, Nat.le_of_ble_eq_true rfl⟩)) ?_
  obtain ⟨PJx1, hPJx1⟩ : ∃ P : UInt64 → Prop, ∀ x1 : UInt64, P x1 ↔ ∀ ls : Array Slot, lv_has ls 5 [] → W p l e (headSpec (ws_ yX8_rest cX8_rest 5 (Option.some Jvm.ClassFile.FieldType.double)) ({ frames := 1, cells := 0, slots := 0, locals := 23 })).room s m ([.ref h0, .double p1, .double p3] : List Value).toArray below meth c s.heap ([]) 0 0 (MQ below (vp_Sd post) ([.ref h0, .double p1, .double p3] : List Value).toArray s 0 0 (fun _ => False)) (F0 m 30 ls [.double x1]) := ⟨_, fun _ => Iff.rfl⟩
  have hox1 := hok
  have hjx1 : ∀ x1 : UInt64, x1 = (if (fX0_isNumber p1 p3) = 0 then 9221120237041090560 else (if (fX0_isEndless p1) = 0 then (if Deq p3 FP.dconst0 then 9221120237041090560 else (FP.drem p1 p3)) else 9221120237041090560)) → PJx1 x1 := by
    intro x1 ex1
    rw [hPJx1]
    intro ls hl
    replace hw := pf_let (P := post) hw x1 ex1
    exact W.dret (v := x1) hx hb hr (fun t ht hW => ⟨_, rfl, hw, ht⟩) (fun q h => nomatch h) dX8_rest_30
  replace hjx1 := hjx1 _ rfl
  refine lv_if_eq (tgt := 21) hx hb dX8_rest_5 (by decide) (fun c2 => ?_) (fun c2 => ?_)
  · replace hjx1 := pf_t (P := PJx1) c2 hjx1
    refine va_getsN hx hb hG.nn hS hown (gz_fn8 hG _) (fun _ h => h) dX8_rest_21 ?_
    refine lv_goto (tgt := 30) hx hb dX8_rest_24 (by decide) ?_
    exact (hPJx1 _).1 hjx1 _ (lv_sub hl [] rfl)
  · replace hjx1 := pf_f (P := PJx1) c2 hjx1
    replace hox1 := hox1.2 c2
    refine lv_dload_n hx hb dX8_rest_8 rfl (lv_at hl 1 rfl) ?_
    refine cSi (v := fX0_isEndless p1) (run_weak (va_runSN (As := [.double p1]) (rest := []) ⟨hx, hb, hml, hown, hts⟩ (mX0_isEndless l D TY p1 (fun r => r = fX0_isEndless p1) rfl) ⟨va_cnB 1 hts (lw_meth q137) rfl rfl rfl (gz_mn6 hG) (hts _ q44) hd_X0_isEndless ⟨Nat.le_of_ble_eq_true rfl, Nat.le_of_ble_eq_true rfl⟩, (hts _ q136), trivial⟩ (PR.S hP [] rfl hK hG hS) rfl rfl hl.1 rfl (lv_room (Nat.le_of_ble_eq_true rfl)) dX8_rest_9 ⟨Nat.le_of_ble_eq_true rfl, Nat.le_of_ble_eq_true rfl⟩)) ?_
    refine lv_if_ne (tgt := 21) hx hb dX8_rest_12 (by decide) (fun c3 => ?_) (fun c3 => ?_)
    · replace hjx1 := pf_f (P := PJx1) c3 hjx1
      refine va_getsN hx hb hG.nn hS hown (gz_fn8 hG _) (fun _ h => h) dX8_rest_21 ?_
      refine lv_goto (tgt := 30) hx hb dX8_rest_24 (by decide) ?_
      exact (hPJx1 _).1 hjx1 _ (lv_sub hl [] rfl)
    · replace hjx1 := pf_t (P := PJx1) c3 hjx1
      replace hox1 := hox1.1 c3
      refine lv_dload_n hx hb dX8_rest_15 rfl (lv_at hl 2 rfl) ?_
      refine lv_dconst0 hx hb dX8_rest_16 ?_
      refine lx_dlne (tgt := 27) hx hb dX8_rest_17 dX8_rest_18 (by decide) (fun c4 => ?_) (fun c4 => ?_)
      · replace hjx1 := pf_f (P := PJx1) c4 hjx1
        replace hox1 := hox1.2 c4
        refine lv_dload_n hx hb dX8_rest_27 rfl (lv_at hl 1 rfl) ?_
        refine lv_dload_n hx hb dX8_rest_28 rfl (lv_at hl 2 rfl) ?_
        refine lv_drem hx hb dX8_rest_29 hox1 ?_
        exact (hPJx1 _).1 hjx1 _ (lv_sub hl [] rfl)
      · replace hjx1 := pf_t (P := PJx1) c4 hjx1
        refine va_getsN hx hb hG.nn hS hown (gz_fn8 hG _) (fun _ h => h) dX8_rest_21 ?_
        refine lv_goto (tgt := 30) hx hb dX8_rest_24 (by decide) ?_
        exact (hPJx1 _).1 hjx1 _ (lv_sub hl [] rfl)
