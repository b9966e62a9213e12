theorem hd_J2_scalb : yJ2_scalb.cls ≠ "java/lang/invoke/MethodHandle" ∧ yJ2_scalb.cls ≠ "java/lang/invoke/VarHandle" ∧ (parseMethodDescriptor yJ2_scalb.desc).map (fun d => d.parameters.length) = some 2 := by decide +kernel
def fX0_exponentOf (p0 : UInt64) : Int32 := lt_ (fJ2_getExponent p0) (fun x1 : Int32 => lt_ (if x1 < (-1022) then ((fJ2_getExponent (fJ2_scalbF p0 100)) - 100) else x1) (fun x2 : Int32 => x2))
def oX0_exponentOf (p0 : UInt64) : Prop := ∀ x1 : Int32, x1 = fJ2_getExponent p0 → ((x1 < (-1022)) → (oJ2_scalbF p0)) ∧ (¬ (x1 < (-1022)) → True)
set_option maxHeartbeats 4000000 in
set_option maxRecDepth 100000 in
theorem mX0_exponentOf (l : Launch) (D : va_G) (TY : Nat → ClassId) (p0 : UInt64) (post : Int32 → Prop) (hw : post (fX0_exponentOf p0)) (hok : oX0_exponentOf p0) : Met l yX0_exponentOf (ws_ yX0_exponentOf cX0_exponentOf 3 (Option.some Jvm.ClassFile.FieldType.int)) ({ frames := 3, cells := 0, slots := 0, locals := 63 }) (PR D TY [.double p0] []) (vp_Si post) 0 0 (fun _ => False) := by
  refine ofWF (cc := cX0_exponentOf) (maxL := 3) (ret := (Option.some Jvm.ClassFile.FieldType.int)) (plainFor_of_name (by decide)) rfl ?_
  intro p e s m args below meth c s₁ B hml hv
  obtain ⟨rfl, hP, hK, hG⟩ := hv
  have hx := B.exec
  have hb := B.bytes
  have hr := B.returns
  have hts0 := atoms_spec (ws := ws_ yX0_exponentOf cX0_exponentOf 3 (Option.some Jvm.ClassFile.FieldType.int)) B.pre
  have hts : ∀ w ∈ lw_all, w.before _ s = true := fun w h => hts0 w (List.mem_cons_of_mem _ h)
  have hown : s.vm.findClass RX0 = some m.cls := findClass_of_methodNamed B.named
  have hlocks := B.notSynchronized
  have hS : va_S (fun _ => False) s.heap s.heap [] := va_S.rf
  have hl := lv_entry ([.double p0]) (n := 3) (Nat.le_of_ble_eq_true rfl)
  rw [lg_entry_eq]
  generalize (lg_sl ([.double p0]) ++ List.replicate (3 - (lg_sl ([.double p0])).length) Slot.unset).toArray = ls at hl ⊢
  have hl : lv_has ls 3 [(0, .double p0)] := hl
  unfold fX0_exponentOf at hw
  unfold oX0_exponentOf at hok
  refine lv_dload_n hx hb dX0_exponentOf_0 rfl (lv_at hl 0 rfl) ?_
  refine cSi (v := fJ2_getExponent p0) (W.runS (As := [.double p0]) (rest := []) ⟨hx, hb, hml, hown, hts⟩ (mJ2_getExponent l D TY p0 (fun r => r = fJ2_getExponent p0) rfl) (va_cwS 1 hts (lw_S q152 q153 q54 q154) rfl rfl rfl hd_J2_getExponent ⟨Nat.le_of_ble_eq_true rfl, Nat.le_of_ble_eq_true rfl⟩) (PR.S hP [] rfl hK hG hS) rfl rfl hl.1 rfl (lv_room (Nat.le_of_ble_eq_true rfl)) dX0_exponentOf_1 ⟨Nat.le_of_ble_eq_true rfl, Nat.le_of_ble_eq_true rfl⟩) ?_
  refine lv_topi (fun x1 ex1 => ?_)
  replace hw := pf_let (P := post) hw x1 ex1
  replace hok := hok x1 ex1
  refine lv_istore_n (lv' := [(2, .int x1), (0, .double p0)]) hx hb dX0_exponentOf_4 rfl hl (by decide) rfl (fun ls hl => ?_)
  refine lv_iload_n hx hb dX0_exponentOf_5 rfl (lv_at hl 0 rfl) ?_
  refine lv_sipush (v := (-1022)) hx hb dX0_exponentOf_6 (by decide) ?_
  obtain ⟨PJx2, hPJx2⟩ : ∃ P : Int32 → Prop, ∀ x2 : Int32, P x2 ↔ ∀ ls : Array Slot, lv_has ls 3 [] → W p l e (headSpec (ws_ yX0_exponentOf cX0_exponentOf 3 (Option.some Jvm.ClassFile.FieldType.int)) ({ frames := 3, cells := 0, slots := 0, locals := 63 })).room s m ([.double p0] : List Value).toArray below meth c s.heap ([]) 0 0 (MQ below (vp_Si post) ([.double p0] : List Value).toArray s 0 0 (fun _ => False)) (F0 m 28 ls [.int x2]) := ⟨_, fun _ => Iff.rfl⟩
  have hox2 := hok
  have hjx2 : ∀ x2 : Int32, x2 = (if x1 < (-1022) then ((fJ2_getExponent (fJ2_scalbF p0 100)) - 100) else x1) → PJx2 x2 := by
    intro x2 ex2
    rw [hPJx2]
    intro ls hl
    replace hw := pf_let (P := post) hw x2 ex2
    exact W.iret (v := x2) hx hb hr (fun t ht hW => ⟨_, rfl, hw, ht⟩) (fun q h => nomatch h) dX0_exponentOf_28
  replace hjx2 := hjx2 _ rfl
  refine lv_icmp_lt (tgt := 16) hx hb dX0_exponentOf_9 (by decide) (fun c3 => ?_) (fun c3 => ?_)
  · replace hjx2 := pf_t (P := PJx2) c3 hjx2
    replace hox2 := hox2.1 c3
    refine lv_dload_n hx hb dX0_exponentOf_16 rfl (lv_at hl 1 rfl) ?_
    refine lv_bipush (v := 100) hx hb dX0_exponentOf_17 (by decide) ?_
    refine cSd (v := fJ2_scalbF p0 100) (W.runS (As := [.double p0, .int 100]) (rest := []) ⟨hx, hb, hml, hown, hts⟩ (mJ2_scalbF l D TY p0 100 (fun r => r = fJ2_scalbF p0 100) rfl hox2) (va_cwS 2 hts (lw_S q160 q161 q54 q162) rfl rfl rfl hd_J2_scalb ⟨Nat.le_of_ble_eq_true rfl, Nat.le_of_ble_eq_true rfl⟩) (PR.S hP [] rfl hK hG hS) rfl rfl hl.1 rfl (lv_room (Nat.le_of_ble_eq_true rfl)) dX0_exponentOf_19 ⟨Nat.le_of_ble_eq_true rfl, Nat.le_of_ble_eq_true rfl⟩) ?_
    refine cSi (v := fJ2_getExponent (fJ2_scalbF p0 100)) (W.runS (As := [.double (fJ2_scalbF p0 100)]) (rest := []) ⟨hx, hb, hml, hown, hts⟩ (mJ2_getExponent l D TY (fJ2_scalbF p0 100) (fun r => r = fJ2_getExponent (fJ2_scalbF p0 100)) rfl) (va_cwS 1 hts (lw_S q152 q153 q54 q154) rfl rfl rfl hd_J2_getExponent ⟨Nat.le_of_ble_eq_true rfl, Nat.le_of_ble_eq_true rfl⟩) (PR.S hP [] rfl hK hG hS) rfl rfl hl.1 rfl (lv_room (Nat.le_of_ble_eq_true rfl)) dX0_exponentOf_22 ⟨Nat.le_of_ble_eq_true rfl, Nat.le_of_ble_eq_true rfl⟩) ?_
    refine lv_bipush (v := 100) hx hb dX0_exponentOf_25 (by decide) ?_
    refine lv_isub hx hb dX0_exponentOf_27 ?_
    exact (hPJx2 _).1 hjx2 _ (lv_sub hl [] rfl)
  · replace hjx2 := pf_f (P := PJx2) c3 hjx2
    refine lv_iload_n hx hb dX0_exponentOf_12 rfl (lv_at hl 0 rfl) ?_
    refine lv_goto (tgt := 28) hx hb dX0_exponentOf_13 (by decide) ?_
    exact (hPJx2 _).1 hjx2 _ (lv_sub hl [] rfl)

def fX0_scaledDown (p0 : UInt64) (p2 : Int32) : UInt64 := fJ2_scalbF (fJ2_scalbF p0 ((-p2) / 2)) ((-p2) - ((-p2) / 2))
def oX0_scaledDown (p0 : UInt64) (p2 : Int32) : Prop := (oJ2_scalbF p0) ∧ (oJ2_scalbF (fJ2_scalbF p0 ((-p2) / 2)))
set_option maxHeartbeats 4000000 in
set_option maxRecDepth 100000 in
theorem mX0_scaledDown (l : Launch) (D : va_G) (TY : Nat → ClassId) (p0 : UInt64) (p2 : Int32) (post : UInt64 → Prop) (hw : post (fX0_scaledDown p0 p2)) (hok : oX0_scaledDown p0 p2) : Met l yX0_scaledDown (ws_ yX0_scaledDown cX0_scaledDown 3 (Option.some Jvm.ClassFile.FieldType.double)) ({ frames := 3, cells := 0, slots := 0, locals := 63 }) (PR D TY [.double p0, .int p2] []) (vp_Sd post) 0 0 (fun _ => False) := by
  refine ofWF (cc := cX0_scaledDown) (maxL := 3) (ret := (Option.some Jvm.ClassFile.FieldType.double)) (plainFor_of_name (by decide)) rfl ?_
  intro p e s m args below meth c s₁ B hml hv
  obtain ⟨rfl, hP, hK, hG⟩ := hv
  have hx := B.exec
  have hb := B.bytes
  have hr := B.returns
  have hts0 := atoms_spec (ws := ws_ yX0_scaledDown cX0_scaledDown 3 (Option.some Jvm.ClassFile.FieldType.double)) B.pre
  have hts : ∀ w ∈ lw_all, w.before _ s = true := fun w h => hts0 w (List.mem_cons_of_mem _ h)
  have hown : s.vm.findClass RX0 = some m.cls := findClass_of_methodNamed B.named
  have hlocks := B.notSynchronized
  have hS : va_S (fun _ => False) s.heap s.heap [] := va_S.rf
  have hl := lv_entry ([.double p0, .int p2]) (n := 3) (Nat.le_of_ble_eq_true rfl)
  rw [lg_entry_eq]
  generalize (lg_sl ([.double p0, .int p2]) ++ List.replicate (3 - (lg_sl ([.double p0, .int p2])).length) Slot.unset).toArray = ls at hl ⊢
  have hl : lv_has ls 3 [(0, .double p0), (2, .int p2)] := hl
  unfold fX0_scaledDown at hw
  unfold oX0_scaledDown at hok
  refine lv_dload_n hx hb dX0_scaledDown_0 rfl (lv_at hl 0 rfl) ?_
  refine lv_iload_n hx hb dX0_scaledDown_1 rfl (lv_at hl 1 rfl) ?_
  refine lv_ineg hx hb dX0_scaledDown_2 ?_
  refine lv_iconst (v := 2) hx hb dX0_scaledDown_3 (by decide) ?_
  refine lv_idiv hx hb dX0_scaledDown_4 (by decide) ?_
  refine cSd (v := fJ2_scalbF p0 ((-p2) / 2)) (W.runS (As := [.double p0, .int ((-p2) / 2)]) (rest := []) ⟨hx, hb, hml, hown, hts⟩ (mJ2_scalbF l D TY p0 ((-p2) / 2) (fun r => r = fJ2_scalbF p0 ((-p2) / 2)) rfl hok.1) (va_cwS 2 hts (lw_S q160 q161 q54 q162) rfl rfl rfl hd_J2_scalb ⟨Nat.le_of_ble_eq_true rfl, Nat.le_of_ble_eq_true rfl⟩) (PR.S hP [] rfl hK hG hS) rfl rfl hl.1 rfl (lv_room (Nat.le_of_ble_eq_true rfl)) dX0_scaledDown_5 ⟨Nat.le_of_ble_eq_true rfl, Nat.le_of_ble_eq_true rfl⟩) ?_
  replace hok := hok.2
  refine lv_iload_n hx hb dX0_scaledDown_8 rfl (lv_at hl 1 rfl) ?_
  refine lv_ineg hx hb dX0_scaledDown_9 ?_
  refine lv_iload_n hx hb dX0_scaledDown_10 rfl (lv_at hl 1 rfl) ?_
  refine lv_ineg hx hb dX0_scaledDown_11 ?_
  refine lv_iconst (v := 2) hx hb dX0_scaledDown_12 (by decide) ?_
  refine lv_idiv hx hb dX0_scaledDown_13 (by decide) ?_
  refine lv_isub hx hb dX0_scaledDown_14 ?_
  refine cSd (v := fJ2_scalbF (fJ2_scalbF p0 ((-p2) / 2)) ((-p2) - ((-p2) / 2))) (W.runS (As := [.double (fJ2_scalbF p0 ((-p2) / 2)), .int ((-p2) - ((-p2) / 2))]) (rest := []) ⟨hx, hb, hml, hown, hts⟩ (mJ2_scalbF l D TY (fJ2_scalbF p0 ((-p2) / 2)) ((-p2) - ((-p2) / 2)) (fun r => r = fJ2_scalbF (fJ2_scalbF p0 ((-p2) / 2)) ((-p2) - ((-p2) / 2))) rfl hok) (va_cwS 2 hts (lw_S q160 q161 q54 q162) rfl rfl rfl hd_J2_scalb ⟨Nat.le_of_ble_eq_true rfl, Nat.le_of_ble_eq_true rfl⟩) (PR.S hP [] rfl hK hG hS) rfl rfl hl.1 rfl (lv_room (Nat.le_of_ble_eq_true rfl)) dX0_scaledDown_15 ⟨Nat.le_of_ble_eq_true rfl, Nat.le_of_ble_eq_true rfl⟩) ?_
  exact W.dret (v := fJ2_scalbF (fJ2_scalbF p0 ((-p2) / 2)) ((-p2) - ((-p2) / 2))) hx hb hr (fun t ht hW => ⟨_, rfl, hw, ht⟩) (fun q h => nomatch h) dX0_scaledDown_18

theorem hd_X0_exponentOf : yX0_exponentOf.cls ≠ "java/lang/invoke/MethodHandle" ∧ yX0_exponentOf.cls ≠ "java/lang/invoke/VarHandle" ∧ (parseMethodDescriptor yX0_exponentOf.desc).map (fun d => d.parameters.length) = some 1 := by decide +kernel
theorem hd_X0_scaledDown : yX0_scaledDown.cls ≠ "java/lang/invoke/MethodHandle" ∧ yX0_scaledDown.cls ≠ "java/lang/invoke/VarHandle" ∧ (parseMethodDescriptor yX0_scaledDown.desc).map (fun d => d.parameters.length) = some 2 := by decide +kernel
def fX0_sizeOf (p0 : UInt64) : Int64 := FP.d2l (absD (fX0_scaledDown p0 ((fX0_exponentOf p0) - 52)))
def oX0_sizeOf (p0 : UInt64) : Prop := (oX0_exponentOf p0) ∧ ((oX0_scaledDown p0 ((fX0_exponentOf p0) - 52)) ∧ ((vf_n64 (fX0_scaledDown p0 ((fX0_exponentOf p0) - 52)))))
set_option maxHeartbeats 4000000 in
set_option maxRecDepth 100000 in
theorem mX0_sizeOf (l : Launch) (D : va_G) (TY : Nat → ClassId) (p0 : UInt64) (post : Int64 → Prop) (hw : post (fX0_sizeOf p0)) (hok : oX0_sizeOf p0) : Met l yX0_sizeOf (ws_ yX0_sizeOf cX0_sizeOf 2 (Option.some Jvm.ClassFile.FieldType.long)) ({ frames := 4, cells := 0, slots := 0, locals := 85 }) (PR D TY [.double p0] []) (vp_Sl post) 0 0 (fun _ => False) := by
  refine ofWF (cc := cX0_sizeOf) (maxL := 2) (ret := (Option.some Jvm.ClassFile.FieldType.long)) (plainFor_of_name (by decide)) rfl ?_
  intro p e s m args below meth c s₁ B hml hv
  obtain ⟨rfl, hP, hK, hG⟩ := hv
  have hx := B.exec
  have hb := B.bytes
  have hr := B.returns
  have hts0 := atoms_spec (ws := ws_ yX0_sizeOf cX0_sizeOf 2 (Option.some Jvm.ClassFile.FieldType.long)) B.pre
  have hts : ∀ w ∈ lw_all, w.before _ s = true := fun w h => hts0 w (List.mem_cons_of_mem _ h)
  have hown : s.vm.findClass RX0 = some m.cls := findClass_of_methodNamed B.named
  have hlocks := B.notSynchronized
  have hS : va_S (fun _ => False) s.heap s.heap [] := va_S.rf
  have hl := lv_entry ([.double p0]) (n := 2) (Nat.le_of_ble_eq_true rfl)
  rw [lg_entry_eq]
  generalize (lg_sl ([.double p0]) ++ List.replicate (2 - (lg_sl ([.double p0])).length) Slot.unset).toArray = ls at hl ⊢
  have hl : lv_has ls 2 [(0, .double p0)] := hl
  unfold fX0_sizeOf at hw
  unfold oX0_sizeOf at hok
  refine lv_dload_n hx hb dX0_sizeOf_0 rfl (lv_at hl 0 rfl) ?_
  refine lv_dload_n hx hb dX0_sizeOf_1 rfl (lv_at hl 0 rfl) ?_
  refine cSi (v := fX0_exponentOf p0) (W.runS (As := [.double p0]) (rest := [.double p0]) ⟨hx, hb, hml, hown, hts⟩ (mX0_exponentOf l D TY p0 (fun r => r = fX0_exponentOf p0) rfl hok.1) (va_cwS 1 hts (lw_S q303 q150 q44 q151) rfl rfl rfl hd_X0_exponentOf ⟨Nat.le_of_ble_eq_true rfl, Nat.le_of_ble_eq_true rfl⟩) (PR.S hP [] rfl hK hG hS) rfl rfl hl.1 rfl (lv_room (Nat.le_of_ble_eq_true rfl)) dX0_sizeOf_2 ⟨Nat.le_of_ble_eq_true rfl, Nat.le_of_ble_eq_true rfl⟩) ?_
  replace hok := hok.2
  refine lv_bipush (v := 52) hx hb dX0_sizeOf_5 (by decide) ?_
  refine lv_isub hx hb dX0_sizeOf_7 ?_
  refine cSd (v := fX0_scaledDown p0 ((fX0_exponentOf p0) - 52)) (W.runS (As := [.double p0, .int ((fX0_exponentOf p0) - 52)]) (rest := []) ⟨hx, hb, hml, hown, hts⟩ (mX0_scaledDown l D TY p0 ((fX0_exponentOf p0) - 52) (fun r => r = fX0_scaledDown p0 ((fX0_exponentOf p0) - 52)) rfl hok.1) (va_cwS 2 hts (lw_S q195 q196 q44 q197) rfl rfl rfl hd_X0_scaledDown ⟨Nat.le_of_ble_eq_true rfl, Nat.le_of_ble_eq_true rfl⟩) (PR.S hP [] rfl hK hG hS) rfl rfl hl.1 rfl (lv_room (Nat.le_of_ble_eq_true rfl)) dX0_sizeOf_8 ⟨Nat.le_of_ble_eq_true rfl, Nat.le_of_ble_eq_true rfl⟩) ?_
  replace hok := hok.2
  refine nv_absD hx hb (hml.trans hl.1.symm) hown (hts _ q438) (hts _ q334) (hts _ q335) (hts _ q54) hok (Nat.le_of_ble_eq_true rfl) (Nat.le_of_ble_eq_true rfl) (Nat.le_of_ble_eq_true rfl) (Nat.le_of_ble_eq_true rfl) dX0_sizeOf_11 ?_
  refine lv_d2l hx hb dX0_sizeOf_14 ?_
  exact W.lret (v := FP.d2l (absD (fX0_scaledDown p0 ((fX0_exponentOf p0) - 52)))) hx hb hr (fun t ht hW => ⟨_, rfl, hw, ht⟩) (fun q h => nomatch h) dX0_sizeOf_15

def fX0_wholeOf (p0 : UInt64) (p2 : Int32) : UInt64 := lt_ (if p2 = 0 then (if Dlt p0 FP.dconst0 then (fJ5_ceil p0) else (fJ5_floor p0)) else (if p2 = 1 then (fJ5_floor p0) else (if p2 = 2 then (fJ5_ceil p0) else (fJ5_rint p0)))) (fun x1 : UInt64 => x1)
def oX0_wholeOf (p0 : UInt64) (p2 : Int32) : Prop := ((p2 = 0) → ((Dlt p0 FP.dconst0) → ((oJ5_ceil p0) ∧ (vf_n64 (fJ5_ceil p0)))) ∧ (¬ (Dlt p0 FP.dconst0) → ((oJ5_floor p0) ∧ (vf_n64 (fJ5_floor p0))))) ∧ (¬ (p2 = 0) → ((p2 = 1) → ((oJ5_floor p0) ∧ (vf_n64 (fJ5_floor p0)))) ∧ (¬ (p2 = 1) → ((p2 = 2) → ((oJ5_ceil p0) ∧ (vf_n64 (fJ5_ceil p0)))) ∧ (¬ (p2 = 2) → ((oJ5_rint p0) ∧ (vf_n64 (fJ5_rint p0))))))
set_option maxHeartbeats 4000000 in
set_option maxRecDepth 100000 in
theorem mX0_wholeOf (l : Launch) (D : va_G) (TY : Nat → ClassId) (p0 : UInt64) (p2 : Int32) (post : UInt64 → Prop) (hw : post (fX0_wholeOf p0 p2)) (hok : oX0_wholeOf p0 p2) : Met l yX0_wholeOf (ws_ yX0_wholeOf cX0_wholeOf 3 (Option.some Jvm.ClassFile.FieldType.double)) ({ frames := 8, cells := 0, slots := 0, locals := 1400 }) (PR D TY [.double p0, .int p2] []) (vp_Sd post) 0 0 (fun _ => False) := by
  refine ofWF (cc := cX0_wholeOf) (maxL := 3) (ret := (Option.some Jvm.ClassFile.FieldType.double)) (plainFor_of_name (by decide)) rfl ?_
  intro p e s m args below meth c s₁ B hml hv
  obtain ⟨rfl, hP, hK, hG⟩ := hv
  have hx := B.exec
  have hb := B.bytes
  have hr := B.returns
  have hts0 := atoms_spec (ws := ws_ yX0_wholeOf cX0_wholeOf 3 (Option.some Jvm.ClassFile.FieldType.double)) B.pre
  have hts : ∀ w ∈ lw_all, w.before _ s = true := fun w h => hts0 w (List.mem_cons_of_mem _ h)
  have hown : s.vm.findClass RX0 = some m.cls := findClass_of_methodNamed B.named
  have hlocks := B.notSynchronized
  have hS : va_S (fun _ => False) s.heap s.heap [] := va_S.rf
  have hl := lv_entry ([.double p0, .int p2]) (n := 3) (Nat.le_of_ble_eq_true rfl)
  rw [lg_entry_eq]
  generalize (lg_sl ([.double p0, .int p2]) ++ List.replicate (3 - (lg_sl ([.double p0, .int p2])).length) Slot.unset).toArray = ls at hl ⊢
  have hl : lv_has ls 3 [(0, .double p0), (2, .int p2)] := hl
  unfold fX0_wholeOf at hw
  unfold oX0_wholeOf at hok
  refine lv_iload_n hx hb dX0_wholeOf_0 rfl (lv_at hl 1 rfl) ?_
  obtain ⟨PJx1, hPJx1⟩ : ∃ P : UInt64 → Prop, ∀ x1 : UInt64, P x1 ↔ ∀ ls : Array Slot, lv_has ls 3 [] → W p l e (headSpec (ws_ yX0_wholeOf cX0_wholeOf 3 (Option.some Jvm.ClassFile.FieldType.double)) ({ frames := 8, cells := 0, slots := 0, locals := 1400 })).room s m ([.double p0, .int p2] : List Value).toArray below meth c s.heap ([]) 0 0 (MQ below (vp_Sd post) ([.double p0, .int p2] : List Value).toArray s 0 0 (fun _ => False)) (F0 m 52 ls [.double x1]) := ⟨_, fun _ => Iff.rfl⟩
  have hox1 := hok
  have hjx1 : ∀ x1 : UInt64, x1 = (if p2 = 0 then (if Dlt p0 FP.dconst0 then (fJ5_ceil p0) else (fJ5_floor p0)) else (if p2 = 1 then (fJ5_floor p0) else (if p2 = 2 then (fJ5_ceil p0) else (fJ5_rint p0)))) → PJx1 x1 := by
    intro x1 ex1
    rw [hPJx1]
    intro ls hl
    replace hw := pf_let (P := post) hw x1 ex1
    exact W.dret (v := x1) hx hb hr (fun t ht hW => ⟨_, rfl, hw, ht⟩) (fun q h => nomatch h) dX0_wholeOf_52
  replace hjx1 := hjx1 _ rfl
  refine lv_if_ne (tgt := 24) hx hb dX0_wholeOf_1 (by decide) (fun c2 => ?_) (fun c2 => ?_)
  · replace hjx1 := pf_f (P := PJx1) c2 hjx1
    replace hox1 := hox1.2 c2
    refine lv_iload_n hx hb dX0_wholeOf_24 rfl (lv_at hl 1 rfl) ?_
    refine lv_iconst (v := 1) hx hb dX0_wholeOf_25 (by decide) ?_
    refine lv_icmp_ne (tgt := 36) hx hb dX0_wholeOf_26 (by decide) (fun c3 => ?_) (fun c3 => ?_)
    · replace hjx1 := pf_f (P := PJx1) c3 hjx1
      replace hox1 := hox1.2 c3
      refine lv_iload_n hx hb dX0_wholeOf_36 rfl (lv_at hl 1 rfl) ?_
      refine lv_iconst (v := 2) hx hb dX0_wholeOf_37 (by decide) ?_
      refine lv_icmp_ne (tgt := 48) hx hb dX0_wholeOf_38 (by decide) (fun c4 => ?_) (fun c4 => ?_)
      · replace hjx1 := pf_f (P := PJx1) c4 hjx1
        replace hox1 := hox1.2 c4
        refine lv_dload_n hx hb dX0_wholeOf_48 rfl (lv_at hl 0 rfl) ?_
        refine nv_rint hx hb (hml.trans hl.1.symm) hown hts hK hG hP hS (hts _ q603) (hts _ q604) (hts _ q605) (hts _ q54) hox1 (Nat.le_of_ble_eq_true rfl) (Nat.le_of_ble_eq_true rfl) (Nat.le_of_ble_eq_true rfl) (Nat.le_of_ble_eq_true rfl) dX0_wholeOf_49 ?_
        exact (hPJx1 _).1 hjx1 _ (lv_sub hl [] rfl)
      · replace hjx1 := pf_t (P := PJx1) c4 hjx1
        replace hox1 := hox1.1 c4
        refine lv_dload_n hx hb dX0_wholeOf_41 rfl (lv_at hl 0 rfl) ?_
        refine nv_ceil hx hb (hml.trans hl.1.symm) hown hts hK hG hP hS (hts _ q579) (hts _ q580) (hts _ q581) (hts _ q54) hox1 (Nat.le_of_ble_eq_true rfl) (Nat.le_of_ble_eq_true rfl) (Nat.le_of_ble_eq_true rfl) (Nat.le_of_ble_eq_true rfl) dX0_wholeOf_42 ?_
        refine lv_goto (tgt := 52) hx hb dX0_wholeOf_45 (by decide) ?_
        exact (hPJx1 _).1 hjx1 _ (lv_sub hl [] rfl)
    · replace hjx1 := pf_t (P := PJx1) c3 hjx1
      replace hox1 := hox1.1 c3
      refine lv_dload_n hx hb dX0_wholeOf_29 rfl (lv_at hl 0 rfl) ?_
      refine nv_floor hx hb (hml.trans hl.1.symm) hown hts hK hG hP hS (hts _ q596) (hts _ q597) (hts _ q598) (hts _ q54) hox1 (Nat.le_of_ble_eq_true rfl) (Nat.le_of_ble_eq_true rfl) (Nat.le_of_ble_eq_true rfl) (Nat.le_of_ble_eq_true rfl) dX0_wholeOf_30 ?_
      refine lv_goto (tgt := 52) hx hb dX0_wholeOf_33 (by decide) ?_
      exact (hPJx1 _).1 hjx1 _ (lv_sub hl [] rfl)
  · replace hjx1 := pf_t (P := PJx1) c2 hjx1
    replace hox1 := hox1.1 c2
    refine lv_dload_n hx hb dX0_wholeOf_4 rfl (lv_at hl 0 rfl) ?_
    refine lv_dconst0 hx hb dX0_wholeOf_5 ?_
    refine lx_dgge (tgt := 17) hx hb dX0_wholeOf_6 dX0_wholeOf_7 (by decide) (fun c5 => ?_) (fun c5 => ?_)
    · replace hjx1 := pf_f (P := PJx1) c5 hjx1
      replace hox1 := hox1.2 c5
      refine lv_dload_n hx hb dX0_wholeOf_17 rfl (lv_at hl 0 rfl) ?_
      refine nv_floor hx hb (hml.trans hl.1.symm) hown hts hK hG hP hS (hts _ q596) (hts _ q597) (hts _ q598) (hts _ q54) hox1 (Nat.le_of_ble_eq_true rfl) (Nat.le_of_ble_eq_true rfl) (Nat.le_of_ble_eq_true rfl) (Nat.le_of_ble_eq_true rfl) dX0_wholeOf_18 ?_
      refine lv_goto (tgt := 52) hx hb dX0_wholeOf_21 (by decide) ?_
      exact (hPJx1 _).1 hjx1 _ (lv_sub hl [] rfl)
    · replace hjx1 := pf_t (P := PJx1) c5 hjx1
      replace hox1 := hox1.1 c5
      refine lv_dload_n hx hb dX0_wholeOf_10 rfl (lv_at hl 0 rfl) ?_
      refine nv_ceil hx hb (hml.trans hl.1.symm) hown hts hK hG hP hS (hts _ q579) (hts _ q580) (hts _ q581) (hts _ q54) hox1 (Nat.le_of_ble_eq_true rfl) (Nat.le_of_ble_eq_true rfl) (Nat.le_of_ble_eq_true rfl) (Nat.le_of_ble_eq_true rfl) dX0_wholeOf_11 ?_
      refine lv_goto (tgt := 52) hx hb dX0_wholeOf_14 (by decide) ?_
      exact (hPJx1 _).1 hjx1 _ (lv_sub hl [] rfl)

def fX1_precision  : Int32 := 53
set_option maxHeartbeats 4000000 in
set_option maxRecDepth 100000 in
theorem mX1_precision (l : Launch) (D : va_G) (TY : Nat → ClassId) (h0 : Nat) (post : Int32 → Prop) (hw : post (fX1_precision)) : Met l yX1_precision (ws_ yX1_precision cX1_precision 1 (Option.some Jvm.ClassFile.FieldType.int)) ({ frames := 0, cells := 0, slots := 0, locals := 0 }) (PR D TY [.ref h0] [(h0, .inr (1, []))]) (vp_Si post) 0 0 (fun _ => False) := by
  refine ofWF (cc := cX1_precision) (maxL := 1) (ret := (Option.some Jvm.ClassFile.FieldType.int)) (plainFor_of_name (by decide)) rfl ?_
  intro p e s m args below meth c s₁ B hml hv
  obtain ⟨rfl, hP, hK, hG⟩ := hv
  have hx := B.exec
  have hb := B.bytes
  have hr := B.returns
  have hts0 := atoms_spec (ws := ws_ yX1_precision cX1_precision 1 (Option.some Jvm.ClassFile.FieldType.int)) B.pre
  have hts : ∀ w ∈ lw_all, w.before _ s = true := fun w h => hts0 w (List.mem_cons_of_mem _ h)
  have hown : s.vm.findClass RX1 = some m.cls := findClass_of_methodNamed B.named
  have hlocks := B.notSynchronized
  have hS : va_S (fun _ => False) s.heap s.heap [] := va_S.rf
  have hl := lv_entry ([.ref h0]) (n := 1) (Nat.le_of_ble_eq_true rfl)
  rw [lg_entry_eq]
  generalize (lg_sl ([.ref h0]) ++ List.replicate (1 - (lg_sl ([.ref h0])).length) Slot.unset).toArray = ls at hl ⊢
  have hl : lv_has ls 1 [(0, .ref h0)] := hl
  unfold fX1_precision at hw
  refine lv_bipush (v := 53) hx hb dX1_precision_0 (by decide) ?_
  exact W.iret (v := 53) hx hb hr (fun t ht hW => ⟨_, rfl, hw, ht⟩) (fun q h => nomatch h) dX1_precision_2

def fX1_least  : Int32 := (-1074)
set_option maxHeartbeats 4000000 in
set_option maxRecDepth 100000 in
theorem mX1_least (l : Launch) (D : va_G) (TY : Nat → ClassId) (h0 : Nat) (post : Int32 → Prop) (hw : post (fX1_least)) : Met l yX1_least (ws_ yX1_least cX1_least 1 (Option.some Jvm.ClassFile.FieldType.int)) ({ frames := 0, cells := 0, slots := 0, locals := 0 }) (PR D TY [.ref h0] [(h0, .inr (1, []))]) (vp_Si post) 0 0 (fun _ => False) := by
  refine ofWF (cc := cX1_least) (maxL := 1) (ret := (Option.some Jvm.ClassFile.FieldType.int)) (plainFor_of_name (by decide)) rfl ?_
  intro p e s m args below meth c s₁ B hml hv
  obtain ⟨rfl, hP, hK, hG⟩ := hv
  have hx := B.exec
  have hb := B.bytes
  have hr := B.returns
  have hts0 := atoms_spec (ws := ws_ yX1_least cX1_least 1 (Option.some Jvm.ClassFile.FieldType.int)) B.pre
  have hts : ∀ w ∈ lw_all, w.before _ s = true := fun w h => hts0 w (List.mem_cons_of_mem _ h)
  have hown : s.vm.findClass RX1 = some m.cls := findClass_of_methodNamed B.named
  have hlocks := B.notSynchronized
  have hS : va_S (fun _ => False) s.heap s.heap [] := va_S.rf
  have hl := lv_entry ([.ref h0]) (n := 1) (Nat.le_of_ble_eq_true rfl)
  rw [lg_entry_eq]
  generalize (lg_sl ([.ref h0]) ++ List.replicate (1 - (lg_sl ([.ref h0])).length) Slot.unset).toArray = ls at hl ⊢
  have hl : lv_has ls 1 [(0, .ref h0)] := hl
  unfold fX1_least at hw
  refine lv_sipush (v := (-1074)) hx hb dX1_least_0 (by decide) ?_
  exact W.iret (v := (-1074)) hx hb hr (fun t ht hW => ⟨_, rfl, hw, ht⟩) (fun q h => nomatch h) dX1_least_3

def fX1_from (p1 : Int64) : UInt64 := lt_ (if 9218868437227405312 < (p1 &&& 9223372036854775807) then 9221120237041090560 else p1.toUInt64) (fun x1 : UInt64 => x1)
def oX1_from (p1 : Int64) : Prop := ((9218868437227405312 < (p1 &&& 9223372036854775807)) → True) ∧ (¬ (9218868437227405312 < (p1 &&& 9223372036854775807)) → (vn_snl2d p1 = false))
set_option maxHeartbeats 4000000 in
set_option maxRecDepth 100000 in
theorem mX1_from (l : Launch) (D : va_G) (TY : Nat → ClassId) (h0 : Nat) (p1 : Int64) (post : UInt64 → Prop) (hw : post (fX1_from p1)) (hok : oX1_from p1) : Met l yX1_from (ws_ yX1_from cX1_from 3 (Option.some Jvm.ClassFile.FieldType.double)) ({ frames := 1, cells := 0, slots := 0, locals := 15 }) (PR D TY [.ref h0, .long p1] [(h0, .inr (1, []))]) (vp_Sd post) 0 0 (fun _ => False) := by
  refine ofWF (cc := cX1_from) (maxL := 3) (ret := (Option.some Jvm.ClassFile.FieldType.double)) (plainFor_of_name (by decide)) rfl ?_
  intro p e s m args below meth c s₁ B hml hv
  obtain ⟨rfl, hP, hK, hG⟩ := hv
  have hx := B.exec
  have hb := B.bytes
  have hr := B.returns
  have hts0 := atoms_spec (ws := ws_ yX1_from cX1_from 3 (Option.some Jvm.ClassFile.FieldType.double)) B.pre
  have hts : ∀ w ∈ lw_all, w.before _ s = true := fun w h => hts0 w (List.mem_cons_of_mem _ h)
  have hown : s.vm.findClass RX1 = some m.cls := findClass_of_methodNamed B.named
  have hlocks := B.notSynchronized
  have hS : va_S (fun _ => False) s.heap s.heap [] := va_S.rf
  have hl := lv_entry ([.ref h0, .long p1]) (n := 3) (Nat.le_of_ble_eq_true rfl)
  rw [lg_entry_eq]
  generalize (lg_sl ([.ref h0, .long p1]) ++ List.replicate (3 - (lg_sl ([.ref h0, .long p1])).length) Slot.unset).toArray = ls at hl ⊢
  have hl : lv_has ls 3 [(0, .ref h0), (1, .long p1)] := hl
  unfold fX1_from at hw
  unfold oX1_from at hok
  refine lv_lload_n hx hb dX1_from_0 rfl (lv_at hl 1 rfl) ?_
  refine lv_ldc2 (v := 9223372036854775807) hx hb hown (hts _ q108) dX1_from_1 ?_
  refine lv_land hx hb dX1_from_4 ?_
  refine lv_ldc2 (v := 9218868437227405312) hx hb hown (hts _ q109) dX1_from_5 ?_
  obtain ⟨PJx1, hPJx1⟩ : ∃ P : UInt64 → Prop, ∀ x1 : UInt64, P x1 ↔ ∀ ls : Array Slot, lv_has ls 3 [] → W p l e (headSpec (ws_ yX1_from cX1_from 3 (Option.some Jvm.ClassFile.FieldType.double)) ({ frames := 1, cells := 0, slots := 0, locals := 15 })).room s m ([.ref h0, .long p1] : List Value).toArray below meth c s.heap ([]) 0 0 (MQ below (vp_Sd post) ([.ref h0, .long p1] : List Value).toArray s 0 0 (fun _ => False)) (F0 m 22 ls [.double x1]) := ⟨_, fun _ => Iff.rfl⟩
  have hox1 := hok
  have hjx1 : ∀ x1 : UInt64, x1 = (if 9218868437227405312 < (p1 &&& 9223372036854775807) then 9221120237041090560 else p1.toUInt64) → PJx1 x1 := by
    intro x1 ex1
    rw [hPJx1]
    intro ls hl
    replace hw := pf_let (P := post) hw x1 ex1
    exact W.dret (v := x1) hx hb hr (fun t ht hW => ⟨_, rfl, hw, ht⟩) (fun q h => nomatch h) dX1_from_22
  replace hjx1 := hjx1 _ rfl
  refine lx_lle (tgt := 18) hx hb dX1_from_8 dX1_from_9 (by decide) (fun c2 => ?_) (fun c2 => ?_)
  · replace hjx1 := pf_f (P := PJx1) c2 hjx1
    replace hox1 := hox1.2 c2
    refine lv_lload_n hx hb dX1_from_18 rfl (lv_at hl 1 rfl) ?_
    refine vn_l2d hx hb (hml.trans hl.1.symm) hown (hts _ q112) (hts _ q114) (hts _ q113) (hts _ q52) hox1 (Nat.le_of_ble_eq_true rfl) (Nat.le_of_ble_eq_true rfl) dX1_from_19 ?_
    exact (hPJx1 _).1 hjx1 _ (lv_sub hl [] rfl)
  · replace hjx1 := pf_t (P := PJx1) c2 hjx1
    refine va_getsN hx hb hG.nn hS hown (gz_fn3 hG _) (fun _ h => h) dX1_from_12 ?_
    refine lv_goto (tgt := 22) hx hb dX1_from_15 (by decide) ?_
    exact (hPJx1 _).1 hjx1 _ (lv_sub hl [] rfl)

def fX1_to (p1 : UInt64) : Int64 := fJ0_doubleToLongBits p1
set_option maxHeartbeats 4000000 in
set_option maxRecDepth 100000 in
theorem mX1_to (l : Launch) (D : va_G) (TY : Nat → ClassId) (h0 : Nat) (p1 : UInt64) (post : Int64 → Prop) (hw : post (fX1_to p1)) : Met l yX1_to (ws_ yX1_to cX1_to 3 (Option.some Jvm.ClassFile.FieldType.long)) ({ frames := 2, cells := 0, slots := 0, locals := 42 }) (PR D TY [.ref h0, .double p1] [(h0, .inr (1, []))]) (vp_Sl post) 0 0 (fun _ => False) := by
  refine ofWF (cc := cX1_to) (maxL := 3) (ret := (Option.some Jvm.ClassFile.FieldType.long)) (plainFor_of_name (by decide)) rfl ?_
  intro p e s m args below meth c s₁ B hml hv
  obtain ⟨rfl, hP, hK, hG⟩ := hv
  have hx := B.exec
  have hb := B.bytes
  have hr := B.returns
  have hts0 := atoms_spec (ws := ws_ yX1_to cX1_to 3 (Option.some Jvm.ClassFile.FieldType.long)) B.pre
  have hts : ∀ w ∈ lw_all, w.before _ s = true := fun w h => hts0 w (List.mem_cons_of_mem _ h)
  have hown : s.vm.findClass RX1 = some m.cls := findClass_of_methodNamed B.named
  have hlocks := B.notSynchronized
  have hS : va_S (fun _ => False) s.heap s.heap [] := va_S.rf
  have hl := lv_entry ([.ref h0, .double p1]) (n := 3) (Nat.le_of_ble_eq_true rfl)
  rw [lg_entry_eq]
  generalize (lg_sl ([.ref h0, .double p1]) ++ List.replicate (3 - (lg_sl ([.ref h0, .double p1])).length) Slot.unset).toArray = ls at hl ⊢
  have hl : lv_has ls 3 [(0, .ref h0), (1, .double p1)] := hl
  unfold fX1_to at hw
  refine lv_dload_n hx hb dX1_to_0 rfl (lv_at hl 1 rfl) ?_
  refine cSl (v := fJ0_doubleToLongBits p1) (W.runS (As := [.double p1]) (rest := []) ⟨hx, hb, hml, hown, hts⟩ (mJ0_doubleToLongBits l D TY p1 (fun r => r = fJ0_doubleToLongBits p1) rfl) (va_cwS 1 hts (lw_S q275 q276 q52 q277) rfl rfl rfl hd_J0_doubleToLongBits ⟨Nat.le_of_ble_eq_true rfl, Nat.le_of_ble_eq_true rfl⟩) (PR.S hP [] rfl hK hG hS) rfl rfl hl.1 rfl (lv_room (Nat.le_of_ble_eq_true rfl)) dX1_to_1 ⟨Nat.le_of_ble_eq_true rfl, Nat.le_of_ble_eq_true rfl⟩) ?_
  exact W.lret (v := fJ0_doubleToLongBits p1) hx hb hr (fun t ht hW => ⟨_, rfl, hw, ht⟩) (fun q h => nomatch h) dX1_to_4

def fX1_fit (p1 : UInt64) : UInt64 := p1
set_option maxHeartbeats 4000000 in
set_option maxRecDepth 100000 in
theorem mX1_fit (l : Launch) (D : va_G) (TY : Nat → ClassId) (h0 : Nat) (p1 : UInt64) (post : UInt64 → Prop) (hw : post (fX1_fit p1)) : Met l yX1_fit (ws_ yX1_fit cX1_fit 3 (Option.some Jvm.ClassFile.FieldType.double)) ({ frames := 0, cells := 0, slots := 0, locals := 0 }) (PR D TY [.ref h0, .double p1] [(h0, .inr (1, []))]) (vp_Sd post) 0 0 (fun _ => False) := by
  refine ofWF (cc := cX1_fit) (maxL := 3) (ret := (Option.some Jvm.ClassFile.FieldType.double)) (plainFor_of_name (by decide)) rfl ?_
  intro p e s m args below meth c s₁ B hml hv
  obtain ⟨rfl, hP, hK, hG⟩ := hv
  have hx := B.exec
  have hb := B.bytes
  have hr := B.returns
  have hts0 := atoms_spec (ws := ws_ yX1_fit cX1_fit 3 (Option.some Jvm.ClassFile.FieldType.double)) B.pre
  have hts : ∀ w ∈ lw_all, w.before _ s = true := fun w h => hts0 w (List.mem_cons_of_mem _ h)
  have hown : s.vm.findClass RX1 = some m.cls := findClass_of_methodNamed B.named
  have hlocks := B.notSynchronized
  have hS : va_S (fun _ => False) s.heap s.heap [] := va_S.rf
  have hl := lv_entry ([.ref h0, .double p1]) (n := 3) (Nat.le_of_ble_eq_true rfl)
  rw [lg_entry_eq]
  generalize (lg_sl ([.ref h0, .double p1]) ++ List.replicate (3 - (lg_sl ([.ref h0, .double p1])).length) Slot.unset).toArray = ls at hl ⊢
  have hl : lv_has ls 3 [(0, .ref h0), (1, .double p1)] := hl
  unfold fX1_fit at hw
  refine lv_dload_n hx hb dX1_fit_0 rfl (lv_at hl 1 rfl) ?_
  exact W.dret (v := p1) hx hb hr (fun t ht hW => ⟨_, rfl, hw, ht⟩) (fun q h => nomatch h) dX1_fit_1

theorem hd_J2_nextUp : yJ2_nextUp.cls ≠ "java/lang/invoke/MethodHandle" ∧ yJ2_nextUp.cls ≠ "java/lang/invoke/VarHandle" ∧ (parseMethodDescriptor yJ2_nextUp.desc).map (fun d => d.parameters.length) = some 1 := by decide +kernel
def fX1_up (p1 : UInt64) : UInt64 := fJ2_nextUp p1
def oX1_up (p1 : UInt64) : Prop := (oJ2_nextUp p1)
set_option maxHeartbeats 4000000 in
set_option maxRecDepth 100000 in
theorem mX1_up (l : Launch) (D : va_G) (TY : Nat → ClassId) (h0 : Nat) (p1 : UInt64) (post : UInt64 → Prop) (hw : post (fX1_up p1)) (hok : oX1_up p1) : Met l yX1_up (ws_ yX1_up cX1_up 3 (Option.some Jvm.ClassFile.FieldType.double)) ({ frames := 2, cells := 0, slots := 0, locals := 38 }) (PR D TY [.ref h0, .double p1] [(h0, .inr (1, []))]) (vp_Sd post) 0 0 (fun _ => False) := by
  refine ofWF (cc := cX1_up) (maxL := 3) (ret := (Option.some Jvm.ClassFile.FieldType.double)) (plainFor_of_name (by decide)) rfl ?_
  intro p e s m args below meth c s₁ B hml hv
  obtain ⟨rfl, hP, hK, hG⟩ := hv
  have hx := B.exec
  have hb := B.bytes
  have hr := B.returns
  have hts0 := atoms_spec (ws := ws_ yX1_up cX1_up 3 (Option.some Jvm.ClassFile.FieldType.double)) B.pre
  have hts : ∀ w ∈ lw_all, w.before _ s = true := fun w h => hts0 w (List.mem_cons_of_mem _ h)
  have hown : s.vm.findClass RX1 = some m.cls := findClass_of_methodNamed B.named
  have hlocks := B.notSynchronized
  have hS : va_S (fun _ => False) s.heap s.heap [] := va_S.rf
  have hl := lv_entry ([.ref h0, .double p1]) (n := 3) (Nat.le_of_ble_eq_true rfl)
  rw [lg_entry_eq]
  generalize (lg_sl ([.ref h0, .double p1]) ++ List.replicate (3 - (lg_sl ([.ref h0, .double p1])).length) Slot.unset).toArray = ls at hl ⊢
  have hl : lv_has ls 3 [(0, .ref h0), (1, .double p1)] := hl
  unfold fX1_up at hw
  unfold oX1_up at hok
  refine lv_dload_n hx hb dX1_up_0 rfl (lv_at hl 1 rfl) ?_
  refine cSd (v := fJ2_nextUp p1) (W.runS (As := [.double p1]) (rest := []) ⟨hx, hb, hml, hown, hts⟩ (mJ2_nextUp l D TY p1 (fun r => r = fJ2_nextUp p1) rfl hok) (va_cwS 1 hts (lw_S q371 q372 q54 q373) rfl rfl rfl hd_J2_nextUp ⟨Nat.le_of_ble_eq_true rfl, Nat.le_of_ble_eq_true rfl⟩) (PR.S hP [] rfl hK hG hS) rfl rfl hl.1 rfl (lv_room (Nat.le_of_ble_eq_true rfl)) dX1_up_1 ⟨Nat.le_of_ble_eq_true rfl, Nat.le_of_ble_eq_true rfl⟩) ?_
  exact W.dret (v := fJ2_nextUp p1) hx hb hr (fun t ht hW => ⟨_, rfl, hw, ht⟩) (fun q h => nomatch h) dX1_up_4

theorem hd_J2_ulp : yJ2_ulp.cls ≠ "java/lang/invoke/MethodHandle" ∧ yJ2_ulp.cls ≠ "java/lang/invoke/VarHandle" ∧ (parseMethodDescriptor yJ2_ulp.desc).map (fun d => d.parameters.length) = some 1 := by decide +kernel
def fX1_gap (p1 : UInt64) : UInt64 := fJ2_ulp p1
def oX1_gap (p1 : UInt64) : Prop := (oJ2_ulp p1)
set_option maxHeartbeats 4000000 in
set_option maxRecDepth 100000 in
theorem mX1_gap (l : Launch) (D : va_G) (TY : Nat → ClassId) (h0 : Nat) (p1 : UInt64) (post : UInt64 → Prop) (hw : post (fX1_gap p1)) (hok : oX1_gap p1) : Met l yX1_gap (ws_ yX1_gap cX1_gap 3 (Option.some Jvm.ClassFile.FieldType.double)) ({ frames := 3, cells := 0, slots := 0, locals := 58 }) (PR D TY [.ref h0, .double p1] [(h0, .inr (1, []))]) (vp_Sd post) 0 0 (fun _ => False) := by
  refine ofWF (cc := cX1_gap) (maxL := 3) (ret := (Option.some Jvm.ClassFile.FieldType.double)) (plainFor_of_name (by decide)) rfl ?_
  intro p e s m args below meth c s₁ B hml hv
  obtain ⟨rfl, hP, hK, hG⟩ := hv
  have hx := B.exec
  have hb := B.bytes
  have hr := B.returns
  have hts0 := atoms_spec (ws := ws_ yX1_gap cX1_gap 3 (Option.some Jvm.ClassFile.FieldType.double)) B.pre
  have hts : ∀ w ∈ lw_all, w.before _ s = true := fun w h => hts0 w (List.mem_cons_of_mem _ h)
  have hown : s.vm.findClass RX1 = some m.cls := findClass_of_methodNamed B.named
  have hlocks := B.notSynchronized
  have hS : va_S (fun _ => False) s.heap s.heap [] := va_S.rf
  have hl := lv_entry ([.ref h0, .double p1]) (n := 3) (Nat.le_of_ble_eq_true rfl)
  rw [lg_entry_eq]
  generalize (lg_sl ([.ref h0, .double p1]) ++ List.replicate (3 - (lg_sl ([.ref h0, .double p1])).length) Slot.unset).toArray = ls at hl ⊢
  have hl : lv_has ls 3 [(0, .ref h0), (1, .double p1)] := hl
  unfold fX1_gap at hw
  unfold oX1_gap at hok
  refine lv_dload_n hx hb dX1_gap_0 rfl (lv_at hl 1 rfl) ?_
  refine cSd (v := fJ2_ulp p1) (W.runS (As := [.double p1]) (rest := []) ⟨hx, hb, hml, hown, hts⟩ (mJ2_ulp l D TY p1 (fun r => r = fJ2_ulp p1) rfl hok) (va_cwS 1 hts (lw_S q405 q406 q54 q407) rfl rfl rfl hd_J2_ulp ⟨Nat.le_of_ble_eq_true rfl, Nat.le_of_ble_eq_true rfl⟩) (PR.S hP [] rfl hK hG hS) rfl rfl hl.1 rfl (lv_room (Nat.le_of_ble_eq_true rfl)) dX1_gap_1 ⟨Nat.le_of_ble_eq_true rfl, Nat.le_of_ble_eq_true rfl⟩) ?_
  exact W.dret (v := fJ2_ulp p1) hx hb hr (fun t ht hW => ⟨_, rfl, hw, ht⟩) (fun q h => nomatch h) dX1_gap_4

def fX1_by (p1 : UInt64) (p3 : Int32) : UInt64 := fJ2_scalbF p1 p3
def oX1_by (p1 : UInt64) : Prop := (oJ2_scalbF p1)
set_option maxHeartbeats 4000000 in
set_option maxRecDepth 100000 in
theorem mX1_by (l : Launch) (D : va_G) (TY : Nat → ClassId) (h0 : Nat) (p1 : UInt64) (p3 : Int32) (post : UInt64 → Prop) (hw : post (fX1_by p1 p3)) (hok : oX1_by p1) : Met l yX1_by (ws_ yX1_by cX1_by 4 (Option.some Jvm.ClassFile.FieldType.double)) ({ frames := 3, cells := 0, slots := 0, locals := 63 }) (PR D TY [.ref h0, .double p1, .int p3] [(h0, .inr (1, []))]) (vp_Sd post) 0 0 (fun _ => False) := by
  refine ofWF (cc := cX1_by) (maxL := 4) (ret := (Option.some Jvm.ClassFile.FieldType.double)) (plainFor_of_name (by decide)) rfl ?_
  intro p e s m args below meth c s₁ B hml hv
  obtain ⟨rfl, hP, hK, hG⟩ := hv
  have hx := B.exec
  have hb := B.bytes
  have hr := B.returns
  have hts0 := atoms_spec (ws := ws_ yX1_by cX1_by 4 (Option.some Jvm.ClassFile.FieldType.double)) B.pre
  have hts : ∀ w ∈ lw_all, w.before _ s = true := fun w h => hts0 w (List.mem_cons_of_mem _ h)
  have hown : s.vm.findClass RX1 = some m.cls := findClass_of_methodNamed B.named
  have hlocks := B.notSynchronized
  have hS : va_S (fun _ => False) s.heap s.heap [] := va_S.rf
  have hl := lv_entry ([.ref h0, .double p1, .int p3]) (n := 4) (Nat.le_of_ble_eq_true rfl)
  rw [lg_entry_eq]
  generalize (lg_sl ([.ref h0, .double p1, .int p3]) ++ List.replicate (4 - (lg_sl ([.ref h0, .double p1, .int p3])).length) Slot.unset).toArray = ls at hl ⊢
  have hl : lv_has ls 4 [(0, .ref h0), (1, .double p1), (3, .int p3)] := hl
  unfold fX1_by at hw
  unfold oX1_by at hok
  refine lv_dload_n hx hb dX1_by_0 rfl (lv_at hl 1 rfl) ?_
  refine lv_iload_n hx hb dX1_by_1 rfl (lv_at hl 2 rfl) ?_
  refine cSd (v := fJ2_scalbF p1 p3) (W.runS (As := [.double p1, .int p3]) (rest := []) ⟨hx, hb, hml, hown, hts⟩ (mJ2_scalbF l D TY p1 p3 (fun r => r = fJ2_scalbF p1 p3) rfl hok) (va_cwS 2 hts (lw_S q243 q161 q54 q162) rfl rfl rfl hd_J2_scalb ⟨Nat.le_of_ble_eq_true rfl, Nat.le_of_ble_eq_true rfl⟩) (PR.S hP [] rfl hK hG hS) rfl rfl hl.1 rfl (lv_room (Nat.le_of_ble_eq_true rfl)) dX1_by_2 ⟨Nat.le_of_ble_eq_true rfl, Nat.le_of_ble_eq_true rfl⟩) ?_
  exact W.dret (v := fJ2_scalbF p1 p3) hx hb hr (fun t ht hW => ⟨_, rfl, hw, ht⟩) (fun q h => nomatch h) dX1_by_5

def fX1_by_F (p1 : UInt64) (p3 : Int32) : UInt64 := fJ2_scalbF p1 p3
def oX1_by_F (p1 : UInt64) : Prop := (oJ2_scalbF p1)
set_option maxHeartbeats 4000000 in
set_option maxRecDepth 100000 in
theorem mX1_by_F (l : Launch) (D : va_G) (TY : Nat → ClassId) (h0 : Nat) (p1 : UInt64) (p3 : Int32) (post : UInt64 → Prop) (hw : post (fX1_by_F p1 p3)) (hok : oX1_by_F p1) : Met l yX1_by (ws_ yX1_by cX1_by 4 (Option.some Jvm.ClassFile.FieldType.double)) ({ frames := 3, cells := 0, slots := 0, locals := 63 }) (PR D TY [.ref h0, .double p1, .int p3] [(h0, .inr (2, []))]) (vp_Sd post) 0 0 (fun _ => False) := by
  refine ofWF (cc := cX1_by) (maxL := 4) (ret := (Option.some Jvm.ClassFile.FieldType.double)) (plainFor_of_name (by decide)) rfl ?_
  intro p e s m args below meth c s₁ B hml hv
  obtain ⟨rfl, hP, hK, hG⟩ := hv
  have hx := B.exec
  have hb := B.bytes
  have hr := B.returns
  have hts0 := atoms_spec (ws := ws_ yX1_by cX1_by 4 (Option.some Jvm.ClassFile.FieldType.double)) B.pre
  have hts : ∀ w ∈ lw_all, w.before _ s = true := fun w h => hts0 w (List.mem_cons_of_mem _ h)
  have hown : s.vm.findClass RX1 = some m.cls := findClass_of_methodNamed B.named
  have hlocks := B.notSynchronized
  have hS : va_S (fun _ => False) s.heap s.heap [] := va_S.rf
  have hl := lv_entry ([.ref h0, .double p1, .int p3]) (n := 4) (Nat.le_of_ble_eq_true rfl)
  rw [lg_entry_eq]
  generalize (lg_sl ([.ref h0, .double p1, .int p3]) ++ List.replicate (4 - (lg_sl ([.ref h0, .double p1, .int p3])).length) Slot.unset).toArray = ls at hl ⊢
  have hl : lv_has ls 4 [(0, .ref h0), (1, .double p1), (3, .int p3)] := hl
  unfold fX1_by_F at hw
  unfold oX1_by_F at hok
  refine lv_dload_n hx hb dX1_by_0 rfl (lv_at hl 1 rfl) ?_
  refine lv_iload_n hx hb dX1_by_1 rfl (lv_at hl 2 rfl) ?_
  refine cSd (v := fJ2_scalbF p1 p3) (W.runS (As := [.double p1, .int p3]) (rest := []) ⟨hx, hb, hml, hown, hts⟩ (mJ2_scalbF l D TY p1 p3 (fun r => r = fJ2_scalbF p1 p3) rfl hok) (va_cwS 2 hts (lw_S q243 q161 q54 q162) rfl rfl rfl hd_J2_scalb ⟨Nat.le_of_ble_eq_true rfl, Nat.le_of_ble_eq_true rfl⟩) (PR.S hP [] rfl hK hG hS) rfl rfl hl.1 rfl (lv_room (Nat.le_of_ble_eq_true rfl)) dX1_by_2 ⟨Nat.le_of_ble_eq_true rfl, Nat.le_of_ble_eq_true rfl⟩) ?_
  exact W.dret (v := fJ2_scalbF p1 p3) hx hb hr (fun t ht hW => ⟨_, rfl, hw, ht⟩) (fun q h => nomatch h) dX1_by_5

def fX2_precision  : Int32 := 24
set_option maxHeartbeats 4000000 in
set_option maxRecDepth 100000 in
theorem mX2_precision (l : Launch) (D : va_G) (TY : Nat → ClassId) (h0 : Nat) (post : Int32 → Prop) (hw : post (fX2_precision)) : Met l yX2_precision (ws_ yX2_precision cX2_precision 1 (Option.some Jvm.ClassFile.FieldType.int)) ({ frames := 0, cells := 0, slots := 0, locals := 0 }) (PR D TY [.ref h0] [(h0, .inr (2, []))]) (vp_Si post) 0 0 (fun _ => False) := by
  refine ofWF (cc := cX2_precision) (maxL := 1) (ret := (Option.some Jvm.ClassFile.FieldType.int)) (plainFor_of_name (by decide)) rfl ?_
  intro p e s m args below meth c s₁ B hml hv
  obtain ⟨rfl, hP, hK, hG⟩ := hv
  have hx := B.exec
  have hb := B.bytes
  have hr := B.returns
  have hts0 := atoms_spec (ws := ws_ yX2_precision cX2_precision 1 (Option.some Jvm.ClassFile.FieldType.int)) B.pre
  have hts : ∀ w ∈ lw_all, w.before _ s = true := fun w h => hts0 w (List.mem_cons_of_mem _ h)
  have hown : s.vm.findClass RX2 = some m.cls := findClass_of_methodNamed B.named
  have hlocks := B.notSynchronized
  have hS : va_S (fun _ => False) s.heap s.heap [] := va_S.rf
  have hl := lv_entry ([.ref h0]) (n := 1) (Nat.le_of_ble_eq_true rfl)
  rw [lg_entry_eq]
  generalize (lg_sl ([.ref h0]) ++ List.replicate (1 - (lg_sl ([.ref h0])).length) Slot.unset).toArray = ls at hl ⊢
  have hl : lv_has ls 1 [(0, .ref h0)] := hl
  unfold fX2_precision at hw
  refine lv_bipush (v := 24) hx hb dX2_precision_0 (by decide) ?_
  exact W.iret (v := 24) hx hb hr (fun t ht hW => ⟨_, rfl, hw, ht⟩) (fun q h => nomatch h) dX2_precision_2

def fX2_least  : Int32 := (-149)
set_option maxHeartbeats 4000000 in
set_option maxRecDepth 100000 in
theorem mX2_least (l : Launch) (D : va_G) (TY : Nat → ClassId) (h0 : Nat) (post : Int32 → Prop) (hw : post (fX2_least)) : Met l yX2_least (ws_ yX2_least cX2_least 1 (Option.some Jvm.ClassFile.FieldType.int)) ({ frames := 0, cells := 0, slots := 0, locals := 0 }) (PR D TY [.ref h0] [(h0, .inr (2, []))]) (vp_Si post) 0 0 (fun _ => False) := by
  refine ofWF (cc := cX2_least) (maxL := 1) (ret := (Option.some Jvm.ClassFile.FieldType.int)) (plainFor_of_name (by decide)) rfl ?_
  intro p e s m args below meth c s₁ B hml hv
  obtain ⟨rfl, hP, hK, hG⟩ := hv
  have hx := B.exec
  have hb := B.bytes
  have hr := B.returns
  have hts0 := atoms_spec (ws := ws_ yX2_least cX2_least 1 (Option.some Jvm.ClassFile.FieldType.int)) B.pre
  have hts : ∀ w ∈ lw_all, w.before _ s = true := fun w h => hts0 w (List.mem_cons_of_mem _ h)
  have hown : s.vm.findClass RX2 = some m.cls := findClass_of_methodNamed B.named
  have hlocks := B.notSynchronized
  have hS : va_S (fun _ => False) s.heap s.heap [] := va_S.rf
  have hl := lv_entry ([.ref h0]) (n := 1) (Nat.le_of_ble_eq_true rfl)
  rw [lg_entry_eq]
  generalize (lg_sl ([.ref h0]) ++ List.replicate (1 - (lg_sl ([.ref h0])).length) Slot.unset).toArray = ls at hl ⊢
  have hl : lv_has ls 1 [(0, .ref h0)] := hl
  unfold fX2_least at hw
  refine lv_sipush (v := (-149)) hx hb dX2_least_0 (by decide) ?_
  exact W.iret (v := (-149)) hx hb hr (fun t ht hW => ⟨_, rfl, hw, ht⟩) (fun q h => nomatch h) dX2_least_3

def fX2_from (p1 : Int64) : UInt64 := lt_ (if (p1.toInt32 &&& 2147483647) ≤ 2139095040 then (FP.f2d p1.toInt32.toUInt32) else 9221120237041090560) (fun x1 : UInt64 => x1)
def oX2_from (p1 : Int64) : Prop := (((p1.toInt32 &&& 2147483647) ≤ 2139095040) → (vn_sni2f p1.toInt32 = false) ∧ (vf_n64 (FP.f2d p1.toInt32.toUInt32))) ∧ (¬ ((p1.toInt32 &&& 2147483647) ≤ 2139095040) → True)
set_option maxHeartbeats 4000000 in
set_option maxRecDepth 100000 in
theorem mX2_from (l : Launch) (D : va_G) (TY : Nat → ClassId) (h0 : Nat) (p1 : Int64) (post : UInt64 → Prop) (hw : post (fX2_from p1)) (hok : oX2_from p1) : Met l yX2_from (ws_ yX2_from cX2_from 3 (Option.some Jvm.ClassFile.FieldType.double)) ({ frames := 1, cells := 0, slots := 0, locals := 15 }) (PR D TY [.ref h0, .long p1] [(h0, .inr (2, []))]) (vp_Sd post) 0 0 (fun _ => False) := by
  refine ofWF (cc := cX2_from) (maxL := 3) (ret := (Option.some Jvm.ClassFile.FieldType.double)) (plainFor_of_name (by decide)) rfl ?_
  intro p e s m args below meth c s₁ B hml hv
  obtain ⟨rfl, hP, hK, hG⟩ := hv
  have hx := B.exec
  have hb := B.bytes
  have hr := B.returns
  have hts0 := atoms_spec (ws := ws_ yX2_from cX2_from 3 (Option.some Jvm.ClassFile.FieldType.double)) B.pre
  have hts : ∀ w ∈ lw_all, w.before _ s = true := fun w h => hts0 w (List.mem_cons_of_mem _ h)
  have hown : s.vm.findClass RX2 = some m.cls := findClass_of_methodNamed B.named
  have hlocks := B.notSynchronized
  have hS : va_S (fun _ => False) s.heap s.heap [] := va_S.rf
  have hl := lv_entry ([.ref h0, .long p1]) (n := 3) (Nat.le_of_ble_eq_true rfl)
  rw [lg_entry_eq]
  generalize (lg_sl ([.ref h0, .long p1]) ++ List.replicate (3 - (lg_sl ([.ref h0, .long p1])).length) Slot.unset).toArray = ls at hl ⊢
  have hl : lv_has ls 3 [(0, .ref h0), (1, .long p1)] := hl
  unfold fX2_from at hw
  unfold oX2_from at hok
  refine lv_lload_n hx hb dX2_from_0 rfl (lv_at hl 1 rfl) ?_
  refine lv_l2i (v := p1.toInt32) hx hb dX2_from_1 rfl ?_
  refine lv_ldc (v := 2147483647) hx hb hown (hts _ q121) dX2_from_2 ?_
  refine lv_iand hx hb dX2_from_4 ?_
  refine lv_ldc (v := 2139095040) hx hb hown (hts _ q122) dX2_from_5 ?_
  obtain ⟨PJx1, hPJx1⟩ : ∃ P : UInt64 → Prop, ∀ x1 : UInt64, P x1 ↔ ∀ ls : Array Slot, lv_has ls 3 [] → W p l e (headSpec (ws_ yX2_from cX2_from 3 (Option.some Jvm.ClassFile.FieldType.double)) ({ frames := 1, cells := 0, slots := 0, locals := 15 })).room s m ([.ref h0, .long p1] : List Value).toArray below meth c s.heap ([]) 0 0 (MQ below (vp_Sd post) ([.ref h0, .long p1] : List Value).toArray s 0 0 (fun _ => False)) (F0 m 22 ls [.double x1]) := ⟨_, fun _ => Iff.rfl⟩
  have hox1 := hok
  have hjx1 : ∀ x1 : UInt64, x1 = (if (p1.toInt32 &&& 2147483647) ≤ 2139095040 then (FP.f2d p1.toInt32.toUInt32) else 9221120237041090560) → PJx1 x1 := by
    intro x1 ex1
    rw [hPJx1]
    intro ls hl
    replace hw := pf_let (P := post) hw x1 ex1
    exact W.dret (v := x1) hx hb hr (fun t ht hW => ⟨_, rfl, hw, ht⟩) (fun q h => nomatch h) dX2_from_22
  replace hjx1 := hjx1 _ rfl
  refine lv_icmp_le (tgt := 16) hx hb dX2_from_7 (by decide) (fun c2 => ?_) (fun c2 => ?_)
  · replace hjx1 := pf_t (P := PJx1) c2 hjx1
    replace hox1 := hox1.1 c2
    refine lv_lload_n hx hb dX2_from_16 rfl (lv_at hl 1 rfl) ?_
    refine lv_l2i (v := p1.toInt32) hx hb dX2_from_17 rfl ?_
    refine vn_i2f hx hb (hml.trans hl.1.symm) hown (hts _ q124) (hts _ q126) (hts _ q125) (hts _ q53) hox1.1 (Nat.le_of_ble_eq_true rfl) (Nat.le_of_ble_eq_true rfl) dX2_from_18 ?_
    replace hox1 := hox1.2
    refine lv_f2d hx hb dX2_from_21 hox1 ?_
    exact (hPJx1 _).1 hjx1 _ (lv_sub hl [] rfl)
  · replace hjx1 := pf_f (P := PJx1) c2 hjx1
    refine va_getsN hx hb hG.nn hS hown (gz_fn4 hG _) (fun _ h => h) dX2_from_10 ?_
    refine lv_goto (tgt := 22) hx hb dX2_from_13 (by decide) ?_
    exact (hPJx1 _).1 hjx1 _ (lv_sub hl [] rfl)

def fX2_to (p1 : UInt64) : Int64 := lt_ (if Deq p1 p1 then ((fJ1_floatToIntBits (FP.d2f p1)).toInt64) else 2143289344) (fun x1 : Int64 => x1)
def oX2_to (p1 : UInt64) : Prop := ((Deq p1 p1) → (vf_n32 (FP.d2f p1))) ∧ (¬ (Deq p1 p1) → True)
set_option maxHeartbeats 4000000 in
set_option maxRecDepth 100000 in
theorem mX2_to (l : Launch) (D : va_G) (TY : Nat → ClassId) (h0 : Nat) (p1 : UInt64) (post : Int64 → Prop) (hw : post (fX2_to p1)) (hok : oX2_to p1) : Met l yX2_to (ws_ yX2_to cX2_to 3 (Option.some Jvm.ClassFile.FieldType.long)) ({ frames := 2, cells := 0, slots := 0, locals := 40 }) (PR D TY [.ref h0, .double p1] [(h0, .inr (2, []))]) (vp_Sl post) 0 0 (fun _ => False) := by
  refine ofWF (cc := cX2_to) (maxL := 3) (ret := (Option.some Jvm.ClassFile.FieldType.long)) (plainFor_of_name (by decide)) rfl ?_
  intro p e s m args below meth c s₁ B hml hv
  obtain ⟨rfl, hP, hK, hG⟩ := hv
  have hx := B.exec
  have hb := B.bytes
  have hr := B.returns
  have hts0 := atoms_spec (ws := ws_ yX2_to cX2_to 3 (Option.some Jvm.ClassFile.FieldType.long)) B.pre
  have hts : ∀ w ∈ lw_all, w.before _ s = true := fun w h => hts0 w (List.mem_cons_of_mem _ h)
  have hown : s.vm.findClass RX2 = some m.cls := findClass_of_methodNamed B.named
  have hlocks := B.notSynchronized
  have hS : va_S (fun _ => False) s.heap s.heap [] := va_S.rf
  have hl := lv_entry ([.ref h0, .double p1]) (n := 3) (Nat.le_of_ble_eq_true rfl)
  rw [lg_entry_eq]
  generalize (lg_sl ([.ref h0, .double p1]) ++ List.replicate (3 - (lg_sl ([.ref h0, .double p1])).length) Slot.unset).toArray = ls at hl ⊢
  have hl : lv_has ls 3 [(0, .ref h0), (1, .double p1)] := hl
  unfold fX2_to at hw
  unfold oX2_to at hok
  refine lv_dload_n hx hb dX2_to_0 rfl (lv_at hl 1 rfl) ?_
  refine lv_dload_n hx hb dX2_to_1 rfl (lv_at hl 1 rfl) ?_
  obtain ⟨PJx1, hPJx1⟩ : ∃ P : Int64 → Prop, ∀ x1 : Int64, P x1 ↔ ∀ ls : Array Slot, lv_has ls 3 [] → W p l e (headSpec (ws_ yX2_to cX2_to 3 (Option.some Jvm.ClassFile.FieldType.long)) ({ frames := 2, cells := 0, slots := 0, locals := 40 })).room s m ([.ref h0, .double p1] : List Value).toArray below meth c s.heap ([]) 0 0 (MQ below (vp_Sl post) ([.ref h0, .double p1] : List Value).toArray s 0 0 (fun _ => False)) (F0 m 18 ls [.long x1]) := ⟨_, fun _ => Iff.rfl⟩
  have hox1 := hok
  have hjx1 : ∀ x1 : Int64, x1 = (if Deq p1 p1 then ((fJ1_floatToIntBits (FP.d2f p1)).toInt64) else 2143289344) → PJx1 x1 := by
    intro x1 ex1
    rw [hPJx1]
    intro ls hl
    replace hw := pf_let (P := post) hw x1 ex1
    exact W.lret (v := x1) hx hb hr (fun t ht hW => ⟨_, rfl, hw, ht⟩) (fun q h => nomatch h) dX2_to_18
  replace hjx1 := hjx1 _ rfl
  refine lx_dleq (tgt := 12) hx hb dX2_to_2 dX2_to_3 (by decide) (fun c2 => ?_) (fun c2 => ?_)
  · replace hjx1 := pf_t (P := PJx1) c2 hjx1
    replace hox1 := hox1.1 c2
    refine lv_dload_n hx hb dX2_to_12 rfl (lv_at hl 1 rfl) ?_
    refine lv_d2f hx hb dX2_to_13 hox1 ?_
    refine cSi (v := fJ1_floatToIntBits (FP.d2f p1)) (W.runS (As := [.float (FP.d2f p1)]) (rest := []) ⟨hx, hb, hml, hown, hts⟩ (mJ1_floatToIntBits l D TY (FP.d2f p1) (fun r => r = fJ1_floatToIntBits (FP.d2f p1)) rfl) (va_cwS 1 hts (lw_S q289 q290 q53 q291) rfl rfl rfl hd_J1_floatToIntBits ⟨Nat.le_of_ble_eq_true rfl, Nat.le_of_ble_eq_true rfl⟩) (PR.S hP [] rfl hK hG hS) rfl rfl hl.1 rfl (lv_room (Nat.le_of_ble_eq_true rfl)) dX2_to_14 ⟨Nat.le_of_ble_eq_true rfl, Nat.le_of_ble_eq_true rfl⟩) ?_
    refine lv_i2l (v := (fJ1_floatToIntBits (FP.d2f p1)).toInt64) hx hb dX2_to_17 rfl ?_
    exact (hPJx1 _).1 hjx1 _ (lv_sub hl [] rfl)
  · replace hjx1 := pf_f (P := PJx1) c2 hjx1
    refine lv_ldc2 (v := 2143289344) hx hb hown (hts _ q288) dX2_to_6 ?_
    refine lv_goto (tgt := 18) hx hb dX2_to_9 (by decide) ?_
    exact (hPJx1 _).1 hjx1 _ (lv_sub hl [] rfl)

def fX2_fit (p1 : UInt64) : UInt64 := lt_ (if Deq p1 p1 then (FP.f2d (FP.d2f p1)) else 9221120237041090560) (fun x1 : UInt64 => x1)
def oX2_fit (p1 : UInt64) : Prop := ((Deq p1 p1) → (vf_n32 (FP.d2f p1)) ∧ (vf_n64 (FP.f2d (FP.d2f p1)))) ∧ (¬ (Deq p1 p1) → True)
set_option maxHeartbeats 4000000 in
set_option maxRecDepth 100000 in
theorem mX2_fit (l : Launch) (D : va_G) (TY : Nat → ClassId) (h0 : Nat) (p1 : UInt64) (post : UInt64 → Prop) (hw : post (fX2_fit p1)) (hok : oX2_fit p1) : Met l yX2_fit (ws_ yX2_fit cX2_fit 3 (Option.some Jvm.ClassFile.FieldType.double)) ({ frames := 0, cells := 0, slots := 0, locals := 0 }) (PR D TY [.ref h0, .double p1] [(h0, .inr (2, []))]) (vp_Sd post) 0 0 (fun _ => False) := by
  refine ofWF (cc := cX2_fit) (maxL := 3) (ret := (Option.some Jvm.ClassFile.FieldType.double)) (plainFor_of_name (by decide)) rfl ?_
  intro p e s m args below meth c s₁ B hml hv
  obtain ⟨rfl, hP, hK, hG⟩ := hv
  have hx := B.exec
  have hb := B.bytes
  have hr := B.returns
  have hts0 := atoms_spec (ws := ws_ yX2_fit cX2_fit 3 (Option.some Jvm.ClassFile.FieldType.double)) B.pre
  have hts : ∀ w ∈ lw_all, w.before _ s = true := fun w h => hts0 w (List.mem_cons_of_mem _ h)
  have hown : s.vm.findClass RX2 = some m.cls := findClass_of_methodNamed B.named
  have hlocks := B.notSynchronized
  have hS : va_S (fun _ => False) s.heap s.heap [] := va_S.rf
  have hl := lv_entry ([.ref h0, .double p1]) (n := 3) (Nat.le_of_ble_eq_true rfl)
  rw [lg_entry_eq]
  generalize (lg_sl ([.ref h0, .double p1]) ++ List.replicate (3 - (lg_sl ([.ref h0, .double p1])).length) Slot.unset).toArray = ls at hl ⊢
  have hl : lv_has ls 3 [(0, .ref h0), (1, .double p1)] := hl
  unfold fX2_fit at hw
  unfold oX2_fit at hok
  refine lv_dload_n hx hb dX2_fit_0 rfl (lv_at hl 1 rfl) ?_
  refine lv_dload_n hx hb dX2_fit_1 rfl (lv_at hl 1 rfl) ?_
  obtain ⟨PJx1, hPJx1⟩ : ∃ P : UInt64 → Prop, ∀ x1 : UInt64, P x1 ↔ ∀ ls : Array Slot, lv_has ls 3 [] → W p l e (headSpec (ws_ yX2_fit cX2_fit 3 (Option.some Jvm.ClassFile.FieldType.double)) ({ frames := 0, cells := 0, slots := 0, locals := 0 })).room s m ([.ref h0, .double p1] : List Value).toArray below meth c s.heap ([]) 0 0 (MQ below (vp_Sd post) ([.ref h0, .double p1] : List Value).toArray s 0 0 (fun _ => False)) (F0 m 15 ls [.double x1]) := ⟨_, fun _ => Iff.rfl⟩
  have hox1 := hok
  have hjx1 : ∀ x1 : UInt64, x1 = (if Deq p1 p1 then (FP.f2d (FP.d2f p1)) else 9221120237041090560) → PJx1 x1 := by
    intro x1 ex1
    rw [hPJx1]
    intro ls hl
    replace hw := pf_let (P := post) hw x1 ex1
    exact W.dret (v := x1) hx hb hr (fun t ht hW => ⟨_, rfl, hw, ht⟩) (fun q h => nomatch h) dX2_fit_15
  replace hjx1 := hjx1 _ rfl
  refine lx_dleq (tgt := 12) hx hb dX2_fit_2 dX2_fit_3 (by decide) (fun c2 => ?_) (fun c2 => ?_)
  · replace hjx1 := pf_t (P := PJx1) c2 hjx1
    replace hox1 := hox1.1 c2
    refine lv_dload_n hx hb dX2_fit_12 rfl (lv_at hl 1 rfl) ?_
    refine lv_d2f hx hb dX2_fit_13 hox1.1 ?_
    replace hox1 := hox1.2
    refine lv_f2d hx hb dX2_fit_14 hox1 ?_
    exact (hPJx1 _).1 hjx1 _ (lv_sub hl [] rfl)
  · replace hjx1 := pf_f (P := PJx1) c2 hjx1
    refine va_getsN hx hb hG.nn hS hown (gz_fn4 hG _) (fun _ h => h) dX2_fit_6 ?_
    refine lv_goto (tgt := 15) hx hb dX2_fit_9 (by decide) ?_
    exact (hPJx1 _).1 hjx1 _ (lv_sub hl [] rfl)

theorem hd_J2_nextUp_2 : yJ2_nextUp_2.cls ≠ "java/lang/invoke/MethodHandle" ∧ yJ2_nextUp_2.cls ≠ "java/lang/invoke/VarHandle" ∧ (parseMethodDescriptor yJ2_nextUp_2.desc).map (fun d => d.parameters.length) = some 1 := by decide +kernel
def fX2_up (p1 : UInt64) : UInt64 := FP.f2d (fJ2_nextUp_2 (FP.d2f p1))
def oX2_up (p1 : UInt64) : Prop := (vf_n32 (FP.d2f p1)) ∧ ((oJ2_nextUp_2 (FP.d2f p1)) ∧ (vf_n64 (FP.f2d (fJ2_nextUp_2 (FP.d2f p1)))))
set_option maxHeartbeats 4000000 in
set_option maxRecDepth 100000 in
theorem mX2_up (l : Launch) (D : va_G) (TY : Nat → ClassId) (h0 : Nat) (p1 : UInt64) (post : UInt64 → Prop) (hw : post (fX2_up p1)) (hok : oX2_up p1) : Met l yX2_up (ws_ yX2_up cX2_up 3 (Option.some Jvm.ClassFile.FieldType.double)) ({ frames := 2, cells := 0, slots := 0, locals := 36 }) (PR D TY [.ref h0, .double p1] [(h0, .inr (2, []))]) (vp_Sd post) 0 0 (fun _ => False) := by
  refine ofWF (cc := cX2_up) (maxL := 3) (ret := (Option.some Jvm.ClassFile.FieldType.double)) (plainFor_of_name (by decide)) rfl ?_
  intro p e s m args below meth c s₁ B hml hv
  obtain ⟨rfl, hP, hK, hG⟩ := hv
  have hx := B.exec
  have hb := B.bytes
  have hr := B.returns
  have hts0 := atoms_spec (ws := ws_ yX2_up cX2_up 3 (Option.some Jvm.ClassFile.FieldType.double)) B.pre
  have hts : ∀ w ∈ lw_all, w.before _ s = true := fun w h => hts0 w (List.mem_cons_of_mem _ h)
  have hown : s.vm.findClass RX2 = some m.cls := findClass_of_methodNamed B.named
  have hlocks := B.notSynchronized
  have hS : va_S (fun _ => False) s.heap s.heap [] := va_S.rf
  have hl := lv_entry ([.ref h0, .double p1]) (n := 3) (Nat.le_of_ble_eq_true rfl)
  rw [lg_entry_eq]
  generalize (lg_sl ([.ref h0, .double p1]) ++ List.replicate (3 - (lg_sl ([.ref h0, .double p1])).length) Slot.unset).toArray = ls at hl ⊢
  have hl : lv_has ls 3 [(0, .ref h0), (1, .double p1)] := hl
  unfold fX2_up at hw
  unfold oX2_up at hok
  refine lv_dload_n hx hb dX2_up_0 rfl (lv_at hl 1 rfl) ?_
  refine lv_d2f hx hb dX2_up_1 hok.1 ?_
  replace hok := hok.2
  refine cSf (v := fJ2_nextUp_2 (FP.d2f p1)) (W.runS (As := [.float (FP.d2f p1)]) (rest := []) ⟨hx, hb, hml, hown, hts⟩ (mJ2_nextUp_2 l D TY (FP.d2f p1) (fun r => r = fJ2_nextUp_2 (FP.d2f p1)) rfl hok.1) (va_cwS 1 hts (lw_S q381 q382 q54 q383) rfl rfl rfl hd_J2_nextUp_2 ⟨Nat.le_of_ble_eq_true rfl, Nat.le_of_ble_eq_true rfl⟩) (PR.S hP [] rfl hK hG hS) rfl rfl hl.1 rfl (lv_room (Nat.le_of_ble_eq_true rfl)) dX2_up_2 ⟨Nat.le_of_ble_eq_true rfl, Nat.le_of_ble_eq_true rfl⟩) ?_
  replace hok := hok.2
  refine lv_f2d hx hb dX2_up_5 hok ?_
  exact W.dret (v := FP.f2d (fJ2_nextUp_2 (FP.d2f p1))) hx hb hr (fun t ht hW => ⟨_, rfl, hw, ht⟩) (fun q h => nomatch h) dX2_up_6

theorem hd_J2_ulp_2 : yJ2_ulp_2.cls ≠ "java/lang/invoke/MethodHandle" ∧ yJ2_ulp_2.cls ≠ "java/lang/invoke/VarHandle" ∧ (parseMethodDescriptor yJ2_ulp_2.desc).map (fun d => d.parameters.length) = some 1 := by decide +kernel
def fX2_gap (p1 : UInt64) : UInt64 := FP.f2d (fJ2_ulp_2 (FP.d2f p1))
def oX2_gap (p1 : UInt64) : Prop := (vf_n32 (FP.d2f p1)) ∧ ((oJ2_ulp_2 (FP.d2f p1)) ∧ (vf_n64 (FP.f2d (fJ2_ulp_2 (FP.d2f p1)))))
set_option maxHeartbeats 4000000 in
set_option maxRecDepth 100000 in
theorem mX2_gap (l : Launch) (D : va_G) (TY : Nat → ClassId) (h0 : Nat) (p1 : UInt64) (post : UInt64 → Prop) (hw : post (fX2_gap p1)) (hok : oX2_gap p1) : Met l yX2_gap (ws_ yX2_gap cX2_gap 3 (Option.some Jvm.ClassFile.FieldType.double)) ({ frames := 3, cells := 0, slots := 0, locals := 56 }) (PR D TY [.ref h0, .double p1] [(h0, .inr (2, []))]) (vp_Sd post) 0 0 (fun _ => False) := by
  refine ofWF (cc := cX2_gap) (maxL := 3) (ret := (Option.some Jvm.ClassFile.FieldType.double)) (plainFor_of_name (by decide)) rfl ?_
  intro p e s m args below meth c s₁ B hml hv
  obtain ⟨rfl, hP, hK, hG⟩ := hv
  have hx := B.exec
  have hb := B.bytes
  have hr := B.returns
  have hts0 := atoms_spec (ws := ws_ yX2_gap cX2_gap 3 (Option.some Jvm.ClassFile.FieldType.double)) B.pre
  have hts : ∀ w ∈ lw_all, w.before _ s = true := fun w h => hts0 w (List.mem_cons_of_mem _ h)
  have hown : s.vm.findClass RX2 = some m.cls := findClass_of_methodNamed B.named
  have hlocks := B.notSynchronized
  have hS : va_S (fun _ => False) s.heap s.heap [] := va_S.rf
  have hl := lv_entry ([.ref h0, .double p1]) (n := 3) (Nat.le_of_ble_eq_true rfl)
  rw [lg_entry_eq]
  generalize (lg_sl ([.ref h0, .double p1]) ++ List.replicate (3 - (lg_sl ([.ref h0, .double p1])).length) Slot.unset).toArray = ls at hl ⊢
  have hl : lv_has ls 3 [(0, .ref h0), (1, .double p1)] := hl
  unfold fX2_gap at hw
  unfold oX2_gap at hok
  refine lv_dload_n hx hb dX2_gap_0 rfl (lv_at hl 1 rfl) ?_
  refine lv_d2f hx hb dX2_gap_1 hok.1 ?_
  replace hok := hok.2
  refine cSf (v := fJ2_ulp_2 (FP.d2f p1)) (W.runS (As := [.float (FP.d2f p1)]) (rest := []) ⟨hx, hb, hml, hown, hts⟩ (mJ2_ulp_2 l D TY (FP.d2f p1) (fun r => r = fJ2_ulp_2 (FP.d2f p1)) rfl hok.1) (va_cwS 1 hts (lw_S q416 q417 q54 q418) rfl rfl rfl hd_J2_ulp_2 ⟨Nat.le_of_ble_eq_true rfl, Nat.le_of_ble_eq_true rfl⟩) (PR.S hP [] rfl hK hG hS) rfl rfl hl.1 rfl (lv_room (Nat.le_of_ble_eq_true rfl)) dX2_gap_2 ⟨Nat.le_of_ble_eq_true rfl, Nat.le_of_ble_eq_true rfl⟩) ?_
  replace hok := hok.2
  refine lv_f2d hx hb dX2_gap_5 hok ?_
  exact W.dret (v := FP.f2d (fJ2_ulp_2 (FP.d2f p1))) hx hb hr (fun t ht hW => ⟨_, rfl, hw, ht⟩) (fun q h => nomatch h) dX2_gap_6

theorem hd_X1_by : yX1_by.cls ≠ "java/lang/invoke/MethodHandle" ∧ yX1_by.cls ≠ "java/lang/invoke/VarHandle" ∧ (parseMethodDescriptor yX1_by.desc).map (fun d => d.parameters.length) = some 2 := by decide +kernel
theorem hd_X2_fit : yX2_fit.cls ≠ "java/lang/invoke/MethodHandle" ∧ yX2_fit.cls ≠ "java/lang/invoke/VarHandle" ∧ (parseMethodDescriptor yX2_fit.desc).map (fun d => d.parameters.length) = some 1 := by decide +kernel
def fX2_by (p1 : UInt64) (p3 : Int32) : UInt64 := fX2_fit (fX1_by_F p1 p3)
def oX2_by (p1 : UInt64) (p3 : Int32) : Prop := (oX1_by_F p1) ∧ (oX2_fit (fX1_by_F p1 p3))
set_option maxHeartbeats 4000000 in
set_option maxRecDepth 100000 in
theorem mX2_by (l : Launch) (D : va_G) (TY : Nat → ClassId) (h0 : Nat) (p1 : UInt64) (p3 : Int32) (post : UInt64 → Prop) (hw : post (fX2_by p1 p3)) (hok : oX2_by p1 p3) : Met l yX2_by (ws_ yX2_by cX2_by 4 (Option.some Jvm.ClassFile.FieldType.double)) ({ frames := 4, cells := 0, slots := 0, locals := 86 }) (PR D TY [.ref h0, .double p1, .int p3] [(h0, .inr (2, []))]) (vp_Sd post) 0 0 (fun _ => False) := by
  refine ofWF (cc := cX2_by) (maxL := 4) (ret := (Option.some Jvm.ClassFile.FieldType.double)) (plainFor_of_name (by decide)) rfl ?_
  intro p e s m args below meth c s₁ B hml hv
  obtain ⟨rfl, hP, hK, hG⟩ := hv
  have hx := B.exec
  have hb := B.bytes
  have hr := B.returns
  have hts0 := atoms_spec (ws := ws_ yX2_by cX2_by 4 (Option.some Jvm.ClassFile.FieldType.double)) B.pre
  have hts : ∀ w ∈ lw_all, w.before _ s = true := fun w h => hts0 w (List.mem_cons_of_mem _ h)
  have hown : s.vm.findClass RX2 = some m.cls := findClass_of_methodNamed B.named
  have hlocks := B.notSynchronized
  have hS : va_S (fun _ => False) s.heap s.heap [] := va_S.rf
  have hl := lv_entry ([.ref h0, .double p1, .int p3]) (n := 4) (Nat.le_of_ble_eq_true rfl)
  rw [lg_entry_eq]
  generalize (lg_sl ([.ref h0, .double p1, .int p3]) ++ List.replicate (4 - (lg_sl ([.ref h0, .double p1, .int p3])).length) Slot.unset).toArray = ls at hl ⊢
  have hl : lv_has ls 4 [(0, .ref h0), (1, .double p1), (3, .int p3)] := hl
  unfold fX2_by at hw
  unfold oX2_by at hok
  refine lv_aload_n hx hb dX2_by_0 rfl (lv_at hl 0 rfl) ?_
  refine lv_aload_n hx hb dX2_by_1 rfl (lv_at hl 0 rfl) ?_
  refine lv_dload_n hx hb dX2_by_2 rfl (lv_at hl 1 rfl) ?_
  refine lv_iload_n hx hb dX2_by_3 rfl (lv_at hl 2 rfl) ?_
  refine cSd (v := fX1_by_F p1 p3) (run_weak (va_runSU (As := [.double p1, .int p3]) (rest := [.ref h0]) (hK.1 2 _ rfl).2 ⟨hx, hb, hml, hown, hts⟩ (mX1_by_F l D TY h0 p1 p3 (fun r => r = fX1_by_F p1 p3) rfl hok.1) (va_cwSU 2 hts (lw_SU q249 q1585 q250 q240 q45 q242) rfl rfl rfl ⟨by decide, hd_X1_by.2.2⟩ ⟨Nat.le_of_ble_eq_true rfl, Nat.le_of_ble_eq_true rfl⟩) (PR.V (q0 := 0) (ci := 2) hP [0] rfl hK hG hS rfl rfl) rfl rfl hl.1 rfl (lv_room (Nat.le_of_ble_eq_true rfl)) dX2_by_4 ⟨Nat.le_of_ble_eq_true rfl, Nat.le_of_ble_eq_true rfl⟩)) ?_
  replace hok := hok.2
  refine cSd (v := fX2_fit (fX1_by_F p1 p3)) (W.runV (As := [.double (fX1_by_F p1 p3)]) (rest := []) ⟨hx, hb, hml, hown, hts⟩ (mX2_fit l D TY h0 (fX1_by_F p1 p3) (fun r => r = fX2_fit (fX1_by_F p1 p3)) rfl hok) (cwV 1 hts (lw_V q251 q252 q253 q46 q254) rfl rfl rfl ⟨rfl, hd_X2_fit⟩ ⟨Nat.le_of_ble_eq_true rfl, Nat.le_of_ble_eq_true rfl⟩) (PR.V (q0 := 0) (ci := 2) hP [0] rfl hK hG hS rfl rfl) rfl rfl hl.1 rfl (lv_room (Nat.le_of_ble_eq_true rfl)) dX2_by_7 ⟨Nat.le_of_ble_eq_true rfl, Nat.le_of_ble_eq_true rfl⟩) ?_
  exact W.dret (v := fX2_fit (fX1_by_F p1 p3)) hx hb hr (fun t ht hW => ⟨_, rfl, hw, ht⟩) (fun q h => nomatch h) dX2_by_10

theorem hd_J2_scalb_2 : yJ2_scalb_2.cls ≠ "java/lang/invoke/MethodHandle" ∧ yJ2_scalb_2.cls ≠ "java/lang/invoke/VarHandle" ∧ (parseMethodDescriptor yJ2_scalb_2.desc).map (fun d => d.parameters.length) = some 2 := by decide +kernel
def fX2_scaled (p1 : UInt64) (p3 : Int32) : UInt64 := lt_ (if Deq p1 p1 then (FP.f2d (fJ2_scalb_2 (FP.d2f p1) p3)) else 9221120237041090560) (fun x1 : UInt64 => x1)
def oX2_scaled (p1 : UInt64) (p3 : Int32) : Prop := ((Deq p1 p1) → (vf_n32 (FP.d2f p1)) ∧ ((oJ2_scalb_2 (FP.d2f p1) p3) ∧ (vf_n64 (FP.f2d (fJ2_scalb_2 (FP.d2f p1) p3))))) ∧ (¬ (Deq p1 p1) → True)
set_option maxHeartbeats 4000000 in
set_option maxRecDepth 100000 in
theorem mX2_scaled (l : Launch) (D : va_G) (TY : Nat → ClassId) (h0 : Nat) (p1 : UInt64) (p3 : Int32) (post : UInt64 → Prop) (hw : post (fX2_scaled p1 p3)) (hok : oX2_scaled p1 p3) : Met l yX2_scaled (ws_ yX2_scaled cX2_scaled 4 (Option.some Jvm.ClassFile.FieldType.double)) ({ frames := 3, cells := 0, slots := 0, locals := 57 }) (PR D TY [.ref h0, .double p1, .int p3] [(h0, .inr (2, []))]) (vp_Sd post) 0 0 (fun _ => False) := by
  refine ofWF (cc := cX2_scaled) (maxL := 4) (ret := (Option.some Jvm.ClassFile.FieldType.double)) (plainFor_of_name (by decide)) rfl ?_
  intro p e s m args below meth c s₁ B hml hv
  obtain ⟨rfl, hP, hK, hG⟩ := hv
  have hx := B.exec
  have hb := B.bytes
  have hr := B.returns
  have hts0 := atoms_spec (ws := ws_ yX2_scaled cX2_scaled 4 (Option.some Jvm.ClassFile.FieldType.double)) B.pre
  have hts : ∀ w ∈ lw_all, w.before _ s = true := fun w h => hts0 w (List.mem_cons_of_mem _ h)
  have hown : s.vm.findClass RX2 = some m.cls := findClass_of_methodNamed B.named
  have hlocks := B.notSynchronized
  have hS : va_S (fun _ => False) s.heap s.heap [] := va_S.rf
  have hl := lv_entry ([.ref h0, .double p1, .int p3]) (n := 4) (Nat.le_of_ble_eq_true rfl)
  rw [lg_entry_eq]
  generalize (lg_sl ([.ref h0, .double p1, .int p3]) ++ List.replicate (4 - (lg_sl ([.ref h0, .double p1, .int p3])).length) Slot.unset).toArray = ls at hl ⊢
  have hl : lv_has ls 4 [(0, .ref h0), (1, .double p1), (3, .int p3)] := hl
  unfold fX2_scaled at hw
  unfold oX2_scaled at hok
  refine lv_dload_n hx hb dX2_scaled_0 rfl (lv_at hl 1 rfl) ?_
  refine lv_dload_n hx hb dX2_scaled_1 rfl (lv_at hl 1 rfl) ?_
  obtain ⟨PJx1, hPJx1⟩ : ∃ P : UInt64 → Prop, ∀ x1 : UInt64, P x1 ↔ ∀ ls : Array Slot, lv_has ls 4 [] → W p l e (headSpec (ws_ yX2_scaled cX2_scaled 4 (Option.some Jvm.ClassFile.FieldType.double)) ({ frames := 3, cells := 0, slots := 0, locals := 57 })).room s m ([.ref h0, .double p1, .int p3] : List Value).toArray below meth c s.heap ([]) 0 0 (MQ below (vp_Sd post) ([.ref h0, .double p1, .int p3] : List Value).toArray s 0 0 (fun _ => False)) (F0 m 19 ls [.double x1]) := ⟨_, fun _ => Iff.rfl⟩
  have hox1 := hok
  have hjx1 : ∀ x1 : UInt64, x1 = (if Deq p1 p1 then (FP.f2d (fJ2_scalb_2 (FP.d2f p1) p3)) else 9221120237041090560) → PJx1 x1 := by
    intro x1 ex1
    rw [hPJx1]
    intro ls hl
    replace hw := pf_let (P := post) hw x1 ex1
    exact W.dret (v := x1) hx hb hr (fun t ht hW => ⟨_, rfl, hw, ht⟩) (fun q h => nomatch h) dX2_scaled_19
  replace hjx1 := hjx1 _ rfl
  refine lx_dleq (tgt := 12) hx hb dX2_scaled_2 dX2_scaled_3 (by decide) (fun c2 => ?_) (fun c2 => ?_)
  · replace hjx1 := pf_t (P := PJx1) c2 hjx1
    replace hox1 := hox1.1 c2
    refine lv_dload_n hx hb dX2_scaled_12 rfl (lv_at hl 1 rfl) ?_
    refine lv_d2f hx hb dX2_scaled_13 hox1.1 ?_
    replace hox1 := hox1.2
    refine lv_iload_n hx hb dX2_scaled_14 rfl (lv_at hl 2 rfl) ?_
    refine cSf (v := fJ2_scalb_2 (FP.d2f p1) p3) (W.runS (As := [.float (FP.d2f p1), .int p3]) (rest := []) ⟨hx, hb, hml, hown, hts⟩ (mJ2_scalb_2 l D TY (FP.d2f p1) p3 (fun r => r = fJ2_scalb_2 (FP.d2f p1) p3) rfl hox1.1) (va_cwS 2 hts (lw_S q313 q314 q54 q315) rfl rfl rfl hd_J2_scalb_2 ⟨Nat.le_of_ble_eq_true rfl, Nat.le_of_ble_eq_true rfl⟩) (PR.S hP [] rfl hK hG hS) rfl rfl hl.1 rfl (lv_room (Nat.le_of_ble_eq_true rfl)) dX2_scaled_15 ⟨Nat.le_of_ble_eq_true rfl, Nat.le_of_ble_eq_true rfl⟩) ?_
    replace hox1 := hox1.2
    refine lv_f2d hx hb dX2_scaled_18 hox1 ?_
    exact (hPJx1 _).1 hjx1 _ (lv_sub hl [] rfl)
  · replace hjx1 := pf_f (P := PJx1) c2 hjx1
    refine va_getsN hx hb hG.nn hS hown (gz_fn4 hG _) (fun _ h => h) dX2_scaled_6 ?_
    refine lv_goto (tgt := 19) hx hb dX2_scaled_9 (by decide) ?_
    exact (hPJx1 _).1 hjx1 _ (lv_sub hl [] rfl)
