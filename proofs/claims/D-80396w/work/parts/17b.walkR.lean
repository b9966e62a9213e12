theorem hd_X1_up : yX1_up.cls ≠ "java/lang/invoke/MethodHandle" ∧ yX1_up.cls ≠ "java/lang/invoke/VarHandle" ∧ (parseMethodDescriptor yX1_up.desc).map (fun d => d.parameters.length) = some 1 := by decide +kernel
theorem hdF_up : (⟨"FloatClasses$Reals", "up", "(D)D"⟩ : MethodName).cls ≠ "java/lang/invoke/MethodHandle" ∧ (⟨"FloatClasses$Reals", "up", "(D)D"⟩ : MethodName).cls ≠ "java/lang/invoke/VarHandle" ∧ (parseMethodDescriptor (⟨"FloatClasses$Reals", "up", "(D)D"⟩ : MethodName).desc).map (fun d => d.parameters.length) = some 1 := by decide +kernel
def fX8_down_D (p1 : UInt64) : UInt64 := FP.dneg (fX1_up (FP.dneg p1))
def oX8_down_D (p1 : UInt64) : Prop := (oX1_up (FP.dneg p1))
set_option maxHeartbeats 4000000 in
set_option maxRecDepth 100000 in
theorem mX8_down_D (l : Launch) (D : va_G) (TY : Nat → ClassId) (h0 : Nat) (p1 : UInt64) (post : UInt64 → Prop) (hw : post (fX8_down_D p1)) (hok : oX8_down_D p1) : Met l yX8_down (ws_ yX8_down cX8_down 3 (Option.some Jvm.ClassFile.FieldType.double)) ({ frames := 3, cells := 0, slots := 0, locals := 60 }) (PR D TY [.ref h0, .double p1] [(h0, .inr (1, []))]) (vp_Sd post) 0 0 (fun _ => False) := by
  refine ofWF (cc := cX8_down) (maxL := 3) (ret := (Option.some Jvm.ClassFile.FieldType.double)) (plainFor_of_name (by decide)) rfl ?_
  intro p e s m args below meth c s₁ B hml hv
  obtain ⟨rfl, hP, hK, hG⟩ := hv
  have hx := B.exec
  have hb := B.bytes
  have hr := B.returns
  have hts0 := atoms_spec (ws := ws_ yX8_down cX8_down 3 (Option.some Jvm.ClassFile.FieldType.double)) B.pre
  have hts : ∀ w ∈ lw_all, w.before _ s = true := fun w h => hts0 w (List.mem_cons_of_mem _ h)
  have hown : s.vm.findClass RX8 = some m.cls := findClass_of_methodNamed B.named
  have hlocks := B.notSynchronized
  have hS : va_S (fun _ => False) s.heap s.heap [] := va_S.rf
  have hl := lv_entry ([.ref h0, .double p1]) (n := 3) (Nat.le_of_ble_eq_true rfl)
  rw [lg_entry_eq]
  generalize (lg_sl ([.ref h0, .double p1]) ++ List.replicate (3 - (lg_sl ([.ref h0, .double p1])).length) Slot.unset).toArray = ls at hl ⊢
  have hl : lv_has ls 3 [(0, .ref h0), (1, .double p1)] := hl
  unfold fX8_down_D at hw
  unfold oX8_down_D at hok
  refine lv_aload_n hx hb dX8_down_0 rfl (lv_at hl 0 rfl) ?_
  refine lv_dload_n hx hb dX8_down_1 rfl (lv_at hl 1 rfl) ?_
  refine lv_dneg hx hb dX8_down_2 ?_
  refine cFSd (v := fX1_up (FP.dneg p1)) (va_runF (As := [.double (FP.dneg p1)]) (rest := []) (hK.1 1 _ rfl).2 ⟨hx, hb, hml, hown, hts⟩ (mX1_up l D TY h0 (FP.dneg p1) (fun r => r = fX1_up (FP.dneg p1)) rfl hok) (va_cwF 1 hts (lw_F q363 q366 q368 q45 q370) rfl rfl rfl (gz_fw9 hG) hdF_up ⟨Nat.le_of_ble_eq_true rfl, Nat.le_of_ble_eq_true rfl⟩) (PR.V (q0 := 0) (ci := 1) hP [0] rfl hK hG hS rfl rfl) rfl rfl hl.1 rfl (lv_room (Nat.le_of_ble_eq_true rfl)) dX8_down_3 ⟨Nat.le_of_ble_eq_true rfl, Nat.le_of_ble_eq_true rfl⟩) ?_
  refine lv_dneg hx hb dX8_down_8 ?_
  exact W.dret (v := FP.dneg (fX1_up (FP.dneg p1))) hx hb hr (fun t ht hW => ⟨_, rfl, hw, ht⟩) (fun q h => nomatch h) dX8_down_9

theorem hd_X2_up : yX2_up.cls ≠ "java/lang/invoke/MethodHandle" ∧ yX2_up.cls ≠ "java/lang/invoke/VarHandle" ∧ (parseMethodDescriptor yX2_up.desc).map (fun d => d.parameters.length) = some 1 := by decide +kernel
def fX8_down_F (p1 : UInt64) : UInt64 := FP.dneg (fX2_up (FP.dneg p1))
def oX8_down_F (p1 : UInt64) : Prop := (oX2_up (FP.dneg p1))
set_option maxHeartbeats 4000000 in
set_option maxRecDepth 100000 in
theorem mX8_down_F (l : Launch) (D : va_G) (TY : Nat → ClassId) (h0 : Nat) (p1 : UInt64) (post : UInt64 → Prop) (hw : post (fX8_down_F p1)) (hok : oX8_down_F p1) : Met l yX8_down (ws_ yX8_down cX8_down 3 (Option.some Jvm.ClassFile.FieldType.double)) ({ frames := 3, cells := 0, slots := 0, locals := 58 }) (PR D TY [.ref h0, .double p1] [(h0, .inr (2, []))]) (vp_Sd post) 0 0 (fun _ => False) := by
  refine ofWF (cc := cX8_down) (maxL := 3) (ret := (Option.some Jvm.ClassFile.FieldType.double)) (plainFor_of_name (by decide)) rfl ?_
  intro p e s m args below meth c s₁ B hml hv
  obtain ⟨rfl, hP, hK, hG⟩ := hv
  have hx := B.exec
  have hb := B.bytes
  have hr := B.returns
  have hts0 := atoms_spec (ws := ws_ yX8_down cX8_down 3 (Option.some Jvm.ClassFile.FieldType.double)) B.pre
  have hts : ∀ w ∈ lw_all, w.before _ s = true := fun w h => hts0 w (List.mem_cons_of_mem _ h)
  have hown : s.vm.findClass RX8 = some m.cls := findClass_of_methodNamed B.named
  have hlocks := B.notSynchronized
  have hS : va_S (fun _ => False) s.heap s.heap [] := va_S.rf
  have hl := lv_entry ([.ref h0, .double p1]) (n := 3) (Nat.le_of_ble_eq_true rfl)
  rw [lg_entry_eq]
  generalize (lg_sl ([.ref h0, .double p1]) ++ List.replicate (3 - (lg_sl ([.ref h0, .double p1])).length) Slot.unset).toArray = ls at hl ⊢
  have hl : lv_has ls 3 [(0, .ref h0), (1, .double p1)] := hl
  unfold fX8_down_F at hw
  unfold oX8_down_F at hok
  refine lv_aload_n hx hb dX8_down_0 rfl (lv_at hl 0 rfl) ?_
  refine lv_dload_n hx hb dX8_down_1 rfl (lv_at hl 1 rfl) ?_
  refine lv_dneg hx hb dX8_down_2 ?_
  refine cFSd (v := fX2_up (FP.dneg p1)) (va_runF (As := [.double (FP.dneg p1)]) (rest := []) (hK.1 2 _ rfl).2 ⟨hx, hb, hml, hown, hts⟩ (mX2_up l D TY h0 (FP.dneg p1) (fun r => r = fX2_up (FP.dneg p1)) rfl hok) (va_cwF 1 hts (lw_F q363 q376 q378 q46 q380) rfl rfl rfl (gz_fw30 hG) hdF_up ⟨Nat.le_of_ble_eq_true rfl, Nat.le_of_ble_eq_true rfl⟩) (PR.V (q0 := 0) (ci := 2) hP [0] rfl hK hG hS rfl rfl) rfl rfl hl.1 rfl (lv_room (Nat.le_of_ble_eq_true rfl)) dX8_down_3 ⟨Nat.le_of_ble_eq_true rfl, Nat.le_of_ble_eq_true rfl⟩) ?_
  refine lv_dneg hx hb dX8_down_8 ?_
  exact W.dret (v := FP.dneg (fX2_up (FP.dneg p1))) hx hb hr (fun t ht hW => ⟨_, rfl, hw, ht⟩) (fun q h => nomatch h) dX8_down_9

def fX8_isFinite_D (p1 : UInt64) : Int32 := lt_ (if Deq p1 p1 then (if (fX0_isEndless p1) = 0 then 1 else 0) else 0) (fun x1 : Int32 => x1)
theorem zb_fX8_isFinite_D (p1 : UInt64) : Zb (fX8_isFinite_D p1) := by
  unfold fX8_isFinite_D
  exact (zb_ite (zb_ite rfl rfl) rfl)
set_option maxHeartbeats 4000000 in
set_option maxRecDepth 100000 in
theorem mX8_isFinite_D (l : Launch) (D : va_G) (TY : Nat → ClassId) (h0 : Nat) (p1 : UInt64) (post : Int32 → Prop) (hw : post (fX8_isFinite_D p1)) : Met l yX8_isFinite (ws_ yX8_isFinite cX8_isFinite 3 (Option.some Jvm.ClassFile.FieldType.boolean)) ({ frames := 1, cells := 0, slots := 0, locals := 21 }) (PR D TY [.ref h0, .double p1] [(h0, .inr (1, []))]) (vp_Si post) 0 0 (fun _ => False) := by
  refine ofWF (cc := cX8_isFinite) (maxL := 3) (ret := (Option.some Jvm.ClassFile.FieldType.boolean)) (plainFor_of_name (by decide)) rfl ?_
  intro p e s m args below meth c s₁ B hml hv
  obtain ⟨rfl, hP, hK, hG⟩ := hv
  have hx := B.exec
  have hb := B.bytes
  have hr := B.returns
  have hts0 := atoms_spec (ws := ws_ yX8_isFinite cX8_isFinite 3 (Option.some Jvm.ClassFile.FieldType.boolean)) B.pre
  have hts : ∀ w ∈ lw_all, w.before _ s = true := fun w h => hts0 w (List.mem_cons_of_mem _ h)
  have hown : s.vm.findClass RX8 = some m.cls := findClass_of_methodNamed B.named
  have hlocks := B.notSynchronized
  have hS : va_S (fun _ => False) s.heap s.heap [] := va_S.rf
  have hl := lv_entry ([.ref h0, .double p1]) (n := 3) (Nat.le_of_ble_eq_true rfl)
  rw [lg_entry_eq]
  generalize (lg_sl ([.ref h0, .double p1]) ++ List.replicate (3 - (lg_sl ([.ref h0, .double p1])).length) Slot.unset).toArray = ls at hl ⊢
  have hl : lv_has ls 3 [(0, .ref h0), (1, .double p1)] := hl
  unfold fX8_isFinite_D at hw
  refine lv_dload_n hx hb dX8_isFinite_0 rfl (lv_at hl 1 rfl) ?_
  refine lv_dload_n hx hb dX8_isFinite_1 rfl (lv_at hl 1 rfl) ?_
  obtain ⟨PJx1, hPJx1⟩ : ∃ P : Int32 → Prop, ∀ x1 : Int32, P x1 ↔ ∀ ls : Array Slot, lv_has ls 3 [] → W p l e (headSpec (ws_ yX8_isFinite cX8_isFinite 3 (Option.some Jvm.ClassFile.FieldType.boolean)) ({ frames := 1, cells := 0, slots := 0, locals := 21 })).room s m ([.ref h0, .double p1] : List Value).toArray below meth c s.heap ([]) 0 0 (MQ below (vp_Si post) ([.ref h0, .double p1] : List Value).toArray s 0 0 (fun _ => False)) (F0 m 18 ls [.int x1]) := ⟨_, fun _ => Iff.rfl⟩
  have hjx1 : ∀ x1 : Int32, x1 = (if Deq p1 p1 then (if (fX0_isEndless p1) = 0 then 1 else 0) else 0) → PJx1 x1 := by
    intro x1 ex1
    rw [hPJx1]
    intro ls hl
    replace hw := pf_let (P := post) hw x1 ex1
    exact W.zret (v := x1) hx hb hr (by rw [ex1]; exact (zb_ite (zb_ite rfl rfl) rfl)) (fun t ht hW => ⟨_, rfl, hw, ht⟩) (fun q h => nomatch h) dX8_isFinite_18
  replace hjx1 := hjx1 _ rfl
  refine lx_dlne (tgt := 17) hx hb dX8_isFinite_2 dX8_isFinite_3 (by decide) (fun c2 => ?_) (fun c2 => ?_)
  · replace hjx1 := pf_f (P := PJx1) c2 hjx1
    refine lv_iconst (v := 0) hx hb dX8_isFinite_17 (by decide) ?_
    exact (hPJx1 _).1 hjx1 _ (lv_sub hl [] rfl)
  · replace hjx1 := pf_t (P := PJx1) c2 hjx1
    refine lv_dload_n hx hb dX8_isFinite_6 rfl (lv_at hl 1 rfl) ?_
    refine cSi (v := fX0_isEndless p1) (run_weak (va_runSN (As := [.double p1]) (rest := []) ⟨hx, hb, hml, hown, hts⟩ (mX0_isEndless l D TY p1 (fun r => r = fX0_isEndless p1) rfl) ⟨va_cnB 1 hts (lw_meth q137) rfl rfl rfl (gz_mn6 hG) (hts _ q44) hd_X0_isEndless ⟨Nat.le_of_ble_eq_true rfl, Nat.le_of_ble_eq_true rfl⟩, (hts _ q136), trivial⟩ (PR.S hP [] rfl hK hG hS) rfl rfl hl.1 rfl (lv_room (Nat.le_of_ble_eq_true rfl)) dX8_isFinite_7 ⟨Nat.le_of_ble_eq_true rfl, Nat.le_of_ble_eq_true rfl⟩)) ?_
    refine lv_if_ne (tgt := 17) hx hb dX8_isFinite_10 (by decide) (fun c3 => ?_) (fun c3 => ?_)
    · replace hjx1 := pf_f (P := PJx1) c3 hjx1
      refine lv_iconst (v := 0) hx hb dX8_isFinite_17 (by decide) ?_
      exact (hPJx1 _).1 hjx1 _ (lv_sub hl [] rfl)
    · replace hjx1 := pf_t (P := PJx1) c3 hjx1
      refine lv_iconst (v := 1) hx hb dX8_isFinite_13 (by decide) ?_
      refine lv_goto (tgt := 18) hx hb dX8_isFinite_14 (by decide) ?_
      exact (hPJx1 _).1 hjx1 _ (lv_sub hl [] rfl)

def fX8_isFinite_F (p1 : UInt64) : Int32 := lt_ (if Deq p1 p1 then (if (fX0_isEndless p1) = 0 then 1 else 0) else 0) (fun x1 : Int32 => x1)
theorem zb_fX8_isFinite_F (p1 : UInt64) : Zb (fX8_isFinite_F p1) := by
  unfold fX8_isFinite_F
  exact (zb_ite (zb_ite rfl rfl) rfl)
set_option maxHeartbeats 4000000 in
set_option maxRecDepth 100000 in
theorem mX8_isFinite_F (l : Launch) (D : va_G) (TY : Nat → ClassId) (h0 : Nat) (p1 : UInt64) (post : Int32 → Prop) (hw : post (fX8_isFinite_F p1)) : Met l yX8_isFinite (ws_ yX8_isFinite cX8_isFinite 3 (Option.some Jvm.ClassFile.FieldType.boolean)) ({ frames := 1, cells := 0, slots := 0, locals := 21 }) (PR D TY [.ref h0, .double p1] [(h0, .inr (2, []))]) (vp_Si post) 0 0 (fun _ => False) := by
  refine ofWF (cc := cX8_isFinite) (maxL := 3) (ret := (Option.some Jvm.ClassFile.FieldType.boolean)) (plainFor_of_name (by decide)) rfl ?_
  intro p e s m args below meth c s₁ B hml hv
  obtain ⟨rfl, hP, hK, hG⟩ := hv
  have hx := B.exec
  have hb := B.bytes
  have hr := B.returns
  have hts0 := atoms_spec (ws := ws_ yX8_isFinite cX8_isFinite 3 (Option.some Jvm.ClassFile.FieldType.boolean)) B.pre
  have hts : ∀ w ∈ lw_all, w.before _ s = true := fun w h => hts0 w (List.mem_cons_of_mem _ h)
  have hown : s.vm.findClass RX8 = some m.cls := findClass_of_methodNamed B.named
  have hlocks := B.notSynchronized
  have hS : va_S (fun _ => False) s.heap s.heap [] := va_S.rf
  have hl := lv_entry ([.ref h0, .double p1]) (n := 3) (Nat.le_of_ble_eq_true rfl)
  rw [lg_entry_eq]
  generalize (lg_sl ([.ref h0, .double p1]) ++ List.replicate (3 - (lg_sl ([.ref h0, .double p1])).length) Slot.unset).toArray = ls at hl ⊢
  have hl : lv_has ls 3 [(0, .ref h0), (1, .double p1)] := hl
  unfold fX8_isFinite_F at hw
  refine lv_dload_n hx hb dX8_isFinite_0 rfl (lv_at hl 1 rfl) ?_
  refine lv_dload_n hx hb dX8_isFinite_1 rfl (lv_at hl 1 rfl) ?_
  obtain ⟨PJx1, hPJx1⟩ : ∃ P : Int32 → Prop, ∀ x1 : Int32, P x1 ↔ ∀ ls : Array Slot, lv_has ls 3 [] → W p l e (headSpec (ws_ yX8_isFinite cX8_isFinite 3 (Option.some Jvm.ClassFile.FieldType.boolean)) ({ frames := 1, cells := 0, slots := 0, locals := 21 })).room s m ([.ref h0, .double p1] : List Value).toArray below meth c s.heap ([]) 0 0 (MQ below (vp_Si post) ([.ref h0, .double p1] : List Value).toArray s 0 0 (fun _ => False)) (F0 m 18 ls [.int x1]) := ⟨_, fun _ => Iff.rfl⟩
  have hjx1 : ∀ x1 : Int32, x1 = (if Deq p1 p1 then (if (fX0_isEndless p1) = 0 then 1 else 0) else 0) → PJx1 x1 := by
    intro x1 ex1
    rw [hPJx1]
    intro ls hl
    replace hw := pf_let (P := post) hw x1 ex1
    exact W.zret (v := x1) hx hb hr (by rw [ex1]; exact (zb_ite (zb_ite rfl rfl) rfl)) (fun t ht hW => ⟨_, rfl, hw, ht⟩) (fun q h => nomatch h) dX8_isFinite_18
  replace hjx1 := hjx1 _ rfl
  refine lx_dlne (tgt := 17) hx hb dX8_isFinite_2 dX8_isFinite_3 (by decide) (fun c2 => ?_) (fun c2 => ?_)
  · replace hjx1 := pf_f (P := PJx1) c2 hjx1
    refine lv_iconst (v := 0) hx hb dX8_isFinite_17 (by decide) ?_
    exact (hPJx1 _).1 hjx1 _ (lv_sub hl [] rfl)
  · replace hjx1 := pf_t (P := PJx1) c2 hjx1
    refine lv_dload_n hx hb dX8_isFinite_6 rfl (lv_at hl 1 rfl) ?_
    refine cSi (v := fX0_isEndless p1) (run_weak (va_runSN (As := [.double p1]) (rest := []) ⟨hx, hb, hml, hown, hts⟩ (mX0_isEndless l D TY p1 (fun r => r = fX0_isEndless p1) rfl) ⟨va_cnB 1 hts (lw_meth q137) rfl rfl rfl (gz_mn6 hG) (hts _ q44) hd_X0_isEndless ⟨Nat.le_of_ble_eq_true rfl, Nat.le_of_ble_eq_true rfl⟩, (hts _ q136), trivial⟩ (PR.S hP [] rfl hK hG hS) rfl rfl hl.1 rfl (lv_room (Nat.le_of_ble_eq_true rfl)) dX8_isFinite_7 ⟨Nat.le_of_ble_eq_true rfl, Nat.le_of_ble_eq_true rfl⟩)) ?_
    refine lv_if_ne (tgt := 17) hx hb dX8_isFinite_10 (by decide) (fun c3 => ?_) (fun c3 => ?_)
    · replace hjx1 := pf_f (P := PJx1) c3 hjx1
      refine lv_iconst (v := 0) hx hb dX8_isFinite_17 (by decide) ?_
      exact (hPJx1 _).1 hjx1 _ (lv_sub hl [] rfl)
    · replace hjx1 := pf_t (P := PJx1) c3 hjx1
      refine lv_iconst (v := 1) hx hb dX8_isFinite_13 (by decide) ?_
      refine lv_goto (tgt := 18) hx hb dX8_isFinite_14 (by decide) ?_
      exact (hPJx1 _).1 hjx1 _ (lv_sub hl [] rfl)

theorem hd_X1_precision : yX1_precision.cls ≠ "java/lang/invoke/MethodHandle" ∧ yX1_precision.cls ≠ "java/lang/invoke/VarHandle" ∧ (parseMethodDescriptor yX1_precision.desc).map (fun d => d.parameters.length) = some 0 := by decide +kernel
theorem hdF_precision : (⟨"FloatClasses$Reals", "precision", "()I"⟩ : MethodName).cls ≠ "java/lang/invoke/MethodHandle" ∧ (⟨"FloatClasses$Reals", "precision", "()I"⟩ : MethodName).cls ≠ "java/lang/invoke/VarHandle" ∧ (parseMethodDescriptor (⟨"FloatClasses$Reals", "precision", "()I"⟩ : MethodName).desc).map (fun d => d.parameters.length) = some 0 := by decide +kernel
def fX8_power2_D (p1 : UInt64) : Int32 := ((fX0_exponentOf p1) - fX1_precision) + 1
def oX8_power2_D (p1 : UInt64) : Prop := (oX0_exponentOf p1)
set_option maxHeartbeats 4000000 in
set_option maxRecDepth 100000 in
theorem mX8_power2_D (l : Launch) (D : va_G) (TY : Nat → ClassId) (h0 : Nat) (p1 : UInt64) (post : Int32 → Prop) (hw : post (fX8_power2_D p1)) (hok : oX8_power2_D p1) : Met l yX8_power2 (ws_ yX8_power2 cX8_power2 3 (Option.some Jvm.ClassFile.FieldType.int)) ({ frames := 4, cells := 0, slots := 0, locals := 85 }) (PR D TY [.ref h0, .double p1] [(h0, .inr (1, []))]) (vp_Si post) 0 0 (fun _ => False) := by
  refine ofWF (cc := cX8_power2) (maxL := 3) (ret := (Option.some Jvm.ClassFile.FieldType.int)) (plainFor_of_name (by decide)) rfl ?_
  intro p e s m args below meth c s₁ B hml hv
  obtain ⟨rfl, hP, hK, hG⟩ := hv
  have hx := B.exec
  have hb := B.bytes
  have hr := B.returns
  have hts0 := atoms_spec (ws := ws_ yX8_power2 cX8_power2 3 (Option.some Jvm.ClassFile.FieldType.int)) B.pre
  have hts : ∀ w ∈ lw_all, w.before _ s = true := fun w h => hts0 w (List.mem_cons_of_mem _ h)
  have hown : s.vm.findClass RX8 = some m.cls := findClass_of_methodNamed B.named
  have hlocks := B.notSynchronized
  have hS : va_S (fun _ => False) s.heap s.heap [] := va_S.rf
  have hl := lv_entry ([.ref h0, .double p1]) (n := 3) (Nat.le_of_ble_eq_true rfl)
  rw [lg_entry_eq]
  generalize (lg_sl ([.ref h0, .double p1]) ++ List.replicate (3 - (lg_sl ([.ref h0, .double p1])).length) Slot.unset).toArray = ls at hl ⊢
  have hl : lv_has ls 3 [(0, .ref h0), (1, .double p1)] := hl
  unfold fX8_power2_D at hw
  unfold oX8_power2_D at hok
  refine lv_dload_n hx hb dX8_power2_0 rfl (lv_at hl 1 rfl) ?_
  refine cSi (v := fX0_exponentOf p1) (run_weak (va_runSN (As := [.double p1]) (rest := []) ⟨hx, hb, hml, hown, hts⟩ (mX0_exponentOf l D TY p1 (fun r => r = fX0_exponentOf p1) rfl hok) ⟨va_cnB 1 hts (lw_meth q151) rfl rfl rfl (gz_mn7 hG) (hts _ q44) hd_X0_exponentOf ⟨Nat.le_of_ble_eq_true rfl, Nat.le_of_ble_eq_true rfl⟩, (hts _ q150), trivial⟩ (PR.S hP [] rfl hK hG hS) rfl rfl hl.1 rfl (lv_room (Nat.le_of_ble_eq_true rfl)) dX8_power2_1 ⟨Nat.le_of_ble_eq_true rfl, Nat.le_of_ble_eq_true rfl⟩)) ?_
  refine lv_aload_n hx hb dX8_power2_4 rfl (lv_at hl 0 rfl) ?_
  refine cFSi (v := fX1_precision) (va_runF (As := []) (rest := [.int (fX0_exponentOf p1)]) (hK.1 1 _ rfl).2 ⟨hx, hb, hml, hown, hts⟩ (mX1_precision l D TY h0 (fun r => r = fX1_precision) rfl) (va_cwF 0 hts (lw_F q181 q184 q186 q45 q188) rfl rfl rfl (gz_fw3 hG) hdF_precision ⟨Nat.le_of_ble_eq_true rfl, Nat.le_of_ble_eq_true rfl⟩) (PR.V (q0 := 0) (ci := 1) hP [0] rfl hK hG hS rfl rfl) rfl rfl hl.1 rfl (lv_room (Nat.le_of_ble_eq_true rfl)) dX8_power2_5 ⟨Nat.le_of_ble_eq_true rfl, Nat.le_of_ble_eq_true rfl⟩) ?_
  refine lv_isub hx hb dX8_power2_10 ?_
  refine lv_iconst (v := 1) hx hb dX8_power2_11 (by decide) ?_
  refine lv_iadd hx hb dX8_power2_12 ?_
  exact W.iret (v := ((fX0_exponentOf p1) - fX1_precision) + 1) hx hb hr (fun t ht hW => ⟨_, rfl, hw, ht⟩) (fun q h => nomatch h) dX8_power2_13

theorem hd_X2_precision : yX2_precision.cls ≠ "java/lang/invoke/MethodHandle" ∧ yX2_precision.cls ≠ "java/lang/invoke/VarHandle" ∧ (parseMethodDescriptor yX2_precision.desc).map (fun d => d.parameters.length) = some 0 := by decide +kernel
def fX8_power2_F (p1 : UInt64) : Int32 := ((fX0_exponentOf p1) - fX2_precision) + 1
def oX8_power2_F (p1 : UInt64) : Prop := (oX0_exponentOf p1)
set_option maxHeartbeats 4000000 in
set_option maxRecDepth 100000 in
theorem mX8_power2_F (l : Launch) (D : va_G) (TY : Nat → ClassId) (h0 : Nat) (p1 : UInt64) (post : Int32 → Prop) (hw : post (fX8_power2_F p1)) (hok : oX8_power2_F p1) : Met l yX8_power2 (ws_ yX8_power2 cX8_power2 3 (Option.some Jvm.ClassFile.FieldType.int)) ({ frames := 4, cells := 0, slots := 0, locals := 85 }) (PR D TY [.ref h0, .double p1] [(h0, .inr (2, []))]) (vp_Si post) 0 0 (fun _ => False) := by
  refine ofWF (cc := cX8_power2) (maxL := 3) (ret := (Option.some Jvm.ClassFile.FieldType.int)) (plainFor_of_name (by decide)) rfl ?_
  intro p e s m args below meth c s₁ B hml hv
  obtain ⟨rfl, hP, hK, hG⟩ := hv
  have hx := B.exec
  have hb := B.bytes
  have hr := B.returns
  have hts0 := atoms_spec (ws := ws_ yX8_power2 cX8_power2 3 (Option.some Jvm.ClassFile.FieldType.int)) B.pre
  have hts : ∀ w ∈ lw_all, w.before _ s = true := fun w h => hts0 w (List.mem_cons_of_mem _ h)
  have hown : s.vm.findClass RX8 = some m.cls := findClass_of_methodNamed B.named
  have hlocks := B.notSynchronized
  have hS : va_S (fun _ => False) s.heap s.heap [] := va_S.rf
  have hl := lv_entry ([.ref h0, .double p1]) (n := 3) (Nat.le_of_ble_eq_true rfl)
  rw [lg_entry_eq]
  generalize (lg_sl ([.ref h0, .double p1]) ++ List.replicate (3 - (lg_sl ([.ref h0, .double p1])).length) Slot.unset).toArray = ls at hl ⊢
  have hl : lv_has ls 3 [(0, .ref h0), (1, .double p1)] := hl
  unfold fX8_power2_F at hw
  unfold oX8_power2_F at hok
  refine lv_dload_n hx hb dX8_power2_0 rfl (lv_at hl 1 rfl) ?_
  refine cSi (v := fX0_exponentOf p1) (run_weak (va_runSN (As := [.double p1]) (rest := []) ⟨hx, hb, hml, hown, hts⟩ (mX0_exponentOf l D TY p1 (fun r => r = fX0_exponentOf p1) rfl hok) ⟨va_cnB 1 hts (lw_meth q151) rfl rfl rfl (gz_mn7 hG) (hts _ q44) hd_X0_exponentOf ⟨Nat.le_of_ble_eq_true rfl, Nat.le_of_ble_eq_true rfl⟩, (hts _ q150), trivial⟩ (PR.S hP [] rfl hK hG hS) rfl rfl hl.1 rfl (lv_room (Nat.le_of_ble_eq_true rfl)) dX8_power2_1 ⟨Nat.le_of_ble_eq_true rfl, Nat.le_of_ble_eq_true rfl⟩)) ?_
  refine lv_aload_n hx hb dX8_power2_4 rfl (lv_at hl 0 rfl) ?_
  refine cFSi (v := fX2_precision) (va_runF (As := []) (rest := [.int (fX0_exponentOf p1)]) (hK.1 2 _ rfl).2 ⟨hx, hb, hml, hown, hts⟩ (mX2_precision l D TY h0 (fun r => r = fX2_precision) rfl) (va_cwF 0 hts (lw_F q181 q189 q191 q46 q193) rfl rfl rfl (gz_fw24 hG) hdF_precision ⟨Nat.le_of_ble_eq_true rfl, Nat.le_of_ble_eq_true rfl⟩) (PR.V (q0 := 0) (ci := 2) hP [0] rfl hK hG hS rfl rfl) rfl rfl hl.1 rfl (lv_room (Nat.le_of_ble_eq_true rfl)) dX8_power2_5 ⟨Nat.le_of_ble_eq_true rfl, Nat.le_of_ble_eq_true rfl⟩) ?_
  refine lv_isub hx hb dX8_power2_10 ?_
  refine lv_iconst (v := 1) hx hb dX8_power2_11 (by decide) ?_
  refine lv_iadd hx hb dX8_power2_12 ?_
  exact W.iret (v := ((fX0_exponentOf p1) - fX2_precision) + 1) hx hb hr (fun t ht hW => ⟨_, rfl, hw, ht⟩) (fun q h => nomatch h) dX8_power2_13

theorem hd_X1_least : yX1_least.cls ≠ "java/lang/invoke/MethodHandle" ∧ yX1_least.cls ≠ "java/lang/invoke/VarHandle" ∧ (parseMethodDescriptor yX1_least.desc).map (fun d => d.parameters.length) = some 0 := by decide +kernel
theorem hd_X8_isFinite : yX8_isFinite.cls ≠ "java/lang/invoke/MethodHandle" ∧ yX8_isFinite.cls ≠ "java/lang/invoke/VarHandle" ∧ (parseMethodDescriptor yX8_isFinite.desc).map (fun d => d.parameters.length) = some 1 := by decide +kernel
theorem hdF_by : (⟨"FloatClasses$Reals", "by", "(DI)D"⟩ : MethodName).cls ≠ "java/lang/invoke/MethodHandle" ∧ (⟨"FloatClasses$Reals", "by", "(DI)D"⟩ : MethodName).cls ≠ "java/lang/invoke/VarHandle" ∧ (parseMethodDescriptor (⟨"FloatClasses$Reals", "by", "(DI)D"⟩ : MethodName).desc).map (fun d => d.parameters.length) = some 2 := by decide +kernel
theorem hdF_least : (⟨"FloatClasses$Reals", "least", "()I"⟩ : MethodName).cls ≠ "java/lang/invoke/MethodHandle" ∧ (⟨"FloatClasses$Reals", "least", "()I"⟩ : MethodName).cls ≠ "java/lang/invoke/VarHandle" ∧ (parseMethodDescriptor (⟨"FloatClasses$Reals", "least", "()I"⟩ : MethodName).desc).map (fun d => d.parameters.length) = some 0 := by decide +kernel
def fX8_sort_D (p1 : UInt64) : Int32 := if Deq p1 p1 then (lt_ (if Dlt (csignD FP.dconst1 p1) FP.dconst0 then 8 else 0) (fun x2 : Int32 => lt_ (absD p1) (fun x4 : UInt64 => lt_ (if (fX8_isFinite_D p1) = 0 then 1 else (if Deq p1 FP.dconst0 then 2 else (if Dlt x4 (fX1_by FP.dconst1 ((fX1_least + fX1_precision) - 1)) then 3 else 4))) (fun x5 : Int32 => x2 + x5)))) else 0
def oX8_sort_D (p1 : UInt64) : Prop := ((Deq p1 p1) → ((vf_n64 p1)) ∧ (∀ x2 : Int32, x2 = (if Dlt (csignD FP.dconst1 p1) FP.dconst0 then 8 else 0) → ((vf_n64 p1)) ∧ (∀ x4 : UInt64, x4 = absD p1 → (((fX8_isFinite_D p1) = 0) → True) ∧ (¬ ((fX8_isFinite_D p1) = 0) → ((Deq p1 FP.dconst0) → True) ∧ (¬ (Deq p1 FP.dconst0) → (oX1_by FP.dconst1)))))) ∧ (¬ (Deq p1 p1) → True)
set_option maxHeartbeats 4000000 in
set_option maxRecDepth 100000 in
theorem mX8_sort_D (l : Launch) (D : va_G) (TY : Nat → ClassId) (h0 : Nat) (p1 : UInt64) (post : Int32 → Prop) (hw : post (fX8_sort_D p1)) (hok : oX8_sort_D p1) : Met l yX8_sort (ws_ yX8_sort cX8_sort 6 (Option.some Jvm.ClassFile.FieldType.int)) ({ frames := 4, cells := 0, slots := 0, locals := 86 }) (PR D TY [.ref h0, .double p1] [(h0, .inr (1, []))]) (vp_Si post) 0 0 (fun _ => False) := by
  refine ofWF (cc := cX8_sort) (maxL := 6) (ret := (Option.some Jvm.ClassFile.FieldType.int)) (plainFor_of_name (by decide)) rfl ?_
  intro p e s m args below meth c s₁ B hml hv
  obtain ⟨rfl, hP, hK, hG⟩ := hv
  have hx := B.exec
  have hb := B.bytes
  have hr := B.returns
  have hts0 := atoms_spec (ws := ws_ yX8_sort cX8_sort 6 (Option.some Jvm.ClassFile.FieldType.int)) B.pre
  have hts : ∀ w ∈ lw_all, w.before _ s = true := fun w h => hts0 w (List.mem_cons_of_mem _ h)
  have hown : s.vm.findClass RX8 = some m.cls := findClass_of_methodNamed B.named
  have hlocks := B.notSynchronized
  have hS : va_S (fun _ => False) s.heap s.heap [] := va_S.rf
  have hl := lv_entry ([.ref h0, .double p1]) (n := 6) (Nat.le_of_ble_eq_true rfl)
  rw [lg_entry_eq]
  generalize (lg_sl ([.ref h0, .double p1]) ++ List.replicate (6 - (lg_sl ([.ref h0, .double p1])).length) Slot.unset).toArray = ls at hl ⊢
  have hl : lv_has ls 6 [(0, .ref h0), (1, .double p1)] := hl
  unfold fX8_sort_D at hw
  unfold oX8_sort_D at hok
  refine lv_dload_n hx hb dX8_sort_0 rfl (lv_at hl 1 rfl) ?_
  refine lv_dload_n hx hb dX8_sort_1 rfl (lv_at hl 1 rfl) ?_
  refine lx_dleq (tgt := 8) hx hb dX8_sort_2 dX8_sort_3 (by decide) (fun c1 => ?_) (fun c1 => ?_)
  · replace hw := pf_t (P := post) c1 hw
    replace hok := hok.1 c1
    refine lv_dconst1 hx hb dX8_sort_8 ?_
    refine lv_dload_n hx hb dX8_sort_9 rfl (lv_at hl 1 rfl) ?_
    refine nv_csign hx hb (hml.trans hl.1.symm) hown (hts _ q328) (hts _ q329) (hts _ q330) (hts _ q54) hok.1 (Nat.le_of_ble_eq_true rfl) (Nat.le_of_ble_eq_true rfl) (Nat.le_of_ble_eq_true rfl) (Nat.le_of_ble_eq_true rfl) dX8_sort_10 ?_
    replace hok := hok.2
    refine lv_dconst0 hx hb dX8_sort_13 ?_
    obtain ⟨PJx2, hPJx2⟩ : ∃ P : Int32 → Prop, ∀ x2 : Int32, P x2 ↔ ∀ ls : Array Slot, lv_has ls 6 [(0, .ref h0), (1, .double p1)] → W p l e (headSpec (ws_ yX8_sort cX8_sort 6 (Option.some Jvm.ClassFile.FieldType.int)) ({ frames := 4, cells := 0, slots := 0, locals := 86 })).room s m ([.ref h0, .double p1] : List Value).toArray below meth c s.heap ([]) 0 0 (MQ below (vp_Si post) ([.ref h0, .double p1] : List Value).toArray s 0 0 (fun _ => False)) (F0 m 24 ls [.int x2]) := ⟨_, fun _ => Iff.rfl⟩
    have hjx2 : ∀ x2 : Int32, x2 = (if Dlt (csignD FP.dconst1 p1) FP.dconst0 then 8 else 0) → PJx2 x2 := by
      intro x2 ex2
      rw [hPJx2]
      intro ls hl
      replace hw := pf_let (P := post) hw x2 ex2
      replace hok := hok x2 ex2
      refine lv_istore_n (lv' := [(3, .int x2), (0, .ref h0), (1, .double p1)]) hx hb dX8_sort_24 rfl hl (by decide) rfl (fun ls hl => ?_)
      refine lv_dload_n hx hb dX8_sort_25 rfl (lv_at hl 2 rfl) ?_
      refine nv_absD hx hb (hml.trans hl.1.symm) hown (hts _ q333) (hts _ q334) (hts _ q335) (hts _ q54) hok.1 (Nat.le_of_ble_eq_true rfl) (Nat.le_of_ble_eq_true rfl) (Nat.le_of_ble_eq_true rfl) (Nat.le_of_ble_eq_true rfl) dX8_sort_26 ?_
      replace hok := hok.2
      refine lv_topd (fun x4 ex4 => ?_)
      replace hw := pf_let (P := post) hw x4 ex4
      replace hok := hok x4 ex4
      refine lv_dstore (lv' := [(4, .double x4), (3, .int x2), (0, .ref h0), (1, .double p1)]) hx hb dX8_sort_29 hl (by decide) rfl (fun ls hl => ?_)
      refine lv_iload_n hx hb dX8_sort_31 rfl (lv_at hl 1 rfl) ?_
      refine lv_aload_n hx hb dX8_sort_32 rfl (lv_at hl 2 rfl) ?_
      refine lv_dload_n hx hb dX8_sort_33 rfl (lv_at hl 3 rfl) ?_
      refine cFSi (v := fX8_isFinite_D p1) (runFD (As := [.double p1]) (rest := [.int x2]) (hK.1 1 _ rfl).2 ⟨hx, hb, hml, hown, hts⟩ (mX8_isFinite_D l D TY h0 p1 (fun r => r = fX8_isFinite_D p1) rfl) (lw_meth q134) rfl rfl rfl q337 q132 q1587 (gz_fw1 hG) (gz_df0 hG) hd_X8_isFinite ⟨Nat.le_of_ble_eq_true rfl, Nat.le_of_ble_eq_true rfl⟩ (PR.V (q0 := 0) (ci := 1) hP [0] rfl hK hG hS rfl rfl) rfl rfl hl.1 rfl (lv_room (Nat.le_of_ble_eq_true rfl)) dX8_sort_34 ⟨Nat.le_of_ble_eq_true rfl, Nat.le_of_ble_eq_true rfl⟩) ?_
      obtain ⟨PJx5, hPJx5⟩ : ∃ P : Int32 → Prop, ∀ x5 : Int32, P x5 ↔ ∀ ls : Array Slot, lv_has ls 6 [] → W p l e (headSpec (ws_ yX8_sort cX8_sort 6 (Option.some Jvm.ClassFile.FieldType.int)) ({ frames := 4, cells := 0, slots := 0, locals := 86 })).room s m ([.ref h0, .double p1] : List Value).toArray below meth c s.heap ([]) 0 0 (MQ below (vp_Si post) ([.ref h0, .double p1] : List Value).toArray s 0 0 (fun _ => False)) (F0 m 89 ls [.int x5, .int x2]) := ⟨_, fun _ => Iff.rfl⟩
      have hox5 := hok
      have hjx5 : ∀ x5 : Int32, x5 = (if (fX8_isFinite_D p1) = 0 then 1 else (if Deq p1 FP.dconst0 then 2 else (if Dlt x4 (fX1_by FP.dconst1 ((fX1_least + fX1_precision) - 1)) then 3 else 4))) → PJx5 x5 := by
        intro x5 ex5
        rw [hPJx5]
        intro ls hl
        replace hw := pf_let (P := post) hw x5 ex5
        refine lv_iadd hx hb dX8_sort_89 ?_
        exact W.iret (v := x2 + x5) hx hb hr (fun t ht hW => ⟨_, rfl, hw, ht⟩) (fun q h => nomatch h) dX8_sort_90
      replace hjx5 := hjx5 _ rfl
      refine lv_if_ne (tgt := 46) hx hb dX8_sort_39 (by decide) (fun c6 => ?_) (fun c6 => ?_)
      · replace hjx5 := pf_f (P := PJx5) c6 hjx5
        replace hox5 := hox5.2 c6
        refine lv_dload_n hx hb dX8_sort_46 rfl (lv_at hl 3 rfl) ?_
        refine lv_dconst0 hx hb dX8_sort_47 ?_
        refine lx_dlne (tgt := 56) hx hb dX8_sort_48 dX8_sort_49 (by decide) (fun c7 => ?_) (fun c7 => ?_)
        · replace hjx5 := pf_f (P := PJx5) c7 hjx5
          replace hox5 := hox5.2 c7
          refine lv_dload hx hb dX8_sort_56 (lv_at hl 0 rfl) ?_
          refine lv_aload_n hx hb dX8_sort_58 rfl (lv_at hl 2 rfl) ?_
          refine lv_dconst1 hx hb dX8_sort_59 ?_
          refine lv_aload_n hx hb dX8_sort_60 rfl (lv_at hl 2 rfl) ?_
          refine cFSi (v := fX1_least) (va_runF (As := []) (rest := [.double FP.dconst1, .ref h0, .double x4, .int x2]) (hK.1 1 _ rfl).2 ⟨hx, hb, hml, hown, hts⟩ (mX1_least l D TY h0 (fun r => r = fX1_least) rfl) (va_cwF 0 hts (lw_F q339 q219 q221 q45 q223) rfl rfl rfl (gz_fw4 hG) hdF_least ⟨Nat.le_of_ble_eq_true rfl, Nat.le_of_ble_eq_true rfl⟩) (PR.V (q0 := 0) (ci := 1) hP [0] rfl hK hG hS rfl rfl) rfl rfl hl.1 rfl (lv_room (Nat.le_of_ble_eq_true rfl)) dX8_sort_61 ⟨Nat.le_of_ble_eq_true rfl, Nat.le_of_ble_eq_true rfl⟩) ?_
          refine lv_aload_n hx hb dX8_sort_66 rfl (lv_at hl 2 rfl) ?_
          refine cFSi (v := fX1_precision) (va_runF (As := []) (rest := [.int fX1_least, .double FP.dconst1, .ref h0, .double x4, .int x2]) (hK.1 1 _ rfl).2 ⟨hx, hb, hml, hown, hts⟩ (mX1_precision l D TY h0 (fun r => r = fX1_precision) rfl) (va_cwF 0 hts (lw_F q181 q184 q186 q45 q188) rfl rfl rfl (gz_fw3 hG) hdF_precision ⟨Nat.le_of_ble_eq_true rfl, Nat.le_of_ble_eq_true rfl⟩) (PR.V (q0 := 0) (ci := 1) hP [0] rfl hK hG hS rfl rfl) rfl rfl hl.1 rfl (lv_room (Nat.le_of_ble_eq_true rfl)) dX8_sort_67 ⟨Nat.le_of_ble_eq_true rfl, Nat.le_of_ble_eq_true rfl⟩) ?_
          refine lv_iadd hx hb dX8_sort_72 ?_
          refine lv_iconst (v := 1) hx hb dX8_sort_73 (by decide) ?_
          refine lv_isub hx hb dX8_sort_74 ?_
          refine cFSd (v := fX1_by FP.dconst1 ((fX1_least + fX1_precision) - 1)) (va_runF (As := [.double FP.dconst1, .int ((fX1_least + fX1_precision) - 1)]) (rest := [.double x4, .int x2]) (hK.1 1 _ rfl).2 ⟨hx, hb, hml, hown, hts⟩ (mX1_by l D TY h0 FP.dconst1 ((fX1_least + fX1_precision) - 1) (fun r => r = fX1_by FP.dconst1 ((fX1_least + fX1_precision) - 1)) rfl hox5) (va_cwF 2 hts (lw_F q341 q238 q240 q45 q242) rfl rfl rfl (gz_fw5 hG) hdF_by ⟨Nat.le_of_ble_eq_true rfl, Nat.le_of_ble_eq_true rfl⟩) (PR.V (q0 := 0) (ci := 1) hP [0] rfl hK hG hS rfl rfl) rfl rfl hl.1 rfl (lv_room (Nat.le_of_ble_eq_true rfl)) dX8_sort_75 ⟨Nat.le_of_ble_eq_true rfl, Nat.le_of_ble_eq_true rfl⟩) ?_
          refine lx_dgge (tgt := 88) hx hb dX8_sort_80 dX8_sort_81 (by decide) (fun c8 => ?_) (fun c8 => ?_)
          · replace hjx5 := pf_f (P := PJx5) c8 hjx5
            refine lv_iconst (v := 4) hx hb dX8_sort_88 (by decide) ?_
            exact (hPJx5 _).1 hjx5 _ (lv_sub hl [] rfl)
          · replace hjx5 := pf_t (P := PJx5) c8 hjx5
            refine lv_iconst (v := 3) hx hb dX8_sort_84 (by decide) ?_
            refine lv_goto (tgt := 89) hx hb dX8_sort_85 (by decide) ?_
            exact (hPJx5 _).1 hjx5 _ (lv_sub hl [] rfl)
        · replace hjx5 := pf_t (P := PJx5) c7 hjx5
          refine lv_iconst (v := 2) hx hb dX8_sort_52 (by decide) ?_
          refine lv_goto (tgt := 89) hx hb dX8_sort_53 (by decide) ?_
          exact (hPJx5 _).1 hjx5 _ (lv_sub hl [] rfl)
      · replace hjx5 := pf_t (P := PJx5) c6 hjx5
        refine lv_iconst (v := 1) hx hb dX8_sort_42 (by decide) ?_
        refine lv_goto (tgt := 89) hx hb dX8_sort_43 (by decide) ?_
        exact (hPJx5 _).1 hjx5 _ (lv_sub hl [] rfl)
    replace hjx2 := hjx2 _ rfl
    refine lx_dgge (tgt := 23) hx hb dX8_sort_14 dX8_sort_15 (by decide) (fun c3 => ?_) (fun c3 => ?_)
    · replace hjx2 := pf_f (P := PJx2) c3 hjx2
      refine lv_iconst (v := 0) hx hb dX8_sort_23 (by decide) ?_
      exact (hPJx2 _).1 hjx2 _ (lv_sub hl [0, 1] rfl)
    · replace hjx2 := pf_t (P := PJx2) c3 hjx2
      refine lv_bipush (v := 8) hx hb dX8_sort_18 (by decide) ?_
      refine lv_goto (tgt := 24) hx hb dX8_sort_20 (by decide) ?_
      exact (hPJx2 _).1 hjx2 _ (lv_sub hl [0, 1] rfl)
  · replace hw := pf_f (P := post) c1 hw
    refine lv_iconst (v := 0) hx hb dX8_sort_6 (by decide) ?_
    exact W.iret (v := 0) hx hb hr (fun t ht hW => ⟨_, rfl, hw, ht⟩) (fun q h => nomatch h) dX8_sort_7

theorem hd_X2_by : yX2_by.cls ≠ "java/lang/invoke/MethodHandle" ∧ yX2_by.cls ≠ "java/lang/invoke/VarHandle" ∧ (parseMethodDescriptor yX2_by.desc).map (fun d => d.parameters.length) = some 2 := by decide +kernel
theorem hd_X2_least : yX2_least.cls ≠ "java/lang/invoke/MethodHandle" ∧ yX2_least.cls ≠ "java/lang/invoke/VarHandle" ∧ (parseMethodDescriptor yX2_least.desc).map (fun d => d.parameters.length) = some 0 := by decide +kernel
def fX8_sort_F (p1 : UInt64) : Int32 := if Deq p1 p1 then (lt_ (if Dlt (csignD FP.dconst1 p1) FP.dconst0 then 8 else 0) (fun x2 : Int32 => lt_ (absD p1) (fun x4 : UInt64 => lt_ (if (fX8_isFinite_F p1) = 0 then 1 else (if Deq p1 FP.dconst0 then 2 else (if Dlt x4 (fX2_by FP.dconst1 ((fX2_least + fX2_precision) - 1)) then 3 else 4))) (fun x5 : Int32 => x2 + x5)))) else 0
def oX8_sort_F (p1 : UInt64) : Prop := ((Deq p1 p1) → ((vf_n64 p1)) ∧ (∀ x2 : Int32, x2 = (if Dlt (csignD FP.dconst1 p1) FP.dconst0 then 8 else 0) → ((vf_n64 p1)) ∧ (∀ x4 : UInt64, x4 = absD p1 → (((fX8_isFinite_F p1) = 0) → True) ∧ (¬ ((fX8_isFinite_F p1) = 0) → ((Deq p1 FP.dconst0) → True) ∧ (¬ (Deq p1 FP.dconst0) → (oX2_by FP.dconst1 ((fX2_least + fX2_precision) - 1))))))) ∧ (¬ (Deq p1 p1) → True)
set_option maxHeartbeats 4000000 in
set_option maxRecDepth 100000 in
theorem mX8_sort_F (l : Launch) (D : va_G) (TY : Nat → ClassId) (h0 : Nat) (p1 : UInt64) (post : Int32 → Prop) (hw : post (fX8_sort_F p1)) (hok : oX8_sort_F p1) : Met l yX8_sort (ws_ yX8_sort cX8_sort 6 (Option.some Jvm.ClassFile.FieldType.int)) ({ frames := 5, cells := 0, slots := 0, locals := 109 }) (PR D TY [.ref h0, .double p1] [(h0, .inr (2, []))]) (vp_Si post) 0 0 (fun _ => False) := by
  refine ofWF (cc := cX8_sort) (maxL := 6) (ret := (Option.some Jvm.ClassFile.FieldType.int)) (plainFor_of_name (by decide)) rfl ?_
  intro p e s m args below meth c s₁ B hml hv
  obtain ⟨rfl, hP, hK, hG⟩ := hv
  have hx := B.exec
  have hb := B.bytes
  have hr := B.returns
  have hts0 := atoms_spec (ws := ws_ yX8_sort cX8_sort 6 (Option.some Jvm.ClassFile.FieldType.int)) B.pre
  have hts : ∀ w ∈ lw_all, w.before _ s = true := fun w h => hts0 w (List.mem_cons_of_mem _ h)
  have hown : s.vm.findClass RX8 = some m.cls := findClass_of_methodNamed B.named
  have hlocks := B.notSynchronized
  have hS : va_S (fun _ => False) s.heap s.heap [] := va_S.rf
  have hl := lv_entry ([.ref h0, .double p1]) (n := 6) (Nat.le_of_ble_eq_true rfl)
  rw [lg_entry_eq]
  generalize (lg_sl ([.ref h0, .double p1]) ++ List.replicate (6 - (lg_sl ([.ref h0, .double p1])).length) Slot.unset).toArray = ls at hl ⊢
  have hl : lv_has ls 6 [(0, .ref h0), (1, .double p1)] := hl
  unfold fX8_sort_F at hw
  unfold oX8_sort_F at hok
  refine lv_dload_n hx hb dX8_sort_0 rfl (lv_at hl 1 rfl) ?_
  refine lv_dload_n hx hb dX8_sort_1 rfl (lv_at hl 1 rfl) ?_
  refine lx_dleq (tgt := 8) hx hb dX8_sort_2 dX8_sort_3 (by decide) (fun c1 => ?_) (fun c1 => ?_)
  · replace hw := pf_t (P := post) c1 hw
    replace hok := hok.1 c1
    refine lv_dconst1 hx hb dX8_sort_8 ?_
    refine lv_dload_n hx hb dX8_sort_9 rfl (lv_at hl 1 rfl) ?_
    refine nv_csign hx hb (hml.trans hl.1.symm) hown (hts _ q328) (hts _ q329) (hts _ q330) (hts _ q54) hok.1 (Nat.le_of_ble_eq_true rfl) (Nat.le_of_ble_eq_true rfl) (Nat.le_of_ble_eq_true rfl) (Nat.le_of_ble_eq_true rfl) dX8_sort_10 ?_
    replace hok := hok.2
    refine lv_dconst0 hx hb dX8_sort_13 ?_
    obtain ⟨PJx2, hPJx2⟩ : ∃ P : Int32 → Prop, ∀ x2 : Int32, P x2 ↔ ∀ ls : Array Slot, lv_has ls 6 [(0, .ref h0), (1, .double p1)] → W p l e (headSpec (ws_ yX8_sort cX8_sort 6 (Option.some Jvm.ClassFile.FieldType.int)) ({ frames := 5, cells := 0, slots := 0, locals := 109 })).room s m ([.ref h0, .double p1] : List Value).toArray below meth c s.heap ([]) 0 0 (MQ below (vp_Si post) ([.ref h0, .double p1] : List Value).toArray s 0 0 (fun _ => False)) (F0 m 24 ls [.int x2]) := ⟨_, fun _ => Iff.rfl⟩
    have hjx2 : ∀ x2 : Int32, x2 = (if Dlt (csignD FP.dconst1 p1) FP.dconst0 then 8 else 0) → PJx2 x2 := by
      intro x2 ex2
      rw [hPJx2]
      intro ls hl
      replace hw := pf_let (P := post) hw x2 ex2
      replace hok := hok x2 ex2
      refine lv_istore_n (lv' := [(3, .int x2), (0, .ref h0), (1, .double p1)]) hx hb dX8_sort_24 rfl hl (by decide) rfl (fun ls hl => ?_)
      refine lv_dload_n hx hb dX8_sort_25 rfl (lv_at hl 2 rfl) ?_
      refine nv_absD hx hb (hml.trans hl.1.symm) hown (hts _ q333) (hts _ q334) (hts _ q335) (hts _ q54) hok.1 (Nat.le_of_ble_eq_true rfl) (Nat.le_of_ble_eq_true rfl) (Nat.le_of_ble_eq_true rfl) (Nat.le_of_ble_eq_true rfl) dX8_sort_26 ?_
      replace hok := hok.2
      refine lv_topd (fun x4 ex4 => ?_)
      replace hw := pf_let (P := post) hw x4 ex4
      replace hok := hok x4 ex4
      refine lv_dstore (lv' := [(4, .double x4), (3, .int x2), (0, .ref h0), (1, .double p1)]) hx hb dX8_sort_29 hl (by decide) rfl (fun ls hl => ?_)
      refine lv_iload_n hx hb dX8_sort_31 rfl (lv_at hl 1 rfl) ?_
      refine lv_aload_n hx hb dX8_sort_32 rfl (lv_at hl 2 rfl) ?_
      refine lv_dload_n hx hb dX8_sort_33 rfl (lv_at hl 3 rfl) ?_
      refine cFSi (v := fX8_isFinite_F p1) (runFD (As := [.double p1]) (rest := [.int x2]) (hK.1 2 _ rfl).2 ⟨hx, hb, hml, hown, hts⟩ (mX8_isFinite_F l D TY h0 p1 (fun r => r = fX8_isFinite_F p1) rfl) (lw_meth q134) rfl rfl rfl q337 q132 q1587 (gz_fw22 hG) (gz_df13 hG) hd_X8_isFinite ⟨Nat.le_of_ble_eq_true rfl, Nat.le_of_ble_eq_true rfl⟩ (PR.V (q0 := 0) (ci := 2) hP [0] rfl hK hG hS rfl rfl) rfl rfl hl.1 rfl (lv_room (Nat.le_of_ble_eq_true rfl)) dX8_sort_34 ⟨Nat.le_of_ble_eq_true rfl, Nat.le_of_ble_eq_true rfl⟩) ?_
      obtain ⟨PJx5, hPJx5⟩ : ∃ P : Int32 → Prop, ∀ x5 : Int32, P x5 ↔ ∀ ls : Array Slot, lv_has ls 6 [] → W p l e (headSpec (ws_ yX8_sort cX8_sort 6 (Option.some Jvm.ClassFile.FieldType.int)) ({ frames := 5, cells := 0, slots := 0, locals := 109 })).room s m ([.ref h0, .double p1] : List Value).toArray below meth c s.heap ([]) 0 0 (MQ below (vp_Si post) ([.ref h0, .double p1] : List Value).toArray s 0 0 (fun _ => False)) (F0 m 89 ls [.int x5, .int x2]) := ⟨_, fun _ => Iff.rfl⟩
      have hox5 := hok
      have hjx5 : ∀ x5 : Int32, x5 = (if (fX8_isFinite_F p1) = 0 then 1 else (if Deq p1 FP.dconst0 then 2 else (if Dlt x4 (fX2_by FP.dconst1 ((fX2_least + fX2_precision) - 1)) then 3 else 4))) → PJx5 x5 := by
        intro x5 ex5
        rw [hPJx5]
        intro ls hl
        replace hw := pf_let (P := post) hw x5 ex5
        refine lv_iadd hx hb dX8_sort_89 ?_
        exact W.iret (v := x2 + x5) hx hb hr (fun t ht hW => ⟨_, rfl, hw, ht⟩) (fun q h => nomatch h) dX8_sort_90
      replace hjx5 := hjx5 _ rfl
      refine lv_if_ne (tgt := 46) hx hb dX8_sort_39 (by decide) (fun c6 => ?_) (fun c6 => ?_)
      · replace hjx5 := pf_f (P := PJx5) c6 hjx5
        replace hox5 := hox5.2 c6
        refine lv_dload_n hx hb dX8_sort_46 rfl (lv_at hl 3 rfl) ?_
        refine lv_dconst0 hx hb dX8_sort_47 ?_
        refine lx_dlne (tgt := 56) hx hb dX8_sort_48 dX8_sort_49 (by decide) (fun c7 => ?_) (fun c7 => ?_)
        · replace hjx5 := pf_f (P := PJx5) c7 hjx5
          replace hox5 := hox5.2 c7
          refine lv_dload hx hb dX8_sort_56 (lv_at hl 0 rfl) ?_
          refine lv_aload_n hx hb dX8_sort_58 rfl (lv_at hl 2 rfl) ?_
          refine lv_dconst1 hx hb dX8_sort_59 ?_
          refine lv_aload_n hx hb dX8_sort_60 rfl (lv_at hl 2 rfl) ?_
          refine cFSi (v := fX2_least) (va_runF (As := []) (rest := [.double FP.dconst1, .ref h0, .double x4, .int x2]) (hK.1 2 _ rfl).2 ⟨hx, hb, hml, hown, hts⟩ (mX2_least l D TY h0 (fun r => r = fX2_least) rfl) (va_cwF 0 hts (lw_F q339 q224 q226 q46 q228) rfl rfl rfl (gz_fw25 hG) hdF_least ⟨Nat.le_of_ble_eq_true rfl, Nat.le_of_ble_eq_true rfl⟩) (PR.V (q0 := 0) (ci := 2) hP [0] rfl hK hG hS rfl rfl) rfl rfl hl.1 rfl (lv_room (Nat.le_of_ble_eq_true rfl)) dX8_sort_61 ⟨Nat.le_of_ble_eq_true rfl, Nat.le_of_ble_eq_true rfl⟩) ?_
          refine lv_aload_n hx hb dX8_sort_66 rfl (lv_at hl 2 rfl) ?_
          refine cFSi (v := fX2_precision) (va_runF (As := []) (rest := [.int fX2_least, .double FP.dconst1, .ref h0, .double x4, .int x2]) (hK.1 2 _ rfl).2 ⟨hx, hb, hml, hown, hts⟩ (mX2_precision l D TY h0 (fun r => r = fX2_precision) rfl) (va_cwF 0 hts (lw_F q181 q189 q191 q46 q193) rfl rfl rfl (gz_fw24 hG) hdF_precision ⟨Nat.le_of_ble_eq_true rfl, Nat.le_of_ble_eq_true rfl⟩) (PR.V (q0 := 0) (ci := 2) hP [0] rfl hK hG hS rfl rfl) rfl rfl hl.1 rfl (lv_room (Nat.le_of_ble_eq_true rfl)) dX8_sort_67 ⟨Nat.le_of_ble_eq_true rfl, Nat.le_of_ble_eq_true rfl⟩) ?_
          refine lv_iadd hx hb dX8_sort_72 ?_
          refine lv_iconst (v := 1) hx hb dX8_sort_73 (by decide) ?_
          refine lv_isub hx hb dX8_sort_74 ?_
          refine cFSd (v := fX2_by FP.dconst1 ((fX2_least + fX2_precision) - 1)) (va_runF (As := [.double FP.dconst1, .int ((fX2_least + fX2_precision) - 1)]) (rest := [.double x4, .int x2]) (hK.1 2 _ rfl).2 ⟨hx, hb, hml, hown, hts⟩ (mX2_by l D TY h0 FP.dconst1 ((fX2_least + fX2_precision) - 1) (fun r => r = fX2_by FP.dconst1 ((fX2_least + fX2_precision) - 1)) rfl hox5) (va_cwF 2 hts (lw_F q341 q244 q246 q46 q248) rfl rfl rfl (gz_fw26 hG) hdF_by ⟨Nat.le_of_ble_eq_true rfl, Nat.le_of_ble_eq_true rfl⟩) (PR.V (q0 := 0) (ci := 2) hP [0] rfl hK hG hS rfl rfl) rfl rfl hl.1 rfl (lv_room (Nat.le_of_ble_eq_true rfl)) dX8_sort_75 ⟨Nat.le_of_ble_eq_true rfl, Nat.le_of_ble_eq_true rfl⟩) ?_
          refine lx_dgge (tgt := 88) hx hb dX8_sort_80 dX8_sort_81 (by decide) (fun c8 => ?_) (fun c8 => ?_)
          · replace hjx5 := pf_f (P := PJx5) c8 hjx5
            refine lv_iconst (v := 4) hx hb dX8_sort_88 (by decide) ?_
            exact (hPJx5 _).1 hjx5 _ (lv_sub hl [] rfl)
          · replace hjx5 := pf_t (P := PJx5) c8 hjx5
            refine lv_iconst (v := 3) hx hb dX8_sort_84 (by decide) ?_
            refine lv_goto (tgt := 89) hx hb dX8_sort_85 (by decide) ?_
            exact (hPJx5 _).1 hjx5 _ (lv_sub hl [] rfl)
        · replace hjx5 := pf_t (P := PJx5) c7 hjx5
          refine lv_iconst (v := 2) hx hb dX8_sort_52 (by decide) ?_
          refine lv_goto (tgt := 89) hx hb dX8_sort_53 (by decide) ?_
          exact (hPJx5 _).1 hjx5 _ (lv_sub hl [] rfl)
      · replace hjx5 := pf_t (P := PJx5) c6 hjx5
        refine lv_iconst (v := 1) hx hb dX8_sort_42 (by decide) ?_
        refine lv_goto (tgt := 89) hx hb dX8_sort_43 (by decide) ?_
        exact (hPJx5 _).1 hjx5 _ (lv_sub hl [] rfl)
    replace hjx2 := hjx2 _ rfl
    refine lx_dgge (tgt := 23) hx hb dX8_sort_14 dX8_sort_15 (by decide) (fun c3 => ?_) (fun c3 => ?_)
    · replace hjx2 := pf_f (P := PJx2) c3 hjx2
      refine lv_iconst (v := 0) hx hb dX8_sort_23 (by decide) ?_
      exact (hPJx2 _).1 hjx2 _ (lv_sub hl [0, 1] rfl)
    · replace hjx2 := pf_t (P := PJx2) c3 hjx2
      refine lv_bipush (v := 8) hx hb dX8_sort_18 (by decide) ?_
      refine lv_goto (tgt := 24) hx hb dX8_sort_20 (by decide) ?_
      exact (hPJx2 _).1 hjx2 _ (lv_sub hl [0, 1] rfl)
  · replace hw := pf_f (P := post) c1 hw
    refine lv_iconst (v := 0) hx hb dX8_sort_6 (by decide) ?_
    exact W.iret (v := 0) hx hb hr (fun t ht hW => ⟨_, rfl, hw, ht⟩) (fun q h => nomatch h) dX8_sort_7
