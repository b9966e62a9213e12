def fJ0_isNaN (p0 : UInt64) : Int32 := lt_ (if Deq p0 p0 then 0 else 1) (fun x1 : Int32 => x1)
theorem zb_fJ0_isNaN (p0 : UInt64) : Zb (fJ0_isNaN p0) := by
  unfold fJ0_isNaN
  exact (zb_ite rfl rfl)
set_option maxHeartbeats 4000000 in
set_option maxRecDepth 100000 in
theorem mJ0_isNaN (l : Launch) (D : va_G) (TY : Nat → ClassId) (p0 : UInt64) (post : Int32 → Prop) (hw : post (fJ0_isNaN p0)) : Met l yJ0_isNaN (ws_ yJ0_isNaN cJ0_isNaN 2 (Option.some Jvm.ClassFile.FieldType.boolean)) ({ frames := 0, cells := 0, slots := 0, locals := 0 }) (PR D TY [.double p0] []) (vp_Si post) 0 0 (fun _ => False) := by
  refine ofWF (cc := cJ0_isNaN) (maxL := 2) (ret := (Option.some Jvm.ClassFile.FieldType.boolean)) (by decide +kernel) rfl ?_
  intro p e s m args below meth c s₁ B hml hv
  obtain ⟨rfl, hP, hK, hG⟩ := hv
  have hx := B.exec
  have hb := B.bytes
  have hr := B.returns
  have hts0 := atoms_spec (ws := ws_ yJ0_isNaN cJ0_isNaN 2 (Option.some Jvm.ClassFile.FieldType.boolean)) B.pre
  have hts : ∀ w ∈ lw_all, w.before _ s = true := fun w h => hts0 w (List.mem_cons_of_mem _ h)
  have hown : s.vm.findClass RJ0 = some m.cls := findClass_of_methodNamed B.named
  have hlocks := B.notSynchronized
  have hS : va_S (fun _ => False) s.heap s.heap [] := va_S.rf
  have hl := lv_entry ([.double p0]) (n := 2) (Nat.le_of_ble_eq_true rfl)
  rw [lg_entry_eq]
  generalize (lg_sl ([.double p0]) ++ List.replicate (2 - (lg_sl ([.double p0])).length) Slot.unset).toArray = ls at hl ⊢
  have hl : lv_has ls 2 [(0, .double p0)] := hl
  unfold fJ0_isNaN at hw
  refine lv_dload_n hx hb dJ0_isNaN_0 rfl (lv_at hl 0 rfl) ?_
  refine lv_dload_n hx hb dJ0_isNaN_1 rfl (lv_at hl 0 rfl) ?_
  obtain ⟨PJx1, hPJx1⟩ : ∃ P : Int32 → Prop, ∀ x1 : Int32, P x1 ↔ ∀ ls : Array Slot, lv_has ls 2 [] → W p l e (headSpec (ws_ yJ0_isNaN cJ0_isNaN 2 (Option.some Jvm.ClassFile.FieldType.boolean)) ({ frames := 0, cells := 0, slots := 0, locals := 0 })).room s m ([.double p0] : List Value).toArray below meth c s.heap ([]) 0 0 (MQ below (vp_Si post) ([.double p0] : List Value).toArray s 0 0 (fun _ => False)) (F0 m 11 ls [.int x1]) := ⟨_, fun _ => Iff.rfl⟩
  have hjx1 : ∀ x1 : Int32, x1 = (if Deq p0 p0 then 0 else 1) → PJx1 x1 := by
    intro x1 ex1
    rw [hPJx1]
    intro ls hl
    replace hw := pf_let (P := post) hw x1 ex1
    exact W.zret (v := x1) hx hb hr (by rw [ex1]; exact (zb_ite rfl rfl)) (fun t ht hW => ⟨_, rfl, hw, ht⟩) (fun q h => nomatch h) dJ0_isNaN_11
  replace hjx1 := hjx1 _ rfl
  refine lx_dleq (tgt := 10) hx hb dJ0_isNaN_2 dJ0_isNaN_3 (by decide) (fun c2 => ?_) (fun c2 => ?_)
  · replace hjx1 := pf_t (P := PJx1) c2 hjx1
    refine lv_iconst (v := 0) hx hb dJ0_isNaN_10 (by decide) ?_
    exact (hPJx1 _).1 hjx1 _ (lv_sub hl [] rfl)
  · replace hjx1 := pf_f (P := PJx1) c2 hjx1
    refine lv_iconst (v := 1) hx hb dJ0_isNaN_6 (by decide) ?_
    refine lv_goto (tgt := 11) hx hb dJ0_isNaN_7 (by decide) ?_
    exact (hPJx1 _).1 hjx1 _ (lv_sub hl [] rfl)

def fJ1_isNaN (p0 : UInt32) : Int32 := lt_ (if Feq p0 p0 then 0 else 1) (fun x1 : Int32 => x1)
theorem zb_fJ1_isNaN (p0 : UInt32) : Zb (fJ1_isNaN p0) := by
  unfold fJ1_isNaN
  exact (zb_ite rfl rfl)
set_option maxHeartbeats 4000000 in
set_option maxRecDepth 100000 in
theorem mJ1_isNaN (l : Launch) (D : va_G) (TY : Nat → ClassId) (p0 : UInt32) (post : Int32 → Prop) (hw : post (fJ1_isNaN p0)) : Met l yJ1_isNaN (ws_ yJ1_isNaN cJ1_isNaN 1 (Option.some Jvm.ClassFile.FieldType.boolean)) ({ frames := 0, cells := 0, slots := 0, locals := 0 }) (PR D TY [.float p0] []) (vp_Si post) 0 0 (fun _ => False) := by
  refine ofWF (cc := cJ1_isNaN) (maxL := 1) (ret := (Option.some Jvm.ClassFile.FieldType.boolean)) (by decide +kernel) rfl ?_
  intro p e s m args below meth c s₁ B hml hv
  obtain ⟨rfl, hP, hK, hG⟩ := hv
  have hx := B.exec
  have hb := B.bytes
  have hr := B.returns
  have hts0 := atoms_spec (ws := ws_ yJ1_isNaN cJ1_isNaN 1 (Option.some Jvm.ClassFile.FieldType.boolean)) B.pre
  have hts : ∀ w ∈ lw_all, w.before _ s = true := fun w h => hts0 w (List.mem_cons_of_mem _ h)
  have hown : s.vm.findClass RJ1 = some m.cls := findClass_of_methodNamed B.named
  have hlocks := B.notSynchronized
  have hS : va_S (fun _ => False) s.heap s.heap [] := va_S.rf
  have hl := lv_entry ([.float p0]) (n := 1) (Nat.le_of_ble_eq_true rfl)
  rw [lg_entry_eq]
  generalize (lg_sl ([.float p0]) ++ List.replicate (1 - (lg_sl ([.float p0])).length) Slot.unset).toArray = ls at hl ⊢
  have hl : lv_has ls 1 [(0, .float p0)] := hl
  unfold fJ1_isNaN at hw
  refine lv_fload_n hx hb dJ1_isNaN_0 rfl (lv_at hl 0 rfl) ?_
  refine lv_fload_n hx hb dJ1_isNaN_1 rfl (lv_at hl 0 rfl) ?_
  obtain ⟨PJx1, hPJx1⟩ : ∃ P : Int32 → Prop, ∀ x1 : Int32, P x1 ↔ ∀ ls : Array Slot, lv_has ls 1 [] → W p l e (headSpec (ws_ yJ1_isNaN cJ1_isNaN 1 (Option.some Jvm.ClassFile.FieldType.boolean)) ({ frames := 0, cells := 0, slots := 0, locals := 0 })).room s m ([.float p0] : List Value).toArray below meth c s.heap ([]) 0 0 (MQ below (vp_Si post) ([.float p0] : List Value).toArray s 0 0 (fun _ => False)) (F0 m 11 ls [.int x1]) := ⟨_, fun _ => Iff.rfl⟩
  have hjx1 : ∀ x1 : Int32, x1 = (if Feq p0 p0 then 0 else 1) → PJx1 x1 := by
    intro x1 ex1
    rw [hPJx1]
    intro ls hl
    replace hw := pf_let (P := post) hw x1 ex1
    exact W.zret (v := x1) hx hb hr (by rw [ex1]; exact (zb_ite rfl rfl)) (fun t ht hW => ⟨_, rfl, hw, ht⟩) (fun q h => nomatch h) dJ1_isNaN_11
  replace hjx1 := hjx1 _ rfl
  refine lx_fleq (tgt := 10) hx hb dJ1_isNaN_2 dJ1_isNaN_3 (by decide) (fun c2 => ?_) (fun c2 => ?_)
  · replace hjx1 := pf_t (P := PJx1) c2 hjx1
    refine lv_iconst (v := 0) hx hb dJ1_isNaN_10 (by decide) ?_
    exact (hPJx1 _).1 hjx1 _ (lv_sub hl [] rfl)
  · replace hjx1 := pf_f (P := PJx1) c2 hjx1
    refine lv_iconst (v := 1) hx hb dJ1_isNaN_6 (by decide) ?_
    refine lv_goto (tgt := 11) hx hb dJ1_isNaN_7 (by decide) ?_
    exact (hPJx1 _).1 hjx1 _ (lv_sub hl [] rfl)

def fJ2_getExponent (p0 : UInt64) : Int32 := ((jshr (p0.toInt64 &&& 9218868437227405312) 52) - 1023).toInt32
set_option maxHeartbeats 4000000 in
set_option maxRecDepth 100000 in
theorem mJ2_getExponent (l : Launch) (D : va_G) (TY : Nat → ClassId) (p0 : UInt64) (post : Int32 → Prop) (hw : post (fJ2_getExponent p0)) : Met l yJ2_getExponent (ws_ yJ2_getExponent cJ2_getExponent 2 (Option.some Jvm.ClassFile.FieldType.int)) ({ frames := 1, cells := 0, slots := 0, locals := 15 }) (PR D TY [.double p0] []) (vp_Si post) 0 0 (fun _ => False) := by
  refine ofWF (cc := cJ2_getExponent) (maxL := 2) (ret := (Option.some Jvm.ClassFile.FieldType.int)) (by decide +kernel) rfl ?_
  intro p e s m args below meth c s₁ B hml hv
  obtain ⟨rfl, hP, hK, hG⟩ := hv
  have hx := B.exec
  have hb := B.bytes
  have hr := B.returns
  have hts0 := atoms_spec (ws := ws_ yJ2_getExponent cJ2_getExponent 2 (Option.some Jvm.ClassFile.FieldType.int)) B.pre
  have hts : ∀ w ∈ lw_all, w.before _ s = true := fun w h => hts0 w (List.mem_cons_of_mem _ h)
  have hown : s.vm.findClass RJ2 = some m.cls := findClass_of_methodNamed B.named
  have hlocks := B.notSynchronized
  have hS : va_S (fun _ => False) s.heap s.heap [] := va_S.rf
  have hl := lv_entry ([.double p0]) (n := 2) (Nat.le_of_ble_eq_true rfl)
  rw [lg_entry_eq]
  generalize (lg_sl ([.double p0]) ++ List.replicate (2 - (lg_sl ([.double p0])).length) Slot.unset).toArray = ls at hl ⊢
  have hl : lv_has ls 2 [(0, .double p0)] := hl
  unfold fJ2_getExponent at hw
  refine lv_dload_n hx hb dJ2_getExponent_0 rfl (lv_at hl 0 rfl) ?_
  refine vn_d2l hx hb (hml.trans hl.1.symm) hown (hts _ q155) (hts _ q157) (hts _ q156) (hts _ q52) (Nat.le_of_ble_eq_true rfl) (Nat.le_of_ble_eq_true rfl) dJ2_getExponent_1 ?_
  refine lv_ldc2 (v := 9218868437227405312) hx hb hown (hts _ q158) dJ2_getExponent_4 ?_
  refine lv_land hx hb dJ2_getExponent_7 ?_
  refine lv_bipush (v := 52) hx hb dJ2_getExponent_8 (by decide) ?_
  refine lv_lshr (v := jshr (p0.toInt64 &&& 9218868437227405312) 52) hx hb dJ2_getExponent_10 rfl ?_
  refine lv_ldc2 (v := 1023) hx hb hown (hts _ q159) dJ2_getExponent_11 ?_
  refine lv_lsub hx hb dJ2_getExponent_14 ?_
  refine lv_l2i (v := ((jshr (p0.toInt64 &&& 9218868437227405312) 52) - 1023).toInt32) hx hb dJ2_getExponent_15 rfl ?_
  exact W.iret (v := ((jshr (p0.toInt64 &&& 9218868437227405312) 52) - 1023).toInt32) hx hb hr (fun t ht hW => ⟨_, rfl, hw, ht⟩) (fun q h => nomatch h) dJ2_getExponent_16

def fJ2_max (p0 : Int32) (p1 : Int32) : Int32 := lt_ (if p0 < p1 then p1 else p0) (fun x1 : Int32 => x1)
set_option maxHeartbeats 4000000 in
set_option maxRecDepth 100000 in
theorem mJ2_max (l : Launch) (D : va_G) (TY : Nat → ClassId) (p0 : Int32) (p1 : Int32) (post : Int32 → Prop) (hw : post (fJ2_max p0 p1)) : Met l yJ2_max (ws_ yJ2_max cJ2_max 2 (Option.some Jvm.ClassFile.FieldType.int)) ({ frames := 0, cells := 0, slots := 0, locals := 0 }) (PR D TY [.int p0, .int p1] []) (vp_Si post) 0 0 (fun _ => False) := by
  refine ofWF (cc := cJ2_max) (maxL := 2) (ret := (Option.some Jvm.ClassFile.FieldType.int)) (by decide +kernel) rfl ?_
  intro p e s m args below meth c s₁ B hml hv
  obtain ⟨rfl, hP, hK, hG⟩ := hv
  have hx := B.exec
  have hb := B.bytes
  have hr := B.returns
  have hts0 := atoms_spec (ws := ws_ yJ2_max cJ2_max 2 (Option.some Jvm.ClassFile.FieldType.int)) B.pre
  have hts : ∀ w ∈ lw_all, w.before _ s = true := fun w h => hts0 w (List.mem_cons_of_mem _ h)
  have hown : s.vm.findClass RJ2 = some m.cls := findClass_of_methodNamed B.named
  have hlocks := B.notSynchronized
  have hS : va_S (fun _ => False) s.heap s.heap [] := va_S.rf
  have hl := lv_entry ([.int p0, .int p1]) (n := 2) (Nat.le_of_ble_eq_true rfl)
  rw [lg_entry_eq]
  generalize (lg_sl ([.int p0, .int p1]) ++ List.replicate (2 - (lg_sl ([.int p0, .int p1])).length) Slot.unset).toArray = ls at hl ⊢
  have hl : lv_has ls 2 [(0, .int p0), (1, .int p1)] := hl
  unfold fJ2_max at hw
  refine lv_iload_n hx hb dJ2_max_0 rfl (lv_at hl 0 rfl) ?_
  refine lv_iload_n hx hb dJ2_max_1 rfl (lv_at hl 1 rfl) ?_
  obtain ⟨PJx1, hPJx1⟩ : ∃ P : Int32 → Prop, ∀ x1 : Int32, P x1 ↔ ∀ ls : Array Slot, lv_has ls 2 [] → W p l e (headSpec (ws_ yJ2_max cJ2_max 2 (Option.some Jvm.ClassFile.FieldType.int)) ({ frames := 0, cells := 0, slots := 0, locals := 0 })).room s m ([.int p0, .int p1] : List Value).toArray below meth c s.heap ([]) 0 0 (MQ below (vp_Si post) ([.int p0, .int p1] : List Value).toArray s 0 0 (fun _ => False)) (F0 m 10 ls [.int x1]) := ⟨_, fun _ => Iff.rfl⟩
  have hjx1 : ∀ x1 : Int32, x1 = (if p0 < p1 then p1 else p0) → PJx1 x1 := by
    intro x1 ex1
    rw [hPJx1]
    intro ls hl
    replace hw := pf_let (P := post) hw x1 ex1
    exact W.iret (v := x1) hx hb hr (fun t ht hW => ⟨_, rfl, hw, ht⟩) (fun q h => nomatch h) dJ2_max_10
  replace hjx1 := hjx1 _ rfl
  refine lv_icmp_lt (tgt := 9) hx hb dJ2_max_2 (by decide) (fun c2 => ?_) (fun c2 => ?_)
  · replace hjx1 := pf_t (P := PJx1) c2 hjx1
    refine lv_iload_n hx hb dJ2_max_9 rfl (lv_at hl 1 rfl) ?_
    exact (hPJx1 _).1 hjx1 _ (lv_sub hl [] rfl)
  · replace hjx1 := pf_f (P := PJx1) c2 hjx1
    refine lv_iload_n hx hb dJ2_max_5 rfl (lv_at hl 0 rfl) ?_
    refine lv_goto (tgt := 10) hx hb dJ2_max_6 (by decide) ?_
    exact (hPJx1 _).1 hjx1 _ (lv_sub hl [] rfl)

def fJ2_min (p0 : Int32) (p1 : Int32) : Int32 := lt_ (if p1 < p0 then p1 else p0) (fun x1 : Int32 => x1)
set_option maxHeartbeats 4000000 in
set_option maxRecDepth 100000 in
theorem mJ2_min (l : Launch) (D : va_G) (TY : Nat → ClassId) (p0 : Int32) (p1 : Int32) (post : Int32 → Prop) (hw : post (fJ2_min p0 p1)) : Met l yJ2_min (ws_ yJ2_min cJ2_min 2 (Option.some Jvm.ClassFile.FieldType.int)) ({ frames := 0, cells := 0, slots := 0, locals := 0 }) (PR D TY [.int p0, .int p1] []) (vp_Si post) 0 0 (fun _ => False) := by
  refine ofWF (cc := cJ2_min) (maxL := 2) (ret := (Option.some Jvm.ClassFile.FieldType.int)) (by decide +kernel) rfl ?_
  intro p e s m args below meth c s₁ B hml hv
  obtain ⟨rfl, hP, hK, hG⟩ := hv
  have hx := B.exec
  have hb := B.bytes
  have hr := B.returns
  have hts0 := atoms_spec (ws := ws_ yJ2_min cJ2_min 2 (Option.some Jvm.ClassFile.FieldType.int)) B.pre
  have hts : ∀ w ∈ lw_all, w.before _ s = true := fun w h => hts0 w (List.mem_cons_of_mem _ h)
  have hown : s.vm.findClass RJ2 = some m.cls := findClass_of_methodNamed B.named
  have hlocks := B.notSynchronized
  have hS : va_S (fun _ => False) s.heap s.heap [] := va_S.rf
  have hl := lv_entry ([.int p0, .int p1]) (n := 2) (Nat.le_of_ble_eq_true rfl)
  rw [lg_entry_eq]
  generalize (lg_sl ([.int p0, .int p1]) ++ List.replicate (2 - (lg_sl ([.int p0, .int p1])).length) Slot.unset).toArray = ls at hl ⊢
  have hl : lv_has ls 2 [(0, .int p0), (1, .int p1)] := hl
  unfold fJ2_min at hw
  refine lv_iload_n hx hb dJ2_min_0 rfl (lv_at hl 0 rfl) ?_
  refine lv_iload_n hx hb dJ2_min_1 rfl (lv_at hl 1 rfl) ?_
  obtain ⟨PJx1, hPJx1⟩ : ∃ P : Int32 → Prop, ∀ x1 : Int32, P x1 ↔ ∀ ls : Array Slot, lv_has ls 2 [] → W p l e (headSpec (ws_ yJ2_min cJ2_min 2 (Option.some Jvm.ClassFile.FieldType.int)) ({ frames := 0, cells := 0, slots := 0, locals := 0 })).room s m ([.int p0, .int p1] : List Value).toArray below meth c s.heap ([]) 0 0 (MQ below (vp_Si post) ([.int p0, .int p1] : List Value).toArray s 0 0 (fun _ => False)) (F0 m 10 ls [.int x1]) := ⟨_, fun _ => Iff.rfl⟩
  have hjx1 : ∀ x1 : Int32, x1 = (if p1 < p0 then p1 else p0) → PJx1 x1 := by
    intro x1 ex1
    rw [hPJx1]
    intro ls hl
    replace hw := pf_let (P := post) hw x1 ex1
    exact W.iret (v := x1) hx hb hr (fun t ht hW => ⟨_, rfl, hw, ht⟩) (fun q h => nomatch h) dJ2_min_10
  replace hjx1 := hjx1 _ rfl
  refine lv_icmp_gt (tgt := 9) hx hb dJ2_min_2 (by decide) (fun c2 => ?_) (fun c2 => ?_)
  · replace hjx1 := pf_t (P := PJx1) c2 hjx1
    refine lv_iload_n hx hb dJ2_min_9 rfl (lv_at hl 1 rfl) ?_
    exact (hPJx1 _).1 hjx1 _ (lv_sub hl [] rfl)
  · replace hjx1 := pf_f (P := PJx1) c2 hjx1
    refine lv_iload_n hx hb dJ2_min_5 rfl (lv_at hl 0 rfl) ?_
    refine lv_goto (tgt := 10) hx hb dJ2_min_6 (by decide) ?_
    exact (hPJx1 _).1 hjx1 _ (lv_sub hl [] rfl)

def fJ2_powerOfTwoD (p0 : Int32) : UInt64 := ((jshl (p0.toInt64 + 1023) 52) &&& 9218868437227405312).toUInt64
def oJ2_powerOfTwoD (p0 : Int32) : Prop := (vn_snl2d ((jshl (p0.toInt64 + 1023) 52) &&& 9218868437227405312) = false)
set_option maxHeartbeats 4000000 in
set_option maxRecDepth 100000 in
theorem mJ2_powerOfTwoD (l : Launch) (D : va_G) (TY : Nat → ClassId) (p0 : Int32) (post : UInt64 → Prop) (hw : post (fJ2_powerOfTwoD p0)) (hok : oJ2_powerOfTwoD p0) : Met l yJ2_powerOfTwoD (ws_ yJ2_powerOfTwoD cJ2_powerOfTwoD 1 (Option.some Jvm.ClassFile.FieldType.double)) ({ frames := 1, cells := 0, slots := 0, locals := 15 }) (PR D TY [.int p0] []) (vp_Sd post) 0 0 (fun _ => False) := by
  refine ofWF (cc := cJ2_powerOfTwoD) (maxL := 1) (ret := (Option.some Jvm.ClassFile.FieldType.double)) (by decide +kernel) rfl ?_
  intro p e s m args below meth c s₁ B hml hv
  obtain ⟨rfl, hP, hK, hG⟩ := hv
  have hx := B.exec
  have hb := B.bytes
  have hr := B.returns
  have hts0 := atoms_spec (ws := ws_ yJ2_powerOfTwoD cJ2_powerOfTwoD 1 (Option.some Jvm.ClassFile.FieldType.double)) B.pre
  have hts : ∀ w ∈ lw_all, w.before _ s = true := fun w h => hts0 w (List.mem_cons_of_mem _ h)
  have hown : s.vm.findClass RJ2 = some m.cls := findClass_of_methodNamed B.named
  have hlocks := B.notSynchronized
  have hS : va_S (fun _ => False) s.heap s.heap [] := va_S.rf
  have hl := lv_entry ([.int p0]) (n := 1) (Nat.le_of_ble_eq_true rfl)
  rw [lg_entry_eq]
  generalize (lg_sl ([.int p0]) ++ List.replicate (1 - (lg_sl ([.int p0])).length) Slot.unset).toArray = ls at hl ⊢
  have hl : lv_has ls 1 [(0, .int p0)] := hl
  unfold fJ2_powerOfTwoD at hw
  unfold oJ2_powerOfTwoD at hok
  refine va_gets hx hb hG.ad hS hown (hts _ q177) (fun _ h => h) dJ2_powerOfTwoD_0 ?_
  refine lv_if_ne (tgt := 28) hx hb dJ2_powerOfTwoD_3 (by decide) (fun _ => ?_) (fun c1 => absurd c1 (by decide))
  refine lv_iload_n hx hb dJ2_powerOfTwoD_28 rfl (lv_at hl 0 rfl) ?_
  refine lv_i2l (v := p0.toInt64) hx hb dJ2_powerOfTwoD_29 rfl ?_
  refine lv_ldc2 (v := 1023) hx hb hown (hts _ q159) dJ2_powerOfTwoD_30 ?_
  refine lv_ladd hx hb dJ2_powerOfTwoD_33 ?_
  refine lv_bipush (v := 52) hx hb dJ2_powerOfTwoD_34 (by decide) ?_
  refine lv_lshl (v := jshl (p0.toInt64 + 1023) 52) hx hb dJ2_powerOfTwoD_36 rfl ?_
  refine lv_ldc2 (v := 9218868437227405312) hx hb hown (hts _ q158) dJ2_powerOfTwoD_37 ?_
  refine lv_land hx hb dJ2_powerOfTwoD_40 ?_
  refine vn_l2d hx hb (hml.trans hl.1.symm) hown (hts _ q179) (hts _ q114) (hts _ q113) (hts _ q52) hok (Nat.le_of_ble_eq_true rfl) (Nat.le_of_ble_eq_true rfl) dJ2_powerOfTwoD_41 ?_
  exact W.dret (v := ((jshl (p0.toInt64 + 1023) 52) &&& 9218868437227405312).toUInt64) hx hb hr (fun t ht hW => ⟨_, rfl, hw, ht⟩) (fun q h => nomatch h) dJ2_powerOfTwoD_44

def fJ2_max_2 (p0 : Int64) (p2 : Int64) : Int64 := lt_ (if p0 < p2 then p2 else p0) (fun x1 : Int64 => x1)
set_option maxHeartbeats 4000000 in
set_option maxRecDepth 100000 in
theorem mJ2_max_2 (l : Launch) (D : va_G) (TY : Nat → ClassId) (p0 : Int64) (p2 : Int64) (post : Int64 → Prop) (hw : post (fJ2_max_2 p0 p2)) : Met l yJ2_max_2 (ws_ yJ2_max_2 cJ2_max_2 4 (Option.some Jvm.ClassFile.FieldType.long)) ({ frames := 0, cells := 0, slots := 0, locals := 0 }) (PR D TY [.long p0, .long p2] []) (vp_Sl post) 0 0 (fun _ => False) := by
  refine ofWF (cc := cJ2_max_2) (maxL := 4) (ret := (Option.some Jvm.ClassFile.FieldType.long)) (by decide +kernel) rfl ?_
  intro p e s m args below meth c s₁ B hml hv
  obtain ⟨rfl, hP, hK, hG⟩ := hv
  have hx := B.exec
  have hb := B.bytes
  have hr := B.returns
  have hts0 := atoms_spec (ws := ws_ yJ2_max_2 cJ2_max_2 4 (Option.some Jvm.ClassFile.FieldType.long)) B.pre
  have hts : ∀ w ∈ lw_all, w.before _ s = true := fun w h => hts0 w (List.mem_cons_of_mem _ h)
  have hown : s.vm.findClass RJ2 = some m.cls := findClass_of_methodNamed B.named
  have hlocks := B.notSynchronized
  have hS : va_S (fun _ => False) s.heap s.heap [] := va_S.rf
  have hl := lv_entry ([.long p0, .long p2]) (n := 4) (Nat.le_of_ble_eq_true rfl)
  rw [lg_entry_eq]
  generalize (lg_sl ([.long p0, .long p2]) ++ List.replicate (4 - (lg_sl ([.long p0, .long p2])).length) Slot.unset).toArray = ls at hl ⊢
  have hl : lv_has ls 4 [(0, .long p0), (2, .long p2)] := hl
  unfold fJ2_max_2 at hw
  refine lv_lload_n hx hb dJ2_max_2_0 rfl (lv_at hl 0 rfl) ?_
  refine lv_lload_n hx hb dJ2_max_2_1 rfl (lv_at hl 1 rfl) ?_
  obtain ⟨PJx1, hPJx1⟩ : ∃ P : Int64 → Prop, ∀ x1 : Int64, P x1 ↔ ∀ ls : Array Slot, lv_has ls 4 [] → W p l e (headSpec (ws_ yJ2_max_2 cJ2_max_2 4 (Option.some Jvm.ClassFile.FieldType.long)) ({ frames := 0, cells := 0, slots := 0, locals := 0 })).room s m ([.long p0, .long p2] : List Value).toArray below meth c s.heap ([]) 0 0 (MQ below (vp_Sl post) ([.long p0, .long p2] : List Value).toArray s 0 0 (fun _ => False)) (F0 m 11 ls [.long x1]) := ⟨_, fun _ => Iff.rfl⟩
  have hjx1 : ∀ x1 : Int64, x1 = (if p0 < p2 then p2 else p0) → PJx1 x1 := by
    intro x1 ex1
    rw [hPJx1]
    intro ls hl
    replace hw := pf_let (P := post) hw x1 ex1
    exact W.lret (v := x1) hx hb hr (fun t ht hW => ⟨_, rfl, hw, ht⟩) (fun q h => nomatch h) dJ2_max_2_11
  replace hjx1 := hjx1 _ rfl
  refine lx_llt (tgt := 10) hx hb dJ2_max_2_2 dJ2_max_2_3 (by decide) (fun c2 => ?_) (fun c2 => ?_)
  · replace hjx1 := pf_t (P := PJx1) c2 hjx1
    refine lv_lload_n hx hb dJ2_max_2_10 rfl (lv_at hl 1 rfl) ?_
    exact (hPJx1 _).1 hjx1 _ (lv_sub hl [] rfl)
  · replace hjx1 := pf_f (P := PJx1) c2 hjx1
    refine lv_lload_n hx hb dJ2_max_2_6 rfl (lv_at hl 0 rfl) ?_
    refine lv_goto (tgt := 11) hx hb dJ2_max_2_7 (by decide) ?_
    exact (hPJx1 _).1 hjx1 _ (lv_sub hl [] rfl)

theorem hd_J2_max : yJ2_max.cls ≠ "java/lang/invoke/MethodHandle" ∧ yJ2_max.cls ≠ "java/lang/invoke/VarHandle" ∧ (parseMethodDescriptor yJ2_max.desc).map (fun d => d.parameters.length) = some 2 := by decide +kernel
theorem hd_J2_min : yJ2_min.cls ≠ "java/lang/invoke/MethodHandle" ∧ yJ2_min.cls ≠ "java/lang/invoke/VarHandle" ∧ (parseMethodDescriptor yJ2_min.desc).map (fun d => d.parameters.length) = some 2 := by decide +kernel
theorem hd_J2_powerOfTwoD : yJ2_powerOfTwoD.cls ≠ "java/lang/invoke/MethodHandle" ∧ yJ2_powerOfTwoD.cls ≠ "java/lang/invoke/VarHandle" ∧ (parseMethodDescriptor yJ2_powerOfTwoD.desc).map (fun d => d.parameters.length) = some 1 := by decide +kernel
def fJ2_scalb_2 (p0 : UInt32) (p1 : Int32) : UInt32 := lt_ (fJ2_max (fJ2_min p1 278) (-278)) (fun x1 : Int32 => FP.d2f (FP.dmul (FP.f2d p0) (fJ2_powerOfTwoD x1)))
def oJ2_scalb_2 (p0 : UInt32) (p1 : Int32) : Prop := ∀ x1 : Int32, x1 = fJ2_max (fJ2_min p1 278) (-278) → (vf_n64 (FP.f2d p0)) ∧ ((oJ2_powerOfTwoD x1) ∧ ((vf_n64 (FP.dmul (FP.f2d p0) (fJ2_powerOfTwoD x1))) ∧ (vf_n32 (FP.d2f (FP.dmul (FP.f2d p0) (fJ2_powerOfTwoD x1))))))
set_option maxHeartbeats 4000000 in
set_option maxRecDepth 100000 in
theorem mJ2_scalb_2 (l : Launch) (D : va_G) (TY : Nat → ClassId) (p0 : UInt32) (p1 : Int32) (post : UInt32 → Prop) (hw : post (fJ2_scalb_2 p0 p1)) (hok : oJ2_scalb_2 p0 p1) : Met l yJ2_scalb_2 (ws_ yJ2_scalb_2 cJ2_scalb_2 3 (Option.some Jvm.ClassFile.FieldType.float)) ({ frames := 2, cells := 0, slots := 0, locals := 35 }) (PR D TY [.float p0, .int p1] []) (vp_Sf post) 0 0 (fun _ => False) := by
  refine ofWF (cc := cJ2_scalb_2) (maxL := 3) (ret := (Option.some Jvm.ClassFile.FieldType.float)) (by decide +kernel) rfl ?_
  intro p e s m args below meth c s₁ B hml hv
  obtain ⟨rfl, hP, hK, hG⟩ := hv
  have hx := B.exec
  have hb := B.bytes
  have hr := B.returns
  have hts0 := atoms_spec (ws := ws_ yJ2_scalb_2 cJ2_scalb_2 3 (Option.some Jvm.ClassFile.FieldType.float)) B.pre
  have hts : ∀ w ∈ lw_all, w.before _ s = true := fun w h => hts0 w (List.mem_cons_of_mem _ h)
  have hown : s.vm.findClass RJ2 = some m.cls := findClass_of_methodNamed B.named
  have hlocks := B.notSynchronized
  have hS : va_S (fun _ => False) s.heap s.heap [] := va_S.rf
  have hl := lv_entry ([.float p0, .int p1]) (n := 3) (Nat.le_of_ble_eq_true rfl)
  rw [lg_entry_eq]
  generalize (lg_sl ([.float p0, .int p1]) ++ List.replicate (3 - (lg_sl ([.float p0, .int p1])).length) Slot.unset).toArray = ls at hl ⊢
  have hl : lv_has ls 3 [(0, .float p0), (1, .int p1)] := hl
  unfold fJ2_scalb_2 at hw
  unfold oJ2_scalb_2 at hok
  refine lv_sipush (v := 278) hx hb dJ2_scalb_2_0 (by decide) ?_
  refine lv_istore_n (lv' := [(2, .int 278), (0, .float p0), (1, .int p1)]) hx hb dJ2_scalb_2_3 rfl hl (by decide) rfl (fun ls hl => ?_)
  refine lv_iload_n hx hb dJ2_scalb_2_4 rfl (lv_at hl 2 rfl) ?_
  refine lv_sipush (v := 278) hx hb dJ2_scalb_2_5 (by decide) ?_
  refine cSi (v := fJ2_min p1 278) (W.runS (As := [.int p1, .int 278]) (rest := []) ⟨hx, hb, hml, hown, hts⟩ (mJ2_min l D TY p1 278 (fun r => r = fJ2_min p1 278) rfl) (va_cwS 2 hts (lw_S q169 q170 q54 q171) rfl rfl rfl hd_J2_min ⟨Nat.le_of_ble_eq_true rfl, Nat.le_of_ble_eq_true rfl⟩) (PR.S hP [] rfl hK hG hS) rfl rfl hl.1 rfl (lv_room (Nat.le_of_ble_eq_true rfl)) dJ2_scalb_2_8 ⟨Nat.le_of_ble_eq_true rfl, Nat.le_of_ble_eq_true rfl⟩) ?_
  refine lv_sipush (v := (-278)) hx hb dJ2_scalb_2_11 (by decide) ?_
  refine cSi (v := fJ2_max (fJ2_min p1 278) (-278)) (W.runS (As := [.int (fJ2_min p1 278), .int (-278)]) (rest := []) ⟨hx, hb, hml, hown, hts⟩ (mJ2_max l D TY (fJ2_min p1 278) (-278) (fun r => r = fJ2_max (fJ2_min p1 278) (-278)) rfl) (va_cwS 2 hts (lw_S q164 q165 q54 q166) rfl rfl rfl hd_J2_max ⟨Nat.le_of_ble_eq_true rfl, Nat.le_of_ble_eq_true rfl⟩) (PR.S hP [] rfl hK hG hS) rfl rfl hl.1 rfl (lv_room (Nat.le_of_ble_eq_true rfl)) dJ2_scalb_2_14 ⟨Nat.le_of_ble_eq_true rfl, Nat.le_of_ble_eq_true rfl⟩) ?_
  refine lv_topi (fun x1 ex1 => ?_)
  replace hw := pf_let (P := post) hw x1 ex1
  replace hok := hok x1 ex1
  refine lv_istore_n (lv' := [(1, .int x1), (2, .int 278), (0, .float p0)]) hx hb dJ2_scalb_2_17 rfl hl (by decide) rfl (fun ls hl => ?_)
  refine lv_fload_n hx hb dJ2_scalb_2_18 rfl (lv_at hl 2 rfl) ?_
  refine lv_f2d hx hb dJ2_scalb_2_19 hok.1 ?_
  replace hok := hok.2
  refine lv_iload_n hx hb dJ2_scalb_2_20 rfl (lv_at hl 0 rfl) ?_
  refine cSd (v := fJ2_powerOfTwoD x1) (W.runS (As := [.int x1]) (rest := [.double (FP.f2d p0)]) ⟨hx, hb, hml, hown, hts⟩ (mJ2_powerOfTwoD l D TY x1 (fun r => r = fJ2_powerOfTwoD x1) rfl hok.1) (va_cwS 1 hts (lw_S q174 q175 q54 q176) rfl rfl rfl hd_J2_powerOfTwoD ⟨Nat.le_of_ble_eq_true rfl, Nat.le_of_ble_eq_true rfl⟩) (PR.S hP [] rfl hK hG hS) rfl rfl hl.1 rfl (lv_room (Nat.le_of_ble_eq_true rfl)) dJ2_scalb_2_21 ⟨Nat.le_of_ble_eq_true rfl, Nat.le_of_ble_eq_true rfl⟩) ?_
  replace hok := hok.2
  refine lv_dmul hx hb dJ2_scalb_2_24 hok.1 ?_
  replace hok := hok.2
  refine lv_d2f hx hb dJ2_scalb_2_25 hok ?_
  exact W.fret (v := FP.d2f (FP.dmul (FP.f2d p0) (fJ2_powerOfTwoD x1))) hx hb hr (fun t ht hW => ⟨_, rfl, hw, ht⟩) (fun q h => nomatch h) dJ2_scalb_2_26

def fJ2_nextUp (p0 : UInt64) : UInt64 := if Dlt p0 9218868437227405312 then (lt_ ((FP.dadd p0 FP.dconst0).toInt64) (fun x2 : Int64 => lt_ (if x2 < 0 then (-1) else 1) (fun x3 : Int64 => (x2 + x3).toUInt64))) else p0
def oJ2_nextUp (p0 : UInt64) : Prop := ((Dlt p0 9218868437227405312) → (vf_n64 (FP.dadd p0 FP.dconst0)) ∧ (∀ x2 : Int64, x2 = (FP.dadd p0 FP.dconst0).toInt64 → (∀ x3 : Int64, x3 = (if x2 < 0 then (-1) else 1) → (vn_snl2d (x2 + x3) = false)))) ∧ (¬ (Dlt p0 9218868437227405312) → True)
set_option maxHeartbeats 4000000 in
set_option maxRecDepth 100000 in
theorem mJ2_nextUp (l : Launch) (D : va_G) (TY : Nat → ClassId) (p0 : UInt64) (post : UInt64 → Prop) (hw : post (fJ2_nextUp p0)) (hok : oJ2_nextUp p0) : Met l yJ2_nextUp (ws_ yJ2_nextUp cJ2_nextUp 4 (Option.some Jvm.ClassFile.FieldType.double)) ({ frames := 1, cells := 0, slots := 0, locals := 15 }) (PR D TY [.double p0] []) (vp_Sd post) 0 0 (fun _ => False) := by
  refine ofWF (cc := cJ2_nextUp) (maxL := 4) (ret := (Option.some Jvm.ClassFile.FieldType.double)) (by decide +kernel) rfl ?_
  intro p e s m args below meth c s₁ B hml hv
  obtain ⟨rfl, hP, hK, hG⟩ := hv
  have hx := B.exec
  have hb := B.bytes
  have hr := B.returns
  have hts0 := atoms_spec (ws := ws_ yJ2_nextUp cJ2_nextUp 4 (Option.some Jvm.ClassFile.FieldType.double)) B.pre
  have hts : ∀ w ∈ lw_all, w.before _ s = true := fun w h => hts0 w (List.mem_cons_of_mem _ h)
  have hown : s.vm.findClass RJ2 = some m.cls := findClass_of_methodNamed B.named
  have hlocks := B.notSynchronized
  have hS : va_S (fun _ => False) s.heap s.heap [] := va_S.rf
  have hl := lv_entry ([.double p0]) (n := 4) (Nat.le_of_ble_eq_true rfl)
  rw [lg_entry_eq]
  generalize (lg_sl ([.double p0]) ++ List.replicate (4 - (lg_sl ([.double p0])).length) Slot.unset).toArray = ls at hl ⊢
  have hl : lv_has ls 4 [(0, .double p0)] := hl
  unfold fJ2_nextUp at hw
  unfold oJ2_nextUp at hok
  refine lv_dload_n hx hb dJ2_nextUp_0 rfl (lv_at hl 0 rfl) ?_
  refine lv_ldc2d (v := 9218868437227405312) hx hb hown (hts _ q374) dJ2_nextUp_1 ?_
  refine lx_dgge (tgt := 34) hx hb dJ2_nextUp_4 dJ2_nextUp_5 (by decide) (fun c1 => ?_) (fun c1 => ?_)
  · replace hw := pf_f (P := post) c1 hw
    refine lv_dload_n hx hb dJ2_nextUp_34 rfl (lv_at hl 0 rfl) ?_
    exact W.dret (v := p0) hx hb hr (fun t ht hW => ⟨_, rfl, hw, ht⟩) (fun q h => nomatch h) dJ2_nextUp_35
  · replace hw := pf_t (P := post) c1 hw
    replace hok := hok.1 c1
    refine lv_dload_n hx hb dJ2_nextUp_8 rfl (lv_at hl 0 rfl) ?_
    refine lv_dconst0 hx hb dJ2_nextUp_9 ?_
    refine lv_dadd hx hb dJ2_nextUp_10 hok.1 ?_
    replace hok := hok.2
    refine vn_d2l hx hb (hml.trans hl.1.symm) hown (hts _ q155) (hts _ q157) (hts _ q156) (hts _ q52) (Nat.le_of_ble_eq_true rfl) (Nat.le_of_ble_eq_true rfl) dJ2_nextUp_11 ?_
    refine lv_topl (fun x2 ex2 => ?_)
    replace hw := pf_let (P := post) hw x2 ex2
    replace hok := hok x2 ex2
    refine lv_lstore_n (lv' := [(2, .long x2), (0, .double p0)]) hx hb dJ2_nextUp_14 rfl hl (by decide) rfl (fun ls hl => ?_)
    refine lv_lload_n hx hb dJ2_nextUp_15 rfl (lv_at hl 0 rfl) ?_
    refine lv_lload_n hx hb dJ2_nextUp_16 rfl (lv_at hl 0 rfl) ?_
    refine lv_lconst (v := 0) hx hb dJ2_nextUp_17 (by decide) ?_
    obtain ⟨PJx3, hPJx3⟩ : ∃ P : Int64 → Prop, ∀ x3 : Int64, P x3 ↔ ∀ ls : Array Slot, lv_has ls 4 [] → W p l e (headSpec (ws_ yJ2_nextUp cJ2_nextUp 4 (Option.some Jvm.ClassFile.FieldType.double)) ({ frames := 1, cells := 0, slots := 0, locals := 15 })).room s m ([.double p0] : List Value).toArray below meth c s.heap ([]) 0 0 (MQ below (vp_Sd post) ([.double p0] : List Value).toArray s 0 0 (fun _ => False)) (F0 m 29 ls [.long x3, .long x2]) := ⟨_, fun _ => Iff.rfl⟩
    have hjx3 : ∀ x3 : Int64, x3 = (if x2 < 0 then (-1) else 1) → PJx3 x3 := by
      intro x3 ex3
      rw [hPJx3]
      intro ls hl
      replace hw := pf_let (P := post) hw x3 ex3
      replace hok := hok x3 ex3
      refine lv_ladd hx hb dJ2_nextUp_29 ?_
      refine vn_l2d hx hb (hml.trans hl.1.symm) hown (hts _ q179) (hts _ q114) (hts _ q113) (hts _ q52) hok (Nat.le_of_ble_eq_true rfl) (Nat.le_of_ble_eq_true rfl) dJ2_nextUp_30 ?_
      exact W.dret (v := (x2 + x3).toUInt64) hx hb hr (fun t ht hW => ⟨_, rfl, hw, ht⟩) (fun q h => nomatch h) dJ2_nextUp_33
    replace hjx3 := hjx3 _ rfl
    refine lx_llt (tgt := 26) hx hb dJ2_nextUp_18 dJ2_nextUp_19 (by decide) (fun c4 => ?_) (fun c4 => ?_)
    · replace hjx3 := pf_t (P := PJx3) c4 hjx3
      refine lv_ldc2 (v := (-1)) hx hb hown (hts _ q375) dJ2_nextUp_26 ?_
      exact (hPJx3 _).1 hjx3 _ (lv_sub hl [] rfl)
    · replace hjx3 := pf_f (P := PJx3) c4 hjx3
      refine lv_lconst (v := 1) hx hb dJ2_nextUp_22 (by decide) ?_
      refine lv_goto (tgt := 29) hx hb dJ2_nextUp_23 (by decide) ?_
      exact (hPJx3 _).1 hjx3 _ (lv_sub hl [] rfl)

def fJ2_nextUp_2 (p0 : UInt32) : UInt32 := if Flt p0 2139095040 then (lt_ ((FP.fadd p0 FP.fconst0).toInt32) (fun x2 : Int32 => lt_ (if x2 < 0 then (-1) else 1) (fun x3 : Int32 => (x2 + x3).toUInt32))) else p0
def oJ2_nextUp_2 (p0 : UInt32) : Prop := ((Flt p0 2139095040) → (vf_n32 (FP.fadd p0 FP.fconst0)) ∧ (∀ x2 : Int32, x2 = (FP.fadd p0 FP.fconst0).toInt32 → (∀ x3 : Int32, x3 = (if x2 < 0 then (-1) else 1) → (vn_sni2f (x2 + x3) = false)))) ∧ (¬ (Flt p0 2139095040) → True)
set_option maxHeartbeats 4000000 in
set_option maxRecDepth 100000 in
theorem mJ2_nextUp_2 (l : Launch) (D : va_G) (TY : Nat → ClassId) (p0 : UInt32) (post : UInt32 → Prop) (hw : post (fJ2_nextUp_2 p0)) (hok : oJ2_nextUp_2 p0) : Met l yJ2_nextUp_2 (ws_ yJ2_nextUp_2 cJ2_nextUp_2 2 (Option.some Jvm.ClassFile.FieldType.float)) ({ frames := 1, cells := 0, slots := 0, locals := 15 }) (PR D TY [.float p0] []) (vp_Sf post) 0 0 (fun _ => False) := by
  refine ofWF (cc := cJ2_nextUp_2) (maxL := 2) (ret := (Option.some Jvm.ClassFile.FieldType.float)) (by decide +kernel) rfl ?_
  intro p e s m args below meth c s₁ B hml hv
  obtain ⟨rfl, hP, hK, hG⟩ := hv
  have hx := B.exec
  have hb := B.bytes
  have hr := B.returns
  have hts0 := atoms_spec (ws := ws_ yJ2_nextUp_2 cJ2_nextUp_2 2 (Option.some Jvm.ClassFile.FieldType.float)) B.pre
  have hts : ∀ w ∈ lw_all, w.before _ s = true := fun w h => hts0 w (List.mem_cons_of_mem _ h)
  have hown : s.vm.findClass RJ2 = some m.cls := findClass_of_methodNamed B.named
  have hlocks := B.notSynchronized
  have hS : va_S (fun _ => False) s.heap s.heap [] := va_S.rf
  have hl := lv_entry ([.float p0]) (n := 2) (Nat.le_of_ble_eq_true rfl)
  rw [lg_entry_eq]
  generalize (lg_sl ([.float p0]) ++ List.replicate (2 - (lg_sl ([.float p0])).length) Slot.unset).toArray = ls at hl ⊢
  have hl : lv_has ls 2 [(0, .float p0)] := hl
  unfold fJ2_nextUp_2 at hw
  unfold oJ2_nextUp_2 at hok
  refine lv_fload_n hx hb dJ2_nextUp_2_0 rfl (lv_at hl 0 rfl) ?_
  refine lv_ldcwf (v := 2139095040) hx hb hown (hts _ q384) dJ2_nextUp_2_1 ?_
  refine lx_fgge (tgt := 30) hx hb dJ2_nextUp_2_4 dJ2_nextUp_2_5 (by decide) (fun c1 => ?_) (fun c1 => ?_)
  · replace hw := pf_f (P := post) c1 hw
    refine lv_fload_n hx hb dJ2_nextUp_2_30 rfl (lv_at hl 0 rfl) ?_
    exact W.fret (v := p0) hx hb hr (fun t ht hW => ⟨_, rfl, hw, ht⟩) (fun q h => nomatch h) dJ2_nextUp_2_31
  · replace hw := pf_t (P := post) c1 hw
    replace hok := hok.1 c1
    refine lv_fload_n hx hb dJ2_nextUp_2_8 rfl (lv_at hl 0 rfl) ?_
    refine lv_fconst0 hx hb dJ2_nextUp_2_9 ?_
    refine lv_fadd hx hb dJ2_nextUp_2_10 hok.1 ?_
    replace hok := hok.2
    refine vn_f2i hx hb (hml.trans hl.1.symm) hown (hts _ q385) (hts _ q297) (hts _ q296) (hts _ q53) (Nat.le_of_ble_eq_true rfl) (Nat.le_of_ble_eq_true rfl) dJ2_nextUp_2_11 ?_
    refine lv_topi (fun x2 ex2 => ?_)
    replace hw := pf_let (P := post) hw x2 ex2
    replace hok := hok x2 ex2
    refine lv_istore_n (lv' := [(1, .int x2), (0, .float p0)]) hx hb dJ2_nextUp_2_14 rfl hl (by decide) rfl (fun ls hl => ?_)
    refine lv_iload_n hx hb dJ2_nextUp_2_15 rfl (lv_at hl 0 rfl) ?_
    refine lv_iload_n hx hb dJ2_nextUp_2_16 rfl (lv_at hl 0 rfl) ?_
    obtain ⟨PJx3, hPJx3⟩ : ∃ P : Int32 → Prop, ∀ x3 : Int32, P x3 ↔ ∀ ls : Array Slot, lv_has ls 2 [] → W p l e (headSpec (ws_ yJ2_nextUp_2 cJ2_nextUp_2 2 (Option.some Jvm.ClassFile.FieldType.float)) ({ frames := 1, cells := 0, slots := 0, locals := 15 })).room s m ([.float p0] : List Value).toArray below meth c s.heap ([]) 0 0 (MQ below (vp_Sf post) ([.float p0] : List Value).toArray s 0 0 (fun _ => False)) (F0 m 25 ls [.int x3, .int x2]) := ⟨_, fun _ => Iff.rfl⟩
    have hjx3 : ∀ x3 : Int32, x3 = (if x2 < 0 then (-1) else 1) → PJx3 x3 := by
      intro x3 ex3
      rw [hPJx3]
      intro ls hl
      replace hw := pf_let (P := post) hw x3 ex3
      replace hok := hok x3 ex3
      refine lv_iadd hx hb dJ2_nextUp_2_25 ?_
      refine vn_i2f hx hb (hml.trans hl.1.symm) hown (hts _ q386) (hts _ q126) (hts _ q125) (hts _ q53) hok (Nat.le_of_ble_eq_true rfl) (Nat.le_of_ble_eq_true rfl) dJ2_nextUp_2_26 ?_
      exact W.fret (v := (x2 + x3).toUInt32) hx hb hr (fun t ht hW => ⟨_, rfl, hw, ht⟩) (fun q h => nomatch h) dJ2_nextUp_2_29
    replace hjx3 := hjx3 _ rfl
    refine lv_if_lt (tgt := 24) hx hb dJ2_nextUp_2_17 (by decide) (fun c4 => ?_) (fun c4 => ?_)
    · replace hjx3 := pf_t (P := PJx3) c4 hjx3
      refine lv_iconst (v := (-1)) hx hb dJ2_nextUp_2_24 (by decide) ?_
      exact (hPJx3 _).1 hjx3 _ (lv_sub hl [] rfl)
    · replace hjx3 := pf_f (P := PJx3) c4 hjx3
      refine lv_iconst (v := 1) hx hb dJ2_nextUp_2_20 (by decide) ?_
      refine lv_goto (tgt := 25) hx hb dJ2_nextUp_2_21 (by decide) ?_
      exact (hPJx3 _).1 hjx3 _ (lv_sub hl [] rfl)

def fJ2_getExponent_2 (p0 : UInt32) : Int32 := (kshr (p0.toInt32 &&& 2139095040) 23) - 127
set_option maxHeartbeats 4000000 in
set_option maxRecDepth 100000 in
theorem mJ2_getExponent_2 (l : Launch) (D : va_G) (TY : Nat → ClassId) (p0 : UInt32) (post : Int32 → Prop) (hw : post (fJ2_getExponent_2 p0)) : Met l yJ2_getExponent_2 (ws_ yJ2_getExponent_2 cJ2_getExponent_2 1 (Option.some Jvm.ClassFile.FieldType.int)) ({ frames := 1, cells := 0, slots := 0, locals := 15 }) (PR D TY [.float p0] []) (vp_Si post) 0 0 (fun _ => False) := by
  refine ofWF (cc := cJ2_getExponent_2) (maxL := 1) (ret := (Option.some Jvm.ClassFile.FieldType.int)) (by decide +kernel) rfl ?_
  intro p e s m args below meth c s₁ B hml hv
  obtain ⟨rfl, hP, hK, hG⟩ := hv
  have hx := B.exec
  have hb := B.bytes
  have hr := B.returns
  have hts0 := atoms_spec (ws := ws_ yJ2_getExponent_2 cJ2_getExponent_2 1 (Option.some Jvm.ClassFile.FieldType.int)) B.pre
  have hts : ∀ w ∈ lw_all, w.before _ s = true := fun w h => hts0 w (List.mem_cons_of_mem _ h)
  have hown : s.vm.findClass RJ2 = some m.cls := findClass_of_methodNamed B.named
  have hlocks := B.notSynchronized
  have hS : va_S (fun _ => False) s.heap s.heap [] := va_S.rf
  have hl := lv_entry ([.float p0]) (n := 1) (Nat.le_of_ble_eq_true rfl)
  rw [lg_entry_eq]
  generalize (lg_sl ([.float p0]) ++ List.replicate (1 - (lg_sl ([.float p0])).length) Slot.unset).toArray = ls at hl ⊢
  have hl : lv_has ls 1 [(0, .float p0)] := hl
  unfold fJ2_getExponent_2 at hw
  refine lv_fload_n hx hb dJ2_getExponent_2_0 rfl (lv_at hl 0 rfl) ?_
  refine vn_f2i hx hb (hml.trans hl.1.symm) hown (hts _ q385) (hts _ q297) (hts _ q296) (hts _ q53) (Nat.le_of_ble_eq_true rfl) (Nat.le_of_ble_eq_true rfl) dJ2_getExponent_2_1 ?_
  refine lv_ldc (v := 2139095040) hx hb hown (hts _ q422) dJ2_getExponent_2_4 ?_
  refine lv_iand hx hb dJ2_getExponent_2_6 ?_
  refine lv_bipush (v := 23) hx hb dJ2_getExponent_2_7 (by decide) ?_
  refine lv_ishr hx hb dJ2_getExponent_2_9 ?_
  refine lv_bipush (v := 127) hx hb dJ2_getExponent_2_10 (by decide) ?_
  refine lv_isub hx hb dJ2_getExponent_2_12 ?_
  exact W.iret (v := (kshr (p0.toInt32 &&& 2139095040) 23) - 127) hx hb hr (fun t ht hW => ⟨_, rfl, hw, ht⟩) (fun q h => nomatch h) dJ2_getExponent_2_13

def fJ2_powerOfTwoF (p0 : Int32) : UInt32 := ((kshl (p0 + 127) 23) &&& 2139095040).toUInt32
def oJ2_powerOfTwoF (p0 : Int32) : Prop := (vn_sni2f ((kshl (p0 + 127) 23) &&& 2139095040) = false)
set_option maxHeartbeats 4000000 in
set_option maxRecDepth 100000 in
theorem mJ2_powerOfTwoF (l : Launch) (D : va_G) (TY : Nat → ClassId) (p0 : Int32) (post : UInt32 → Prop) (hw : post (fJ2_powerOfTwoF p0)) (hok : oJ2_powerOfTwoF p0) : Met l yJ2_powerOfTwoF (ws_ yJ2_powerOfTwoF cJ2_powerOfTwoF 1 (Option.some Jvm.ClassFile.FieldType.float)) ({ frames := 1, cells := 0, slots := 0, locals := 15 }) (PR D TY [.int p0] []) (vp_Sf post) 0 0 (fun _ => False) := by
  refine ofWF (cc := cJ2_powerOfTwoF) (maxL := 1) (ret := (Option.some Jvm.ClassFile.FieldType.float)) (by decide +kernel) rfl ?_
  intro p e s m args below meth c s₁ B hml hv
  obtain ⟨rfl, hP, hK, hG⟩ := hv
  have hx := B.exec
  have hb := B.bytes
  have hr := B.returns
  have hts0 := atoms_spec (ws := ws_ yJ2_powerOfTwoF cJ2_powerOfTwoF 1 (Option.some Jvm.ClassFile.FieldType.float)) B.pre
  have hts : ∀ w ∈ lw_all, w.before _ s = true := fun w h => hts0 w (List.mem_cons_of_mem _ h)
  have hown : s.vm.findClass RJ2 = some m.cls := findClass_of_methodNamed B.named
  have hlocks := B.notSynchronized
  have hS : va_S (fun _ => False) s.heap s.heap [] := va_S.rf
  have hl := lv_entry ([.int p0]) (n := 1) (Nat.le_of_ble_eq_true rfl)
  rw [lg_entry_eq]
  generalize (lg_sl ([.int p0]) ++ List.replicate (1 - (lg_sl ([.int p0])).length) Slot.unset).toArray = ls at hl ⊢
  have hl : lv_has ls 1 [(0, .int p0)] := hl
  unfold fJ2_powerOfTwoF at hw
  unfold oJ2_powerOfTwoF at hok
  refine va_gets hx hb hG.ad hS hown (hts _ q177) (fun _ h => h) dJ2_powerOfTwoF_0 ?_
  refine lv_if_ne (tgt := 26) hx hb dJ2_powerOfTwoF_3 (by decide) (fun _ => ?_) (fun c1 => absurd c1 (by decide))
  refine lv_iload_n hx hb dJ2_powerOfTwoF_26 rfl (lv_at hl 0 rfl) ?_
  refine lv_bipush (v := 127) hx hb dJ2_powerOfTwoF_27 (by decide) ?_
  refine lv_iadd hx hb dJ2_powerOfTwoF_29 ?_
  refine lv_bipush (v := 23) hx hb dJ2_powerOfTwoF_30 (by decide) ?_
  refine lv_ishl hx hb dJ2_powerOfTwoF_32 ?_
  refine lv_ldc (v := 2139095040) hx hb hown (hts _ q422) dJ2_powerOfTwoF_33 ?_
  refine lv_iand hx hb dJ2_powerOfTwoF_35 ?_
  refine vn_i2f hx hb (hml.trans hl.1.symm) hown (hts _ q386) (hts _ q126) (hts _ q125) (hts _ q53) hok (Nat.le_of_ble_eq_true rfl) (Nat.le_of_ble_eq_true rfl) dJ2_powerOfTwoF_36 ?_
  exact W.fret (v := ((kshl (p0 + 127) 23) &&& 2139095040).toUInt32) hx hb hr (fun t ht hW => ⟨_, rfl, hw, ht⟩) (fun q h => nomatch h) dJ2_powerOfTwoF_39

def fJ2_multiplyHigh (p0 : Int64) (p2 : Int64) : Int64 := lt_ (jshr p0 32) (fun x1 : Int64 => lt_ (p0 &&& 4294967295) (fun x2 : Int64 => lt_ (jshr p2 32) (fun x3 : Int64 => lt_ (p2 &&& 4294967295) (fun x4 : Int64 => lt_ (x2 * x4) (fun x5 : Int64 => lt_ ((x1 * x4) + (jushr x5 32)) (fun x6 : Int64 => lt_ (x6 &&& 4294967295) (fun x7 : Int64 => lt_ (jshr x6 32) (fun x8 : Int64 => lt_ (x7 + (x2 * x3)) (fun x9 : Int64 => ((x1 * x3) + x8) + (jshr x9 32))))))))))
set_option maxHeartbeats 4000000 in
set_option maxRecDepth 100000 in
theorem mJ2_multiplyHigh (l : Launch) (D : va_G) (TY : Nat → ClassId) (p0 : Int64) (p2 : Int64) (post : Int64 → Prop) (hw : post (fJ2_multiplyHigh p0 p2)) : Met l yJ2_multiplyHigh (ws_ yJ2_multiplyHigh cJ2_multiplyHigh 20 (Option.some Jvm.ClassFile.FieldType.long)) ({ frames := 0, cells := 0, slots := 0, locals := 0 }) (PR D TY [.long p0, .long p2] []) (vp_Sl post) 0 0 (fun _ => False) := by
  refine ofWF (cc := cJ2_multiplyHigh) (maxL := 20) (ret := (Option.some Jvm.ClassFile.FieldType.long)) (by decide +kernel) rfl ?_
  intro p e s m args below meth c s₁ B hml hv
  obtain ⟨rfl, hP, hK, hG⟩ := hv
  have hx := B.exec
  have hb := B.bytes
  have hr := B.returns
  have hts0 := atoms_spec (ws := ws_ yJ2_multiplyHigh cJ2_multiplyHigh 20 (Option.some Jvm.ClassFile.FieldType.long)) B.pre
  have hts : ∀ w ∈ lw_all, w.before _ s = true := fun w h => hts0 w (List.mem_cons_of_mem _ h)
  have hown : s.vm.findClass RJ2 = some m.cls := findClass_of_methodNamed B.named
  have hlocks := B.notSynchronized
  have hS : va_S (fun _ => False) s.heap s.heap [] := va_S.rf
  have hl := lv_entry ([.long p0, .long p2]) (n := 20) (Nat.le_of_ble_eq_true rfl)
  rw [lg_entry_eq]
  generalize (lg_sl ([.long p0, .long p2]) ++ List.replicate (20 - (lg_sl ([.long p0, .long p2])).length) Slot.unset).toArray = ls at hl ⊢
  have hl : lv_has ls 20 [(0, .long p0), (2, .long p2)] := hl
  unfold fJ2_multiplyHigh at hw
  refine lv_lload_n hx hb dJ2_multiplyHigh_0 rfl (lv_at hl 0 rfl) ?_
  refine lv_bipush (v := 32) hx hb dJ2_multiplyHigh_1 (by decide) ?_
  refine lv_lshr (v := jshr p0 32) hx hb dJ2_multiplyHigh_3 rfl ?_
  refine lv_topl (fun x1 ex1 => ?_)
  replace hw := pf_let (P := post) hw x1 ex1
  refine lv_lstore (lv' := [(4, .long x1), (0, .long p0), (2, .long p2)]) hx hb dJ2_multiplyHigh_4 hl (by decide) rfl (fun ls hl => ?_)
  refine lv_lload_n hx hb dJ2_multiplyHigh_6 rfl (lv_at hl 1 rfl) ?_
  refine lv_ldc2 (v := 4294967295) hx hb hown (hts _ q447) dJ2_multiplyHigh_7 ?_
  refine lv_land hx hb dJ2_multiplyHigh_10 ?_
  refine lv_topl (fun x2 ex2 => ?_)
  replace hw := pf_let (P := post) hw x2 ex2
  refine lv_lstore (lv' := [(6, .long x2), (4, .long x1), (0, .long p0), (2, .long p2)]) hx hb dJ2_multiplyHigh_11 hl (by decide) rfl (fun ls hl => ?_)
  refine lv_lload_n hx hb dJ2_multiplyHigh_13 rfl (lv_at hl 3 rfl) ?_
  refine lv_bipush (v := 32) hx hb dJ2_multiplyHigh_14 (by decide) ?_
  refine lv_lshr (v := jshr p2 32) hx hb dJ2_multiplyHigh_16 rfl ?_
  refine lv_topl (fun x3 ex3 => ?_)
  replace hw := pf_let (P := post) hw x3 ex3
  refine lv_lstore (lv' := [(8, .long x3), (6, .long x2), (4, .long x1), (0, .long p0), (2, .long p2)]) hx hb dJ2_multiplyHigh_17 hl (by decide) rfl (fun ls hl => ?_)
  refine lv_lload_n hx hb dJ2_multiplyHigh_19 rfl (lv_at hl 4 rfl) ?_
  refine lv_ldc2 (v := 4294967295) hx hb hown (hts _ q447) dJ2_multiplyHigh_20 ?_
  refine lv_land hx hb dJ2_multiplyHigh_23 ?_
  refine lv_topl (fun x4 ex4 => ?_)
  replace hw := pf_let (P := post) hw x4 ex4
  refine lv_lstore (lv' := [(10, .long x4), (8, .long x3), (6, .long x2), (4, .long x1), (0, .long p0), (2, .long p2)]) hx hb dJ2_multiplyHigh_24 hl (by decide) rfl (fun ls hl => ?_)
  refine lv_lload hx hb dJ2_multiplyHigh_26 (lv_at hl 2 rfl) ?_
  refine lv_lload hx hb dJ2_multiplyHigh_28 (lv_at hl 0 rfl) ?_
  refine lv_lmul hx hb dJ2_multiplyHigh_30 ?_
  refine lv_topl (fun x5 ex5 => ?_)
  replace hw := pf_let (P := post) hw x5 ex5
  refine lv_lstore (lv' := [(12, .long x5), (10, .long x4), (8, .long x3), (6, .long x2), (4, .long x1), (0, .long p0), (2, .long p2)]) hx hb dJ2_multiplyHigh_31 hl (by decide) rfl (fun ls hl => ?_)
  refine lv_lload hx hb dJ2_multiplyHigh_33 (lv_at hl 4 rfl) ?_
  refine lv_lload hx hb dJ2_multiplyHigh_35 (lv_at hl 1 rfl) ?_
  refine lv_lmul hx hb dJ2_multiplyHigh_37 ?_
  refine lv_lload hx hb dJ2_multiplyHigh_38 (lv_at hl 0 rfl) ?_
  refine lv_bipush (v := 32) hx hb dJ2_multiplyHigh_40 (by decide) ?_
  refine lv_lushr (v := jushr x5 32) hx hb dJ2_multiplyHigh_42 rfl ?_
  refine lv_ladd hx hb dJ2_multiplyHigh_43 ?_
  refine lv_topl (fun x6 ex6 => ?_)
  replace hw := pf_let (P := post) hw x6 ex6
  refine lv_lstore (lv' := [(14, .long x6), (12, .long x5), (10, .long x4), (8, .long x3), (6, .long x2), (4, .long x1), (0, .long p0), (2, .long p2)]) hx hb dJ2_multiplyHigh_44 hl (by decide) rfl (fun ls hl => ?_)
  refine lv_lload hx hb dJ2_multiplyHigh_46 (lv_at hl 0 rfl) ?_
  refine lv_ldc2 (v := 4294967295) hx hb hown (hts _ q447) dJ2_multiplyHigh_48 ?_
  refine lv_land hx hb dJ2_multiplyHigh_51 ?_
  refine lv_topl (fun x7 ex7 => ?_)
  replace hw := pf_let (P := post) hw x7 ex7
  refine lv_lstore (lv' := [(16, .long x7), (14, .long x6), (12, .long x5), (10, .long x4), (8, .long x3), (6, .long x2), (4, .long x1), (0, .long p0), (2, .long p2)]) hx hb dJ2_multiplyHigh_52 hl (by decide) rfl (fun ls hl => ?_)
  refine lv_lload hx hb dJ2_multiplyHigh_54 (lv_at hl 1 rfl) ?_
  refine lv_bipush (v := 32) hx hb dJ2_multiplyHigh_56 (by decide) ?_
  refine lv_lshr (v := jshr x6 32) hx hb dJ2_multiplyHigh_58 rfl ?_
  refine lv_topl (fun x8 ex8 => ?_)
  replace hw := pf_let (P := post) hw x8 ex8
  refine lv_lstore (lv' := [(18, .long x8), (16, .long x7), (14, .long x6), (12, .long x5), (10, .long x4), (8, .long x3), (6, .long x2), (4, .long x1), (0, .long p0), (2, .long p2)]) hx hb dJ2_multiplyHigh_59 hl (by decide) rfl (fun ls hl => ?_)
  refine lv_lload hx hb dJ2_multiplyHigh_61 (lv_at hl 1 rfl) ?_
  refine lv_lload hx hb dJ2_multiplyHigh_63 (lv_at hl 6 rfl) ?_
  refine lv_lload hx hb dJ2_multiplyHigh_65 (lv_at hl 5 rfl) ?_
  refine lv_lmul hx hb dJ2_multiplyHigh_67 ?_
  refine lv_ladd hx hb dJ2_multiplyHigh_68 ?_
  refine lv_topl (fun x9 ex9 => ?_)
  replace hw := pf_let (P := post) hw x9 ex9
  refine lv_lstore (lv' := [(16, .long x9), (18, .long x8), (14, .long x6), (12, .long x5), (10, .long x4), (8, .long x3), (6, .long x2), (4, .long x1), (0, .long p0), (2, .long p2)]) hx hb dJ2_multiplyHigh_69 hl (by decide) rfl (fun ls hl => ?_)
  refine lv_lload hx hb dJ2_multiplyHigh_71 (lv_at hl 7 rfl) ?_
  refine lv_lload hx hb dJ2_multiplyHigh_73 (lv_at hl 5 rfl) ?_
  refine lv_lmul hx hb dJ2_multiplyHigh_75 ?_
  refine lv_lload hx hb dJ2_multiplyHigh_76 (lv_at hl 1 rfl) ?_
  refine lv_ladd hx hb dJ2_multiplyHigh_78 ?_
  refine lv_lload hx hb dJ2_multiplyHigh_79 (lv_at hl 0 rfl) ?_
  refine lv_bipush (v := 32) hx hb dJ2_multiplyHigh_81 (by decide) ?_
  refine lv_lshr (v := jshr x9 32) hx hb dJ2_multiplyHigh_83 rfl ?_
  refine lv_ladd hx hb dJ2_multiplyHigh_84 ?_
  exact W.lret (v := ((x1 * x3) + x8) + (jshr x9 32)) hx hb hr (fun t ht hW => ⟨_, rfl, hw, ht⟩) (fun q h => nomatch h) dJ2_multiplyHigh_85

def fJ2_abs_3 (p0 : Int64) : Int64 := lt_ (if p0 < 0 then (-p0) else p0) (fun x1 : Int64 => x1)
set_option maxHeartbeats 4000000 in
set_option maxRecDepth 100000 in
theorem mJ2_abs_3 (l : Launch) (D : va_G) (TY : Nat → ClassId) (p0 : Int64) (post : Int64 → Prop) (hw : post (fJ2_abs_3 p0)) : Met l yJ2_abs_3 (ws_ yJ2_abs_3 cJ2_abs_3 2 (Option.some Jvm.ClassFile.FieldType.long)) ({ frames := 0, cells := 0, slots := 0, locals := 0 }) (PR D TY [.long p0] []) (vp_Sl post) 0 0 (fun _ => False) := by
  refine ofWF (cc := cJ2_abs_3) (maxL := 2) (ret := (Option.some Jvm.ClassFile.FieldType.long)) (by decide +kernel) rfl ?_
  intro p e s m args below meth c s₁ B hml hv
  obtain ⟨rfl, hP, hK, hG⟩ := hv
  have hx := B.exec
  have hb := B.bytes
  have hr := B.returns
  have hts0 := atoms_spec (ws := ws_ yJ2_abs_3 cJ2_abs_3 2 (Option.some Jvm.ClassFile.FieldType.long)) B.pre
  have hts : ∀ w ∈ lw_all, w.before _ s = true := fun w h => hts0 w (List.mem_cons_of_mem _ h)
  have hown : s.vm.findClass RJ2 = some m.cls := findClass_of_methodNamed B.named
  have hlocks := B.notSynchronized
  have hS : va_S (fun _ => False) s.heap s.heap [] := va_S.rf
  have hl := lv_entry ([.long p0]) (n := 2) (Nat.le_of_ble_eq_true rfl)
  rw [lg_entry_eq]
  generalize (lg_sl ([.long p0]) ++ List.replicate (2 - (lg_sl ([.long p0])).length) Slot.unset).toArray = ls at hl ⊢
  have hl : lv_has ls 2 [(0, .long p0)] := hl
  unfold fJ2_abs_3 at hw
  refine lv_lload_n hx hb dJ2_abs_3_0 rfl (lv_at hl 0 rfl) ?_
  refine lv_lconst (v := 0) hx hb dJ2_abs_3_1 (by decide) ?_
  obtain ⟨PJx1, hPJx1⟩ : ∃ P : Int64 → Prop, ∀ x1 : Int64, P x1 ↔ ∀ ls : Array Slot, lv_has ls 2 [] → W p l e (headSpec (ws_ yJ2_abs_3 cJ2_abs_3 2 (Option.some Jvm.ClassFile.FieldType.long)) ({ frames := 0, cells := 0, slots := 0, locals := 0 })).room s m ([.long p0] : List Value).toArray below meth c s.heap ([]) 0 0 (MQ below (vp_Sl post) ([.long p0] : List Value).toArray s 0 0 (fun _ => False)) (F0 m 12 ls [.long x1]) := ⟨_, fun _ => Iff.rfl⟩
  have hjx1 : ∀ x1 : Int64, x1 = (if p0 < 0 then (-p0) else p0) → PJx1 x1 := by
    intro x1 ex1
    rw [hPJx1]
    intro ls hl
    replace hw := pf_let (P := post) hw x1 ex1
    exact W.lret (v := x1) hx hb hr (fun t ht hW => ⟨_, rfl, hw, ht⟩) (fun q h => nomatch h) dJ2_abs_3_12
  replace hjx1 := hjx1 _ rfl
  refine lx_lge (tgt := 11) hx hb dJ2_abs_3_2 dJ2_abs_3_3 (by decide) (fun c2 => ?_) (fun c2 => ?_)
  · replace hjx1 := pf_f (P := PJx1) c2 hjx1
    refine lv_lload_n hx hb dJ2_abs_3_11 rfl (lv_at hl 0 rfl) ?_
    exact (hPJx1 _).1 hjx1 _ (lv_sub hl [] rfl)
  · replace hjx1 := pf_t (P := PJx1) c2 hjx1
    refine lv_lload_n hx hb dJ2_abs_3_6 rfl (lv_at hl 0 rfl) ?_
    refine lv_lneg hx hb dJ2_abs_3_7 ?_
    refine lv_goto (tgt := 12) hx hb dJ2_abs_3_8 (by decide) ?_
    exact (hPJx1 _).1 hjx1 _ (lv_sub hl [] rfl)

def fJ2_abs_4 (p0 : Int32) : Int32 := lt_ (if 0 ≤ p0 then p0 else (-p0)) (fun x1 : Int32 => x1)
set_option maxHeartbeats 4000000 in
set_option maxRecDepth 100000 in
theorem mJ2_abs_4 (l : Launch) (D : va_G) (TY : Nat → ClassId) (p0 : Int32) (post : Int32 → Prop) (hw : post (fJ2_abs_4 p0)) : Met l yJ2_abs_4 (ws_ yJ2_abs_4 cJ2_abs_4 1 (Option.some Jvm.ClassFile.FieldType.int)) ({ frames := 0, cells := 0, slots := 0, locals := 0 }) (PR D TY [.int p0] []) (vp_Si post) 0 0 (fun _ => False) := by
  refine ofWF (cc := cJ2_abs_4) (maxL := 1) (ret := (Option.some Jvm.ClassFile.FieldType.int)) (by decide +kernel) rfl ?_
  intro p e s m args below meth c s₁ B hml hv
  obtain ⟨rfl, hP, hK, hG⟩ := hv
  have hx := B.exec
  have hb := B.bytes
  have hr := B.returns
  have hts0 := atoms_spec (ws := ws_ yJ2_abs_4 cJ2_abs_4 1 (Option.some Jvm.ClassFile.FieldType.int)) B.pre
  have hts : ∀ w ∈ lw_all, w.before _ s = true := fun w h => hts0 w (List.mem_cons_of_mem _ h)
  have hown : s.vm.findClass RJ2 = some m.cls := findClass_of_methodNamed B.named
  have hlocks := B.notSynchronized
  have hS : va_S (fun _ => False) s.heap s.heap [] := va_S.rf
  have hl := lv_entry ([.int p0]) (n := 1) (Nat.le_of_ble_eq_true rfl)
  rw [lg_entry_eq]
  generalize (lg_sl ([.int p0]) ++ List.replicate (1 - (lg_sl ([.int p0])).length) Slot.unset).toArray = ls at hl ⊢
  have hl : lv_has ls 1 [(0, .int p0)] := hl
  unfold fJ2_abs_4 at hw
  refine lv_iload_n hx hb dJ2_abs_4_0 rfl (lv_at hl 0 rfl) ?_
  obtain ⟨PJx1, hPJx1⟩ : ∃ P : Int32 → Prop, ∀ x1 : Int32, P x1 ↔ ∀ ls : Array Slot, lv_has ls 1 [] → W p l e (headSpec (ws_ yJ2_abs_4 cJ2_abs_4 1 (Option.some Jvm.ClassFile.FieldType.int)) ({ frames := 0, cells := 0, slots := 0, locals := 0 })).room s m ([.int p0] : List Value).toArray below meth c s.heap ([]) 0 0 (MQ below (vp_Si post) ([.int p0] : List Value).toArray s 0 0 (fun _ => False)) (F0 m 10 ls [.int x1]) := ⟨_, fun _ => Iff.rfl⟩
  have hjx1 : ∀ x1 : Int32, x1 = (if 0 ≤ p0 then p0 else (-p0)) → PJx1 x1 := by
    intro x1 ex1
    rw [hPJx1]
    intro ls hl
    replace hw := pf_let (P := post) hw x1 ex1
    exact W.iret (v := x1) hx hb hr (fun t ht hW => ⟨_, rfl, hw, ht⟩) (fun q h => nomatch h) dJ2_abs_4_10
  replace hjx1 := hjx1 _ rfl
  refine lv_if_ge (tgt := 9) hx hb dJ2_abs_4_1 (by decide) (fun c2 => ?_) (fun c2 => ?_)
  · replace hjx1 := pf_t (P := PJx1) c2 hjx1
    refine lv_iload_n hx hb dJ2_abs_4_9 rfl (lv_at hl 0 rfl) ?_
    exact (hPJx1 _).1 hjx1 _ (lv_sub hl [] rfl)
  · replace hjx1 := pf_f (P := PJx1) c2 hjx1
    refine lv_iload_n hx hb dJ2_abs_4_4 rfl (lv_at hl 0 rfl) ?_
    refine lv_ineg hx hb dJ2_abs_4_5 ?_
    refine lv_goto (tgt := 10) hx hb dJ2_abs_4_6 (by decide) ?_
    exact (hPJx1 _).1 hjx1 _ (lv_sub hl [] rfl)

def fJ3_compare (p0 : Int64) (p2 : Int64) : Int32 := lt_ (if p0 < p2 then (-1) else (if p0 = p2 then 0 else 1)) (fun x1 : Int32 => x1)
set_option maxHeartbeats 4000000 in
set_option maxRecDepth 100000 in
theorem mJ3_compare (l : Launch) (D : va_G) (TY : Nat → ClassId) (p0 : Int64) (p2 : Int64) (post : Int32 → Prop) (hw : post (fJ3_compare p0 p2)) : Met l yJ3_compare (ws_ yJ3_compare cJ3_compare 4 (Option.some Jvm.ClassFile.FieldType.int)) ({ frames := 0, cells := 0, slots := 0, locals := 0 }) (PR D TY [.long p0, .long p2] []) (vp_Si post) 0 0 (fun _ => False) := by
  refine ofWF (cc := cJ3_compare) (maxL := 4) (ret := (Option.some Jvm.ClassFile.FieldType.int)) (plainFor_of_name (by decide)) rfl ?_
  intro p e s m args below meth c s₁ B hml hv
  obtain ⟨rfl, hP, hK, hG⟩ := hv
  have hx := B.exec
  have hb := B.bytes
  have hr := B.returns
  have hts0 := atoms_spec (ws := ws_ yJ3_compare cJ3_compare 4 (Option.some Jvm.ClassFile.FieldType.int)) B.pre
  have hts : ∀ w ∈ lw_all, w.before _ s = true := fun w h => hts0 w (List.mem_cons_of_mem _ h)
  have hown : s.vm.findClass RJ3 = some m.cls := findClass_of_methodNamed B.named
  have hlocks := B.notSynchronized
  have hS : va_S (fun _ => False) s.heap s.heap [] := va_S.rf
  have hl := lv_entry ([.long p0, .long p2]) (n := 4) (Nat.le_of_ble_eq_true rfl)
  rw [lg_entry_eq]
  generalize (lg_sl ([.long p0, .long p2]) ++ List.replicate (4 - (lg_sl ([.long p0, .long p2])).length) Slot.unset).toArray = ls at hl ⊢
  have hl : lv_has ls 4 [(0, .long p0), (2, .long p2)] := hl
  unfold fJ3_compare at hw
  refine lv_lload_n hx hb dJ3_compare_0 rfl (lv_at hl 0 rfl) ?_
  refine lv_lload_n hx hb dJ3_compare_1 rfl (lv_at hl 1 rfl) ?_
  obtain ⟨PJx1, hPJx1⟩ : ∃ P : Int32 → Prop, ∀ x1 : Int32, P x1 ↔ ∀ ls : Array Slot, lv_has ls 4 [] → W p l e (headSpec (ws_ yJ3_compare cJ3_compare 4 (Option.some Jvm.ClassFile.FieldType.int)) ({ frames := 0, cells := 0, slots := 0, locals := 0 })).room s m ([.long p0, .long p2] : List Value).toArray below meth c s.heap ([]) 0 0 (MQ below (vp_Si post) ([.long p0, .long p2] : List Value).toArray s 0 0 (fun _ => False)) (F0 m 21 ls [.int x1]) := ⟨_, fun _ => Iff.rfl⟩
  have hjx1 : ∀ x1 : Int32, x1 = (if p0 < p2 then (-1) else (if p0 = p2 then 0 else 1)) → PJx1 x1 := by
    intro x1 ex1
    rw [hPJx1]
    intro ls hl
    replace hw := pf_let (P := post) hw x1 ex1
    exact W.iret (v := x1) hx hb hr (fun t ht hW => ⟨_, rfl, hw, ht⟩) (fun q h => nomatch h) dJ3_compare_21
  replace hjx1 := hjx1 _ rfl
  refine lx_lge (tgt := 10) hx hb dJ3_compare_2 dJ3_compare_3 (by decide) (fun c2 => ?_) (fun c2 => ?_)
  · replace hjx1 := pf_f (P := PJx1) c2 hjx1
    refine lv_lload_n hx hb dJ3_compare_10 rfl (lv_at hl 0 rfl) ?_
    refine lv_lload_n hx hb dJ3_compare_11 rfl (lv_at hl 1 rfl) ?_
    refine lx_lne (tgt := 20) hx hb dJ3_compare_12 dJ3_compare_13 (by decide) (fun c3 => ?_) (fun c3 => ?_)
    · replace hjx1 := pf_f (P := PJx1) c3 hjx1
      refine lv_iconst (v := 1) hx hb dJ3_compare_20 (by decide) ?_
      exact (hPJx1 _).1 hjx1 _ (lv_sub hl [] rfl)
    · replace hjx1 := pf_t (P := PJx1) c3 hjx1
      refine lv_iconst (v := 0) hx hb dJ3_compare_16 (by decide) ?_
      refine lv_goto (tgt := 21) hx hb dJ3_compare_17 (by decide) ?_
      exact (hPJx1 _).1 hjx1 _ (lv_sub hl [] rfl)
  · replace hjx1 := pf_t (P := PJx1) c2 hjx1
    refine lv_iconst (v := (-1)) hx hb dJ3_compare_6 (by decide) ?_
    refine lv_goto (tgt := 21) hx hb dJ3_compare_7 (by decide) ?_
    exact (hPJx1 _).1 hjx1 _ (lv_sub hl [] rfl)

def fJ4_numberOfLeadingZeros (p0 : Int32) : Int32 := if 0 < p0 then (lt_ (if p0 < 65536 then (p0, 31) else (lt_ (kushr p0 16) (fun x5 : Int32 => (x5, 15)))) (fun x2 : Int32 × Int32 => lt_ (if x2.1 < 256 then (x2.1, x2.2) else (lt_ (x2.2 + (-8)) (fun x8 : Int32 => lt_ (kushr x2.1 8) (fun x9 : Int32 => (x9, x8))))) (fun x6 : Int32 × Int32 => lt_ (if x6.1 < 16 then (x6.1, x6.2) else (lt_ (x6.2 + (-4)) (fun x12 : Int32 => lt_ (kushr x6.1 4) (fun x13 : Int32 => (x13, x12))))) (fun x10 : Int32 × Int32 => lt_ (if x10.1 < 4 then (x10.1, x10.2) else (lt_ (x10.2 + (-2)) (fun x16 : Int32 => lt_ (kushr x10.1 2) (fun x17 : Int32 => (x17, x16))))) (fun x14 : Int32 × Int32 => x14.2 - (kushr x14.1 1)))))) else (lt_ (if p0 = 0 then 32 else 0) (fun x18 : Int32 => x18))
set_option maxHeartbeats 4000000 in
set_option maxRecDepth 100000 in
theorem mJ4_numberOfLeadingZeros (l : Launch) (D : va_G) (TY : Nat → ClassId) (p0 : Int32) (post : Int32 → Prop) (hw : post (fJ4_numberOfLeadingZeros p0)) : Met l yJ4_numberOfLeadingZeros (ws_ yJ4_numberOfLeadingZeros cJ4_numberOfLeadingZeros 2 (Option.some Jvm.ClassFile.FieldType.int)) ({ frames := 0, cells := 0, slots := 0, locals := 0 }) (PR D TY [.int p0] []) (vp_Si post) 0 0 (fun _ => False) := by
  refine ofWF (cc := cJ4_numberOfLeadingZeros) (maxL := 2) (ret := (Option.some Jvm.ClassFile.FieldType.int)) (plainFor_of_name (by decide)) rfl ?_
  intro p e s m args below meth c s₁ B hml hv
  obtain ⟨rfl, hP, hK, hG⟩ := hv
  have hx := B.exec
  have hb := B.bytes
  have hr := B.returns
  have hts0 := atoms_spec (ws := ws_ yJ4_numberOfLeadingZeros cJ4_numberOfLeadingZeros 2 (Option.some Jvm.ClassFile.FieldType.int)) B.pre
  have hts : ∀ w ∈ lw_all, w.before _ s = true := fun w h => hts0 w (List.mem_cons_of_mem _ h)
  have hown : s.vm.findClass RJ4 = some m.cls := findClass_of_methodNamed B.named
  have hlocks := B.notSynchronized
  have hS : va_S (fun _ => False) s.heap s.heap [] := va_S.rf
  have hl := lv_entry ([.int p0]) (n := 2) (Nat.le_of_ble_eq_true rfl)
  rw [lg_entry_eq]
  generalize (lg_sl ([.int p0]) ++ List.replicate (2 - (lg_sl ([.int p0])).length) Slot.unset).toArray = ls at hl ⊢
  have hl : lv_has ls 2 [(0, .int p0)] := hl
  unfold fJ4_numberOfLeadingZeros at hw
  refine lv_iload_n hx hb dJ4_numberOfLeadingZeros_0 rfl (lv_at hl 0 rfl) ?_
  refine lv_if_gt (tgt := 15) hx hb dJ4_numberOfLeadingZeros_1 (by decide) (fun c1 => ?_) (fun c1 => ?_)
  · replace hw := pf_t (P := post) c1 hw
    refine lv_bipush (v := 31) hx hb dJ4_numberOfLeadingZeros_15 (by decide) ?_
    refine lv_istore_n (lv' := [(1, .int 31), (0, .int p0)]) hx hb dJ4_numberOfLeadingZeros_17 rfl hl (by decide) rfl (fun ls hl => ?_)
    refine lv_iload_n hx hb dJ4_numberOfLeadingZeros_18 rfl (lv_at hl 1 rfl) ?_
    refine lv_ldcw (v := 65536) hx hb hown (hts _ q212) dJ4_numberOfLeadingZeros_19 ?_
    obtain ⟨PJx2, hPJx2⟩ : ∃ P : Int32 × Int32 → Prop, ∀ x2 : Int32 × Int32, P x2 ↔ ∀ ls : Array Slot, lv_has ls 2 [(0, .int x2.1), (1, .int x2.2)] → W p l e (headSpec (ws_ yJ4_numberOfLeadingZeros cJ4_numberOfLeadingZeros 2 (Option.some Jvm.ClassFile.FieldType.int)) ({ frames := 0, cells := 0, slots := 0, locals := 0 })).room s m ([.int p0] : List Value).toArray below meth c s.heap ([]) 0 0 (MQ below (vp_Si post) ([.int p0] : List Value).toArray s 0 0 (fun _ => False)) (F0 m 33 ls []) := ⟨_, fun _ => Iff.rfl⟩
    have hjx2 : ∀ x2 : Int32 × Int32, x2 = (if p0 < 65536 then (p0, 31) else (lt_ (kushr p0 16) (fun x5 : Int32 => (x5, 15)))) → PJx2 x2 := by
      intro x2 ex2
      rw [hPJx2]
      intro ls hl
      replace hw := pf_let (P := post) hw x2 ex2
      refine lv_iload_n hx hb dJ4_numberOfLeadingZeros_33 rfl (lv_at hl 0 rfl) ?_
      refine lv_sipush (v := 256) hx hb dJ4_numberOfLeadingZeros_34 (by decide) ?_
      obtain ⟨PJx6, hPJx6⟩ : ∃ P : Int32 × Int32 → Prop, ∀ x6 : Int32 × Int32, P x6 ↔ ∀ ls : Array Slot, lv_has ls 2 [(0, .int x6.1), (1, .int x6.2)] → W p l e (headSpec (ws_ yJ4_numberOfLeadingZeros cJ4_numberOfLeadingZeros 2 (Option.some Jvm.ClassFile.FieldType.int)) ({ frames := 0, cells := 0, slots := 0, locals := 0 })).room s m ([.int p0] : List Value).toArray below meth c s.heap ([]) 0 0 (MQ below (vp_Si post) ([.int p0] : List Value).toArray s 0 0 (fun _ => False)) (F0 m 48 ls []) := ⟨_, fun _ => Iff.rfl⟩
      have hjx6 : ∀ x6 : Int32 × Int32, x6 = (if x2.1 < 256 then (x2.1, x2.2) else (lt_ (x2.2 + (-8)) (fun x8 : Int32 => lt_ (kushr x2.1 8) (fun x9 : Int32 => (x9, x8))))) → PJx6 x6 := by
        intro x6 ex6
        rw [hPJx6]
        intro ls hl
        replace hw := pf_let (P := post) hw x6 ex6
        refine lv_iload_n hx hb dJ4_numberOfLeadingZeros_48 rfl (lv_at hl 0 rfl) ?_
        refine lv_bipush (v := 16) hx hb dJ4_numberOfLeadingZeros_49 (by decide) ?_
        obtain ⟨PJx10, hPJx10⟩ : ∃ P : Int32 × Int32 → Prop, ∀ x10 : Int32 × Int32, P x10 ↔ ∀ ls : Array Slot, lv_has ls 2 [(0, .int x10.1), (1, .int x10.2)] → W p l e (headSpec (ws_ yJ4_numberOfLeadingZeros cJ4_numberOfLeadingZeros 2 (Option.some Jvm.ClassFile.FieldType.int)) ({ frames := 0, cells := 0, slots := 0, locals := 0 })).room s m ([.int p0] : List Value).toArray below meth c s.heap ([]) 0 0 (MQ below (vp_Si post) ([.int p0] : List Value).toArray s 0 0 (fun _ => False)) (F0 m 61 ls []) := ⟨_, fun _ => Iff.rfl⟩
        have hjx10 : ∀ x10 : Int32 × Int32, x10 = (if x6.1 < 16 then (x6.1, x6.2) else (lt_ (x6.2 + (-4)) (fun x12 : Int32 => lt_ (kushr x6.1 4) (fun x13 : Int32 => (x13, x12))))) → PJx10 x10 := by
          intro x10 ex10
          rw [hPJx10]
          intro ls hl
          replace hw := pf_let (P := post) hw x10 ex10
          refine lv_iload_n hx hb dJ4_numberOfLeadingZeros_61 rfl (lv_at hl 0 rfl) ?_
          refine lv_iconst (v := 4) hx hb dJ4_numberOfLeadingZeros_62 (by decide) ?_
          obtain ⟨PJx14, hPJx14⟩ : ∃ P : Int32 × Int32 → Prop, ∀ x14 : Int32 × Int32, P x14 ↔ ∀ ls : Array Slot, lv_has ls 2 [(0, .int x14.1), (1, .int x14.2)] → W p l e (headSpec (ws_ yJ4_numberOfLeadingZeros cJ4_numberOfLeadingZeros 2 (Option.some Jvm.ClassFile.FieldType.int)) ({ frames := 0, cells := 0, slots := 0, locals := 0 })).room s m ([.int p0] : List Value).toArray below meth c s.heap ([]) 0 0 (MQ below (vp_Si post) ([.int p0] : List Value).toArray s 0 0 (fun _ => False)) (F0 m 73 ls []) := ⟨_, fun _ => Iff.rfl⟩
          have hjx14 : ∀ x14 : Int32 × Int32, x14 = (if x10.1 < 4 then (x10.1, x10.2) else (lt_ (x10.2 + (-2)) (fun x16 : Int32 => lt_ (kushr x10.1 2) (fun x17 : Int32 => (x17, x16))))) → PJx14 x14 := by
            intro x14 ex14
            rw [hPJx14]
            intro ls hl
            replace hw := pf_let (P := post) hw x14 ex14
            refine lv_iload_n hx hb dJ4_numberOfLeadingZeros_73 rfl (lv_at hl 1 rfl) ?_
            refine lv_iload_n hx hb dJ4_numberOfLeadingZeros_74 rfl (lv_at hl 0 rfl) ?_
            refine lv_iconst (v := 1) hx hb dJ4_numberOfLeadingZeros_75 (by decide) ?_
            refine lv_iushr (v := kushr x14.1 1) hx hb dJ4_numberOfLeadingZeros_76 rfl ?_
            refine lv_isub hx hb dJ4_numberOfLeadingZeros_77 ?_
            exact W.iret (v := x14.2 - (kushr x14.1 1)) hx hb hr (fun t ht hW => ⟨_, rfl, hw, ht⟩) (fun q h => nomatch h) dJ4_numberOfLeadingZeros_78
          replace hjx14 := hjx14 _ rfl
          refine lv_icmp_lt (tgt := 73) hx hb dJ4_numberOfLeadingZeros_63 (by decide) (fun c15 => ?_) (fun c15 => ?_)
          · replace hjx14 := pf_t (P := PJx14) c15 hjx14
            exact (hPJx14 _).1 hjx14 _ (lv_sub hl [0, 1] rfl)
          · replace hjx14 := pf_f (P := PJx14) c15 hjx14
            obtain ⟨x16, ex16⟩ : ∃ y : Int32, y = x10.2 + (-2) := ⟨_, rfl⟩
            refine lv_iinc (v := x16) (lv' := [(1, .int x16), (0, .int x10.1)]) hx hb dJ4_numberOfLeadingZeros_66 hl (k := 1) rfl (by rw [ex16]; rfl) (by decide) rfl (fun ls hl => ?_)
            replace hjx14 := pf_let (P := PJx14) hjx14 x16 ex16
            refine lv_iload_n hx hb dJ4_numberOfLeadingZeros_69 rfl (lv_at hl 1 rfl) ?_
            refine lv_iconst (v := 2) hx hb dJ4_numberOfLeadingZeros_70 (by decide) ?_
            refine lv_iushr (v := kushr x10.1 2) hx hb dJ4_numberOfLeadingZeros_71 rfl ?_
            refine lv_topi (fun x17 ex17 => ?_)
            replace hjx14 := pf_let (P := PJx14) hjx14 x17 ex17
            refine lv_istore_n (lv' := [(0, .int x17), (1, .int x16)]) hx hb dJ4_numberOfLeadingZeros_72 rfl hl (by decide) rfl (fun ls hl => ?_)
            exact (hPJx14 _).1 hjx14 _ (lv_sub hl [0, 1] rfl)
        replace hjx10 := hjx10 _ rfl
        refine lv_icmp_lt (tgt := 61) hx hb dJ4_numberOfLeadingZeros_51 (by decide) (fun c11 => ?_) (fun c11 => ?_)
        · replace hjx10 := pf_t (P := PJx10) c11 hjx10
          exact (hPJx10 _).1 hjx10 _ (lv_sub hl [0, 1] rfl)
        · replace hjx10 := pf_f (P := PJx10) c11 hjx10
          obtain ⟨x12, ex12⟩ : ∃ y : Int32, y = x6.2 + (-4) := ⟨_, rfl⟩
          refine lv_iinc (v := x12) (lv' := [(1, .int x12), (0, .int x6.1)]) hx hb dJ4_numberOfLeadingZeros_54 hl (k := 1) rfl (by rw [ex12]; rfl) (by decide) rfl (fun ls hl => ?_)
          replace hjx10 := pf_let (P := PJx10) hjx10 x12 ex12
          refine lv_iload_n hx hb dJ4_numberOfLeadingZeros_57 rfl (lv_at hl 1 rfl) ?_
          refine lv_iconst (v := 4) hx hb dJ4_numberOfLeadingZeros_58 (by decide) ?_
          refine lv_iushr (v := kushr x6.1 4) hx hb dJ4_numberOfLeadingZeros_59 rfl ?_
          refine lv_topi (fun x13 ex13 => ?_)
          replace hjx10 := pf_let (P := PJx10) hjx10 x13 ex13
          refine lv_istore_n (lv' := [(0, .int x13), (1, .int x12)]) hx hb dJ4_numberOfLeadingZeros_60 rfl hl (by decide) rfl (fun ls hl => ?_)
          exact (hPJx10 _).1 hjx10 _ (lv_sub hl [0, 1] rfl)
      replace hjx6 := hjx6 _ rfl
      refine lv_icmp_lt (tgt := 48) hx hb dJ4_numberOfLeadingZeros_37 (by decide) (fun c7 => ?_) (fun c7 => ?_)
      · replace hjx6 := pf_t (P := PJx6) c7 hjx6
        exact (hPJx6 _).1 hjx6 _ (lv_sub hl [0, 1] rfl)
      · replace hjx6 := pf_f (P := PJx6) c7 hjx6
        obtain ⟨x8, ex8⟩ : ∃ y : Int32, y = x2.2 + (-8) := ⟨_, rfl⟩
        refine lv_iinc (v := x8) (lv' := [(1, .int x8), (0, .int x2.1)]) hx hb dJ4_numberOfLeadingZeros_40 hl (k := 1) rfl (by rw [ex8]; rfl) (by decide) rfl (fun ls hl => ?_)
        replace hjx6 := pf_let (P := PJx6) hjx6 x8 ex8
        refine lv_iload_n hx hb dJ4_numberOfLeadingZeros_43 rfl (lv_at hl 1 rfl) ?_
        refine lv_bipush (v := 8) hx hb dJ4_numberOfLeadingZeros_44 (by decide) ?_
        refine lv_iushr (v := kushr x2.1 8) hx hb dJ4_numberOfLeadingZeros_46 rfl ?_
        refine lv_topi (fun x9 ex9 => ?_)
        replace hjx6 := pf_let (P := PJx6) hjx6 x9 ex9
        refine lv_istore_n (lv' := [(0, .int x9), (1, .int x8)]) hx hb dJ4_numberOfLeadingZeros_47 rfl hl (by decide) rfl (fun ls hl => ?_)
        exact (hPJx6 _).1 hjx6 _ (lv_sub hl [0, 1] rfl)
    replace hjx2 := hjx2 _ rfl
    refine lv_icmp_lt (tgt := 33) hx hb dJ4_numberOfLeadingZeros_22 (by decide) (fun c3 => ?_) (fun c3 => ?_)
    · replace hjx2 := pf_t (P := PJx2) c3 hjx2
      exact (hPJx2 _).1 hjx2 _ (lv_sub hl [1, 0] rfl)
    · replace hjx2 := pf_f (P := PJx2) c3 hjx2
      refine lv_iinc (v := 15) (lv' := [(1, .int 15), (0, .int p0)]) hx hb dJ4_numberOfLeadingZeros_25 hl (k := 0) rfl (by decide) (by decide) rfl (fun ls hl => ?_)
      refine lv_iload_n hx hb dJ4_numberOfLeadingZeros_28 rfl (lv_at hl 1 rfl) ?_
      refine lv_bipush (v := 16) hx hb dJ4_numberOfLeadingZeros_29 (by decide) ?_
      refine lv_iushr (v := kushr p0 16) hx hb dJ4_numberOfLeadingZeros_31 rfl ?_
      refine lv_topi (fun x5 ex5 => ?_)
      replace hjx2 := pf_let (P := PJx2) hjx2 x5 ex5
      refine lv_istore_n (lv' := [(0, .int x5), (1, .int 15)]) hx hb dJ4_numberOfLeadingZeros_32 rfl hl (by decide) rfl (fun ls hl => ?_)
      exact (hPJx2 _).1 hjx2 _ (lv_sub hl [0, 1] rfl)
  · replace hw := pf_f (P := post) c1 hw
    refine lv_iload_n hx hb dJ4_numberOfLeadingZeros_4 rfl (lv_at hl 0 rfl) ?_
    obtain ⟨PJx18, hPJx18⟩ : ∃ P : Int32 → Prop, ∀ x18 : Int32, P x18 ↔ ∀ ls : Array Slot, lv_has ls 2 [] → W p l e (headSpec (ws_ yJ4_numberOfLeadingZeros cJ4_numberOfLeadingZeros 2 (Option.some Jvm.ClassFile.FieldType.int)) ({ frames := 0, cells := 0, slots := 0, locals := 0 })).room s m ([.int p0] : List Value).toArray below meth c s.heap ([]) 0 0 (MQ below (vp_Si post) ([.int p0] : List Value).toArray s 0 0 (fun _ => False)) (F0 m 14 ls [.int x18]) := ⟨_, fun _ => Iff.rfl⟩
    have hjx18 : ∀ x18 : Int32, x18 = (if p0 = 0 then 32 else 0) → PJx18 x18 := by
      intro x18 ex18
      rw [hPJx18]
      intro ls hl
      replace hw := pf_let (P := post) hw x18 ex18
      exact W.iret (v := x18) hx hb hr (fun t ht hW => ⟨_, rfl, hw, ht⟩) (fun q h => nomatch h) dJ4_numberOfLeadingZeros_14
    replace hjx18 := hjx18 _ rfl
    refine lv_if_ne (tgt := 13) hx hb dJ4_numberOfLeadingZeros_5 (by decide) (fun c19 => ?_) (fun c19 => ?_)
    · replace hjx18 := pf_f (P := PJx18) c19 hjx18
      refine lv_iconst (v := 0) hx hb dJ4_numberOfLeadingZeros_13 (by decide) ?_
      exact (hPJx18 _).1 hjx18 _ (lv_sub hl [] rfl)
    · replace hjx18 := pf_t (P := PJx18) c19 hjx18
      refine lv_bipush (v := 32) hx hb dJ4_numberOfLeadingZeros_8 (by decide) ?_
      refine lv_goto (tgt := 14) hx hb dJ4_numberOfLeadingZeros_10 (by decide) ?_
      exact (hPJx18 _).1 hjx18 _ (lv_sub hl [] rfl)

def fJ4_numberOfTrailingZeros (p0 : Int32) : Int32 := lt_ ((p0 ^^^ (-1)) &&& (p0 - 1)) (fun x1 : Int32 => if 0 < x1 then (lt_ (if x1 ≤ 65536 then (x1, 1) else (lt_ (kushr x1 16) (fun x6 : Int32 => (x6, 17)))) (fun x3 : Int32 × Int32 => lt_ (if x3.1 ≤ 256 then (x3.1, x3.2) else (lt_ (x3.2 + 8) (fun x9 : Int32 => lt_ (kushr x3.1 8) (fun x10 : Int32 => (x10, x9))))) (fun x7 : Int32 × Int32 => lt_ (if x7.1 ≤ 16 then (x7.1, x7.2) else (lt_ (x7.2 + 4) (fun x13 : Int32 => lt_ (kushr x7.1 4) (fun x14 : Int32 => (x14, x13))))) (fun x11 : Int32 × Int32 => lt_ (if x11.1 ≤ 4 then (x11.1, x11.2) else (lt_ (x11.2 + 2) (fun x17 : Int32 => lt_ (kushr x11.1 2) (fun x18 : Int32 => (x18, x17))))) (fun x15 : Int32 × Int32 => x15.2 + (kushr x15.1 1)))))) else (x1 &&& 32))
set_option maxHeartbeats 4000000 in
set_option maxRecDepth 100000 in
theorem mJ4_numberOfTrailingZeros (l : Launch) (D : va_G) (TY : Nat → ClassId) (p0 : Int32) (post : Int32 → Prop) (hw : post (fJ4_numberOfTrailingZeros p0)) : Met l yJ4_numberOfTrailingZeros (ws_ yJ4_numberOfTrailingZeros cJ4_numberOfTrailingZeros 2 (Option.some Jvm.ClassFile.FieldType.int)) ({ frames := 0, cells := 0, slots := 0, locals := 0 }) (PR D TY [.int p0] []) (vp_Si post) 0 0 (fun _ => False) := by
  refine ofWF (cc := cJ4_numberOfTrailingZeros) (maxL := 2) (ret := (Option.some Jvm.ClassFile.FieldType.int)) (plainFor_of_name (by decide)) rfl ?_
  intro p e s m args below meth c s₁ B hml hv
  obtain ⟨rfl, hP, hK, hG⟩ := hv
  have hx := B.exec
  have hb := B.bytes
  have hr := B.returns
  have hts0 := atoms_spec (ws := ws_ yJ4_numberOfTrailingZeros cJ4_numberOfTrailingZeros 2 (Option.some Jvm.ClassFile.FieldType.int)) B.pre
  have hts : ∀ w ∈ lw_all, w.before _ s = true := fun w h => hts0 w (List.mem_cons_of_mem _ h)
  have hown : s.vm.findClass RJ4 = some m.cls := findClass_of_methodNamed B.named
  have hlocks := B.notSynchronized
  have hS : va_S (fun _ => False) s.heap s.heap [] := va_S.rf
  have hl := lv_entry ([.int p0]) (n := 2) (Nat.le_of_ble_eq_true rfl)
  rw [lg_entry_eq]
  generalize (lg_sl ([.int p0]) ++ List.replicate (2 - (lg_sl ([.int p0])).length) Slot.unset).toArray = ls at hl ⊢
  have hl : lv_has ls 2 [(0, .int p0)] := hl
  unfold fJ4_numberOfTrailingZeros at hw
  refine lv_iload_n hx hb dJ4_numberOfTrailingZeros_0 rfl (lv_at hl 0 rfl) ?_
  refine lv_iconst (v := (-1)) hx hb dJ4_numberOfTrailingZeros_1 (by decide) ?_
  refine lv_ixor hx hb dJ4_numberOfTrailingZeros_2 ?_
  refine lv_iload_n hx hb dJ4_numberOfTrailingZeros_3 rfl (lv_at hl 0 rfl) ?_
  refine lv_iconst (v := 1) hx hb dJ4_numberOfTrailingZeros_4 (by decide) ?_
  refine lv_isub hx hb dJ4_numberOfTrailingZeros_5 ?_
  refine lv_iand hx hb dJ4_numberOfTrailingZeros_6 ?_
  refine lv_topi (fun x1 ex1 => ?_)
  replace hw := pf_let (P := post) hw x1 ex1
  refine lv_istore_n (lv' := [(0, .int x1)]) hx hb dJ4_numberOfTrailingZeros_7 rfl hl (by decide) rfl (fun ls hl => ?_)
  refine lv_iload_n hx hb dJ4_numberOfTrailingZeros_8 rfl (lv_at hl 0 rfl) ?_
  refine lv_if_gt (tgt := 17) hx hb dJ4_numberOfTrailingZeros_9 (by decide) (fun c2 => ?_) (fun c2 => ?_)
  · replace hw := pf_t (P := post) c2 hw
    refine lv_iconst (v := 1) hx hb dJ4_numberOfTrailingZeros_17 (by decide) ?_
    refine lv_istore_n (lv' := [(1, .int 1), (0, .int x1)]) hx hb dJ4_numberOfTrailingZeros_18 rfl hl (by decide) rfl (fun ls hl => ?_)
    refine lv_iload_n hx hb dJ4_numberOfTrailingZeros_19 rfl (lv_at hl 1 rfl) ?_
    refine lv_ldcw (v := 65536) hx hb hown (hts _ q212) dJ4_numberOfTrailingZeros_20 ?_
    obtain ⟨PJx3, hPJx3⟩ : ∃ P : Int32 × Int32 → Prop, ∀ x3 : Int32 × Int32, P x3 ↔ ∀ ls : Array Slot, lv_has ls 2 [(0, .int x3.1), (1, .int x3.2)] → W p l e (headSpec (ws_ yJ4_numberOfTrailingZeros cJ4_numberOfTrailingZeros 2 (Option.some Jvm.ClassFile.FieldType.int)) ({ frames := 0, cells := 0, slots := 0, locals := 0 })).room s m ([.int p0] : List Value).toArray below meth c s.heap ([]) 0 0 (MQ below (vp_Si post) ([.int p0] : List Value).toArray s 0 0 (fun _ => False)) (F0 m 34 ls []) := ⟨_, fun _ => Iff.rfl⟩
    have hjx3 : ∀ x3 : Int32 × Int32, x3 = (if x1 ≤ 65536 then (x1, 1) else (lt_ (kushr x1 16) (fun x6 : Int32 => (x6, 17)))) → PJx3 x3 := by
      intro x3 ex3
      rw [hPJx3]
      intro ls hl
      replace hw := pf_let (P := post) hw x3 ex3
      refine lv_iload_n hx hb dJ4_numberOfTrailingZeros_34 rfl (lv_at hl 0 rfl) ?_
      refine lv_sipush (v := 256) hx hb dJ4_numberOfTrailingZeros_35 (by decide) ?_
      obtain ⟨PJx7, hPJx7⟩ : ∃ P : Int32 × Int32 → Prop, ∀ x7 : Int32 × Int32, P x7 ↔ ∀ ls : Array Slot, lv_has ls 2 [(0, .int x7.1), (1, .int x7.2)] → W p l e (headSpec (ws_ yJ4_numberOfTrailingZeros cJ4_numberOfTrailingZeros 2 (Option.some Jvm.ClassFile.FieldType.int)) ({ frames := 0, cells := 0, slots := 0, locals := 0 })).room s m ([.int p0] : List Value).toArray below meth c s.heap ([]) 0 0 (MQ below (vp_Si post) ([.int p0] : List Value).toArray s 0 0 (fun _ => False)) (F0 m 49 ls []) := ⟨_, fun _ => Iff.rfl⟩
      have hjx7 : ∀ x7 : Int32 × Int32, x7 = (if x3.1 ≤ 256 then (x3.1, x3.2) else (lt_ (x3.2 + 8) (fun x9 : Int32 => lt_ (kushr x3.1 8) (fun x10 : Int32 => (x10, x9))))) → PJx7 x7 := by
        intro x7 ex7
        rw [hPJx7]
        intro ls hl
        replace hw := pf_let (P := post) hw x7 ex7
        refine lv_iload_n hx hb dJ4_numberOfTrailingZeros_49 rfl (lv_at hl 0 rfl) ?_
        refine lv_bipush (v := 16) hx hb dJ4_numberOfTrailingZeros_50 (by decide) ?_
        obtain ⟨PJx11, hPJx11⟩ : ∃ P : Int32 × Int32 → Prop, ∀ x11 : Int32 × Int32, P x11 ↔ ∀ ls : Array Slot, lv_has ls 2 [(0, .int x11.1), (1, .int x11.2)] → W p l e (headSpec (ws_ yJ4_numberOfTrailingZeros cJ4_numberOfTrailingZeros 2 (Option.some Jvm.ClassFile.FieldType.int)) ({ frames := 0, cells := 0, slots := 0, locals := 0 })).room s m ([.int p0] : List Value).toArray below meth c s.heap ([]) 0 0 (MQ below (vp_Si post) ([.int p0] : List Value).toArray s 0 0 (fun _ => False)) (F0 m 62 ls []) := ⟨_, fun _ => Iff.rfl⟩
        have hjx11 : ∀ x11 : Int32 × Int32, x11 = (if x7.1 ≤ 16 then (x7.1, x7.2) else (lt_ (x7.2 + 4) (fun x13 : Int32 => lt_ (kushr x7.1 4) (fun x14 : Int32 => (x14, x13))))) → PJx11 x11 := by
          intro x11 ex11
          rw [hPJx11]
          intro ls hl
          replace hw := pf_let (P := post) hw x11 ex11
          refine lv_iload_n hx hb dJ4_numberOfTrailingZeros_62 rfl (lv_at hl 0 rfl) ?_
          refine lv_iconst (v := 4) hx hb dJ4_numberOfTrailingZeros_63 (by decide) ?_
          obtain ⟨PJx15, hPJx15⟩ : ∃ P : Int32 × Int32 → Prop, ∀ x15 : Int32 × Int32, P x15 ↔ ∀ ls : Array Slot, lv_has ls 2 [(0, .int x15.1), (1, .int x15.2)] → W p l e (headSpec (ws_ yJ4_numberOfTrailingZeros cJ4_numberOfTrailingZeros 2 (Option.some Jvm.ClassFile.FieldType.int)) ({ frames := 0, cells := 0, slots := 0, locals := 0 })).room s m ([.int p0] : List Value).toArray below meth c s.heap ([]) 0 0 (MQ below (vp_Si post) ([.int p0] : List Value).toArray s 0 0 (fun _ => False)) (F0 m 74 ls []) := ⟨_, fun _ => Iff.rfl⟩
          have hjx15 : ∀ x15 : Int32 × Int32, x15 = (if x11.1 ≤ 4 then (x11.1, x11.2) else (lt_ (x11.2 + 2) (fun x17 : Int32 => lt_ (kushr x11.1 2) (fun x18 : Int32 => (x18, x17))))) → PJx15 x15 := by
            intro x15 ex15
            rw [hPJx15]
            intro ls hl
            replace hw := pf_let (P := post) hw x15 ex15
            refine lv_iload_n hx hb dJ4_numberOfTrailingZeros_74 rfl (lv_at hl 1 rfl) ?_
            refine lv_iload_n hx hb dJ4_numberOfTrailingZeros_75 rfl (lv_at hl 0 rfl) ?_
            refine lv_iconst (v := 1) hx hb dJ4_numberOfTrailingZeros_76 (by decide) ?_
            refine lv_iushr (v := kushr x15.1 1) hx hb dJ4_numberOfTrailingZeros_77 rfl ?_
            refine lv_iadd hx hb dJ4_numberOfTrailingZeros_78 ?_
            exact W.iret (v := x15.2 + (kushr x15.1 1)) hx hb hr (fun t ht hW => ⟨_, rfl, hw, ht⟩) (fun q h => nomatch h) dJ4_numberOfTrailingZeros_79
          replace hjx15 := hjx15 _ rfl
          refine lv_icmp_le (tgt := 74) hx hb dJ4_numberOfTrailingZeros_64 (by decide) (fun c16 => ?_) (fun c16 => ?_)
          · replace hjx15 := pf_t (P := PJx15) c16 hjx15
            exact (hPJx15 _).1 hjx15 _ (lv_sub hl [0, 1] rfl)
          · replace hjx15 := pf_f (P := PJx15) c16 hjx15
            obtain ⟨x17, ex17⟩ : ∃ y : Int32, y = x11.2 + 2 := ⟨_, rfl⟩
            refine lv_iinc (v := x17) (lv' := [(1, .int x17), (0, .int x11.1)]) hx hb dJ4_numberOfTrailingZeros_67 hl (k := 1) rfl (by rw [ex17]; rfl) (by decide) rfl (fun ls hl => ?_)
            replace hjx15 := pf_let (P := PJx15) hjx15 x17 ex17
            refine lv_iload_n hx hb dJ4_numberOfTrailingZeros_70 rfl (lv_at hl 1 rfl) ?_
            refine lv_iconst (v := 2) hx hb dJ4_numberOfTrailingZeros_71 (by decide) ?_
            refine lv_iushr (v := kushr x11.1 2) hx hb dJ4_numberOfTrailingZeros_72 rfl ?_
            refine lv_topi (fun x18 ex18 => ?_)
            replace hjx15 := pf_let (P := PJx15) hjx15 x18 ex18
            refine lv_istore_n (lv' := [(0, .int x18), (1, .int x17)]) hx hb dJ4_numberOfTrailingZeros_73 rfl hl (by decide) rfl (fun ls hl => ?_)
            exact (hPJx15 _).1 hjx15 _ (lv_sub hl [0, 1] rfl)
        replace hjx11 := hjx11 _ rfl
        refine lv_icmp_le (tgt := 62) hx hb dJ4_numberOfTrailingZeros_52 (by decide) (fun c12 => ?_) (fun c12 => ?_)
        · replace hjx11 := pf_t (P := PJx11) c12 hjx11
          exact (hPJx11 _).1 hjx11 _ (lv_sub hl [0, 1] rfl)
        · replace hjx11 := pf_f (P := PJx11) c12 hjx11
          obtain ⟨x13, ex13⟩ : ∃ y : Int32, y = x7.2 + 4 := ⟨_, rfl⟩
          refine lv_iinc (v := x13) (lv' := [(1, .int x13), (0, .int x7.1)]) hx hb dJ4_numberOfTrailingZeros_55 hl (k := 1) rfl (by rw [ex13]; rfl) (by decide) rfl (fun ls hl => ?_)
          replace hjx11 := pf_let (P := PJx11) hjx11 x13 ex13
          refine lv_iload_n hx hb dJ4_numberOfTrailingZeros_58 rfl (lv_at hl 1 rfl) ?_
          refine lv_iconst (v := 4) hx hb dJ4_numberOfTrailingZeros_59 (by decide) ?_
          refine lv_iushr (v := kushr x7.1 4) hx hb dJ4_numberOfTrailingZeros_60 rfl ?_
          refine lv_topi (fun x14 ex14 => ?_)
          replace hjx11 := pf_let (P := PJx11) hjx11 x14 ex14
          refine lv_istore_n (lv' := [(0, .int x14), (1, .int x13)]) hx hb dJ4_numberOfTrailingZeros_61 rfl hl (by decide) rfl (fun ls hl => ?_)
          exact (hPJx11 _).1 hjx11 _ (lv_sub hl [0, 1] rfl)
      replace hjx7 := hjx7 _ rfl
      refine lv_icmp_le (tgt := 49) hx hb dJ4_numberOfTrailingZeros_38 (by decide) (fun c8 => ?_) (fun c8 => ?_)
      · replace hjx7 := pf_t (P := PJx7) c8 hjx7
        exact (hPJx7 _).1 hjx7 _ (lv_sub hl [0, 1] rfl)
      · replace hjx7 := pf_f (P := PJx7) c8 hjx7
        obtain ⟨x9, ex9⟩ : ∃ y : Int32, y = x3.2 + 8 := ⟨_, rfl⟩
        refine lv_iinc (v := x9) (lv' := [(1, .int x9), (0, .int x3.1)]) hx hb dJ4_numberOfTrailingZeros_41 hl (k := 1) rfl (by rw [ex9]; rfl) (by decide) rfl (fun ls hl => ?_)
        replace hjx7 := pf_let (P := PJx7) hjx7 x9 ex9
        refine lv_iload_n hx hb dJ4_numberOfTrailingZeros_44 rfl (lv_at hl 1 rfl) ?_
        refine lv_bipush (v := 8) hx hb dJ4_numberOfTrailingZeros_45 (by decide) ?_
        refine lv_iushr (v := kushr x3.1 8) hx hb dJ4_numberOfTrailingZeros_47 rfl ?_
        refine lv_topi (fun x10 ex10 => ?_)
        replace hjx7 := pf_let (P := PJx7) hjx7 x10 ex10
        refine lv_istore_n (lv' := [(0, .int x10), (1, .int x9)]) hx hb dJ4_numberOfTrailingZeros_48 rfl hl (by decide) rfl (fun ls hl => ?_)
        exact (hPJx7 _).1 hjx7 _ (lv_sub hl [0, 1] rfl)
    replace hjx3 := hjx3 _ rfl
    refine lv_icmp_le (tgt := 34) hx hb dJ4_numberOfTrailingZeros_23 (by decide) (fun c4 => ?_) (fun c4 => ?_)
    · replace hjx3 := pf_t (P := PJx3) c4 hjx3
      exact (hPJx3 _).1 hjx3 _ (lv_sub hl [1, 0] rfl)
    · replace hjx3 := pf_f (P := PJx3) c4 hjx3
      refine lv_iinc (v := 17) (lv' := [(1, .int 17), (0, .int x1)]) hx hb dJ4_numberOfTrailingZeros_26 hl (k := 0) rfl (by decide) (by decide) rfl (fun ls hl => ?_)
      refine lv_iload_n hx hb dJ4_numberOfTrailingZeros_29 rfl (lv_at hl 1 rfl) ?_
      refine lv_bipush (v := 16) hx hb dJ4_numberOfTrailingZeros_30 (by decide) ?_
      refine lv_iushr (v := kushr x1 16) hx hb dJ4_numberOfTrailingZeros_32 rfl ?_
      refine lv_topi (fun x6 ex6 => ?_)
      replace hjx3 := pf_let (P := PJx3) hjx3 x6 ex6
      refine lv_istore_n (lv' := [(0, .int x6), (1, .int 17)]) hx hb dJ4_numberOfTrailingZeros_33 rfl hl (by decide) rfl (fun ls hl => ?_)
      exact (hPJx3 _).1 hjx3 _ (lv_sub hl [0, 1] rfl)
  · replace hw := pf_f (P := post) c2 hw
    refine lv_iload_n hx hb dJ4_numberOfTrailingZeros_12 rfl (lv_at hl 0 rfl) ?_
    refine lv_bipush (v := 32) hx hb dJ4_numberOfTrailingZeros_13 (by decide) ?_
    refine lv_iand hx hb dJ4_numberOfTrailingZeros_15 ?_
    exact W.iret (v := x1 &&& 32) hx hb hr (fun t ht hW => ⟨_, rfl, hw, ht⟩) (fun q h => nomatch h) dJ4_numberOfTrailingZeros_16

def fJ4_compare (p0 : Int32) (p1 : Int32) : Int32 := lt_ (if p1 ≤ p0 then (if p0 = p1 then 0 else 1) else (-1)) (fun x1 : Int32 => x1)
set_option maxHeartbeats 4000000 in
set_option maxRecDepth 100000 in
theorem mJ4_compare (l : Launch) (D : va_G) (TY : Nat → ClassId) (p0 : Int32) (p1 : Int32) (post : Int32 → Prop) (hw : post (fJ4_compare p0 p1)) : Met l yJ4_compare (ws_ yJ4_compare cJ4_compare 2 (Option.some Jvm.ClassFile.FieldType.int)) ({ frames := 0, cells := 0, slots := 0, locals := 0 }) (PR D TY [.int p0, .int p1] []) (vp_Si post) 0 0 (fun _ => False) := by
  refine ofWF (cc := cJ4_compare) (maxL := 2) (ret := (Option.some Jvm.ClassFile.FieldType.int)) (plainFor_of_name (by decide)) rfl ?_
  intro p e s m args below meth c s₁ B hml hv
  obtain ⟨rfl, hP, hK, hG⟩ := hv
  have hx := B.exec
  have hb := B.bytes
  have hr := B.returns
  have hts0 := atoms_spec (ws := ws_ yJ4_compare cJ4_compare 2 (Option.some Jvm.ClassFile.FieldType.int)) B.pre
  have hts : ∀ w ∈ lw_all, w.before _ s = true := fun w h => hts0 w (List.mem_cons_of_mem _ h)
  have hown : s.vm.findClass RJ4 = some m.cls := findClass_of_methodNamed B.named
  have hlocks := B.notSynchronized
  have hS : va_S (fun _ => False) s.heap s.heap [] := va_S.rf
  have hl := lv_entry ([.int p0, .int p1]) (n := 2) (Nat.le_of_ble_eq_true rfl)
  rw [lg_entry_eq]
  generalize (lg_sl ([.int p0, .int p1]) ++ List.replicate (2 - (lg_sl ([.int p0, .int p1])).length) Slot.unset).toArray = ls at hl ⊢
  have hl : lv_has ls 2 [(0, .int p0), (1, .int p1)] := hl
  unfold fJ4_compare at hw
  refine lv_iload_n hx hb dJ4_compare_0 rfl (lv_at hl 0 rfl) ?_
  refine lv_iload_n hx hb dJ4_compare_1 rfl (lv_at hl 1 rfl) ?_
  obtain ⟨PJx1, hPJx1⟩ : ∃ P : Int32 → Prop, ∀ x1 : Int32, P x1 ↔ ∀ ls : Array Slot, lv_has ls 2 [] → W p l e (headSpec (ws_ yJ4_compare cJ4_compare 2 (Option.some Jvm.ClassFile.FieldType.int)) ({ frames := 0, cells := 0, slots := 0, locals := 0 })).room s m ([.int p0, .int p1] : List Value).toArray below meth c s.heap ([]) 0 0 (MQ below (vp_Si post) ([.int p0, .int p1] : List Value).toArray s 0 0 (fun _ => False)) (F0 m 19 ls [.int x1]) := ⟨_, fun _ => Iff.rfl⟩
  have hjx1 : ∀ x1 : Int32, x1 = (if p1 ≤ p0 then (if p0 = p1 then 0 else 1) else (-1)) → PJx1 x1 := by
    intro x1 ex1
    rw [hPJx1]
    intro ls hl
    replace hw := pf_let (P := post) hw x1 ex1
    exact W.iret (v := x1) hx hb hr (fun t ht hW => ⟨_, rfl, hw, ht⟩) (fun q h => nomatch h) dJ4_compare_19
  replace hjx1 := hjx1 _ rfl
  refine lv_icmp_ge (tgt := 9) hx hb dJ4_compare_2 (by decide) (fun c2 => ?_) (fun c2 => ?_)
  · replace hjx1 := pf_t (P := PJx1) c2 hjx1
    refine lv_iload_n hx hb dJ4_compare_9 rfl (lv_at hl 0 rfl) ?_
    refine lv_iload_n hx hb dJ4_compare_10 rfl (lv_at hl 1 rfl) ?_
    refine lv_icmp_ne (tgt := 18) hx hb dJ4_compare_11 (by decide) (fun c3 => ?_) (fun c3 => ?_)
    · replace hjx1 := pf_f (P := PJx1) c3 hjx1
      refine lv_iconst (v := 1) hx hb dJ4_compare_18 (by decide) ?_
      exact (hPJx1 _).1 hjx1 _ (lv_sub hl [] rfl)
    · replace hjx1 := pf_t (P := PJx1) c3 hjx1
      refine lv_iconst (v := 0) hx hb dJ4_compare_14 (by decide) ?_
      refine lv_goto (tgt := 19) hx hb dJ4_compare_15 (by decide) ?_
      exact (hPJx1 _).1 hjx1 _ (lv_sub hl [] rfl)
  · replace hjx1 := pf_f (P := PJx1) c2 hjx1
    refine lv_iconst (v := (-1)) hx hb dJ4_compare_5 (by decide) ?_
    refine lv_goto (tgt := 19) hx hb dJ4_compare_6 (by decide) ?_
    exact (hPJx1 _).1 hjx1 _ (lv_sub hl [] rfl)

theorem hd_J2_getExponent : yJ2_getExponent.cls ≠ "java/lang/invoke/MethodHandle" ∧ yJ2_getExponent.cls ≠ "java/lang/invoke/VarHandle" ∧ (parseMethodDescriptor yJ2_getExponent.desc).map (fun d => d.parameters.length) = some 1 := by decide +kernel
def fJ5_floorOrCeil (p0 : UInt64) (p2 : UInt64) (p4 : UInt64) (p6 : UInt64) : UInt64 := lt_ (fJ2_getExponent p0) (fun x1 : Int32 => if 0 ≤ x1 then (if x1 < 52 then (lt_ (jshr 4503599627370495 x1) (fun x4 : Int64 => if (x4 &&& p0.toInt64) = 0 then p0 else (lt_ ((p0.toInt64 &&& (x4 ^^^ (-1))).toUInt64) (fun x6 : UInt64 => lt_ (if Dgt (FP.dmul p6 p0) FP.dconst0 then (lt_ (FP.dadd x6 p6) (fun x9 : UInt64 => x9)) else x6) (fun x7 : UInt64 => x7))))) else p0) else (lt_ (if Deq p0 FP.dconst0 then p0 else (if Dlt p0 FP.dconst0 then p2 else p4)) (fun x11 : UInt64 => x11)))
def oJ5_floorOrCeil (p0 : UInt64) (p6 : UInt64) : Prop := ∀ x1 : Int32, x1 = fJ2_getExponent p0 → ((0 ≤ x1) → ((x1 < 52) → ∀ x4 : Int64, x4 = jshr 4503599627370495 x1 → (((x4 &&& p0.toInt64) = 0) → True) ∧ (¬ ((x4 &&& p0.toInt64) = 0) → (vn_snl2d (p0.toInt64 &&& (x4 ^^^ (-1))) = false) ∧ (∀ x6 : UInt64, x6 = (p0.toInt64 &&& (x4 ^^^ (-1))).toUInt64 → (vf_n64 (FP.dmul p6 p0)) ∧ (((Dgt (FP.dmul p6 p0) FP.dconst0) → (vf_n64 (FP.dadd x6 p6))) ∧ (¬ (Dgt (FP.dmul p6 p0) FP.dconst0) → True))))) ∧ (¬ (x1 < 52) → True)) ∧ (¬ (0 ≤ x1) → True)
set_option maxHeartbeats 4000000 in
set_option maxRecDepth 100000 in
theorem mJ5_floorOrCeil (l : Launch) (D : va_G) (TY : Nat → ClassId) (p0 : UInt64) (p2 : UInt64) (p4 : UInt64) (p6 : UInt64) (post : UInt64 → Prop) (hw : post (fJ5_floorOrCeil p0 p2 p4 p6)) (hok : oJ5_floorOrCeil p0 p6) : Met l yJ5_floorOrCeil (ws_ yJ5_floorOrCeil cJ5_floorOrCeil 15 (Option.some Jvm.ClassFile.FieldType.double)) ({ frames := 2, cells := 0, slots := 0, locals := 36 }) (PR D TY [.double p0, .double p2, .double p4, .double p6] []) (vp_Sd post) 0 0 (fun _ => False) := by
  refine ofWF (cc := cJ5_floorOrCeil) (maxL := 15) (ret := (Option.some Jvm.ClassFile.FieldType.double)) (by decide +kernel) rfl ?_
  intro p e s m args below meth c s₁ B hml hv
  obtain ⟨rfl, hP, hK, hG⟩ := hv
  have hx := B.exec
  have hb := B.bytes
  have hr := B.returns
  have hts0 := atoms_spec (ws := ws_ yJ5_floorOrCeil cJ5_floorOrCeil 15 (Option.some Jvm.ClassFile.FieldType.double)) B.pre
  have hts : ∀ w ∈ lw_all, w.before _ s = true := fun w h => hts0 w (List.mem_cons_of_mem _ h)
  have hown : s.vm.findClass RJ5 = some m.cls := findClass_of_methodNamed B.named
  have hlocks := B.notSynchronized
  have hS : va_S (fun _ => False) s.heap s.heap [] := va_S.rf
  have hl := lv_entry ([.double p0, .double p2, .double p4, .double p6]) (n := 15) (Nat.le_of_ble_eq_true rfl)
  rw [lg_entry_eq]
  generalize (lg_sl ([.double p0, .double p2, .double p4, .double p6]) ++ List.replicate (15 - (lg_sl ([.double p0, .double p2, .double p4, .double p6])).length) Slot.unset).toArray = ls at hl ⊢
  have hl : lv_has ls 15 [(0, .double p0), (2, .double p2), (4, .double p4), (6, .double p6)] := hl
  unfold fJ5_floorOrCeil at hw
  unfold oJ5_floorOrCeil at hok
  refine lv_dload_n hx hb dJ5_floorOrCeil_0 rfl (lv_at hl 0 rfl) ?_
  refine cSi (v := fJ2_getExponent p0) (W.runS (As := [.double p0]) (rest := []) ⟨hx, hb, hml, hown, hts⟩ (mJ2_getExponent l D TY p0 (fun r => r = fJ2_getExponent p0) rfl) (va_cwS 1 hts (lw_S q589 q153 q54 q154) rfl rfl rfl hd_J2_getExponent ⟨Nat.le_of_ble_eq_true rfl, Nat.le_of_ble_eq_true rfl⟩) (PR.S hP [] rfl hK hG hS) rfl rfl hl.1 rfl (lv_room (Nat.le_of_ble_eq_true rfl)) dJ5_floorOrCeil_1 ⟨Nat.le_of_ble_eq_true rfl, Nat.le_of_ble_eq_true rfl⟩) ?_
  refine lv_topi (fun x1 ex1 => ?_)
  replace hw := pf_let (P := post) hw x1 ex1
  replace hok := hok x1 ex1
  refine lv_istore (lv' := [(8, .int x1), (0, .double p0), (2, .double p2), (4, .double p4), (6, .double p6)]) hx hb dJ5_floorOrCeil_4 hl (by decide) rfl (fun ls hl => ?_)
  refine lv_iload hx hb dJ5_floorOrCeil_6 (lv_at hl 0 rfl) ?_
  refine lv_if_ge (tgt := 34) hx hb dJ5_floorOrCeil_8 (by decide) (fun c2 => ?_) (fun c2 => ?_)
  · replace hw := pf_t (P := post) c2 hw
    replace hok := hok.1 c2
    refine lv_iload hx hb dJ5_floorOrCeil_34 (lv_at hl 0 rfl) ?_
    refine lv_bipush (v := 52) hx hb dJ5_floorOrCeil_36 (by decide) ?_
    refine lv_icmp_lt (tgt := 43) hx hb dJ5_floorOrCeil_38 (by decide) (fun c3 => ?_) (fun c3 => ?_)
    · replace hw := pf_t (P := post) c3 hw
      replace hok := hok.1 c3
      refine va_gets hx hb hG.sd hS hown (hts _ q590) (fun _ h => h) dJ5_floorOrCeil_43 ?_
      refine lv_if_ne (tgt := 69) hx hb dJ5_floorOrCeil_46 (by decide) (fun _ => ?_) (fun c10 => absurd c10 (by decide))
      refine lv_dload_n hx hb dJ5_floorOrCeil_69 rfl (lv_at hl 1 rfl) ?_
      refine vn_d2l hx hb (hml.trans hl.1.symm) hown (hts _ q592) (hts _ q157) (hts _ q156) (hts _ q52) (Nat.le_of_ble_eq_true rfl) (Nat.le_of_ble_eq_true rfl) dJ5_floorOrCeil_70 ?_
      refine lv_lstore (lv' := [(9, .long p0.toInt64), (8, .int x1), (0, .double p0), (2, .double p2), (4, .double p4), (6, .double p6)]) hx hb dJ5_floorOrCeil_73 hl (by decide) rfl (fun ls hl => ?_)
      refine lv_ldc2 (v := 4503599627370495) hx hb hown (hts _ q593) dJ5_floorOrCeil_75 ?_
      refine lv_iload hx hb dJ5_floorOrCeil_78 (lv_at hl 1 rfl) ?_
      refine lv_lshr (v := jshr 4503599627370495 x1) hx hb dJ5_floorOrCeil_80 rfl ?_
      refine lv_topl (fun x4 ex4 => ?_)
      replace hw := pf_let (P := post) hw x4 ex4
      replace hok := hok x4 ex4
      refine lv_lstore (lv' := [(11, .long x4), (9, .long p0.toInt64), (8, .int x1), (0, .double p0), (2, .double p2), (4, .double p4), (6, .double p6)]) hx hb dJ5_floorOrCeil_81 hl (by decide) rfl (fun ls hl => ?_)
      refine lv_lload hx hb dJ5_floorOrCeil_83 (lv_at hl 0 rfl) ?_
      refine lv_lload hx hb dJ5_floorOrCeil_85 (lv_at hl 1 rfl) ?_
      refine lv_land hx hb dJ5_floorOrCeil_87 ?_
      refine lv_lconst (v := 0) hx hb dJ5_floorOrCeil_88 (by decide) ?_
      refine lx_lne (tgt := 95) hx hb dJ5_floorOrCeil_89 dJ5_floorOrCeil_90 (by decide) (fun c5 => ?_) (fun c5 => ?_)
      · replace hw := pf_f (P := post) c5 hw
        replace hok := hok.2 c5
        refine lv_lload hx hb dJ5_floorOrCeil_95 (lv_at hl 1 rfl) ?_
        refine lv_lload hx hb dJ5_floorOrCeil_97 (lv_at hl 0 rfl) ?_
        refine lv_ldc2 (v := (-1)) hx hb hown (hts _ q594) dJ5_floorOrCeil_99 ?_
        refine lv_lxor hx hb dJ5_floorOrCeil_102 ?_
        refine lv_land hx hb dJ5_floorOrCeil_103 ?_
        refine vn_l2d hx hb (hml.trans hl.1.symm) hown (hts _ q595) (hts _ q114) (hts _ q113) (hts _ q52) hok.1 (Nat.le_of_ble_eq_true rfl) (Nat.le_of_ble_eq_true rfl) dJ5_floorOrCeil_104 ?_
        replace hok := hok.2
        refine lv_topd (fun x6 ex6 => ?_)
        replace hw := pf_let (P := post) hw x6 ex6
        replace hok := hok x6 ex6
        refine lv_dstore (lv' := [(13, .double x6), (11, .long x4), (9, .long p0.toInt64), (8, .int x1), (0, .double p0), (2, .double p2), (4, .double p4), (6, .double p6)]) hx hb dJ5_floorOrCeil_107 hl (by decide) rfl (fun ls hl => ?_)
        refine lv_dload hx hb dJ5_floorOrCeil_109 (lv_at hl 7 rfl) ?_
        refine lv_dload_n hx hb dJ5_floorOrCeil_111 rfl (lv_at hl 4 rfl) ?_
        refine lv_dmul hx hb dJ5_floorOrCeil_112 hok.1 ?_
        replace hok := hok.2
        refine lv_dconst0 hx hb dJ5_floorOrCeil_113 ?_
        obtain ⟨PJx7, hPJx7⟩ : ∃ P : UInt64 → Prop, ∀ x7 : UInt64, P x7 ↔ ∀ ls : Array Slot, lv_has ls 15 [(13, .double x7)] → W p l e (headSpec (ws_ yJ5_floorOrCeil cJ5_floorOrCeil 15 (Option.some Jvm.ClassFile.FieldType.double)) ({ frames := 2, cells := 0, slots := 0, locals := 36 })).room s m ([.double p0, .double p2, .double p4, .double p6] : List Value).toArray below meth c s.heap ([]) 0 0 (MQ below (vp_Sd post) ([.double p0, .double p2, .double p4, .double p6] : List Value).toArray s 0 0 (fun _ => False)) (F0 m 125 ls []) := ⟨_, fun _ => Iff.rfl⟩
        have hox7 := hok
        have hjx7 : ∀ x7 : UInt64, x7 = (if Dgt (FP.dmul p6 p0) FP.dconst0 then (lt_ (FP.dadd x6 p6) (fun x9 : UInt64 => x9)) else x6) → PJx7 x7 := by
          intro x7 ex7
          rw [hPJx7]
          intro ls hl
          replace hw := pf_let (P := post) hw x7 ex7
          refine lv_dload hx hb dJ5_floorOrCeil_125 (lv_at hl 0 rfl) ?_
          exact W.dret (v := x7) hx hb hr (fun t ht hW => ⟨_, rfl, hw, ht⟩) (fun q h => nomatch h) dJ5_floorOrCeil_127
        replace hjx7 := hjx7 _ rfl
        refine lx_dlle (tgt := 125) hx hb dJ5_floorOrCeil_114 dJ5_floorOrCeil_115 (by decide) (fun c8 => ?_) (fun c8 => ?_)
        · replace hjx7 := pf_f (P := PJx7) c8 hjx7
          exact (hPJx7 _).1 hjx7 _ (lv_sub hl [0] rfl)
        · replace hjx7 := pf_t (P := PJx7) c8 hjx7
          replace hox7 := hox7.1 c8
          refine lv_dload hx hb dJ5_floorOrCeil_118 (lv_at hl 0 rfl) ?_
          refine lv_dload hx hb dJ5_floorOrCeil_120 (lv_at hl 7 rfl) ?_
          refine lv_dadd hx hb dJ5_floorOrCeil_122 hox7 ?_
          refine lv_topd (fun x9 ex9 => ?_)
          replace hjx7 := pf_let (P := PJx7) hjx7 x9 ex9
          refine lv_dstore (lv' := [(13, .double x9), (11, .long x4), (9, .long p0.toInt64), (8, .int x1), (0, .double p0), (2, .double p2), (4, .double p4), (6, .double p6)]) hx hb dJ5_floorOrCeil_123 hl (by decide) rfl (fun ls hl => ?_)
          exact (hPJx7 _).1 hjx7 _ (lv_sub hl [0] rfl)
      · replace hw := pf_t (P := post) c5 hw
        refine lv_dload_n hx hb dJ5_floorOrCeil_93 rfl (lv_at hl 3 rfl) ?_
        exact W.dret (v := p0) hx hb hr (fun t ht hW => ⟨_, rfl, hw, ht⟩) (fun q h => nomatch h) dJ5_floorOrCeil_94
    · replace hw := pf_f (P := post) c3 hw
      refine lv_dload_n hx hb dJ5_floorOrCeil_41 rfl (lv_at hl 1 rfl) ?_
      exact W.dret (v := p0) hx hb hr (fun t ht hW => ⟨_, rfl, hw, ht⟩) (fun q h => nomatch h) dJ5_floorOrCeil_42
  · replace hw := pf_f (P := post) c2 hw
    refine lv_dload_n hx hb dJ5_floorOrCeil_11 rfl (lv_at hl 1 rfl) ?_
    refine lv_dconst0 hx hb dJ5_floorOrCeil_12 ?_
    obtain ⟨PJx11, hPJx11⟩ : ∃ P : UInt64 → Prop, ∀ x11 : UInt64, P x11 ↔ ∀ ls : Array Slot, lv_has ls 15 [] → W p l e (headSpec (ws_ yJ5_floorOrCeil cJ5_floorOrCeil 15 (Option.some Jvm.ClassFile.FieldType.double)) ({ frames := 2, cells := 0, slots := 0, locals := 36 })).room s m ([.double p0, .double p2, .double p4, .double p6] : List Value).toArray below meth c s.heap ([]) 0 0 (MQ below (vp_Sd post) ([.double p0, .double p2, .double p4, .double p6] : List Value).toArray s 0 0 (fun _ => False)) (F0 m 33 ls [.double x11]) := ⟨_, fun _ => Iff.rfl⟩
    have hjx11 : ∀ x11 : UInt64, x11 = (if Deq p0 FP.dconst0 then p0 else (if Dlt p0 FP.dconst0 then p2 else p4)) → PJx11 x11 := by
      intro x11 ex11
      rw [hPJx11]
      intro ls hl
      replace hw := pf_let (P := post) hw x11 ex11
      exact W.dret (v := x11) hx hb hr (fun t ht hW => ⟨_, rfl, hw, ht⟩) (fun q h => nomatch h) dJ5_floorOrCeil_33
    replace hjx11 := hjx11 _ rfl
    refine lx_dlne (tgt := 21) hx hb dJ5_floorOrCeil_13 dJ5_floorOrCeil_14 (by decide) (fun c12 => ?_) (fun c12 => ?_)
    · replace hjx11 := pf_f (P := PJx11) c12 hjx11
      refine lv_dload_n hx hb dJ5_floorOrCeil_21 rfl (lv_at hl 1 rfl) ?_
      refine lv_dconst0 hx hb dJ5_floorOrCeil_22 ?_
      refine lx_dgge (tgt := 31) hx hb dJ5_floorOrCeil_23 dJ5_floorOrCeil_24 (by decide) (fun c13 => ?_) (fun c13 => ?_)
      · replace hjx11 := pf_f (P := PJx11) c13 hjx11
        refine lv_dload hx hb dJ5_floorOrCeil_31 (lv_at hl 3 rfl) ?_
        exact (hPJx11 _).1 hjx11 _ (lv_sub hl [] rfl)
      · replace hjx11 := pf_t (P := PJx11) c13 hjx11
        refine lv_dload_n hx hb dJ5_floorOrCeil_27 rfl (lv_at hl 2 rfl) ?_
        refine lv_goto (tgt := 33) hx hb dJ5_floorOrCeil_28 (by decide) ?_
        exact (hPJx11 _).1 hjx11 _ (lv_sub hl [] rfl)
    · replace hjx11 := pf_t (P := PJx11) c12 hjx11
      refine lv_dload_n hx hb dJ5_floorOrCeil_17 rfl (lv_at hl 1 rfl) ?_
      refine lv_goto (tgt := 33) hx hb dJ5_floorOrCeil_18 (by decide) ?_
      exact (hPJx11 _).1 hjx11 _ (lv_sub hl [] rfl)

theorem hd_J5_floorOrCeil : yJ5_floorOrCeil.cls ≠ "java/lang/invoke/MethodHandle" ∧ yJ5_floorOrCeil.cls ≠ "java/lang/invoke/VarHandle" ∧ (parseMethodDescriptor yJ5_floorOrCeil.desc).map (fun d => d.parameters.length) = some 4 := by decide +kernel
def fJ5_floor (p0 : UInt64) : UInt64 := fJ5_floorOrCeil p0 13830554455654793216 FP.dconst0 13830554455654793216
def oJ5_floor (p0 : UInt64) : Prop := (oJ5_floorOrCeil p0 13830554455654793216)
set_option maxHeartbeats 4000000 in
set_option maxRecDepth 100000 in
theorem mJ5_floor (l : Launch) (D : va_G) (TY : Nat → ClassId) (p0 : UInt64) (post : UInt64 → Prop) (hw : post (fJ5_floor p0)) (hok : oJ5_floor p0) : Met l yJ5_floor (ws_ yJ5_floor cJ5_floor 2 (Option.some Jvm.ClassFile.FieldType.double)) ({ frames := 3, cells := 0, slots := 0, locals := 70 }) (PR D TY [.double p0] []) (vp_Sd post) 0 0 (fun _ => False) := by
  refine ofWF (cc := cJ5_floor) (maxL := 2) (ret := (Option.some Jvm.ClassFile.FieldType.double)) (by decide +kernel) rfl ?_
  intro p e s m args below meth c s₁ B hml hv
  obtain ⟨rfl, hP, hK, hG⟩ := hv
  have hx := B.exec
  have hb := B.bytes
  have hr := B.returns
  have hts0 := atoms_spec (ws := ws_ yJ5_floor cJ5_floor 2 (Option.some Jvm.ClassFile.FieldType.double)) B.pre
  have hts : ∀ w ∈ lw_all, w.before _ s = true := fun w h => hts0 w (List.mem_cons_of_mem _ h)
  have hown : s.vm.findClass RJ5 = some m.cls := findClass_of_methodNamed B.named
  have hlocks := B.notSynchronized
  have hS : va_S (fun _ => False) s.heap s.heap [] := va_S.rf
  have hl := lv_entry ([.double p0]) (n := 2) (Nat.le_of_ble_eq_true rfl)
  rw [lg_entry_eq]
  generalize (lg_sl ([.double p0]) ++ List.replicate (2 - (lg_sl ([.double p0])).length) Slot.unset).toArray = ls at hl ⊢
  have hl : lv_has ls 2 [(0, .double p0)] := hl
  unfold fJ5_floor at hw
  unfold oJ5_floor at hok
  refine lv_dload_n hx hb dJ5_floor_0 rfl (lv_at hl 0 rfl) ?_
  refine lv_ldc2d (v := 13830554455654793216) hx hb hown (hts _ q602) dJ5_floor_1 ?_
  refine lv_dconst0 hx hb dJ5_floor_4 ?_
  refine lv_ldc2d (v := 13830554455654793216) hx hb hown (hts _ q602) dJ5_floor_5 ?_
  refine cSd (v := fJ5_floorOrCeil p0 13830554455654793216 FP.dconst0 13830554455654793216) (W.runS (As := [.double p0, .double 13830554455654793216, .double FP.dconst0, .double 13830554455654793216]) (rest := []) ⟨hx, hb, hml, hown, hts⟩ (mJ5_floorOrCeil l D TY p0 13830554455654793216 FP.dconst0 13830554455654793216 (fun r => r = fJ5_floorOrCeil p0 13830554455654793216 FP.dconst0 13830554455654793216) rfl hok) (va_cwS 4 hts (lw_S q586 q587 q57 q588) rfl rfl rfl hd_J5_floorOrCeil ⟨Nat.le_of_ble_eq_true rfl, Nat.le_of_ble_eq_true rfl⟩) (PR.S hP [] rfl hK hG hS) rfl rfl hl.1 rfl (lv_room (Nat.le_of_ble_eq_true rfl)) dJ5_floor_8 ⟨Nat.le_of_ble_eq_true rfl, Nat.le_of_ble_eq_true rfl⟩) ?_
  exact W.dret (v := fJ5_floorOrCeil p0 13830554455654793216 FP.dconst0 13830554455654793216) hx hb hr (fun t ht hW => ⟨_, rfl, hw, ht⟩) (fun q h => nomatch h) dJ5_floor_11

def fJ5_ceil (p0 : UInt64) : UInt64 := fJ5_floorOrCeil p0 9223372036854775808 FP.dconst1 FP.dconst1
def oJ5_ceil (p0 : UInt64) : Prop := (oJ5_floorOrCeil p0 FP.dconst1)
set_option maxHeartbeats 4000000 in
set_option maxRecDepth 100000 in
theorem mJ5_ceil (l : Launch) (D : va_G) (TY : Nat → ClassId) (p0 : UInt64) (post : UInt64 → Prop) (hw : post (fJ5_ceil p0)) (hok : oJ5_ceil p0) : Met l yJ5_ceil (ws_ yJ5_ceil cJ5_ceil 2 (Option.some Jvm.ClassFile.FieldType.double)) ({ frames := 3, cells := 0, slots := 0, locals := 70 }) (PR D TY [.double p0] []) (vp_Sd post) 0 0 (fun _ => False) := by
  refine ofWF (cc := cJ5_ceil) (maxL := 2) (ret := (Option.some Jvm.ClassFile.FieldType.double)) (by decide +kernel) rfl ?_
  intro p e s m args below meth c s₁ B hml hv
  obtain ⟨rfl, hP, hK, hG⟩ := hv
  have hx := B.exec
  have hb := B.bytes
  have hr := B.returns
  have hts0 := atoms_spec (ws := ws_ yJ5_ceil cJ5_ceil 2 (Option.some Jvm.ClassFile.FieldType.double)) B.pre
  have hts : ∀ w ∈ lw_all, w.before _ s = true := fun w h => hts0 w (List.mem_cons_of_mem _ h)
  have hown : s.vm.findClass RJ5 = some m.cls := findClass_of_methodNamed B.named
  have hlocks := B.notSynchronized
  have hS : va_S (fun _ => False) s.heap s.heap [] := va_S.rf
  have hl := lv_entry ([.double p0]) (n := 2) (Nat.le_of_ble_eq_true rfl)
  rw [lg_entry_eq]
  generalize (lg_sl ([.double p0]) ++ List.replicate (2 - (lg_sl ([.double p0])).length) Slot.unset).toArray = ls at hl ⊢
  have hl : lv_has ls 2 [(0, .double p0)] := hl
  unfold fJ5_ceil at hw
  unfold oJ5_ceil at hok
  refine lv_dload_n hx hb dJ5_ceil_0 rfl (lv_at hl 0 rfl) ?_
  refine lv_ldc2d (v := 9223372036854775808) hx hb hown (hts _ q585) dJ5_ceil_1 ?_
  refine lv_dconst1 hx hb dJ5_ceil_4 ?_
  refine lv_dconst1 hx hb dJ5_ceil_5 ?_
  refine cSd (v := fJ5_floorOrCeil p0 9223372036854775808 FP.dconst1 FP.dconst1) (W.runS (As := [.double p0, .double 9223372036854775808, .double FP.dconst1, .double FP.dconst1]) (rest := []) ⟨hx, hb, hml, hown, hts⟩ (mJ5_floorOrCeil l D TY p0 9223372036854775808 FP.dconst1 FP.dconst1 (fun r => r = fJ5_floorOrCeil p0 9223372036854775808 FP.dconst1 FP.dconst1) rfl hok) (va_cwS 4 hts (lw_S q586 q587 q57 q588) rfl rfl rfl hd_J5_floorOrCeil ⟨Nat.le_of_ble_eq_true rfl, Nat.le_of_ble_eq_true rfl⟩) (PR.S hP [] rfl hK hG hS) rfl rfl hl.1 rfl (lv_room (Nat.le_of_ble_eq_true rfl)) dJ5_ceil_6 ⟨Nat.le_of_ble_eq_true rfl, Nat.le_of_ble_eq_true rfl⟩) ?_
  exact W.dret (v := fJ5_floorOrCeil p0 9223372036854775808 FP.dconst1 FP.dconst1) hx hb hr (fun t ht hW => ⟨_, rfl, hw, ht⟩) (fun q h => nomatch h) dJ5_ceil_9

def fX0_isIn (p0 : Int64) (p2 : Int64) (p4 : Int64) : Int32 := lt_ (if p0 < p2 then 0 else (if p4 < p0 then 0 else 1)) (fun x1 : Int32 => x1)
theorem zb_fX0_isIn (p0 : Int64) (p2 : Int64) (p4 : Int64) : Zb (fX0_isIn p0 p2 p4) := by
  unfold fX0_isIn
  exact (zb_ite rfl (zb_ite rfl rfl))
set_option maxHeartbeats 4000000 in
set_option maxRecDepth 100000 in
theorem mX0_isIn (l : Launch) (D : va_G) (TY : Nat → ClassId) (p0 : Int64) (p2 : Int64) (p4 : Int64) (post : Int32 → Prop) (hw : post (fX0_isIn p0 p2 p4)) : Met l yX0_isIn (ws_ yX0_isIn cX0_isIn 6 (Option.some Jvm.ClassFile.FieldType.boolean)) ({ frames := 0, cells := 0, slots := 0, locals := 0 }) (PR D TY [.long p0, .long p2, .long p4] []) (vp_Si post) 0 0 (fun _ => False) := by
  refine ofWF (cc := cX0_isIn) (maxL := 6) (ret := (Option.some Jvm.ClassFile.FieldType.boolean)) (plainFor_of_name (by decide)) rfl ?_
  intro p e s m args below meth c s₁ B hml hv
  obtain ⟨rfl, hP, hK, hG⟩ := hv
  have hx := B.exec
  have hb := B.bytes
  have hr := B.returns
  have hts0 := atoms_spec (ws := ws_ yX0_isIn cX0_isIn 6 (Option.some Jvm.ClassFile.FieldType.boolean)) B.pre
  have hts : ∀ w ∈ lw_all, w.before _ s = true := fun w h => hts0 w (List.mem_cons_of_mem _ h)
  have hown : s.vm.findClass RX0 = some m.cls := findClass_of_methodNamed B.named
  have hlocks := B.notSynchronized
  have hS : va_S (fun _ => False) s.heap s.heap [] := va_S.rf
  have hl := lv_entry ([.long p0, .long p2, .long p4]) (n := 6) (Nat.le_of_ble_eq_true rfl)
  rw [lg_entry_eq]
  generalize (lg_sl ([.long p0, .long p2, .long p4]) ++ List.replicate (6 - (lg_sl ([.long p0, .long p2, .long p4])).length) Slot.unset).toArray = ls at hl ⊢
  have hl : lv_has ls 6 [(0, .long p0), (2, .long p2), (4, .long p4)] := hl
  unfold fX0_isIn at hw
  refine lv_lload_n hx hb dX0_isIn_0 rfl (lv_at hl 0 rfl) ?_
  refine lv_lload_n hx hb dX0_isIn_1 rfl (lv_at hl 1 rfl) ?_
  obtain ⟨PJx1, hPJx1⟩ : ∃ P : Int32 → Prop, ∀ x1 : Int32, P x1 ↔ ∀ ls : Array Slot, lv_has ls 6 [] → W p l e (headSpec (ws_ yX0_isIn cX0_isIn 6 (Option.some Jvm.ClassFile.FieldType.boolean)) ({ frames := 0, cells := 0, slots := 0, locals := 0 })).room s m ([.long p0, .long p2, .long p4] : List Value).toArray below meth c s.heap ([]) 0 0 (MQ below (vp_Si post) ([.long p0, .long p2, .long p4] : List Value).toArray s 0 0 (fun _ => False)) (F0 m 18 ls [.int x1]) := ⟨_, fun _ => Iff.rfl⟩
  have hjx1 : ∀ x1 : Int32, x1 = (if p0 < p2 then 0 else (if p4 < p0 then 0 else 1)) → PJx1 x1 := by
    intro x1 ex1
    rw [hPJx1]
    intro ls hl
    replace hw := pf_let (P := post) hw x1 ex1
    exact W.zret (v := x1) hx hb hr (by rw [ex1]; exact (zb_ite rfl (zb_ite rfl rfl))) (fun t ht hW => ⟨_, rfl, hw, ht⟩) (fun q h => nomatch h) dX0_isIn_18
  replace hjx1 := hjx1 _ rfl
  refine lx_llt (tgt := 17) hx hb dX0_isIn_2 dX0_isIn_3 (by decide) (fun c2 => ?_) (fun c2 => ?_)
  · replace hjx1 := pf_t (P := PJx1) c2 hjx1
    refine lv_iconst (v := 0) hx hb dX0_isIn_17 (by decide) ?_
    exact (hPJx1 _).1 hjx1 _ (lv_sub hl [] rfl)
  · replace hjx1 := pf_f (P := PJx1) c2 hjx1
    refine lv_lload_n hx hb dX0_isIn_6 rfl (lv_at hl 0 rfl) ?_
    refine lv_lload hx hb dX0_isIn_7 (lv_at hl 2 rfl) ?_
    refine lx_lgt (tgt := 17) hx hb dX0_isIn_9 dX0_isIn_10 (by decide) (fun c3 => ?_) (fun c3 => ?_)
    · replace hjx1 := pf_t (P := PJx1) c3 hjx1
      refine lv_iconst (v := 0) hx hb dX0_isIn_17 (by decide) ?_
      exact (hPJx1 _).1 hjx1 _ (lv_sub hl [] rfl)
    · replace hjx1 := pf_f (P := PJx1) c3 hjx1
      refine lv_iconst (v := 1) hx hb dX0_isIn_13 (by decide) ?_
      refine lv_goto (tgt := 18) hx hb dX0_isIn_14 (by decide) ?_
      exact (hPJx1 _).1 hjx1 _ (lv_sub hl [] rfl)

def fX0_isKind (p0 : Int32) : Int32 := lt_ (if p0 = 0 then 1 else (if p0 = 1 then 1 else 0)) (fun x1 : Int32 => x1)
theorem zb_fX0_isKind (p0 : Int32) : Zb (fX0_isKind p0) := by
  unfold fX0_isKind
  exact (zb_ite rfl (zb_ite rfl rfl))
set_option maxHeartbeats 4000000 in
set_option maxRecDepth 100000 in
theorem mX0_isKind (l : Launch) (D : va_G) (TY : Nat → ClassId) (p0 : Int32) (post : Int32 → Prop) (hw : post (fX0_isKind p0)) : Met l yX0_isKind (ws_ yX0_isKind cX0_isKind 1 (Option.some Jvm.ClassFile.FieldType.boolean)) ({ frames := 0, cells := 0, slots := 0, locals := 0 }) (PR D TY [.int p0] []) (vp_Si post) 0 0 (fun _ => False) := by
  refine ofWF (cc := cX0_isKind) (maxL := 1) (ret := (Option.some Jvm.ClassFile.FieldType.boolean)) (plainFor_of_name (by decide)) rfl ?_
  intro p e s m args below meth c s₁ B hml hv
  obtain ⟨rfl, hP, hK, hG⟩ := hv
  have hx := B.exec
  have hb := B.bytes
  have hr := B.returns
  have hts0 := atoms_spec (ws := ws_ yX0_isKind cX0_isKind 1 (Option.some Jvm.ClassFile.FieldType.boolean)) B.pre
  have hts : ∀ w ∈ lw_all, w.before _ s = true := fun w h => hts0 w (List.mem_cons_of_mem _ h)
  have hown : s.vm.findClass RX0 = some m.cls := findClass_of_methodNamed B.named
  have hlocks := B.notSynchronized
  have hS : va_S (fun _ => False) s.heap s.heap [] := va_S.rf
  have hl := lv_entry ([.int p0]) (n := 1) (Nat.le_of_ble_eq_true rfl)
  rw [lg_entry_eq]
  generalize (lg_sl ([.int p0]) ++ List.replicate (1 - (lg_sl ([.int p0])).length) Slot.unset).toArray = ls at hl ⊢
  have hl : lv_has ls 1 [(0, .int p0)] := hl
  unfold fX0_isKind at hw
  refine lv_iload_n hx hb dX0_isKind_0 rfl (lv_at hl 0 rfl) ?_
  obtain ⟨PJx1, hPJx1⟩ : ∃ P : Int32 → Prop, ∀ x1 : Int32, P x1 ↔ ∀ ls : Array Slot, lv_has ls 1 [] → W p l e (headSpec (ws_ yX0_isKind cX0_isKind 1 (Option.some Jvm.ClassFile.FieldType.boolean)) ({ frames := 0, cells := 0, slots := 0, locals := 0 })).room s m ([.int p0] : List Value).toArray below meth c s.heap ([]) 0 0 (MQ below (vp_Si post) ([.int p0] : List Value).toArray s 0 0 (fun _ => False)) (F0 m 14 ls [.int x1]) := ⟨_, fun _ => Iff.rfl⟩
  have hjx1 : ∀ x1 : Int32, x1 = (if p0 = 0 then 1 else (if p0 = 1 then 1 else 0)) → PJx1 x1 := by
    intro x1 ex1
    rw [hPJx1]
    intro ls hl
    replace hw := pf_let (P := post) hw x1 ex1
    exact W.zret (v := x1) hx hb hr (by rw [ex1]; exact (zb_ite rfl (zb_ite rfl rfl))) (fun t ht hW => ⟨_, rfl, hw, ht⟩) (fun q h => nomatch h) dX0_isKind_14
  replace hjx1 := hjx1 _ rfl
  refine lv_if_eq (tgt := 9) hx hb dX0_isKind_1 (by decide) (fun c2 => ?_) (fun c2 => ?_)
  · replace hjx1 := pf_t (P := PJx1) c2 hjx1
    refine lv_iconst (v := 1) hx hb dX0_isKind_9 (by decide) ?_
    refine lv_goto (tgt := 14) hx hb dX0_isKind_10 (by decide) ?_
    exact (hPJx1 _).1 hjx1 _ (lv_sub hl [] rfl)
  · replace hjx1 := pf_f (P := PJx1) c2 hjx1
    refine lv_iload_n hx hb dX0_isKind_4 rfl (lv_at hl 0 rfl) ?_
    refine lv_iconst (v := 1) hx hb dX0_isKind_5 (by decide) ?_
    refine lv_icmp_ne (tgt := 13) hx hb dX0_isKind_6 (by decide) (fun c3 => ?_) (fun c3 => ?_)
    · replace hjx1 := pf_f (P := PJx1) c3 hjx1
      refine lv_iconst (v := 0) hx hb dX0_isKind_13 (by decide) ?_
      exact (hPJx1 _).1 hjx1 _ (lv_sub hl [] rfl)
    · replace hjx1 := pf_t (P := PJx1) c3 hjx1
      refine lv_iconst (v := 1) hx hb dX0_isKind_9 (by decide) ?_
      refine lv_goto (tgt := 14) hx hb dX0_isKind_10 (by decide) ?_
      exact (hPJx1 _).1 hjx1 _ (lv_sub hl [] rfl)

def fX0_isEndless (p0 : UInt64) : Int32 := lt_ (if Dgt p0 9218868437227405311 then 1 else (if Dlt p0 18442240474082181119 then 1 else 0)) (fun x1 : Int32 => x1)
theorem zb_fX0_isEndless (p0 : UInt64) : Zb (fX0_isEndless p0) := by
  unfold fX0_isEndless
  exact (zb_ite rfl (zb_ite rfl rfl))
set_option maxHeartbeats 4000000 in
set_option maxRecDepth 100000 in
theorem mX0_isEndless (l : Launch) (D : va_G) (TY : Nat → ClassId) (p0 : UInt64) (post : Int32 → Prop) (hw : post (fX0_isEndless p0)) : Met l yX0_isEndless (ws_ yX0_isEndless cX0_isEndless 2 (Option.some Jvm.ClassFile.FieldType.boolean)) ({ frames := 0, cells := 0, slots := 0, locals := 0 }) (PR D TY [.double p0] []) (vp_Si post) 0 0 (fun _ => False) := by
  refine ofWF (cc := cX0_isEndless) (maxL := 2) (ret := (Option.some Jvm.ClassFile.FieldType.boolean)) (plainFor_of_name (by decide)) rfl ?_
  intro p e s m args below meth c s₁ B hml hv
  obtain ⟨rfl, hP, hK, hG⟩ := hv
  have hx := B.exec
  have hb := B.bytes
  have hr := B.returns
  have hts0 := atoms_spec (ws := ws_ yX0_isEndless cX0_isEndless 2 (Option.some Jvm.ClassFile.FieldType.boolean)) B.pre
  have hts : ∀ w ∈ lw_all, w.before _ s = true := fun w h => hts0 w (List.mem_cons_of_mem _ h)
  have hown : s.vm.findClass RX0 = some m.cls := findClass_of_methodNamed B.named
  have hlocks := B.notSynchronized
  have hS : va_S (fun _ => False) s.heap s.heap [] := va_S.rf
  have hl := lv_entry ([.double p0]) (n := 2) (Nat.le_of_ble_eq_true rfl)
  rw [lg_entry_eq]
  generalize (lg_sl ([.double p0]) ++ List.replicate (2 - (lg_sl ([.double p0])).length) Slot.unset).toArray = ls at hl ⊢
  have hl : lv_has ls 2 [(0, .double p0)] := hl
  unfold fX0_isEndless at hw
  refine lv_dload_n hx hb dX0_isEndless_0 rfl (lv_at hl 0 rfl) ?_
  refine lv_ldc2d (v := 9218868437227405311) hx hb hown (hts _ q138) dX0_isEndless_1 ?_
  obtain ⟨PJx1, hPJx1⟩ : ∃ P : Int32 → Prop, ∀ x1 : Int32, P x1 ↔ ∀ ls : Array Slot, lv_has ls 2 [] → W p l e (headSpec (ws_ yX0_isEndless cX0_isEndless 2 (Option.some Jvm.ClassFile.FieldType.boolean)) ({ frames := 0, cells := 0, slots := 0, locals := 0 })).room s m ([.double p0] : List Value).toArray below meth c s.heap ([]) 0 0 (MQ below (vp_Si post) ([.double p0] : List Value).toArray s 0 0 (fun _ => False)) (F0 m 21 ls [.int x1]) := ⟨_, fun _ => Iff.rfl⟩
  have hjx1 : ∀ x1 : Int32, x1 = (if Dgt p0 9218868437227405311 then 1 else (if Dlt p0 18442240474082181119 then 1 else 0)) → PJx1 x1 := by
    intro x1 ex1
    rw [hPJx1]
    intro ls hl
    replace hw := pf_let (P := post) hw x1 ex1
    exact W.zret (v := x1) hx hb hr (by rw [ex1]; exact (zb_ite rfl (zb_ite rfl rfl))) (fun t ht hW => ⟨_, rfl, hw, ht⟩) (fun q h => nomatch h) dX0_isEndless_21
  replace hjx1 := hjx1 _ rfl
  refine lx_dlgt (tgt := 16) hx hb dX0_isEndless_4 dX0_isEndless_5 (by decide) (fun c2 => ?_) (fun c2 => ?_)
  · replace hjx1 := pf_t (P := PJx1) c2 hjx1
    refine lv_iconst (v := 1) hx hb dX0_isEndless_16 (by decide) ?_
    refine lv_goto (tgt := 21) hx hb dX0_isEndless_17 (by decide) ?_
    exact (hPJx1 _).1 hjx1 _ (lv_sub hl [] rfl)
  · replace hjx1 := pf_f (P := PJx1) c2 hjx1
    refine lv_dload_n hx hb dX0_isEndless_8 rfl (lv_at hl 0 rfl) ?_
    refine lv_ldc2d (v := 18442240474082181119) hx hb hown (hts _ q139) dX0_isEndless_9 ?_
    refine lx_dgge (tgt := 20) hx hb dX0_isEndless_12 dX0_isEndless_13 (by decide) (fun c3 => ?_) (fun c3 => ?_)
    · replace hjx1 := pf_f (P := PJx1) c3 hjx1
      refine lv_iconst (v := 0) hx hb dX0_isEndless_20 (by decide) ?_
      exact (hPJx1 _).1 hjx1 _ (lv_sub hl [] rfl)
    · replace hjx1 := pf_t (P := PJx1) c3 hjx1
      refine lv_iconst (v := 1) hx hb dX0_isEndless_16 (by decide) ?_
      refine lv_goto (tgt := 21) hx hb dX0_isEndless_17 (by decide) ?_
      exact (hPJx1 _).1 hjx1 _ (lv_sub hl [] rfl)

def fX0_isNumber (p0 : UInt64) (p2 : UInt64) : Int32 := lt_ (if Deq p0 p0 then (if Deq p2 p2 then 1 else 0) else 0) (fun x1 : Int32 => x1)
theorem zb_fX0_isNumber (p0 : UInt64) (p2 : UInt64) : Zb (fX0_isNumber p0 p2) := by
  unfold fX0_isNumber
  exact (zb_ite (zb_ite rfl rfl) rfl)
set_option maxHeartbeats 4000000 in
set_option maxRecDepth 100000 in
theorem mX0_isNumber (l : Launch) (D : va_G) (TY : Nat → ClassId) (p0 : UInt64) (p2 : UInt64) (post : Int32 → Prop) (hw : post (fX0_isNumber p0 p2)) : Met l yX0_isNumber (ws_ yX0_isNumber cX0_isNumber 4 (Option.some Jvm.ClassFile.FieldType.boolean)) ({ frames := 0, cells := 0, slots := 0, locals := 0 }) (PR D TY [.double p0, .double p2] []) (vp_Si post) 0 0 (fun _ => False) := by
  refine ofWF (cc := cX0_isNumber) (maxL := 4) (ret := (Option.some Jvm.ClassFile.FieldType.boolean)) (plainFor_of_name (by decide)) rfl ?_
  intro p e s m args below meth c s₁ B hml hv
  obtain ⟨rfl, hP, hK, hG⟩ := hv
  have hx := B.exec
  have hb := B.bytes
  have hr := B.returns
  have hts0 := atoms_spec (ws := ws_ yX0_isNumber cX0_isNumber 4 (Option.some Jvm.ClassFile.FieldType.boolean)) B.pre
  have hts : ∀ w ∈ lw_all, w.before _ s = true := fun w h => hts0 w (List.mem_cons_of_mem _ h)
  have hown : s.vm.findClass RX0 = some m.cls := findClass_of_methodNamed B.named
  have hlocks := B.notSynchronized
  have hS : va_S (fun _ => False) s.heap s.heap [] := va_S.rf
  have hl := lv_entry ([.double p0, .double p2]) (n := 4) (Nat.le_of_ble_eq_true rfl)
  rw [lg_entry_eq]
  generalize (lg_sl ([.double p0, .double p2]) ++ List.replicate (4 - (lg_sl ([.double p0, .double p2])).length) Slot.unset).toArray = ls at hl ⊢
  have hl : lv_has ls 4 [(0, .double p0), (2, .double p2)] := hl
  unfold fX0_isNumber at hw
  refine lv_dload_n hx hb dX0_isNumber_0 rfl (lv_at hl 0 rfl) ?_
  refine lv_dload_n hx hb dX0_isNumber_1 rfl (lv_at hl 0 rfl) ?_
  obtain ⟨PJx1, hPJx1⟩ : ∃ P : Int32 → Prop, ∀ x1 : Int32, P x1 ↔ ∀ ls : Array Slot, lv_has ls 4 [] → W p l e (headSpec (ws_ yX0_isNumber cX0_isNumber 4 (Option.some Jvm.ClassFile.FieldType.boolean)) ({ frames := 0, cells := 0, slots := 0, locals := 0 })).room s m ([.double p0, .double p2] : List Value).toArray below meth c s.heap ([]) 0 0 (MQ below (vp_Si post) ([.double p0, .double p2] : List Value).toArray s 0 0 (fun _ => False)) (F0 m 17 ls [.int x1]) := ⟨_, fun _ => Iff.rfl⟩
  have hjx1 : ∀ x1 : Int32, x1 = (if Deq p0 p0 then (if Deq p2 p2 then 1 else 0) else 0) → PJx1 x1 := by
    intro x1 ex1
    rw [hPJx1]
    intro ls hl
    replace hw := pf_let (P := post) hw x1 ex1
    exact W.zret (v := x1) hx hb hr (by rw [ex1]; exact (zb_ite (zb_ite rfl rfl) rfl)) (fun t ht hW => ⟨_, rfl, hw, ht⟩) (fun q h => nomatch h) dX0_isNumber_17
  replace hjx1 := hjx1 _ rfl
  refine lx_dlne (tgt := 16) hx hb dX0_isNumber_2 dX0_isNumber_3 (by decide) (fun c2 => ?_) (fun c2 => ?_)
  · replace hjx1 := pf_f (P := PJx1) c2 hjx1
    refine lv_iconst (v := 0) hx hb dX0_isNumber_16 (by decide) ?_
    exact (hPJx1 _).1 hjx1 _ (lv_sub hl [] rfl)
  · replace hjx1 := pf_t (P := PJx1) c2 hjx1
    refine lv_dload_n hx hb dX0_isNumber_6 rfl (lv_at hl 1 rfl) ?_
    refine lv_dload_n hx hb dX0_isNumber_7 rfl (lv_at hl 1 rfl) ?_
    refine lx_dlne (tgt := 16) hx hb dX0_isNumber_8 dX0_isNumber_9 (by decide) (fun c3 => ?_) (fun c3 => ?_)
    · replace hjx1 := pf_f (P := PJx1) c3 hjx1
      refine lv_iconst (v := 0) hx hb dX0_isNumber_16 (by decide) ?_
      exact (hPJx1 _).1 hjx1 _ (lv_sub hl [] rfl)
    · replace hjx1 := pf_t (P := PJx1) c3 hjx1
      refine lv_iconst (v := 1) hx hb dX0_isNumber_12 (by decide) ?_
      refine lv_goto (tgt := 17) hx hb dX0_isNumber_13 (by decide) ?_
      exact (hPJx1 _).1 hjx1 _ (lv_sub hl [] rfl)

def fX0_lowered (p0 : Int64) (p2 : Int64) (p4 : Int32) : Int64 := if 0 < p4 then (if p4 ≤ 127 then (lt_ (if 64 ≤ p4 then (jushr p0 (p4 - 64)) else ((jshl p0 (64 - p4)) ||| (jushr p2 p4))) (fun x3 : Int64 => lt_ (if 64 ≤ p4 then (if p2 = 0 then (if (jshl x3 (p4 - 64)) = p0 then 1 else 0) else 0) else (if (jshl x3 p4) = p2 then 1 else 0)) (fun x5 : Int32 => lt_ (if x5 = 0 then (x3 ||| 1) else x3) (fun x10 : Int64 => x10)))) else 1) else p2
set_option maxHeartbeats 4000000 in
set_option maxRecDepth 100000 in
theorem mX0_lowered (l : Launch) (D : va_G) (TY : Nat → ClassId) (p0 : Int64) (p2 : Int64) (p4 : Int32) (post : Int64 → Prop) (hw : post (fX0_lowered p0 p2 p4)) : Met l yX0_lowered (ws_ yX0_lowered cX0_lowered 8 (Option.some Jvm.ClassFile.FieldType.long)) ({ frames := 0, cells := 0, slots := 0, locals := 0 }) (PR D TY [.long p0, .long p2, .int p4] []) (vp_Sl post) 0 0 (fun _ => False) := by
  refine ofWF (cc := cX0_lowered) (maxL := 8) (ret := (Option.some Jvm.ClassFile.FieldType.long)) (plainFor_of_name (by decide)) rfl ?_
  intro p e s m args below meth c s₁ B hml hv
  obtain ⟨rfl, hP, hK, hG⟩ := hv
  have hx := B.exec
  have hb := B.bytes
  have hr := B.returns
  have hts0 := atoms_spec (ws := ws_ yX0_lowered cX0_lowered 8 (Option.some Jvm.ClassFile.FieldType.long)) B.pre
  have hts : ∀ w ∈ lw_all, w.before _ s = true := fun w h => hts0 w (List.mem_cons_of_mem _ h)
  have hown : s.vm.findClass RX0 = some m.cls := findClass_of_methodNamed B.named
  have hlocks := B.notSynchronized
  have hS : va_S (fun _ => False) s.heap s.heap [] := va_S.rf
  have hl := lv_entry ([.long p0, .long p2, .int p4]) (n := 8) (Nat.le_of_ble_eq_true rfl)
  rw [lg_entry_eq]
  generalize (lg_sl ([.long p0, .long p2, .int p4]) ++ List.replicate (8 - (lg_sl ([.long p0, .long p2, .int p4])).length) Slot.unset).toArray = ls at hl ⊢
  have hl : lv_has ls 8 [(0, .long p0), (2, .long p2), (4, .int p4)] := hl
  unfold fX0_lowered at hw
  refine lv_iload hx hb dX0_lowered_0 (lv_at hl 2 rfl) ?_
  refine lv_if_gt (tgt := 7) hx hb dX0_lowered_2 (by decide) (fun c1 => ?_) (fun c1 => ?_)
  · replace hw := pf_t (P := post) c1 hw
    refine lv_iload hx hb dX0_lowered_7 (lv_at hl 2 rfl) ?_
    refine lv_bipush (v := 127) hx hb dX0_lowered_9 (by decide) ?_
    refine lv_icmp_le (tgt := 16) hx hb dX0_lowered_11 (by decide) (fun c2 => ?_) (fun c2 => ?_)
    · replace hw := pf_t (P := post) c2 hw
      refine lv_iload hx hb dX0_lowered_16 (lv_at hl 2 rfl) ?_
      refine lv_bipush (v := 64) hx hb dX0_lowered_18 (by decide) ?_
      obtain ⟨PJx3, hPJx3⟩ : ∃ P : Int64 → Prop, ∀ x3 : Int64, P x3 ↔ ∀ ls : Array Slot, lv_has ls 8 [(0, .long p0), (2, .long p2), (4, .int p4)] → W p l e (headSpec (ws_ yX0_lowered cX0_lowered 8 (Option.some Jvm.ClassFile.FieldType.long)) ({ frames := 0, cells := 0, slots := 0, locals := 0 })).room s m ([.long p0, .long p2, .int p4] : List Value).toArray below meth c s.heap ([]) 0 0 (MQ below (vp_Sl post) ([.long p0, .long p2, .int p4] : List Value).toArray s 0 0 (fun _ => False)) (F0 m 45 ls [.long x3]) := ⟨_, fun _ => Iff.rfl⟩
      have hjx3 : ∀ x3 : Int64, x3 = (if 64 ≤ p4 then (jushr p0 (p4 - 64)) else ((jshl p0 (64 - p4)) ||| (jushr p2 p4))) → PJx3 x3 := by
        intro x3 ex3
        rw [hPJx3]
        intro ls hl
        replace hw := pf_let (P := post) hw x3 ex3
        refine lv_lstore (lv' := [(5, .long x3), (0, .long p0), (2, .long p2), (4, .int p4)]) hx hb dX0_lowered_45 hl (by decide) rfl (fun ls hl => ?_)
        refine lv_iload hx hb dX0_lowered_47 (lv_at hl 3 rfl) ?_
        refine lv_bipush (v := 64) hx hb dX0_lowered_49 (by decide) ?_
        obtain ⟨PJx5, hPJx5⟩ : ∃ P : Int32 → Prop, ∀ x5 : Int32, P x5 ↔ ∀ ls : Array Slot, lv_has ls 8 [(5, .long x3)] → W p l e (headSpec (ws_ yX0_lowered cX0_lowered 8 (Option.some Jvm.ClassFile.FieldType.long)) ({ frames := 0, cells := 0, slots := 0, locals := 0 })).room s m ([.long p0, .long p2, .int p4] : List Value).toArray below meth c s.heap ([]) 0 0 (MQ below (vp_Sl post) ([.long p0, .long p2, .int p4] : List Value).toArray s 0 0 (fun _ => False)) (F0 m 96 ls [.int x5]) := ⟨_, fun _ => Iff.rfl⟩
        have hjx5 : ∀ x5 : Int32, x5 = (if 64 ≤ p4 then (if p2 = 0 then (if (jshl x3 (p4 - 64)) = p0 then 1 else 0) else 0) else (if (jshl x3 p4) = p2 then 1 else 0)) → PJx5 x5 := by
          intro x5 ex5
          rw [hPJx5]
          intro ls hl
          replace hw := pf_let (P := post) hw x5 ex5
          refine lv_istore (lv' := [(7, .int x5), (5, .long x3)]) hx hb dX0_lowered_96 hl (by decide) rfl (fun ls hl => ?_)
          refine lv_iload hx hb dX0_lowered_98 (lv_at hl 0 rfl) ?_
          obtain ⟨PJx10, hPJx10⟩ : ∃ P : Int64 → Prop, ∀ x10 : Int64, P x10 ↔ ∀ ls : Array Slot, lv_has ls 8 [] → W p l e (headSpec (ws_ yX0_lowered cX0_lowered 8 (Option.some Jvm.ClassFile.FieldType.long)) ({ frames := 0, cells := 0, slots := 0, locals := 0 })).room s m ([.long p0, .long p2, .int p4] : List Value).toArray below meth c s.heap ([]) 0 0 (MQ below (vp_Sl post) ([.long p0, .long p2, .int p4] : List Value).toArray s 0 0 (fun _ => False)) (F0 m 112 ls [.long x10]) := ⟨_, fun _ => Iff.rfl⟩
          have hjx10 : ∀ x10 : Int64, x10 = (if x5 = 0 then (x3 ||| 1) else x3) → PJx10 x10 := by
            intro x10 ex10
            rw [hPJx10]
            intro ls hl
            replace hw := pf_let (P := post) hw x10 ex10
            exact W.lret (v := x10) hx hb hr (fun t ht hW => ⟨_, rfl, hw, ht⟩) (fun q h => nomatch h) dX0_lowered_112
          replace hjx10 := hjx10 _ rfl
          refine lv_if_eq (tgt := 108) hx hb dX0_lowered_100 (by decide) (fun c11 => ?_) (fun c11 => ?_)
          · replace hjx10 := pf_t (P := PJx10) c11 hjx10
            refine lv_lload hx hb dX0_lowered_108 (lv_at hl 1 rfl) ?_
            refine lv_lconst (v := 1) hx hb dX0_lowered_110 (by decide) ?_
            refine lv_lor hx hb dX0_lowered_111 ?_
            exact (hPJx10 _).1 hjx10 _ (lv_sub hl [] rfl)
          · replace hjx10 := pf_f (P := PJx10) c11 hjx10
            refine lv_lload hx hb dX0_lowered_103 (lv_at hl 1 rfl) ?_
            refine lv_goto (tgt := 112) hx hb dX0_lowered_105 (by decide) ?_
            exact (hPJx10 _).1 hjx10 _ (lv_sub hl [] rfl)
        replace hjx5 := hjx5 _ rfl
        refine lv_icmp_ge (tgt := 72) hx hb dX0_lowered_51 (by decide) (fun c6 => ?_) (fun c6 => ?_)
        · replace hjx5 := pf_t (P := PJx5) c6 hjx5
          refine lv_lload_n hx hb dX0_lowered_72 rfl (lv_at hl 2 rfl) ?_
          refine lv_lconst (v := 0) hx hb dX0_lowered_73 (by decide) ?_
          refine lx_lne (tgt := 95) hx hb dX0_lowered_74 dX0_lowered_75 (by decide) (fun c7 => ?_) (fun c7 => ?_)
          · replace hjx5 := pf_f (P := PJx5) c7 hjx5
            refine lv_iconst (v := 0) hx hb dX0_lowered_95 (by decide) ?_
            exact (hPJx5 _).1 hjx5 _ (lv_sub hl [0] rfl)
          · replace hjx5 := pf_t (P := PJx5) c7 hjx5
            refine lv_lload hx hb dX0_lowered_78 (lv_at hl 0 rfl) ?_
            refine lv_iload hx hb dX0_lowered_80 (lv_at hl 3 rfl) ?_
            refine lv_bipush (v := 64) hx hb dX0_lowered_82 (by decide) ?_
            refine lv_isub hx hb dX0_lowered_84 ?_
            refine lv_lshl (v := jshl x3 (p4 - 64)) hx hb dX0_lowered_85 rfl ?_
            refine lv_lload_n hx hb dX0_lowered_86 rfl (lv_at hl 1 rfl) ?_
            refine lx_lne (tgt := 95) hx hb dX0_lowered_87 dX0_lowered_88 (by decide) (fun c8 => ?_) (fun c8 => ?_)
            · replace hjx5 := pf_f (P := PJx5) c8 hjx5
              refine lv_iconst (v := 0) hx hb dX0_lowered_95 (by decide) ?_
              exact (hPJx5 _).1 hjx5 _ (lv_sub hl [0] rfl)
            · replace hjx5 := pf_t (P := PJx5) c8 hjx5
              refine lv_iconst (v := 1) hx hb dX0_lowered_91 (by decide) ?_
              refine lv_goto (tgt := 96) hx hb dX0_lowered_92 (by decide) ?_
              exact (hPJx5 _).1 hjx5 _ (lv_sub hl [0] rfl)
        · replace hjx5 := pf_f (P := PJx5) c6 hjx5
          refine lv_lload hx hb dX0_lowered_54 (lv_at hl 0 rfl) ?_
          refine lv_iload hx hb dX0_lowered_56 (lv_at hl 3 rfl) ?_
          refine lv_lshl (v := jshl x3 p4) hx hb dX0_lowered_58 rfl ?_
          refine lv_lload_n hx hb dX0_lowered_59 rfl (lv_at hl 2 rfl) ?_
          refine lx_lne (tgt := 68) hx hb dX0_lowered_60 dX0_lowered_61 (by decide) (fun c9 => ?_) (fun c9 => ?_)
          · replace hjx5 := pf_f (P := PJx5) c9 hjx5
            refine lv_iconst (v := 0) hx hb dX0_lowered_68 (by decide) ?_
            refine lv_goto (tgt := 96) hx hb dX0_lowered_69 (by decide) ?_
            exact (hPJx5 _).1 hjx5 _ (lv_sub hl [0] rfl)
          · replace hjx5 := pf_t (P := PJx5) c9 hjx5
            refine lv_iconst (v := 1) hx hb dX0_lowered_64 (by decide) ?_
            refine lv_goto (tgt := 96) hx hb dX0_lowered_65 (by decide) ?_
            exact (hPJx5 _).1 hjx5 _ (lv_sub hl [0] rfl)
      replace hjx3 := hjx3 _ rfl
      refine lv_icmp_ge (tgt := 38) hx hb dX0_lowered_20 (by decide) (fun c4 => ?_) (fun c4 => ?_)
      · replace hjx3 := pf_t (P := PJx3) c4 hjx3
        refine lv_lload_n hx hb dX0_lowered_38 rfl (lv_at hl 0 rfl) ?_
        refine lv_iload hx hb dX0_lowered_39 (lv_at hl 2 rfl) ?_
        refine lv_bipush (v := 64) hx hb dX0_lowered_41 (by decide) ?_
        refine lv_isub hx hb dX0_lowered_43 ?_
        refine lv_lushr (v := jushr p0 (p4 - 64)) hx hb dX0_lowered_44 rfl ?_
        exact (hPJx3 _).1 hjx3 _ (lv_sub hl [0, 1, 2] rfl)
      · replace hjx3 := pf_f (P := PJx3) c4 hjx3
        refine lv_lload_n hx hb dX0_lowered_23 rfl (lv_at hl 0 rfl) ?_
        refine lv_bipush (v := 64) hx hb dX0_lowered_24 (by decide) ?_
        refine lv_iload hx hb dX0_lowered_26 (lv_at hl 2 rfl) ?_
        refine lv_isub hx hb dX0_lowered_28 ?_
        refine lv_lshl (v := jshl p0 (64 - p4)) hx hb dX0_lowered_29 rfl ?_
        refine lv_lload_n hx hb dX0_lowered_30 rfl (lv_at hl 1 rfl) ?_
        refine lv_iload hx hb dX0_lowered_31 (lv_at hl 2 rfl) ?_
        refine lv_lushr (v := jushr p2 p4) hx hb dX0_lowered_33 rfl ?_
        refine lv_lor hx hb dX0_lowered_34 ?_
        refine lv_goto (tgt := 45) hx hb dX0_lowered_35 (by decide) ?_
        exact (hPJx3 _).1 hjx3 _ (lv_sub hl [0, 1, 2] rfl)
    · replace hw := pf_f (P := post) c2 hw
      refine lv_lconst (v := 1) hx hb dX0_lowered_14 (by decide) ?_
      exact W.lret (v := 1) hx hb hr (fun t ht hW => ⟨_, rfl, hw, ht⟩) (fun q h => nomatch h) dX0_lowered_15
  · replace hw := pf_f (P := post) c1 hw
    refine lv_lload_n hx hb dX0_lowered_5 rfl (lv_at hl 1 rfl) ?_
    exact W.lret (v := p2) hx hb hr (fun t ht hW => ⟨_, rfl, hw, ht⟩) (fun q h => nomatch h) dX0_lowered_6

theorem hd_X0_isIn : yX0_isIn.cls ≠ "java/lang/invoke/MethodHandle" ∧ yX0_isIn.cls ≠ "java/lang/invoke/VarHandle" ∧ (parseMethodDescriptor yX0_isIn.desc).map (fun d => d.parameters.length) = some 3 := by decide +kernel
def fX0_isRow (p0 : Int32) : Int32 := fX0_isIn p0.toInt64 0 7
theorem zb_fX0_isRow (p0 : Int32) : Zb (fX0_isRow p0) := by
  unfold fX0_isRow
  exact (zb_fX0_isIn _ _ _)
set_option maxHeartbeats 4000000 in
set_option maxRecDepth 100000 in
theorem mX0_isRow (l : Launch) (D : va_G) (TY : Nat → ClassId) (p0 : Int32) (post : Int32 → Prop) (hw : post (fX0_isRow p0)) : Met l yX0_isRow (ws_ yX0_isRow cX0_isRow 1 (Option.some Jvm.ClassFile.FieldType.boolean)) ({ frames := 1, cells := 0, slots := 0, locals := 25 }) (PR D TY [.int p0] []) (vp_Si post) 0 0 (fun _ => False) := by
  refine ofWF (cc := cX0_isRow) (maxL := 1) (ret := (Option.some Jvm.ClassFile.FieldType.boolean)) (plainFor_of_name (by decide)) rfl ?_
  intro p e s m args below meth c s₁ B hml hv
  obtain ⟨rfl, hP, hK, hG⟩ := hv
  have hx := B.exec
  have hb := B.bytes
  have hr := B.returns
  have hts0 := atoms_spec (ws := ws_ yX0_isRow cX0_isRow 1 (Option.some Jvm.ClassFile.FieldType.boolean)) B.pre
  have hts : ∀ w ∈ lw_all, w.before _ s = true := fun w h => hts0 w (List.mem_cons_of_mem _ h)
  have hown : s.vm.findClass RX0 = some m.cls := findClass_of_methodNamed B.named
  have hlocks := B.notSynchronized
  have hS : va_S (fun _ => False) s.heap s.heap [] := va_S.rf
  have hl := lv_entry ([.int p0]) (n := 1) (Nat.le_of_ble_eq_true rfl)
  rw [lg_entry_eq]
  generalize (lg_sl ([.int p0]) ++ List.replicate (1 - (lg_sl ([.int p0])).length) Slot.unset).toArray = ls at hl ⊢
  have hl : lv_has ls 1 [(0, .int p0)] := hl
  unfold fX0_isRow at hw
  refine lv_iload_n hx hb dX0_isRow_0 rfl (lv_at hl 0 rfl) ?_
  refine lv_i2l (v := p0.toInt64) hx hb dX0_isRow_1 rfl ?_
  refine lv_lconst (v := 0) hx hb dX0_isRow_2 (by decide) ?_
  refine lv_ldc2 (v := 7) hx hb hown (hts _ q478) dX0_isRow_3 ?_
  refine cSi (v := fX0_isIn p0.toInt64 0 7) (W.runS (As := [.long p0.toInt64, .long 0, .long 7]) (rest := []) ⟨hx, hb, hml, hown, hts⟩ (mX0_isIn l D TY p0.toInt64 0 7 (fun r => r = fX0_isIn p0.toInt64 0 7) rfl) (va_cwS 3 hts (lw_S q75 q76 q44 q77) rfl rfl rfl hd_X0_isIn ⟨Nat.le_of_ble_eq_true rfl, Nat.le_of_ble_eq_true rfl⟩) (PR.S hP [] rfl hK hG hS) rfl rfl hl.1 rfl (lv_room (Nat.le_of_ble_eq_true rfl)) dX0_isRow_6 ⟨Nat.le_of_ble_eq_true rfl, Nat.le_of_ble_eq_true rfl⟩) ?_
  exact W.zret (v := fX0_isIn p0.toInt64 0 7) hx hb hr (zb_fX0_isIn _ _ _) (fun t ht hW => ⟨_, rfl, hw, ht⟩) (fun q h => nomatch h) dX0_isRow_9

def fX6_isKind (p0 : Int32) : Int32 := lt_ (if p0 = 0 then 1 else (if p0 = 1 then 1 else 0)) (fun x1 : Int32 => x1)
theorem zb_fX6_isKind (p0 : Int32) : Zb (fX6_isKind p0) := by
  unfold fX6_isKind
  exact (zb_ite rfl (zb_ite rfl rfl))
set_option maxHeartbeats 4000000 in
set_option maxRecDepth 100000 in
theorem mX6_isKind (l : Launch) (D : va_G) (TY : Nat → ClassId) (p0 : Int32) (post : Int32 → Prop) (hw : post (fX6_isKind p0)) : Met l yX6_isKind (ws_ yX6_isKind cX6_isKind 1 (Option.some Jvm.ClassFile.FieldType.boolean)) ({ frames := 0, cells := 0, slots := 0, locals := 0 }) (PR D TY [.int p0] []) (vp_Si post) 0 0 (fun _ => False) := by
  refine ofWF (cc := cX6_isKind) (maxL := 1) (ret := (Option.some Jvm.ClassFile.FieldType.boolean)) (plainFor_of_name (by decide)) rfl ?_
  intro p e s m args below meth c s₁ B hml hv
  obtain ⟨rfl, hP, hK, hG⟩ := hv
  have hx := B.exec
  have hb := B.bytes
  have hr := B.returns
  have hts0 := atoms_spec (ws := ws_ yX6_isKind cX6_isKind 1 (Option.some Jvm.ClassFile.FieldType.boolean)) B.pre
  have hts : ∀ w ∈ lw_all, w.before _ s = true := fun w h => hts0 w (List.mem_cons_of_mem _ h)
  have hown : s.vm.findClass RX6 = some m.cls := findClass_of_methodNamed B.named
  have hlocks := B.notSynchronized
  have hS : va_S (fun _ => False) s.heap s.heap [] := va_S.rf
  have hl := lv_entry ([.int p0]) (n := 1) (Nat.le_of_ble_eq_true rfl)
  rw [lg_entry_eq]
  generalize (lg_sl ([.int p0]) ++ List.replicate (1 - (lg_sl ([.int p0])).length) Slot.unset).toArray = ls at hl ⊢
  have hl : lv_has ls 1 [(0, .int p0)] := hl
  unfold fX6_isKind at hw
  refine lv_iload_n hx hb dX6_isKind_0 rfl (lv_at hl 0 rfl) ?_
  obtain ⟨PJx1, hPJx1⟩ : ∃ P : Int32 → Prop, ∀ x1 : Int32, P x1 ↔ ∀ ls : Array Slot, lv_has ls 1 [] → W p l e (headSpec (ws_ yX6_isKind cX6_isKind 1 (Option.some Jvm.ClassFile.FieldType.boolean)) ({ frames := 0, cells := 0, slots := 0, locals := 0 })).room s m ([.int p0] : List Value).toArray below meth c s.heap ([]) 0 0 (MQ below (vp_Si post) ([.int p0] : List Value).toArray s 0 0 (fun _ => False)) (F0 m 14 ls [.int x1]) := ⟨_, fun _ => Iff.rfl⟩
  have hjx1 : ∀ x1 : Int32, x1 = (if p0 = 0 then 1 else (if p0 = 1 then 1 else 0)) → PJx1 x1 := by
    intro x1 ex1
    rw [hPJx1]
    intro ls hl
    replace hw := pf_let (P := post) hw x1 ex1
    exact W.zret (v := x1) hx hb hr (by rw [ex1]; exact (zb_ite rfl (zb_ite rfl rfl))) (fun t ht hW => ⟨_, rfl, hw, ht⟩) (fun q h => nomatch h) dX6_isKind_14
  replace hjx1 := hjx1 _ rfl
  refine lv_if_eq (tgt := 9) hx hb dX6_isKind_1 (by decide) (fun c2 => ?_) (fun c2 => ?_)
  · replace hjx1 := pf_t (P := PJx1) c2 hjx1
    refine lv_iconst (v := 1) hx hb dX6_isKind_9 (by decide) ?_
    refine lv_goto (tgt := 14) hx hb dX6_isKind_10 (by decide) ?_
    exact (hPJx1 _).1 hjx1 _ (lv_sub hl [] rfl)
  · replace hjx1 := pf_f (P := PJx1) c2 hjx1
    refine lv_iload_n hx hb dX6_isKind_4 rfl (lv_at hl 0 rfl) ?_
    refine lv_iconst (v := 1) hx hb dX6_isKind_5 (by decide) ?_
    refine lv_icmp_ne (tgt := 13) hx hb dX6_isKind_6 (by decide) (fun c3 => ?_) (fun c3 => ?_)
    · replace hjx1 := pf_f (P := PJx1) c3 hjx1
      refine lv_iconst (v := 0) hx hb dX6_isKind_13 (by decide) ?_
      exact (hPJx1 _).1 hjx1 _ (lv_sub hl [] rfl)
    · replace hjx1 := pf_t (P := PJx1) c3 hjx1
      refine lv_iconst (v := 1) hx hb dX6_isKind_9 (by decide) ?_
      refine lv_goto (tgt := 14) hx hb dX6_isKind_10 (by decide) ?_
      exact (hPJx1 _).1 hjx1 _ (lv_sub hl [] rfl)

def fX6_bitsOf (p0 : Int32) : Int32 := lt_ (if p0 = 0 then 24 else 53) (fun x1 : Int32 => x1)
set_option maxHeartbeats 4000000 in
set_option maxRecDepth 100000 in
theorem mX6_bitsOf (l : Launch) (D : va_G) (TY : Nat → ClassId) (p0 : Int32) (post : Int32 → Prop) (hw : post (fX6_bitsOf p0)) : Met l yX6_bitsOf (ws_ yX6_bitsOf cX6_bitsOf 1 (Option.some Jvm.ClassFile.FieldType.int)) ({ frames := 0, cells := 0, slots := 0, locals := 0 }) (PR D TY [.int p0] []) (vp_Si post) 0 0 (fun _ => False) := by
  refine ofWF (cc := cX6_bitsOf) (maxL := 1) (ret := (Option.some Jvm.ClassFile.FieldType.int)) (plainFor_of_name (by decide)) rfl ?_
  intro p e s m args below meth c s₁ B hml hv
  obtain ⟨rfl, hP, hK, hG⟩ := hv
  have hx := B.exec
  have hb := B.bytes
  have hr := B.returns
  have hts0 := atoms_spec (ws := ws_ yX6_bitsOf cX6_bitsOf 1 (Option.some Jvm.ClassFile.FieldType.int)) B.pre
  have hts : ∀ w ∈ lw_all, w.before _ s = true := fun w h => hts0 w (List.mem_cons_of_mem _ h)
  have hown : s.vm.findClass RX6 = some m.cls := findClass_of_methodNamed B.named
  have hlocks := B.notSynchronized
  have hS : va_S (fun _ => False) s.heap s.heap [] := va_S.rf
  have hl := lv_entry ([.int p0]) (n := 1) (Nat.le_of_ble_eq_true rfl)
  rw [lg_entry_eq]
  generalize (lg_sl ([.int p0]) ++ List.replicate (1 - (lg_sl ([.int p0])).length) Slot.unset).toArray = ls at hl ⊢
  have hl : lv_has ls 1 [(0, .int p0)] := hl
  unfold fX6_bitsOf at hw
  refine lv_iload_n hx hb dX6_bitsOf_0 rfl (lv_at hl 0 rfl) ?_
  obtain ⟨PJx1, hPJx1⟩ : ∃ P : Int32 → Prop, ∀ x1 : Int32, P x1 ↔ ∀ ls : Array Slot, lv_has ls 1 [] → W p l e (headSpec (ws_ yX6_bitsOf cX6_bitsOf 1 (Option.some Jvm.ClassFile.FieldType.int)) ({ frames := 0, cells := 0, slots := 0, locals := 0 })).room s m ([.int p0] : List Value).toArray below meth c s.heap ([]) 0 0 (MQ below (vp_Si post) ([.int p0] : List Value).toArray s 0 0 (fun _ => False)) (F0 m 11 ls [.int x1]) := ⟨_, fun _ => Iff.rfl⟩
  have hjx1 : ∀ x1 : Int32, x1 = (if p0 = 0 then 24 else 53) → PJx1 x1 := by
    intro x1 ex1
    rw [hPJx1]
    intro ls hl
    replace hw := pf_let (P := post) hw x1 ex1
    exact W.iret (v := x1) hx hb hr (fun t ht hW => ⟨_, rfl, hw, ht⟩) (fun q h => nomatch h) dX6_bitsOf_11
  replace hjx1 := hjx1 _ rfl
  refine lv_if_ne (tgt := 9) hx hb dX6_bitsOf_1 (by decide) (fun c2 => ?_) (fun c2 => ?_)
  · replace hjx1 := pf_f (P := PJx1) c2 hjx1
    refine lv_bipush (v := 53) hx hb dX6_bitsOf_9 (by decide) ?_
    exact (hPJx1 _).1 hjx1 _ (lv_sub hl [] rfl)
  · replace hjx1 := pf_t (P := PJx1) c2 hjx1
    refine lv_bipush (v := 24) hx hb dX6_bitsOf_4 (by decide) ?_
    refine lv_goto (tgt := 11) hx hb dX6_bitsOf_6 (by decide) ?_
    exact (hPJx1 _).1 hjx1 _ (lv_sub hl [] rfl)

def fX6_least (p0 : Int32) : Int32 := lt_ (if p0 = 0 then (-149) else (-1074)) (fun x1 : Int32 => x1)
set_option maxHeartbeats 4000000 in
set_option maxRecDepth 100000 in
theorem mX6_least (l : Launch) (D : va_G) (TY : Nat → ClassId) (p0 : Int32) (post : Int32 → Prop) (hw : post (fX6_least p0)) : Met l yX6_least (ws_ yX6_least cX6_least 1 (Option.some Jvm.ClassFile.FieldType.int)) ({ frames := 0, cells := 0, slots := 0, locals := 0 }) (PR D TY [.int p0] []) (vp_Si post) 0 0 (fun _ => False) := by
  refine ofWF (cc := cX6_least) (maxL := 1) (ret := (Option.some Jvm.ClassFile.FieldType.int)) (plainFor_of_name (by decide)) rfl ?_
  intro p e s m args below meth c s₁ B hml hv
  obtain ⟨rfl, hP, hK, hG⟩ := hv
  have hx := B.exec
  have hb := B.bytes
  have hr := B.returns
  have hts0 := atoms_spec (ws := ws_ yX6_least cX6_least 1 (Option.some Jvm.ClassFile.FieldType.int)) B.pre
  have hts : ∀ w ∈ lw_all, w.before _ s = true := fun w h => hts0 w (List.mem_cons_of_mem _ h)
  have hown : s.vm.findClass RX6 = some m.cls := findClass_of_methodNamed B.named
  have hlocks := B.notSynchronized
  have hS : va_S (fun _ => False) s.heap s.heap [] := va_S.rf
  have hl := lv_entry ([.int p0]) (n := 1) (Nat.le_of_ble_eq_true rfl)
  rw [lg_entry_eq]
  generalize (lg_sl ([.int p0]) ++ List.replicate (1 - (lg_sl ([.int p0])).length) Slot.unset).toArray = ls at hl ⊢
  have hl : lv_has ls 1 [(0, .int p0)] := hl
  unfold fX6_least at hw
  refine lv_iload_n hx hb dX6_least_0 rfl (lv_at hl 0 rfl) ?_
  obtain ⟨PJx1, hPJx1⟩ : ∃ P : Int32 → Prop, ∀ x1 : Int32, P x1 ↔ ∀ ls : Array Slot, lv_has ls 1 [] → W p l e (headSpec (ws_ yX6_least cX6_least 1 (Option.some Jvm.ClassFile.FieldType.int)) ({ frames := 0, cells := 0, slots := 0, locals := 0 })).room s m ([.int p0] : List Value).toArray below meth c s.heap ([]) 0 0 (MQ below (vp_Si post) ([.int p0] : List Value).toArray s 0 0 (fun _ => False)) (F0 m 13 ls [.int x1]) := ⟨_, fun _ => Iff.rfl⟩
  have hjx1 : ∀ x1 : Int32, x1 = (if p0 = 0 then (-149) else (-1074)) → PJx1 x1 := by
    intro x1 ex1
    rw [hPJx1]
    intro ls hl
    replace hw := pf_let (P := post) hw x1 ex1
    exact W.iret (v := x1) hx hb hr (fun t ht hW => ⟨_, rfl, hw, ht⟩) (fun q h => nomatch h) dX6_least_13
  replace hjx1 := hjx1 _ rfl
  refine lv_if_ne (tgt := 10) hx hb dX6_least_1 (by decide) (fun c2 => ?_) (fun c2 => ?_)
  · replace hjx1 := pf_f (P := PJx1) c2 hjx1
    refine lv_sipush (v := (-1074)) hx hb dX6_least_10 (by decide) ?_
    exact (hPJx1 _).1 hjx1 _ (lv_sub hl [] rfl)
  · replace hjx1 := pf_t (P := PJx1) c2 hjx1
    refine lv_sipush (v := (-149)) hx hb dX6_least_4 (by decide) ?_
    refine lv_goto (tgt := 13) hx hb dX6_least_7 (by decide) ?_
    exact (hPJx1 _).1 hjx1 _ (lv_sub hl [] rfl)

def fX6_signed (p0 : Int32) (p1 : Int64) (p3 : Int32) : Int64 := if p0 = 0 then (lt_ (if p3 = 0 then 0 else 2147483648) (fun x4 : Int64 => ((p1 ||| x4).toInt32).toInt64)) else (lt_ (if p3 = 0 then p1 else (p1 ||| (-9223372036854775808))) (fun x2 : Int64 => x2))
set_option maxHeartbeats 4000000 in
set_option maxRecDepth 100000 in
theorem mX6_signed (l : Launch) (D : va_G) (TY : Nat → ClassId) (p0 : Int32) (p1 : Int64) (p3 : Int32) (post : Int64 → Prop) (hw : post (fX6_signed p0 p1 p3)) : Met l yX6_signed (ws_ yX6_signed cX6_signed 4 (Option.some Jvm.ClassFile.FieldType.long)) ({ frames := 0, cells := 0, slots := 0, locals := 0 }) (PR D TY [.int p0, .long p1, .int p3] []) (vp_Sl post) 0 0 (fun _ => False) := by
  refine ofWF (cc := cX6_signed) (maxL := 4) (ret := (Option.some Jvm.ClassFile.FieldType.long)) (plainFor_of_name (by decide)) rfl ?_
  intro p e s m args below meth c s₁ B hml hv
  obtain ⟨rfl, hP, hK, hG⟩ := hv
  have hx := B.exec
  have hb := B.bytes
  have hr := B.returns
  have hts0 := atoms_spec (ws := ws_ yX6_signed cX6_signed 4 (Option.some Jvm.ClassFile.FieldType.long)) B.pre
  have hts : ∀ w ∈ lw_all, w.before _ s = true := fun w h => hts0 w (List.mem_cons_of_mem _ h)
  have hown : s.vm.findClass RX6 = some m.cls := findClass_of_methodNamed B.named
  have hlocks := B.notSynchronized
  have hS : va_S (fun _ => False) s.heap s.heap [] := va_S.rf
  have hl := lv_entry ([.int p0, .long p1, .int p3]) (n := 4) (Nat.le_of_ble_eq_true rfl)
  rw [lg_entry_eq]
  generalize (lg_sl ([.int p0, .long p1, .int p3]) ++ List.replicate (4 - (lg_sl ([.int p0, .long p1, .int p3])).length) Slot.unset).toArray = ls at hl ⊢
  have hl : lv_has ls 4 [(0, .int p0), (1, .long p1), (3, .int p3)] := hl
  unfold fX6_signed at hw
  refine lv_iload_n hx hb dX6_signed_0 rfl (lv_at hl 0 rfl) ?_
  refine lv_if_ne (tgt := 20) hx hb dX6_signed_1 (by decide) (fun c1 => ?_) (fun c1 => ?_)
  · replace hw := pf_f (P := post) c1 hw
    refine lv_iload_n hx hb dX6_signed_20 rfl (lv_at hl 2 rfl) ?_
    obtain ⟨PJx2, hPJx2⟩ : ∃ P : Int64 → Prop, ∀ x2 : Int64, P x2 ↔ ∀ ls : Array Slot, lv_has ls 4 [] → W p l e (headSpec (ws_ yX6_signed cX6_signed 4 (Option.some Jvm.ClassFile.FieldType.long)) ({ frames := 0, cells := 0, slots := 0, locals := 0 })).room s m ([.int p0, .long p1, .int p3] : List Value).toArray below meth c s.heap ([]) 0 0 (MQ below (vp_Sl post) ([.int p0, .long p1, .int p3] : List Value).toArray s 0 0 (fun _ => False)) (F0 m 33 ls [.long x2]) := ⟨_, fun _ => Iff.rfl⟩
    have hjx2 : ∀ x2 : Int64, x2 = (if p3 = 0 then p1 else (p1 ||| (-9223372036854775808))) → PJx2 x2 := by
      intro x2 ex2
      rw [hPJx2]
      intro ls hl
      replace hw := pf_let (P := post) hw x2 ex2
      exact W.lret (v := x2) hx hb hr (fun t ht hW => ⟨_, rfl, hw, ht⟩) (fun q h => nomatch h) dX6_signed_33
    replace hjx2 := hjx2 _ rfl
    refine lv_if_eq (tgt := 32) hx hb dX6_signed_21 (by decide) (fun c3 => ?_) (fun c3 => ?_)
    · replace hjx2 := pf_t (P := PJx2) c3 hjx2
      refine lv_lload_n hx hb dX6_signed_32 rfl (lv_at hl 1 rfl) ?_
      exact (hPJx2 _).1 hjx2 _ (lv_sub hl [] rfl)
    · replace hjx2 := pf_f (P := PJx2) c3 hjx2
      refine lv_lload_n hx hb dX6_signed_24 rfl (lv_at hl 1 rfl) ?_
      refine lv_ldc2 (v := (-9223372036854775808)) hx hb hown (hts _ q1280) dX6_signed_25 ?_
      refine lv_lor hx hb dX6_signed_28 ?_
      refine lv_goto (tgt := 33) hx hb dX6_signed_29 (by decide) ?_
      exact (hPJx2 _).1 hjx2 _ (lv_sub hl [] rfl)
  · replace hw := pf_t (P := post) c1 hw
    refine lv_lload_n hx hb dX6_signed_4 rfl (lv_at hl 1 rfl) ?_
    refine lv_iload_n hx hb dX6_signed_5 rfl (lv_at hl 2 rfl) ?_
    obtain ⟨PJx4, hPJx4⟩ : ∃ P : Int64 → Prop, ∀ x4 : Int64, P x4 ↔ ∀ ls : Array Slot, lv_has ls 4 [] → W p l e (headSpec (ws_ yX6_signed cX6_signed 4 (Option.some Jvm.ClassFile.FieldType.long)) ({ frames := 0, cells := 0, slots := 0, locals := 0 })).room s m ([.int p0, .long p1, .int p3] : List Value).toArray below meth c s.heap ([]) 0 0 (MQ below (vp_Sl post) ([.int p0, .long p1, .int p3] : List Value).toArray s 0 0 (fun _ => False)) (F0 m 16 ls [.long x4, .long p1]) := ⟨_, fun _ => Iff.rfl⟩
    have hjx4 : ∀ x4 : Int64, x4 = (if p3 = 0 then 0 else 2147483648) → PJx4 x4 := by
      intro x4 ex4
      rw [hPJx4]
      intro ls hl
      replace hw := pf_let (P := post) hw x4 ex4
      refine lv_lor hx hb dX6_signed_16 ?_
      refine lv_l2i (v := (p1 ||| x4).toInt32) hx hb dX6_signed_17 rfl ?_
      refine lv_i2l (v := ((p1 ||| x4).toInt32).toInt64) hx hb dX6_signed_18 rfl ?_
      exact W.lret (v := ((p1 ||| x4).toInt32).toInt64) hx hb hr (fun t ht hW => ⟨_, rfl, hw, ht⟩) (fun q h => nomatch h) dX6_signed_19
    replace hjx4 := hjx4 _ rfl
    refine lv_if_eq (tgt := 15) hx hb dX6_signed_6 (by decide) (fun c5 => ?_) (fun c5 => ?_)
    · replace hjx4 := pf_t (P := PJx4) c5 hjx4
      refine lv_lconst (v := 0) hx hb dX6_signed_15 (by decide) ?_
      exact (hPJx4 _).1 hjx4 _ (lv_sub hl [] rfl)
    · replace hjx4 := pf_f (P := PJx4) c5 hjx4
      refine lv_ldc2 (v := 2147483648) hx hb hown (hts _ q1279) dX6_signed_9 ?_
      refine lv_goto (tgt := 16) hx hb dX6_signed_12 (by decide) ?_
      exact (hPJx4 _).1 hjx4 _ (lv_sub hl [] rfl)

def fX6_infinity (p0 : Int32) : Int64 := lt_ (if p0 = 0 then 2139095040 else 9218868437227405312) (fun x1 : Int64 => x1)
set_option maxHeartbeats 4000000 in
set_option maxRecDepth 100000 in
theorem mX6_infinity (l : Launch) (D : va_G) (TY : Nat → ClassId) (p0 : Int32) (post : Int64 → Prop) (hw : post (fX6_infinity p0)) : Met l yX6_infinity (ws_ yX6_infinity cX6_infinity 1 (Option.some Jvm.ClassFile.FieldType.long)) ({ frames := 0, cells := 0, slots := 0, locals := 0 }) (PR D TY [.int p0] []) (vp_Sl post) 0 0 (fun _ => False) := by
  refine ofWF (cc := cX6_infinity) (maxL := 1) (ret := (Option.some Jvm.ClassFile.FieldType.long)) (plainFor_of_name (by decide)) rfl ?_
  intro p e s m args below meth c s₁ B hml hv
  obtain ⟨rfl, hP, hK, hG⟩ := hv
  have hx := B.exec
  have hb := B.bytes
  have hr := B.returns
  have hts0 := atoms_spec (ws := ws_ yX6_infinity cX6_infinity 1 (Option.some Jvm.ClassFile.FieldType.long)) B.pre
  have hts : ∀ w ∈ lw_all, w.before _ s = true := fun w h => hts0 w (List.mem_cons_of_mem _ h)
  have hown : s.vm.findClass RX6 = some m.cls := findClass_of_methodNamed B.named
  have hlocks := B.notSynchronized
  have hS : va_S (fun _ => False) s.heap s.heap [] := va_S.rf
  have hl := lv_entry ([.int p0]) (n := 1) (Nat.le_of_ble_eq_true rfl)
  rw [lg_entry_eq]
  generalize (lg_sl ([.int p0]) ++ List.replicate (1 - (lg_sl ([.int p0])).length) Slot.unset).toArray = ls at hl ⊢
  have hl : lv_has ls 1 [(0, .int p0)] := hl
  unfold fX6_infinity at hw
  refine lv_iload_n hx hb dX6_infinity_0 rfl (lv_at hl 0 rfl) ?_
  obtain ⟨PJx1, hPJx1⟩ : ∃ P : Int64 → Prop, ∀ x1 : Int64, P x1 ↔ ∀ ls : Array Slot, lv_has ls 1 [] → W p l e (headSpec (ws_ yX6_infinity cX6_infinity 1 (Option.some Jvm.ClassFile.FieldType.long)) ({ frames := 0, cells := 0, slots := 0, locals := 0 })).room s m ([.int p0] : List Value).toArray below meth c s.heap ([]) 0 0 (MQ below (vp_Sl post) ([.int p0] : List Value).toArray s 0 0 (fun _ => False)) (F0 m 13 ls [.long x1]) := ⟨_, fun _ => Iff.rfl⟩
  have hjx1 : ∀ x1 : Int64, x1 = (if p0 = 0 then 2139095040 else 9218868437227405312) → PJx1 x1 := by
    intro x1 ex1
    rw [hPJx1]
    intro ls hl
    replace hw := pf_let (P := post) hw x1 ex1
    exact W.lret (v := x1) hx hb hr (fun t ht hW => ⟨_, rfl, hw, ht⟩) (fun q h => nomatch h) dX6_infinity_13
  replace hjx1 := hjx1 _ rfl
  refine lv_if_ne (tgt := 10) hx hb dX6_infinity_1 (by decide) (fun c2 => ?_) (fun c2 => ?_)
  · replace hjx1 := pf_f (P := PJx1) c2 hjx1
    refine lv_ldc2 (v := 9218868437227405312) hx hb hown (hts _ q1286) dX6_infinity_10 ?_
    exact (hPJx1 _).1 hjx1 _ (lv_sub hl [] rfl)
  · replace hjx1 := pf_t (P := PJx1) c2 hjx1
    refine lv_ldc2 (v := 2139095040) hx hb hown (hts _ q1285) dX6_infinity_4 ?_
    refine lv_goto (tgt := 13) hx hb dX6_infinity_7 (by decide) ?_
    exact (hPJx1 _).1 hjx1 _ (lv_sub hl [] rfl)

def fX6_nanOf (p0 : Int32) : Int64 := lt_ (if p0 = 0 then 2143289344 else 9221120237041090560) (fun x1 : Int64 => x1)
set_option maxHeartbeats 4000000 in
set_option maxRecDepth 100000 in
theorem mX6_nanOf (l : Launch) (D : va_G) (TY : Nat → ClassId) (p0 : Int32) (post : Int64 → Prop) (hw : post (fX6_nanOf p0)) : Met l yX6_nanOf (ws_ yX6_nanOf cX6_nanOf 1 (Option.some Jvm.ClassFile.FieldType.long)) ({ frames := 0, cells := 0, slots := 0, locals := 0 }) (PR D TY [.int p0] []) (vp_Sl post) 0 0 (fun _ => False) := by
  refine ofWF (cc := cX6_nanOf) (maxL := 1) (ret := (Option.some Jvm.ClassFile.FieldType.long)) (plainFor_of_name (by decide)) rfl ?_
  intro p e s m args below meth c s₁ B hml hv
  obtain ⟨rfl, hP, hK, hG⟩ := hv
  have hx := B.exec
  have hb := B.bytes
  have hr := B.returns
  have hts0 := atoms_spec (ws := ws_ yX6_nanOf cX6_nanOf 1 (Option.some Jvm.ClassFile.FieldType.long)) B.pre
  have hts : ∀ w ∈ lw_all, w.before _ s = true := fun w h => hts0 w (List.mem_cons_of_mem _ h)
  have hown : s.vm.findClass RX6 = some m.cls := findClass_of_methodNamed B.named
  have hlocks := B.notSynchronized
  have hS : va_S (fun _ => False) s.heap s.heap [] := va_S.rf
  have hl := lv_entry ([.int p0]) (n := 1) (Nat.le_of_ble_eq_true rfl)
  rw [lg_entry_eq]
  generalize (lg_sl ([.int p0]) ++ List.replicate (1 - (lg_sl ([.int p0])).length) Slot.unset).toArray = ls at hl ⊢
  have hl : lv_has ls 1 [(0, .int p0)] := hl
  unfold fX6_nanOf at hw
  refine lv_iload_n hx hb dX6_nanOf_0 rfl (lv_at hl 0 rfl) ?_
  obtain ⟨PJx1, hPJx1⟩ : ∃ P : Int64 → Prop, ∀ x1 : Int64, P x1 ↔ ∀ ls : Array Slot, lv_has ls 1 [] → W p l e (headSpec (ws_ yX6_nanOf cX6_nanOf 1 (Option.some Jvm.ClassFile.FieldType.long)) ({ frames := 0, cells := 0, slots := 0, locals := 0 })).room s m ([.int p0] : List Value).toArray below meth c s.heap ([]) 0 0 (MQ below (vp_Sl post) ([.int p0] : List Value).toArray s 0 0 (fun _ => False)) (F0 m 13 ls [.long x1]) := ⟨_, fun _ => Iff.rfl⟩
  have hjx1 : ∀ x1 : Int64, x1 = (if p0 = 0 then 2143289344 else 9221120237041090560) → PJx1 x1 := by
    intro x1 ex1
    rw [hPJx1]
    intro ls hl
    replace hw := pf_let (P := post) hw x1 ex1
    exact W.lret (v := x1) hx hb hr (fun t ht hW => ⟨_, rfl, hw, ht⟩) (fun q h => nomatch h) dX6_nanOf_13
  replace hjx1 := hjx1 _ rfl
  refine lv_if_ne (tgt := 10) hx hb dX6_nanOf_1 (by decide) (fun c2 => ?_) (fun c2 => ?_)
  · replace hjx1 := pf_f (P := PJx1) c2 hjx1
    refine lv_ldc2 (v := 9221120237041090560) hx hb hown (hts _ q1321) dX6_nanOf_10 ?_
    exact (hPJx1 _).1 hjx1 _ (lv_sub hl [] rfl)
  · replace hjx1 := pf_t (P := PJx1) c2 hjx1
    refine lv_ldc2 (v := 2143289344) hx hb hown (hts _ q1320) dX6_nanOf_4 ?_
    refine lv_goto (tgt := 13) hx hb dX6_nanOf_7 (by decide) ?_
    exact (hPJx1 _).1 hjx1 _ (lv_sub hl [] rfl)

def fX6_sizeOf (p0 : Int32) (p1 : Int64) : Int64 := lt_ (if p0 = 0 then (p1 &&& 2147483647) else (p1 &&& 9223372036854775807)) (fun x1 : Int64 => x1)
set_option maxHeartbeats 4000000 in
set_option maxRecDepth 100000 in
theorem mX6_sizeOf (l : Launch) (D : va_G) (TY : Nat → ClassId) (p0 : Int32) (p1 : Int64) (post : Int64 → Prop) (hw : post (fX6_sizeOf p0 p1)) : Met l yX6_sizeOf (ws_ yX6_sizeOf cX6_sizeOf 3 (Option.some Jvm.ClassFile.FieldType.long)) ({ frames := 0, cells := 0, slots := 0, locals := 0 }) (PR D TY [.int p0, .long p1] []) (vp_Sl post) 0 0 (fun _ => False) := by
  refine ofWF (cc := cX6_sizeOf) (maxL := 3) (ret := (Option.some Jvm.ClassFile.FieldType.long)) (plainFor_of_name (by decide)) rfl ?_
  intro p e s m args below meth c s₁ B hml hv
  obtain ⟨rfl, hP, hK, hG⟩ := hv
  have hx := B.exec
  have hb := B.bytes
  have hr := B.returns
  have hts0 := atoms_spec (ws := ws_ yX6_sizeOf cX6_sizeOf 3 (Option.some Jvm.ClassFile.FieldType.long)) B.pre
  have hts : ∀ w ∈ lw_all, w.before _ s = true := fun w h => hts0 w (List.mem_cons_of_mem _ h)
  have hown : s.vm.findClass RX6 = some m.cls := findClass_of_methodNamed B.named
  have hlocks := B.notSynchronized
  have hS : va_S (fun _ => False) s.heap s.heap [] := va_S.rf
  have hl := lv_entry ([.int p0, .long p1]) (n := 3) (Nat.le_of_ble_eq_true rfl)
  rw [lg_entry_eq]
  generalize (lg_sl ([.int p0, .long p1]) ++ List.replicate (3 - (lg_sl ([.int p0, .long p1])).length) Slot.unset).toArray = ls at hl ⊢
  have hl : lv_has ls 3 [(0, .int p0), (1, .long p1)] := hl
  unfold fX6_sizeOf at hw
  refine lv_iload_n hx hb dX6_sizeOf_0 rfl (lv_at hl 0 rfl) ?_
  obtain ⟨PJx1, hPJx1⟩ : ∃ P : Int64 → Prop, ∀ x1 : Int64, P x1 ↔ ∀ ls : Array Slot, lv_has ls 3 [] → W p l e (headSpec (ws_ yX6_sizeOf cX6_sizeOf 3 (Option.some Jvm.ClassFile.FieldType.long)) ({ frames := 0, cells := 0, slots := 0, locals := 0 })).room s m ([.int p0, .long p1] : List Value).toArray below meth c s.heap ([]) 0 0 (MQ below (vp_Sl post) ([.int p0, .long p1] : List Value).toArray s 0 0 (fun _ => False)) (F0 m 17 ls [.long x1]) := ⟨_, fun _ => Iff.rfl⟩
  have hjx1 : ∀ x1 : Int64, x1 = (if p0 = 0 then (p1 &&& 2147483647) else (p1 &&& 9223372036854775807)) → PJx1 x1 := by
    intro x1 ex1
    rw [hPJx1]
    intro ls hl
    replace hw := pf_let (P := post) hw x1 ex1
    exact W.lret (v := x1) hx hb hr (fun t ht hW => ⟨_, rfl, hw, ht⟩) (fun q h => nomatch h) dX6_sizeOf_17
  replace hjx1 := hjx1 _ rfl
  refine lv_if_ne (tgt := 12) hx hb dX6_sizeOf_1 (by decide) (fun c2 => ?_) (fun c2 => ?_)
  · replace hjx1 := pf_f (P := PJx1) c2 hjx1
    refine lv_lload_n hx hb dX6_sizeOf_12 rfl (lv_at hl 1 rfl) ?_
    refine lv_ldc2 (v := 9223372036854775807) hx hb hown (hts _ q1338) dX6_sizeOf_13 ?_
    refine lv_land hx hb dX6_sizeOf_16 ?_
    exact (hPJx1 _).1 hjx1 _ (lv_sub hl [] rfl)
  · replace hjx1 := pf_t (P := PJx1) c2 hjx1
    refine lv_lload_n hx hb dX6_sizeOf_4 rfl (lv_at hl 1 rfl) ?_
    refine lv_ldc2 (v := 2147483647) hx hb hown (hts _ q1337) dX6_sizeOf_5 ?_
    refine lv_land hx hb dX6_sizeOf_8 ?_
    refine lv_goto (tgt := 17) hx hb dX6_sizeOf_9 (by decide) ?_
    exact (hPJx1 _).1 hjx1 _ (lv_sub hl [] rfl)

def fX6_single (p0 : Int64) : UInt32 := lt_ (if 2139095040 < (p0 &&& 2147483647) then 2143289344 else p0.toInt32.toUInt32) (fun x1 : UInt32 => x1)
def oX6_single (p0 : Int64) : Prop := ((2139095040 < (p0 &&& 2147483647)) → True) ∧ (¬ (2139095040 < (p0 &&& 2147483647)) → (vn_sni2f p0.toInt32 = false))
set_option maxHeartbeats 4000000 in
set_option maxRecDepth 100000 in
theorem mX6_single (l : Launch) (D : va_G) (TY : Nat → ClassId) (p0 : Int64) (post : UInt32 → Prop) (hw : post (fX6_single p0)) (hok : oX6_single p0) : Met l yX6_single (ws_ yX6_single cX6_single 2 (Option.some Jvm.ClassFile.FieldType.float)) ({ frames := 1, cells := 0, slots := 0, locals := 15 }) (PR D TY [.long p0] []) (vp_Sf post) 0 0 (fun _ => False) := by
  refine ofWF (cc := cX6_single) (maxL := 2) (ret := (Option.some Jvm.ClassFile.FieldType.float)) (plainFor_of_name (by decide)) rfl ?_
  intro p e s m args below meth c s₁ B hml hv
  obtain ⟨rfl, hP, hK, hG⟩ := hv
  have hx := B.exec
  have hb := B.bytes
  have hr := B.returns
  have hts0 := atoms_spec (ws := ws_ yX6_single cX6_single 2 (Option.some Jvm.ClassFile.FieldType.float)) B.pre
  have hts : ∀ w ∈ lw_all, w.before _ s = true := fun w h => hts0 w (List.mem_cons_of_mem _ h)
  have hown : s.vm.findClass RX6 = some m.cls := findClass_of_methodNamed B.named
  have hlocks := B.notSynchronized
  have hS : va_S (fun _ => False) s.heap s.heap [] := va_S.rf
  have hl := lv_entry ([.long p0]) (n := 2) (Nat.le_of_ble_eq_true rfl)
  rw [lg_entry_eq]
  generalize (lg_sl ([.long p0]) ++ List.replicate (2 - (lg_sl ([.long p0])).length) Slot.unset).toArray = ls at hl ⊢
  have hl : lv_has ls 2 [(0, .long p0)] := hl
  unfold fX6_single at hw
  unfold oX6_single at hok
  refine lv_lload_n hx hb dX6_single_0 rfl (lv_at hl 0 rfl) ?_
  refine lv_ldc2 (v := 2147483647) hx hb hown (hts _ q1337) dX6_single_1 ?_
  refine lv_land hx hb dX6_single_4 ?_
  refine lv_ldc2 (v := 2139095040) hx hb hown (hts _ q1285) dX6_single_5 ?_
  obtain ⟨PJx1, hPJx1⟩ : ∃ P : UInt32 → Prop, ∀ x1 : UInt32, P x1 ↔ ∀ ls : Array Slot, lv_has ls 2 [] → W p l e (headSpec (ws_ yX6_single cX6_single 2 (Option.some Jvm.ClassFile.FieldType.float)) ({ frames := 1, cells := 0, slots := 0, locals := 15 })).room s m ([.long p0] : List Value).toArray below meth c s.heap ([]) 0 0 (MQ below (vp_Sf post) ([.long p0] : List Value).toArray s 0 0 (fun _ => False)) (F0 m 22 ls [.float x1]) := ⟨_, fun _ => Iff.rfl⟩
  have hox1 := hok
  have hjx1 : ∀ x1 : UInt32, x1 = (if 2139095040 < (p0 &&& 2147483647) then 2143289344 else p0.toInt32.toUInt32) → PJx1 x1 := by
    intro x1 ex1
    rw [hPJx1]
    intro ls hl
    replace hw := pf_let (P := post) hw x1 ex1
    exact W.fret (v := x1) hx hb hr (fun t ht hW => ⟨_, rfl, hw, ht⟩) (fun q h => nomatch h) dX6_single_22
  replace hjx1 := hjx1 _ rfl
  refine lx_lle (tgt := 17) hx hb dX6_single_8 dX6_single_9 (by decide) (fun c2 => ?_) (fun c2 => ?_)
  · replace hjx1 := pf_f (P := PJx1) c2 hjx1
    replace hox1 := hox1.2 c2
    refine lv_lload_n hx hb dX6_single_17 rfl (lv_at hl 0 rfl) ?_
    refine lv_l2i (v := p0.toInt32) hx hb dX6_single_18 rfl ?_
    refine vn_i2f hx hb (hml.trans hl.1.symm) hown (hts _ q1366) (hts _ q126) (hts _ q125) (hts _ q53) hox1 (Nat.le_of_ble_eq_true rfl) (Nat.le_of_ble_eq_true rfl) dX6_single_19 ?_
    exact (hPJx1 _).1 hjx1 _ (lv_sub hl [] rfl)
  · replace hjx1 := pf_t (P := PJx1) c2 hjx1
    refine lv_ldcf (v := 2143289344) hx hb hown (hts _ q1365) dX6_single_12 ?_
    refine lv_goto (tgt := 22) hx hb dX6_single_14 (by decide) ?_
    exact (hPJx1 _).1 hjx1 _ (lv_sub hl [] rfl)

def fX6_endless (p0 : UInt32) : Int32 := lt_ (if Feq p0 2139095040 then 1 else (if Feq p0 4286578688 then 1 else 0)) (fun x1 : Int32 => x1)
theorem zb_fX6_endless (p0 : UInt32) : Zb (fX6_endless p0) := by
  unfold fX6_endless
  exact (zb_ite rfl (zb_ite rfl rfl))
set_option maxHeartbeats 4000000 in
set_option maxRecDepth 100000 in
theorem mX6_endless (l : Launch) (D : va_G) (TY : Nat → ClassId) (p0 : UInt32) (post : Int32 → Prop) (hw : post (fX6_endless p0)) : Met l yX6_endless (ws_ yX6_endless cX6_endless 1 (Option.some Jvm.ClassFile.FieldType.boolean)) ({ frames := 0, cells := 0, slots := 0, locals := 0 }) (PR D TY [.float p0] []) (vp_Si post) 0 0 (fun _ => False) := by
  refine ofWF (cc := cX6_endless) (maxL := 1) (ret := (Option.some Jvm.ClassFile.FieldType.boolean)) (plainFor_of_name (by decide)) rfl ?_
  intro p e s m args below meth c s₁ B hml hv
  obtain ⟨rfl, hP, hK, hG⟩ := hv
  have hx := B.exec
  have hb := B.bytes
  have hr := B.returns
  have hts0 := atoms_spec (ws := ws_ yX6_endless cX6_endless 1 (Option.some Jvm.ClassFile.FieldType.boolean)) B.pre
  have hts : ∀ w ∈ lw_all, w.before _ s = true := fun w h => hts0 w (List.mem_cons_of_mem _ h)
  have hown : s.vm.findClass RX6 = some m.cls := findClass_of_methodNamed B.named
  have hlocks := B.notSynchronized
  have hS : va_S (fun _ => False) s.heap s.heap [] := va_S.rf
  have hl := lv_entry ([.float p0]) (n := 1) (Nat.le_of_ble_eq_true rfl)
  rw [lg_entry_eq]
  generalize (lg_sl ([.float p0]) ++ List.replicate (1 - (lg_sl ([.float p0])).length) Slot.unset).toArray = ls at hl ⊢
  have hl : lv_has ls 1 [(0, .float p0)] := hl
  unfold fX6_endless at hw
  refine lv_fload_n hx hb dX6_endless_0 rfl (lv_at hl 0 rfl) ?_
  refine lv_ldcf (v := 2139095040) hx hb hown (hts _ q1373) dX6_endless_1 ?_
  obtain ⟨PJx1, hPJx1⟩ : ∃ P : Int32 → Prop, ∀ x1 : Int32, P x1 ↔ ∀ ls : Array Slot, lv_has ls 1 [] → W p l e (headSpec (ws_ yX6_endless cX6_endless 1 (Option.some Jvm.ClassFile.FieldType.boolean)) ({ frames := 0, cells := 0, slots := 0, locals := 0 })).room s m ([.float p0] : List Value).toArray below meth c s.heap ([]) 0 0 (MQ below (vp_Si post) ([.float p0] : List Value).toArray s 0 0 (fun _ => False)) (F0 m 19 ls [.int x1]) := ⟨_, fun _ => Iff.rfl⟩
  have hjx1 : ∀ x1 : Int32, x1 = (if Feq p0 2139095040 then 1 else (if Feq p0 4286578688 then 1 else 0)) → PJx1 x1 := by
    intro x1 ex1
    rw [hPJx1]
    intro ls hl
    replace hw := pf_let (P := post) hw x1 ex1
    exact W.zret (v := x1) hx hb hr (by rw [ex1]; exact (zb_ite rfl (zb_ite rfl rfl))) (fun t ht hW => ⟨_, rfl, hw, ht⟩) (fun q h => nomatch h) dX6_endless_19
  replace hjx1 := hjx1 _ rfl
  refine lx_fleq (tgt := 14) hx hb dX6_endless_3 dX6_endless_4 (by decide) (fun c2 => ?_) (fun c2 => ?_)
  · replace hjx1 := pf_t (P := PJx1) c2 hjx1
    refine lv_iconst (v := 1) hx hb dX6_endless_14 (by decide) ?_
    refine lv_goto (tgt := 19) hx hb dX6_endless_15 (by decide) ?_
    exact (hPJx1 _).1 hjx1 _ (lv_sub hl [] rfl)
  · replace hjx1 := pf_f (P := PJx1) c2 hjx1
    refine lv_fload_n hx hb dX6_endless_7 rfl (lv_at hl 0 rfl) ?_
    refine lv_ldcf (v := 4286578688) hx hb hown (hts _ q1374) dX6_endless_8 ?_
    refine lx_flne (tgt := 18) hx hb dX6_endless_10 dX6_endless_11 (by decide) (fun c3 => ?_) (fun c3 => ?_)
    · replace hjx1 := pf_f (P := PJx1) c3 hjx1
      refine lv_iconst (v := 0) hx hb dX6_endless_18 (by decide) ?_
      exact (hPJx1 _).1 hjx1 _ (lv_sub hl [] rfl)
    · replace hjx1 := pf_t (P := PJx1) c3 hjx1
      refine lv_iconst (v := 1) hx hb dX6_endless_14 (by decide) ?_
      refine lv_goto (tgt := 19) hx hb dX6_endless_15 (by decide) ?_
      exact (hPJx1 _).1 hjx1 _ (lv_sub hl [] rfl)

def fX6_wide (p0 : UInt32) : UInt64 := lt_ (if Feq p0 p0 then (FP.f2d p0) else 9221120237041090560) (fun x1 : UInt64 => x1)
def oX6_wide (p0 : UInt32) : Prop := ((Feq p0 p0) → (vf_n64 (FP.f2d p0))) ∧ (¬ (Feq p0 p0) → True)
set_option maxHeartbeats 4000000 in
set_option maxRecDepth 100000 in
theorem mX6_wide (l : Launch) (D : va_G) (TY : Nat → ClassId) (p0 : UInt32) (post : UInt64 → Prop) (hw : post (fX6_wide p0)) (hok : oX6_wide p0) : Met l yX6_wide (ws_ yX6_wide cX6_wide 1 (Option.some Jvm.ClassFile.FieldType.double)) ({ frames := 0, cells := 0, slots := 0, locals := 0 }) (PR D TY [.float p0] []) (vp_Sd post) 0 0 (fun _ => False) := by
  refine ofWF (cc := cX6_wide) (maxL := 1) (ret := (Option.some Jvm.ClassFile.FieldType.double)) (plainFor_of_name (by decide)) rfl ?_
  intro p e s m args below meth c s₁ B hml hv
  obtain ⟨rfl, hP, hK, hG⟩ := hv
  have hx := B.exec
  have hb := B.bytes
  have hr := B.returns
  have hts0 := atoms_spec (ws := ws_ yX6_wide cX6_wide 1 (Option.some Jvm.ClassFile.FieldType.double)) B.pre
  have hts : ∀ w ∈ lw_all, w.before _ s = true := fun w h => hts0 w (List.mem_cons_of_mem _ h)
  have hown : s.vm.findClass RX6 = some m.cls := findClass_of_methodNamed B.named
  have hlocks := B.notSynchronized
  have hS : va_S (fun _ => False) s.heap s.heap [] := va_S.rf
  have hl := lv_entry ([.float p0]) (n := 1) (Nat.le_of_ble_eq_true rfl)
  rw [lg_entry_eq]
  generalize (lg_sl ([.float p0]) ++ List.replicate (1 - (lg_sl ([.float p0])).length) Slot.unset).toArray = ls at hl ⊢
  have hl : lv_has ls 1 [(0, .float p0)] := hl
  unfold fX6_wide at hw
  unfold oX6_wide at hok
  refine lv_fload_n hx hb dX6_wide_0 rfl (lv_at hl 0 rfl) ?_
  refine lv_fload_n hx hb dX6_wide_1 rfl (lv_at hl 0 rfl) ?_
  obtain ⟨PJx1, hPJx1⟩ : ∃ P : UInt64 → Prop, ∀ x1 : UInt64, P x1 ↔ ∀ ls : Array Slot, lv_has ls 1 [] → W p l e (headSpec (ws_ yX6_wide cX6_wide 1 (Option.some Jvm.ClassFile.FieldType.double)) ({ frames := 0, cells := 0, slots := 0, locals := 0 })).room s m ([.float p0] : List Value).toArray below meth c s.heap ([]) 0 0 (MQ below (vp_Sd post) ([.float p0] : List Value).toArray s 0 0 (fun _ => False)) (F0 m 14 ls [.double x1]) := ⟨_, fun _ => Iff.rfl⟩
  have hox1 := hok
  have hjx1 : ∀ x1 : UInt64, x1 = (if Feq p0 p0 then (FP.f2d p0) else 9221120237041090560) → PJx1 x1 := by
    intro x1 ex1
    rw [hPJx1]
    intro ls hl
    replace hw := pf_let (P := post) hw x1 ex1
    exact W.dret (v := x1) hx hb hr (fun t ht hW => ⟨_, rfl, hw, ht⟩) (fun q h => nomatch h) dX6_wide_14
  replace hjx1 := hjx1 _ rfl
  refine lx_fleq (tgt := 12) hx hb dX6_wide_2 dX6_wide_3 (by decide) (fun c2 => ?_) (fun c2 => ?_)
  · replace hjx1 := pf_t (P := PJx1) c2 hjx1
    replace hox1 := hox1.1 c2
    refine lv_fload_n hx hb dX6_wide_12 rfl (lv_at hl 0 rfl) ?_
    refine lv_f2d hx hb dX6_wide_13 hox1 ?_
    exact (hPJx1 _).1 hjx1 _ (lv_sub hl [] rfl)
  · replace hjx1 := pf_f (P := PJx1) c2 hjx1
    refine lv_ldc2d (v := 9221120237041090560) hx hb hown (hts _ q1381) dX6_wide_6 ?_
    refine lv_goto (tgt := 14) hx hb dX6_wide_9 (by decide) ?_
    exact (hPJx1 _).1 hjx1 _ (lv_sub hl [] rfl)

def fX6_endless_2 (p0 : UInt64) : Int32 := lt_ (if Deq p0 9218868437227405312 then 1 else (if Deq p0 18442240474082181120 then 1 else 0)) (fun x1 : Int32 => x1)
theorem zb_fX6_endless_2 (p0 : UInt64) : Zb (fX6_endless_2 p0) := by
  unfold fX6_endless_2
  exact (zb_ite rfl (zb_ite rfl rfl))
set_option maxHeartbeats 4000000 in
set_option maxRecDepth 100000 in
theorem mX6_endless_2 (l : Launch) (D : va_G) (TY : Nat → ClassId) (p0 : UInt64) (post : Int32 → Prop) (hw : post (fX6_endless_2 p0)) : Met l yX6_endless_2 (ws_ yX6_endless_2 cX6_endless_2 2 (Option.some Jvm.ClassFile.FieldType.boolean)) ({ frames := 0, cells := 0, slots := 0, locals := 0 }) (PR D TY [.double p0] []) (vp_Si post) 0 0 (fun _ => False) := by
  refine ofWF (cc := cX6_endless_2) (maxL := 2) (ret := (Option.some Jvm.ClassFile.FieldType.boolean)) (plainFor_of_name (by decide)) rfl ?_
  intro p e s m args below meth c s₁ B hml hv
  obtain ⟨rfl, hP, hK, hG⟩ := hv
  have hx := B.exec
  have hb := B.bytes
  have hr := B.returns
  have hts0 := atoms_spec (ws := ws_ yX6_endless_2 cX6_endless_2 2 (Option.some Jvm.ClassFile.FieldType.boolean)) B.pre
  have hts : ∀ w ∈ lw_all, w.before _ s = true := fun w h => hts0 w (List.mem_cons_of_mem _ h)
  have hown : s.vm.findClass RX6 = some m.cls := findClass_of_methodNamed B.named
  have hlocks := B.notSynchronized
  have hS : va_S (fun _ => False) s.heap s.heap [] := va_S.rf
  have hl := lv_entry ([.double p0]) (n := 2) (Nat.le_of_ble_eq_true rfl)
  rw [lg_entry_eq]
  generalize (lg_sl ([.double p0]) ++ List.replicate (2 - (lg_sl ([.double p0])).length) Slot.unset).toArray = ls at hl ⊢
  have hl : lv_has ls 2 [(0, .double p0)] := hl
  unfold fX6_endless_2 at hw
  refine lv_dload_n hx hb dX6_endless_2_0 rfl (lv_at hl 0 rfl) ?_
  refine lv_ldc2d (v := 9218868437227405312) hx hb hown (hts _ q1389) dX6_endless_2_1 ?_
  obtain ⟨PJx1, hPJx1⟩ : ∃ P : Int32 → Prop, ∀ x1 : Int32, P x1 ↔ ∀ ls : Array Slot, lv_has ls 2 [] → W p l e (headSpec (ws_ yX6_endless_2 cX6_endless_2 2 (Option.some Jvm.ClassFile.FieldType.boolean)) ({ frames := 0, cells := 0, slots := 0, locals := 0 })).room s m ([.double p0] : List Value).toArray below meth c s.heap ([]) 0 0 (MQ below (vp_Si post) ([.double p0] : List Value).toArray s 0 0 (fun _ => False)) (F0 m 21 ls [.int x1]) := ⟨_, fun _ => Iff.rfl⟩
  have hjx1 : ∀ x1 : Int32, x1 = (if Deq p0 9218868437227405312 then 1 else (if Deq p0 18442240474082181120 then 1 else 0)) → PJx1 x1 := by
    intro x1 ex1
    rw [hPJx1]
    intro ls hl
    replace hw := pf_let (P := post) hw x1 ex1
    exact W.zret (v := x1) hx hb hr (by rw [ex1]; exact (zb_ite rfl (zb_ite rfl rfl))) (fun t ht hW => ⟨_, rfl, hw, ht⟩) (fun q h => nomatch h) dX6_endless_2_21
  replace hjx1 := hjx1 _ rfl
  refine lx_dleq (tgt := 16) hx hb dX6_endless_2_4 dX6_endless_2_5 (by decide) (fun c2 => ?_) (fun c2 => ?_)
  · replace hjx1 := pf_t (P := PJx1) c2 hjx1
    refine lv_iconst (v := 1) hx hb dX6_endless_2_16 (by decide) ?_
    refine lv_goto (tgt := 21) hx hb dX6_endless_2_17 (by decide) ?_
    exact (hPJx1 _).1 hjx1 _ (lv_sub hl [] rfl)
  · replace hjx1 := pf_f (P := PJx1) c2 hjx1
    refine lv_dload_n hx hb dX6_endless_2_8 rfl (lv_at hl 0 rfl) ?_
    refine lv_ldc2d (v := 18442240474082181120) hx hb hown (hts _ q1390) dX6_endless_2_9 ?_
    refine lx_dlne (tgt := 20) hx hb dX6_endless_2_12 dX6_endless_2_13 (by decide) (fun c3 => ?_) (fun c3 => ?_)
    · replace hjx1 := pf_f (P := PJx1) c3 hjx1
      refine lv_iconst (v := 0) hx hb dX6_endless_2_20 (by decide) ?_
      exact (hPJx1 _).1 hjx1 _ (lv_sub hl [] rfl)
    · replace hjx1 := pf_t (P := PJx1) c3 hjx1
      refine lv_iconst (v := 1) hx hb dX6_endless_2_16 (by decide) ?_
      refine lv_goto (tgt := 21) hx hb dX6_endless_2_17 (by decide) ?_
      exact (hPJx1 _).1 hjx1 _ (lv_sub hl [] rfl)

def fX6_narrow (p0 : UInt64) : UInt32 := lt_ (if Deq p0 p0 then (FP.d2f p0) else 2143289344) (fun x1 : UInt32 => x1)
def oX6_narrow (p0 : UInt64) : Prop := ((Deq p0 p0) → (vf_n32 (FP.d2f p0))) ∧ (¬ (Deq p0 p0) → True)
set_option maxHeartbeats 4000000 in
set_option maxRecDepth 100000 in
theorem mX6_narrow (l : Launch) (D : va_G) (TY : Nat → ClassId) (p0 : UInt64) (post : UInt32 → Prop) (hw : post (fX6_narrow p0)) (hok : oX6_narrow p0) : Met l yX6_narrow (ws_ yX6_narrow cX6_narrow 2 (Option.some Jvm.ClassFile.FieldType.float)) ({ frames := 0, cells := 0, slots := 0, locals := 0 }) (PR D TY [.double p0] []) (vp_Sf post) 0 0 (fun _ => False) := by
  refine ofWF (cc := cX6_narrow) (maxL := 2) (ret := (Option.some Jvm.ClassFile.FieldType.float)) (plainFor_of_name (by decide)) rfl ?_
  intro p e s m args below meth c s₁ B hml hv
  obtain ⟨rfl, hP, hK, hG⟩ := hv
  have hx := B.exec
  have hb := B.bytes
  have hr := B.returns
  have hts0 := atoms_spec (ws := ws_ yX6_narrow cX6_narrow 2 (Option.some Jvm.ClassFile.FieldType.float)) B.pre
  have hts : ∀ w ∈ lw_all, w.before _ s = true := fun w h => hts0 w (List.mem_cons_of_mem _ h)
  have hown : s.vm.findClass RX6 = some m.cls := findClass_of_methodNamed B.named
  have hlocks := B.notSynchronized
  have hS : va_S (fun _ => False) s.heap s.heap [] := va_S.rf
  have hl := lv_entry ([.double p0]) (n := 2) (Nat.le_of_ble_eq_true rfl)
  rw [lg_entry_eq]
  generalize (lg_sl ([.double p0]) ++ List.replicate (2 - (lg_sl ([.double p0])).length) Slot.unset).toArray = ls at hl ⊢
  have hl : lv_has ls 2 [(0, .double p0)] := hl
  unfold fX6_narrow at hw
  unfold oX6_narrow at hok
  refine lv_dload_n hx hb dX6_narrow_0 rfl (lv_at hl 0 rfl) ?_
  refine lv_dload_n hx hb dX6_narrow_1 rfl (lv_at hl 0 rfl) ?_
  obtain ⟨PJx1, hPJx1⟩ : ∃ P : UInt32 → Prop, ∀ x1 : UInt32, P x1 ↔ ∀ ls : Array Slot, lv_has ls 2 [] → W p l e (headSpec (ws_ yX6_narrow cX6_narrow 2 (Option.some Jvm.ClassFile.FieldType.float)) ({ frames := 0, cells := 0, slots := 0, locals := 0 })).room s m ([.double p0] : List Value).toArray below meth c s.heap ([]) 0 0 (MQ below (vp_Sf post) ([.double p0] : List Value).toArray s 0 0 (fun _ => False)) (F0 m 13 ls [.float x1]) := ⟨_, fun _ => Iff.rfl⟩
  have hox1 := hok
  have hjx1 : ∀ x1 : UInt32, x1 = (if Deq p0 p0 then (FP.d2f p0) else 2143289344) → PJx1 x1 := by
    intro x1 ex1
    rw [hPJx1]
    intro ls hl
    replace hw := pf_let (P := post) hw x1 ex1
    exact W.fret (v := x1) hx hb hr (fun t ht hW => ⟨_, rfl, hw, ht⟩) (fun q h => nomatch h) dX6_narrow_13
  replace hjx1 := hjx1 _ rfl
  refine lx_dleq (tgt := 11) hx hb dX6_narrow_2 dX6_narrow_3 (by decide) (fun c2 => ?_) (fun c2 => ?_)
  · replace hjx1 := pf_t (P := PJx1) c2 hjx1
    replace hox1 := hox1.1 c2
    refine lv_dload_n hx hb dX6_narrow_11 rfl (lv_at hl 0 rfl) ?_
    refine lv_d2f hx hb dX6_narrow_12 hox1 ?_
    exact (hPJx1 _).1 hjx1 _ (lv_sub hl [] rfl)
  · replace hjx1 := pf_f (P := PJx1) c2 hjx1
    refine lv_ldcf (v := 2143289344) hx hb hown (hts _ q1365) dX6_narrow_6 ?_
    refine lv_goto (tgt := 13) hx hb dX6_narrow_8 (by decide) ?_
    exact (hPJx1 _).1 hjx1 _ (lv_sub hl [] rfl)

theorem hd_X6_endless : yX6_endless.cls ≠ "java/lang/invoke/MethodHandle" ∧ yX6_endless.cls ≠ "java/lang/invoke/VarHandle" ∧ (parseMethodDescriptor yX6_endless.desc).map (fun d => d.parameters.length) = some 1 := by decide +kernel
def fX6_sumOf (p0 : UInt32) (p1 : UInt32) : UInt32 := lt_ (if Feq p0 p0 then (if Feq p1 p1 then (if (fX6_endless p0) = 0 then (FP.fadd p0 p1) else (if (fX6_endless p1) = 0 then (FP.fadd p0 p1) else (if Feq p0 p1 then (FP.fadd p0 p1) else 2143289344))) else 2143289344) else 2143289344) (fun x1 : UInt32 => x1)
def oX6_sumOf (p0 : UInt32) (p1 : UInt32) : Prop := ((Feq p0 p0) → ((Feq p1 p1) → (((fX6_endless p0) = 0) → (vf_n32 (FP.fadd p0 p1))) ∧ (¬ ((fX6_endless p0) = 0) → (((fX6_endless p1) = 0) → (vf_n32 (FP.fadd p0 p1))) ∧ (¬ ((fX6_endless p1) = 0) → ((Feq p0 p1) → (vf_n32 (FP.fadd p0 p1))) ∧ (¬ (Feq p0 p1) → True)))) ∧ (¬ (Feq p1 p1) → True)) ∧ (¬ (Feq p0 p0) → True)
set_option maxHeartbeats 4000000 in
set_option maxRecDepth 100000 in
theorem mX6_sumOf (l : Launch) (D : va_G) (TY : Nat → ClassId) (p0 : UInt32) (p1 : UInt32) (post : UInt32 → Prop) (hw : post (fX6_sumOf p0 p1)) (hok : oX6_sumOf p0 p1) : Met l yX6_sumOf (ws_ yX6_sumOf cX6_sumOf 2 (Option.some Jvm.ClassFile.FieldType.float)) ({ frames := 1, cells := 0, slots := 0, locals := 20 }) (PR D TY [.float p0, .float p1] []) (vp_Sf post) 0 0 (fun _ => False) := by
  refine ofWF (cc := cX6_sumOf) (maxL := 2) (ret := (Option.some Jvm.ClassFile.FieldType.float)) (plainFor_of_name (by decide)) rfl ?_
  intro p e s m args below meth c s₁ B hml hv
  obtain ⟨rfl, hP, hK, hG⟩ := hv
  have hx := B.exec
  have hb := B.bytes
  have hr := B.returns
  have hts0 := atoms_spec (ws := ws_ yX6_sumOf cX6_sumOf 2 (Option.some Jvm.ClassFile.FieldType.float)) B.pre
  have hts : ∀ w ∈ lw_all, w.before _ s = true := fun w h => hts0 w (List.mem_cons_of_mem _ h)
  have hown : s.vm.findClass RX6 = some m.cls := findClass_of_methodNamed B.named
  have hlocks := B.notSynchronized
  have hS : va_S (fun _ => False) s.heap s.heap [] := va_S.rf
  have hl := lv_entry ([.float p0, .float p1]) (n := 2) (Nat.le_of_ble_eq_true rfl)
  rw [lg_entry_eq]
  generalize (lg_sl ([.float p0, .float p1]) ++ List.replicate (2 - (lg_sl ([.float p0, .float p1])).length) Slot.unset).toArray = ls at hl ⊢
  have hl : lv_has ls 2 [(0, .float p0), (1, .float p1)] := hl
  unfold fX6_sumOf at hw
  unfold oX6_sumOf at hok
  refine lv_fload_n hx hb dX6_sumOf_0 rfl (lv_at hl 0 rfl) ?_
  refine lv_fload_n hx hb dX6_sumOf_1 rfl (lv_at hl 0 rfl) ?_
  obtain ⟨PJx1, hPJx1⟩ : ∃ P : UInt32 → Prop, ∀ x1 : UInt32, P x1 ↔ ∀ ls : Array Slot, lv_has ls 2 [] → W p l e (headSpec (ws_ yX6_sumOf cX6_sumOf 2 (Option.some Jvm.ClassFile.FieldType.float)) ({ frames := 1, cells := 0, slots := 0, locals := 20 })).room s m ([.float p0, .float p1] : List Value).toArray below meth c s.heap ([]) 0 0 (MQ below (vp_Sf post) ([.float p0, .float p1] : List Value).toArray s 0 0 (fun _ => False)) (F0 m 40 ls [.float x1]) := ⟨_, fun _ => Iff.rfl⟩
  have hox1 := hok
  have hjx1 : ∀ x1 : UInt32, x1 = (if Feq p0 p0 then (if Feq p1 p1 then (if (fX6_endless p0) = 0 then (FP.fadd p0 p1) else (if (fX6_endless p1) = 0 then (FP.fadd p0 p1) else (if Feq p0 p1 then (FP.fadd p0 p1) else 2143289344))) else 2143289344) else 2143289344) → PJx1 x1 := by
    intro x1 ex1
    rw [hPJx1]
    intro ls hl
    replace hw := pf_let (P := post) hw x1 ex1
    exact W.fret (v := x1) hx hb hr (fun t ht hW => ⟨_, rfl, hw, ht⟩) (fun q h => nomatch h) dX6_sumOf_40
  replace hjx1 := hjx1 _ rfl
  refine lx_flne (tgt := 32) hx hb dX6_sumOf_2 dX6_sumOf_3 (by decide) (fun c2 => ?_) (fun c2 => ?_)
  · replace hjx1 := pf_f (P := PJx1) c2 hjx1
    refine lv_ldcf (v := 2143289344) hx hb hown (hts _ q1365) dX6_sumOf_32 ?_
    refine lv_goto (tgt := 40) hx hb dX6_sumOf_34 (by decide) ?_
    exact (hPJx1 _).1 hjx1 _ (lv_sub hl [] rfl)
  · replace hjx1 := pf_t (P := PJx1) c2 hjx1
    replace hox1 := hox1.1 c2
    refine lv_fload_n hx hb dX6_sumOf_6 rfl (lv_at hl 1 rfl) ?_
    refine lv_fload_n hx hb dX6_sumOf_7 rfl (lv_at hl 1 rfl) ?_
    refine lx_flne (tgt := 32) hx hb dX6_sumOf_8 dX6_sumOf_9 (by decide) (fun c3 => ?_) (fun c3 => ?_)
    · replace hjx1 := pf_f (P := PJx1) c3 hjx1
      refine lv_ldcf (v := 2143289344) hx hb hown (hts _ q1365) dX6_sumOf_32 ?_
      refine lv_goto (tgt := 40) hx hb dX6_sumOf_34 (by decide) ?_
      exact (hPJx1 _).1 hjx1 _ (lv_sub hl [] rfl)
    · replace hjx1 := pf_t (P := PJx1) c3 hjx1
      replace hox1 := hox1.1 c3
      refine lv_fload_n hx hb dX6_sumOf_12 rfl (lv_at hl 0 rfl) ?_
      refine cSi (v := fX6_endless p0) (W.runS (As := [.float p0]) (rest := []) ⟨hx, hb, hml, hown, hts⟩ (mX6_endless l D TY p0 (fun r => r = fX6_endless p0) rfl) (va_cwS 1 hts (lw_S q1370 q1371 q50 q1372) rfl rfl rfl hd_X6_endless ⟨Nat.le_of_ble_eq_true rfl, Nat.le_of_ble_eq_true rfl⟩) (PR.S hP [] rfl hK hG hS) rfl rfl hl.1 rfl (lv_room (Nat.le_of_ble_eq_true rfl)) dX6_sumOf_13 ⟨Nat.le_of_ble_eq_true rfl, Nat.le_of_ble_eq_true rfl⟩) ?_
      refine lv_if_eq (tgt := 37) hx hb dX6_sumOf_16 (by decide) (fun c4 => ?_) (fun c4 => ?_)
      · replace hjx1 := pf_t (P := PJx1) c4 hjx1
        replace hox1 := hox1.1 c4
        refine lv_fload_n hx hb dX6_sumOf_37 rfl (lv_at hl 0 rfl) ?_
        refine lv_fload_n hx hb dX6_sumOf_38 rfl (lv_at hl 1 rfl) ?_
        refine lv_fadd hx hb dX6_sumOf_39 hox1 ?_
        exact (hPJx1 _).1 hjx1 _ (lv_sub hl [] rfl)
      · replace hjx1 := pf_f (P := PJx1) c4 hjx1
        replace hox1 := hox1.2 c4
        refine lv_fload_n hx hb dX6_sumOf_19 rfl (lv_at hl 1 rfl) ?_
        refine cSi (v := fX6_endless p1) (W.runS (As := [.float p1]) (rest := []) ⟨hx, hb, hml, hown, hts⟩ (mX6_endless l D TY p1 (fun r => r = fX6_endless p1) rfl) (va_cwS 1 hts (lw_S q1370 q1371 q50 q1372) rfl rfl rfl hd_X6_endless ⟨Nat.le_of_ble_eq_true rfl, Nat.le_of_ble_eq_true rfl⟩) (PR.S hP [] rfl hK hG hS) rfl rfl hl.1 rfl (lv_room (Nat.le_of_ble_eq_true rfl)) dX6_sumOf_20 ⟨Nat.le_of_ble_eq_true rfl, Nat.le_of_ble_eq_true rfl⟩) ?_
        refine lv_if_eq (tgt := 37) hx hb dX6_sumOf_23 (by decide) (fun c5 => ?_) (fun c5 => ?_)
        · replace hjx1 := pf_t (P := PJx1) c5 hjx1
          replace hox1 := hox1.1 c5
          refine lv_fload_n hx hb dX6_sumOf_37 rfl (lv_at hl 0 rfl) ?_
          refine lv_fload_n hx hb dX6_sumOf_38 rfl (lv_at hl 1 rfl) ?_
          refine lv_fadd hx hb dX6_sumOf_39 hox1 ?_
          exact (hPJx1 _).1 hjx1 _ (lv_sub hl [] rfl)
        · replace hjx1 := pf_f (P := PJx1) c5 hjx1
          replace hox1 := hox1.2 c5
          refine lv_fload_n hx hb dX6_sumOf_26 rfl (lv_at hl 0 rfl) ?_
          refine lv_fload_n hx hb dX6_sumOf_27 rfl (lv_at hl 1 rfl) ?_
          refine lx_fleq (tgt := 37) hx hb dX6_sumOf_28 dX6_sumOf_29 (by decide) (fun c6 => ?_) (fun c6 => ?_)
          · replace hjx1 := pf_t (P := PJx1) c6 hjx1
            replace hox1 := hox1.1 c6
            refine lv_fload_n hx hb dX6_sumOf_37 rfl (lv_at hl 0 rfl) ?_
            refine lv_fload_n hx hb dX6_sumOf_38 rfl (lv_at hl 1 rfl) ?_
            refine lv_fadd hx hb dX6_sumOf_39 hox1 ?_
            exact (hPJx1 _).1 hjx1 _ (lv_sub hl [] rfl)
          · replace hjx1 := pf_f (P := PJx1) c6 hjx1
            refine lv_ldcf (v := 2143289344) hx hb hown (hts _ q1365) dX6_sumOf_32 ?_
            refine lv_goto (tgt := 40) hx hb dX6_sumOf_34 (by decide) ?_
            exact (hPJx1 _).1 hjx1 _ (lv_sub hl [] rfl)

def fX6_differenceOf (p0 : UInt32) (p1 : UInt32) : UInt32 := lt_ (if Feq p0 p0 then (if Feq p1 p1 then (if (fX6_endless p0) = 0 then (FP.fsub p0 p1) else (if Feq p0 p1 then 2143289344 else (FP.fsub p0 p1))) else 2143289344) else 2143289344) (fun x1 : UInt32 => x1)
def oX6_differenceOf (p0 : UInt32) (p1 : UInt32) : Prop := ((Feq p0 p0) → ((Feq p1 p1) → (((fX6_endless p0) = 0) → (vf_n32 (FP.fsub p0 p1))) ∧ (¬ ((fX6_endless p0) = 0) → ((Feq p0 p1) → True) ∧ (¬ (Feq p0 p1) → (vf_n32 (FP.fsub p0 p1))))) ∧ (¬ (Feq p1 p1) → True)) ∧ (¬ (Feq p0 p0) → True)
set_option maxHeartbeats 4000000 in
set_option maxRecDepth 100000 in
theorem mX6_differenceOf (l : Launch) (D : va_G) (TY : Nat → ClassId) (p0 : UInt32) (p1 : UInt32) (post : UInt32 → Prop) (hw : post (fX6_differenceOf p0 p1)) (hok : oX6_differenceOf p0 p1) : Met l yX6_differenceOf (ws_ yX6_differenceOf cX6_differenceOf 2 (Option.some Jvm.ClassFile.FieldType.float)) ({ frames := 1, cells := 0, slots := 0, locals := 20 }) (PR D TY [.float p0, .float p1] []) (vp_Sf post) 0 0 (fun _ => False) := by
  refine ofWF (cc := cX6_differenceOf) (maxL := 2) (ret := (Option.some Jvm.ClassFile.FieldType.float)) (plainFor_of_name (by decide)) rfl ?_
  intro p e s m args below meth c s₁ B hml hv
  obtain ⟨rfl, hP, hK, hG⟩ := hv
  have hx := B.exec
  have hb := B.bytes
  have hr := B.returns
  have hts0 := atoms_spec (ws := ws_ yX6_differenceOf cX6_differenceOf 2 (Option.some Jvm.ClassFile.FieldType.float)) B.pre
  have hts : ∀ w ∈ lw_all, w.before _ s = true := fun w h => hts0 w (List.mem_cons_of_mem _ h)
  have hown : s.vm.findClass RX6 = some m.cls := findClass_of_methodNamed B.named
  have hlocks := B.notSynchronized
  have hS : va_S (fun _ => False) s.heap s.heap [] := va_S.rf
  have hl := lv_entry ([.float p0, .float p1]) (n := 2) (Nat.le_of_ble_eq_true rfl)
  rw [lg_entry_eq]
  generalize (lg_sl ([.float p0, .float p1]) ++ List.replicate (2 - (lg_sl ([.float p0, .float p1])).length) Slot.unset).toArray = ls at hl ⊢
  have hl : lv_has ls 2 [(0, .float p0), (1, .float p1)] := hl
  unfold fX6_differenceOf at hw
  unfold oX6_differenceOf at hok
  refine lv_fload_n hx hb dX6_differenceOf_0 rfl (lv_at hl 0 rfl) ?_
  refine lv_fload_n hx hb dX6_differenceOf_1 rfl (lv_at hl 0 rfl) ?_
  obtain ⟨PJx1, hPJx1⟩ : ∃ P : UInt32 → Prop, ∀ x1 : UInt32, P x1 ↔ ∀ ls : Array Slot, lv_has ls 2 [] → W p l e (headSpec (ws_ yX6_differenceOf cX6_differenceOf 2 (Option.some Jvm.ClassFile.FieldType.float)) ({ frames := 1, cells := 0, slots := 0, locals := 20 })).room s m ([.float p0, .float p1] : List Value).toArray below meth c s.heap ([]) 0 0 (MQ below (vp_Sf post) ([.float p0, .float p1] : List Value).toArray s 0 0 (fun _ => False)) (F0 m 33 ls [.float x1]) := ⟨_, fun _ => Iff.rfl⟩
  have hox1 := hok
  have hjx1 : ∀ x1 : UInt32, x1 = (if Feq p0 p0 then (if Feq p1 p1 then (if (fX6_endless p0) = 0 then (FP.fsub p0 p1) else (if Feq p0 p1 then 2143289344 else (FP.fsub p0 p1))) else 2143289344) else 2143289344) → PJx1 x1 := by
    intro x1 ex1
    rw [hPJx1]
    intro ls hl
    replace hw := pf_let (P := post) hw x1 ex1
    exact W.fret (v := x1) hx hb hr (fun t ht hW => ⟨_, rfl, hw, ht⟩) (fun q h => nomatch h) dX6_differenceOf_33
  replace hjx1 := hjx1 _ rfl
  refine lx_flne (tgt := 25) hx hb dX6_differenceOf_2 dX6_differenceOf_3 (by decide) (fun c2 => ?_) (fun c2 => ?_)
  · replace hjx1 := pf_f (P := PJx1) c2 hjx1
    refine lv_ldcf (v := 2143289344) hx hb hown (hts _ q1365) dX6_differenceOf_25 ?_
    refine lv_goto (tgt := 33) hx hb dX6_differenceOf_27 (by decide) ?_
    exact (hPJx1 _).1 hjx1 _ (lv_sub hl [] rfl)
  · replace hjx1 := pf_t (P := PJx1) c2 hjx1
    replace hox1 := hox1.1 c2
    refine lv_fload_n hx hb dX6_differenceOf_6 rfl (lv_at hl 1 rfl) ?_
    refine lv_fload_n hx hb dX6_differenceOf_7 rfl (lv_at hl 1 rfl) ?_
    refine lx_flne (tgt := 25) hx hb dX6_differenceOf_8 dX6_differenceOf_9 (by decide) (fun c3 => ?_) (fun c3 => ?_)
    · replace hjx1 := pf_f (P := PJx1) c3 hjx1
      refine lv_ldcf (v := 2143289344) hx hb hown (hts _ q1365) dX6_differenceOf_25 ?_
      refine lv_goto (tgt := 33) hx hb dX6_differenceOf_27 (by decide) ?_
      exact (hPJx1 _).1 hjx1 _ (lv_sub hl [] rfl)
    · replace hjx1 := pf_t (P := PJx1) c3 hjx1
      replace hox1 := hox1.1 c3
      refine lv_fload_n hx hb dX6_differenceOf_12 rfl (lv_at hl 0 rfl) ?_
      refine cSi (v := fX6_endless p0) (W.runS (As := [.float p0]) (rest := []) ⟨hx, hb, hml, hown, hts⟩ (mX6_endless l D TY p0 (fun r => r = fX6_endless p0) rfl) (va_cwS 1 hts (lw_S q1370 q1371 q50 q1372) rfl rfl rfl hd_X6_endless ⟨Nat.le_of_ble_eq_true rfl, Nat.le_of_ble_eq_true rfl⟩) (PR.S hP [] rfl hK hG hS) rfl rfl hl.1 rfl (lv_room (Nat.le_of_ble_eq_true rfl)) dX6_differenceOf_13 ⟨Nat.le_of_ble_eq_true rfl, Nat.le_of_ble_eq_true rfl⟩) ?_
      refine lv_if_eq (tgt := 30) hx hb dX6_differenceOf_16 (by decide) (fun c4 => ?_) (fun c4 => ?_)
      · replace hjx1 := pf_t (P := PJx1) c4 hjx1
        replace hox1 := hox1.1 c4
        refine lv_fload_n hx hb dX6_differenceOf_30 rfl (lv_at hl 0 rfl) ?_
        refine lv_fload_n hx hb dX6_differenceOf_31 rfl (lv_at hl 1 rfl) ?_
        refine lv_fsub hx hb dX6_differenceOf_32 hox1 ?_
        exact (hPJx1 _).1 hjx1 _ (lv_sub hl [] rfl)
      · replace hjx1 := pf_f (P := PJx1) c4 hjx1
        replace hox1 := hox1.2 c4
        refine lv_fload_n hx hb dX6_differenceOf_19 rfl (lv_at hl 0 rfl) ?_
        refine lv_fload_n hx hb dX6_differenceOf_20 rfl (lv_at hl 1 rfl) ?_
        refine lx_flne (tgt := 30) hx hb dX6_differenceOf_21 dX6_differenceOf_22 (by decide) (fun c5 => ?_) (fun c5 => ?_)
        · replace hjx1 := pf_f (P := PJx1) c5 hjx1
          replace hox1 := hox1.2 c5
          refine lv_fload_n hx hb dX6_differenceOf_30 rfl (lv_at hl 0 rfl) ?_
          refine lv_fload_n hx hb dX6_differenceOf_31 rfl (lv_at hl 1 rfl) ?_
          refine lv_fsub hx hb dX6_differenceOf_32 hox1 ?_
          exact (hPJx1 _).1 hjx1 _ (lv_sub hl [] rfl)
        · replace hjx1 := pf_t (P := PJx1) c5 hjx1
          refine lv_ldcf (v := 2143289344) hx hb hown (hts _ q1365) dX6_differenceOf_25 ?_
          refine lv_goto (tgt := 33) hx hb dX6_differenceOf_27 (by decide) ?_
          exact (hPJx1 _).1 hjx1 _ (lv_sub hl [] rfl)

def fX6_productOf (p0 : UInt32) (p1 : UInt32) : UInt32 := lt_ (if Feq p0 p0 then (if Feq p1 p1 then (if Feq p0 FP.fconst0 then (if (fX6_endless p1) = 0 then (if (fX6_endless p0) = 0 then (FP.fmul p0 p1) else (if Feq p1 FP.fconst0 then 2143289344 else (FP.fmul p0 p1))) else 2143289344) else (if (fX6_endless p0) = 0 then (FP.fmul p0 p1) else (if Feq p1 FP.fconst0 then 2143289344 else (FP.fmul p0 p1)))) else 2143289344) else 2143289344) (fun x1 : UInt32 => x1)
def oX6_productOf (p0 : UInt32) (p1 : UInt32) : Prop := ((Feq p0 p0) → ((Feq p1 p1) → ((Feq p0 FP.fconst0) → (((fX6_endless p1) = 0) → (((fX6_endless p0) = 0) → (vf_n32 (FP.fmul p0 p1))) ∧ (¬ ((fX6_endless p0) = 0) → ((Feq p1 FP.fconst0) → True) ∧ (¬ (Feq p1 FP.fconst0) → (vf_n32 (FP.fmul p0 p1))))) ∧ (¬ ((fX6_endless p1) = 0) → True)) ∧ (¬ (Feq p0 FP.fconst0) → (((fX6_endless p0) = 0) → (vf_n32 (FP.fmul p0 p1))) ∧ (¬ ((fX6_endless p0) = 0) → ((Feq p1 FP.fconst0) → True) ∧ (¬ (Feq p1 FP.fconst0) → (vf_n32 (FP.fmul p0 p1)))))) ∧ (¬ (Feq p1 p1) → True)) ∧ (¬ (Feq p0 p0) → True)
set_option maxHeartbeats 4000000 in
set_option maxRecDepth 100000 in
theorem mX6_productOf (l : Launch) (D : va_G) (TY : Nat → ClassId) (p0 : UInt32) (p1 : UInt32) (post : UInt32 → Prop) (hw : post (fX6_productOf p0 p1)) (hok : oX6_productOf p0 p1) : Met l yX6_productOf (ws_ yX6_productOf cX6_productOf 2 (Option.some Jvm.ClassFile.FieldType.float)) ({ frames := 1, cells := 0, slots := 0, locals := 20 }) (PR D TY [.float p0, .float p1] []) (vp_Sf post) 0 0 (fun _ => False) := by
  refine ofWF (cc := cX6_productOf) (maxL := 2) (ret := (Option.some Jvm.ClassFile.FieldType.float)) (plainFor_of_name (by decide)) rfl ?_
  intro p e s m args below meth c s₁ B hml hv
  obtain ⟨rfl, hP, hK, hG⟩ := hv
  have hx := B.exec
  have hb := B.bytes
  have hr := B.returns
  have hts0 := atoms_spec (ws := ws_ yX6_productOf cX6_productOf 2 (Option.some Jvm.ClassFile.FieldType.float)) B.pre
  have hts : ∀ w ∈ lw_all, w.before _ s = true := fun w h => hts0 w (List.mem_cons_of_mem _ h)
  have hown : s.vm.findClass RX6 = some m.cls := findClass_of_methodNamed B.named
  have hlocks := B.notSynchronized
  have hS : va_S (fun _ => False) s.heap s.heap [] := va_S.rf
  have hl := lv_entry ([.float p0, .float p1]) (n := 2) (Nat.le_of_ble_eq_true rfl)
  rw [lg_entry_eq]
  generalize (lg_sl ([.float p0, .float p1]) ++ List.replicate (2 - (lg_sl ([.float p0, .float p1])).length) Slot.unset).toArray = ls at hl ⊢
  have hl : lv_has ls 2 [(0, .float p0), (1, .float p1)] := hl
  unfold fX6_productOf at hw
  unfold oX6_productOf at hok
  refine lv_fload_n hx hb dX6_productOf_0 rfl (lv_at hl 0 rfl) ?_
  refine lv_fload_n hx hb dX6_productOf_1 rfl (lv_at hl 0 rfl) ?_
  obtain ⟨PJx1, hPJx1⟩ : ∃ P : UInt32 → Prop, ∀ x1 : UInt32, P x1 ↔ ∀ ls : Array Slot, lv_has ls 2 [] → W p l e (headSpec (ws_ yX6_productOf cX6_productOf 2 (Option.some Jvm.ClassFile.FieldType.float)) ({ frames := 1, cells := 0, slots := 0, locals := 20 })).room s m ([.float p0, .float p1] : List Value).toArray below meth c s.heap ([]) 0 0 (MQ below (vp_Sf post) ([.float p0, .float p1] : List Value).toArray s 0 0 (fun _ => False)) (F0 m 46 ls [.float x1]) := ⟨_, fun _ => Iff.rfl⟩
  have hox1 := hok
  have hjx1 : ∀ x1 : UInt32, x1 = (if Feq p0 p0 then (if Feq p1 p1 then (if Feq p0 FP.fconst0 then (if (fX6_endless p1) = 0 then (if (fX6_endless p0) = 0 then (FP.fmul p0 p1) else (if Feq p1 FP.fconst0 then 2143289344 else (FP.fmul p0 p1))) else 2143289344) else (if (fX6_endless p0) = 0 then (FP.fmul p0 p1) else (if Feq p1 FP.fconst0 then 2143289344 else (FP.fmul p0 p1)))) else 2143289344) else 2143289344) → PJx1 x1 := by
    intro x1 ex1
    rw [hPJx1]
    intro ls hl
    replace hw := pf_let (P := post) hw x1 ex1
    exact W.fret (v := x1) hx hb hr (fun t ht hW => ⟨_, rfl, hw, ht⟩) (fun q h => nomatch h) dX6_productOf_46
  replace hjx1 := hjx1 _ rfl
  refine lx_flne (tgt := 38) hx hb dX6_productOf_2 dX6_productOf_3 (by decide) (fun c2 => ?_) (fun c2 => ?_)
  · replace hjx1 := pf_f (P := PJx1) c2 hjx1
    refine lv_ldcf (v := 2143289344) hx hb hown (hts _ q1365) dX6_productOf_38 ?_
    refine lv_goto (tgt := 46) hx hb dX6_productOf_40 (by decide) ?_
    exact (hPJx1 _).1 hjx1 _ (lv_sub hl [] rfl)
  · replace hjx1 := pf_t (P := PJx1) c2 hjx1
    replace hox1 := hox1.1 c2
    refine lv_fload_n hx hb dX6_productOf_6 rfl (lv_at hl 1 rfl) ?_
    refine lv_fload_n hx hb dX6_productOf_7 rfl (lv_at hl 1 rfl) ?_
    refine lx_flne (tgt := 38) hx hb dX6_productOf_8 dX6_productOf_9 (by decide) (fun c3 => ?_) (fun c3 => ?_)
    · replace hjx1 := pf_f (P := PJx1) c3 hjx1
      refine lv_ldcf (v := 2143289344) hx hb hown (hts _ q1365) dX6_productOf_38 ?_
      refine lv_goto (tgt := 46) hx hb dX6_productOf_40 (by decide) ?_
      exact (hPJx1 _).1 hjx1 _ (lv_sub hl [] rfl)
    · replace hjx1 := pf_t (P := PJx1) c3 hjx1
      replace hox1 := hox1.1 c3
      refine lv_fload_n hx hb dX6_productOf_12 rfl (lv_at hl 0 rfl) ?_
      refine lv_fconst0 hx hb dX6_productOf_13 ?_
      refine lx_flne (tgt := 25) hx hb dX6_productOf_14 dX6_productOf_15 (by decide) (fun c4 => ?_) (fun c4 => ?_)
      · replace hjx1 := pf_f (P := PJx1) c4 hjx1
        replace hox1 := hox1.2 c4
        refine lv_fload_n hx hb dX6_productOf_25 rfl (lv_at hl 0 rfl) ?_
        refine cSi (v := fX6_endless p0) (W.runS (As := [.float p0]) (rest := []) ⟨hx, hb, hml, hown, hts⟩ (mX6_endless l D TY p0 (fun r => r = fX6_endless p0) rfl) (va_cwS 1 hts (lw_S q1370 q1371 q50 q1372) rfl rfl rfl hd_X6_endless ⟨Nat.le_of_ble_eq_true rfl, Nat.le_of_ble_eq_true rfl⟩) (PR.S hP [] rfl hK hG hS) rfl rfl hl.1 rfl (lv_room (Nat.le_of_ble_eq_true rfl)) dX6_productOf_26 ⟨Nat.le_of_ble_eq_true rfl, Nat.le_of_ble_eq_true rfl⟩) ?_
        refine lv_if_eq (tgt := 43) hx hb dX6_productOf_29 (by decide) (fun c5 => ?_) (fun c5 => ?_)
        · replace hjx1 := pf_t (P := PJx1) c5 hjx1
          replace hox1 := hox1.1 c5
          refine lv_fload_n hx hb dX6_productOf_43 rfl (lv_at hl 0 rfl) ?_
          refine lv_fload_n hx hb dX6_productOf_44 rfl (lv_at hl 1 rfl) ?_
          refine lv_fmul hx hb dX6_productOf_45 hox1 ?_
          exact (hPJx1 _).1 hjx1 _ (lv_sub hl [] rfl)
        · replace hjx1 := pf_f (P := PJx1) c5 hjx1
          replace hox1 := hox1.2 c5
          refine lv_fload_n hx hb dX6_productOf_32 rfl (lv_at hl 1 rfl) ?_
          refine lv_fconst0 hx hb dX6_productOf_33 ?_
          refine lx_flne (tgt := 43) hx hb dX6_productOf_34 dX6_productOf_35 (by decide) (fun c6 => ?_) (fun c6 => ?_)
          · replace hjx1 := pf_f (P := PJx1) c6 hjx1
            replace hox1 := hox1.2 c6
            refine lv_fload_n hx hb dX6_productOf_43 rfl (lv_at hl 0 rfl) ?_
            refine lv_fload_n hx hb dX6_productOf_44 rfl (lv_at hl 1 rfl) ?_
            refine lv_fmul hx hb dX6_productOf_45 hox1 ?_
            exact (hPJx1 _).1 hjx1 _ (lv_sub hl [] rfl)
          · replace hjx1 := pf_t (P := PJx1) c6 hjx1
            refine lv_ldcf (v := 2143289344) hx hb hown (hts _ q1365) dX6_productOf_38 ?_
            refine lv_goto (tgt := 46) hx hb dX6_productOf_40 (by decide) ?_
            exact (hPJx1 _).1 hjx1 _ (lv_sub hl [] rfl)
      · replace hjx1 := pf_t (P := PJx1) c4 hjx1
        replace hox1 := hox1.1 c4
        refine lv_fload_n hx hb dX6_productOf_18 rfl (lv_at hl 1 rfl) ?_
        refine cSi (v := fX6_endless p1) (W.runS (As := [.float p1]) (rest := []) ⟨hx, hb, hml, hown, hts⟩ (mX6_endless l D TY p1 (fun r => r = fX6_endless p1) rfl) (va_cwS 1 hts (lw_S q1370 q1371 q50 q1372) rfl rfl rfl hd_X6_endless ⟨Nat.le_of_ble_eq_true rfl, Nat.le_of_ble_eq_true rfl⟩) (PR.S hP [] rfl hK hG hS) rfl rfl hl.1 rfl (lv_room (Nat.le_of_ble_eq_true rfl)) dX6_productOf_19 ⟨Nat.le_of_ble_eq_true rfl, Nat.le_of_ble_eq_true rfl⟩) ?_
        refine lv_if_ne (tgt := 38) hx hb dX6_productOf_22 (by decide) (fun c7 => ?_) (fun c7 => ?_)
        · replace hjx1 := pf_f (P := PJx1) c7 hjx1
          refine lv_ldcf (v := 2143289344) hx hb hown (hts _ q1365) dX6_productOf_38 ?_
          refine lv_goto (tgt := 46) hx hb dX6_productOf_40 (by decide) ?_
          exact (hPJx1 _).1 hjx1 _ (lv_sub hl [] rfl)
        · replace hjx1 := pf_t (P := PJx1) c7 hjx1
          replace hox1 := hox1.1 c7
          refine lv_fload_n hx hb dX6_productOf_25 rfl (lv_at hl 0 rfl) ?_
          refine cSi (v := fX6_endless p0) (W.runS (As := [.float p0]) (rest := []) ⟨hx, hb, hml, hown, hts⟩ (mX6_endless l D TY p0 (fun r => r = fX6_endless p0) rfl) (va_cwS 1 hts (lw_S q1370 q1371 q50 q1372) rfl rfl rfl hd_X6_endless ⟨Nat.le_of_ble_eq_true rfl, Nat.le_of_ble_eq_true rfl⟩) (PR.S hP [] rfl hK hG hS) rfl rfl hl.1 rfl (lv_room (Nat.le_of_ble_eq_true rfl)) dX6_productOf_26 ⟨Nat.le_of_ble_eq_true rfl, Nat.le_of_ble_eq_true rfl⟩) ?_
          refine lv_if_eq (tgt := 43) hx hb dX6_productOf_29 (by decide) (fun c8 => ?_) (fun c8 => ?_)
          · replace hjx1 := pf_t (P := PJx1) c8 hjx1
            replace hox1 := hox1.1 c8
            refine lv_fload_n hx hb dX6_productOf_43 rfl (lv_at hl 0 rfl) ?_
            refine lv_fload_n hx hb dX6_productOf_44 rfl (lv_at hl 1 rfl) ?_
            refine lv_fmul hx hb dX6_productOf_45 hox1 ?_
            exact (hPJx1 _).1 hjx1 _ (lv_sub hl [] rfl)
          · replace hjx1 := pf_f (P := PJx1) c8 hjx1
            replace hox1 := hox1.2 c8
            refine lv_fload_n hx hb dX6_productOf_32 rfl (lv_at hl 1 rfl) ?_
            refine lv_fconst0 hx hb dX6_productOf_33 ?_
            refine lx_flne (tgt := 43) hx hb dX6_productOf_34 dX6_productOf_35 (by decide) (fun c9 => ?_) (fun c9 => ?_)
            · replace hjx1 := pf_f (P := PJx1) c9 hjx1
              replace hox1 := hox1.2 c9
              refine lv_fload_n hx hb dX6_productOf_43 rfl (lv_at hl 0 rfl) ?_
              refine lv_fload_n hx hb dX6_productOf_44 rfl (lv_at hl 1 rfl) ?_
              refine lv_fmul hx hb dX6_productOf_45 hox1 ?_
              exact (hPJx1 _).1 hjx1 _ (lv_sub hl [] rfl)
            · replace hjx1 := pf_t (P := PJx1) c9 hjx1
              refine lv_ldcf (v := 2143289344) hx hb hown (hts _ q1365) dX6_productOf_38 ?_
              refine lv_goto (tgt := 46) hx hb dX6_productOf_40 (by decide) ?_
              exact (hPJx1 _).1 hjx1 _ (lv_sub hl [] rfl)

def fX6_quotientOf (p0 : UInt32) (p1 : UInt32) : UInt32 := lt_ (if Feq p0 p0 then (if Feq p1 p1 then (if Feq p0 FP.fconst0 then (if Feq p1 FP.fconst0 then 2143289344 else (if (fX6_endless p0) = 0 then (FP.fdiv p0 p1) else (if (fX6_endless p1) = 0 then (FP.fdiv p0 p1) else 2143289344))) else (if (fX6_endless p0) = 0 then (FP.fdiv p0 p1) else (if (fX6_endless p1) = 0 then (FP.fdiv p0 p1) else 2143289344))) else 2143289344) else 2143289344) (fun x1 : UInt32 => x1)
def oX6_quotientOf (p0 : UInt32) (p1 : UInt32) : Prop := ((Feq p0 p0) → ((Feq p1 p1) → ((Feq p0 FP.fconst0) → ((Feq p1 FP.fconst0) → True) ∧ (¬ (Feq p1 FP.fconst0) → (((fX6_endless p0) = 0) → (vf_n32 (FP.fdiv p0 p1))) ∧ (¬ ((fX6_endless p0) = 0) → (((fX6_endless p1) = 0) → (vf_n32 (FP.fdiv p0 p1))) ∧ (¬ ((fX6_endless p1) = 0) → True)))) ∧ (¬ (Feq p0 FP.fconst0) → (((fX6_endless p0) = 0) → (vf_n32 (FP.fdiv p0 p1))) ∧ (¬ ((fX6_endless p0) = 0) → (((fX6_endless p1) = 0) → (vf_n32 (FP.fdiv p0 p1))) ∧ (¬ ((fX6_endless p1) = 0) → True)))) ∧ (¬ (Feq p1 p1) → True)) ∧ (¬ (Feq p0 p0) → True)
set_option maxHeartbeats 4000000 in
set_option maxRecDepth 100000 in
theorem mX6_quotientOf (l : Launch) (D : va_G) (TY : Nat → ClassId) (p0 : UInt32) (p1 : UInt32) (post : UInt32 → Prop) (hw : post (fX6_quotientOf p0 p1)) (hok : oX6_quotientOf p0 p1) : Met l yX6_quotientOf (ws_ yX6_quotientOf cX6_quotientOf 2 (Option.some Jvm.ClassFile.FieldType.float)) ({ frames := 1, cells := 0, slots := 0, locals := 20 }) (PR D TY [.float p0, .float p1] []) (vp_Sf post) 0 0 (fun _ => False) := by
  refine ofWF (cc := cX6_quotientOf) (maxL := 2) (ret := (Option.some Jvm.ClassFile.FieldType.float)) (plainFor_of_name (by decide)) rfl ?_
  intro p e s m args below meth c s₁ B hml hv
  obtain ⟨rfl, hP, hK, hG⟩ := hv
  have hx := B.exec
  have hb := B.bytes
  have hr := B.returns
  have hts0 := atoms_spec (ws := ws_ yX6_quotientOf cX6_quotientOf 2 (Option.some Jvm.ClassFile.FieldType.float)) B.pre
  have hts : ∀ w ∈ lw_all, w.before _ s = true := fun w h => hts0 w (List.mem_cons_of_mem _ h)
  have hown : s.vm.findClass RX6 = some m.cls := findClass_of_methodNamed B.named
  have hlocks := B.notSynchronized
  have hS : va_S (fun _ => False) s.heap s.heap [] := va_S.rf
  have hl := lv_entry ([.float p0, .float p1]) (n := 2) (Nat.le_of_ble_eq_true rfl)
  rw [lg_entry_eq]
  generalize (lg_sl ([.float p0, .float p1]) ++ List.replicate (2 - (lg_sl ([.float p0, .float p1])).length) Slot.unset).toArray = ls at hl ⊢
  have hl : lv_has ls 2 [(0, .float p0), (1, .float p1)] := hl
  unfold fX6_quotientOf at hw
  unfold oX6_quotientOf at hok
  refine lv_fload_n hx hb dX6_quotientOf_0 rfl (lv_at hl 0 rfl) ?_
  refine lv_fload_n hx hb dX6_quotientOf_1 rfl (lv_at hl 0 rfl) ?_
  obtain ⟨PJx1, hPJx1⟩ : ∃ P : UInt32 → Prop, ∀ x1 : UInt32, P x1 ↔ ∀ ls : Array Slot, lv_has ls 2 [] → W p l e (headSpec (ws_ yX6_quotientOf cX6_quotientOf 2 (Option.some Jvm.ClassFile.FieldType.float)) ({ frames := 1, cells := 0, slots := 0, locals := 20 })).room s m ([.float p0, .float p1] : List Value).toArray below meth c s.heap ([]) 0 0 (MQ below (vp_Sf post) ([.float p0, .float p1] : List Value).toArray s 0 0 (fun _ => False)) (F0 m 46 ls [.float x1]) := ⟨_, fun _ => Iff.rfl⟩
  have hox1 := hok
  have hjx1 : ∀ x1 : UInt32, x1 = (if Feq p0 p0 then (if Feq p1 p1 then (if Feq p0 FP.fconst0 then (if Feq p1 FP.fconst0 then 2143289344 else (if (fX6_endless p0) = 0 then (FP.fdiv p0 p1) else (if (fX6_endless p1) = 0 then (FP.fdiv p0 p1) else 2143289344))) else (if (fX6_endless p0) = 0 then (FP.fdiv p0 p1) else (if (fX6_endless p1) = 0 then (FP.fdiv p0 p1) else 2143289344))) else 2143289344) else 2143289344) → PJx1 x1 := by
    intro x1 ex1
    rw [hPJx1]
    intro ls hl
    replace hw := pf_let (P := post) hw x1 ex1
    exact W.fret (v := x1) hx hb hr (fun t ht hW => ⟨_, rfl, hw, ht⟩) (fun q h => nomatch h) dX6_quotientOf_46
  replace hjx1 := hjx1 _ rfl
  refine lx_flne (tgt := 38) hx hb dX6_quotientOf_2 dX6_quotientOf_3 (by decide) (fun c2 => ?_) (fun c2 => ?_)
  · replace hjx1 := pf_f (P := PJx1) c2 hjx1
    refine lv_ldcf (v := 2143289344) hx hb hown (hts _ q1365) dX6_quotientOf_38 ?_
    refine lv_goto (tgt := 46) hx hb dX6_quotientOf_40 (by decide) ?_
    exact (hPJx1 _).1 hjx1 _ (lv_sub hl [] rfl)
  · replace hjx1 := pf_t (P := PJx1) c2 hjx1
    replace hox1 := hox1.1 c2
    refine lv_fload_n hx hb dX6_quotientOf_6 rfl (lv_at hl 1 rfl) ?_
    refine lv_fload_n hx hb dX6_quotientOf_7 rfl (lv_at hl 1 rfl) ?_
    refine lx_flne (tgt := 38) hx hb dX6_quotientOf_8 dX6_quotientOf_9 (by decide) (fun c3 => ?_) (fun c3 => ?_)
    · replace hjx1 := pf_f (P := PJx1) c3 hjx1
      refine lv_ldcf (v := 2143289344) hx hb hown (hts _ q1365) dX6_quotientOf_38 ?_
      refine lv_goto (tgt := 46) hx hb dX6_quotientOf_40 (by decide) ?_
      exact (hPJx1 _).1 hjx1 _ (lv_sub hl [] rfl)
    · replace hjx1 := pf_t (P := PJx1) c3 hjx1
      replace hox1 := hox1.1 c3
      refine lv_fload_n hx hb dX6_quotientOf_12 rfl (lv_at hl 0 rfl) ?_
      refine lv_fconst0 hx hb dX6_quotientOf_13 ?_
      refine lx_flne (tgt := 24) hx hb dX6_quotientOf_14 dX6_quotientOf_15 (by decide) (fun c4 => ?_) (fun c4 => ?_)
      · replace hjx1 := pf_f (P := PJx1) c4 hjx1
        replace hox1 := hox1.2 c4
        refine lv_fload_n hx hb dX6_quotientOf_24 rfl (lv_at hl 0 rfl) ?_
        refine cSi (v := fX6_endless p0) (W.runS (As := [.float p0]) (rest := []) ⟨hx, hb, hml, hown, hts⟩ (mX6_endless l D TY p0 (fun r => r = fX6_endless p0) rfl) (va_cwS 1 hts (lw_S q1370 q1371 q50 q1372) rfl rfl rfl hd_X6_endless ⟨Nat.le_of_ble_eq_true rfl, Nat.le_of_ble_eq_true rfl⟩) (PR.S hP [] rfl hK hG hS) rfl rfl hl.1 rfl (lv_room (Nat.le_of_ble_eq_true rfl)) dX6_quotientOf_25 ⟨Nat.le_of_ble_eq_true rfl, Nat.le_of_ble_eq_true rfl⟩) ?_
        refine lv_if_eq (tgt := 43) hx hb dX6_quotientOf_28 (by decide) (fun c5 => ?_) (fun c5 => ?_)
        · replace hjx1 := pf_t (P := PJx1) c5 hjx1
          replace hox1 := hox1.1 c5
          refine lv_fload_n hx hb dX6_quotientOf_43 rfl (lv_at hl 0 rfl) ?_
          refine lv_fload_n hx hb dX6_quotientOf_44 rfl (lv_at hl 1 rfl) ?_
          refine lv_fdiv hx hb dX6_quotientOf_45 hox1 ?_
          exact (hPJx1 _).1 hjx1 _ (lv_sub hl [] rfl)
        · replace hjx1 := pf_f (P := PJx1) c5 hjx1
          replace hox1 := hox1.2 c5
          refine lv_fload_n hx hb dX6_quotientOf_31 rfl (lv_at hl 1 rfl) ?_
          refine cSi (v := fX6_endless p1) (W.runS (As := [.float p1]) (rest := []) ⟨hx, hb, hml, hown, hts⟩ (mX6_endless l D TY p1 (fun r => r = fX6_endless p1) rfl) (va_cwS 1 hts (lw_S q1370 q1371 q50 q1372) rfl rfl rfl hd_X6_endless ⟨Nat.le_of_ble_eq_true rfl, Nat.le_of_ble_eq_true rfl⟩) (PR.S hP [] rfl hK hG hS) rfl rfl hl.1 rfl (lv_room (Nat.le_of_ble_eq_true rfl)) dX6_quotientOf_32 ⟨Nat.le_of_ble_eq_true rfl, Nat.le_of_ble_eq_true rfl⟩) ?_
          refine lv_if_eq (tgt := 43) hx hb dX6_quotientOf_35 (by decide) (fun c6 => ?_) (fun c6 => ?_)
          · replace hjx1 := pf_t (P := PJx1) c6 hjx1
            replace hox1 := hox1.1 c6
            refine lv_fload_n hx hb dX6_quotientOf_43 rfl (lv_at hl 0 rfl) ?_
            refine lv_fload_n hx hb dX6_quotientOf_44 rfl (lv_at hl 1 rfl) ?_
            refine lv_fdiv hx hb dX6_quotientOf_45 hox1 ?_
            exact (hPJx1 _).1 hjx1 _ (lv_sub hl [] rfl)
          · replace hjx1 := pf_f (P := PJx1) c6 hjx1
            refine lv_ldcf (v := 2143289344) hx hb hown (hts _ q1365) dX6_quotientOf_38 ?_
            refine lv_goto (tgt := 46) hx hb dX6_quotientOf_40 (by decide) ?_
            exact (hPJx1 _).1 hjx1 _ (lv_sub hl [] rfl)
      · replace hjx1 := pf_t (P := PJx1) c4 hjx1
        replace hox1 := hox1.1 c4
        refine lv_fload_n hx hb dX6_quotientOf_18 rfl (lv_at hl 1 rfl) ?_
        refine lv_fconst0 hx hb dX6_quotientOf_19 ?_
        refine lx_fleq (tgt := 38) hx hb dX6_quotientOf_20 dX6_quotientOf_21 (by decide) (fun c7 => ?_) (fun c7 => ?_)
        · replace hjx1 := pf_t (P := PJx1) c7 hjx1
          refine lv_ldcf (v := 2143289344) hx hb hown (hts _ q1365) dX6_quotientOf_38 ?_
          refine lv_goto (tgt := 46) hx hb dX6_quotientOf_40 (by decide) ?_
          exact (hPJx1 _).1 hjx1 _ (lv_sub hl [] rfl)
        · replace hjx1 := pf_f (P := PJx1) c7 hjx1
          replace hox1 := hox1.2 c7
          refine lv_fload_n hx hb dX6_quotientOf_24 rfl (lv_at hl 0 rfl) ?_
          refine cSi (v := fX6_endless p0) (W.runS (As := [.float p0]) (rest := []) ⟨hx, hb, hml, hown, hts⟩ (mX6_endless l D TY p0 (fun r => r = fX6_endless p0) rfl) (va_cwS 1 hts (lw_S q1370 q1371 q50 q1372) rfl rfl rfl hd_X6_endless ⟨Nat.le_of_ble_eq_true rfl, Nat.le_of_ble_eq_true rfl⟩) (PR.S hP [] rfl hK hG hS) rfl rfl hl.1 rfl (lv_room (Nat.le_of_ble_eq_true rfl)) dX6_quotientOf_25 ⟨Nat.le_of_ble_eq_true rfl, Nat.le_of_ble_eq_true rfl⟩) ?_
          refine lv_if_eq (tgt := 43) hx hb dX6_quotientOf_28 (by decide) (fun c8 => ?_) (fun c8 => ?_)
          · replace hjx1 := pf_t (P := PJx1) c8 hjx1
            replace hox1 := hox1.1 c8
            refine lv_fload_n hx hb dX6_quotientOf_43 rfl (lv_at hl 0 rfl) ?_
            refine lv_fload_n hx hb dX6_quotientOf_44 rfl (lv_at hl 1 rfl) ?_
            refine lv_fdiv hx hb dX6_quotientOf_45 hox1 ?_
            exact (hPJx1 _).1 hjx1 _ (lv_sub hl [] rfl)
          · replace hjx1 := pf_f (P := PJx1) c8 hjx1
            replace hox1 := hox1.2 c8
            refine lv_fload_n hx hb dX6_quotientOf_31 rfl (lv_at hl 1 rfl) ?_
            refine cSi (v := fX6_endless p1) (W.runS (As := [.float p1]) (rest := []) ⟨hx, hb, hml, hown, hts⟩ (mX6_endless l D TY p1 (fun r => r = fX6_endless p1) rfl) (va_cwS 1 hts (lw_S q1370 q1371 q50 q1372) rfl rfl rfl hd_X6_endless ⟨Nat.le_of_ble_eq_true rfl, Nat.le_of_ble_eq_true rfl⟩) (PR.S hP [] rfl hK hG hS) rfl rfl hl.1 rfl (lv_room (Nat.le_of_ble_eq_true rfl)) dX6_quotientOf_32 ⟨Nat.le_of_ble_eq_true rfl, Nat.le_of_ble_eq_true rfl⟩) ?_
            refine lv_if_eq (tgt := 43) hx hb dX6_quotientOf_35 (by decide) (fun c9 => ?_) (fun c9 => ?_)
            · replace hjx1 := pf_t (P := PJx1) c9 hjx1
              replace hox1 := hox1.1 c9
              refine lv_fload_n hx hb dX6_quotientOf_43 rfl (lv_at hl 0 rfl) ?_
              refine lv_fload_n hx hb dX6_quotientOf_44 rfl (lv_at hl 1 rfl) ?_
              refine lv_fdiv hx hb dX6_quotientOf_45 hox1 ?_
              exact (hPJx1 _).1 hjx1 _ (lv_sub hl [] rfl)
            · replace hjx1 := pf_f (P := PJx1) c9 hjx1
              refine lv_ldcf (v := 2143289344) hx hb hown (hts _ q1365) dX6_quotientOf_38 ?_
              refine lv_goto (tgt := 46) hx hb dX6_quotientOf_40 (by decide) ?_
              exact (hPJx1 _).1 hjx1 _ (lv_sub hl [] rfl)

def fX6_restOf (p0 : UInt32) (p1 : UInt32) : UInt32 := lt_ (if Feq p0 p0 then (if Feq p1 p1 then (if (fX6_endless p0) = 0 then (if Feq p1 FP.fconst0 then 2143289344 else (FP.frem p0 p1)) else 2143289344) else 2143289344) else 2143289344) (fun x1 : UInt32 => x1)
def oX6_restOf (p0 : UInt32) (p1 : UInt32) : Prop := ((Feq p0 p0) → ((Feq p1 p1) → (((fX6_endless p0) = 0) → ((Feq p1 FP.fconst0) → True) ∧ (¬ (Feq p1 FP.fconst0) → (vf_n32 (FP.frem p0 p1)))) ∧ (¬ ((fX6_endless p0) = 0) → True)) ∧ (¬ (Feq p1 p1) → True)) ∧ (¬ (Feq p0 p0) → True)
set_option maxHeartbeats 4000000 in
set_option maxRecDepth 100000 in
theorem mX6_restOf (l : Launch) (D : va_G) (TY : Nat → ClassId) (p0 : UInt32) (p1 : UInt32) (post : UInt32 → Prop) (hw : post (fX6_restOf p0 p1)) (hok : oX6_restOf p0 p1) : Met l yX6_restOf (ws_ yX6_restOf cX6_restOf 2 (Option.some Jvm.ClassFile.FieldType.float)) ({ frames := 1, cells := 0, slots := 0, locals := 20 }) (PR D TY [.float p0, .float p1] []) (vp_Sf post) 0 0 (fun _ => False) := by
  refine ofWF (cc := cX6_restOf) (maxL := 2) (ret := (Option.some Jvm.ClassFile.FieldType.float)) (plainFor_of_name (by decide)) rfl ?_
  intro p e s m args below meth c s₁ B hml hv
  obtain ⟨rfl, hP, hK, hG⟩ := hv
  have hx := B.exec
  have hb := B.bytes
  have hr := B.returns
  have hts0 := atoms_spec (ws := ws_ yX6_restOf cX6_restOf 2 (Option.some Jvm.ClassFile.FieldType.float)) B.pre
  have hts : ∀ w ∈ lw_all, w.before _ s = true := fun w h => hts0 w (List.mem_cons_of_mem _ h)
  have hown : s.vm.findClass RX6 = some m.cls := findClass_of_methodNamed B.named
  have hlocks := B.notSynchronized
  have hS : va_S (fun _ => False) s.heap s.heap [] := va_S.rf
  have hl := lv_entry ([.float p0, .float p1]) (n := 2) (Nat.le_of_ble_eq_true rfl)
  rw [lg_entry_eq]
  generalize (lg_sl ([.float p0, .float p1]) ++ List.replicate (2 - (lg_sl ([.float p0, .float p1])).length) Slot.unset).toArray = ls at hl ⊢
  have hl : lv_has ls 2 [(0, .float p0), (1, .float p1)] := hl
  unfold fX6_restOf at hw
  unfold oX6_restOf at hok
  refine lv_fload_n hx hb dX6_restOf_0 rfl (lv_at hl 0 rfl) ?_
  refine lv_fload_n hx hb dX6_restOf_1 rfl (lv_at hl 0 rfl) ?_
  obtain ⟨PJx1, hPJx1⟩ : ∃ P : UInt32 → Prop, ∀ x1 : UInt32, P x1 ↔ ∀ ls : Array Slot, lv_has ls 2 [] → W p l e (headSpec (ws_ yX6_restOf cX6_restOf 2 (Option.some Jvm.ClassFile.FieldType.float)) ({ frames := 1, cells := 0, slots := 0, locals := 20 })).room s m ([.float p0, .float p1] : List Value).toArray below meth c s.heap ([]) 0 0 (MQ below (vp_Sf post) ([.float p0, .float p1] : List Value).toArray s 0 0 (fun _ => False)) (F0 m 33 ls [.float x1]) := ⟨_, fun _ => Iff.rfl⟩
  have hox1 := hok
  have hjx1 : ∀ x1 : UInt32, x1 = (if Feq p0 p0 then (if Feq p1 p1 then (if (fX6_endless p0) = 0 then (if Feq p1 FP.fconst0 then 2143289344 else (FP.frem p0 p1)) else 2143289344) else 2143289344) else 2143289344) → PJx1 x1 := by
    intro x1 ex1
    rw [hPJx1]
    intro ls hl
    replace hw := pf_let (P := post) hw x1 ex1
    exact W.fret (v := x1) hx hb hr (fun t ht hW => ⟨_, rfl, hw, ht⟩) (fun q h => nomatch h) dX6_restOf_33
  replace hjx1 := hjx1 _ rfl
  refine lx_flne (tgt := 25) hx hb dX6_restOf_2 dX6_restOf_3 (by decide) (fun c2 => ?_) (fun c2 => ?_)
  · replace hjx1 := pf_f (P := PJx1) c2 hjx1
    refine lv_ldcf (v := 2143289344) hx hb hown (hts _ q1365) dX6_restOf_25 ?_
    refine lv_goto (tgt := 33) hx hb dX6_restOf_27 (by decide) ?_
    exact (hPJx1 _).1 hjx1 _ (lv_sub hl [] rfl)
  · replace hjx1 := pf_t (P := PJx1) c2 hjx1
    replace hox1 := hox1.1 c2
    refine lv_fload_n hx hb dX6_restOf_6 rfl (lv_at hl 1 rfl) ?_
    refine lv_fload_n hx hb dX6_restOf_7 rfl (lv_at hl 1 rfl) ?_
    refine lx_flne (tgt := 25) hx hb dX6_restOf_8 dX6_restOf_9 (by decide) (fun c3 => ?_) (fun c3 => ?_)
    · replace hjx1 := pf_f (P := PJx1) c3 hjx1
      refine lv_ldcf (v := 2143289344) hx hb hown (hts _ q1365) dX6_restOf_25 ?_
      refine lv_goto (tgt := 33) hx hb dX6_restOf_27 (by decide) ?_
      exact (hPJx1 _).1 hjx1 _ (lv_sub hl [] rfl)
    · replace hjx1 := pf_t (P := PJx1) c3 hjx1
      replace hox1 := hox1.1 c3
      refine lv_fload_n hx hb dX6_restOf_12 rfl (lv_at hl 0 rfl) ?_
      refine cSi (v := fX6_endless p0) (W.runS (As := [.float p0]) (rest := []) ⟨hx, hb, hml, hown, hts⟩ (mX6_endless l D TY p0 (fun r => r = fX6_endless p0) rfl) (va_cwS 1 hts (lw_S q1370 q1371 q50 q1372) rfl rfl rfl hd_X6_endless ⟨Nat.le_of_ble_eq_true rfl, Nat.le_of_ble_eq_true rfl⟩) (PR.S hP [] rfl hK hG hS) rfl rfl hl.1 rfl (lv_room (Nat.le_of_ble_eq_true rfl)) dX6_restOf_13 ⟨Nat.le_of_ble_eq_true rfl, Nat.le_of_ble_eq_true rfl⟩) ?_
      refine lv_if_ne (tgt := 25) hx hb dX6_restOf_16 (by decide) (fun c4 => ?_) (fun c4 => ?_)
      · replace hjx1 := pf_f (P := PJx1) c4 hjx1
        refine lv_ldcf (v := 2143289344) hx hb hown (hts _ q1365) dX6_restOf_25 ?_
        refine lv_goto (tgt := 33) hx hb dX6_restOf_27 (by decide) ?_
        exact (hPJx1 _).1 hjx1 _ (lv_sub hl [] rfl)
      · replace hjx1 := pf_t (P := PJx1) c4 hjx1
        replace hox1 := hox1.1 c4
        refine lv_fload_n hx hb dX6_restOf_19 rfl (lv_at hl 1 rfl) ?_
        refine lv_fconst0 hx hb dX6_restOf_20 ?_
        refine lx_flne (tgt := 30) hx hb dX6_restOf_21 dX6_restOf_22 (by decide) (fun c5 => ?_) (fun c5 => ?_)
        · replace hjx1 := pf_f (P := PJx1) c5 hjx1
          replace hox1 := hox1.2 c5
          refine lv_fload_n hx hb dX6_restOf_30 rfl (lv_at hl 0 rfl) ?_
          refine lv_fload_n hx hb dX6_restOf_31 rfl (lv_at hl 1 rfl) ?_
          refine lv_frem hx hb dX6_restOf_32 hox1 ?_
          exact (hPJx1 _).1 hjx1 _ (lv_sub hl [] rfl)
        · replace hjx1 := pf_t (P := PJx1) c5 hjx1
          refine lv_ldcf (v := 2143289344) hx hb hown (hts _ q1365) dX6_restOf_25 ?_
          refine lv_goto (tgt := 33) hx hb dX6_restOf_27 (by decide) ?_
          exact (hPJx1 _).1 hjx1 _ (lv_sub hl [] rfl)

theorem hd_X6_endless_2 : yX6_endless_2.cls ≠ "java/lang/invoke/MethodHandle" ∧ yX6_endless_2.cls ≠ "java/lang/invoke/VarHandle" ∧ (parseMethodDescriptor yX6_endless_2.desc).map (fun d => d.parameters.length) = some 1 := by decide +kernel
def fX6_sumOf_2 (p0 : UInt64) (p2 : UInt64) : UInt64 := lt_ (if Deq p0 p0 then (if Deq p2 p2 then (if (fX6_endless_2 p0) = 0 then (FP.dadd p0 p2) else (if (fX6_endless_2 p2) = 0 then (FP.dadd p0 p2) else (if Deq p0 p2 then (FP.dadd p0 p2) else 9221120237041090560))) else 9221120237041090560) else 9221120237041090560) (fun x1 : UInt64 => x1)
def oX6_sumOf_2 (p0 : UInt64) (p2 : UInt64) : Prop := ((Deq p0 p0) → ((Deq p2 p2) → (((fX6_endless_2 p0) = 0) → (vf_n64 (FP.dadd p0 p2))) ∧ (¬ ((fX6_endless_2 p0) = 0) → (((fX6_endless_2 p2) = 0) → (vf_n64 (FP.dadd p0 p2))) ∧ (¬ ((fX6_endless_2 p2) = 0) → ((Deq p0 p2) → (vf_n64 (FP.dadd p0 p2))) ∧ (¬ (Deq p0 p2) → True)))) ∧ (¬ (Deq p2 p2) → True)) ∧ (¬ (Deq p0 p0) → True)
set_option maxHeartbeats 4000000 in
set_option maxRecDepth 100000 in
theorem mX6_sumOf_2 (l : Launch) (D : va_G) (TY : Nat → ClassId) (p0 : UInt64) (p2 : UInt64) (post : UInt64 → Prop) (hw : post (fX6_sumOf_2 p0 p2)) (hok : oX6_sumOf_2 p0 p2) : Met l yX6_sumOf_2 (ws_ yX6_sumOf_2 cX6_sumOf_2 4 (Option.some Jvm.ClassFile.FieldType.double)) ({ frames := 1, cells := 0, slots := 0, locals := 21 }) (PR D TY [.double p0, .double p2] []) (vp_Sd post) 0 0 (fun _ => False) := by
  refine ofWF (cc := cX6_sumOf_2) (maxL := 4) (ret := (Option.some Jvm.ClassFile.FieldType.double)) (plainFor_of_name (by decide)) rfl ?_
  intro p e s m args below meth c s₁ B hml hv
  obtain ⟨rfl, hP, hK, hG⟩ := hv
  have hx := B.exec
  have hb := B.bytes
  have hr := B.returns
  have hts0 := atoms_spec (ws := ws_ yX6_sumOf_2 cX6_sumOf_2 4 (Option.some Jvm.ClassFile.FieldType.double)) B.pre
  have hts : ∀ w ∈ lw_all, w.before _ s = true := fun w h => hts0 w (List.mem_cons_of_mem _ h)
  have hown : s.vm.findClass RX6 = some m.cls := findClass_of_methodNamed B.named
  have hlocks := B.notSynchronized
  have hS : va_S (fun _ => False) s.heap s.heap [] := va_S.rf
  have hl := lv_entry ([.double p0, .double p2]) (n := 4) (Nat.le_of_ble_eq_true rfl)
  rw [lg_entry_eq]
  generalize (lg_sl ([.double p0, .double p2]) ++ List.replicate (4 - (lg_sl ([.double p0, .double p2])).length) Slot.unset).toArray = ls at hl ⊢
  have hl : lv_has ls 4 [(0, .double p0), (2, .double p2)] := hl
  unfold fX6_sumOf_2 at hw
  unfold oX6_sumOf_2 at hok
  refine lv_dload_n hx hb dX6_sumOf_2_0 rfl (lv_at hl 0 rfl) ?_
  refine lv_dload_n hx hb dX6_sumOf_2_1 rfl (lv_at hl 0 rfl) ?_
  obtain ⟨PJx1, hPJx1⟩ : ∃ P : UInt64 → Prop, ∀ x1 : UInt64, P x1 ↔ ∀ ls : Array Slot, lv_has ls 4 [] → W p l e (headSpec (ws_ yX6_sumOf_2 cX6_sumOf_2 4 (Option.some Jvm.ClassFile.FieldType.double)) ({ frames := 1, cells := 0, slots := 0, locals := 21 })).room s m ([.double p0, .double p2] : List Value).toArray below meth c s.heap ([]) 0 0 (MQ below (vp_Sd post) ([.double p0, .double p2] : List Value).toArray s 0 0 (fun _ => False)) (F0 m 41 ls [.double x1]) := ⟨_, fun _ => Iff.rfl⟩
  have hox1 := hok
  have hjx1 : ∀ x1 : UInt64, x1 = (if Deq p0 p0 then (if Deq p2 p2 then (if (fX6_endless_2 p0) = 0 then (FP.dadd p0 p2) else (if (fX6_endless_2 p2) = 0 then (FP.dadd p0 p2) else (if Deq p0 p2 then (FP.dadd p0 p2) else 9221120237041090560))) else 9221120237041090560) else 9221120237041090560) → PJx1 x1 := by
    intro x1 ex1
    rw [hPJx1]
    intro ls hl
    replace hw := pf_let (P := post) hw x1 ex1
    exact W.dret (v := x1) hx hb hr (fun t ht hW => ⟨_, rfl, hw, ht⟩) (fun q h => nomatch h) dX6_sumOf_2_41
  replace hjx1 := hjx1 _ rfl
  refine lx_dlne (tgt := 32) hx hb dX6_sumOf_2_2 dX6_sumOf_2_3 (by decide) (fun c2 => ?_) (fun c2 => ?_)
  · replace hjx1 := pf_f (P := PJx1) c2 hjx1
    refine lv_ldc2d (v := 9221120237041090560) hx hb hown (hts _ q1381) dX6_sumOf_2_32 ?_
    refine lv_goto (tgt := 41) hx hb dX6_sumOf_2_35 (by decide) ?_
    exact (hPJx1 _).1 hjx1 _ (lv_sub hl [] rfl)
  · replace hjx1 := pf_t (P := PJx1) c2 hjx1
    replace hox1 := hox1.1 c2
    refine lv_dload_n hx hb dX6_sumOf_2_6 rfl (lv_at hl 1 rfl) ?_
    refine lv_dload_n hx hb dX6_sumOf_2_7 rfl (lv_at hl 1 rfl) ?_
    refine lx_dlne (tgt := 32) hx hb dX6_sumOf_2_8 dX6_sumOf_2_9 (by decide) (fun c3 => ?_) (fun c3 => ?_)
    · replace hjx1 := pf_f (P := PJx1) c3 hjx1
      refine lv_ldc2d (v := 9221120237041090560) hx hb hown (hts _ q1381) dX6_sumOf_2_32 ?_
      refine lv_goto (tgt := 41) hx hb dX6_sumOf_2_35 (by decide) ?_
      exact (hPJx1 _).1 hjx1 _ (lv_sub hl [] rfl)
    · replace hjx1 := pf_t (P := PJx1) c3 hjx1
      replace hox1 := hox1.1 c3
      refine lv_dload_n hx hb dX6_sumOf_2_12 rfl (lv_at hl 0 rfl) ?_
      refine cSi (v := fX6_endless_2 p0) (W.runS (As := [.double p0]) (rest := []) ⟨hx, hb, hml, hown, hts⟩ (mX6_endless_2 l D TY p0 (fun r => r = fX6_endless_2 p0) rfl) (va_cwS 1 hts (lw_S q1386 q1387 q50 q1388) rfl rfl rfl hd_X6_endless_2 ⟨Nat.le_of_ble_eq_true rfl, Nat.le_of_ble_eq_true rfl⟩) (PR.S hP [] rfl hK hG hS) rfl rfl hl.1 rfl (lv_room (Nat.le_of_ble_eq_true rfl)) dX6_sumOf_2_13 ⟨Nat.le_of_ble_eq_true rfl, Nat.le_of_ble_eq_true rfl⟩) ?_
      refine lv_if_eq (tgt := 38) hx hb dX6_sumOf_2_16 (by decide) (fun c4 => ?_) (fun c4 => ?_)
      · replace hjx1 := pf_t (P := PJx1) c4 hjx1
        replace hox1 := hox1.1 c4
        refine lv_dload_n hx hb dX6_sumOf_2_38 rfl (lv_at hl 0 rfl) ?_
        refine lv_dload_n hx hb dX6_sumOf_2_39 rfl (lv_at hl 1 rfl) ?_
        refine lv_dadd hx hb dX6_sumOf_2_40 hox1 ?_
        exact (hPJx1 _).1 hjx1 _ (lv_sub hl [] rfl)
      · replace hjx1 := pf_f (P := PJx1) c4 hjx1
        replace hox1 := hox1.2 c4
        refine lv_dload_n hx hb dX6_sumOf_2_19 rfl (lv_at hl 1 rfl) ?_
        refine cSi (v := fX6_endless_2 p2) (W.runS (As := [.double p2]) (rest := []) ⟨hx, hb, hml, hown, hts⟩ (mX6_endless_2 l D TY p2 (fun r => r = fX6_endless_2 p2) rfl) (va_cwS 1 hts (lw_S q1386 q1387 q50 q1388) rfl rfl rfl hd_X6_endless_2 ⟨Nat.le_of_ble_eq_true rfl, Nat.le_of_ble_eq_true rfl⟩) (PR.S hP [] rfl hK hG hS) rfl rfl hl.1 rfl (lv_room (Nat.le_of_ble_eq_true rfl)) dX6_sumOf_2_20 ⟨Nat.le_of_ble_eq_true rfl, Nat.le_of_ble_eq_true rfl⟩) ?_
        refine lv_if_eq (tgt := 38) hx hb dX6_sumOf_2_23 (by decide) (fun c5 => ?_) (fun c5 => ?_)
        · replace hjx1 := pf_t (P := PJx1) c5 hjx1
          replace hox1 := hox1.1 c5
          refine lv_dload_n hx hb dX6_sumOf_2_38 rfl (lv_at hl 0 rfl) ?_
          refine lv_dload_n hx hb dX6_sumOf_2_39 rfl (lv_at hl 1 rfl) ?_
          refine lv_dadd hx hb dX6_sumOf_2_40 hox1 ?_
          exact (hPJx1 _).1 hjx1 _ (lv_sub hl [] rfl)
        · replace hjx1 := pf_f (P := PJx1) c5 hjx1
          replace hox1 := hox1.2 c5
          refine lv_dload_n hx hb dX6_sumOf_2_26 rfl (lv_at hl 0 rfl) ?_
          refine lv_dload_n hx hb dX6_sumOf_2_27 rfl (lv_at hl 1 rfl) ?_
          refine lx_dleq (tgt := 38) hx hb dX6_sumOf_2_28 dX6_sumOf_2_29 (by decide) (fun c6 => ?_) (fun c6 => ?_)
          · replace hjx1 := pf_t (P := PJx1) c6 hjx1
            replace hox1 := hox1.1 c6
            refine lv_dload_n hx hb dX6_sumOf_2_38 rfl (lv_at hl 0 rfl) ?_
            refine lv_dload_n hx hb dX6_sumOf_2_39 rfl (lv_at hl 1 rfl) ?_
            refine lv_dadd hx hb dX6_sumOf_2_40 hox1 ?_
            exact (hPJx1 _).1 hjx1 _ (lv_sub hl [] rfl)
          · replace hjx1 := pf_f (P := PJx1) c6 hjx1
            refine lv_ldc2d (v := 9221120237041090560) hx hb hown (hts _ q1381) dX6_sumOf_2_32 ?_
            refine lv_goto (tgt := 41) hx hb dX6_sumOf_2_35 (by decide) ?_
            exact (hPJx1 _).1 hjx1 _ (lv_sub hl [] rfl)

def fX6_differenceOf_2 (p0 : UInt64) (p2 : UInt64) : UInt64 := lt_ (if Deq p0 p0 then (if Deq p2 p2 then (if (fX6_endless_2 p0) = 0 then (FP.dsub p0 p2) else (if Deq p0 p2 then 9221120237041090560 else (FP.dsub p0 p2))) else 9221120237041090560) else 9221120237041090560) (fun x1 : UInt64 => x1)
def oX6_differenceOf_2 (p0 : UInt64) (p2 : UInt64) : Prop := ((Deq p0 p0) → ((Deq p2 p2) → (((fX6_endless_2 p0) = 0) → (vf_n64 (FP.dsub p0 p2))) ∧ (¬ ((fX6_endless_2 p0) = 0) → ((Deq p0 p2) → True) ∧ (¬ (Deq p0 p2) → (vf_n64 (FP.dsub p0 p2))))) ∧ (¬ (Deq p2 p2) → True)) ∧ (¬ (Deq p0 p0) → True)
set_option maxHeartbeats 4000000 in
set_option maxRecDepth 100000 in
theorem mX6_differenceOf_2 (l : Launch) (D : va_G) (TY : Nat → ClassId) (p0 : UInt64) (p2 : UInt64) (post : UInt64 → Prop) (hw : post (fX6_differenceOf_2 p0 p2)) (hok : oX6_differenceOf_2 p0 p2) : Met l yX6_differenceOf_2 (ws_ yX6_differenceOf_2 cX6_differenceOf_2 4 (Option.some Jvm.ClassFile.FieldType.double)) ({ frames := 1, cells := 0, slots := 0, locals := 21 }) (PR D TY [.double p0, .double p2] []) (vp_Sd post) 0 0 (fun _ => False) := by
  refine ofWF (cc := cX6_differenceOf_2) (maxL := 4) (ret := (Option.some Jvm.ClassFile.FieldType.double)) (plainFor_of_name (by decide)) rfl ?_
  intro p e s m args below meth c s₁ B hml hv
  obtain ⟨rfl, hP, hK, hG⟩ := hv
  have hx := B.exec
  have hb := B.bytes
  have hr := B.returns
  have hts0 := atoms_spec (ws := ws_ yX6_differenceOf_2 cX6_differenceOf_2 4 (Option.some Jvm.ClassFile.FieldType.double)) B.pre
  have hts : ∀ w ∈ lw_all, w.before _ s = true := fun w h => hts0 w (List.mem_cons_of_mem _ h)
  have hown : s.vm.findClass RX6 = some m.cls := findClass_of_methodNamed B.named
  have hlocks := B.notSynchronized
  have hS : va_S (fun _ => False) s.heap s.heap [] := va_S.rf
  have hl := lv_entry ([.double p0, .double p2]) (n := 4) (Nat.le_of_ble_eq_true rfl)
  rw [lg_entry_eq]
  generalize (lg_sl ([.double p0, .double p2]) ++ List.replicate (4 - (lg_sl ([.double p0, .double p2])).length) Slot.unset).toArray = ls at hl ⊢
  have hl : lv_has ls 4 [(0, .double p0), (2, .double p2)] := hl
  unfold fX6_differenceOf_2 at hw
  unfold oX6_differenceOf_2 at hok
  refine lv_dload_n hx hb dX6_differenceOf_2_0 rfl (lv_at hl 0 rfl) ?_
  refine lv_dload_n hx hb dX6_differenceOf_2_1 rfl (lv_at hl 0 rfl) ?_
  obtain ⟨PJx1, hPJx1⟩ : ∃ P : UInt64 → Prop, ∀ x1 : UInt64, P x1 ↔ ∀ ls : Array Slot, lv_has ls 4 [] → W p l e (headSpec (ws_ yX6_differenceOf_2 cX6_differenceOf_2 4 (Option.some Jvm.ClassFile.FieldType.double)) ({ frames := 1, cells := 0, slots := 0, locals := 21 })).room s m ([.double p0, .double p2] : List Value).toArray below meth c s.heap ([]) 0 0 (MQ below (vp_Sd post) ([.double p0, .double p2] : List Value).toArray s 0 0 (fun _ => False)) (F0 m 34 ls [.double x1]) := ⟨_, fun _ => Iff.rfl⟩
  have hox1 := hok
  have hjx1 : ∀ x1 : UInt64, x1 = (if Deq p0 p0 then (if Deq p2 p2 then (if (fX6_endless_2 p0) = 0 then (FP.dsub p0 p2) else (if Deq p0 p2 then 9221120237041090560 else (FP.dsub p0 p2))) else 9221120237041090560) else 9221120237041090560) → PJx1 x1 := by
    intro x1 ex1
    rw [hPJx1]
    intro ls hl
    replace hw := pf_let (P := post) hw x1 ex1
    exact W.dret (v := x1) hx hb hr (fun t ht hW => ⟨_, rfl, hw, ht⟩) (fun q h => nomatch h) dX6_differenceOf_2_34
  replace hjx1 := hjx1 _ rfl
  refine lx_dlne (tgt := 25) hx hb dX6_differenceOf_2_2 dX6_differenceOf_2_3 (by decide) (fun c2 => ?_) (fun c2 => ?_)
  · replace hjx1 := pf_f (P := PJx1) c2 hjx1
    refine lv_ldc2d (v := 9221120237041090560) hx hb hown (hts _ q1381) dX6_differenceOf_2_25 ?_
    refine lv_goto (tgt := 34) hx hb dX6_differenceOf_2_28 (by decide) ?_
    exact (hPJx1 _).1 hjx1 _ (lv_sub hl [] rfl)
  · replace hjx1 := pf_t (P := PJx1) c2 hjx1
    replace hox1 := hox1.1 c2
    refine lv_dload_n hx hb dX6_differenceOf_2_6 rfl (lv_at hl 1 rfl) ?_
    refine lv_dload_n hx hb dX6_differenceOf_2_7 rfl (lv_at hl 1 rfl) ?_
    refine lx_dlne (tgt := 25) hx hb dX6_differenceOf_2_8 dX6_differenceOf_2_9 (by decide) (fun c3 => ?_) (fun c3 => ?_)
    · replace hjx1 := pf_f (P := PJx1) c3 hjx1
      refine lv_ldc2d (v := 9221120237041090560) hx hb hown (hts _ q1381) dX6_differenceOf_2_25 ?_
      refine lv_goto (tgt := 34) hx hb dX6_differenceOf_2_28 (by decide) ?_
      exact (hPJx1 _).1 hjx1 _ (lv_sub hl [] rfl)
    · replace hjx1 := pf_t (P := PJx1) c3 hjx1
      replace hox1 := hox1.1 c3
      refine lv_dload_n hx hb dX6_differenceOf_2_12 rfl (lv_at hl 0 rfl) ?_
      refine cSi (v := fX6_endless_2 p0) (W.runS (As := [.double p0]) (rest := []) ⟨hx, hb, hml, hown, hts⟩ (mX6_endless_2 l D TY p0 (fun r => r = fX6_endless_2 p0) rfl) (va_cwS 1 hts (lw_S q1386 q1387 q50 q1388) rfl rfl rfl hd_X6_endless_2 ⟨Nat.le_of_ble_eq_true rfl, Nat.le_of_ble_eq_true rfl⟩) (PR.S hP [] rfl hK hG hS) rfl rfl hl.1 rfl (lv_room (Nat.le_of_ble_eq_true rfl)) dX6_differenceOf_2_13 ⟨Nat.le_of_ble_eq_true rfl, Nat.le_of_ble_eq_true rfl⟩) ?_
      refine lv_if_eq (tgt := 31) hx hb dX6_differenceOf_2_16 (by decide) (fun c4 => ?_) (fun c4 => ?_)
      · replace hjx1 := pf_t (P := PJx1) c4 hjx1
        replace hox1 := hox1.1 c4
        refine lv_dload_n hx hb dX6_differenceOf_2_31 rfl (lv_at hl 0 rfl) ?_
        refine lv_dload_n hx hb dX6_differenceOf_2_32 rfl (lv_at hl 1 rfl) ?_
        refine lv_dsub hx hb dX6_differenceOf_2_33 hox1 ?_
        exact (hPJx1 _).1 hjx1 _ (lv_sub hl [] rfl)
      · replace hjx1 := pf_f (P := PJx1) c4 hjx1
        replace hox1 := hox1.2 c4
        refine lv_dload_n hx hb dX6_differenceOf_2_19 rfl (lv_at hl 0 rfl) ?_
        refine lv_dload_n hx hb dX6_differenceOf_2_20 rfl (lv_at hl 1 rfl) ?_
        refine lx_dlne (tgt := 31) hx hb dX6_differenceOf_2_21 dX6_differenceOf_2_22 (by decide) (fun c5 => ?_) (fun c5 => ?_)
        · replace hjx1 := pf_f (P := PJx1) c5 hjx1
          replace hox1 := hox1.2 c5
          refine lv_dload_n hx hb dX6_differenceOf_2_31 rfl (lv_at hl 0 rfl) ?_
          refine lv_dload_n hx hb dX6_differenceOf_2_32 rfl (lv_at hl 1 rfl) ?_
          refine lv_dsub hx hb dX6_differenceOf_2_33 hox1 ?_
          exact (hPJx1 _).1 hjx1 _ (lv_sub hl [] rfl)
        · replace hjx1 := pf_t (P := PJx1) c5 hjx1
          refine lv_ldc2d (v := 9221120237041090560) hx hb hown (hts _ q1381) dX6_differenceOf_2_25 ?_
          refine lv_goto (tgt := 34) hx hb dX6_differenceOf_2_28 (by decide) ?_
          exact (hPJx1 _).1 hjx1 _ (lv_sub hl [] rfl)

def fX6_productOf_2 (p0 : UInt64) (p2 : UInt64) : UInt64 := lt_ (if Deq p0 p0 then (if Deq p2 p2 then (if Deq p0 FP.dconst0 then (if (fX6_endless_2 p2) = 0 then (if (fX6_endless_2 p0) = 0 then (FP.dmul p0 p2) else (if Deq p2 FP.dconst0 then 9221120237041090560 else (FP.dmul p0 p2))) else 9221120237041090560) else (if (fX6_endless_2 p0) = 0 then (FP.dmul p0 p2) else (if Deq p2 FP.dconst0 then 9221120237041090560 else (FP.dmul p0 p2)))) else 9221120237041090560) else 9221120237041090560) (fun x1 : UInt64 => x1)
def oX6_productOf_2 (p0 : UInt64) (p2 : UInt64) : Prop := ((Deq p0 p0) → ((Deq p2 p2) → ((Deq p0 FP.dconst0) → (((fX6_endless_2 p2) = 0) → (((fX6_endless_2 p0) = 0) → (vf_n64 (FP.dmul p0 p2))) ∧ (¬ ((fX6_endless_2 p0) = 0) → ((Deq p2 FP.dconst0) → True) ∧ (¬ (Deq p2 FP.dconst0) → (vf_n64 (FP.dmul p0 p2))))) ∧ (¬ ((fX6_endless_2 p2) = 0) → True)) ∧ (¬ (Deq p0 FP.dconst0) → (((fX6_endless_2 p0) = 0) → (vf_n64 (FP.dmul p0 p2))) ∧ (¬ ((fX6_endless_2 p0) = 0) → ((Deq p2 FP.dconst0) → True) ∧ (¬ (Deq p2 FP.dconst0) → (vf_n64 (FP.dmul p0 p2)))))) ∧ (¬ (Deq p2 p2) → True)) ∧ (¬ (Deq p0 p0) → True)
set_option maxHeartbeats 4000000 in
set_option maxRecDepth 100000 in
theorem mX6_productOf_2 (l : Launch) (D : va_G) (TY : Nat → ClassId) (p0 : UInt64) (p2 : UInt64) (post : UInt64 → Prop) (hw : post (fX6_productOf_2 p0 p2)) (hok : oX6_productOf_2 p0 p2) : Met l yX6_productOf_2 (ws_ yX6_productOf_2 cX6_productOf_2 4 (Option.some Jvm.ClassFile.FieldType.double)) ({ frames := 1, cells := 0, slots := 0, locals := 21 }) (PR D TY [.double p0, .double p2] []) (vp_Sd post) 0 0 (fun _ => False) := by
  refine ofWF (cc := cX6_productOf_2) (maxL := 4) (ret := (Option.some Jvm.ClassFile.FieldType.double)) (plainFor_of_name (by decide)) rfl ?_
  intro p e s m args below meth c s₁ B hml hv
  obtain ⟨rfl, hP, hK, hG⟩ := hv
  have hx := B.exec
  have hb := B.bytes
  have hr := B.returns
  have hts0 := atoms_spec (ws := ws_ yX6_productOf_2 cX6_productOf_2 4 (Option.some Jvm.ClassFile.FieldType.double)) B.pre
  have hts : ∀ w ∈ lw_all, w.before _ s = true := fun w h => hts0 w (List.mem_cons_of_mem _ h)
  have hown : s.vm.findClass RX6 = some m.cls := findClass_of_methodNamed B.named
  have hlocks := B.notSynchronized
  have hS : va_S (fun _ => False) s.heap s.heap [] := va_S.rf
  have hl := lv_entry ([.double p0, .double p2]) (n := 4) (Nat.le_of_ble_eq_true rfl)
  rw [lg_entry_eq]
  generalize (lg_sl ([.double p0, .double p2]) ++ List.replicate (4 - (lg_sl ([.double p0, .double p2])).length) Slot.unset).toArray = ls at hl ⊢
  have hl : lv_has ls 4 [(0, .double p0), (2, .double p2)] := hl
  unfold fX6_productOf_2 at hw
  unfold oX6_productOf_2 at hok
  refine lv_dload_n hx hb dX6_productOf_2_0 rfl (lv_at hl 0 rfl) ?_
  refine lv_dload_n hx hb dX6_productOf_2_1 rfl (lv_at hl 0 rfl) ?_
  obtain ⟨PJx1, hPJx1⟩ : ∃ P : UInt64 → Prop, ∀ x1 : UInt64, P x1 ↔ ∀ ls : Array Slot, lv_has ls 4 [] → W p l e (headSpec (ws_ yX6_productOf_2 cX6_productOf_2 4 (Option.some Jvm.ClassFile.FieldType.double)) ({ frames := 1, cells := 0, slots := 0, locals := 21 })).room s m ([.double p0, .double p2] : List Value).toArray below meth c s.heap ([]) 0 0 (MQ below (vp_Sd post) ([.double p0, .double p2] : List Value).toArray s 0 0 (fun _ => False)) (F0 m 47 ls [.double x1]) := ⟨_, fun _ => Iff.rfl⟩
  have hox1 := hok
  have hjx1 : ∀ x1 : UInt64, x1 = (if Deq p0 p0 then (if Deq p2 p2 then (if Deq p0 FP.dconst0 then (if (fX6_endless_2 p2) = 0 then (if (fX6_endless_2 p0) = 0 then (FP.dmul p0 p2) else (if Deq p2 FP.dconst0 then 9221120237041090560 else (FP.dmul p0 p2))) else 9221120237041090560) else (if (fX6_endless_2 p0) = 0 then (FP.dmul p0 p2) else (if Deq p2 FP.dconst0 then 9221120237041090560 else (FP.dmul p0 p2)))) else 9221120237041090560) else 9221120237041090560) → PJx1 x1 := by
    intro x1 ex1
    rw [hPJx1]
    intro ls hl
    replace hw := pf_let (P := post) hw x1 ex1
    exact W.dret (v := x1) hx hb hr (fun t ht hW => ⟨_, rfl, hw, ht⟩) (fun q h => nomatch h) dX6_productOf_2_47
  replace hjx1 := hjx1 _ rfl
  refine lx_dlne (tgt := 38) hx hb dX6_productOf_2_2 dX6_productOf_2_3 (by decide) (fun c2 => ?_) (fun c2 => ?_)
  · replace hjx1 := pf_f (P := PJx1) c2 hjx1
    refine lv_ldc2d (v := 9221120237041090560) hx hb hown (hts _ q1381) dX6_productOf_2_38 ?_
    refine lv_goto (tgt := 47) hx hb dX6_productOf_2_41 (by decide) ?_
    exact (hPJx1 _).1 hjx1 _ (lv_sub hl [] rfl)
  · replace hjx1 := pf_t (P := PJx1) c2 hjx1
    replace hox1 := hox1.1 c2
    refine lv_dload_n hx hb dX6_productOf_2_6 rfl (lv_at hl 1 rfl) ?_
    refine lv_dload_n hx hb dX6_productOf_2_7 rfl (lv_at hl 1 rfl) ?_
    refine lx_dlne (tgt := 38) hx hb dX6_productOf_2_8 dX6_productOf_2_9 (by decide) (fun c3 => ?_) (fun c3 => ?_)
    · replace hjx1 := pf_f (P := PJx1) c3 hjx1
      refine lv_ldc2d (v := 9221120237041090560) hx hb hown (hts _ q1381) dX6_productOf_2_38 ?_
      refine lv_goto (tgt := 47) hx hb dX6_productOf_2_41 (by decide) ?_
      exact (hPJx1 _).1 hjx1 _ (lv_sub hl [] rfl)
    · replace hjx1 := pf_t (P := PJx1) c3 hjx1
      replace hox1 := hox1.1 c3
      refine lv_dload_n hx hb dX6_productOf_2_12 rfl (lv_at hl 0 rfl) ?_
      refine lv_dconst0 hx hb dX6_productOf_2_13 ?_
      refine lx_dlne (tgt := 25) hx hb dX6_productOf_2_14 dX6_productOf_2_15 (by decide) (fun c4 => ?_) (fun c4 => ?_)
      · replace hjx1 := pf_f (P := PJx1) c4 hjx1
        replace hox1 := hox1.2 c4
        refine lv_dload_n hx hb dX6_productOf_2_25 rfl (lv_at hl 0 rfl) ?_
        refine cSi (v := fX6_endless_2 p0) (W.runS (As := [.double p0]) (rest := []) ⟨hx, hb, hml, hown, hts⟩ (mX6_endless_2 l D TY p0 (fun r => r = fX6_endless_2 p0) rfl) (va_cwS 1 hts (lw_S q1386 q1387 q50 q1388) rfl rfl rfl hd_X6_endless_2 ⟨Nat.le_of_ble_eq_true rfl, Nat.le_of_ble_eq_true rfl⟩) (PR.S hP [] rfl hK hG hS) rfl rfl hl.1 rfl (lv_room (Nat.le_of_ble_eq_true rfl)) dX6_productOf_2_26 ⟨Nat.le_of_ble_eq_true rfl, Nat.le_of_ble_eq_true rfl⟩) ?_
        refine lv_if_eq (tgt := 44) hx hb dX6_productOf_2_29 (by decide) (fun c5 => ?_) (fun c5 => ?_)
        · replace hjx1 := pf_t (P := PJx1) c5 hjx1
          replace hox1 := hox1.1 c5
          refine lv_dload_n hx hb dX6_productOf_2_44 rfl (lv_at hl 0 rfl) ?_
          refine lv_dload_n hx hb dX6_productOf_2_45 rfl (lv_at hl 1 rfl) ?_
          refine lv_dmul hx hb dX6_productOf_2_46 hox1 ?_
          exact (hPJx1 _).1 hjx1 _ (lv_sub hl [] rfl)
        · replace hjx1 := pf_f (P := PJx1) c5 hjx1
          replace hox1 := hox1.2 c5
          refine lv_dload_n hx hb dX6_productOf_2_32 rfl (lv_at hl 1 rfl) ?_
          refine lv_dconst0 hx hb dX6_productOf_2_33 ?_
          refine lx_dlne (tgt := 44) hx hb dX6_productOf_2_34 dX6_productOf_2_35 (by decide) (fun c6 => ?_) (fun c6 => ?_)
          · replace hjx1 := pf_f (P := PJx1) c6 hjx1
            replace hox1 := hox1.2 c6
            refine lv_dload_n hx hb dX6_productOf_2_44 rfl (lv_at hl 0 rfl) ?_
            refine lv_dload_n hx hb dX6_productOf_2_45 rfl (lv_at hl 1 rfl) ?_
            refine lv_dmul hx hb dX6_productOf_2_46 hox1 ?_
            exact (hPJx1 _).1 hjx1 _ (lv_sub hl [] rfl)
          · replace hjx1 := pf_t (P := PJx1) c6 hjx1
            refine lv_ldc2d (v := 9221120237041090560) hx hb hown (hts _ q1381) dX6_productOf_2_38 ?_
            refine lv_goto (tgt := 47) hx hb dX6_productOf_2_41 (by decide) ?_
            exact (hPJx1 _).1 hjx1 _ (lv_sub hl [] rfl)
      · replace hjx1 := pf_t (P := PJx1) c4 hjx1
        replace hox1 := hox1.1 c4
        refine lv_dload_n hx hb dX6_productOf_2_18 rfl (lv_at hl 1 rfl) ?_
        refine cSi (v := fX6_endless_2 p2) (W.runS (As := [.double p2]) (rest := []) ⟨hx, hb, hml, hown, hts⟩ (mX6_endless_2 l D TY p2 (fun r => r = fX6_endless_2 p2) rfl) (va_cwS 1 hts (lw_S q1386 q1387 q50 q1388) rfl rfl rfl hd_X6_endless_2 ⟨Nat.le_of_ble_eq_true rfl, Nat.le_of_ble_eq_true rfl⟩) (PR.S hP [] rfl hK hG hS) rfl rfl hl.1 rfl (lv_room (Nat.le_of_ble_eq_true rfl)) dX6_productOf_2_19 ⟨Nat.le_of_ble_eq_true rfl, Nat.le_of_ble_eq_true rfl⟩) ?_
        refine lv_if_ne (tgt := 38) hx hb dX6_productOf_2_22 (by decide) (fun c7 => ?_) (fun c7 => ?_)
        · replace hjx1 := pf_f (P := PJx1) c7 hjx1
          refine lv_ldc2d (v := 9221120237041090560) hx hb hown (hts _ q1381) dX6_productOf_2_38 ?_
          refine lv_goto (tgt := 47) hx hb dX6_productOf_2_41 (by decide) ?_
          exact (hPJx1 _).1 hjx1 _ (lv_sub hl [] rfl)
        · replace hjx1 := pf_t (P := PJx1) c7 hjx1
          replace hox1 := hox1.1 c7
          refine lv_dload_n hx hb dX6_productOf_2_25 rfl (lv_at hl 0 rfl) ?_
          refine cSi (v := fX6_endless_2 p0) (W.runS (As := [.double p0]) (rest := []) ⟨hx, hb, hml, hown, hts⟩ (mX6_endless_2 l D TY p0 (fun r => r = fX6_endless_2 p0) rfl) (va_cwS 1 hts (lw_S q1386 q1387 q50 q1388) rfl rfl rfl hd_X6_endless_2 ⟨Nat.le_of_ble_eq_true rfl, Nat.le_of_ble_eq_true rfl⟩) (PR.S hP [] rfl hK hG hS) rfl rfl hl.1 rfl (lv_room (Nat.le_of_ble_eq_true rfl)) dX6_productOf_2_26 ⟨Nat.le_of_ble_eq_true rfl, Nat.le_of_ble_eq_true rfl⟩) ?_
          refine lv_if_eq (tgt := 44) hx hb dX6_productOf_2_29 (by decide) (fun c8 => ?_) (fun c8 => ?_)
          · replace hjx1 := pf_t (P := PJx1) c8 hjx1
            replace hox1 := hox1.1 c8
            refine lv_dload_n hx hb dX6_productOf_2_44 rfl (lv_at hl 0 rfl) ?_
            refine lv_dload_n hx hb dX6_productOf_2_45 rfl (lv_at hl 1 rfl) ?_
            refine lv_dmul hx hb dX6_productOf_2_46 hox1 ?_
            exact (hPJx1 _).1 hjx1 _ (lv_sub hl [] rfl)
          · replace hjx1 := pf_f (P := PJx1) c8 hjx1
            replace hox1 := hox1.2 c8
            refine lv_dload_n hx hb dX6_productOf_2_32 rfl (lv_at hl 1 rfl) ?_
            refine lv_dconst0 hx hb dX6_productOf_2_33 ?_
            refine lx_dlne (tgt := 44) hx hb dX6_productOf_2_34 dX6_productOf_2_35 (by decide) (fun c9 => ?_) (fun c9 => ?_)
            · replace hjx1 := pf_f (P := PJx1) c9 hjx1
              replace hox1 := hox1.2 c9
              refine lv_dload_n hx hb dX6_productOf_2_44 rfl (lv_at hl 0 rfl) ?_
              refine lv_dload_n hx hb dX6_productOf_2_45 rfl (lv_at hl 1 rfl) ?_
              refine lv_dmul hx hb dX6_productOf_2_46 hox1 ?_
              exact (hPJx1 _).1 hjx1 _ (lv_sub hl [] rfl)
            · replace hjx1 := pf_t (P := PJx1) c9 hjx1
              refine lv_ldc2d (v := 9221120237041090560) hx hb hown (hts _ q1381) dX6_productOf_2_38 ?_
              refine lv_goto (tgt := 47) hx hb dX6_productOf_2_41 (by decide) ?_
              exact (hPJx1 _).1 hjx1 _ (lv_sub hl [] rfl)

def fX6_quotientOf_2 (p0 : UInt64) (p2 : UInt64) : UInt64 := lt_ (if Deq p0 p0 then (if Deq p2 p2 then (if Deq p0 FP.dconst0 then (if Deq p2 FP.dconst0 then 9221120237041090560 else (if (fX6_endless_2 p0) = 0 then (FP.ddiv p0 p2) else (if (fX6_endless_2 p2) = 0 then (FP.ddiv p0 p2) else 9221120237041090560))) else (if (fX6_endless_2 p0) = 0 then (FP.ddiv p0 p2) else (if (fX6_endless_2 p2) = 0 then (FP.ddiv p0 p2) else 9221120237041090560))) else 9221120237041090560) else 9221120237041090560) (fun x1 : UInt64 => x1)
def oX6_quotientOf_2 (p0 : UInt64) (p2 : UInt64) : Prop := ((Deq p0 p0) → ((Deq p2 p2) → ((Deq p0 FP.dconst0) → ((Deq p2 FP.dconst0) → True) ∧ (¬ (Deq p2 FP.dconst0) → (((fX6_endless_2 p0) = 0) → (vf_n64 (FP.ddiv p0 p2))) ∧ (¬ ((fX6_endless_2 p0) = 0) → (((fX6_endless_2 p2) = 0) → (vf_n64 (FP.ddiv p0 p2))) ∧ (¬ ((fX6_endless_2 p2) = 0) → True)))) ∧ (¬ (Deq p0 FP.dconst0) → (((fX6_endless_2 p0) = 0) → (vf_n64 (FP.ddiv p0 p2))) ∧ (¬ ((fX6_endless_2 p0) = 0) → (((fX6_endless_2 p2) = 0) → (vf_n64 (FP.ddiv p0 p2))) ∧ (¬ ((fX6_endless_2 p2) = 0) → True)))) ∧ (¬ (Deq p2 p2) → True)) ∧ (¬ (Deq p0 p0) → True)
set_option maxHeartbeats 4000000 in
set_option maxRecDepth 100000 in
theorem mX6_quotientOf_2 (l : Launch) (D : va_G) (TY : Nat → ClassId) (p0 : UInt64) (p2 : UInt64) (post : UInt64 → Prop) (hw : post (fX6_quotientOf_2 p0 p2)) (hok : oX6_quotientOf_2 p0 p2) : Met l yX6_quotientOf_2 (ws_ yX6_quotientOf_2 cX6_quotientOf_2 4 (Option.some Jvm.ClassFile.FieldType.double)) ({ frames := 1, cells := 0, slots := 0, locals := 21 }) (PR D TY [.double p0, .double p2] []) (vp_Sd post) 0 0 (fun _ => False) := by
  refine ofWF (cc := cX6_quotientOf_2) (maxL := 4) (ret := (Option.some Jvm.ClassFile.FieldType.double)) (plainFor_of_name (by decide)) rfl ?_
  intro p e s m args below meth c s₁ B hml hv
  obtain ⟨rfl, hP, hK, hG⟩ := hv
  have hx := B.exec
  have hb := B.bytes
  have hr := B.returns
  have hts0 := atoms_spec (ws := ws_ yX6_quotientOf_2 cX6_quotientOf_2 4 (Option.some Jvm.ClassFile.FieldType.double)) B.pre
  have hts : ∀ w ∈ lw_all, w.before _ s = true := fun w h => hts0 w (List.mem_cons_of_mem _ h)
  have hown : s.vm.findClass RX6 = some m.cls := findClass_of_methodNamed B.named
  have hlocks := B.notSynchronized
  have hS : va_S (fun _ => False) s.heap s.heap [] := va_S.rf
  have hl := lv_entry ([.double p0, .double p2]) (n := 4) (Nat.le_of_ble_eq_true rfl)
  rw [lg_entry_eq]
  generalize (lg_sl ([.double p0, .double p2]) ++ List.replicate (4 - (lg_sl ([.double p0, .double p2])).length) Slot.unset).toArray = ls at hl ⊢
  have hl : lv_has ls 4 [(0, .double p0), (2, .double p2)] := hl
  unfold fX6_quotientOf_2 at hw
  unfold oX6_quotientOf_2 at hok
  refine lv_dload_n hx hb dX6_quotientOf_2_0 rfl (lv_at hl 0 rfl) ?_
  refine lv_dload_n hx hb dX6_quotientOf_2_1 rfl (lv_at hl 0 rfl) ?_
  obtain ⟨PJx1, hPJx1⟩ : ∃ P : UInt64 → Prop, ∀ x1 : UInt64, P x1 ↔ ∀ ls : Array Slot, lv_has ls 4 [] → W p l e (headSpec (ws_ yX6_quotientOf_2 cX6_quotientOf_2 4 (Option.some Jvm.ClassFile.FieldType.double)) ({ frames := 1, cells := 0, slots := 0, locals := 21 })).room s m ([.double p0, .double p2] : List Value).toArray below meth c s.heap ([]) 0 0 (MQ below (vp_Sd post) ([.double p0, .double p2] : List Value).toArray s 0 0 (fun _ => False)) (F0 m 47 ls [.double x1]) := ⟨_, fun _ => Iff.rfl⟩
  have hox1 := hok
  have hjx1 : ∀ x1 : UInt64, x1 = (if Deq p0 p0 then (if Deq p2 p2 then (if Deq p0 FP.dconst0 then (if Deq p2 FP.dconst0 then 9221120237041090560 else (if (fX6_endless_2 p0) = 0 then (FP.ddiv p0 p2) else (if (fX6_endless_2 p2) = 0 then (FP.ddiv p0 p2) else 9221120237041090560))) else (if (fX6_endless_2 p0) = 0 then (FP.ddiv p0 p2) else (if (fX6_endless_2 p2) = 0 then (FP.ddiv p0 p2) else 9221120237041090560))) else 9221120237041090560) else 9221120237041090560) → PJx1 x1 := by
    intro x1 ex1
    rw [hPJx1]
    intro ls hl
    replace hw := pf_let (P := post) hw x1 ex1
    exact W.dret (v := x1) hx hb hr (fun t ht hW => ⟨_, rfl, hw, ht⟩) (fun q h => nomatch h) dX6_quotientOf_2_47
  replace hjx1 := hjx1 _ rfl
  refine lx_dlne (tgt := 38) hx hb dX6_quotientOf_2_2 dX6_quotientOf_2_3 (by decide) (fun c2 => ?_) (fun c2 => ?_)
  · replace hjx1 := pf_f (P := PJx1) c2 hjx1
    refine lv_ldc2d (v := 9221120237041090560) hx hb hown (hts _ q1381) dX6_quotientOf_2_38 ?_
    refine lv_goto (tgt := 47) hx hb dX6_quotientOf_2_41 (by decide) ?_
    exact (hPJx1 _).1 hjx1 _ (lv_sub hl [] rfl)
  · replace hjx1 := pf_t (P := PJx1) c2 hjx1
    replace hox1 := hox1.1 c2
    refine lv_dload_n hx hb dX6_quotientOf_2_6 rfl (lv_at hl 1 rfl) ?_
    refine lv_dload_n hx hb dX6_quotientOf_2_7 rfl (lv_at hl 1 rfl) ?_
    refine lx_dlne (tgt := 38) hx hb dX6_quotientOf_2_8 dX6_quotientOf_2_9 (by decide) (fun c3 => ?_) (fun c3 => ?_)
    · replace hjx1 := pf_f (P := PJx1) c3 hjx1
      refine lv_ldc2d (v := 9221120237041090560) hx hb hown (hts _ q1381) dX6_quotientOf_2_38 ?_
      refine lv_goto (tgt := 47) hx hb dX6_quotientOf_2_41 (by decide) ?_
      exact (hPJx1 _).1 hjx1 _ (lv_sub hl [] rfl)
    · replace hjx1 := pf_t (P := PJx1) c3 hjx1
      replace hox1 := hox1.1 c3
      refine lv_dload_n hx hb dX6_quotientOf_2_12 rfl (lv_at hl 0 rfl) ?_
      refine lv_dconst0 hx hb dX6_quotientOf_2_13 ?_
      refine lx_dlne (tgt := 24) hx hb dX6_quotientOf_2_14 dX6_quotientOf_2_15 (by decide) (fun c4 => ?_) (fun c4 => ?_)
      · replace hjx1 := pf_f (P := PJx1) c4 hjx1
        replace hox1 := hox1.2 c4
        refine lv_dload_n hx hb dX6_quotientOf_2_24 rfl (lv_at hl 0 rfl) ?_
        refine cSi (v := fX6_endless_2 p0) (W.runS (As := [.double p0]) (rest := []) ⟨hx, hb, hml, hown, hts⟩ (mX6_endless_2 l D TY p0 (fun r => r = fX6_endless_2 p0) rfl) (va_cwS 1 hts (lw_S q1386 q1387 q50 q1388) rfl rfl rfl hd_X6_endless_2 ⟨Nat.le_of_ble_eq_true rfl, Nat.le_of_ble_eq_true rfl⟩) (PR.S hP [] rfl hK hG hS) rfl rfl hl.1 rfl (lv_room (Nat.le_of_ble_eq_true rfl)) dX6_quotientOf_2_25 ⟨Nat.le_of_ble_eq_true rfl, Nat.le_of_ble_eq_true rfl⟩) ?_
        refine lv_if_eq (tgt := 44) hx hb dX6_quotientOf_2_28 (by decide) (fun c5 => ?_) (fun c5 => ?_)
        · replace hjx1 := pf_t (P := PJx1) c5 hjx1
          replace hox1 := hox1.1 c5
          refine lv_dload_n hx hb dX6_quotientOf_2_44 rfl (lv_at hl 0 rfl) ?_
          refine lv_dload_n hx hb dX6_quotientOf_2_45 rfl (lv_at hl 1 rfl) ?_
          refine lv_ddiv hx hb dX6_quotientOf_2_46 hox1 ?_
          exact (hPJx1 _).1 hjx1 _ (lv_sub hl [] rfl)
        · replace hjx1 := pf_f (P := PJx1) c5 hjx1
          replace hox1 := hox1.2 c5
          refine lv_dload_n hx hb dX6_quotientOf_2_31 rfl (lv_at hl 1 rfl) ?_
          refine cSi (v := fX6_endless_2 p2) (W.runS (As := [.double p2]) (rest := []) ⟨hx, hb, hml, hown, hts⟩ (mX6_endless_2 l D TY p2 (fun r => r = fX6_endless_2 p2) rfl) (va_cwS 1 hts (lw_S q1386 q1387 q50 q1388) rfl rfl rfl hd_X6_endless_2 ⟨Nat.le_of_ble_eq_true rfl, Nat.le_of_ble_eq_true rfl⟩) (PR.S hP [] rfl hK hG hS) rfl rfl hl.1 rfl (lv_room (Nat.le_of_ble_eq_true rfl)) dX6_quotientOf_2_32 ⟨Nat.le_of_ble_eq_true rfl, Nat.le_of_ble_eq_true rfl⟩) ?_
          refine lv_if_eq (tgt := 44) hx hb dX6_quotientOf_2_35 (by decide) (fun c6 => ?_) (fun c6 => ?_)
          · replace hjx1 := pf_t (P := PJx1) c6 hjx1
            replace hox1 := hox1.1 c6
            refine lv_dload_n hx hb dX6_quotientOf_2_44 rfl (lv_at hl 0 rfl) ?_
            refine lv_dload_n hx hb dX6_quotientOf_2_45 rfl (lv_at hl 1 rfl) ?_
            refine lv_ddiv hx hb dX6_quotientOf_2_46 hox1 ?_
            exact (hPJx1 _).1 hjx1 _ (lv_sub hl [] rfl)
          · replace hjx1 := pf_f (P := PJx1) c6 hjx1
            refine lv_ldc2d (v := 9221120237041090560) hx hb hown (hts _ q1381) dX6_quotientOf_2_38 ?_
            refine lv_goto (tgt := 47) hx hb dX6_quotientOf_2_41 (by decide) ?_
            exact (hPJx1 _).1 hjx1 _ (lv_sub hl [] rfl)
      · replace hjx1 := pf_t (P := PJx1) c4 hjx1
        replace hox1 := hox1.1 c4
        refine lv_dload_n hx hb dX6_quotientOf_2_18 rfl (lv_at hl 1 rfl) ?_
        refine lv_dconst0 hx hb dX6_quotientOf_2_19 ?_
        refine lx_dleq (tgt := 38) hx hb dX6_quotientOf_2_20 dX6_quotientOf_2_21 (by decide) (fun c7 => ?_) (fun c7 => ?_)
        · replace hjx1 := pf_t (P := PJx1) c7 hjx1
          refine lv_ldc2d (v := 9221120237041090560) hx hb hown (hts _ q1381) dX6_quotientOf_2_38 ?_
          refine lv_goto (tgt := 47) hx hb dX6_quotientOf_2_41 (by decide) ?_
          exact (hPJx1 _).1 hjx1 _ (lv_sub hl [] rfl)
        · replace hjx1 := pf_f (P := PJx1) c7 hjx1
          replace hox1 := hox1.2 c7
          refine lv_dload_n hx hb dX6_quotientOf_2_24 rfl (lv_at hl 0 rfl) ?_
          refine cSi (v := fX6_endless_2 p0) (W.runS (As := [.double p0]) (rest := []) ⟨hx, hb, hml, hown, hts⟩ (mX6_endless_2 l D TY p0 (fun r => r = fX6_endless_2 p0) rfl) (va_cwS 1 hts (lw_S q1386 q1387 q50 q1388) rfl rfl rfl hd_X6_endless_2 ⟨Nat.le_of_ble_eq_true rfl, Nat.le_of_ble_eq_true rfl⟩) (PR.S hP [] rfl hK hG hS) rfl rfl hl.1 rfl (lv_room (Nat.le_of_ble_eq_true rfl)) dX6_quotientOf_2_25 ⟨Nat.le_of_ble_eq_true rfl, Nat.le_of_ble_eq_true rfl⟩) ?_
          refine lv_if_eq (tgt := 44) hx hb dX6_quotientOf_2_28 (by decide) (fun c8 => ?_) (fun c8 => ?_)
          · replace hjx1 := pf_t (P := PJx1) c8 hjx1
            replace hox1 := hox1.1 c8
            refine lv_dload_n hx hb dX6_quotientOf_2_44 rfl (lv_at hl 0 rfl) ?_
            refine lv_dload_n hx hb dX6_quotientOf_2_45 rfl (lv_at hl 1 rfl) ?_
            refine lv_ddiv hx hb dX6_quotientOf_2_46 hox1 ?_
            exact (hPJx1 _).1 hjx1 _ (lv_sub hl [] rfl)
          · replace hjx1 := pf_f (P := PJx1) c8 hjx1
            replace hox1 := hox1.2 c8
            refine lv_dload_n hx hb dX6_quotientOf_2_31 rfl (lv_at hl 1 rfl) ?_
            refine cSi (v := fX6_endless_2 p2) (W.runS (As := [.double p2]) (rest := []) ⟨hx, hb, hml, hown, hts⟩ (mX6_endless_2 l D TY p2 (fun r => r = fX6_endless_2 p2) rfl) (va_cwS 1 hts (lw_S q1386 q1387 q50 q1388) rfl rfl rfl hd_X6_endless_2 ⟨Nat.le_of_ble_eq_true rfl, Nat.le_of_ble_eq_true rfl⟩) (PR.S hP [] rfl hK hG hS) rfl rfl hl.1 rfl (lv_room (Nat.le_of_ble_eq_true rfl)) dX6_quotientOf_2_32 ⟨Nat.le_of_ble_eq_true rfl, Nat.le_of_ble_eq_true rfl⟩) ?_
            refine lv_if_eq (tgt := 44) hx hb dX6_quotientOf_2_35 (by decide) (fun c9 => ?_) (fun c9 => ?_)
            · replace hjx1 := pf_t (P := PJx1) c9 hjx1
              replace hox1 := hox1.1 c9
              refine lv_dload_n hx hb dX6_quotientOf_2_44 rfl (lv_at hl 0 rfl) ?_
              refine lv_dload_n hx hb dX6_quotientOf_2_45 rfl (lv_at hl 1 rfl) ?_
              refine lv_ddiv hx hb dX6_quotientOf_2_46 hox1 ?_
              exact (hPJx1 _).1 hjx1 _ (lv_sub hl [] rfl)
            · replace hjx1 := pf_f (P := PJx1) c9 hjx1
              refine lv_ldc2d (v := 9221120237041090560) hx hb hown (hts _ q1381) dX6_quotientOf_2_38 ?_
              refine lv_goto (tgt := 47) hx hb dX6_quotientOf_2_41 (by decide) ?_
              exact (hPJx1 _).1 hjx1 _ (lv_sub hl [] rfl)

def fX6_restOf_2 (p0 : UInt64) (p2 : UInt64) : UInt64 := lt_ (if Deq p0 p0 then (if Deq p2 p2 then (if (fX6_endless_2 p0) = 0 then (if Deq p2 FP.dconst0 then 9221120237041090560 else (FP.drem p0 p2)) else 9221120237041090560) else 9221120237041090560) else 9221120237041090560) (fun x1 : UInt64 => x1)
def oX6_restOf_2 (p0 : UInt64) (p2 : UInt64) : Prop := ((Deq p0 p0) → ((Deq p2 p2) → (((fX6_endless_2 p0) = 0) → ((Deq p2 FP.dconst0) → True) ∧ (¬ (Deq p2 FP.dconst0) → (vf_n64 (FP.drem p0 p2)))) ∧ (¬ ((fX6_endless_2 p0) = 0) → True)) ∧ (¬ (Deq p2 p2) → True)) ∧ (¬ (Deq p0 p0) → True)
set_option maxHeartbeats 4000000 in
set_option maxRecDepth 100000 in
theorem mX6_restOf_2 (l : Launch) (D : va_G) (TY : Nat → ClassId) (p0 : UInt64) (p2 : UInt64) (post : UInt64 → Prop) (hw : post (fX6_restOf_2 p0 p2)) (hok : oX6_restOf_2 p0 p2) : Met l yX6_restOf_2 (ws_ yX6_restOf_2 cX6_restOf_2 4 (Option.some Jvm.ClassFile.FieldType.double)) ({ frames := 1, cells := 0, slots := 0, locals := 21 }) (PR D TY [.double p0, .double p2] []) (vp_Sd post) 0 0 (fun _ => False) := by
  refine ofWF (cc := cX6_restOf_2) (maxL := 4) (ret := (Option.some Jvm.ClassFile.FieldType.double)) (plainFor_of_name (by decide)) rfl ?_
  intro p e s m args below meth c s₁ B hml hv
  obtain ⟨rfl, hP, hK, hG⟩ := hv
  have hx := B.exec
  have hb := B.bytes
  have hr := B.returns
  have hts0 := atoms_spec (ws := ws_ yX6_restOf_2 cX6_restOf_2 4 (Option.some Jvm.ClassFile.FieldType.double)) B.pre
  have hts : ∀ w ∈ lw_all, w.before _ s = true := fun w h => hts0 w (List.mem_cons_of_mem _ h)
  have hown : s.vm.findClass RX6 = some m.cls := findClass_of_methodNamed B.named
  have hlocks := B.notSynchronized
  have hS : va_S (fun _ => False) s.heap s.heap [] := va_S.rf
  have hl := lv_entry ([.double p0, .double p2]) (n := 4) (Nat.le_of_ble_eq_true rfl)
  rw [lg_entry_eq]
  generalize (lg_sl ([.double p0, .double p2]) ++ List.replicate (4 - (lg_sl ([.double p0, .double p2])).length) Slot.unset).toArray = ls at hl ⊢
  have hl : lv_has ls 4 [(0, .double p0), (2, .double p2)] := hl
  unfold fX6_restOf_2 at hw
  unfold oX6_restOf_2 at hok
  refine lv_dload_n hx hb dX6_restOf_2_0 rfl (lv_at hl 0 rfl) ?_
  refine lv_dload_n hx hb dX6_restOf_2_1 rfl (lv_at hl 0 rfl) ?_
  obtain ⟨PJx1, hPJx1⟩ : ∃ P : UInt64 → Prop, ∀ x1 : UInt64, P x1 ↔ ∀ ls : Array Slot, lv_has ls 4 [] → W p l e (headSpec (ws_ yX6_restOf_2 cX6_restOf_2 4 (Option.some Jvm.ClassFile.FieldType.double)) ({ frames := 1, cells := 0, slots := 0, locals := 21 })).room s m ([.double p0, .double p2] : List Value).toArray below meth c s.heap ([]) 0 0 (MQ below (vp_Sd post) ([.double p0, .double p2] : List Value).toArray s 0 0 (fun _ => False)) (F0 m 34 ls [.double x1]) := ⟨_, fun _ => Iff.rfl⟩
  have hox1 := hok
  have hjx1 : ∀ x1 : UInt64, x1 = (if Deq p0 p0 then (if Deq p2 p2 then (if (fX6_endless_2 p0) = 0 then (if Deq p2 FP.dconst0 then 9221120237041090560 else (FP.drem p0 p2)) else 9221120237041090560) else 9221120237041090560) else 9221120237041090560) → PJx1 x1 := by
    intro x1 ex1
    rw [hPJx1]
    intro ls hl
    replace hw := pf_let (P := post) hw x1 ex1
    exact W.dret (v := x1) hx hb hr (fun t ht hW => ⟨_, rfl, hw, ht⟩) (fun q h => nomatch h) dX6_restOf_2_34
  replace hjx1 := hjx1 _ rfl
  refine lx_dlne (tgt := 25) hx hb dX6_restOf_2_2 dX6_restOf_2_3 (by decide) (fun c2 => ?_) (fun c2 => ?_)
  · replace hjx1 := pf_f (P := PJx1) c2 hjx1
    refine lv_ldc2d (v := 9221120237041090560) hx hb hown (hts _ q1381) dX6_restOf_2_25 ?_
    refine lv_goto (tgt := 34) hx hb dX6_restOf_2_28 (by decide) ?_
    exact (hPJx1 _).1 hjx1 _ (lv_sub hl [] rfl)
  · replace hjx1 := pf_t (P := PJx1) c2 hjx1
    replace hox1 := hox1.1 c2
    refine lv_dload_n hx hb dX6_restOf_2_6 rfl (lv_at hl 1 rfl) ?_
    refine lv_dload_n hx hb dX6_restOf_2_7 rfl (lv_at hl 1 rfl) ?_
    refine lx_dlne (tgt := 25) hx hb dX6_restOf_2_8 dX6_restOf_2_9 (by decide) (fun c3 => ?_) (fun c3 => ?_)
    · replace hjx1 := pf_f (P := PJx1) c3 hjx1
      refine lv_ldc2d (v := 9221120237041090560) hx hb hown (hts _ q1381) dX6_restOf_2_25 ?_
      refine lv_goto (tgt := 34) hx hb dX6_restOf_2_28 (by decide) ?_
      exact (hPJx1 _).1 hjx1 _ (lv_sub hl [] rfl)
    · replace hjx1 := pf_t (P := PJx1) c3 hjx1
      replace hox1 := hox1.1 c3
      refine lv_dload_n hx hb dX6_restOf_2_12 rfl (lv_at hl 0 rfl) ?_
      refine cSi (v := fX6_endless_2 p0) (W.runS (As := [.double p0]) (rest := []) ⟨hx, hb, hml, hown, hts⟩ (mX6_endless_2 l D TY p0 (fun r => r = fX6_endless_2 p0) rfl) (va_cwS 1 hts (lw_S q1386 q1387 q50 q1388) rfl rfl rfl hd_X6_endless_2 ⟨Nat.le_of_ble_eq_true rfl, Nat.le_of_ble_eq_true rfl⟩) (PR.S hP [] rfl hK hG hS) rfl rfl hl.1 rfl (lv_room (Nat.le_of_ble_eq_true rfl)) dX6_restOf_2_13 ⟨Nat.le_of_ble_eq_true rfl, Nat.le_of_ble_eq_true rfl⟩) ?_
      refine lv_if_ne (tgt := 25) hx hb dX6_restOf_2_16 (by decide) (fun c4 => ?_) (fun c4 => ?_)
      · replace hjx1 := pf_f (P := PJx1) c4 hjx1
        refine lv_ldc2d (v := 9221120237041090560) hx hb hown (hts _ q1381) dX6_restOf_2_25 ?_
        refine lv_goto (tgt := 34) hx hb dX6_restOf_2_28 (by decide) ?_
        exact (hPJx1 _).1 hjx1 _ (lv_sub hl [] rfl)
      · replace hjx1 := pf_t (P := PJx1) c4 hjx1
        replace hox1 := hox1.1 c4
        refine lv_dload_n hx hb dX6_restOf_2_19 rfl (lv_at hl 1 rfl) ?_
        refine lv_dconst0 hx hb dX6_restOf_2_20 ?_
        refine lx_dlne (tgt := 31) hx hb dX6_restOf_2_21 dX6_restOf_2_22 (by decide) (fun c5 => ?_) (fun c5 => ?_)
        · replace hjx1 := pf_f (P := PJx1) c5 hjx1
          replace hox1 := hox1.2 c5
          refine lv_dload_n hx hb dX6_restOf_2_31 rfl (lv_at hl 0 rfl) ?_
          refine lv_dload_n hx hb dX6_restOf_2_32 rfl (lv_at hl 1 rfl) ?_
          refine lv_drem hx hb dX6_restOf_2_33 hox1 ?_
          exact (hPJx1 _).1 hjx1 _ (lv_sub hl [] rfl)
        · replace hjx1 := pf_t (P := PJx1) c5 hjx1
          refine lv_ldc2d (v := 9221120237041090560) hx hb hown (hts _ q1381) dX6_restOf_2_25 ?_
          refine lv_goto (tgt := 34) hx hb dX6_restOf_2_28 (by decide) ?_
          exact (hPJx1 _).1 hjx1 _ (lv_sub hl [] rfl)

def wX6_lengthOf_2 (p0 : Int64)  (post : Int32 → Prop) : Nat → Int32 → Prop
  | 0, _ => False
  | n + 1, y2 => ((63 ≤ y2) → post y2) ∧ (¬ (63 ≤ y2) → (((jushr p0 y2) = 0) → post y2) ∧ (¬ ((jushr p0 y2) = 0) → ∀ x3 : Int32, x3 = y2 + 1 → ((wX6_lengthOf_2 p0 post n) x3)))
def wX6_lengthOf (p0 : Int64) (post : Int32 → Prop) : Prop := ∃ n, wX6_lengthOf_2 p0 post n 0
set_option maxHeartbeats 4000000 in
set_option maxRecDepth 100000 in
theorem bX6_lengthOf_2 {p : Program} {l : Launch} {e : Env} {s : State} {m : MethodId} {below : List Frame} {meth : Method} {c : Code} {D : va_G} {TY : Nat → ClassId} (p0 : Int64) (post : Int32 → Prop) (hx : p.tables.exec = Jvm.exec) (hb : c.code = cX6_lengthOf) (hr : meth.sig.returnType = (Option.some Jvm.ClassFile.FieldType.int)) (hlocks : meth.locks = false) (hml : c.maxLocals = 3) (hown : s.vm.findClass RX6 = some m.cls) (hts : ∀ w ∈ lw_all, w.before ([.long p0] : List Value).toArray s = true) (hK : va_K D vwCl (tyL TY) s) (hG : gz (fun _ => False) s s.heap) (hS : va_S (fun _ => False) s.heap s.heap []) (hP : va_P D vwCl [] s.heap) : ∀ (n : Nat) (y2 : Int32), wX6_lengthOf_2 p0 post n y2 → ∀ ls : Array Slot, lv_has ls 3 [(0, .long p0), (2, .int y2)] → W p l e (headSpec (ws_ yX6_lengthOf cX6_lengthOf 3 (Option.some Jvm.ClassFile.FieldType.int)) ({ frames := 0, cells := 0, slots := 0, locals := 0 })).room s m ([.long p0] : List Value).toArray below meth c s.heap ([]) 0 0 (MQ below (vp_Si post) ([.long p0] : List Value).toArray s 0 0 (fun _ => False)) (F0 m 2 ls []) := by
  intro n
  induction n with
  | zero => intro _ h; exact h.elim
  | succ n ih =>
    intro y2 hw
    unfold wX6_lengthOf_2 at hw
    intro ls hl
    refine lv_iload_n hx hb dX6_lengthOf_2 rfl (lv_at hl 1 rfl) ?_
    refine lv_bipush (v := 63) hx hb dX6_lengthOf_3 (by decide) ?_
    refine lv_icmp_ge (tgt := 22) hx hb dX6_lengthOf_5 (by decide) (fun c1 => ?_) (fun c1 => ?_)
    · replace hw := hw.1 c1
      refine lv_iload_n hx hb dX6_lengthOf_22 rfl (lv_at hl 1 rfl) ?_
      exact W.iret (v := y2) hx hb hr (fun t ht hW => ⟨_, rfl, hw, ht⟩) (fun q h => nomatch h) dX6_lengthOf_23
    · replace hw := hw.2 c1
      refine lv_lload_n hx hb dX6_lengthOf_8 rfl (lv_at hl 0 rfl) ?_
      refine lv_iload_n hx hb dX6_lengthOf_9 rfl (lv_at hl 1 rfl) ?_
      refine lv_lushr (v := jushr p0 y2) hx hb dX6_lengthOf_10 rfl ?_
      refine lv_lconst (v := 0) hx hb dX6_lengthOf_11 (by decide) ?_
      refine lx_leq (tgt := 22) hx hb dX6_lengthOf_12 dX6_lengthOf_13 (by decide) (fun c2 => ?_) (fun c2 => ?_)
      · replace hw := hw.1 c2
        refine lv_iload_n hx hb dX6_lengthOf_22 rfl (lv_at hl 1 rfl) ?_
        exact W.iret (v := y2) hx hb hr (fun t ht hW => ⟨_, rfl, hw, ht⟩) (fun q h => nomatch h) dX6_lengthOf_23
      · replace hw := hw.2 c2
        obtain ⟨x3, ex3⟩ : ∃ y : Int32, y = y2 + 1 := ⟨_, rfl⟩
        refine lv_iinc (v := x3) (lv' := [(2, .int x3), (0, .long p0)]) hx hb dX6_lengthOf_16 hl (k := 1) rfl (by rw [ex3]; rfl) (by decide) rfl (fun ls hl => ?_)
        replace hw := hw x3 ex3
        refine lv_goto (tgt := 2) hx hb dX6_lengthOf_19 (by decide) ?_
        exact ih x3 hw _ (lv_sub hl [1, 0] rfl)
set_option maxHeartbeats 4000000 in
set_option maxRecDepth 100000 in
theorem mX6_lengthOf (l : Launch) (D : va_G) (TY : Nat → ClassId) (p0 : Int64) (post : Int32 → Prop) (hw : wX6_lengthOf p0 post) : Met l yX6_lengthOf (ws_ yX6_lengthOf cX6_lengthOf 3 (Option.some Jvm.ClassFile.FieldType.int)) ({ frames := 0, cells := 0, slots := 0, locals := 0 }) (PR D TY [.long p0] []) (vp_Si post) 0 0 (fun _ => False) := by
  refine ofWF (cc := cX6_lengthOf) (maxL := 3) (ret := (Option.some Jvm.ClassFile.FieldType.int)) (plainFor_of_name (by decide)) rfl ?_
  intro p e s m args below meth c s₁ B hml hv
  obtain ⟨rfl, hP, hK, hG⟩ := hv
  have hx := B.exec
  have hb := B.bytes
  have hr := B.returns
  have hts0 := atoms_spec (ws := ws_ yX6_lengthOf cX6_lengthOf 3 (Option.some Jvm.ClassFile.FieldType.int)) B.pre
  have hts : ∀ w ∈ lw_all, w.before _ s = true := fun w h => hts0 w (List.mem_cons_of_mem _ h)
  have hown : s.vm.findClass RX6 = some m.cls := findClass_of_methodNamed B.named
  have hlocks := B.notSynchronized
  have hS : va_S (fun _ => False) s.heap s.heap [] := va_S.rf
  have hl := lv_entry ([.long p0]) (n := 3) (Nat.le_of_ble_eq_true rfl)
  rw [lg_entry_eq]
  generalize (lg_sl ([.long p0]) ++ List.replicate (3 - (lg_sl ([.long p0])).length) Slot.unset).toArray = ls at hl ⊢
  have hl : lv_has ls 3 [(0, .long p0)] := hl
  unfold wX6_lengthOf at hw
  refine lv_iconst (v := 0) hx hb dX6_lengthOf_0 (by decide) ?_
  refine lv_istore_n (lv' := [(2, .int 0), (0, .long p0)]) hx hb dX6_lengthOf_1 rfl hl (by decide) rfl (fun ls hl => ?_)
  obtain ⟨n1, hw⟩ := hw
  exact bX6_lengthOf_2 p0 post  hx hb hr hlocks hml hown hts hK hG hS hP n1 0 hw _ (lv_sub hl [1, 0] rfl)

def fX6_isRow (p0 : Int32) : Int32 := lt_ (if p0 < 0 then 0 else (if 8 ≤ p0 then 0 else 1)) (fun x1 : Int32 => x1)
theorem zb_fX6_isRow (p0 : Int32) : Zb (fX6_isRow p0) := by
  unfold fX6_isRow
  exact (zb_ite rfl (zb_ite rfl rfl))
set_option maxHeartbeats 4000000 in
set_option maxRecDepth 100000 in
theorem mX6_isRow (l : Launch) (D : va_G) (TY : Nat → ClassId) (p0 : Int32) (post : Int32 → Prop) (hw : post (fX6_isRow p0)) : Met l yX6_isRow (ws_ yX6_isRow cX6_isRow 1 (Option.some Jvm.ClassFile.FieldType.boolean)) ({ frames := 0, cells := 0, slots := 0, locals := 0 }) (PR D TY [.int p0] []) (vp_Si post) 0 0 (fun _ => False) := by
  refine ofWF (cc := cX6_isRow) (maxL := 1) (ret := (Option.some Jvm.ClassFile.FieldType.boolean)) (plainFor_of_name (by decide)) rfl ?_
  intro p e s m args below meth c s₁ B hml hv
  obtain ⟨rfl, hP, hK, hG⟩ := hv
  have hx := B.exec
  have hb := B.bytes
  have hr := B.returns
  have hts0 := atoms_spec (ws := ws_ yX6_isRow cX6_isRow 1 (Option.some Jvm.ClassFile.FieldType.boolean)) B.pre
  have hts : ∀ w ∈ lw_all, w.before _ s = true := fun w h => hts0 w (List.mem_cons_of_mem _ h)
  have hown : s.vm.findClass RX6 = some m.cls := findClass_of_methodNamed B.named
  have hlocks := B.notSynchronized
  have hS : va_S (fun _ => False) s.heap s.heap [] := va_S.rf
  have hl := lv_entry ([.int p0]) (n := 1) (Nat.le_of_ble_eq_true rfl)
  rw [lg_entry_eq]
  generalize (lg_sl ([.int p0]) ++ List.replicate (1 - (lg_sl ([.int p0])).length) Slot.unset).toArray = ls at hl ⊢
  have hl : lv_has ls 1 [(0, .int p0)] := hl
  unfold fX6_isRow at hw
  refine lv_iload_n hx hb dX6_isRow_0 rfl (lv_at hl 0 rfl) ?_
  obtain ⟨PJx1, hPJx1⟩ : ∃ P : Int32 → Prop, ∀ x1 : Int32, P x1 ↔ ∀ ls : Array Slot, lv_has ls 1 [] → W p l e (headSpec (ws_ yX6_isRow cX6_isRow 1 (Option.some Jvm.ClassFile.FieldType.boolean)) ({ frames := 0, cells := 0, slots := 0, locals := 0 })).room s m ([.int p0] : List Value).toArray below meth c s.heap ([]) 0 0 (MQ below (vp_Si post) ([.int p0] : List Value).toArray s 0 0 (fun _ => False)) (F0 m 15 ls [.int x1]) := ⟨_, fun _ => Iff.rfl⟩
  have hjx1 : ∀ x1 : Int32, x1 = (if p0 < 0 then 0 else (if 8 ≤ p0 then 0 else 1)) → PJx1 x1 := by
    intro x1 ex1
    rw [hPJx1]
    intro ls hl
    replace hw := pf_let (P := post) hw x1 ex1
    exact W.zret (v := x1) hx hb hr (by rw [ex1]; exact (zb_ite rfl (zb_ite rfl rfl))) (fun t ht hW => ⟨_, rfl, hw, ht⟩) (fun q h => nomatch h) dX6_isRow_15
  replace hjx1 := hjx1 _ rfl
  refine lv_if_lt (tgt := 14) hx hb dX6_isRow_1 (by decide) (fun c2 => ?_) (fun c2 => ?_)
  · replace hjx1 := pf_t (P := PJx1) c2 hjx1
    refine lv_iconst (v := 0) hx hb dX6_isRow_14 (by decide) ?_
    exact (hPJx1 _).1 hjx1 _ (lv_sub hl [] rfl)
  · replace hjx1 := pf_f (P := PJx1) c2 hjx1
    refine lv_iload_n hx hb dX6_isRow_4 rfl (lv_at hl 0 rfl) ?_
    refine lv_bipush (v := 8) hx hb dX6_isRow_5 (by decide) ?_
    refine lv_icmp_ge (tgt := 14) hx hb dX6_isRow_7 (by decide) (fun c3 => ?_) (fun c3 => ?_)
    · replace hjx1 := pf_t (P := PJx1) c3 hjx1
      refine lv_iconst (v := 0) hx hb dX6_isRow_14 (by decide) ?_
      exact (hPJx1 _).1 hjx1 _ (lv_sub hl [] rfl)
    · replace hjx1 := pf_f (P := PJx1) c3 hjx1
      refine lv_iconst (v := 1) hx hb dX6_isRow_10 (by decide) ?_
      refine lv_goto (tgt := 15) hx hb dX6_isRow_11 (by decide) ?_
      exact (hPJx1 _).1 hjx1 _ (lv_sub hl [] rfl)

theorem hd_J0_isNaN : yJ0_isNaN.cls ≠ "java/lang/invoke/MethodHandle" ∧ yJ0_isNaN.cls ≠ "java/lang/invoke/VarHandle" ∧ (parseMethodDescriptor yJ0_isNaN.desc).map (fun d => d.parameters.length) = some 1 := by decide +kernel
def fJ0_doubleToLongBits (p0 : UInt64) : Int64 := if (fJ0_isNaN p0) = 0 then p0.toInt64 else 9221120237041090560
set_option maxHeartbeats 4000000 in
set_option maxRecDepth 100000 in
theorem mJ0_doubleToLongBits (l : Launch) (D : va_G) (TY : Nat → ClassId) (p0 : UInt64) (post : Int64 → Prop) (hw : post (fJ0_doubleToLongBits p0)) : Met l yJ0_doubleToLongBits (ws_ yJ0_doubleToLongBits cJ0_doubleToLongBits 2 (Option.some Jvm.ClassFile.FieldType.long)) ({ frames := 1, cells := 0, slots := 0, locals := 21 }) (PR D TY [.double p0] []) (vp_Sl post) 0 0 (fun _ => False) := by
  refine ofWF (cc := cJ0_doubleToLongBits) (maxL := 2) (ret := (Option.some Jvm.ClassFile.FieldType.long)) (by decide +kernel) rfl ?_
  intro p e s m args below meth c s₁ B hml hv
  obtain ⟨rfl, hP, hK, hG⟩ := hv
  have hx := B.exec
  have hb := B.bytes
  have hr := B.returns
  have hts0 := atoms_spec (ws := ws_ yJ0_doubleToLongBits cJ0_doubleToLongBits 2 (Option.some Jvm.ClassFile.FieldType.long)) B.pre
  have hts : ∀ w ∈ lw_all, w.before _ s = true := fun w h => hts0 w (List.mem_cons_of_mem _ h)
  have hown : s.vm.findClass RJ0 = some m.cls := findClass_of_methodNamed B.named
  have hlocks := B.notSynchronized
  have hS : va_S (fun _ => False) s.heap s.heap [] := va_S.rf
  have hl := lv_entry ([.double p0]) (n := 2) (Nat.le_of_ble_eq_true rfl)
  rw [lg_entry_eq]
  generalize (lg_sl ([.double p0]) ++ List.replicate (2 - (lg_sl ([.double p0])).length) Slot.unset).toArray = ls at hl ⊢
  have hl : lv_has ls 2 [(0, .double p0)] := hl
  unfold fJ0_doubleToLongBits at hw
  refine lv_dload_n hx hb dJ0_doubleToLongBits_0 rfl (lv_at hl 0 rfl) ?_
  refine cSi (v := fJ0_isNaN p0) (W.runS (As := [.double p0]) (rest := []) ⟨hx, hb, hml, hown, hts⟩ (mJ0_isNaN l D TY p0 (fun r => r = fJ0_isNaN p0) rfl) (va_cwS 1 hts (lw_S q278 q279 q52 q280) rfl rfl rfl hd_J0_isNaN ⟨Nat.le_of_ble_eq_true rfl, Nat.le_of_ble_eq_true rfl⟩) (PR.S hP [] rfl hK hG hS) rfl rfl hl.1 rfl (lv_room (Nat.le_of_ble_eq_true rfl)) dJ0_doubleToLongBits_1 ⟨Nat.le_of_ble_eq_true rfl, Nat.le_of_ble_eq_true rfl⟩) ?_
  refine lv_if_ne (tgt := 12) hx hb dJ0_doubleToLongBits_4 (by decide) (fun c1 => ?_) (fun c1 => ?_)
  · replace hw := pf_f (P := post) c1 hw
    refine lv_ldc2 (v := 9221120237041090560) hx hb hown (hts _ q282) dJ0_doubleToLongBits_12 ?_
    exact W.lret (v := 9221120237041090560) hx hb hr (fun t ht hW => ⟨_, rfl, hw, ht⟩) (fun q h => nomatch h) dJ0_doubleToLongBits_15
  · replace hw := pf_t (P := post) c1 hw
    refine lv_dload_n hx hb dJ0_doubleToLongBits_7 rfl (lv_at hl 0 rfl) ?_
    refine vn_d2l hx hb (hml.trans hl.1.symm) hown (hts _ q281) (hts _ q157) (hts _ q156) (hts _ q52) (Nat.le_of_ble_eq_true rfl) (Nat.le_of_ble_eq_true rfl) dJ0_doubleToLongBits_8 ?_
    exact W.lret (v := p0.toInt64) hx hb hr (fun t ht hW => ⟨_, rfl, hw, ht⟩) (fun q h => nomatch h) dJ0_doubleToLongBits_11

theorem hd_J1_isNaN : yJ1_isNaN.cls ≠ "java/lang/invoke/MethodHandle" ∧ yJ1_isNaN.cls ≠ "java/lang/invoke/VarHandle" ∧ (parseMethodDescriptor yJ1_isNaN.desc).map (fun d => d.parameters.length) = some 1 := by decide +kernel
def fJ1_floatToIntBits (p0 : UInt32) : Int32 := if (fJ1_isNaN p0) = 0 then p0.toInt32 else 2143289344
set_option maxHeartbeats 4000000 in
set_option maxRecDepth 100000 in
theorem mJ1_floatToIntBits (l : Launch) (D : va_G) (TY : Nat → ClassId) (p0 : UInt32) (post : Int32 → Prop) (hw : post (fJ1_floatToIntBits p0)) : Met l yJ1_floatToIntBits (ws_ yJ1_floatToIntBits cJ1_floatToIntBits 1 (Option.some Jvm.ClassFile.FieldType.int)) ({ frames := 1, cells := 0, slots := 0, locals := 20 }) (PR D TY [.float p0] []) (vp_Si post) 0 0 (fun _ => False) := by
  refine ofWF (cc := cJ1_floatToIntBits) (maxL := 1) (ret := (Option.some Jvm.ClassFile.FieldType.int)) (by decide +kernel) rfl ?_
  intro p e s m args below meth c s₁ B hml hv
  obtain ⟨rfl, hP, hK, hG⟩ := hv
  have hx := B.exec
  have hb := B.bytes
  have hr := B.returns
  have hts0 := atoms_spec (ws := ws_ yJ1_floatToIntBits cJ1_floatToIntBits 1 (Option.some Jvm.ClassFile.FieldType.int)) B.pre
  have hts : ∀ w ∈ lw_all, w.before _ s = true := fun w h => hts0 w (List.mem_cons_of_mem _ h)
  have hown : s.vm.findClass RJ1 = some m.cls := findClass_of_methodNamed B.named
  have hlocks := B.notSynchronized
  have hS : va_S (fun _ => False) s.heap s.heap [] := va_S.rf
  have hl := lv_entry ([.float p0]) (n := 1) (Nat.le_of_ble_eq_true rfl)
  rw [lg_entry_eq]
  generalize (lg_sl ([.float p0]) ++ List.replicate (1 - (lg_sl ([.float p0])).length) Slot.unset).toArray = ls at hl ⊢
  have hl : lv_has ls 1 [(0, .float p0)] := hl
  unfold fJ1_floatToIntBits at hw
  refine lv_fload_n hx hb dJ1_floatToIntBits_0 rfl (lv_at hl 0 rfl) ?_
  refine cSi (v := fJ1_isNaN p0) (W.runS (As := [.float p0]) (rest := []) ⟨hx, hb, hml, hown, hts⟩ (mJ1_isNaN l D TY p0 (fun r => r = fJ1_isNaN p0) rfl) (va_cwS 1 hts (lw_S q292 q293 q53 q294) rfl rfl rfl hd_J1_isNaN ⟨Nat.le_of_ble_eq_true rfl, Nat.le_of_ble_eq_true rfl⟩) (PR.S hP [] rfl hK hG hS) rfl rfl hl.1 rfl (lv_room (Nat.le_of_ble_eq_true rfl)) dJ1_floatToIntBits_1 ⟨Nat.le_of_ble_eq_true rfl, Nat.le_of_ble_eq_true rfl⟩) ?_
  refine lv_if_ne (tgt := 12) hx hb dJ1_floatToIntBits_4 (by decide) (fun c1 => ?_) (fun c1 => ?_)
  · replace hw := pf_f (P := post) c1 hw
    refine lv_ldc (v := 2143289344) hx hb hown (hts _ q298) dJ1_floatToIntBits_12 ?_
    exact W.iret (v := 2143289344) hx hb hr (fun t ht hW => ⟨_, rfl, hw, ht⟩) (fun q h => nomatch h) dJ1_floatToIntBits_14
  · replace hw := pf_t (P := post) c1 hw
    refine lv_fload_n hx hb dJ1_floatToIntBits_7 rfl (lv_at hl 0 rfl) ?_
    refine vn_f2i hx hb (hml.trans hl.1.symm) hown (hts _ q295) (hts _ q297) (hts _ q296) (hts _ q53) (Nat.le_of_ble_eq_true rfl) (Nat.le_of_ble_eq_true rfl) dJ1_floatToIntBits_8 ?_
    exact W.iret (v := p0.toInt32) hx hb hr (fun t ht hW => ⟨_, rfl, hw, ht⟩) (fun q h => nomatch h) dJ1_floatToIntBits_11

def wJ2_scalb_93   (post : UInt64 → Prop) : Nat → UInt64 → Int32 → Int32 → UInt64 → Prop
  | 0, _, _, _, _ => False
  | n + 1, y0, y2, y5, y6 => ((y2 = 0) → post y0) ∧ (¬ (y2 = 0) → (vf_n64 (FP.dmul y0 y6)) ∧ (∀ x2 : UInt64, x2 = FP.dmul y0 y6 → ∀ x3 : Int32, x3 = y2 - y5 → ((wJ2_scalb_93 post n) x2 x3 y5 y6)))
def wJ2_scalb (p0 : UInt64) (p2 : Int32) (post : UInt64 → Prop) : Prop := (∀ x1 : Int32 × Int32 × UInt64, x1 = (if 0 ≤ p2 then (lt_ (fJ2_min p2 2099) (fun x3 : Int32 => (x3, 512, 6913025428013711360))) else (lt_ (fJ2_max p2 (-2099)) (fun x4 : Int32 => (x4, (-512), 2301339409586323456)))) → ∀ x5 : Int32, x5 = kushr (kshr x1.1 8) 23 → ∀ x6 : Int32, x6 = ((x1.1 + x5) &&& 511) - x5 → (oJ2_powerOfTwoD x6) ∧ ((vf_n64 (FP.dmul p0 (fJ2_powerOfTwoD x6))) ∧ (∀ x7 : UInt64, x7 = FP.dmul p0 (fJ2_powerOfTwoD x6) → ∀ x8 : Int32, x8 = x1.1 - x6 → ∃ n, wJ2_scalb_93 post n x7 x8 x1.2.1 x1.2.2)))
set_option maxHeartbeats 4000000 in
set_option maxRecDepth 100000 in
theorem bJ2_scalb_93 {p : Program} {l : Launch} {e : Env} {s : State} {m : MethodId} {below : List Frame} {meth : Method} {c : Code} {D : va_G} {TY : Nat → ClassId} (p0 : UInt64) (p2 : Int32) (post : UInt64 → Prop) (hx : p.tables.exec = Jvm.exec) (hb : c.code = cJ2_scalb) (hr : meth.sig.returnType = (Option.some Jvm.ClassFile.FieldType.double)) (hlocks : meth.locks = false) (hml : c.maxLocals = 9) (hown : s.vm.findClass RJ2 = some m.cls) (hts : ∀ w ∈ lw_all, w.before ([.double p0, .int p2] : List Value).toArray s = true) (hK : va_K D vwCl (tyL TY) s) (hG : gz (fun _ => False) s s.heap) (hS : va_S (fun _ => False) s.heap s.heap []) (hP : va_P D vwCl [] s.heap) : ∀ (n : Nat) (y0 : UInt64) (y2 : Int32) (y5 : Int32) (y6 : UInt64), wJ2_scalb_93 post n y0 y2 y5 y6 → ∀ ls : Array Slot, lv_has ls 9 [(0, .double y0), (2, .int y2), (5, .int y5), (6, .double y6)] → W p l e (headSpec (ws_ yJ2_scalb cJ2_scalb 9 (Option.some Jvm.ClassFile.FieldType.double)) ({ frames := 2, cells := 0, slots := 0, locals := 35 })).room s m ([.double p0, .int p2] : List Value).toArray below meth c s.heap ([]) 0 0 (MQ below (vp_Sd post) ([.double p0, .int p2] : List Value).toArray s 0 0 (fun _ => False)) (F0 m 93 ls []) := by
  intro n
  induction n with
  | zero => intro _ _ _ _ h; exact h.elim
  | succ n ih =>
    intro y0 y2 y5 y6 hw
    unfold wJ2_scalb_93 at hw
    intro ls hl
    refine lv_iload_n hx hb dJ2_scalb_93 rfl (lv_at hl 1 rfl) ?_
    refine lv_if_eq (tgt := 110) hx hb dJ2_scalb_94 (by decide) (fun c1 => ?_) (fun c1 => ?_)
    · replace hw := hw.1 c1
      refine lv_dload_n hx hb dJ2_scalb_110 rfl (lv_at hl 0 rfl) ?_
      exact W.dret (v := y0) hx hb hr (fun t ht hW => ⟨_, rfl, hw, ht⟩) (fun q h => nomatch h) dJ2_scalb_111
    · replace hw := hw.2 c1
      refine lv_dload_n hx hb dJ2_scalb_97 rfl (lv_at hl 0 rfl) ?_
      refine lv_dload hx hb dJ2_scalb_98 (lv_at hl 3 rfl) ?_
      refine lv_dmul hx hb dJ2_scalb_100 hw.1 ?_
      replace hw := hw.2
      refine lv_topd (fun x2 ex2 => ?_)
      replace hw := hw x2 ex2
      refine lv_dstore_n (lv' := [(0, .double x2), (2, .int y2), (5, .int y5), (6, .double y6)]) hx hb dJ2_scalb_101 rfl hl (by decide) rfl (fun ls hl => ?_)
      refine lv_iload_n hx hb dJ2_scalb_102 rfl (lv_at hl 1 rfl) ?_
      refine lv_iload hx hb dJ2_scalb_103 (lv_at hl 2 rfl) ?_
      refine lv_isub hx hb dJ2_scalb_105 ?_
      refine lv_topi (fun x3 ex3 => ?_)
      replace hw := hw x3 ex3
      refine lv_istore_n (lv' := [(2, .int x3), (0, .double x2), (5, .int y5), (6, .double y6)]) hx hb dJ2_scalb_106 rfl hl (by decide) rfl (fun ls hl => ?_)
      refine lv_goto (tgt := 93) hx hb dJ2_scalb_107 (by decide) ?_
      exact ih x2 x3 y5 y6 hw _ (lv_sub hl [1, 0, 2, 3] rfl)
set_option maxHeartbeats 4000000 in
set_option maxRecDepth 100000 in
theorem mJ2_scalb (l : Launch) (D : va_G) (TY : Nat → ClassId) (p0 : UInt64) (p2 : Int32) (post : UInt64 → Prop) (hw : wJ2_scalb p0 p2 post) : Met l yJ2_scalb (ws_ yJ2_scalb cJ2_scalb 9 (Option.some Jvm.ClassFile.FieldType.double)) ({ frames := 2, cells := 0, slots := 0, locals := 35 }) (PR D TY [.double p0, .int p2] []) (vp_Sd post) 0 0 (fun _ => False) := by
  refine ofWF (cc := cJ2_scalb) (maxL := 9) (ret := (Option.some Jvm.ClassFile.FieldType.double)) (by decide +kernel) rfl ?_
  intro p e s m args below meth c s₁ B hml hv
  obtain ⟨rfl, hP, hK, hG⟩ := hv
  have hx := B.exec
  have hb := B.bytes
  have hr := B.returns
  have hts0 := atoms_spec (ws := ws_ yJ2_scalb cJ2_scalb 9 (Option.some Jvm.ClassFile.FieldType.double)) B.pre
  have hts : ∀ w ∈ lw_all, w.before _ s = true := fun w h => hts0 w (List.mem_cons_of_mem _ h)
  have hown : s.vm.findClass RJ2 = some m.cls := findClass_of_methodNamed B.named
  have hlocks := B.notSynchronized
  have hS : va_S (fun _ => False) s.heap s.heap [] := va_S.rf
  have hl := lv_entry ([.double p0, .int p2]) (n := 9) (Nat.le_of_ble_eq_true rfl)
  rw [lg_entry_eq]
  generalize (lg_sl ([.double p0, .int p2]) ++ List.replicate (9 - (lg_sl ([.double p0, .int p2])).length) Slot.unset).toArray = ls at hl ⊢
  have hl : lv_has ls 9 [(0, .double p0), (2, .int p2)] := hl
  unfold wJ2_scalb at hw
  refine lv_sipush (v := 2099) hx hb dJ2_scalb_0 (by decide) ?_
  refine lv_istore_n (lv' := [(3, .int 2099), (0, .double p0), (2, .int p2)]) hx hb dJ2_scalb_3 rfl hl (by decide) rfl (fun ls hl => ?_)
  refine lv_iconst (v := 0) hx hb dJ2_scalb_4 (by decide) ?_
  refine lv_istore (lv' := [(4, .int 0), (3, .int 2099), (0, .double p0), (2, .int p2)]) hx hb dJ2_scalb_5 hl (by decide) rfl (fun ls hl => ?_)
  refine lv_iconst (v := 0) hx hb dJ2_scalb_7 (by decide) ?_
  refine lv_istore (lv' := [(5, .int 0), (4, .int 0), (3, .int 2099), (0, .double p0), (2, .int p2)]) hx hb dJ2_scalb_8 hl (by decide) rfl (fun ls hl => ?_)
  refine lv_ldc2d (v := 9221120237041090560) hx hb hown (hts _ q163) dJ2_scalb_10 ?_
  refine lv_dstore (lv' := [(6, .double 9221120237041090560), (5, .int 0), (4, .int 0), (3, .int 2099), (0, .double p0), (2, .int p2)]) hx hb dJ2_scalb_13 hl (by decide) rfl (fun ls hl => ?_)
  refine lv_iload_n hx hb dJ2_scalb_15 rfl (lv_at hl 5 rfl) ?_
  obtain ⟨PJx1, hPJx1⟩ : ∃ P : Int32 × Int32 × UInt64 → Prop, ∀ x1 : Int32 × Int32 × UInt64, P x1 ↔ ∀ ls : Array Slot, lv_has ls 9 [(0, .double p0), (2, .int x1.1), (5, .int x1.2.1), (6, .double x1.2.2)] → W p l e (headSpec (ws_ yJ2_scalb cJ2_scalb 9 (Option.some Jvm.ClassFile.FieldType.double)) ({ frames := 2, cells := 0, slots := 0, locals := 35 })).room s m ([.double p0, .int p2] : List Value).toArray below meth c s.heap ([]) 0 0 (MQ below (vp_Sd post) ([.double p0, .int p2] : List Value).toArray s 0 0 (fun _ => False)) (F0 m 58 ls []) := ⟨_, fun _ => Iff.rfl⟩
  have hjx1 : ∀ x1 : Int32 × Int32 × UInt64, x1 = (if 0 ≤ p2 then (lt_ (fJ2_min p2 2099) (fun x3 : Int32 => (x3, 512, 6913025428013711360))) else (lt_ (fJ2_max p2 (-2099)) (fun x4 : Int32 => (x4, (-512), 2301339409586323456)))) → PJx1 x1 := by
    intro x1 ex1
    rw [hPJx1]
    intro ls hl
    replace hw := hw x1 ex1
    refine lv_iload_n hx hb dJ2_scalb_58 rfl (lv_at hl 1 rfl) ?_
    refine lv_bipush (v := 8) hx hb dJ2_scalb_59 (by decide) ?_
    refine lv_ishr hx hb dJ2_scalb_61 ?_
    refine lv_bipush (v := 23) hx hb dJ2_scalb_62 (by decide) ?_
    refine lv_iushr (v := kushr (kshr x1.1 8) 23) hx hb dJ2_scalb_64 rfl ?_
    refine lv_topi (fun x5 ex5 => ?_)
    replace hw := hw x5 ex5
    refine lv_istore (lv' := [(8, .int x5), (0, .double p0), (2, .int x1.1), (5, .int x1.2.1), (6, .double x1.2.2)]) hx hb dJ2_scalb_65 hl (by decide) rfl (fun ls hl => ?_)
    refine lv_iload_n hx hb dJ2_scalb_67 rfl (lv_at hl 2 rfl) ?_
    refine lv_iload hx hb dJ2_scalb_68 (lv_at hl 0 rfl) ?_
    refine lv_iadd hx hb dJ2_scalb_70 ?_
    refine lv_sipush (v := 511) hx hb dJ2_scalb_71 (by decide) ?_
    refine lv_iand hx hb dJ2_scalb_74 ?_
    refine lv_iload hx hb dJ2_scalb_75 (lv_at hl 0 rfl) ?_
    refine lv_isub hx hb dJ2_scalb_77 ?_
    refine lv_topi (fun x6 ex6 => ?_)
    replace hw := hw x6 ex6
    refine lv_istore (lv' := [(4, .int x6), (8, .int x5), (0, .double p0), (2, .int x1.1), (5, .int x1.2.1), (6, .double x1.2.2)]) hx hb dJ2_scalb_78 hl (by decide) rfl (fun ls hl => ?_)
    refine lv_dload_n hx hb dJ2_scalb_80 rfl (lv_at hl 2 rfl) ?_
    refine lv_iload hx hb dJ2_scalb_81 (lv_at hl 0 rfl) ?_
    refine cSd (v := fJ2_powerOfTwoD x6) (W.runS (As := [.int x6]) (rest := [.double p0]) ⟨hx, hb, hml, hown, hts⟩ (mJ2_powerOfTwoD l D TY x6 (fun r => r = fJ2_powerOfTwoD x6) rfl hw.1) (va_cwS 1 hts (lw_S q174 q175 q54 q176) rfl rfl rfl hd_J2_powerOfTwoD ⟨Nat.le_of_ble_eq_true rfl, Nat.le_of_ble_eq_true rfl⟩) (PR.S hP [] rfl hK hG hS) rfl rfl hl.1 rfl (lv_room (Nat.le_of_ble_eq_true rfl)) dJ2_scalb_83 ⟨Nat.le_of_ble_eq_true rfl, Nat.le_of_ble_eq_true rfl⟩) ?_
    replace hw := hw.2
    refine lv_dmul hx hb dJ2_scalb_86 hw.1 ?_
    replace hw := hw.2
    refine lv_topd (fun x7 ex7 => ?_)
    replace hw := hw x7 ex7
    refine lv_dstore_n (lv' := [(0, .double x7), (4, .int x6), (8, .int x5), (2, .int x1.1), (5, .int x1.2.1), (6, .double x1.2.2)]) hx hb dJ2_scalb_87 rfl hl (by decide) rfl (fun ls hl => ?_)
    refine lv_iload_n hx hb dJ2_scalb_88 rfl (lv_at hl 3 rfl) ?_
    refine lv_iload hx hb dJ2_scalb_89 (lv_at hl 1 rfl) ?_
    refine lv_isub hx hb dJ2_scalb_91 ?_
    refine lv_topi (fun x8 ex8 => ?_)
    replace hw := hw x8 ex8
    refine lv_istore_n (lv' := [(2, .int x8), (0, .double x7), (4, .int x6), (8, .int x5), (5, .int x1.2.1), (6, .double x1.2.2)]) hx hb dJ2_scalb_92 rfl hl (by decide) rfl (fun ls hl => ?_)
    obtain ⟨n9, hw⟩ := hw
    exact bJ2_scalb_93 p0 p2 post  hx hb hr hlocks hml hown hts hK hG hS hP n9 x7 x8 x1.2.1 x1.2.2 hw _ (lv_sub hl [1, 0, 4, 5] rfl)
  replace hjx1 := hjx1 _ rfl
  refine lv_if_ge (tgt := 40) hx hb dJ2_scalb_16 (by decide) (fun c2 => ?_) (fun c2 => ?_)
  · replace hjx1 := pf_t (P := PJx1) c2 hjx1
    refine lv_iload_n hx hb dJ2_scalb_40 rfl (lv_at hl 5 rfl) ?_
    refine lv_sipush (v := 2099) hx hb dJ2_scalb_41 (by decide) ?_
    refine cSi (v := fJ2_min p2 2099) (W.runS (As := [.int p2, .int 2099]) (rest := []) ⟨hx, hb, hml, hown, hts⟩ (mJ2_min l D TY p2 2099 (fun r => r = fJ2_min p2 2099) rfl) (va_cwS 2 hts (lw_S q169 q170 q54 q171) rfl rfl rfl hd_J2_min ⟨Nat.le_of_ble_eq_true rfl, Nat.le_of_ble_eq_true rfl⟩) (PR.S hP [] rfl hK hG hS) rfl rfl hl.1 rfl (lv_room (Nat.le_of_ble_eq_true rfl)) dJ2_scalb_44 ⟨Nat.le_of_ble_eq_true rfl, Nat.le_of_ble_eq_true rfl⟩) ?_
    refine lv_topi (fun x3 ex3 => ?_)
    replace hjx1 := pf_let (P := PJx1) hjx1 x3 ex3
    refine lv_istore_n (lv' := [(2, .int x3), (6, .double 9221120237041090560), (5, .int 0), (4, .int 0), (3, .int 2099), (0, .double p0)]) hx hb dJ2_scalb_47 rfl hl (by decide) rfl (fun ls hl => ?_)
    refine lv_sipush (v := 512) hx hb dJ2_scalb_48 (by decide) ?_
    refine lv_istore (lv' := [(5, .int 512), (2, .int x3), (6, .double 9221120237041090560), (4, .int 0), (3, .int 2099), (0, .double p0)]) hx hb dJ2_scalb_51 hl (by decide) rfl (fun ls hl => ?_)
    refine va_gets hx hb hG.up hS hown (hts _ q172) (fun _ h => h) dJ2_scalb_53 ?_
    refine lv_dstore (lv' := [(6, .double 6913025428013711360), (5, .int 512), (2, .int x3), (4, .int 0), (3, .int 2099), (0, .double p0)]) hx hb dJ2_scalb_56 hl (by decide) rfl (fun ls hl => ?_)
    exact (hPJx1 _).1 hjx1 _ (lv_sub hl [5, 2, 1, 0] rfl)
  · replace hjx1 := pf_f (P := PJx1) c2 hjx1
    refine lv_iload_n hx hb dJ2_scalb_19 rfl (lv_at hl 5 rfl) ?_
    refine lv_sipush (v := (-2099)) hx hb dJ2_scalb_20 (by decide) ?_
    refine cSi (v := fJ2_max p2 (-2099)) (W.runS (As := [.int p2, .int (-2099)]) (rest := []) ⟨hx, hb, hml, hown, hts⟩ (mJ2_max l D TY p2 (-2099) (fun r => r = fJ2_max p2 (-2099)) rfl) (va_cwS 2 hts (lw_S q164 q165 q54 q166) rfl rfl rfl hd_J2_max ⟨Nat.le_of_ble_eq_true rfl, Nat.le_of_ble_eq_true rfl⟩) (PR.S hP [] rfl hK hG hS) rfl rfl hl.1 rfl (lv_room (Nat.le_of_ble_eq_true rfl)) dJ2_scalb_23 ⟨Nat.le_of_ble_eq_true rfl, Nat.le_of_ble_eq_true rfl⟩) ?_
    refine lv_topi (fun x4 ex4 => ?_)
    replace hjx1 := pf_let (P := PJx1) hjx1 x4 ex4
    refine lv_istore_n (lv' := [(2, .int x4), (6, .double 9221120237041090560), (5, .int 0), (4, .int 0), (3, .int 2099), (0, .double p0)]) hx hb dJ2_scalb_26 rfl hl (by decide) rfl (fun ls hl => ?_)
    refine lv_sipush (v := (-512)) hx hb dJ2_scalb_27 (by decide) ?_
    refine lv_istore (lv' := [(5, .int (-512)), (2, .int x4), (6, .double 9221120237041090560), (4, .int 0), (3, .int 2099), (0, .double p0)]) hx hb dJ2_scalb_30 hl (by decide) rfl (fun ls hl => ?_)
    refine va_gets hx hb hG.dn hS hown (hts _ q167) (fun _ h => h) dJ2_scalb_32 ?_
    refine lv_dstore (lv' := [(6, .double 2301339409586323456), (5, .int (-512)), (2, .int x4), (4, .int 0), (3, .int 2099), (0, .double p0)]) hx hb dJ2_scalb_35 hl (by decide) rfl (fun ls hl => ?_)
    refine lv_goto (tgt := 58) hx hb dJ2_scalb_37 (by decide) ?_
    exact (hPJx1 _).1 hjx1 _ (lv_sub hl [5, 2, 1, 0] rfl)

theorem hd_J4_numberOfLeadingZeros : yJ4_numberOfLeadingZeros.cls ≠ "java/lang/invoke/MethodHandle" ∧ yJ4_numberOfLeadingZeros.cls ≠ "java/lang/invoke/VarHandle" ∧ (parseMethodDescriptor yJ4_numberOfLeadingZeros.desc).map (fun d => d.parameters.length) = some 1 := by decide +kernel
def fJ3_numberOfLeadingZeros (p0 : Int64) : Int32 := lt_ ((jushr p0 32).toInt32) (fun x1 : Int32 => lt_ (if x1 = 0 then (32 + (fJ4_numberOfLeadingZeros p0.toInt32)) else (fJ4_numberOfLeadingZeros x1)) (fun x2 : Int32 => x2))
set_option maxHeartbeats 4000000 in
set_option maxRecDepth 100000 in
theorem mJ3_numberOfLeadingZeros (l : Launch) (D : va_G) (TY : Nat → ClassId) (p0 : Int64) (post : Int32 → Prop) (hw : post (fJ3_numberOfLeadingZeros p0)) : Met l yJ3_numberOfLeadingZeros (ws_ yJ3_numberOfLeadingZeros cJ3_numberOfLeadingZeros 3 (Option.some Jvm.ClassFile.FieldType.int)) ({ frames := 1, cells := 0, slots := 0, locals := 21 }) (PR D TY [.long p0] []) (vp_Si post) 0 0 (fun _ => False) := by
  refine ofWF (cc := cJ3_numberOfLeadingZeros) (maxL := 3) (ret := (Option.some Jvm.ClassFile.FieldType.int)) (plainFor_of_name (by decide)) rfl ?_
  intro p e s m args below meth c s₁ B hml hv
  obtain ⟨rfl, hP, hK, hG⟩ := hv
  have hx := B.exec
  have hb := B.bytes
  have hr := B.returns
  have hts0 := atoms_spec (ws := ws_ yJ3_numberOfLeadingZeros cJ3_numberOfLeadingZeros 3 (Option.some Jvm.ClassFile.FieldType.int)) B.pre
  have hts : ∀ w ∈ lw_all, w.before _ s = true := fun w h => hts0 w (List.mem_cons_of_mem _ h)
  have hown : s.vm.findClass RJ3 = some m.cls := findClass_of_methodNamed B.named
  have hlocks := B.notSynchronized
  have hS : va_S (fun _ => False) s.heap s.heap [] := va_S.rf
  have hl := lv_entry ([.long p0]) (n := 3) (Nat.le_of_ble_eq_true rfl)
  rw [lg_entry_eq]
  generalize (lg_sl ([.long p0]) ++ List.replicate (3 - (lg_sl ([.long p0])).length) Slot.unset).toArray = ls at hl ⊢
  have hl : lv_has ls 3 [(0, .long p0)] := hl
  unfold fJ3_numberOfLeadingZeros at hw
  refine lv_lload_n hx hb dJ3_numberOfLeadingZeros_0 rfl (lv_at hl 0 rfl) ?_
  refine lv_bipush (v := 32) hx hb dJ3_numberOfLeadingZeros_1 (by decide) ?_
  refine lv_lushr (v := jushr p0 32) hx hb dJ3_numberOfLeadingZeros_3 rfl ?_
  refine lv_l2i (v := (jushr p0 32).toInt32) hx hb dJ3_numberOfLeadingZeros_4 rfl ?_
  refine lv_topi (fun x1 ex1 => ?_)
  replace hw := pf_let (P := post) hw x1 ex1
  refine lv_istore_n (lv' := [(2, .int x1), (0, .long p0)]) hx hb dJ3_numberOfLeadingZeros_5 rfl hl (by decide) rfl (fun ls hl => ?_)
  refine lv_iload_n hx hb dJ3_numberOfLeadingZeros_6 rfl (lv_at hl 0 rfl) ?_
  obtain ⟨PJx2, hPJx2⟩ : ∃ P : Int32 → Prop, ∀ x2 : Int32, P x2 ↔ ∀ ls : Array Slot, lv_has ls 3 [] → W p l e (headSpec (ws_ yJ3_numberOfLeadingZeros cJ3_numberOfLeadingZeros 3 (Option.some Jvm.ClassFile.FieldType.int)) ({ frames := 1, cells := 0, slots := 0, locals := 21 })).room s m ([.long p0] : List Value).toArray below meth c s.heap ([]) 0 0 (MQ below (vp_Si post) ([.long p0] : List Value).toArray s 0 0 (fun _ => False)) (F0 m 25 ls [.int x2]) := ⟨_, fun _ => Iff.rfl⟩
  have hjx2 : ∀ x2 : Int32, x2 = (if x1 = 0 then (32 + (fJ4_numberOfLeadingZeros p0.toInt32)) else (fJ4_numberOfLeadingZeros x1)) → PJx2 x2 := by
    intro x2 ex2
    rw [hPJx2]
    intro ls hl
    replace hw := pf_let (P := post) hw x2 ex2
    exact W.iret (v := x2) hx hb hr (fun t ht hW => ⟨_, rfl, hw, ht⟩) (fun q h => nomatch h) dJ3_numberOfLeadingZeros_25
  replace hjx2 := hjx2 _ rfl
  refine lv_if_ne (tgt := 21) hx hb dJ3_numberOfLeadingZeros_7 (by decide) (fun c3 => ?_) (fun c3 => ?_)
  · replace hjx2 := pf_f (P := PJx2) c3 hjx2
    refine lv_iload_n hx hb dJ3_numberOfLeadingZeros_21 rfl (lv_at hl 0 rfl) ?_
    refine cSi (v := fJ4_numberOfLeadingZeros x1) (W.runS (As := [.int x1]) (rest := []) ⟨hx, hb, hml, hown, hts⟩ (mJ4_numberOfLeadingZeros l D TY x1 (fun r => r = fJ4_numberOfLeadingZeros x1) rfl) (va_cwS 1 hts (lw_S q209 q210 q56 q211) rfl rfl rfl hd_J4_numberOfLeadingZeros ⟨Nat.le_of_ble_eq_true rfl, Nat.le_of_ble_eq_true rfl⟩) (PR.S hP [] rfl hK hG hS) rfl rfl hl.1 rfl (lv_room (Nat.le_of_ble_eq_true rfl)) dJ3_numberOfLeadingZeros_22 ⟨Nat.le_of_ble_eq_true rfl, Nat.le_of_ble_eq_true rfl⟩) ?_
    exact (hPJx2 _).1 hjx2 _ (lv_sub hl [] rfl)
  · replace hjx2 := pf_t (P := PJx2) c3 hjx2
    refine lv_bipush (v := 32) hx hb dJ3_numberOfLeadingZeros_10 (by decide) ?_
    refine lv_lload_n hx hb dJ3_numberOfLeadingZeros_12 rfl (lv_at hl 1 rfl) ?_
    refine lv_l2i (v := p0.toInt32) hx hb dJ3_numberOfLeadingZeros_13 rfl ?_
    refine cSi (v := fJ4_numberOfLeadingZeros p0.toInt32) (W.runS (As := [.int p0.toInt32]) (rest := [.int 32]) ⟨hx, hb, hml, hown, hts⟩ (mJ4_numberOfLeadingZeros l D TY p0.toInt32 (fun r => r = fJ4_numberOfLeadingZeros p0.toInt32) rfl) (va_cwS 1 hts (lw_S q209 q210 q56 q211) rfl rfl rfl hd_J4_numberOfLeadingZeros ⟨Nat.le_of_ble_eq_true rfl, Nat.le_of_ble_eq_true rfl⟩) (PR.S hP [] rfl hK hG hS) rfl rfl hl.1 rfl (lv_room (Nat.le_of_ble_eq_true rfl)) dJ3_numberOfLeadingZeros_14 ⟨Nat.le_of_ble_eq_true rfl, Nat.le_of_ble_eq_true rfl⟩) ?_
    refine lv_iadd hx hb dJ3_numberOfLeadingZeros_17 ?_
    refine lv_goto (tgt := 25) hx hb dJ3_numberOfLeadingZeros_18 (by decide) ?_
    exact (hPJx2 _).1 hjx2 _ (lv_sub hl [] rfl)

theorem hd_J3_compare : yJ3_compare.cls ≠ "java/lang/invoke/MethodHandle" ∧ yJ3_compare.cls ≠ "java/lang/invoke/VarHandle" ∧ (parseMethodDescriptor yJ3_compare.desc).map (fun d => d.parameters.length) = some 2 := by decide +kernel
def fJ3_compareUnsigned (p0 : Int64) (p2 : Int64) : Int32 := fJ3_compare (p0 + (-9223372036854775808)) (p2 + (-9223372036854775808))
set_option maxHeartbeats 4000000 in
set_option maxRecDepth 100000 in
theorem mJ3_compareUnsigned (l : Launch) (D : va_G) (TY : Nat → ClassId) (p0 : Int64) (p2 : Int64) (post : Int32 → Prop) (hw : post (fJ3_compareUnsigned p0 p2)) : Met l yJ3_compareUnsigned (ws_ yJ3_compareUnsigned cJ3_compareUnsigned 4 (Option.some Jvm.ClassFile.FieldType.int)) ({ frames := 1, cells := 0, slots := 0, locals := 23 }) (PR D TY [.long p0, .long p2] []) (vp_Si post) 0 0 (fun _ => False) := by
  refine ofWF (cc := cJ3_compareUnsigned) (maxL := 4) (ret := (Option.some Jvm.ClassFile.FieldType.int)) (plainFor_of_name (by decide)) rfl ?_
  intro p e s m args below meth c s₁ B hml hv
  obtain ⟨rfl, hP, hK, hG⟩ := hv
  have hx := B.exec
  have hb := B.bytes
  have hr := B.returns
  have hts0 := atoms_spec (ws := ws_ yJ3_compareUnsigned cJ3_compareUnsigned 4 (Option.some Jvm.ClassFile.FieldType.int)) B.pre
  have hts : ∀ w ∈ lw_all, w.before _ s = true := fun w h => hts0 w (List.mem_cons_of_mem _ h)
  have hown : s.vm.findClass RJ3 = some m.cls := findClass_of_methodNamed B.named
  have hlocks := B.notSynchronized
  have hS : va_S (fun _ => False) s.heap s.heap [] := va_S.rf
  have hl := lv_entry ([.long p0, .long p2]) (n := 4) (Nat.le_of_ble_eq_true rfl)
  rw [lg_entry_eq]
  generalize (lg_sl ([.long p0, .long p2]) ++ List.replicate (4 - (lg_sl ([.long p0, .long p2])).length) Slot.unset).toArray = ls at hl ⊢
  have hl : lv_has ls 4 [(0, .long p0), (2, .long p2)] := hl
  unfold fJ3_compareUnsigned at hw
  refine lv_lload_n hx hb dJ3_compareUnsigned_0 rfl (lv_at hl 0 rfl) ?_
  refine lv_ldc2 (v := (-9223372036854775808)) hx hb hown (hts _ q262) dJ3_compareUnsigned_1 ?_
  refine lv_ladd hx hb dJ3_compareUnsigned_4 ?_
  refine lv_lload_n hx hb dJ3_compareUnsigned_5 rfl (lv_at hl 1 rfl) ?_
  refine lv_ldc2 (v := (-9223372036854775808)) hx hb hown (hts _ q262) dJ3_compareUnsigned_6 ?_
  refine lv_ladd hx hb dJ3_compareUnsigned_9 ?_
  refine cSi (v := fJ3_compare (p0 + (-9223372036854775808)) (p2 + (-9223372036854775808))) (W.runS (As := [.long (p0 + (-9223372036854775808)), .long (p2 + (-9223372036854775808))]) (rest := []) ⟨hx, hb, hml, hown, hts⟩ (mJ3_compare l D TY (p0 + (-9223372036854775808)) (p2 + (-9223372036854775808)) (fun r => r = fJ3_compare (p0 + (-9223372036854775808)) (p2 + (-9223372036854775808))) rfl) (va_cwS 2 hts (lw_S q263 q264 q55 q265) rfl rfl rfl hd_J3_compare ⟨Nat.le_of_ble_eq_true rfl, Nat.le_of_ble_eq_true rfl⟩) (PR.S hP [] rfl hK hG hS) rfl rfl hl.1 rfl (lv_room (Nat.le_of_ble_eq_true rfl)) dJ3_compareUnsigned_10 ⟨Nat.le_of_ble_eq_true rfl, Nat.le_of_ble_eq_true rfl⟩) ?_
  exact W.iret (v := fJ3_compare (p0 + (-9223372036854775808)) (p2 + (-9223372036854775808))) hx hb hr (fun t ht hW => ⟨_, rfl, hw, ht⟩) (fun q h => nomatch h) dJ3_compareUnsigned_13

theorem hd_J4_numberOfTrailingZeros : yJ4_numberOfTrailingZeros.cls ≠ "java/lang/invoke/MethodHandle" ∧ yJ4_numberOfTrailingZeros.cls ≠ "java/lang/invoke/VarHandle" ∧ (parseMethodDescriptor yJ4_numberOfTrailingZeros.desc).map (fun d => d.parameters.length) = some 1 := by decide +kernel
def fJ3_numberOfTrailingZeros (p0 : Int64) : Int32 := lt_ (if p0.toInt32 = 0 then (32 + (fJ4_numberOfTrailingZeros ((jushr p0 32).toInt32))) else (fJ4_numberOfTrailingZeros p0.toInt32)) (fun x1 : Int32 => x1)
set_option maxHeartbeats 4000000 in
set_option maxRecDepth 100000 in
theorem mJ3_numberOfTrailingZeros (l : Launch) (D : va_G) (TY : Nat → ClassId) (p0 : Int64) (post : Int32 → Prop) (hw : post (fJ3_numberOfTrailingZeros p0)) : Met l yJ3_numberOfTrailingZeros (ws_ yJ3_numberOfTrailingZeros cJ3_numberOfTrailingZeros 3 (Option.some Jvm.ClassFile.FieldType.int)) ({ frames := 1, cells := 0, slots := 0, locals := 21 }) (PR D TY [.long p0] []) (vp_Si post) 0 0 (fun _ => False) := by
  refine ofWF (cc := cJ3_numberOfTrailingZeros) (maxL := 3) (ret := (Option.some Jvm.ClassFile.FieldType.int)) (plainFor_of_name (by decide)) rfl ?_
  intro p e s m args below meth c s₁ B hml hv
  obtain ⟨rfl, hP, hK, hG⟩ := hv
  have hx := B.exec
  have hb := B.bytes
  have hr := B.returns
  have hts0 := atoms_spec (ws := ws_ yJ3_numberOfTrailingZeros cJ3_numberOfTrailingZeros 3 (Option.some Jvm.ClassFile.FieldType.int)) B.pre
  have hts : ∀ w ∈ lw_all, w.before _ s = true := fun w h => hts0 w (List.mem_cons_of_mem _ h)
  have hown : s.vm.findClass RJ3 = some m.cls := findClass_of_methodNamed B.named
  have hlocks := B.notSynchronized
  have hS : va_S (fun _ => False) s.heap s.heap [] := va_S.rf
  have hl := lv_entry ([.long p0]) (n := 3) (Nat.le_of_ble_eq_true rfl)
  rw [lg_entry_eq]
  generalize (lg_sl ([.long p0]) ++ List.replicate (3 - (lg_sl ([.long p0])).length) Slot.unset).toArray = ls at hl ⊢
  have hl : lv_has ls 3 [(0, .long p0)] := hl
  unfold fJ3_numberOfTrailingZeros at hw
  refine lv_lload_n hx hb dJ3_numberOfTrailingZeros_0 rfl (lv_at hl 0 rfl) ?_
  refine lv_l2i (v := p0.toInt32) hx hb dJ3_numberOfTrailingZeros_1 rfl ?_
  refine lv_istore_n (lv' := [(2, .int p0.toInt32), (0, .long p0)]) hx hb dJ3_numberOfTrailingZeros_2 rfl hl (by decide) rfl (fun ls hl => ?_)
  refine lv_iload_n hx hb dJ3_numberOfTrailingZeros_3 rfl (lv_at hl 0 rfl) ?_
  obtain ⟨PJx1, hPJx1⟩ : ∃ P : Int32 → Prop, ∀ x1 : Int32, P x1 ↔ ∀ ls : Array Slot, lv_has ls 3 [] → W p l e (headSpec (ws_ yJ3_numberOfTrailingZeros cJ3_numberOfTrailingZeros 3 (Option.some Jvm.ClassFile.FieldType.int)) ({ frames := 1, cells := 0, slots := 0, locals := 21 })).room s m ([.long p0] : List Value).toArray below meth c s.heap ([]) 0 0 (MQ below (vp_Si post) ([.long p0] : List Value).toArray s 0 0 (fun _ => False)) (F0 m 25 ls [.int x1]) := ⟨_, fun _ => Iff.rfl⟩
  have hjx1 : ∀ x1 : Int32, x1 = (if p0.toInt32 = 0 then (32 + (fJ4_numberOfTrailingZeros ((jushr p0 32).toInt32))) else (fJ4_numberOfTrailingZeros p0.toInt32)) → PJx1 x1 := by
    intro x1 ex1
    rw [hPJx1]
    intro ls hl
    replace hw := pf_let (P := post) hw x1 ex1
    exact W.iret (v := x1) hx hb hr (fun t ht hW => ⟨_, rfl, hw, ht⟩) (fun q h => nomatch h) dJ3_numberOfTrailingZeros_25
  replace hjx1 := hjx1 _ rfl
  refine lv_if_ne (tgt := 21) hx hb dJ3_numberOfTrailingZeros_4 (by decide) (fun c2 => ?_) (fun c2 => ?_)
  · replace hjx1 := pf_f (P := PJx1) c2 hjx1
    refine lv_iload_n hx hb dJ3_numberOfTrailingZeros_21 rfl (lv_at hl 0 rfl) ?_
    refine cSi (v := fJ4_numberOfTrailingZeros p0.toInt32) (W.runS (As := [.int p0.toInt32]) (rest := []) ⟨hx, hb, hml, hown, hts⟩ (mJ4_numberOfTrailingZeros l D TY p0.toInt32 (fun r => r = fJ4_numberOfTrailingZeros p0.toInt32) rfl) (va_cwS 1 hts (lw_S q631 q632 q56 q633) rfl rfl rfl hd_J4_numberOfTrailingZeros ⟨Nat.le_of_ble_eq_true rfl, Nat.le_of_ble_eq_true rfl⟩) (PR.S hP [] rfl hK hG hS) rfl rfl hl.1 rfl (lv_room (Nat.le_of_ble_eq_true rfl)) dJ3_numberOfTrailingZeros_22 ⟨Nat.le_of_ble_eq_true rfl, Nat.le_of_ble_eq_true rfl⟩) ?_
    exact (hPJx1 _).1 hjx1 _ (lv_sub hl [] rfl)
  · replace hjx1 := pf_t (P := PJx1) c2 hjx1
    refine lv_bipush (v := 32) hx hb dJ3_numberOfTrailingZeros_7 (by decide) ?_
    refine lv_lload_n hx hb dJ3_numberOfTrailingZeros_9 rfl (lv_at hl 1 rfl) ?_
    refine lv_bipush (v := 32) hx hb dJ3_numberOfTrailingZeros_10 (by decide) ?_
    refine lv_lushr (v := jushr p0 32) hx hb dJ3_numberOfTrailingZeros_12 rfl ?_
    refine lv_l2i (v := (jushr p0 32).toInt32) hx hb dJ3_numberOfTrailingZeros_13 rfl ?_
    refine cSi (v := fJ4_numberOfTrailingZeros ((jushr p0 32).toInt32)) (W.runS (As := [.int ((jushr p0 32).toInt32)]) (rest := [.int 32]) ⟨hx, hb, hml, hown, hts⟩ (mJ4_numberOfTrailingZeros l D TY ((jushr p0 32).toInt32) (fun r => r = fJ4_numberOfTrailingZeros ((jushr p0 32).toInt32)) rfl) (va_cwS 1 hts (lw_S q631 q632 q56 q633) rfl rfl rfl hd_J4_numberOfTrailingZeros ⟨Nat.le_of_ble_eq_true rfl, Nat.le_of_ble_eq_true rfl⟩) (PR.S hP [] rfl hK hG hS) rfl rfl hl.1 rfl (lv_room (Nat.le_of_ble_eq_true rfl)) dJ3_numberOfTrailingZeros_14 ⟨Nat.le_of_ble_eq_true rfl, Nat.le_of_ble_eq_true rfl⟩) ?_
    refine lv_iadd hx hb dJ3_numberOfTrailingZeros_17 ?_
    refine lv_goto (tgt := 25) hx hb dJ3_numberOfTrailingZeros_18 (by decide) ?_
    exact (hPJx1 _).1 hjx1 _ (lv_sub hl [] rfl)

theorem hd_J4_compare : yJ4_compare.cls ≠ "java/lang/invoke/MethodHandle" ∧ yJ4_compare.cls ≠ "java/lang/invoke/VarHandle" ∧ (parseMethodDescriptor yJ4_compare.desc).map (fun d => d.parameters.length) = some 2 := by decide +kernel
def fJ4_compareUnsigned (p0 : Int32) (p1 : Int32) : Int32 := fJ4_compare (p0 + (-2147483648)) (p1 + (-2147483648))
set_option maxHeartbeats 4000000 in
set_option maxRecDepth 100000 in
theorem mJ4_compareUnsigned (l : Launch) (D : va_G) (TY : Nat → ClassId) (p0 : Int32) (p1 : Int32) (post : Int32 → Prop) (hw : post (fJ4_compareUnsigned p0 p1)) : Met l yJ4_compareUnsigned (ws_ yJ4_compareUnsigned cJ4_compareUnsigned 2 (Option.some Jvm.ClassFile.FieldType.int)) ({ frames := 1, cells := 0, slots := 0, locals := 21 }) (PR D TY [.int p0, .int p1] []) (vp_Si post) 0 0 (fun _ => False) := by
  refine ofWF (cc := cJ4_compareUnsigned) (maxL := 2) (ret := (Option.some Jvm.ClassFile.FieldType.int)) (plainFor_of_name (by decide)) rfl ?_
  intro p e s m args below meth c s₁ B hml hv
  obtain ⟨rfl, hP, hK, hG⟩ := hv
  have hx := B.exec
  have hb := B.bytes
  have hr := B.returns
  have hts0 := atoms_spec (ws := ws_ yJ4_compareUnsigned cJ4_compareUnsigned 2 (Option.some Jvm.ClassFile.FieldType.int)) B.pre
  have hts : ∀ w ∈ lw_all, w.before _ s = true := fun w h => hts0 w (List.mem_cons_of_mem _ h)
  have hown : s.vm.findClass RJ4 = some m.cls := findClass_of_methodNamed B.named
  have hlocks := B.notSynchronized
  have hS : va_S (fun _ => False) s.heap s.heap [] := va_S.rf
  have hl := lv_entry ([.int p0, .int p1]) (n := 2) (Nat.le_of_ble_eq_true rfl)
  rw [lg_entry_eq]
  generalize (lg_sl ([.int p0, .int p1]) ++ List.replicate (2 - (lg_sl ([.int p0, .int p1])).length) Slot.unset).toArray = ls at hl ⊢
  have hl : lv_has ls 2 [(0, .int p0), (1, .int p1)] := hl
  unfold fJ4_compareUnsigned at hw
  refine lv_iload_n hx hb dJ4_compareUnsigned_0 rfl (lv_at hl 0 rfl) ?_
  refine lv_ldc (v := (-2147483648)) hx hb hown (hts _ q757) dJ4_compareUnsigned_1 ?_
  refine lv_iadd hx hb dJ4_compareUnsigned_3 ?_
  refine lv_iload_n hx hb dJ4_compareUnsigned_4 rfl (lv_at hl 1 rfl) ?_
  refine lv_ldc (v := (-2147483648)) hx hb hown (hts _ q757) dJ4_compareUnsigned_5 ?_
  refine lv_iadd hx hb dJ4_compareUnsigned_7 ?_
  refine cSi (v := fJ4_compare (p0 + (-2147483648)) (p1 + (-2147483648))) (W.runS (As := [.int (p0 + (-2147483648)), .int (p1 + (-2147483648))]) (rest := []) ⟨hx, hb, hml, hown, hts⟩ (mJ4_compare l D TY (p0 + (-2147483648)) (p1 + (-2147483648)) (fun r => r = fJ4_compare (p0 + (-2147483648)) (p1 + (-2147483648))) rfl) (va_cwS 2 hts (lw_S q758 q759 q56 q760) rfl rfl rfl hd_J4_compare ⟨Nat.le_of_ble_eq_true rfl, Nat.le_of_ble_eq_true rfl⟩) (PR.S hP [] rfl hK hG hS) rfl rfl hl.1 rfl (lv_room (Nat.le_of_ble_eq_true rfl)) dJ4_compareUnsigned_8 ⟨Nat.le_of_ble_eq_true rfl, Nat.le_of_ble_eq_true rfl⟩) ?_
  exact W.iret (v := fJ4_compare (p0 + (-2147483648)) (p1 + (-2147483648))) hx hb hr (fun t ht hW => ⟨_, rfl, hw, ht⟩) (fun q h => nomatch h) dJ4_compareUnsigned_11

theorem hd_J3_compareUnsigned : yJ3_compareUnsigned.cls ≠ "java/lang/invoke/MethodHandle" ∧ yJ3_compareUnsigned.cls ≠ "java/lang/invoke/VarHandle" ∧ (parseMethodDescriptor yJ3_compareUnsigned.desc).map (fun d => d.parameters.length) = some 2 := by decide +kernel
def fX0_kept (p0 : Int64) (p2 : Int32) : Int64 := lt_ (if p2 = 64 then 0 else (jushr p0 p2)) (fun x1 : Int64 => lt_ (if p2 = 64 then p0 else (p0 - (jshl x1 p2))) (fun x3 : Int64 => lt_ (fJ3_compareUnsigned x3 (jshl 1 (p2 - 1))) (fun x5 : Int32 => lt_ (if 0 < x5 then (x1 + 1) else (if x5 = 0 then (if (x1 &&& 1) = 1 then (x1 + 1) else x1) else x1)) (fun x6 : Int64 => x6))))
set_option maxHeartbeats 4000000 in
set_option maxRecDepth 100000 in
theorem mX0_kept (l : Launch) (D : va_G) (TY : Nat → ClassId) (p0 : Int64) (p2 : Int32) (post : Int64 → Prop) (hw : post (fX0_kept p0 p2)) : Met l yX0_kept (ws_ yX0_kept cX0_kept 8 (Option.some Jvm.ClassFile.FieldType.long)) ({ frames := 2, cells := 0, slots := 0, locals := 46 }) (PR D TY [.long p0, .int p2] []) (vp_Sl post) 0 0 (fun _ => False) := by
  refine ofWF (cc := cX0_kept) (maxL := 8) (ret := (Option.some Jvm.ClassFile.FieldType.long)) (plainFor_of_name (by decide)) rfl ?_
  intro p e s m args below meth c s₁ B hml hv
  obtain ⟨rfl, hP, hK, hG⟩ := hv
  have hx := B.exec
  have hb := B.bytes
  have hr := B.returns
  have hts0 := atoms_spec (ws := ws_ yX0_kept cX0_kept 8 (Option.some Jvm.ClassFile.FieldType.long)) B.pre
  have hts : ∀ w ∈ lw_all, w.before _ s = true := fun w h => hts0 w (List.mem_cons_of_mem _ h)
  have hown : s.vm.findClass RX0 = some m.cls := findClass_of_methodNamed B.named
  have hlocks := B.notSynchronized
  have hS : va_S (fun _ => False) s.heap s.heap [] := va_S.rf
  have hl := lv_entry ([.long p0, .int p2]) (n := 8) (Nat.le_of_ble_eq_true rfl)
  rw [lg_entry_eq]
  generalize (lg_sl ([.long p0, .int p2]) ++ List.replicate (8 - (lg_sl ([.long p0, .int p2])).length) Slot.unset).toArray = ls at hl ⊢
  have hl : lv_has ls 8 [(0, .long p0), (2, .int p2)] := hl
  unfold fX0_kept at hw
  refine lv_iload_n hx hb dX0_kept_0 rfl (lv_at hl 1 rfl) ?_
  refine lv_bipush (v := 64) hx hb dX0_kept_1 (by decide) ?_
  obtain ⟨PJx1, hPJx1⟩ : ∃ P : Int64 → Prop, ∀ x1 : Int64, P x1 ↔ ∀ ls : Array Slot, lv_has ls 8 [(0, .long p0), (2, .int p2)] → W p l e (headSpec (ws_ yX0_kept cX0_kept 8 (Option.some Jvm.ClassFile.FieldType.long)) ({ frames := 2, cells := 0, slots := 0, locals := 46 })).room s m ([.long p0, .int p2] : List Value).toArray below meth c s.heap ([]) 0 0 (MQ below (vp_Sl post) ([.long p0, .int p2] : List Value).toArray s 0 0 (fun _ => False)) (F0 m 13 ls [.long x1]) := ⟨_, fun _ => Iff.rfl⟩
  have hjx1 : ∀ x1 : Int64, x1 = (if p2 = 64 then 0 else (jushr p0 p2)) → PJx1 x1 := by
    intro x1 ex1
    rw [hPJx1]
    intro ls hl
    replace hw := pf_let (P := post) hw x1 ex1
    refine lv_lstore_n (lv' := [(3, .long x1), (0, .long p0), (2, .int p2)]) hx hb dX0_kept_13 rfl hl (by decide) rfl (fun ls hl => ?_)
    refine lv_iload_n hx hb dX0_kept_14 rfl (lv_at hl 2 rfl) ?_
    refine lv_bipush (v := 64) hx hb dX0_kept_15 (by decide) ?_
    obtain ⟨PJx3, hPJx3⟩ : ∃ P : Int64 → Prop, ∀ x3 : Int64, P x3 ↔ ∀ ls : Array Slot, lv_has ls 8 [(2, .int p2), (3, .long x1)] → W p l e (headSpec (ws_ yX0_kept cX0_kept 8 (Option.some Jvm.ClassFile.FieldType.long)) ({ frames := 2, cells := 0, slots := 0, locals := 46 })).room s m ([.long p0, .int p2] : List Value).toArray below meth c s.heap ([]) 0 0 (MQ below (vp_Sl post) ([.long p0, .int p2] : List Value).toArray s 0 0 (fun _ => False)) (F0 m 29 ls [.long x3]) := ⟨_, fun _ => Iff.rfl⟩
    have hjx3 : ∀ x3 : Int64, x3 = (if p2 = 64 then p0 else (p0 - (jshl x1 p2))) → PJx3 x3 := by
      intro x3 ex3
      rw [hPJx3]
      intro ls hl
      replace hw := pf_let (P := post) hw x3 ex3
      refine lv_lstore (lv' := [(5, .long x3), (2, .int p2), (3, .long x1)]) hx hb dX0_kept_29 hl (by decide) rfl (fun ls hl => ?_)
      refine lv_lload hx hb dX0_kept_31 (lv_at hl 0 rfl) ?_
      refine lv_lconst (v := 1) hx hb dX0_kept_33 (by decide) ?_
      refine lv_iload_n hx hb dX0_kept_34 rfl (lv_at hl 1 rfl) ?_
      refine lv_iconst (v := 1) hx hb dX0_kept_35 (by decide) ?_
      refine lv_isub hx hb dX0_kept_36 ?_
      refine lv_lshl (v := jshl 1 (p2 - 1)) hx hb dX0_kept_37 rfl ?_
      refine cSi (v := fJ3_compareUnsigned x3 (jshl 1 (p2 - 1))) (W.runS (As := [.long x3, .long (jshl 1 (p2 - 1))]) (rest := []) ⟨hx, hb, hml, hown, hts⟩ (mJ3_compareUnsigned l D TY x3 (jshl 1 (p2 - 1)) (fun r => r = fJ3_compareUnsigned x3 (jshl 1 (p2 - 1))) rfl) (va_cwS 2 hts (lw_S q259 q260 q55 q261) rfl rfl rfl hd_J3_compareUnsigned ⟨Nat.le_of_ble_eq_true rfl, Nat.le_of_ble_eq_true rfl⟩) (PR.S hP [] rfl hK hG hS) rfl rfl hl.1 rfl (lv_room (Nat.le_of_ble_eq_true rfl)) dX0_kept_38 ⟨Nat.le_of_ble_eq_true rfl, Nat.le_of_ble_eq_true rfl⟩) ?_
      refine lv_topi (fun x5 ex5 => ?_)
      replace hw := pf_let (P := post) hw x5 ex5
      refine lv_istore (lv' := [(7, .int x5), (5, .long x3), (2, .int p2), (3, .long x1)]) hx hb dX0_kept_41 hl (by decide) rfl (fun ls hl => ?_)
      refine lv_iload hx hb dX0_kept_43 (lv_at hl 0 rfl) ?_
      obtain ⟨PJx6, hPJx6⟩ : ∃ P : Int64 → Prop, ∀ x6 : Int64, P x6 ↔ ∀ ls : Array Slot, lv_has ls 8 [] → W p l e (headSpec (ws_ yX0_kept cX0_kept 8 (Option.some Jvm.ClassFile.FieldType.long)) ({ frames := 2, cells := 0, slots := 0, locals := 46 })).room s m ([.long p0, .int p2] : List Value).toArray below meth c s.heap ([]) 0 0 (MQ below (vp_Sl post) ([.long p0, .int p2] : List Value).toArray s 0 0 (fun _ => False)) (F0 m 68 ls [.long x6]) := ⟨_, fun _ => Iff.rfl⟩
      have hjx6 : ∀ x6 : Int64, x6 = (if 0 < x5 then (x1 + 1) else (if x5 = 0 then (if (x1 &&& 1) = 1 then (x1 + 1) else x1) else x1)) → PJx6 x6 := by
        intro x6 ex6
        rw [hPJx6]
        intro ls hl
        replace hw := pf_let (P := post) hw x6 ex6
        exact W.lret (v := x6) hx hb hr (fun t ht hW => ⟨_, rfl, hw, ht⟩) (fun q h => nomatch h) dX0_kept_68
      replace hjx6 := hjx6 _ rfl
      refine lv_if_gt (tgt := 61) hx hb dX0_kept_45 (by decide) (fun c7 => ?_) (fun c7 => ?_)
      · replace hjx6 := pf_t (P := PJx6) c7 hjx6
        refine lv_lload_n hx hb dX0_kept_61 rfl (lv_at hl 3 rfl) ?_
        refine lv_lconst (v := 1) hx hb dX0_kept_62 (by decide) ?_
        refine lv_ladd hx hb dX0_kept_63 ?_
        refine lv_goto (tgt := 68) hx hb dX0_kept_64 (by decide) ?_
        exact (hPJx6 _).1 hjx6 _ (lv_sub hl [] rfl)
      · replace hjx6 := pf_f (P := PJx6) c7 hjx6
        refine lv_iload hx hb dX0_kept_48 (lv_at hl 0 rfl) ?_
        refine lv_if_ne (tgt := 67) hx hb dX0_kept_50 (by decide) (fun c8 => ?_) (fun c8 => ?_)
        · replace hjx6 := pf_f (P := PJx6) c8 hjx6
          refine lv_lload_n hx hb dX0_kept_67 rfl (lv_at hl 3 rfl) ?_
          exact (hPJx6 _).1 hjx6 _ (lv_sub hl [] rfl)
        · replace hjx6 := pf_t (P := PJx6) c8 hjx6
          refine lv_lload_n hx hb dX0_kept_53 rfl (lv_at hl 3 rfl) ?_
          refine lv_lconst (v := 1) hx hb dX0_kept_54 (by decide) ?_
          refine lv_land hx hb dX0_kept_55 ?_
          refine lv_lconst (v := 1) hx hb dX0_kept_56 (by decide) ?_
          refine lx_lne (tgt := 67) hx hb dX0_kept_57 dX0_kept_58 (by decide) (fun c9 => ?_) (fun c9 => ?_)
          · replace hjx6 := pf_f (P := PJx6) c9 hjx6
            refine lv_lload_n hx hb dX0_kept_67 rfl (lv_at hl 3 rfl) ?_
            exact (hPJx6 _).1 hjx6 _ (lv_sub hl [] rfl)
          · replace hjx6 := pf_t (P := PJx6) c9 hjx6
            refine lv_lload_n hx hb dX0_kept_61 rfl (lv_at hl 3 rfl) ?_
            refine lv_lconst (v := 1) hx hb dX0_kept_62 (by decide) ?_
            refine lv_ladd hx hb dX0_kept_63 ?_
            refine lv_goto (tgt := 68) hx hb dX0_kept_64 (by decide) ?_
            exact (hPJx6 _).1 hjx6 _ (lv_sub hl [] rfl)
    replace hjx3 := hjx3 _ rfl
    refine lv_icmp_ne (tgt := 24) hx hb dX0_kept_17 (by decide) (fun c4 => ?_) (fun c4 => ?_)
    · replace hjx3 := pf_f (P := PJx3) c4 hjx3
      refine lv_lload_n hx hb dX0_kept_24 rfl (lv_at hl 1 rfl) ?_
      refine lv_lload_n hx hb dX0_kept_25 rfl (lv_at hl 0 rfl) ?_
      refine lv_iload_n hx hb dX0_kept_26 rfl (lv_at hl 2 rfl) ?_
      refine lv_lshl (v := jshl x1 p2) hx hb dX0_kept_27 rfl ?_
      refine lv_lsub hx hb dX0_kept_28 ?_
      exact (hPJx3 _).1 hjx3 _ (lv_sub hl [2, 0] rfl)
    · replace hjx3 := pf_t (P := PJx3) c4 hjx3
      refine lv_lload_n hx hb dX0_kept_20 rfl (lv_at hl 1 rfl) ?_
      refine lv_goto (tgt := 29) hx hb dX0_kept_21 (by decide) ?_
      exact (hPJx3 _).1 hjx3 _ (lv_sub hl [2, 0] rfl)
  replace hjx1 := hjx1 _ rfl
  refine lv_icmp_ne (tgt := 10) hx hb dX0_kept_3 (by decide) (fun c2 => ?_) (fun c2 => ?_)
  · replace hjx1 := pf_f (P := PJx1) c2 hjx1
    refine lv_lload_n hx hb dX0_kept_10 rfl (lv_at hl 0 rfl) ?_
    refine lv_iload_n hx hb dX0_kept_11 rfl (lv_at hl 1 rfl) ?_
    refine lv_lushr (v := jushr p0 p2) hx hb dX0_kept_12 rfl ?_
    exact (hPJx1 _).1 hjx1 _ (lv_sub hl [0, 1] rfl)
  · replace hjx1 := pf_t (P := PJx1) c2 hjx1
    refine lv_lconst (v := 0) hx hb dX0_kept_6 (by decide) ?_
    refine lv_goto (tgt := 13) hx hb dX0_kept_7 (by decide) ?_
    exact (hPJx1 _).1 hjx1 _ (lv_sub hl [0, 1] rfl)

theorem hd_J2_multiplyHigh : yJ2_multiplyHigh.cls ≠ "java/lang/invoke/MethodHandle" ∧ yJ2_multiplyHigh.cls ≠ "java/lang/invoke/VarHandle" ∧ (parseMethodDescriptor yJ2_multiplyHigh.desc).map (fun d => d.parameters.length) = some 2 := by decide +kernel
def fX0_squareTo (p0 : Int64) (p2 : Int64) : Int32 := lt_ (fJ3_compare (fJ2_multiplyHigh p0 p0) (jushr p2 10)) (fun x1 : Int32 => lt_ (if x1 = 0 then (fJ3_compareUnsigned (p0 * p0) (jshl p2 54)) else x1) (fun x2 : Int32 => x2))
set_option maxHeartbeats 4000000 in
set_option maxRecDepth 100000 in
theorem mX0_squareTo (l : Launch) (D : va_G) (TY : Nat → ClassId) (p0 : Int64) (p2 : Int64) (post : Int32 → Prop) (hw : post (fX0_squareTo p0 p2)) : Met l yX0_squareTo (ws_ yX0_squareTo cX0_squareTo 5 (Option.some Jvm.ClassFile.FieldType.int)) ({ frames := 2, cells := 0, slots := 0, locals := 46 }) (PR D TY [.long p0, .long p2] []) (vp_Si post) 0 0 (fun _ => False) := by
  refine ofWF (cc := cX0_squareTo) (maxL := 5) (ret := (Option.some Jvm.ClassFile.FieldType.int)) (plainFor_of_name (by decide)) rfl ?_
  intro p e s m args below meth c s₁ B hml hv
  obtain ⟨rfl, hP, hK, hG⟩ := hv
  have hx := B.exec
  have hb := B.bytes
  have hr := B.returns
  have hts0 := atoms_spec (ws := ws_ yX0_squareTo cX0_squareTo 5 (Option.some Jvm.ClassFile.FieldType.int)) B.pre
  have hts : ∀ w ∈ lw_all, w.before _ s = true := fun w h => hts0 w (List.mem_cons_of_mem _ h)
  have hown : s.vm.findClass RX0 = some m.cls := findClass_of_methodNamed B.named
  have hlocks := B.notSynchronized
  have hS : va_S (fun _ => False) s.heap s.heap [] := va_S.rf
  have hl := lv_entry ([.long p0, .long p2]) (n := 5) (Nat.le_of_ble_eq_true rfl)
  rw [lg_entry_eq]
  generalize (lg_sl ([.long p0, .long p2]) ++ List.replicate (5 - (lg_sl ([.long p0, .long p2])).length) Slot.unset).toArray = ls at hl ⊢
  have hl : lv_has ls 5 [(0, .long p0), (2, .long p2)] := hl
  unfold fX0_squareTo at hw
  refine lv_lload_n hx hb dX0_squareTo_0 rfl (lv_at hl 0 rfl) ?_
  refine lv_lload_n hx hb dX0_squareTo_1 rfl (lv_at hl 0 rfl) ?_
  refine cSl (v := fJ2_multiplyHigh p0 p0) (W.runS (As := [.long p0, .long p0]) (rest := []) ⟨hx, hb, hml, hown, hts⟩ (mJ2_multiplyHigh l D TY p0 p0 (fun r => r = fJ2_multiplyHigh p0 p0) rfl) (va_cwS 2 hts (lw_S q444 q445 q54 q446) rfl rfl rfl hd_J2_multiplyHigh ⟨Nat.le_of_ble_eq_true rfl, Nat.le_of_ble_eq_true rfl⟩) (PR.S hP [] rfl hK hG hS) rfl rfl hl.1 rfl (lv_room (Nat.le_of_ble_eq_true rfl)) dX0_squareTo_2 ⟨Nat.le_of_ble_eq_true rfl, Nat.le_of_ble_eq_true rfl⟩) ?_
  refine lv_lload_n hx hb dX0_squareTo_5 rfl (lv_at hl 1 rfl) ?_
  refine lv_bipush (v := 10) hx hb dX0_squareTo_6 (by decide) ?_
  refine lv_lushr (v := jushr p2 10) hx hb dX0_squareTo_8 rfl ?_
  refine cSi (v := fJ3_compare (fJ2_multiplyHigh p0 p0) (jushr p2 10)) (W.runS (As := [.long (fJ2_multiplyHigh p0 p0), .long (jushr p2 10)]) (rest := []) ⟨hx, hb, hml, hown, hts⟩ (mJ3_compare l D TY (fJ2_multiplyHigh p0 p0) (jushr p2 10) (fun r => r = fJ3_compare (fJ2_multiplyHigh p0 p0) (jushr p2 10)) rfl) (va_cwS 2 hts (lw_S q448 q264 q55 q265) rfl rfl rfl hd_J3_compare ⟨Nat.le_of_ble_eq_true rfl, Nat.le_of_ble_eq_true rfl⟩) (PR.S hP [] rfl hK hG hS) rfl rfl hl.1 rfl (lv_room (Nat.le_of_ble_eq_true rfl)) dX0_squareTo_9 ⟨Nat.le_of_ble_eq_true rfl, Nat.le_of_ble_eq_true rfl⟩) ?_
  refine lv_topi (fun x1 ex1 => ?_)
  replace hw := pf_let (P := post) hw x1 ex1
  refine lv_istore (lv' := [(4, .int x1), (0, .long p0), (2, .long p2)]) hx hb dX0_squareTo_12 hl (by decide) rfl (fun ls hl => ?_)
  refine lv_iload hx hb dX0_squareTo_14 (lv_at hl 0 rfl) ?_
  obtain ⟨PJx2, hPJx2⟩ : ∃ P : Int32 → Prop, ∀ x2 : Int32, P x2 ↔ ∀ ls : Array Slot, lv_has ls 5 [] → W p l e (headSpec (ws_ yX0_squareTo cX0_squareTo 5 (Option.some Jvm.ClassFile.FieldType.int)) ({ frames := 2, cells := 0, slots := 0, locals := 46 })).room s m ([.long p0, .long p2] : List Value).toArray below meth c s.heap ([]) 0 0 (MQ below (vp_Si post) ([.long p0, .long p2] : List Value).toArray s 0 0 (fun _ => False)) (F0 m 34 ls [.int x2]) := ⟨_, fun _ => Iff.rfl⟩
  have hjx2 : ∀ x2 : Int32, x2 = (if x1 = 0 then (fJ3_compareUnsigned (p0 * p0) (jshl p2 54)) else x1) → PJx2 x2 := by
    intro x2 ex2
    rw [hPJx2]
    intro ls hl
    replace hw := pf_let (P := post) hw x2 ex2
    exact W.iret (v := x2) hx hb hr (fun t ht hW => ⟨_, rfl, hw, ht⟩) (fun q h => nomatch h) dX0_squareTo_34
  replace hjx2 := hjx2 _ rfl
  refine lv_if_eq (tgt := 24) hx hb dX0_squareTo_16 (by decide) (fun c3 => ?_) (fun c3 => ?_)
  · replace hjx2 := pf_t (P := PJx2) c3 hjx2
    refine lv_lload_n hx hb dX0_squareTo_24 rfl (lv_at hl 1 rfl) ?_
    refine lv_lload_n hx hb dX0_squareTo_25 rfl (lv_at hl 1 rfl) ?_
    refine lv_lmul hx hb dX0_squareTo_26 ?_
    refine lv_lload_n hx hb dX0_squareTo_27 rfl (lv_at hl 2 rfl) ?_
    refine lv_bipush (v := 54) hx hb dX0_squareTo_28 (by decide) ?_
    refine lv_lshl (v := jshl p2 54) hx hb dX0_squareTo_30 rfl ?_
    refine cSi (v := fJ3_compareUnsigned (p0 * p0) (jshl p2 54)) (W.runS (As := [.long (p0 * p0), .long (jshl p2 54)]) (rest := []) ⟨hx, hb, hml, hown, hts⟩ (mJ3_compareUnsigned l D TY (p0 * p0) (jshl p2 54) (fun r => r = fJ3_compareUnsigned (p0 * p0) (jshl p2 54)) rfl) (va_cwS 2 hts (lw_S q259 q260 q55 q261) rfl rfl rfl hd_J3_compareUnsigned ⟨Nat.le_of_ble_eq_true rfl, Nat.le_of_ble_eq_true rfl⟩) (PR.S hP [] rfl hK hG hS) rfl rfl hl.1 rfl (lv_room (Nat.le_of_ble_eq_true rfl)) dX0_squareTo_31 ⟨Nat.le_of_ble_eq_true rfl, Nat.le_of_ble_eq_true rfl⟩) ?_
    exact (hPJx2 _).1 hjx2 _ (lv_sub hl [] rfl)
  · replace hjx2 := pf_f (P := PJx2) c3 hjx2
    refine lv_iload hx hb dX0_squareTo_19 (lv_at hl 0 rfl) ?_
    refine lv_goto (tgt := 34) hx hb dX0_squareTo_21 (by decide) ?_
    exact (hPJx2 _).1 hjx2 _ (lv_sub hl [] rfl)

theorem hd_J1_floatToIntBits : yJ1_floatToIntBits.cls ≠ "java/lang/invoke/MethodHandle" ∧ yJ1_floatToIntBits.cls ≠ "java/lang/invoke/VarHandle" ∧ (parseMethodDescriptor yJ1_floatToIntBits.desc).map (fun d => d.parameters.length) = some 1 := by decide +kernel
def fX6_bits (p0 : UInt32) : Int64 := (fJ1_floatToIntBits p0).toInt64
set_option maxHeartbeats 4000000 in
set_option maxRecDepth 100000 in
theorem mX6_bits (l : Launch) (D : va_G) (TY : Nat → ClassId) (p0 : UInt32) (post : Int64 → Prop) (hw : post (fX6_bits p0)) : Met l yX6_bits (ws_ yX6_bits cX6_bits 1 (Option.some Jvm.ClassFile.FieldType.long)) ({ frames := 2, cells := 0, slots := 0, locals := 40 }) (PR D TY [.float p0] []) (vp_Sl post) 0 0 (fun _ => False) := by
  refine ofWF (cc := cX6_bits) (maxL := 1) (ret := (Option.some Jvm.ClassFile.FieldType.long)) (plainFor_of_name (by decide)) rfl ?_
  intro p e s m args below meth c s₁ B hml hv
  obtain ⟨rfl, hP, hK, hG⟩ := hv
  have hx := B.exec
  have hb := B.bytes
  have hr := B.returns
  have hts0 := atoms_spec (ws := ws_ yX6_bits cX6_bits 1 (Option.some Jvm.ClassFile.FieldType.long)) B.pre
  have hts : ∀ w ∈ lw_all, w.before _ s = true := fun w h => hts0 w (List.mem_cons_of_mem _ h)
  have hown : s.vm.findClass RX6 = some m.cls := findClass_of_methodNamed B.named
  have hlocks := B.notSynchronized
  have hS : va_S (fun _ => False) s.heap s.heap [] := va_S.rf
  have hl := lv_entry ([.float p0]) (n := 1) (Nat.le_of_ble_eq_true rfl)
  rw [lg_entry_eq]
  generalize (lg_sl ([.float p0]) ++ List.replicate (1 - (lg_sl ([.float p0])).length) Slot.unset).toArray = ls at hl ⊢
  have hl : lv_has ls 1 [(0, .float p0)] := hl
  unfold fX6_bits at hw
  refine lv_fload_n hx hb dX6_bits_0 rfl (lv_at hl 0 rfl) ?_
  refine cSi (v := fJ1_floatToIntBits p0) (W.runS (As := [.float p0]) (rest := []) ⟨hx, hb, hml, hown, hts⟩ (mJ1_floatToIntBits l D TY p0 (fun r => r = fJ1_floatToIntBits p0) rfl) (va_cwS 1 hts (lw_S q1343 q290 q53 q291) rfl rfl rfl hd_J1_floatToIntBits ⟨Nat.le_of_ble_eq_true rfl, Nat.le_of_ble_eq_true rfl⟩) (PR.S hP [] rfl hK hG hS) rfl rfl hl.1 rfl (lv_room (Nat.le_of_ble_eq_true rfl)) dX6_bits_1 ⟨Nat.le_of_ble_eq_true rfl, Nat.le_of_ble_eq_true rfl⟩) ?_
  refine lv_i2l (v := (fJ1_floatToIntBits p0).toInt64) hx hb dX6_bits_4 rfl ?_
  exact W.lret (v := (fJ1_floatToIntBits p0).toInt64) hx hb hr (fun t ht hW => ⟨_, rfl, hw, ht⟩) (fun q h => nomatch h) dX6_bits_5

theorem hd_J0_doubleToLongBits : yJ0_doubleToLongBits.cls ≠ "java/lang/invoke/MethodHandle" ∧ yJ0_doubleToLongBits.cls ≠ "java/lang/invoke/VarHandle" ∧ (parseMethodDescriptor yJ0_doubleToLongBits.desc).map (fun d => d.parameters.length) = some 1 := by decide +kernel
def fX6_bits_2 (p0 : UInt64) : Int64 := fJ0_doubleToLongBits p0
set_option maxHeartbeats 4000000 in
set_option maxRecDepth 100000 in
theorem mX6_bits_2 (l : Launch) (D : va_G) (TY : Nat → ClassId) (p0 : UInt64) (post : Int64 → Prop) (hw : post (fX6_bits_2 p0)) : Met l yX6_bits_2 (ws_ yX6_bits_2 cX6_bits_2 2 (Option.some Jvm.ClassFile.FieldType.long)) ({ frames := 2, cells := 0, slots := 0, locals := 42 }) (PR D TY [.double p0] []) (vp_Sl post) 0 0 (fun _ => False) := by
  refine ofWF (cc := cX6_bits_2) (maxL := 2) (ret := (Option.some Jvm.ClassFile.FieldType.long)) (plainFor_of_name (by decide)) rfl ?_
  intro p e s m args below meth c s₁ B hml hv
  obtain ⟨rfl, hP, hK, hG⟩ := hv
  have hx := B.exec
  have hb := B.bytes
  have hr := B.returns
  have hts0 := atoms_spec (ws := ws_ yX6_bits_2 cX6_bits_2 2 (Option.some Jvm.ClassFile.FieldType.long)) B.pre
  have hts : ∀ w ∈ lw_all, w.before _ s = true := fun w h => hts0 w (List.mem_cons_of_mem _ h)
  have hown : s.vm.findClass RX6 = some m.cls := findClass_of_methodNamed B.named
  have hlocks := B.notSynchronized
  have hS : va_S (fun _ => False) s.heap s.heap [] := va_S.rf
  have hl := lv_entry ([.double p0]) (n := 2) (Nat.le_of_ble_eq_true rfl)
  rw [lg_entry_eq]
  generalize (lg_sl ([.double p0]) ++ List.replicate (2 - (lg_sl ([.double p0])).length) Slot.unset).toArray = ls at hl ⊢
  have hl : lv_has ls 2 [(0, .double p0)] := hl
  unfold fX6_bits_2 at hw
  refine lv_dload_n hx hb dX6_bits_2_0 rfl (lv_at hl 0 rfl) ?_
  refine cSl (v := fJ0_doubleToLongBits p0) (W.runS (As := [.double p0]) (rest := []) ⟨hx, hb, hml, hown, hts⟩ (mJ0_doubleToLongBits l D TY p0 (fun r => r = fJ0_doubleToLongBits p0) rfl) (va_cwS 1 hts (lw_S q1348 q276 q52 q277) rfl rfl rfl hd_J0_doubleToLongBits ⟨Nat.le_of_ble_eq_true rfl, Nat.le_of_ble_eq_true rfl⟩) (PR.S hP [] rfl hK hG hS) rfl rfl hl.1 rfl (lv_room (Nat.le_of_ble_eq_true rfl)) dX6_bits_2_1 ⟨Nat.le_of_ble_eq_true rfl, Nat.le_of_ble_eq_true rfl⟩) ?_
  exact W.lret (v := fJ0_doubleToLongBits p0) hx hb hr (fun t ht hW => ⟨_, rfl, hw, ht⟩) (fun q h => nomatch h) dX6_bits_2_4

theorem hd_X6_single : yX6_single.cls ≠ "java/lang/invoke/MethodHandle" ∧ yX6_single.cls ≠ "java/lang/invoke/VarHandle" ∧ (parseMethodDescriptor yX6_single.desc).map (fun d => d.parameters.length) = some 1 := by decide +kernel
theorem hd_X6_wide : yX6_wide.cls ≠ "java/lang/invoke/MethodHandle" ∧ yX6_wide.cls ≠ "java/lang/invoke/VarHandle" ∧ (parseMethodDescriptor yX6_wide.desc).map (fun d => d.parameters.length) = some 1 := by decide +kernel
def fX6_real (p0 : Int32) (p1 : Int64) : UInt64 := lt_ (if p0 = 0 then (fX6_wide (fX6_single p1)) else (if 9218868437227405312 < (p1 &&& 9223372036854775807) then 9221120237041090560 else p1.toUInt64)) (fun x1 : UInt64 => x1)
def oX6_real (p0 : Int32) (p1 : Int64) : Prop := ((p0 = 0) → (oX6_single p1) ∧ (oX6_wide (fX6_single p1))) ∧ (¬ (p0 = 0) → ((9218868437227405312 < (p1 &&& 9223372036854775807)) → True) ∧ (¬ (9218868437227405312 < (p1 &&& 9223372036854775807)) → (vn_snl2d p1 = false)))
set_option maxHeartbeats 4000000 in
set_option maxRecDepth 100000 in
theorem mX6_real (l : Launch) (D : va_G) (TY : Nat → ClassId) (p0 : Int32) (p1 : Int64) (post : UInt64 → Prop) (hw : post (fX6_real p0 p1)) (hok : oX6_real p0 p1) : Met l yX6_real (ws_ yX6_real cX6_real 3 (Option.some Jvm.ClassFile.FieldType.double)) ({ frames := 2, cells := 0, slots := 0, locals := 36 }) (PR D TY [.int p0, .long p1] []) (vp_Sd post) 0 0 (fun _ => False) := by
  refine ofWF (cc := cX6_real) (maxL := 3) (ret := (Option.some Jvm.ClassFile.FieldType.double)) (plainFor_of_name (by decide)) rfl ?_
  intro p e s m args below meth c s₁ B hml hv
  obtain ⟨rfl, hP, hK, hG⟩ := hv
  have hx := B.exec
  have hb := B.bytes
  have hr := B.returns
  have hts0 := atoms_spec (ws := ws_ yX6_real cX6_real 3 (Option.some Jvm.ClassFile.FieldType.double)) B.pre
  have hts : ∀ w ∈ lw_all, w.before _ s = true := fun w h => hts0 w (List.mem_cons_of_mem _ h)
  have hown : s.vm.findClass RX6 = some m.cls := findClass_of_methodNamed B.named
  have hlocks := B.notSynchronized
  have hS : va_S (fun _ => False) s.heap s.heap [] := va_S.rf
  have hl := lv_entry ([.int p0, .long p1]) (n := 3) (Nat.le_of_ble_eq_true rfl)
  rw [lg_entry_eq]
  generalize (lg_sl ([.int p0, .long p1]) ++ List.replicate (3 - (lg_sl ([.int p0, .long p1])).length) Slot.unset).toArray = ls at hl ⊢
  have hl : lv_has ls 3 [(0, .int p0), (1, .long p1)] := hl
  unfold fX6_real at hw
  unfold oX6_real at hok
  refine lv_iload_n hx hb dX6_real_0 rfl (lv_at hl 0 rfl) ?_
  obtain ⟨PJx1, hPJx1⟩ : ∃ P : UInt64 → Prop, ∀ x1 : UInt64, P x1 ↔ ∀ ls : Array Slot, lv_has ls 3 [] → W p l e (headSpec (ws_ yX6_real cX6_real 3 (Option.some Jvm.ClassFile.FieldType.double)) ({ frames := 2, cells := 0, slots := 0, locals := 36 })).room s m ([.int p0, .long p1] : List Value).toArray below meth c s.heap ([]) 0 0 (MQ below (vp_Sd post) ([.int p0, .long p1] : List Value).toArray s 0 0 (fun _ => False)) (F0 m 36 ls [.double x1]) := ⟨_, fun _ => Iff.rfl⟩
  have hox1 := hok
  have hjx1 : ∀ x1 : UInt64, x1 = (if p0 = 0 then (fX6_wide (fX6_single p1)) else (if 9218868437227405312 < (p1 &&& 9223372036854775807) then 9221120237041090560 else p1.toUInt64)) → PJx1 x1 := by
    intro x1 ex1
    rw [hPJx1]
    intro ls hl
    replace hw := pf_let (P := post) hw x1 ex1
    exact W.dret (v := x1) hx hb hr (fun t ht hW => ⟨_, rfl, hw, ht⟩) (fun q h => nomatch h) dX6_real_36
  replace hjx1 := hjx1 _ rfl
  refine lv_if_ne (tgt := 14) hx hb dX6_real_1 (by decide) (fun c2 => ?_) (fun c2 => ?_)
  · replace hjx1 := pf_f (P := PJx1) c2 hjx1
    replace hox1 := hox1.2 c2
    refine lv_lload_n hx hb dX6_real_14 rfl (lv_at hl 1 rfl) ?_
    refine lv_ldc2 (v := 9223372036854775807) hx hb hown (hts _ q1338) dX6_real_15 ?_
    refine lv_land hx hb dX6_real_18 ?_
    refine lv_ldc2 (v := 9218868437227405312) hx hb hown (hts _ q1286) dX6_real_19 ?_
    refine lx_lle (tgt := 32) hx hb dX6_real_22 dX6_real_23 (by decide) (fun c3 => ?_) (fun c3 => ?_)
    · replace hjx1 := pf_f (P := PJx1) c3 hjx1
      replace hox1 := hox1.2 c3
      refine lv_lload_n hx hb dX6_real_32 rfl (lv_at hl 1 rfl) ?_
      refine vn_l2d hx hb (hml.trans hl.1.symm) hown (hts _ q1382) (hts _ q114) (hts _ q113) (hts _ q52) hox1 (Nat.le_of_ble_eq_true rfl) (Nat.le_of_ble_eq_true rfl) dX6_real_33 ?_
      exact (hPJx1 _).1 hjx1 _ (lv_sub hl [] rfl)
    · replace hjx1 := pf_t (P := PJx1) c3 hjx1
      refine lv_ldc2d (v := 9221120237041090560) hx hb hown (hts _ q1381) dX6_real_26 ?_
      refine lv_goto (tgt := 36) hx hb dX6_real_29 (by decide) ?_
      exact (hPJx1 _).1 hjx1 _ (lv_sub hl [] rfl)
  · replace hjx1 := pf_t (P := PJx1) c2 hjx1
    replace hox1 := hox1.1 c2
    refine lv_lload_n hx hb dX6_real_4 rfl (lv_at hl 1 rfl) ?_
    refine cSf (v := fX6_single p1) (W.runS (As := [.long p1]) (rest := []) ⟨hx, hb, hml, hown, hts⟩ (mX6_single l D TY p1 (fun r => r = fX6_single p1) rfl hox1.1) (va_cwS 1 hts (lw_S q1362 q1363 q50 q1364) rfl rfl rfl hd_X6_single ⟨Nat.le_of_ble_eq_true rfl, Nat.le_of_ble_eq_true rfl⟩) (PR.S hP [] rfl hK hG hS) rfl rfl hl.1 rfl (lv_room (Nat.le_of_ble_eq_true rfl)) dX6_real_5 ⟨Nat.le_of_ble_eq_true rfl, Nat.le_of_ble_eq_true rfl⟩) ?_
    replace hox1 := hox1.2
    refine cSd (v := fX6_wide (fX6_single p1)) (W.runS (As := [.float (fX6_single p1)]) (rest := []) ⟨hx, hb, hml, hown, hts⟩ (mX6_wide l D TY (fX6_single p1) (fun r => r = fX6_wide (fX6_single p1)) rfl hox1) (va_cwS 1 hts (lw_S q1378 q1379 q50 q1380) rfl rfl rfl hd_X6_wide ⟨Nat.le_of_ble_eq_true rfl, Nat.le_of_ble_eq_true rfl⟩) (PR.S hP [] rfl hK hG hS) rfl rfl hl.1 rfl (lv_room (Nat.le_of_ble_eq_true rfl)) dX6_real_8 ⟨Nat.le_of_ble_eq_true rfl, Nat.le_of_ble_eq_true rfl⟩) ?_
    refine lv_goto (tgt := 36) hx hb dX6_real_11 (by decide) ?_
    exact (hPJx1 _).1 hjx1 _ (lv_sub hl [] rfl)

theorem hd_X6_bits : yX6_bits.cls ≠ "java/lang/invoke/MethodHandle" ∧ yX6_bits.cls ≠ "java/lang/invoke/VarHandle" ∧ (parseMethodDescriptor yX6_bits.desc).map (fun d => d.parameters.length) = some 1 := by decide +kernel
theorem hd_X6_bits_2 : yX6_bits_2.cls ≠ "java/lang/invoke/MethodHandle" ∧ yX6_bits_2.cls ≠ "java/lang/invoke/VarHandle" ∧ (parseMethodDescriptor yX6_bits_2.desc).map (fun d => d.parameters.length) = some 1 := by decide +kernel
def fX6_oneOf (p0 : Int32) : Int64 := lt_ (if p0 = 0 then (fX6_bits FP.fconst1) else (fX6_bits_2 FP.dconst1)) (fun x1 : Int64 => x1)
set_option maxHeartbeats 4000000 in
set_option maxRecDepth 100000 in
theorem mX6_oneOf (l : Launch) (D : va_G) (TY : Nat → ClassId) (p0 : Int32) (post : Int64 → Prop) (hw : post (fX6_oneOf p0)) : Met l yX6_oneOf (ws_ yX6_oneOf cX6_oneOf 1 (Option.some Jvm.ClassFile.FieldType.long)) ({ frames := 3, cells := 0, slots := 0, locals := 63 }) (PR D TY [.int p0] []) (vp_Sl post) 0 0 (fun _ => False) := by
  refine ofWF (cc := cX6_oneOf) (maxL := 1) (ret := (Option.some Jvm.ClassFile.FieldType.long)) (plainFor_of_name (by decide)) rfl ?_
  intro p e s m args below meth c s₁ B hml hv
  obtain ⟨rfl, hP, hK, hG⟩ := hv
  have hx := B.exec
  have hb := B.bytes
  have hr := B.returns
  have hts0 := atoms_spec (ws := ws_ yX6_oneOf cX6_oneOf 1 (Option.some Jvm.ClassFile.FieldType.long)) B.pre
  have hts : ∀ w ∈ lw_all, w.before _ s = true := fun w h => hts0 w (List.mem_cons_of_mem _ h)
  have hown : s.vm.findClass RX6 = some m.cls := findClass_of_methodNamed B.named
  have hlocks := B.notSynchronized
  have hS : va_S (fun _ => False) s.heap s.heap [] := va_S.rf
  have hl := lv_entry ([.int p0]) (n := 1) (Nat.le_of_ble_eq_true rfl)
  rw [lg_entry_eq]
  generalize (lg_sl ([.int p0]) ++ List.replicate (1 - (lg_sl ([.int p0])).length) Slot.unset).toArray = ls at hl ⊢
  have hl : lv_has ls 1 [(0, .int p0)] := hl
  unfold fX6_oneOf at hw
  refine lv_iload_n hx hb dX6_oneOf_0 rfl (lv_at hl 0 rfl) ?_
  obtain ⟨PJx1, hPJx1⟩ : ∃ P : Int64 → Prop, ∀ x1 : Int64, P x1 ↔ ∀ ls : Array Slot, lv_has ls 1 [] → W p l e (headSpec (ws_ yX6_oneOf cX6_oneOf 1 (Option.some Jvm.ClassFile.FieldType.long)) ({ frames := 3, cells := 0, slots := 0, locals := 63 })).room s m ([.int p0] : List Value).toArray below meth c s.heap ([]) 0 0 (MQ below (vp_Sl post) ([.int p0] : List Value).toArray s 0 0 (fun _ => False)) (F0 m 15 ls [.long x1]) := ⟨_, fun _ => Iff.rfl⟩
  have hjx1 : ∀ x1 : Int64, x1 = (if p0 = 0 then (fX6_bits FP.fconst1) else (fX6_bits_2 FP.dconst1)) → PJx1 x1 := by
    intro x1 ex1
    rw [hPJx1]
    intro ls hl
    replace hw := pf_let (P := post) hw x1 ex1
    exact W.lret (v := x1) hx hb hr (fun t ht hW => ⟨_, rfl, hw, ht⟩) (fun q h => nomatch h) dX6_oneOf_15
  replace hjx1 := hjx1 _ rfl
  refine lv_if_ne (tgt := 11) hx hb dX6_oneOf_1 (by decide) (fun c2 => ?_) (fun c2 => ?_)
  · replace hjx1 := pf_f (P := PJx1) c2 hjx1
    refine lv_dconst1 hx hb dX6_oneOf_11 ?_
    refine cSl (v := fX6_bits_2 FP.dconst1) (W.runS (As := [.double FP.dconst1]) (rest := []) ⟨hx, hb, hml, hown, hts⟩ (mX6_bits_2 l D TY FP.dconst1 (fun r => r = fX6_bits_2 FP.dconst1) rfl) (va_cwS 1 hts (lw_S q1345 q1346 q50 q1347) rfl rfl rfl hd_X6_bits_2 ⟨Nat.le_of_ble_eq_true rfl, Nat.le_of_ble_eq_true rfl⟩) (PR.S hP [] rfl hK hG hS) rfl rfl hl.1 rfl (lv_room (Nat.le_of_ble_eq_true rfl)) dX6_oneOf_12 ⟨Nat.le_of_ble_eq_true rfl, Nat.le_of_ble_eq_true rfl⟩) ?_
    exact (hPJx1 _).1 hjx1 _ (lv_sub hl [] rfl)
  · replace hjx1 := pf_t (P := PJx1) c2 hjx1
    refine lv_fconst1 hx hb dX6_oneOf_4 ?_
    refine cSl (v := fX6_bits FP.fconst1) (W.runS (As := [.float FP.fconst1]) (rest := []) ⟨hx, hb, hml, hown, hts⟩ (mX6_bits l D TY FP.fconst1 (fun r => r = fX6_bits FP.fconst1) rfl) (va_cwS 1 hts (lw_S q1340 q1341 q50 q1342) rfl rfl rfl hd_X6_bits ⟨Nat.le_of_ble_eq_true rfl, Nat.le_of_ble_eq_true rfl⟩) (PR.S hP [] rfl hK hG hS) rfl rfl hl.1 rfl (lv_room (Nat.le_of_ble_eq_true rfl)) dX6_oneOf_5 ⟨Nat.le_of_ble_eq_true rfl, Nat.le_of_ble_eq_true rfl⟩) ?_
    refine lv_goto (tgt := 15) hx hb dX6_oneOf_8 (by decide) ?_
    exact (hPJx1 _).1 hjx1 _ (lv_sub hl [] rfl)
