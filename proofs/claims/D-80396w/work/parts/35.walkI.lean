def wX1_init  (post : Unit → Prop) : Prop := post ()
set_option maxHeartbeats 4000000 in
set_option maxRecDepth 100000 in
theorem mX1_init (l : Launch) (D : va_G) (TY : Nat → ClassId) (sz : Nat) (h0 : Nat) (post : Unit → Prop) (hw : wX1_init post) : Met l yX1_init (ws_ yX1_init cX1_init 1 (Option.none : Option Jvm.ClassFile.FieldType)) ({ frames := 1, cells := 0, slots := 0, locals := 12 }) (PC D TY [.ref h0] sz [(h0, .inr (1, []))]) (va_Qv post (fun (u : Unit) t => BB D TY (va_A [(h0, .inr (1, []))] sz) [(h0, .inr (1, []))] t) (va_A [(h0, .inr (1, []))] sz)) 0 0 (va_A [(h0, .inr (1, []))] sz) := by
  refine ofWF (cc := cX1_init) (maxL := 1) (ret := (Option.none : Option Jvm.ClassFile.FieldType)) (plainFor_of_name (by decide)) rfl ?_
  intro p e s m args below meth c s₁ B hml hv
  obtain ⟨rfl, hsz, hP, hK, hD0, hG⟩ := hv
  have hx := B.exec
  have hb := B.bytes
  have hr := B.returns
  have hts0 := atoms_spec (ws := ws_ yX1_init cX1_init 1 (Option.none : Option Jvm.ClassFile.FieldType)) B.pre
  have hts : ∀ w ∈ lw_all, w.before _ s = true := fun w h => hts0 w (List.mem_cons_of_mem _ h)
  have hown : s.vm.findClass RX1 = some m.cls := findClass_of_methodNamed B.named
  have hlocks := B.notSynchronized
  have hin : meth.name = "<init>" := (name_of_methodNamed B.named B.method).1
  subst hsz
  have hD := hD0.self (sz := s.heap.size)
  generalize hAe : va_A [(h0, .inr (1, []))] s.heap.size = A at hD hG ⊢
  have hA : ∀ q : Nat, s.heap.size ≤ q → A q := fun q h => by rw [← hAe]; exact Or.inr h
  have hS : va_S A s.heap s.heap [] := va_S.rf
  have hP : va_P D vwCl [(h0, .inr (1, []))] s.heap := hP
  have hl := lv_entry ([.ref h0]) (n := 1) (Nat.le_of_ble_eq_true rfl)
  rw [lg_entry_eq]
  generalize (lg_sl ([.ref h0]) ++ List.replicate (1 - (lg_sl ([.ref h0])).length) Slot.unset).toArray = ls at hl ⊢
  have hl : lv_has ls 1 [(0, .ref h0)] := hl
  unfold wX1_init at hw
  refine lv_aload_n hx hb dX1_init_0 rfl (lv_at hl 0 rfl) ?_
  refine W.objInit hx hb hown (hts _ q902) (hts _ q652) (hts _ q653) rfl (by rw [hml]; exact hl.1) rfl dX1_init_1 (Nat.le_of_ble_eq_true rfl) (Nat.le_of_ble_eq_true rfl) ?_
  refine W.eq (g2 := F0 m 4 ls []) rfl ?_
  have hP9 := hP.sub (ws' := [(h0, .inr (1, []))]) [0] rfl
  have hD9 := hD.sub (ws' := [(h0, .inr (1, []))]) [0] (by decide) rfl
  exact W.vret hx hb hr (fun t ht hW => ⟨⟨(), rfl, hw, BB.mk hP9 hD9 hK ht hW⟩, hS.F ht⟩) hS.2.2 dX1_init_4

def wX1_init_F  (post : Unit → Prop) : Prop := post ()
set_option maxHeartbeats 4000000 in
set_option maxRecDepth 100000 in
theorem mX1_init_F (l : Launch) (D : va_G) (TY : Nat → ClassId) (sz : Nat) (h0 : Nat) (post : Unit → Prop) (hw : wX1_init_F post) : Met l yX1_init (ws_ yX1_init cX1_init 1 (Option.none : Option Jvm.ClassFile.FieldType)) ({ frames := 1, cells := 0, slots := 0, locals := 12 }) (PC D TY [.ref h0] sz [(h0, .inr (2, []))]) (va_Qv post (fun (u : Unit) t => BB D TY (va_A [(h0, .inr (2, []))] sz) [(h0, .inr (2, []))] t) (va_A [(h0, .inr (2, []))] sz)) 0 0 (va_A [(h0, .inr (2, []))] sz) := by
  refine ofWF (cc := cX1_init) (maxL := 1) (ret := (Option.none : Option Jvm.ClassFile.FieldType)) (plainFor_of_name (by decide)) rfl ?_
  intro p e s m args below meth c s₁ B hml hv
  obtain ⟨rfl, hsz, hP, hK, hD0, hG⟩ := hv
  have hx := B.exec
  have hb := B.bytes
  have hr := B.returns
  have hts0 := atoms_spec (ws := ws_ yX1_init cX1_init 1 (Option.none : Option Jvm.ClassFile.FieldType)) B.pre
  have hts : ∀ w ∈ lw_all, w.before _ s = true := fun w h => hts0 w (List.mem_cons_of_mem _ h)
  have hown : s.vm.findClass RX1 = some m.cls := findClass_of_methodNamed B.named
  have hlocks := B.notSynchronized
  have hin : meth.name = "<init>" := (name_of_methodNamed B.named B.method).1
  subst hsz
  have hD := hD0.self (sz := s.heap.size)
  generalize hAe : va_A [(h0, .inr (2, []))] s.heap.size = A at hD hG ⊢
  have hA : ∀ q : Nat, s.heap.size ≤ q → A q := fun q h => by rw [← hAe]; exact Or.inr h
  have hS : va_S A s.heap s.heap [] := va_S.rf
  have hP : va_P D vwCl [(h0, .inr (2, []))] s.heap := hP
  have hl := lv_entry ([.ref h0]) (n := 1) (Nat.le_of_ble_eq_true rfl)
  rw [lg_entry_eq]
  generalize (lg_sl ([.ref h0]) ++ List.replicate (1 - (lg_sl ([.ref h0])).length) Slot.unset).toArray = ls at hl ⊢
  have hl : lv_has ls 1 [(0, .ref h0)] := hl
  unfold wX1_init_F at hw
  refine lv_aload_n hx hb dX1_init_0 rfl (lv_at hl 0 rfl) ?_
  refine W.objInit hx hb hown (hts _ q902) (hts _ q652) (hts _ q653) rfl (by rw [hml]; exact hl.1) rfl dX1_init_1 (Nat.le_of_ble_eq_true rfl) (Nat.le_of_ble_eq_true rfl) ?_
  refine W.eq (g2 := F0 m 4 ls []) rfl ?_
  have hP9 := hP.sub (ws' := [(h0, .inr (2, []))]) [0] rfl
  have hD9 := hD.sub (ws' := [(h0, .inr (2, []))]) [0] (by decide) rfl
  exact W.vret hx hb hr (fun t ht hW => ⟨⟨(), rfl, hw, BB.mk hP9 hD9 hK ht hW⟩, hS.F ht⟩) hS.2.2 dX1_init_4

theorem hd_X1_init : yX1_init.cls ≠ "java/lang/invoke/MethodHandle" ∧ yX1_init.cls ≠ "java/lang/invoke/VarHandle" ∧ (parseMethodDescriptor yX1_init.desc).map (fun d => d.parameters.length) = some 0 := by decide +kernel
def wX2_init  (post : Unit → Prop) : Prop := wX1_init_F  (fun u2 => post ())
set_option maxHeartbeats 4000000 in
set_option maxRecDepth 100000 in
theorem mX2_init (l : Launch) (D : va_G) (TY : Nat → ClassId) (sz : Nat) (h0 : Nat) (post : Unit → Prop) (hw : wX2_init post) : Met l yX2_init (ws_ yX2_init cX2_init 1 (Option.none : Option Jvm.ClassFile.FieldType)) ({ frames := 2, cells := 0, slots := 0, locals := 32 }) (PC D TY [.ref h0] sz [(h0, .inr (2, []))]) (va_Qv post (fun (u : Unit) t => BB D TY (va_A [(h0, .inr (2, []))] sz) [(h0, .inr (2, []))] t) (va_A [(h0, .inr (2, []))] sz)) 0 0 (va_A [(h0, .inr (2, []))] sz) := by
  refine ofWF (cc := cX2_init) (maxL := 1) (ret := (Option.none : Option Jvm.ClassFile.FieldType)) (plainFor_of_name (by decide)) rfl ?_
  intro p e s m args below meth c s₁ B hml hv
  obtain ⟨rfl, hsz, hP, hK, hD0, hG⟩ := hv
  have hx := B.exec
  have hb := B.bytes
  have hr := B.returns
  have hts0 := atoms_spec (ws := ws_ yX2_init cX2_init 1 (Option.none : Option Jvm.ClassFile.FieldType)) B.pre
  have hts : ∀ w ∈ lw_all, w.before _ s = true := fun w h => hts0 w (List.mem_cons_of_mem _ h)
  have hown : s.vm.findClass RX2 = some m.cls := findClass_of_methodNamed B.named
  have hlocks := B.notSynchronized
  have hin : meth.name = "<init>" := (name_of_methodNamed B.named B.method).1
  subst hsz
  have hD := hD0.self (sz := s.heap.size)
  generalize hAe : va_A [(h0, .inr (2, []))] s.heap.size = A at hD hG ⊢
  have hA : ∀ q : Nat, s.heap.size ≤ q → A q := fun q h => by rw [← hAe]; exact Or.inr h
  have hS : va_S A s.heap s.heap [] := va_S.rf
  have hP : va_P D vwCl [(h0, .inr (2, []))] s.heap := hP
  have hl := lv_entry ([.ref h0]) (n := 1) (Nat.le_of_ble_eq_true rfl)
  rw [lg_entry_eq]
  generalize (lg_sl ([.ref h0]) ++ List.replicate (1 - (lg_sl ([.ref h0])).length) Slot.unset).toArray = ls at hl ⊢
  have hl : lv_has ls 1 [(0, .ref h0)] := hl
  unfold wX2_init at hw
  refine lv_aload_n hx hb dX2_init_0 rfl (lv_at hl 0 rfl) ?_
  have hPc := hP.sub (ws' := [(h0, .inr (2, []))]) [0] rfl
  have hDc := hD.sub (ws' := [(h0, .inr (2, []))]) [0] (by decide) rfl
  have hFc := va_free (wc := [(h0, .inr (2, []))]) hD hS hA [0] rfl
  refine va_callv (va_runIN (As := []) (rest := []) ⟨hx, hb, hml, hown, hts⟩ (mX1_init_F l D TY s.heap.size h0 _ hw) ⟨va_cnB 0 hts (lw_meth q901) rfl rfl rfl (gz_mn5 hG) (hts _ q45) hd_X1_init ⟨Nat.le_of_ble_eq_true rfl, Nat.le_of_ble_eq_true rfl⟩, rfl, (hts _ q900)⟩ (PC.S hPc hDc hFc hK hG hS) rfl rfl hl.1 rfl (lv_room (Nat.le_of_ble_eq_true rfl)) dX2_init_1 ⟨Nat.le_of_ble_eq_true rfl, Nat.le_of_ble_eq_true rfl⟩) hS (fun q _ h => hFc q h) hFc (fun u2 t H1 locs ht hvm hw hB hz1 hk1 hS => ?_)
  obtain ⟨hP, hD⟩ := BB.join (wr := []) (w1 := [(h0, .inr (2, []))]) hB ht hP hD [0] [] rfl rfl (by decide) (by decide) hk1 hFc
  generalize H1 = H at hP hS ⊢
  have hP : va_P D vwCl [(h0, .inr (2, []))] H := hP
  have hD : va_D A [(h0, .inr (2, []))] := hD
  have hP9 := hP.sub (ws' := [(h0, .inr (2, []))]) [0] rfl
  have hD9 := hD.sub (ws' := [(h0, .inr (2, []))]) [0] (by decide) rfl
  exact W.vret hx hb hr (fun t ht hW => ⟨⟨(), rfl, hw, BB.mk hP9 hD9 hK ht hW⟩, hS.F ht⟩) hS.2.2 dX2_init_4

def wX3_init  (post : Nat → Prop) : Prop := ∀ q1 : Nat, post q1
set_option maxHeartbeats 4000000 in
set_option maxRecDepth 100000 in
theorem mX3_init (l : Launch) (D : va_G) (TY : Nat → ClassId) (sz : Nat) (h0 : Nat) (post : Nat → Prop) (hw : wX3_init post) : Met l yX3_init (ws_ yX3_init cX3_init 1 (Option.none : Option Jvm.ClassFile.FieldType)) ({ frames := 1, cells := 1, slots := 64, locals := 12 }) (PC D TY [.ref h0] sz [(h0, .inr (3, [.null, .long 0]))]) (va_Qv post (fun (u : Nat) t => BB D TY (va_A [(h0, .inr (3, [.null, .long 0]))] sz) [(h0, .inr (3, [.ref u, .long 0])), (u, .inl (TY 0, 64, .inl (fun _ => 0)))] t) (va_A [(h0, .inr (3, [.null, .long 0]))] sz)) 1 64 (va_A [(h0, .inr (3, [.null, .long 0]))] sz) := by
  refine ofWF (cc := cX3_init) (maxL := 1) (ret := (Option.none : Option Jvm.ClassFile.FieldType)) (plainFor_of_name (by decide)) rfl ?_
  intro p e s m args below meth c s₁ B hml hv
  obtain ⟨rfl, hsz, hP, hK, hD0, hG⟩ := hv
  have hx := B.exec
  have hb := B.bytes
  have hr := B.returns
  have hts0 := atoms_spec (ws := ws_ yX3_init cX3_init 1 (Option.none : Option Jvm.ClassFile.FieldType)) B.pre
  have hts : ∀ w ∈ lw_all, w.before _ s = true := fun w h => hts0 w (List.mem_cons_of_mem _ h)
  have hown : s.vm.findClass RX3 = some m.cls := findClass_of_methodNamed B.named
  have hlocks := B.notSynchronized
  have hin : meth.name = "<init>" := (name_of_methodNamed B.named B.method).1
  subst hsz
  have hD := hD0.self (sz := s.heap.size)
  generalize hAe : va_A [(h0, .inr (3, [.null, .long 0]))] s.heap.size = A at hD hG ⊢
  have hA : ∀ q : Nat, s.heap.size ≤ q → A q := fun q h => by rw [← hAe]; exact Or.inr h
  have hS : va_S A s.heap s.heap [] := va_S.rf
  have hP : va_P D vwCl [(h0, .inr (3, [.null, .long 0]))] s.heap := hP
  have hl := lv_entry ([.ref h0]) (n := 1) (Nat.le_of_ble_eq_true rfl)
  rw [lg_entry_eq]
  generalize (lg_sl ([.ref h0]) ++ List.replicate (1 - (lg_sl ([.ref h0])).length) Slot.unset).toArray = ls at hl ⊢
  have hl : lv_has ls 1 [(0, .ref h0)] := hl
  unfold wX3_init at hw
  refine lv_aload_n hx hb dX3_init_0 rfl (lv_at hl 0 rfl) ?_
  refine W.objInit hx hb hown (hts _ q913) (hts _ q652) (hts _ q653) rfl (by rw [hml]; exact hl.1) rfl dX3_init_1 (Nat.le_of_ble_eq_true rfl) (Nat.le_of_ble_eq_true rfl) ?_
  refine W.eq (g2 := F0 m 4 ls []) rfl ?_
  refine lv_aload_n hx hb dX3_init_4 rfl (lv_at hl 0 rfl) ?_
  refine lv_bipush (v := 64) hx hb dX3_init_5 (by decide) ?_
  refine nw_i (N' := 64) hx hb (hts _ q921) hK hP hD hS hA (by decide) (by decide +kernel) (Nat.le_of_ble_eq_true rfl) (Nat.le_of_ble_eq_true rfl) (Nat.le_of_ble_eq_true rfl) dX3_init_7 (fun q1 H hP hD hS => ?_)
  have hP : va_P D vwCl [(h0, .inr (3, [.null, .long 0])), (q1, .inl (TY 0, 64, .inl (fun _ => 0)))] H := hP
  have hD : va_D A [(h0, .inr (3, [.null, .long 0])), (q1, .inl (TY 0, 64, .inl (fun _ => 0)))] := hD
  replace hw := hw q1
  refine va_putF (D := D) (ci := 3) (v := .ref q1) (ty := .array (.int)) (C := RX3) (T := TX3) (N := 2) hx hb hts in_X3 tyX3 tyX3_ok nmX3 hown hK hP hD hS 0 rfl rfl 0 (by decide) (hts _ q914) (fun _ h9 => h9) rfl hin rfl (by decide +kernel) rfl rfl (Nat.le_of_ble_eq_true rfl) dX3_init_9 (fun H locs hP hD hS => ?_)
  have hP : va_P D vwCl [(h0, .inr (3, [.ref q1, .long 0])), (q1, .inl (TY 0, 64, .inl (fun _ => 0)))] H := hP
  have hD : va_D A [(h0, .inr (3, [.ref q1, .long 0])), (q1, .inl (TY 0, 64, .inl (fun _ => 0)))] := hD
  have hP9 := hP.sub (ws' := [(h0, .inr (3, [.ref q1, .long 0])), (q1, .inl (TY 0, 64, .inl (fun _ => 0)))]) [0, 1] rfl
  have hD9 := hD.sub (ws' := [(h0, .inr (3, [.ref q1, .long 0])), (q1, .inl (TY 0, 64, .inl (fun _ => 0)))]) [0, 1] (by decide) rfl
  exact W.vret hx hb hr (fun t ht hW => ⟨⟨q1, rfl, hw, BB.mk hP9 hD9 hK ht hW⟩, hS.F ht⟩) hS.2.2 dX3_init_12

def wX4_init  (post : Unit → Prop) : Prop := post ()
set_option maxHeartbeats 4000000 in
set_option maxRecDepth 100000 in
theorem mX4_init (l : Launch) (D : va_G) (TY : Nat → ClassId) (sz : Nat) (h0 : Nat) (h1 : Nat) (post : Unit → Prop) (hw : wX4_init post) : Met l yX4_init (ws_ yX4_init cX4_init 2 (Option.none : Option Jvm.ClassFile.FieldType)) ({ frames := 1, cells := 0, slots := 0, locals := 12 }) (PC D TY [.ref h0, .ref h1] sz [(h0, .inr (4, [.int 0, .int 0, .int 0, .null]))]) (va_Qv post (fun (u : Unit) t => BB D TY (va_A [(h0, .inr (4, [.int 0, .int 0, .int 0, .null]))] sz) [(h0, .inr (4, [.int 0, .int 0, .int 0, .ref h1]))] t) (va_A [(h0, .inr (4, [.int 0, .int 0, .int 0, .null]))] sz)) 0 0 (va_A [(h0, .inr (4, [.int 0, .int 0, .int 0, .null]))] sz) := by
  refine ofWF (cc := cX4_init) (maxL := 2) (ret := (Option.none : Option Jvm.ClassFile.FieldType)) (plainFor_of_name (by decide)) rfl ?_
  intro p e s m args below meth c s₁ B hml hv
  obtain ⟨rfl, hsz, hP, hK, hD0, hG⟩ := hv
  have hx := B.exec
  have hb := B.bytes
  have hr := B.returns
  have hts0 := atoms_spec (ws := ws_ yX4_init cX4_init 2 (Option.none : Option Jvm.ClassFile.FieldType)) B.pre
  have hts : ∀ w ∈ lw_all, w.before _ s = true := fun w h => hts0 w (List.mem_cons_of_mem _ h)
  have hown : s.vm.findClass RX4 = some m.cls := findClass_of_methodNamed B.named
  have hlocks := B.notSynchronized
  have hin : meth.name = "<init>" := (name_of_methodNamed B.named B.method).1
  subst hsz
  have hD := hD0.self (sz := s.heap.size)
  generalize hAe : va_A [(h0, .inr (4, [.int 0, .int 0, .int 0, .null]))] s.heap.size = A at hD hG ⊢
  have hA : ∀ q : Nat, s.heap.size ≤ q → A q := fun q h => by rw [← hAe]; exact Or.inr h
  have hS : va_S A s.heap s.heap [] := va_S.rf
  have hP : va_P D vwCl [(h0, .inr (4, [.int 0, .int 0, .int 0, .null]))] s.heap := hP
  have hl := lv_entry ([.ref h0, .ref h1]) (n := 2) (Nat.le_of_ble_eq_true rfl)
  rw [lg_entry_eq]
  generalize (lg_sl ([.ref h0, .ref h1]) ++ List.replicate (2 - (lg_sl ([.ref h0, .ref h1])).length) Slot.unset).toArray = ls at hl ⊢
  have hl : lv_has ls 2 [(0, .ref h0), (1, .ref h1)] := hl
  unfold wX4_init at hw
  refine lv_aload_n hx hb dX4_init_0 rfl (lv_at hl 0 rfl) ?_
  refine lv_aload_n hx hb dX4_init_1 rfl (lv_at hl 1 rfl) ?_
  refine va_putF (D := D) (ci := 4) (v := .ref h1) (ty := .object "FloatClasses") (C := RX4) (T := TX4) (N := 4) hx hb hts in_X4 tyX4 tyX4_ok nmX4 hown hK hP hD hS 0 rfl rfl 3 (by decide) (hts _ q931) (fun _ h9 => h9) rfl hin rfl (by decide +kernel) rfl rfl (Nat.le_of_ble_eq_true rfl) dX4_init_2 (fun H locs hP hD hS => ?_)
  have hP : va_P D vwCl [(h0, .inr (4, [.int 0, .int 0, .int 0, .ref h1]))] H := hP
  have hD : va_D A [(h0, .inr (4, [.int 0, .int 0, .int 0, .ref h1]))] := hD
  refine lv_aload_n hx hb dX4_init_5 rfl (lv_at hl 0 rfl) ?_
  refine W.objInit hx hb hown (hts _ q926) (hts _ q652) (hts _ q653) rfl (by rw [hml]; exact hl.1) rfl dX4_init_6 (Nat.le_of_ble_eq_true rfl) (Nat.le_of_ble_eq_true rfl) ?_
  refine W.eq (g2 := F0 m 9 ls []) rfl ?_
  have hP9 := hP.sub (ws' := [(h0, .inr (4, [.int 0, .int 0, .int 0, .ref h1]))]) [0] rfl
  have hD9 := hD.sub (ws' := [(h0, .inr (4, [.int 0, .int 0, .int 0, .ref h1]))]) [0] (by decide) rfl
  exact W.vret hx hb hr (fun t ht hW => ⟨⟨(), rfl, hw, BB.mk hP9 hD9 hK ht hW⟩, hS.F ht⟩) hS.2.2 dX4_init_9

def wX5_init  (post : Unit → Prop) : Prop := post ()
set_option maxHeartbeats 4000000 in
set_option maxRecDepth 100000 in
theorem mX5_init (l : Launch) (D : va_G) (TY : Nat → ClassId) (sz : Nat) (h0 : Nat) (post : Unit → Prop) (hw : wX5_init post) : Met l yX5_init (ws_ yX5_init cX5_init 1 (Option.none : Option Jvm.ClassFile.FieldType)) ({ frames := 1, cells := 0, slots := 0, locals := 12 }) (PC D TY [.ref h0] sz [(h0, .inr (5, [.null]))]) (va_Qv post (fun (u : Unit) t => BB D TY (va_A [(h0, .inr (5, [.null]))] sz) [(h0, .inr (5, [.null]))] t) (va_A [(h0, .inr (5, [.null]))] sz)) 0 0 (va_A [(h0, .inr (5, [.null]))] sz) := by
  refine ofWF (cc := cX5_init) (maxL := 1) (ret := (Option.none : Option Jvm.ClassFile.FieldType)) (plainFor_of_name (by decide)) rfl ?_
  intro p e s m args below meth c s₁ B hml hv
  obtain ⟨rfl, hsz, hP, hK, hD0, hG⟩ := hv
  have hx := B.exec
  have hb := B.bytes
  have hr := B.returns
  have hts0 := atoms_spec (ws := ws_ yX5_init cX5_init 1 (Option.none : Option Jvm.ClassFile.FieldType)) B.pre
  have hts : ∀ w ∈ lw_all, w.before _ s = true := fun w h => hts0 w (List.mem_cons_of_mem _ h)
  have hown : s.vm.findClass RX5 = some m.cls := findClass_of_methodNamed B.named
  have hlocks := B.notSynchronized
  have hin : meth.name = "<init>" := (name_of_methodNamed B.named B.method).1
  subst hsz
  have hD := hD0.self (sz := s.heap.size)
  generalize hAe : va_A [(h0, .inr (5, [.null]))] s.heap.size = A at hD hG ⊢
  have hA : ∀ q : Nat, s.heap.size ≤ q → A q := fun q h => by rw [← hAe]; exact Or.inr h
  have hS : va_S A s.heap s.heap [] := va_S.rf
  have hP : va_P D vwCl [(h0, .inr (5, [.null]))] s.heap := hP
  have hl := lv_entry ([.ref h0]) (n := 1) (Nat.le_of_ble_eq_true rfl)
  rw [lg_entry_eq]
  generalize (lg_sl ([.ref h0]) ++ List.replicate (1 - (lg_sl ([.ref h0])).length) Slot.unset).toArray = ls at hl ⊢
  have hl : lv_has ls 1 [(0, .ref h0)] := hl
  unfold wX5_init at hw
  refine lv_aload_n hx hb dX5_init_0 rfl (lv_at hl 0 rfl) ?_
  refine W.objInit hx hb hown (hts _ q947) (hts _ q652) (hts _ q653) rfl (by rw [hml]; exact hl.1) rfl dX5_init_1 (Nat.le_of_ble_eq_true rfl) (Nat.le_of_ble_eq_true rfl) ?_
  refine W.eq (g2 := F0 m 4 ls []) rfl ?_
  have hP9 := hP.sub (ws' := [(h0, .inr (5, [.null]))]) [0] rfl
  have hD9 := hD.sub (ws' := [(h0, .inr (5, [.null]))]) [0] (by decide) rfl
  exact W.vret hx hb hr (fun t ht hW => ⟨⟨(), rfl, hw, BB.mk hP9 hD9 hK ht hW⟩, hS.F ht⟩) hS.2.2 dX5_init_4
