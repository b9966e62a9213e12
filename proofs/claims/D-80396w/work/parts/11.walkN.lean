def wX3_low (p1 : Int64) (post : Int32 → Int64 → Prop) : Prop := ∀ x1 : Int64, x1 = jushr p1 32 → post p1.toInt32 x1
set_option maxHeartbeats 4000000 in
set_option maxRecDepth 100000 in
theorem mX3_low (l : Launch) (D : va_G) (TY : Nat → ClassId) (sz : Nat) (h0 : Nat) (l0 : Nat) (cy0 : Int64) (p1 : Int64) (post : Int32 → Int64 → Prop) (hw : wX3_low p1 post) : Met l yX3_low (ws_ yX3_low cX3_low 3 (Option.some Jvm.ClassFile.FieldType.int)) ({ frames := 0, cells := 0, slots := 0, locals := 0 }) (PC D TY [.ref h0, .long p1] sz [(h0, .inr (3, [.ref l0, .long cy0]))]) (va_Qi post (fun (u : Int64) t => BB D TY (va_A [(h0, .inr (3, [.ref l0, .long cy0]))] sz) [(h0, .inr (3, [.ref l0, .long u]))] t) (va_A [(h0, .inr (3, [.ref l0, .long cy0]))] sz)) 0 0 (va_A [(h0, .inr (3, [.ref l0, .long cy0]))] sz) := by
  refine ofWF (cc := cX3_low) (maxL := 3) (ret := (Option.some Jvm.ClassFile.FieldType.int)) (plainFor_of_name (by decide)) rfl ?_
  intro p e s m args below meth c s₁ B hml hv
  obtain ⟨rfl, hsz, hP, hK, hD0, hG⟩ := hv
  have hx := B.exec
  have hb := B.bytes
  have hr := B.returns
  have hts0 := atoms_spec (ws := ws_ yX3_low cX3_low 3 (Option.some Jvm.ClassFile.FieldType.int)) B.pre
  have hts : ∀ w ∈ lw_all, w.before _ s = true := fun w h => hts0 w (List.mem_cons_of_mem _ h)
  have hown : s.vm.findClass RX3 = some m.cls := findClass_of_methodNamed B.named
  have hlocks := B.notSynchronized
  subst hsz
  have hD := hD0.self (sz := s.heap.size)
  generalize hAe : va_A [(h0, .inr (3, [.ref l0, .long cy0]))] s.heap.size = A at hD hG ⊢
  have hA : ∀ q : Nat, s.heap.size ≤ q → A q := fun q h => by rw [← hAe]; exact Or.inr h
  have hS : va_S A s.heap s.heap [] := va_S.rf
  have hP : va_P D vwCl [(h0, .inr (3, [.ref l0, .long cy0]))] s.heap := hP
  have hl := lv_entry ([.ref h0, .long p1]) (n := 3) (Nat.le_of_ble_eq_true rfl)
  rw [lg_entry_eq]
  generalize (lg_sl ([.ref h0, .long p1]) ++ List.replicate (3 - (lg_sl ([.ref h0, .long p1])).length) Slot.unset).toArray = ls at hl ⊢
  have hl : lv_has ls 3 [(0, .ref h0), (1, .long p1)] := hl
  unfold wX3_low at hw
  refine lv_aload_n hx hb dX3_low_0 rfl (lv_at hl 0 rfl) ?_
  refine lv_lload_n hx hb dX3_low_1 rfl (lv_at hl 1 rfl) ?_
  refine lv_bipush (v := 32) hx hb dX3_low_2 (by decide) ?_
  refine lv_lushr (v := jushr p1 32) hx hb dX3_low_4 rfl ?_
  refine lv_topl (fun x1 ex1 => ?_)
  replace hw := hw x1 ex1
  refine va_put (D := D) (ci := 3) (v := .long x1) (ty := .long) (C := RX3) (T := TX3) (N := 2) hx hb hts in_X3 tyX3 tyX3_ok nmX3 hown hK hP hD hS 0 rfl rfl 1 (by decide) (hts _ q915) (fun _ h9 => h9) rfl (by decide +kernel) rfl rfl (Nat.le_of_ble_eq_true rfl) dX3_low_5 (fun H locs hP hD hS => ?_)
  have hP : va_P D vwCl [(h0, .inr (3, [.ref l0, .long x1]))] H := hP
  have hD : va_D A [(h0, .inr (3, [.ref l0, .long x1]))] := hD
  refine lv_lload_n hx hb dX3_low_8 rfl (lv_at hl 1 rfl) ?_
  refine lv_l2i (v := p1.toInt32) hx hb dX3_low_9 rfl ?_
  have hP9 := hP.sub (ws' := [(h0, .inr (3, [.ref l0, .long x1]))]) [0] rfl
  have hD9 := hD.sub (ws' := [(h0, .inr (3, [.ref l0, .long x1]))]) [0] (by decide) rfl
  exact W.iret (v := p1.toInt32) hx hb hr (fun t ht hW => ⟨⟨p1.toInt32, x1, rfl, hw, BB.mk hP9 hD9 hK ht hW⟩, hS.F ht⟩) hS.2.2 dX3_low_10

def wX3_set_21 (p1 : Int64)  (post : (Int64 × (Nat → Int32)) → Prop) (cy0' : Int64) (fl0' : Nat → Int32) : Prop := ∀ x1 : Int32, x1 = (jushr p1 32).toInt32 → post (cy0', upd (upd fl0' 0 p1.toInt32) 1 x1)
def wX3_set_2 (p1 : Int64)  (post : (Int64 × (Nat → Int32)) → Prop) : Nat → Int32 → Int64 → (Nat → Int32) → Prop
  | 0, _, _, _ => False
  | n + 1, y3, cy0', fl0' => ((64 ≤ y3) → wX3_set_21 p1 post cy0' fl0') ∧ (¬ (64 ≤ y3) → (vp_in y3 64) ∧ (∀ x2 : Int32, x2 = y3 + 1 → ((wX3_set_2 p1 post n) x2 cy0' (upd fl0' y3.toNatClampNeg 0))))
def wX3_set (cy0 : Int64) (fl0 : Nat → Int32) (p1 : Int64) (post : (Int64 × (Nat → Int32)) → Prop) : Prop := ∃ n, wX3_set_2 p1 post n 2 cy0 fl0
set_option maxHeartbeats 4000000 in
set_option maxRecDepth 100000 in
theorem bX3_set_21 {p : Program} {l : Launch} {e : Env} {s : State} {m : MethodId} {below : List Frame} {meth : Method} {c : Code} {D : va_G} {TY : Nat → ClassId} {A : Nat → Prop} (h0 : Nat) (l0 : Nat) (cy0 : Int64) (fl0 : Nat → Int32) (p1 : Int64) (post : (Int64 × (Nat → Int32)) → Prop) (hx : p.tables.exec = Jvm.exec) (hb : c.code = cX3_set) (hr : meth.sig.returnType = (Option.none : Option Jvm.ClassFile.FieldType)) (hlocks : meth.locks = false) (hml : c.maxLocals = 4) (hown : s.vm.findClass RX3 = some m.cls) (hts : ∀ w ∈ lw_all, w.before ([.ref h0, .long p1] : List Value).toArray s = true) (hK : va_K D vwCl (tyL TY) s) (hG : gz A s s.heap) (hA : ∀ q : Nat, s.heap.size ≤ q → A q) (cy0' : Int64) (fl0' : Nat → Int32) (hw : wX3_set_21 p1 post cy0' fl0') : ∀ (H : Heap) (locs : List Loc), va_P D vwCl [(h0, .inr (3, [.ref l0, .long cy0'])), (l0, .inl (TY 0, 64, .inl fl0'))] H → va_D A [(h0, .inr (3, [.ref l0, .long cy0'])), (l0, .inl (TY 0, 64, .inl fl0'))] → va_S A s.heap H locs → ∀ ls : Array Slot, lv_has ls 4 [(0, .ref h0), (1, .long p1)] → W p l e (headSpec (ws_ yX3_set cX3_set 4 (Option.none : Option Jvm.ClassFile.FieldType)) ({ frames := 0, cells := 0, slots := 0, locals := 0 })).room s m ([.ref h0, .long p1] : List Value).toArray below meth c H locs 0 0 (MQ below (va_Qv post (fun (u : Int64 × (Nat → Int32)) t => BB D TY A [(h0, .inr (3, [.ref l0, .long u.1])), (l0, .inl (TY 0, 64, .inl u.2))] t) A) ([.ref h0, .long p1] : List Value).toArray s 0 0 A) (F0 m 21 ls []) := by
  intro H locs hP hD hS ls hl
  unfold wX3_set_21 at hw
  refine lv_aload_n hx hb dX3_set_21 rfl (lv_at hl 0 rfl) ?_
  refine va_get (D := D) (ci := 3) (v := .ref l0) (C := RX3) (T := TX3) (N := 2) hx hb hts in_X3 hown hK hP 0 rfl rfl 0 (by decide) (hts _ q914) (fun _ h9 => h9) rfl dX3_set_22 ?_
  refine lv_iconst (v := 0) hx hb dX3_set_25 (by decide) ?_
  refine lv_lload_n hx hb dX3_set_26 rfl (lv_at hl 1 rfl) ?_
  refine lv_l2i (v := p1.toInt32) hx hb dX3_set_27 rfl ?_
  refine va_iast (i := 0) (x := p1.toInt32) hx hb hK hP hD hS 1 0 rfl rfl (vp_in_nI (n := 0) (by decide) (by decide)) dX3_set_28 (fun H locs hP hD hS => ?_)
  have hP : va_P D vwCl [(h0, .inr (3, [.ref l0, .long cy0'])), (l0, .inl (TY 0, 64, .inl (upd fl0' 0 p1.toInt32)))] H := hP
  have hD : va_D A [(h0, .inr (3, [.ref l0, .long cy0'])), (l0, .inl (TY 0, 64, .inl (upd fl0' 0 p1.toInt32)))] := hD
  refine lv_aload_n hx hb dX3_set_29 rfl (lv_at hl 0 rfl) ?_
  refine va_get (D := D) (ci := 3) (v := .ref l0) (C := RX3) (T := TX3) (N := 2) hx hb hts in_X3 hown hK hP 0 rfl rfl 0 (by decide) (hts _ q914) (fun _ h9 => h9) rfl dX3_set_30 ?_
  refine lv_iconst (v := 1) hx hb dX3_set_33 (by decide) ?_
  refine lv_lload_n hx hb dX3_set_34 rfl (lv_at hl 1 rfl) ?_
  refine lv_bipush (v := 32) hx hb dX3_set_35 (by decide) ?_
  refine lv_lushr (v := jushr p1 32) hx hb dX3_set_37 rfl ?_
  refine lv_l2i (v := (jushr p1 32).toInt32) hx hb dX3_set_38 rfl ?_
  refine lv_topi (fun x1 ex1 => ?_)
  replace hw := hw x1 ex1
  refine va_iast (i := 1) (x := x1) hx hb hK hP hD hS 1 0 rfl rfl (vp_in_nI (n := 1) (by decide) (by decide)) dX3_set_39 (fun H locs hP hD hS => ?_)
  have hP : va_P D vwCl [(h0, .inr (3, [.ref l0, .long cy0'])), (l0, .inl (TY 0, 64, .inl (upd (upd fl0' 0 p1.toInt32) 1 x1)))] H := hP
  have hD : va_D A [(h0, .inr (3, [.ref l0, .long cy0'])), (l0, .inl (TY 0, 64, .inl (upd (upd fl0' 0 p1.toInt32) 1 x1)))] := hD
  have hP9 := hP.sub (ws' := [(h0, .inr (3, [.ref l0, .long cy0'])), (l0, .inl (TY 0, 64, .inl (upd (upd fl0' 0 p1.toInt32) 1 x1)))]) [0, 1] rfl
  have hD9 := hD.sub (ws' := [(h0, .inr (3, [.ref l0, .long cy0'])), (l0, .inl (TY 0, 64, .inl (upd (upd fl0' 0 p1.toInt32) 1 x1)))]) [0, 1] (by decide) rfl
  exact W.vret hx hb hr (fun t ht hW => ⟨⟨(cy0', upd (upd fl0' 0 p1.toInt32) 1 x1), rfl, hw, BB.mk hP9 hD9 hK ht hW⟩, hS.F ht⟩) hS.2.2 dX3_set_40
set_option maxHeartbeats 4000000 in
set_option maxRecDepth 100000 in
theorem bX3_set_2 {p : Program} {l : Launch} {e : Env} {s : State} {m : MethodId} {below : List Frame} {meth : Method} {c : Code} {D : va_G} {TY : Nat → ClassId} {A : Nat → Prop} (h0 : Nat) (l0 : Nat) (cy0 : Int64) (fl0 : Nat → Int32) (p1 : Int64) (post : (Int64 × (Nat → Int32)) → Prop) (hx : p.tables.exec = Jvm.exec) (hb : c.code = cX3_set) (hr : meth.sig.returnType = (Option.none : Option Jvm.ClassFile.FieldType)) (hlocks : meth.locks = false) (hml : c.maxLocals = 4) (hown : s.vm.findClass RX3 = some m.cls) (hts : ∀ w ∈ lw_all, w.before ([.ref h0, .long p1] : List Value).toArray s = true) (hK : va_K D vwCl (tyL TY) s) (hG : gz A s s.heap) (hA : ∀ q : Nat, s.heap.size ≤ q → A q) : ∀ (n : Nat) (y3 : Int32) (cy0' : Int64) (fl0' : Nat → Int32), wX3_set_2 p1 post n y3 cy0' fl0' → ∀ (H : Heap) (locs : List Loc), va_P D vwCl [(h0, .inr (3, [.ref l0, .long cy0'])), (l0, .inl (TY 0, 64, .inl fl0'))] H → va_D A [(h0, .inr (3, [.ref l0, .long cy0'])), (l0, .inl (TY 0, 64, .inl fl0'))] → va_S A s.heap H locs → ∀ ls : Array Slot, lv_has ls 4 [(0, .ref h0), (1, .long p1), (3, .int y3)] → W p l e (headSpec (ws_ yX3_set cX3_set 4 (Option.none : Option Jvm.ClassFile.FieldType)) ({ frames := 0, cells := 0, slots := 0, locals := 0 })).room s m ([.ref h0, .long p1] : List Value).toArray below meth c H locs 0 0 (MQ below (va_Qv post (fun (u : Int64 × (Nat → Int32)) t => BB D TY A [(h0, .inr (3, [.ref l0, .long u.1])), (l0, .inl (TY 0, 64, .inl u.2))] t) A) ([.ref h0, .long p1] : List Value).toArray s 0 0 A) (F0 m 2 ls []) := by
  intro n
  induction n with
  | zero => intro _ _ _ h; exact h.elim
  | succ n ih =>
    intro y3 cy0' fl0' hw
    unfold wX3_set_2 at hw
    intro H locs hP hD hS ls hl
    refine lv_iload_n hx hb dX3_set_2 rfl (lv_at hl 2 rfl) ?_
    refine lv_bipush (v := 64) hx hb dX3_set_3 (by decide) ?_
    refine lv_icmp_ge (tgt := 21) hx hb dX3_set_5 (by decide) (fun c1 => ?_) (fun c1 => ?_)
    · replace hw := hw.1 c1
      exact bX3_set_21 h0 l0 cy0 fl0 p1 post  hx hb hr hlocks hml hown hts hK hG hA cy0' fl0' hw _ _ (hP.sub [0, 1] rfl) (hD.sub [0, 1] (by decide) rfl) hS _ (lv_sub hl [0, 1] rfl)
    · replace hw := hw.2 c1
      refine lv_aload_n hx hb dX3_set_8 rfl (lv_at hl 0 rfl) ?_
      refine va_get (D := D) (ci := 3) (v := .ref l0) (C := RX3) (T := TX3) (N := 2) hx hb hts in_X3 hown hK hP 0 rfl rfl 0 (by decide) (hts _ q914) (fun _ h9 => h9) rfl dX3_set_9 ?_
      refine lv_iload_n hx hb dX3_set_12 rfl (lv_at hl 2 rfl) ?_
      refine lv_iconst (v := 0) hx hb dX3_set_13 (by decide) ?_
      refine va_iast (i := y3) (x := 0) hx hb hK hP hD hS 1 0 rfl rfl hw.1 dX3_set_14 (fun H locs hP hD hS => ?_)
      have hP : va_P D vwCl [(h0, .inr (3, [.ref l0, .long cy0'])), (l0, .inl (TY 0, 64, .inl (upd fl0' y3.toNatClampNeg 0)))] H := hP
      have hD : va_D A [(h0, .inr (3, [.ref l0, .long cy0'])), (l0, .inl (TY 0, 64, .inl (upd fl0' y3.toNatClampNeg 0)))] := hD
      replace hw := hw.2
      obtain ⟨x2, ex2⟩ : ∃ y : Int32, y = y3 + 1 := ⟨_, rfl⟩
      refine lv_iinc (v := x2) (lv' := [(3, .int x2), (0, .ref h0), (1, .long p1)]) hx hb dX3_set_15 hl (k := 2) rfl (by rw [ex2]; rfl) (by decide) rfl (fun ls hl => ?_)
      replace hw := hw x2 ex2
      refine lv_goto (tgt := 2) hx hb dX3_set_18 (by decide) ?_
      exact ih x2 cy0' (upd fl0' y3.toNatClampNeg 0) hw _ _ (hP.sub [0, 1] rfl) (hD.sub [0, 1] (by decide) rfl) hS _ (lv_sub hl [1, 2, 0] rfl)
set_option maxHeartbeats 4000000 in
set_option maxRecDepth 100000 in
theorem mX3_set (l : Launch) (D : va_G) (TY : Nat → ClassId) (sz : Nat) (h0 : Nat) (l0 : Nat) (cy0 : Int64) (fl0 : Nat → Int32) (p1 : Int64) (post : (Int64 × (Nat → Int32)) → Prop) (hw : wX3_set cy0 fl0 p1 post) : Met l yX3_set (ws_ yX3_set cX3_set 4 (Option.none : Option Jvm.ClassFile.FieldType)) ({ frames := 0, cells := 0, slots := 0, locals := 0 }) (PC D TY [.ref h0, .long p1] sz [(h0, .inr (3, [.ref l0, .long cy0])), (l0, .inl (TY 0, 64, .inl fl0))]) (va_Qv post (fun (u : Int64 × (Nat → Int32)) t => BB D TY (va_A [(h0, .inr (3, [.ref l0, .long cy0])), (l0, .inl (TY 0, 64, .inl fl0))] sz) [(h0, .inr (3, [.ref l0, .long u.1])), (l0, .inl (TY 0, 64, .inl u.2))] t) (va_A [(h0, .inr (3, [.ref l0, .long cy0])), (l0, .inl (TY 0, 64, .inl fl0))] sz)) 0 0 (va_A [(h0, .inr (3, [.ref l0, .long cy0])), (l0, .inl (TY 0, 64, .inl fl0))] sz) := by
  refine ofWF (cc := cX3_set) (maxL := 4) (ret := (Option.none : Option Jvm.ClassFile.FieldType)) (plainFor_of_name (by decide)) rfl ?_
  intro p e s m args below meth c s₁ B hml hv
  obtain ⟨rfl, hsz, hP, hK, hD0, hG⟩ := hv
  have hx := B.exec
  have hb := B.bytes
  have hr := B.returns
  have hts0 := atoms_spec (ws := ws_ yX3_set cX3_set 4 (Option.none : Option Jvm.ClassFile.FieldType)) B.pre
  have hts : ∀ w ∈ lw_all, w.before _ s = true := fun w h => hts0 w (List.mem_cons_of_mem _ h)
  have hown : s.vm.findClass RX3 = some m.cls := findClass_of_methodNamed B.named
  have hlocks := B.notSynchronized
  subst hsz
  have hD := hD0.self (sz := s.heap.size)
  generalize hAe : va_A [(h0, .inr (3, [.ref l0, .long cy0])), (l0, .inl (TY 0, 64, .inl fl0))] s.heap.size = A at hD hG ⊢
  have hA : ∀ q : Nat, s.heap.size ≤ q → A q := fun q h => by rw [← hAe]; exact Or.inr h
  have hS : va_S A s.heap s.heap [] := va_S.rf
  have hP : va_P D vwCl [(h0, .inr (3, [.ref l0, .long cy0])), (l0, .inl (TY 0, 64, .inl fl0))] s.heap := hP
  have hl := lv_entry ([.ref h0, .long p1]) (n := 4) (Nat.le_of_ble_eq_true rfl)
  rw [lg_entry_eq]
  generalize (lg_sl ([.ref h0, .long p1]) ++ List.replicate (4 - (lg_sl ([.ref h0, .long p1])).length) Slot.unset).toArray = ls at hl ⊢
  have hl : lv_has ls 4 [(0, .ref h0), (1, .long p1)] := hl
  unfold wX3_set at hw
  refine lv_iconst (v := 2) hx hb dX3_set_0 (by decide) ?_
  refine lv_istore_n (lv' := [(3, .int 2), (0, .ref h0), (1, .long p1)]) hx hb dX3_set_1 rfl hl (by decide) rfl (fun ls hl => ?_)
  obtain ⟨n1, hw⟩ := hw
  exact bX3_set_2 h0 l0 cy0 fl0 p1 post  hx hb hr hlocks hml hown hts hK hG hA n1 2 cy0 fl0 hw _ _ (hP.sub [0, 1] rfl) (hD.sub [0, 1] (by decide) rfl) hS _ (lv_sub hl [1, 2, 0] rfl)

theorem hd_X3_low : yX3_low.cls ≠ "java/lang/invoke/MethodHandle" ∧ yX3_low.cls ≠ "java/lang/invoke/VarHandle" ∧ (parseMethodDescriptor yX3_low.desc).map (fun d => d.parameters.length) = some 1 := by decide +kernel
def wX3_times_8 (p1 : Int32)  (post : (Int64 × (Nat → Int32)) → Prop) : Nat → Int32 → Int64 → (Nat → Int32) → Prop
  | 0, _, _, _ => False
  | n + 1, y3, cy0', fl0' => ((64 ≤ y3) → post (cy0', fl0')) ∧ (¬ (64 ≤ y3) → (vp_in y3 64) ∧ (wX3_low (((((fl0' y3.toNatClampNeg).toInt64) &&& 4294967295) * p1.toInt64) + cy0') (fun r2 u3 => (vp_in y3 64) ∧ (∀ x4 : Int32, x4 = y3 + 1 → ((wX3_times_8 p1 post n) x4 u3 (upd fl0' y3.toNatClampNeg r2))))))
def wX3_times (fl0 : Nat → Int32) (p1 : Int32) (p2 : Int32) (post : (Int64 × (Nat → Int32)) → Prop) : Prop := ∃ n, wX3_times_8 p1 post n 0 p2.toInt64 fl0
set_option maxHeartbeats 4000000 in
set_option maxRecDepth 100000 in
theorem bX3_times_8 {p : Program} {l : Launch} {e : Env} {s : State} {m : MethodId} {below : List Frame} {meth : Method} {c : Code} {D : va_G} {TY : Nat → ClassId} {A : Nat → Prop} (h0 : Nat) (l0 : Nat) (cy0 : Int64) (fl0 : Nat → Int32) (p1 : Int32) (p2 : Int32) (post : (Int64 × (Nat → Int32)) → Prop) (hx : p.tables.exec = Jvm.exec) (hb : c.code = cX3_times) (hr : meth.sig.returnType = (Option.none : Option Jvm.ClassFile.FieldType)) (hlocks : meth.locks = false) (hml : c.maxLocals = 4) (hown : s.vm.findClass RX3 = some m.cls) (hts : ∀ w ∈ lw_all, w.before ([.ref h0, .int p1, .int p2] : List Value).toArray s = true) (hK : va_K D vwCl (tyL TY) s) (hG : gz A s s.heap) (hA : ∀ q : Nat, s.heap.size ≤ q → A q) : ∀ (n : Nat) (y3 : Int32) (cy0' : Int64) (fl0' : Nat → Int32), wX3_times_8 p1 post n y3 cy0' fl0' → ∀ (H : Heap) (locs : List Loc), va_P D vwCl [(h0, .inr (3, [.ref l0, .long cy0'])), (l0, .inl (TY 0, 64, .inl fl0'))] H → va_D A [(h0, .inr (3, [.ref l0, .long cy0'])), (l0, .inl (TY 0, 64, .inl fl0'))] → va_S A s.heap H locs → ∀ ls : Array Slot, lv_has ls 4 [(0, .ref h0), (1, .int p1), (3, .int y3)] → W p l e (headSpec (ws_ yX3_times cX3_times 4 (Option.none : Option Jvm.ClassFile.FieldType)) ({ frames := 1, cells := 0, slots := 0, locals := 22 })).room s m ([.ref h0, .int p1, .int p2] : List Value).toArray below meth c H locs 0 0 (MQ below (va_Qv post (fun (u : Int64 × (Nat → Int32)) t => BB D TY A [(h0, .inr (3, [.ref l0, .long u.1])), (l0, .inl (TY 0, 64, .inl u.2))] t) A) ([.ref h0, .int p1, .int p2] : List Value).toArray s 0 0 A) (F0 m 8 ls []) := by
  intro n
  induction n with
  | zero => intro _ _ _ h; exact h.elim
  | succ n ih =>
    intro y3 cy0' fl0' hw
    unfold wX3_times_8 at hw
    intro H locs hP hD hS ls hl
    refine lv_iload_n hx hb dX3_times_8 rfl (lv_at hl 2 rfl) ?_
    refine lv_bipush (v := 64) hx hb dX3_times_9 (by decide) ?_
    refine lv_icmp_ge (tgt := 49) hx hb dX3_times_11 (by decide) (fun c1 => ?_) (fun c1 => ?_)
    · replace hw := hw.1 c1
      have hP9 := hP.sub (ws' := [(h0, .inr (3, [.ref l0, .long cy0'])), (l0, .inl (TY 0, 64, .inl fl0'))]) [0, 1] rfl
      have hD9 := hD.sub (ws' := [(h0, .inr (3, [.ref l0, .long cy0'])), (l0, .inl (TY 0, 64, .inl fl0'))]) [0, 1] (by decide) rfl
      exact W.vret hx hb hr (fun t ht hW => ⟨⟨(cy0', fl0'), rfl, hw, BB.mk hP9 hD9 hK ht hW⟩, hS.F ht⟩) hS.2.2 dX3_times_49
    · replace hw := hw.2 c1
      refine lv_aload_n hx hb dX3_times_14 rfl (lv_at hl 0 rfl) ?_
      refine va_get (D := D) (ci := 3) (v := .ref l0) (C := RX3) (T := TX3) (N := 2) hx hb hts in_X3 hown hK hP 0 rfl rfl 0 (by decide) (hts _ q914) (fun _ h9 => h9) rfl dX3_times_15 ?_
      refine lv_iload_n hx hb dX3_times_18 rfl (lv_at hl 2 rfl) ?_
      refine lv_aload_n hx hb dX3_times_19 rfl (lv_at hl 0 rfl) ?_
      refine lv_aload_n hx hb dX3_times_20 rfl (lv_at hl 0 rfl) ?_
      refine va_get (D := D) (ci := 3) (v := .ref l0) (C := RX3) (T := TX3) (N := 2) hx hb hts in_X3 hown hK hP 0 rfl rfl 0 (by decide) (hts _ q914) (fun _ h9 => h9) rfl dX3_times_21 ?_
      refine lv_iload_n hx hb dX3_times_24 rfl (lv_at hl 2 rfl) ?_
      refine va_iald hx hb hK hP 1 0 rfl rfl hw.1 dX3_times_25 ?_
      replace hw := hw.2
      refine lv_i2l (v := (fl0' y3.toNatClampNeg).toInt64) hx hb dX3_times_26 rfl ?_
      refine lv_ldc2 (v := 4294967295) hx hb hown (hts _ q745) dX3_times_27 ?_
      refine lv_land hx hb dX3_times_30 ?_
      refine lv_iload_n hx hb dX3_times_31 rfl (lv_at hl 1 rfl) ?_
      refine lv_i2l (v := p1.toInt64) hx hb dX3_times_32 rfl ?_
      refine lv_lmul hx hb dX3_times_33 ?_
      refine lv_aload_n hx hb dX3_times_34 rfl (lv_at hl 0 rfl) ?_
      refine va_get (D := D) (ci := 3) (v := .long cy0') (C := RX3) (T := TX3) (N := 2) hx hb hts in_X3 hown hK hP 0 rfl rfl 1 (by decide) (hts _ q915) (fun _ h9 => h9) rfl dX3_times_35 ?_
      refine lv_ladd hx hb dX3_times_38 ?_
      have hPc := hP.sub (ws' := [(h0, .inr (3, [.ref l0, .long cy0']))]) [0] rfl
      have hDc := hD.sub (ws' := [(h0, .inr (3, [.ref l0, .long cy0']))]) [0] (by decide) rfl
      have hFc := va_free (wc := [(h0, .inr (3, [.ref l0, .long cy0']))]) hD hS hA [0] rfl
      refine va_calli (va_runV (As := [.long (((((fl0' y3.toNatClampNeg).toInt64) &&& 4294967295) * p1.toInt64) + cy0')]) (rest := [.int y3, .ref l0]) ⟨hx, hb, hml, hown, hts⟩ (mX3_low l D TY H.size h0 l0 cy0' (((((fl0' y3.toNatClampNeg).toInt64) &&& 4294967295) * p1.toInt64) + cy0') _ hw) (cwV 1 hts (lw_V q876 q878 qs12 q47 q880) rfl rfl rfl ⟨rfl, hd_X3_low⟩ ⟨Nat.le_of_ble_eq_true rfl, Nat.le_of_ble_eq_true rfl⟩) (PC.V (q0 := 0) (ci := 3) hPc hDc hFc hK hG hS rfl rfl) rfl rfl hl.1 rfl (lv_room (Nat.le_of_ble_eq_true rfl)) dX3_times_39 ⟨Nat.le_of_ble_eq_true rfl, Nat.le_of_ble_eq_true rfl⟩) hS (fun q _ h => hFc q h) hFc (fun r2 u3 t H1 locs ht hvm hw hB hz1 hk1 hS => ?_)
      obtain ⟨hP, hD⟩ := BB.join (wr := [(l0, .inl (TY 0, 64, .inl fl0'))]) (w1 := [(h0, .inr (3, [.ref l0, .long u3]))]) hB ht hP hD [0] [1] rfl rfl (by decide) (by decide) hk1 hFc
      generalize H1 = H at hP hS ⊢
      have hP : va_P D vwCl [(l0, .inl (TY 0, 64, .inl fl0')), (h0, .inr (3, [.ref l0, .long u3]))] H := hP
      have hD : va_D A [(l0, .inl (TY 0, 64, .inl fl0')), (h0, .inr (3, [.ref l0, .long u3]))] := hD
      refine va_iast (i := y3) (x := r2) hx hb hK hP hD hS 0 0 rfl rfl hw.1 dX3_times_42 (fun H locs hP hD hS => ?_)
      have hP : va_P D vwCl [(l0, .inl (TY 0, 64, .inl (upd fl0' y3.toNatClampNeg r2))), (h0, .inr (3, [.ref l0, .long u3]))] H := hP
      have hD : va_D A [(l0, .inl (TY 0, 64, .inl (upd fl0' y3.toNatClampNeg r2))), (h0, .inr (3, [.ref l0, .long u3]))] := hD
      replace hw := hw.2
      obtain ⟨x4, ex4⟩ : ∃ y : Int32, y = y3 + 1 := ⟨_, rfl⟩
      refine lv_iinc (v := x4) (lv' := [(3, .int x4), (0, .ref h0), (1, .int p1)]) hx hb dX3_times_43 hl (k := 2) rfl (by rw [ex4]; rfl) (by decide) rfl (fun ls hl => ?_)
      replace hw := hw x4 ex4
      refine lv_goto (tgt := 8) hx hb dX3_times_46 (by decide) ?_
      exact ih x4 u3 (upd fl0' y3.toNatClampNeg r2) hw _ _ (hP.sub [1, 0] rfl) (hD.sub [1, 0] (by decide) rfl) hS _ (lv_sub hl [1, 2, 0] rfl)
set_option maxHeartbeats 4000000 in
set_option maxRecDepth 100000 in
theorem mX3_times (l : Launch) (D : va_G) (TY : Nat → ClassId) (sz : Nat) (h0 : Nat) (l0 : Nat) (cy0 : Int64) (fl0 : Nat → Int32) (p1 : Int32) (p2 : Int32) (post : (Int64 × (Nat → Int32)) → Prop) (hw : wX3_times fl0 p1 p2 post) : Met l yX3_times (ws_ yX3_times cX3_times 4 (Option.none : Option Jvm.ClassFile.FieldType)) ({ frames := 1, cells := 0, slots := 0, locals := 22 }) (PC D TY [.ref h0, .int p1, .int p2] sz [(h0, .inr (3, [.ref l0, .long cy0])), (l0, .inl (TY 0, 64, .inl fl0))]) (va_Qv post (fun (u : Int64 × (Nat → Int32)) t => BB D TY (va_A [(h0, .inr (3, [.ref l0, .long cy0])), (l0, .inl (TY 0, 64, .inl fl0))] sz) [(h0, .inr (3, [.ref l0, .long u.1])), (l0, .inl (TY 0, 64, .inl u.2))] t) (va_A [(h0, .inr (3, [.ref l0, .long cy0])), (l0, .inl (TY 0, 64, .inl fl0))] sz)) 0 0 (va_A [(h0, .inr (3, [.ref l0, .long cy0])), (l0, .inl (TY 0, 64, .inl fl0))] sz) := by
  refine ofWF (cc := cX3_times) (maxL := 4) (ret := (Option.none : Option Jvm.ClassFile.FieldType)) (plainFor_of_name (by decide)) rfl ?_
  intro p e s m args below meth c s₁ B hml hv
  obtain ⟨rfl, hsz, hP, hK, hD0, hG⟩ := hv
  have hx := B.exec
  have hb := B.bytes
  have hr := B.returns
  have hts0 := atoms_spec (ws := ws_ yX3_times cX3_times 4 (Option.none : Option Jvm.ClassFile.FieldType)) B.pre
  have hts : ∀ w ∈ lw_all, w.before _ s = true := fun w h => hts0 w (List.mem_cons_of_mem _ h)
  have hown : s.vm.findClass RX3 = some m.cls := findClass_of_methodNamed B.named
  have hlocks := B.notSynchronized
  subst hsz
  have hD := hD0.self (sz := s.heap.size)
  generalize hAe : va_A [(h0, .inr (3, [.ref l0, .long cy0])), (l0, .inl (TY 0, 64, .inl fl0))] s.heap.size = A at hD hG ⊢
  have hA : ∀ q : Nat, s.heap.size ≤ q → A q := fun q h => by rw [← hAe]; exact Or.inr h
  have hS : va_S A s.heap s.heap [] := va_S.rf
  have hP : va_P D vwCl [(h0, .inr (3, [.ref l0, .long cy0])), (l0, .inl (TY 0, 64, .inl fl0))] s.heap := hP
  have hl := lv_entry ([.ref h0, .int p1, .int p2]) (n := 4) (Nat.le_of_ble_eq_true rfl)
  rw [lg_entry_eq]
  generalize (lg_sl ([.ref h0, .int p1, .int p2]) ++ List.replicate (4 - (lg_sl ([.ref h0, .int p1, .int p2])).length) Slot.unset).toArray = ls at hl ⊢
  have hl : lv_has ls 4 [(0, .ref h0), (1, .int p1), (2, .int p2)] := hl
  unfold wX3_times at hw
  refine lv_aload_n hx hb dX3_times_0 rfl (lv_at hl 0 rfl) ?_
  refine lv_iload_n hx hb dX3_times_1 rfl (lv_at hl 2 rfl) ?_
  refine lv_i2l (v := p2.toInt64) hx hb dX3_times_2 rfl ?_
  refine va_put (D := D) (ci := 3) (v := .long p2.toInt64) (ty := .long) (C := RX3) (T := TX3) (N := 2) hx hb hts in_X3 tyX3 tyX3_ok nmX3 hown hK hP hD hS 0 rfl rfl 1 (by decide) (hts _ q915) (fun _ h9 => h9) rfl (by decide +kernel) rfl rfl (Nat.le_of_ble_eq_true rfl) dX3_times_3 (fun H locs hP hD hS => ?_)
  have hP : va_P D vwCl [(h0, .inr (3, [.ref l0, .long p2.toInt64])), (l0, .inl (TY 0, 64, .inl fl0))] H := hP
  have hD : va_D A [(h0, .inr (3, [.ref l0, .long p2.toInt64])), (l0, .inl (TY 0, 64, .inl fl0))] := hD
  refine lv_iconst (v := 0) hx hb dX3_times_6 (by decide) ?_
  refine lv_istore_n (lv' := [(3, .int 0), (0, .ref h0), (1, .int p1), (2, .int p2)]) hx hb dX3_times_7 rfl hl (by decide) rfl (fun ls hl => ?_)
  obtain ⟨n1, hw⟩ := hw
  exact bX3_times_8 h0 l0 cy0 fl0 p1 p2 post  hx hb hr hlocks hml hown hts hK hG hA n1 0 p2.toInt64 fl0 hw _ _ (hP.sub [0, 1] rfl) (hD.sub [0, 1] (by decide) rfl) hS _ (lv_sub hl [1, 2, 0] rfl)

def wX3_left_14   (post : (Int64 × (Nat → Int32)) → Prop) : Nat → Int32 → Int32 → Int32 → Int64 → (Nat → Int32) → Prop
  | 0, _, _, _, _, _ => False
  | n + 1, y2, y3, y4, cy0', fl0' => ((y4 < 0) → post (cy0', fl0')) ∧ (¬ (y4 < 0) → (((y4 < y2) → True) ∧ (¬ (y4 < y2) → (vp_in (y4 - y2) 64))) ∧ (∀ x2 : Int64, x2 = (if y4 < y2 then 0 else (((fl0' (y4 - y2).toNatClampNeg).toInt64) &&& 4294967295)) → (((y4 ≤ y2) → True) ∧ (¬ (y4 ≤ y2) → (vp_in ((y4 - y2) - 1) 64))) ∧ (∀ x4 : Int64, x4 = (if y4 ≤ y2 then 0 else (((fl0' ((y4 - y2) - 1).toNatClampNeg).toInt64) &&& 4294967295)) → ∀ x6 : Int32, x6 = (jushr (jshl ((jshl x2 32) ||| x4) y3) 32).toInt32 → (vp_in y4 64) ∧ (∀ x7 : Int32, x7 = y4 + (-1) → ((wX3_left_14 post n) y2 y3 x7 cy0' (upd fl0' y4.toNatClampNeg x6))))))
def wX3_left (cy0 : Int64) (fl0 : Nat → Int32) (p1 : Int32) (post : (Int64 × (Nat → Int32)) → Prop) : Prop := ∀ x1 : Int32, x1 = p1 / 32 → ∀ x2 : Int32, x2 = kirem p1 32 → ∃ n, wX3_left_14 post n x1 x2 63 cy0 fl0
set_option maxHeartbeats 4000000 in
set_option maxRecDepth 100000 in
theorem bX3_left_14 {p : Program} {l : Launch} {e : Env} {s : State} {m : MethodId} {below : List Frame} {meth : Method} {c : Code} {D : va_G} {TY : Nat → ClassId} {A : Nat → Prop} (h0 : Nat) (l0 : Nat) (cy0 : Int64) (fl0 : Nat → Int32) (p1 : Int32) (post : (Int64 × (Nat → Int32)) → Prop) (hx : p.tables.exec = Jvm.exec) (hb : c.code = cX3_left) (hr : meth.sig.returnType = (Option.none : Option Jvm.ClassFile.FieldType)) (hlocks : meth.locks = false) (hml : c.maxLocals = 9) (hown : s.vm.findClass RX3 = some m.cls) (hts : ∀ w ∈ lw_all, w.before ([.ref h0, .int p1] : List Value).toArray s = true) (hK : va_K D vwCl (tyL TY) s) (hG : gz A s s.heap) (hA : ∀ q : Nat, s.heap.size ≤ q → A q) : ∀ (n : Nat) (y2 : Int32) (y3 : Int32) (y4 : Int32) (cy0' : Int64) (fl0' : Nat → Int32), wX3_left_14 post n y2 y3 y4 cy0' fl0' → ∀ (H : Heap) (locs : List Loc), va_P D vwCl [(h0, .inr (3, [.ref l0, .long cy0'])), (l0, .inl (TY 0, 64, .inl fl0'))] H → va_D A [(h0, .inr (3, [.ref l0, .long cy0'])), (l0, .inl (TY 0, 64, .inl fl0'))] → va_S A s.heap H locs → ∀ ls : Array Slot, lv_has ls 9 [(0, .ref h0), (2, .int y2), (3, .int y3), (4, .int y4)] → W p l e (headSpec (ws_ yX3_left cX3_left 9 (Option.none : Option Jvm.ClassFile.FieldType)) ({ frames := 0, cells := 0, slots := 0, locals := 0 })).room s m ([.ref h0, .int p1] : List Value).toArray below meth c H locs 0 0 (MQ below (va_Qv post (fun (u : Int64 × (Nat → Int32)) t => BB D TY A [(h0, .inr (3, [.ref l0, .long u.1])), (l0, .inl (TY 0, 64, .inl u.2))] t) A) ([.ref h0, .int p1] : List Value).toArray s 0 0 A) (F0 m 14 ls []) := by
  intro n
  induction n with
  | zero => intro _ _ _ _ _ h; exact h.elim
  | succ n ih =>
    intro y2 y3 y4 cy0' fl0' hw
    unfold wX3_left_14 at hw
    intro H locs hP hD hS ls hl
    refine lv_iload hx hb dX3_left_14 (lv_at hl 3 rfl) ?_
    refine lv_if_lt (tgt := 100) hx hb dX3_left_16 (by decide) (fun c1 => ?_) (fun c1 => ?_)
    · replace hw := hw.1 c1
      have hP9 := hP.sub (ws' := [(h0, .inr (3, [.ref l0, .long cy0'])), (l0, .inl (TY 0, 64, .inl fl0'))]) [0, 1] rfl
      have hD9 := hD.sub (ws' := [(h0, .inr (3, [.ref l0, .long cy0'])), (l0, .inl (TY 0, 64, .inl fl0'))]) [0, 1] (by decide) rfl
      exact W.vret hx hb hr (fun t ht hW => ⟨⟨(cy0', fl0'), rfl, hw, BB.mk hP9 hD9 hK ht hW⟩, hS.F ht⟩) hS.2.2 dX3_left_100
    · replace hw := hw.2 c1
      refine lv_iload hx hb dX3_left_19 (lv_at hl 3 rfl) ?_
      refine lv_iload_n hx hb dX3_left_21 rfl (lv_at hl 1 rfl) ?_
      obtain ⟨PJx2, hPJx2⟩ : ∃ P : Int64 → Prop, ∀ x2 : Int64, P x2 ↔ ∀ ls : Array Slot, lv_has ls 9 [(0, .ref h0), (2, .int y2), (3, .int y3), (4, .int y4)] → W p l e (headSpec (ws_ yX3_left cX3_left 9 (Option.none : Option Jvm.ClassFile.FieldType)) ({ frames := 0, cells := 0, slots := 0, locals := 0 })).room s m ([.ref h0, .int p1] : List Value).toArray below meth c H locs 0 0 (MQ below (va_Qv post (fun (u : Int64 × (Nat → Int32)) t => BB D TY A [(h0, .inr (3, [.ref l0, .long u.1])), (l0, .inl (TY 0, 64, .inl u.2))] t) A) ([.ref h0, .int p1] : List Value).toArray s 0 0 A) (F0 m 43 ls [.long x2]) := ⟨_, fun _ => Iff.rfl⟩
      have hox2 := hw.1
      have hjx2 : ∀ x2 : Int64, x2 = (if y4 < y2 then 0 else (((fl0' (y4 - y2).toNatClampNeg).toInt64) &&& 4294967295)) → PJx2 x2 := by
        intro x2 ex2
        rw [hPJx2]
        intro ls hl
        replace hw := hw.2 x2 ex2
        refine lv_lstore (lv' := [(5, .long x2), (0, .ref h0), (2, .int y2), (3, .int y3), (4, .int y4)]) hx hb dX3_left_43 hl (by decide) rfl (fun ls hl => ?_)
        refine lv_iload hx hb dX3_left_45 (lv_at hl 4 rfl) ?_
        refine lv_iload_n hx hb dX3_left_47 rfl (lv_at hl 2 rfl) ?_
        obtain ⟨PJx4, hPJx4⟩ : ∃ P : Int64 → Prop, ∀ x4 : Int64, P x4 ↔ ∀ ls : Array Slot, lv_has ls 9 [(0, .ref h0), (2, .int y2), (3, .int y3), (4, .int y4), (5, .long x2)] → W p l e (headSpec (ws_ yX3_left cX3_left 9 (Option.none : Option Jvm.ClassFile.FieldType)) ({ frames := 0, cells := 0, slots := 0, locals := 0 })).room s m ([.ref h0, .int p1] : List Value).toArray below meth c H locs 0 0 (MQ below (va_Qv post (fun (u : Int64 × (Nat → Int32)) t => BB D TY A [(h0, .inr (3, [.ref l0, .long u.1])), (l0, .inl (TY 0, 64, .inl u.2))] t) A) ([.ref h0, .int p1] : List Value).toArray s 0 0 A) (F0 m 71 ls [.long x4]) := ⟨_, fun _ => Iff.rfl⟩
        have hox4 := hw.1
        have hjx4 : ∀ x4 : Int64, x4 = (if y4 ≤ y2 then 0 else (((fl0' ((y4 - y2) - 1).toNatClampNeg).toInt64) &&& 4294967295)) → PJx4 x4 := by
          intro x4 ex4
          rw [hPJx4]
          intro ls hl
          replace hw := hw.2 x4 ex4
          refine lv_lstore (lv' := [(7, .long x4), (0, .ref h0), (2, .int y2), (3, .int y3), (4, .int y4), (5, .long x2)]) hx hb dX3_left_71 hl (by decide) rfl (fun ls hl => ?_)
          refine lv_aload_n hx hb dX3_left_73 rfl (lv_at hl 1 rfl) ?_
          refine va_get (D := D) (ci := 3) (v := .ref l0) (C := RX3) (T := TX3) (N := 2) hx hb hts in_X3 hown hK hP 0 rfl rfl 0 (by decide) (hts _ q914) (fun _ h9 => h9) rfl dX3_left_74 ?_
          refine lv_iload hx hb dX3_left_77 (lv_at hl 4 rfl) ?_
          refine lv_lload hx hb dX3_left_79 (lv_at hl 5 rfl) ?_
          refine lv_bipush (v := 32) hx hb dX3_left_81 (by decide) ?_
          refine lv_lshl (v := jshl x2 32) hx hb dX3_left_83 rfl ?_
          refine lv_lload hx hb dX3_left_84 (lv_at hl 0 rfl) ?_
          refine lv_lor hx hb dX3_left_86 ?_
          refine lv_iload_n hx hb dX3_left_87 rfl (lv_at hl 3 rfl) ?_
          refine lv_lshl (v := jshl ((jshl x2 32) ||| x4) y3) hx hb dX3_left_88 rfl ?_
          refine lv_bipush (v := 32) hx hb dX3_left_89 (by decide) ?_
          refine lv_lushr (v := jushr (jshl ((jshl x2 32) ||| x4) y3) 32) hx hb dX3_left_91 rfl ?_
          refine lv_l2i (v := (jushr (jshl ((jshl x2 32) ||| x4) y3) 32).toInt32) hx hb dX3_left_92 rfl ?_
          refine lv_topi (fun x6 ex6 => ?_)
          replace hw := hw x6 ex6
          refine va_iast (i := y4) (x := x6) hx hb hK hP hD hS 1 0 rfl rfl hw.1 dX3_left_93 (fun H locs hP hD hS => ?_)
          have hP : va_P D vwCl [(h0, .inr (3, [.ref l0, .long cy0'])), (l0, .inl (TY 0, 64, .inl (upd fl0' y4.toNatClampNeg x6)))] H := hP
          have hD : va_D A [(h0, .inr (3, [.ref l0, .long cy0'])), (l0, .inl (TY 0, 64, .inl (upd fl0' y4.toNatClampNeg x6)))] := hD
          replace hw := hw.2
          obtain ⟨x7, ex7⟩ : ∃ y : Int32, y = y4 + (-1) := ⟨_, rfl⟩
          refine lv_iinc (v := x7) (lv' := [(4, .int x7), (7, .long x4), (0, .ref h0), (2, .int y2), (3, .int y3), (5, .long x2)]) hx hb dX3_left_94 hl (k := 4) rfl (by rw [ex7]; rfl) (by decide) rfl (fun ls hl => ?_)
          replace hw := hw x7 ex7
          refine lv_goto (tgt := 14) hx hb dX3_left_97 (by decide) ?_
          exact ih y2 y3 x7 cy0' (upd fl0' y4.toNatClampNeg x6) hw _ _ (hP.sub [0, 1] rfl) (hD.sub [0, 1] (by decide) rfl) hS _ (lv_sub hl [2, 3, 4, 0] rfl)
        replace hjx4 := hjx4 _ rfl
        refine lv_icmp_le (tgt := 70) hx hb dX3_left_48 (by decide) (fun c5 => ?_) (fun c5 => ?_)
        · replace hjx4 := pf_t (P := PJx4) c5 hjx4
          refine lv_lconst (v := 0) hx hb dX3_left_70 (by decide) ?_
          exact (hPJx4 _).1 hjx4 _ (lv_sub hl [1, 2, 3, 4, 0] rfl)
        · replace hjx4 := pf_f (P := PJx4) c5 hjx4
          replace hox4 := hox4.2 c5
          refine lv_aload_n hx hb dX3_left_51 rfl (lv_at hl 1 rfl) ?_
          refine va_get (D := D) (ci := 3) (v := .ref l0) (C := RX3) (T := TX3) (N := 2) hx hb hts in_X3 hown hK hP 0 rfl rfl 0 (by decide) (hts _ q914) (fun _ h9 => h9) rfl dX3_left_52 ?_
          refine lv_iload hx hb dX3_left_55 (lv_at hl 4 rfl) ?_
          refine lv_iload_n hx hb dX3_left_57 rfl (lv_at hl 2 rfl) ?_
          refine lv_isub hx hb dX3_left_58 ?_
          refine lv_iconst (v := 1) hx hb dX3_left_59 (by decide) ?_
          refine lv_isub hx hb dX3_left_60 ?_
          refine va_iald hx hb hK hP 1 0 rfl rfl hox4 dX3_left_61 ?_
          refine lv_i2l (v := (fl0' ((y4 - y2) - 1).toNatClampNeg).toInt64) hx hb dX3_left_62 rfl ?_
          refine lv_ldc2 (v := 4294967295) hx hb hown (hts _ q745) dX3_left_63 ?_
          refine lv_land hx hb dX3_left_66 ?_
          refine lv_goto (tgt := 71) hx hb dX3_left_67 (by decide) ?_
          exact (hPJx4 _).1 hjx4 _ (lv_sub hl [1, 2, 3, 4, 0] rfl)
      replace hjx2 := hjx2 _ rfl
      refine lv_icmp_lt (tgt := 42) hx hb dX3_left_22 (by decide) (fun c3 => ?_) (fun c3 => ?_)
      · replace hjx2 := pf_t (P := PJx2) c3 hjx2
        refine lv_lconst (v := 0) hx hb dX3_left_42 (by decide) ?_
        exact (hPJx2 _).1 hjx2 _ (lv_sub hl [0, 1, 2, 3] rfl)
      · replace hjx2 := pf_f (P := PJx2) c3 hjx2
        replace hox2 := hox2.2 c3
        refine lv_aload_n hx hb dX3_left_25 rfl (lv_at hl 0 rfl) ?_
        refine va_get (D := D) (ci := 3) (v := .ref l0) (C := RX3) (T := TX3) (N := 2) hx hb hts in_X3 hown hK hP 0 rfl rfl 0 (by decide) (hts _ q914) (fun _ h9 => h9) rfl dX3_left_26 ?_
        refine lv_iload hx hb dX3_left_29 (lv_at hl 3 rfl) ?_
        refine lv_iload_n hx hb dX3_left_31 rfl (lv_at hl 1 rfl) ?_
        refine lv_isub hx hb dX3_left_32 ?_
        refine va_iald hx hb hK hP 1 0 rfl rfl hox2 dX3_left_33 ?_
        refine lv_i2l (v := (fl0' (y4 - y2).toNatClampNeg).toInt64) hx hb dX3_left_34 rfl ?_
        refine lv_ldc2 (v := 4294967295) hx hb hown (hts _ q745) dX3_left_35 ?_
        refine lv_land hx hb dX3_left_38 ?_
        refine lv_goto (tgt := 43) hx hb dX3_left_39 (by decide) ?_
        exact (hPJx2 _).1 hjx2 _ (lv_sub hl [0, 1, 2, 3] rfl)
set_option maxHeartbeats 4000000 in
set_option maxRecDepth 100000 in
theorem mX3_left (l : Launch) (D : va_G) (TY : Nat → ClassId) (sz : Nat) (h0 : Nat) (l0 : Nat) (cy0 : Int64) (fl0 : Nat → Int32) (p1 : Int32) (post : (Int64 × (Nat → Int32)) → Prop) (hw : wX3_left cy0 fl0 p1 post) : Met l yX3_left (ws_ yX3_left cX3_left 9 (Option.none : Option Jvm.ClassFile.FieldType)) ({ frames := 0, cells := 0, slots := 0, locals := 0 }) (PC D TY [.ref h0, .int p1] sz [(h0, .inr (3, [.ref l0, .long cy0])), (l0, .inl (TY 0, 64, .inl fl0))]) (va_Qv post (fun (u : Int64 × (Nat → Int32)) t => BB D TY (va_A [(h0, .inr (3, [.ref l0, .long cy0])), (l0, .inl (TY 0, 64, .inl fl0))] sz) [(h0, .inr (3, [.ref l0, .long u.1])), (l0, .inl (TY 0, 64, .inl u.2))] t) (va_A [(h0, .inr (3, [.ref l0, .long cy0])), (l0, .inl (TY 0, 64, .inl fl0))] sz)) 0 0 (va_A [(h0, .inr (3, [.ref l0, .long cy0])), (l0, .inl (TY 0, 64, .inl fl0))] sz) := by
  refine ofWF (cc := cX3_left) (maxL := 9) (ret := (Option.none : Option Jvm.ClassFile.FieldType)) (plainFor_of_name (by decide)) rfl ?_
  intro p e s m args below meth c s₁ B hml hv
  obtain ⟨rfl, hsz, hP, hK, hD0, hG⟩ := hv
  have hx := B.exec
  have hb := B.bytes
  have hr := B.returns
  have hts0 := atoms_spec (ws := ws_ yX3_left cX3_left 9 (Option.none : Option Jvm.ClassFile.FieldType)) B.pre
  have hts : ∀ w ∈ lw_all, w.before _ s = true := fun w h => hts0 w (List.mem_cons_of_mem _ h)
  have hown : s.vm.findClass RX3 = some m.cls := findClass_of_methodNamed B.named
  have hlocks := B.notSynchronized
  subst hsz
  have hD := hD0.self (sz := s.heap.size)
  generalize hAe : va_A [(h0, .inr (3, [.ref l0, .long cy0])), (l0, .inl (TY 0, 64, .inl fl0))] s.heap.size = A at hD hG ⊢
  have hA : ∀ q : Nat, s.heap.size ≤ q → A q := fun q h => by rw [← hAe]; exact Or.inr h
  have hS : va_S A s.heap s.heap [] := va_S.rf
  have hP : va_P D vwCl [(h0, .inr (3, [.ref l0, .long cy0])), (l0, .inl (TY 0, 64, .inl fl0))] s.heap := hP
  have hl := lv_entry ([.ref h0, .int p1]) (n := 9) (Nat.le_of_ble_eq_true rfl)
  rw [lg_entry_eq]
  generalize (lg_sl ([.ref h0, .int p1]) ++ List.replicate (9 - (lg_sl ([.ref h0, .int p1])).length) Slot.unset).toArray = ls at hl ⊢
  have hl : lv_has ls 9 [(0, .ref h0), (1, .int p1)] := hl
  unfold wX3_left at hw
  refine lv_iload_n hx hb dX3_left_0 rfl (lv_at hl 1 rfl) ?_
  refine lv_bipush (v := 32) hx hb dX3_left_1 (by decide) ?_
  refine lv_idiv hx hb dX3_left_3 (by decide) ?_
  refine lv_topi (fun x1 ex1 => ?_)
  replace hw := hw x1 ex1
  refine lv_istore_n (lv' := [(2, .int x1), (0, .ref h0), (1, .int p1)]) hx hb dX3_left_4 rfl hl (by decide) rfl (fun ls hl => ?_)
  refine lv_iload_n hx hb dX3_left_5 rfl (lv_at hl 2 rfl) ?_
  refine lv_bipush (v := 32) hx hb dX3_left_6 (by decide) ?_
  refine lv_irem hx hb dX3_left_8 (by decide) ?_
  refine lv_topi (fun x2 ex2 => ?_)
  replace hw := hw x2 ex2
  refine lv_istore_n (lv' := [(3, .int x2), (2, .int x1), (0, .ref h0), (1, .int p1)]) hx hb dX3_left_9 rfl hl (by decide) rfl (fun ls hl => ?_)
  refine lv_bipush (v := 63) hx hb dX3_left_10 (by decide) ?_
  refine lv_istore (lv' := [(4, .int 63), (3, .int x2), (2, .int x1), (0, .ref h0), (1, .int p1)]) hx hb dX3_left_12 hl (by decide) rfl (fun ls hl => ?_)
  obtain ⟨n3, hw⟩ := hw
  exact bX3_left_14 h0 l0 cy0 fl0 p1 post  hx hb hr hlocks hml hown hts hK hG hA n3 x1 x2 63 cy0 fl0 hw _ _ (hP.sub [0, 1] rfl) (hD.sub [0, 1] (by decide) rfl) hS _ (lv_sub hl [3, 2, 1, 0] rfl)

def wX3_half_2   (post : (Int64 × (Nat → Int32)) → Prop) : Nat → Int32 → Int64 → (Nat → Int32) → Prop
  | 0, _, _, _ => False
  | n + 1, y1, cy0', fl0' => ((64 ≤ y1) → post (cy0', fl0')) ∧ (¬ (64 ≤ y1) → (((64 ≤ (y1 + 1)) → True) ∧ (¬ (64 ≤ (y1 + 1)) → (vp_in (y1 + 1) 64))) ∧ (∀ x2 : Int32, x2 = (if 64 ≤ (y1 + 1) then 0 else (fl0' (y1 + 1).toNatClampNeg)) → (vp_in y1 64) ∧ (∀ x4 : Int32, x4 = (kushr (fl0' y1.toNatClampNeg) 1) ||| (kshl x2 31) → (vp_in y1 64) ∧ (∀ x5 : Int32, x5 = y1 + 1 → ((wX3_half_2 post n) x5 cy0' (upd fl0' y1.toNatClampNeg x4))))))
def wX3_half (cy0 : Int64) (fl0 : Nat → Int32) (post : (Int64 × (Nat → Int32)) → Prop) : Prop := ∃ n, wX3_half_2 post n 0 cy0 fl0
set_option maxHeartbeats 4000000 in
set_option maxRecDepth 100000 in
theorem bX3_half_2 {p : Program} {l : Launch} {e : Env} {s : State} {m : MethodId} {below : List Frame} {meth : Method} {c : Code} {D : va_G} {TY : Nat → ClassId} {A : Nat → Prop} (h0 : Nat) (l0 : Nat) (cy0 : Int64) (fl0 : Nat → Int32) (post : (Int64 × (Nat → Int32)) → Prop) (hx : p.tables.exec = Jvm.exec) (hb : c.code = cX3_half) (hr : meth.sig.returnType = (Option.none : Option Jvm.ClassFile.FieldType)) (hlocks : meth.locks = false) (hml : c.maxLocals = 3) (hown : s.vm.findClass RX3 = some m.cls) (hts : ∀ w ∈ lw_all, w.before ([.ref h0] : List Value).toArray s = true) (hK : va_K D vwCl (tyL TY) s) (hG : gz A s s.heap) (hA : ∀ q : Nat, s.heap.size ≤ q → A q) : ∀ (n : Nat) (y1 : Int32) (cy0' : Int64) (fl0' : Nat → Int32), wX3_half_2 post n y1 cy0' fl0' → ∀ (H : Heap) (locs : List Loc), va_P D vwCl [(h0, .inr (3, [.ref l0, .long cy0'])), (l0, .inl (TY 0, 64, .inl fl0'))] H → va_D A [(h0, .inr (3, [.ref l0, .long cy0'])), (l0, .inl (TY 0, 64, .inl fl0'))] → va_S A s.heap H locs → ∀ ls : Array Slot, lv_has ls 3 [(0, .ref h0), (1, .int y1)] → W p l e (headSpec (ws_ yX3_half cX3_half 3 (Option.none : Option Jvm.ClassFile.FieldType)) ({ frames := 0, cells := 0, slots := 0, locals := 0 })).room s m ([.ref h0] : List Value).toArray below meth c H locs 0 0 (MQ below (va_Qv post (fun (u : Int64 × (Nat → Int32)) t => BB D TY A [(h0, .inr (3, [.ref l0, .long u.1])), (l0, .inl (TY 0, 64, .inl u.2))] t) A) ([.ref h0] : List Value).toArray s 0 0 A) (F0 m 2 ls []) := by
  intro n
  induction n with
  | zero => intro _ _ _ h; exact h.elim
  | succ n ih =>
    intro y1 cy0' fl0' hw
    unfold wX3_half_2 at hw
    intro H locs hP hD hS ls hl
    refine lv_iload_n hx hb dX3_half_2 rfl (lv_at hl 1 rfl) ?_
    refine lv_bipush (v := 64) hx hb dX3_half_3 (by decide) ?_
    refine lv_icmp_ge (tgt := 54) hx hb dX3_half_5 (by decide) (fun c1 => ?_) (fun c1 => ?_)
    · replace hw := hw.1 c1
      have hP9 := hP.sub (ws' := [(h0, .inr (3, [.ref l0, .long cy0'])), (l0, .inl (TY 0, 64, .inl fl0'))]) [0, 1] rfl
      have hD9 := hD.sub (ws' := [(h0, .inr (3, [.ref l0, .long cy0'])), (l0, .inl (TY 0, 64, .inl fl0'))]) [0, 1] (by decide) rfl
      exact W.vret hx hb hr (fun t ht hW => ⟨⟨(cy0', fl0'), rfl, hw, BB.mk hP9 hD9 hK ht hW⟩, hS.F ht⟩) hS.2.2 dX3_half_54
    · replace hw := hw.2 c1
      refine lv_iload_n hx hb dX3_half_8 rfl (lv_at hl 1 rfl) ?_
      refine lv_iconst (v := 1) hx hb dX3_half_9 (by decide) ?_
      refine lv_iadd hx hb dX3_half_10 ?_
      refine lv_bipush (v := 64) hx hb dX3_half_11 (by decide) ?_
      obtain ⟨PJx2, hPJx2⟩ : ∃ P : Int32 → Prop, ∀ x2 : Int32, P x2 ↔ ∀ ls : Array Slot, lv_has ls 3 [(0, .ref h0), (1, .int y1)] → W p l e (headSpec (ws_ yX3_half cX3_half 3 (Option.none : Option Jvm.ClassFile.FieldType)) ({ frames := 0, cells := 0, slots := 0, locals := 0 })).room s m ([.ref h0] : List Value).toArray below meth c H locs 0 0 (MQ below (va_Qv post (fun (u : Int64 × (Nat → Int32)) t => BB D TY A [(h0, .inr (3, [.ref l0, .long u.1])), (l0, .inl (TY 0, 64, .inl u.2))] t) A) ([.ref h0] : List Value).toArray s 0 0 A) (F0 m 28 ls [.int x2]) := ⟨_, fun _ => Iff.rfl⟩
      have hox2 := hw.1
      have hjx2 : ∀ x2 : Int32, x2 = (if 64 ≤ (y1 + 1) then 0 else (fl0' (y1 + 1).toNatClampNeg)) → PJx2 x2 := by
        intro x2 ex2
        rw [hPJx2]
        intro ls hl
        replace hw := hw.2 x2 ex2
        refine lv_istore_n (lv' := [(2, .int x2), (0, .ref h0), (1, .int y1)]) hx hb dX3_half_28 rfl hl (by decide) rfl (fun ls hl => ?_)
        refine lv_aload_n hx hb dX3_half_29 rfl (lv_at hl 1 rfl) ?_
        refine va_get (D := D) (ci := 3) (v := .ref l0) (C := RX3) (T := TX3) (N := 2) hx hb hts in_X3 hown hK hP 0 rfl rfl 0 (by decide) (hts _ q914) (fun _ h9 => h9) rfl dX3_half_30 ?_
        refine lv_iload_n hx hb dX3_half_33 rfl (lv_at hl 2 rfl) ?_
        refine lv_aload_n hx hb dX3_half_34 rfl (lv_at hl 1 rfl) ?_
        refine va_get (D := D) (ci := 3) (v := .ref l0) (C := RX3) (T := TX3) (N := 2) hx hb hts in_X3 hown hK hP 0 rfl rfl 0 (by decide) (hts _ q914) (fun _ h9 => h9) rfl dX3_half_35 ?_
        refine lv_iload_n hx hb dX3_half_38 rfl (lv_at hl 2 rfl) ?_
        refine va_iald hx hb hK hP 1 0 rfl rfl hw.1 dX3_half_39 ?_
        replace hw := hw.2
        refine lv_iconst (v := 1) hx hb dX3_half_40 (by decide) ?_
        refine lv_iushr (v := kushr (fl0' y1.toNatClampNeg) 1) hx hb dX3_half_41 rfl ?_
        refine lv_iload_n hx hb dX3_half_42 rfl (lv_at hl 0 rfl) ?_
        refine lv_bipush (v := 31) hx hb dX3_half_43 (by decide) ?_
        refine lv_ishl hx hb dX3_half_45 ?_
        refine lv_ior hx hb dX3_half_46 ?_
        refine lv_topi (fun x4 ex4 => ?_)
        replace hw := hw x4 ex4
        refine va_iast (i := y1) (x := x4) hx hb hK hP hD hS 1 0 rfl rfl hw.1 dX3_half_47 (fun H locs hP hD hS => ?_)
        have hP : va_P D vwCl [(h0, .inr (3, [.ref l0, .long cy0'])), (l0, .inl (TY 0, 64, .inl (upd fl0' y1.toNatClampNeg x4)))] H := hP
        have hD : va_D A [(h0, .inr (3, [.ref l0, .long cy0'])), (l0, .inl (TY 0, 64, .inl (upd fl0' y1.toNatClampNeg x4)))] := hD
        replace hw := hw.2
        obtain ⟨x5, ex5⟩ : ∃ y : Int32, y = y1 + 1 := ⟨_, rfl⟩
        refine lv_iinc (v := x5) (lv' := [(1, .int x5), (2, .int x2), (0, .ref h0)]) hx hb dX3_half_48 hl (k := 2) rfl (by rw [ex5]; rfl) (by decide) rfl (fun ls hl => ?_)
        replace hw := hw x5 ex5
        refine lv_goto (tgt := 2) hx hb dX3_half_51 (by decide) ?_
        exact ih x5 cy0' (upd fl0' y1.toNatClampNeg x4) hw _ _ (hP.sub [0, 1] rfl) (hD.sub [0, 1] (by decide) rfl) hS _ (lv_sub hl [2, 0] rfl)
      replace hjx2 := hjx2 _ rfl
      refine lv_icmp_ge (tgt := 27) hx hb dX3_half_13 (by decide) (fun c3 => ?_) (fun c3 => ?_)
      · replace hjx2 := pf_t (P := PJx2) c3 hjx2
        refine lv_iconst (v := 0) hx hb dX3_half_27 (by decide) ?_
        exact (hPJx2 _).1 hjx2 _ (lv_sub hl [0, 1] rfl)
      · replace hjx2 := pf_f (P := PJx2) c3 hjx2
        replace hox2 := hox2.2 c3
        refine lv_aload_n hx hb dX3_half_16 rfl (lv_at hl 0 rfl) ?_
        refine va_get (D := D) (ci := 3) (v := .ref l0) (C := RX3) (T := TX3) (N := 2) hx hb hts in_X3 hown hK hP 0 rfl rfl 0 (by decide) (hts _ q914) (fun _ h9 => h9) rfl dX3_half_17 ?_
        refine lv_iload_n hx hb dX3_half_20 rfl (lv_at hl 1 rfl) ?_
        refine lv_iconst (v := 1) hx hb dX3_half_21 (by decide) ?_
        refine lv_iadd hx hb dX3_half_22 ?_
        refine va_iald hx hb hK hP 1 0 rfl rfl hox2 dX3_half_23 ?_
        refine lv_goto (tgt := 28) hx hb dX3_half_24 (by decide) ?_
        exact (hPJx2 _).1 hjx2 _ (lv_sub hl [0, 1] rfl)
set_option maxHeartbeats 4000000 in
set_option maxRecDepth 100000 in
theorem mX3_half (l : Launch) (D : va_G) (TY : Nat → ClassId) (sz : Nat) (h0 : Nat) (l0 : Nat) (cy0 : Int64) (fl0 : Nat → Int32) (post : (Int64 × (Nat → Int32)) → Prop) (hw : wX3_half cy0 fl0 post) : Met l yX3_half (ws_ yX3_half cX3_half 3 (Option.none : Option Jvm.ClassFile.FieldType)) ({ frames := 0, cells := 0, slots := 0, locals := 0 }) (PC D TY [.ref h0] sz [(h0, .inr (3, [.ref l0, .long cy0])), (l0, .inl (TY 0, 64, .inl fl0))]) (va_Qv post (fun (u : Int64 × (Nat → Int32)) t => BB D TY (va_A [(h0, .inr (3, [.ref l0, .long cy0])), (l0, .inl (TY 0, 64, .inl fl0))] sz) [(h0, .inr (3, [.ref l0, .long u.1])), (l0, .inl (TY 0, 64, .inl u.2))] t) (va_A [(h0, .inr (3, [.ref l0, .long cy0])), (l0, .inl (TY 0, 64, .inl fl0))] sz)) 0 0 (va_A [(h0, .inr (3, [.ref l0, .long cy0])), (l0, .inl (TY 0, 64, .inl fl0))] sz) := by
  refine ofWF (cc := cX3_half) (maxL := 3) (ret := (Option.none : Option Jvm.ClassFile.FieldType)) (plainFor_of_name (by decide)) rfl ?_
  intro p e s m args below meth c s₁ B hml hv
  obtain ⟨rfl, hsz, hP, hK, hD0, hG⟩ := hv
  have hx := B.exec
  have hb := B.bytes
  have hr := B.returns
  have hts0 := atoms_spec (ws := ws_ yX3_half cX3_half 3 (Option.none : Option Jvm.ClassFile.FieldType)) B.pre
  have hts : ∀ w ∈ lw_all, w.before _ s = true := fun w h => hts0 w (List.mem_cons_of_mem _ h)
  have hown : s.vm.findClass RX3 = some m.cls := findClass_of_methodNamed B.named
  have hlocks := B.notSynchronized
  subst hsz
  have hD := hD0.self (sz := s.heap.size)
  generalize hAe : va_A [(h0, .inr (3, [.ref l0, .long cy0])), (l0, .inl (TY 0, 64, .inl fl0))] s.heap.size = A at hD hG ⊢
  have hA : ∀ q : Nat, s.heap.size ≤ q → A q := fun q h => by rw [← hAe]; exact Or.inr h
  have hS : va_S A s.heap s.heap [] := va_S.rf
  have hP : va_P D vwCl [(h0, .inr (3, [.ref l0, .long cy0])), (l0, .inl (TY 0, 64, .inl fl0))] s.heap := hP
  have hl := lv_entry ([.ref h0]) (n := 3) (Nat.le_of_ble_eq_true rfl)
  rw [lg_entry_eq]
  generalize (lg_sl ([.ref h0]) ++ List.replicate (3 - (lg_sl ([.ref h0])).length) Slot.unset).toArray = ls at hl ⊢
  have hl : lv_has ls 3 [(0, .ref h0)] := hl
  unfold wX3_half at hw
  refine lv_iconst (v := 0) hx hb dX3_half_0 (by decide) ?_
  refine lv_istore_n (lv' := [(1, .int 0), (0, .ref h0)]) hx hb dX3_half_1 rfl hl (by decide) rfl (fun ls hl => ?_)
  obtain ⟨n1, hw⟩ := hw
  exact bX3_half_2 h0 l0 cy0 fl0 post  hx hb hr hlocks hml hown hts hK hG hA n1 0 cy0 fl0 hw _ _ (hP.sub [0, 1] rfl) (hD.sub [0, 1] (by decide) rfl) hS _ (lv_sub hl [1, 0] rfl)

theorem hd_J4_compareUnsigned : yJ4_compareUnsigned.cls ≠ "java/lang/invoke/MethodHandle" ∧ yJ4_compareUnsigned.cls ≠ "java/lang/invoke/VarHandle" ∧ (parseMethodDescriptor yJ4_compareUnsigned.desc).map (fun d => d.parameters.length) = some 2 := by decide +kernel
def wX3_isBelow_3 (fl0 : Nat → Int32) (fl1 : Nat → Int32)  (post : Int32 → Prop) : Nat → Int32 → Prop
  | 0, _ => False
  | n + 1, y2 => ((y2 ≤ 0) → (vp_in y2 64) ∧ ((vp_in y2 64) ∧ (∀ x2 : Int32, x2 = (if 0 ≤ (fJ4_compareUnsigned (fl0 y2.toNatClampNeg) (fl1 y2.toNatClampNeg)) then 0 else 1) → post x2))) ∧ (¬ (y2 ≤ 0) → (vp_in y2 64) ∧ ((vp_in y2 64) ∧ ((((fl0 y2.toNatClampNeg) = (fl1 y2.toNatClampNeg)) → ∀ x7 : Int32, x7 = y2 + (-1) → ((wX3_isBelow_3 fl0 fl1 post n) x7)) ∧ (¬ ((fl0 y2.toNatClampNeg) = (fl1 y2.toNatClampNeg)) → (vp_in y2 64) ∧ ((vp_in y2 64) ∧ (∀ x5 : Int32, x5 = (if 0 ≤ (fJ4_compareUnsigned (fl0 y2.toNatClampNeg) (fl1 y2.toNatClampNeg)) then 0 else 1) → post x5))))))
def wX3_isBelow (fl0 : Nat → Int32) (fl1 : Nat → Int32) (post : Int32 → Prop) : Prop := ∃ n, wX3_isBelow_3 fl0 fl1 post n 63
set_option maxHeartbeats 4000000 in
set_option maxRecDepth 100000 in
theorem bX3_isBelow_3 {p : Program} {l : Launch} {e : Env} {s : State} {m : MethodId} {below : List Frame} {meth : Method} {c : Code} {D : va_G} {TY : Nat → ClassId} (h0 : Nat) (l0 : Nat) (cy0 : Int64) (fl0 : Nat → Int32) (h1 : Nat) (l1 : Nat) (cy1 : Int64) (fl1 : Nat → Int32) (post : Int32 → Prop) (hx : p.tables.exec = Jvm.exec) (hb : c.code = cX3_isBelow) (hr : meth.sig.returnType = (Option.some Jvm.ClassFile.FieldType.boolean)) (hlocks : meth.locks = false) (hml : c.maxLocals = 3) (hown : s.vm.findClass RX3 = some m.cls) (hts : ∀ w ∈ lw_all, w.before ([.ref h0, .ref h1] : List Value).toArray s = true) (hK : va_K D vwCl (tyL TY) s) (hG : gz (fun _ => False) s s.heap) (hS : va_S (fun _ => False) s.heap s.heap []) (hP : va_P D vwCl [(h0, .inr (3, [.ref l0, .long cy0])), (l0, .inl (TY 0, 64, .inl fl0)), (h1, .inr (3, [.ref l1, .long cy1])), (l1, .inl (TY 0, 64, .inl fl1))] s.heap) : ∀ (n : Nat) (y2 : Int32), wX3_isBelow_3 fl0 fl1 post n y2 → ∀ ls : Array Slot, lv_has ls 3 [(0, .ref h0), (1, .ref h1), (2, .int y2)] → W p l e (headSpec (ws_ yX3_isBelow cX3_isBelow 3 (Option.some Jvm.ClassFile.FieldType.boolean)) ({ frames := 2, cells := 0, slots := 0, locals := 42 })).room s m ([.ref h0, .ref h1] : List Value).toArray below meth c s.heap ([]) 0 0 (MQ below (vp_Si post) ([.ref h0, .ref h1] : List Value).toArray s 0 0 (fun _ => False)) (F0 m 3 ls []) := by
  intro n
  induction n with
  | zero => intro _ h; exact h.elim
  | succ n ih =>
    intro y2 hw
    unfold wX3_isBelow_3 at hw
    intro ls hl
    refine lv_iload_n hx hb dX3_isBelow_3 rfl (lv_at hl 2 rfl) ?_
    refine lv_if_le (tgt := 28) hx hb dX3_isBelow_4 (by decide) (fun c1 => ?_) (fun c1 => ?_)
    · replace hw := hw.1 c1
      refine lv_aload_n hx hb dX3_isBelow_28 rfl (lv_at hl 0 rfl) ?_
      refine va_get (D := D) (ci := 3) (v := .ref l0) (C := RX3) (T := TX3) (N := 2) hx hb hts in_X3 hown hK hP 0 rfl rfl 0 (by decide) (hts _ q914) (fun _ h9 => h9) rfl dX3_isBelow_29 ?_
      refine lv_iload_n hx hb dX3_isBelow_32 rfl (lv_at hl 2 rfl) ?_
      refine va_iald hx hb hK hP 1 0 rfl rfl hw.1 dX3_isBelow_33 ?_
      replace hw := hw.2
      refine lv_aload_n hx hb dX3_isBelow_34 rfl (lv_at hl 1 rfl) ?_
      refine va_get (D := D) (ci := 3) (v := .ref l1) (C := RX3) (T := TX3) (N := 2) hx hb hts in_X3 hown hK hP 2 rfl rfl 0 (by decide) (hts _ q914) (fun _ h9 => h9) rfl dX3_isBelow_35 ?_
      refine lv_iload_n hx hb dX3_isBelow_38 rfl (lv_at hl 2 rfl) ?_
      refine va_iald hx hb hK hP 3 0 rfl rfl hw.1 dX3_isBelow_39 ?_
      replace hw := hw.2
      refine cSi (v := fJ4_compareUnsigned (fl0 y2.toNatClampNeg) (fl1 y2.toNatClampNeg)) (W.runS (As := [.int (fl0 y2.toNatClampNeg), .int (fl1 y2.toNatClampNeg)]) (rest := []) ⟨hx, hb, hml, hown, hts⟩ (mJ4_compareUnsigned l D TY (fl0 y2.toNatClampNeg) (fl1 y2.toNatClampNeg) (fun r => r = fJ4_compareUnsigned (fl0 y2.toNatClampNeg) (fl1 y2.toNatClampNeg)) rfl) (va_cwS 2 hts (lw_S q754 q755 q56 q756) rfl rfl rfl hd_J4_compareUnsigned ⟨Nat.le_of_ble_eq_true rfl, Nat.le_of_ble_eq_true rfl⟩) (PR.S hP [] rfl hK hG hS) rfl rfl hl.1 rfl (lv_room (Nat.le_of_ble_eq_true rfl)) dX3_isBelow_40 ⟨Nat.le_of_ble_eq_true rfl, Nat.le_of_ble_eq_true rfl⟩) ?_
      obtain ⟨PJx2, hPJx2⟩ : ∃ P : Int32 → Prop, ∀ x2 : Int32, P x2 ↔ ∀ ls : Array Slot, lv_has ls 3 [] → W p l e (headSpec (ws_ yX3_isBelow cX3_isBelow 3 (Option.some Jvm.ClassFile.FieldType.boolean)) ({ frames := 2, cells := 0, slots := 0, locals := 42 })).room s m ([.ref h0, .ref h1] : List Value).toArray below meth c s.heap ([]) 0 0 (MQ below (vp_Si post) ([.ref h0, .ref h1] : List Value).toArray s 0 0 (fun _ => False)) (F0 m 51 ls [.int x2]) := ⟨_, fun _ => Iff.rfl⟩
      have hjx2 : ∀ x2 : Int32, x2 = (if 0 ≤ (fJ4_compareUnsigned (fl0 y2.toNatClampNeg) (fl1 y2.toNatClampNeg)) then 0 else 1) → PJx2 x2 := by
        intro x2 ex2
        rw [hPJx2]
        intro ls hl
        replace hw := hw x2 ex2
        exact W.zret (v := x2) hx hb hr (by rw [ex2]; exact (zb_ite rfl rfl)) (fun t ht hW => ⟨_, rfl, hw, ht⟩) (fun q h => nomatch h) dX3_isBelow_51
      replace hjx2 := hjx2 _ rfl
      refine lv_if_ge (tgt := 50) hx hb dX3_isBelow_43 (by decide) (fun c3 => ?_) (fun c3 => ?_)
      · replace hjx2 := pf_t (P := PJx2) c3 hjx2
        refine lv_iconst (v := 0) hx hb dX3_isBelow_50 (by decide) ?_
        exact (hPJx2 _).1 hjx2 _ (lv_sub hl [] rfl)
      · replace hjx2 := pf_f (P := PJx2) c3 hjx2
        refine lv_iconst (v := 1) hx hb dX3_isBelow_46 (by decide) ?_
        refine lv_goto (tgt := 51) hx hb dX3_isBelow_47 (by decide) ?_
        exact (hPJx2 _).1 hjx2 _ (lv_sub hl [] rfl)
    · replace hw := hw.2 c1
      refine lv_aload_n hx hb dX3_isBelow_7 rfl (lv_at hl 0 rfl) ?_
      refine va_get (D := D) (ci := 3) (v := .ref l0) (C := RX3) (T := TX3) (N := 2) hx hb hts in_X3 hown hK hP 0 rfl rfl 0 (by decide) (hts _ q914) (fun _ h9 => h9) rfl dX3_isBelow_8 ?_
      refine lv_iload_n hx hb dX3_isBelow_11 rfl (lv_at hl 2 rfl) ?_
      refine va_iald hx hb hK hP 1 0 rfl rfl hw.1 dX3_isBelow_12 ?_
      replace hw := hw.2
      refine lv_aload_n hx hb dX3_isBelow_13 rfl (lv_at hl 1 rfl) ?_
      refine va_get (D := D) (ci := 3) (v := .ref l1) (C := RX3) (T := TX3) (N := 2) hx hb hts in_X3 hown hK hP 2 rfl rfl 0 (by decide) (hts _ q914) (fun _ h9 => h9) rfl dX3_isBelow_14 ?_
      refine lv_iload_n hx hb dX3_isBelow_17 rfl (lv_at hl 2 rfl) ?_
      refine va_iald hx hb hK hP 3 0 rfl rfl hw.1 dX3_isBelow_18 ?_
      replace hw := hw.2
      refine lv_icmp_ne (tgt := 28) hx hb dX3_isBelow_19 (by decide) (fun c4 => ?_) (fun c4 => ?_)
      · replace hw := hw.2 c4
        refine lv_aload_n hx hb dX3_isBelow_28 rfl (lv_at hl 0 rfl) ?_
        refine va_get (D := D) (ci := 3) (v := .ref l0) (C := RX3) (T := TX3) (N := 2) hx hb hts in_X3 hown hK hP 0 rfl rfl 0 (by decide) (hts _ q914) (fun _ h9 => h9) rfl dX3_isBelow_29 ?_
        refine lv_iload_n hx hb dX3_isBelow_32 rfl (lv_at hl 2 rfl) ?_
        refine va_iald hx hb hK hP 1 0 rfl rfl hw.1 dX3_isBelow_33 ?_
        replace hw := hw.2
        refine lv_aload_n hx hb dX3_isBelow_34 rfl (lv_at hl 1 rfl) ?_
        refine va_get (D := D) (ci := 3) (v := .ref l1) (C := RX3) (T := TX3) (N := 2) hx hb hts in_X3 hown hK hP 2 rfl rfl 0 (by decide) (hts _ q914) (fun _ h9 => h9) rfl dX3_isBelow_35 ?_
        refine lv_iload_n hx hb dX3_isBelow_38 rfl (lv_at hl 2 rfl) ?_
        refine va_iald hx hb hK hP 3 0 rfl rfl hw.1 dX3_isBelow_39 ?_
        replace hw := hw.2
        refine cSi (v := fJ4_compareUnsigned (fl0 y2.toNatClampNeg) (fl1 y2.toNatClampNeg)) (W.runS (As := [.int (fl0 y2.toNatClampNeg), .int (fl1 y2.toNatClampNeg)]) (rest := []) ⟨hx, hb, hml, hown, hts⟩ (mJ4_compareUnsigned l D TY (fl0 y2.toNatClampNeg) (fl1 y2.toNatClampNeg) (fun r => r = fJ4_compareUnsigned (fl0 y2.toNatClampNeg) (fl1 y2.toNatClampNeg)) rfl) (va_cwS 2 hts (lw_S q754 q755 q56 q756) rfl rfl rfl hd_J4_compareUnsigned ⟨Nat.le_of_ble_eq_true rfl, Nat.le_of_ble_eq_true rfl⟩) (PR.S hP [] rfl hK hG hS) rfl rfl hl.1 rfl (lv_room (Nat.le_of_ble_eq_true rfl)) dX3_isBelow_40 ⟨Nat.le_of_ble_eq_true rfl, Nat.le_of_ble_eq_true rfl⟩) ?_
        obtain ⟨PJx5, hPJx5⟩ : ∃ P : Int32 → Prop, ∀ x5 : Int32, P x5 ↔ ∀ ls : Array Slot, lv_has ls 3 [] → W p l e (headSpec (ws_ yX3_isBelow cX3_isBelow 3 (Option.some Jvm.ClassFile.FieldType.boolean)) ({ frames := 2, cells := 0, slots := 0, locals := 42 })).room s m ([.ref h0, .ref h1] : List Value).toArray below meth c s.heap ([]) 0 0 (MQ below (vp_Si post) ([.ref h0, .ref h1] : List Value).toArray s 0 0 (fun _ => False)) (F0 m 51 ls [.int x5]) := ⟨_, fun _ => Iff.rfl⟩
        have hjx5 : ∀ x5 : Int32, x5 = (if 0 ≤ (fJ4_compareUnsigned (fl0 y2.toNatClampNeg) (fl1 y2.toNatClampNeg)) then 0 else 1) → PJx5 x5 := by
          intro x5 ex5
          rw [hPJx5]
          intro ls hl
          replace hw := hw x5 ex5
          exact W.zret (v := x5) hx hb hr (by rw [ex5]; exact (zb_ite rfl rfl)) (fun t ht hW => ⟨_, rfl, hw, ht⟩) (fun q h => nomatch h) dX3_isBelow_51
        replace hjx5 := hjx5 _ rfl
        refine lv_if_ge (tgt := 50) hx hb dX3_isBelow_43 (by decide) (fun c6 => ?_) (fun c6 => ?_)
        · replace hjx5 := pf_t (P := PJx5) c6 hjx5
          refine lv_iconst (v := 0) hx hb dX3_isBelow_50 (by decide) ?_
          exact (hPJx5 _).1 hjx5 _ (lv_sub hl [] rfl)
        · replace hjx5 := pf_f (P := PJx5) c6 hjx5
          refine lv_iconst (v := 1) hx hb dX3_isBelow_46 (by decide) ?_
          refine lv_goto (tgt := 51) hx hb dX3_isBelow_47 (by decide) ?_
          exact (hPJx5 _).1 hjx5 _ (lv_sub hl [] rfl)
      · replace hw := hw.1 c4
        obtain ⟨x7, ex7⟩ : ∃ y : Int32, y = y2 + (-1) := ⟨_, rfl⟩
        refine lv_iinc (v := x7) (lv' := [(2, .int x7), (0, .ref h0), (1, .ref h1)]) hx hb dX3_isBelow_22 hl (k := 2) rfl (by rw [ex7]; rfl) (by decide) rfl (fun ls hl => ?_)
        replace hw := hw x7 ex7
        refine lv_goto (tgt := 3) hx hb dX3_isBelow_25 (by decide) ?_
        exact ih x7 hw _ (lv_sub hl [1, 2, 0] rfl)
set_option maxHeartbeats 4000000 in
set_option maxRecDepth 100000 in
theorem mX3_isBelow (l : Launch) (D : va_G) (TY : Nat → ClassId) (h0 : Nat) (l0 : Nat) (cy0 : Int64) (fl0 : Nat → Int32) (h1 : Nat) (l1 : Nat) (cy1 : Int64) (fl1 : Nat → Int32) (post : Int32 → Prop) (hw : wX3_isBelow fl0 fl1 post) : Met l yX3_isBelow (ws_ yX3_isBelow cX3_isBelow 3 (Option.some Jvm.ClassFile.FieldType.boolean)) ({ frames := 2, cells := 0, slots := 0, locals := 42 }) (PR D TY [.ref h0, .ref h1] [(h0, .inr (3, [.ref l0, .long cy0])), (l0, .inl (TY 0, 64, .inl fl0)), (h1, .inr (3, [.ref l1, .long cy1])), (l1, .inl (TY 0, 64, .inl fl1))]) (vp_Si post) 0 0 (fun _ => False) := by
  refine ofWF (cc := cX3_isBelow) (maxL := 3) (ret := (Option.some Jvm.ClassFile.FieldType.boolean)) (plainFor_of_name (by decide)) rfl ?_
  intro p e s m args below meth c s₁ B hml hv
  obtain ⟨rfl, hP, hK, hG⟩ := hv
  have hx := B.exec
  have hb := B.bytes
  have hr := B.returns
  have hts0 := atoms_spec (ws := ws_ yX3_isBelow cX3_isBelow 3 (Option.some Jvm.ClassFile.FieldType.boolean)) B.pre
  have hts : ∀ w ∈ lw_all, w.before _ s = true := fun w h => hts0 w (List.mem_cons_of_mem _ h)
  have hown : s.vm.findClass RX3 = some m.cls := findClass_of_methodNamed B.named
  have hlocks := B.notSynchronized
  have hS : va_S (fun _ => False) s.heap s.heap [] := va_S.rf
  have hl := lv_entry ([.ref h0, .ref h1]) (n := 3) (Nat.le_of_ble_eq_true rfl)
  rw [lg_entry_eq]
  generalize (lg_sl ([.ref h0, .ref h1]) ++ List.replicate (3 - (lg_sl ([.ref h0, .ref h1])).length) Slot.unset).toArray = ls at hl ⊢
  have hl : lv_has ls 3 [(0, .ref h0), (1, .ref h1)] := hl
  unfold wX3_isBelow at hw
  refine lv_bipush (v := 63) hx hb dX3_isBelow_0 (by decide) ?_
  refine lv_istore_n (lv' := [(2, .int 63), (0, .ref h0), (1, .ref h1)]) hx hb dX3_isBelow_2 rfl hl (by decide) rfl (fun ls hl => ?_)
  obtain ⟨n1, hw⟩ := hw
  exact bX3_isBelow_3 h0 l0 cy0 fl0 h1 l1 cy1 fl1 post  hx hb hr hlocks hml hown hts hK hG hS hP n1 63 hw _ (lv_sub hl [1, 2, 0] rfl)

def wX3_less_7 (fl1 : Nat → Int32)  (post : (Int64 × (Nat → Int32)) → Prop) : Nat → Int32 → Int64 → (Nat → Int32) → Prop
  | 0, _, _, _ => False
  | n + 1, y2, cy0', fl0' => ((64 ≤ y2) → post (cy0', fl0')) ∧ (¬ (64 ≤ y2) → (vp_in y2 64) ∧ ((vp_in y2 64) ∧ (∀ x2 : Int64, x2 = ((((fl0' y2.toNatClampNeg).toInt64) &&& 4294967295) - (((fl1 y2.toNatClampNeg).toInt64) &&& 4294967295)) + cy0' → (vp_in y2 64) ∧ (∀ x3 : Int64, x3 = jshr x2 32 → ∀ x4 : Int32, x4 = y2 + 1 → ((wX3_less_7 fl1 post n) x4 x3 (upd fl0' y2.toNatClampNeg x2.toInt32))))))
def wX3_less (fl0 : Nat → Int32) (fl1 : Nat → Int32) (post : (Int64 × (Nat → Int32)) → Prop) : Prop := ∃ n, wX3_less_7 fl1 post n 0 0 fl0
set_option maxHeartbeats 4000000 in
set_option maxRecDepth 100000 in
theorem bX3_less_7 {p : Program} {l : Launch} {e : Env} {s : State} {m : MethodId} {below : List Frame} {meth : Method} {c : Code} {D : va_G} {TY : Nat → ClassId} {A : Nat → Prop} (h0 : Nat) (l0 : Nat) (cy0 : Int64) (fl0 : Nat → Int32) (h1 : Nat) (l1 : Nat) (cy1 : Int64) (fl1 : Nat → Int32) (post : (Int64 × (Nat → Int32)) → Prop) (hx : p.tables.exec = Jvm.exec) (hb : c.code = cX3_less) (hr : meth.sig.returnType = (Option.none : Option Jvm.ClassFile.FieldType)) (hlocks : meth.locks = false) (hml : c.maxLocals = 5) (hown : s.vm.findClass RX3 = some m.cls) (hts : ∀ w ∈ lw_all, w.before ([.ref h0, .ref h1] : List Value).toArray s = true) (hK : va_K D vwCl (tyL TY) s) (hG : gz A s s.heap) (hA : ∀ q : Nat, s.heap.size ≤ q → A q) : ∀ (n : Nat) (y2 : Int32) (cy0' : Int64) (fl0' : Nat → Int32), wX3_less_7 fl1 post n y2 cy0' fl0' → ∀ (H : Heap) (locs : List Loc), va_P D vwCl [(h0, .inr (3, [.ref l0, .long cy0'])), (l0, .inl (TY 0, 64, .inl fl0')), (h1, .inr (3, [.ref l1, .long cy1])), (l1, .inl (TY 0, 64, .inl fl1))] H → va_D A [(h0, .inr (3, [.ref l0, .long cy0'])), (l0, .inl (TY 0, 64, .inl fl0')), (h1, .inr (3, [.ref l1, .long cy1])), (l1, .inl (TY 0, 64, .inl fl1))] → va_S A s.heap H locs → ∀ ls : Array Slot, lv_has ls 5 [(0, .ref h0), (1, .ref h1), (2, .int y2)] → W p l e (headSpec (ws_ yX3_less cX3_less 5 (Option.none : Option Jvm.ClassFile.FieldType)) ({ frames := 0, cells := 0, slots := 0, locals := 0 })).room s m ([.ref h0, .ref h1] : List Value).toArray below meth c H locs 0 0 (MQ below (va_Qv post (fun (u : Int64 × (Nat → Int32)) t => BB D TY A [(h0, .inr (3, [.ref l0, .long u.1])), (l0, .inl (TY 0, 64, .inl u.2)), (h1, .inr (3, [.ref l1, .long cy1])), (l1, .inl (TY 0, 64, .inl fl1))] t) A) ([.ref h0, .ref h1] : List Value).toArray s 0 0 A) (F0 m 7 ls []) := by
  intro n
  induction n with
  | zero => intro _ _ _ h; exact h.elim
  | succ n ih =>
    intro y2 cy0' fl0' hw
    unfold wX3_less_7 at hw
    intro H locs hP hD hS ls hl
    refine lv_iload_n hx hb dX3_less_7 rfl (lv_at hl 2 rfl) ?_
    refine lv_bipush (v := 64) hx hb dX3_less_8 (by decide) ?_
    refine lv_icmp_ge (tgt := 64) hx hb dX3_less_10 (by decide) (fun c1 => ?_) (fun c1 => ?_)
    · replace hw := hw.1 c1
      have hP9 := hP.sub (ws' := [(h0, .inr (3, [.ref l0, .long cy0'])), (l0, .inl (TY 0, 64, .inl fl0')), (h1, .inr (3, [.ref l1, .long cy1])), (l1, .inl (TY 0, 64, .inl fl1))]) [0, 1, 2, 3] rfl
      have hD9 := hD.sub (ws' := [(h0, .inr (3, [.ref l0, .long cy0'])), (l0, .inl (TY 0, 64, .inl fl0')), (h1, .inr (3, [.ref l1, .long cy1])), (l1, .inl (TY 0, 64, .inl fl1))]) [0, 1, 2, 3] (by decide) rfl
      exact W.vret hx hb hr (fun t ht hW => ⟨⟨(cy0', fl0'), rfl, hw, BB.mk hP9 hD9 hK ht hW⟩, hS.F ht⟩) hS.2.2 dX3_less_64
    · replace hw := hw.2 c1
      refine lv_aload_n hx hb dX3_less_13 rfl (lv_at hl 0 rfl) ?_
      refine va_get (D := D) (ci := 3) (v := .ref l0) (C := RX3) (T := TX3) (N := 2) hx hb hts in_X3 hown hK hP 0 rfl rfl 0 (by decide) (hts _ q914) (fun _ h9 => h9) rfl dX3_less_14 ?_
      refine lv_iload_n hx hb dX3_less_17 rfl (lv_at hl 2 rfl) ?_
      refine va_iald hx hb hK hP 1 0 rfl rfl hw.1 dX3_less_18 ?_
      replace hw := hw.2
      refine lv_i2l (v := (fl0' y2.toNatClampNeg).toInt64) hx hb dX3_less_19 rfl ?_
      refine lv_ldc2 (v := 4294967295) hx hb hown (hts _ q745) dX3_less_20 ?_
      refine lv_land hx hb dX3_less_23 ?_
      refine lv_aload_n hx hb dX3_less_24 rfl (lv_at hl 1 rfl) ?_
      refine va_get (D := D) (ci := 3) (v := .ref l1) (C := RX3) (T := TX3) (N := 2) hx hb hts in_X3 hown hK hP 2 rfl rfl 0 (by decide) (hts _ q914) (fun _ h9 => h9) rfl dX3_less_25 ?_
      refine lv_iload_n hx hb dX3_less_28 rfl (lv_at hl 2 rfl) ?_
      refine va_iald hx hb hK hP 3 0 rfl rfl hw.1 dX3_less_29 ?_
      replace hw := hw.2
      refine lv_i2l (v := (fl1 y2.toNatClampNeg).toInt64) hx hb dX3_less_30 rfl ?_
      refine lv_ldc2 (v := 4294967295) hx hb hown (hts _ q745) dX3_less_31 ?_
      refine lv_land hx hb dX3_less_34 ?_
      refine lv_lsub hx hb dX3_less_35 ?_
      refine lv_aload_n hx hb dX3_less_36 rfl (lv_at hl 0 rfl) ?_
      refine va_get (D := D) (ci := 3) (v := .long cy0') (C := RX3) (T := TX3) (N := 2) hx hb hts in_X3 hown hK hP 0 rfl rfl 1 (by decide) (hts _ q915) (fun _ h9 => h9) rfl dX3_less_37 ?_
      refine lv_ladd hx hb dX3_less_40 ?_
      refine lv_topl (fun x2 ex2 => ?_)
      replace hw := hw x2 ex2
      refine lv_lstore_n (lv' := [(3, .long x2), (0, .ref h0), (1, .ref h1), (2, .int y2)]) hx hb dX3_less_41 rfl hl (by decide) rfl (fun ls hl => ?_)
      refine lv_aload_n hx hb dX3_less_42 rfl (lv_at hl 1 rfl) ?_
      refine va_get (D := D) (ci := 3) (v := .ref l0) (C := RX3) (T := TX3) (N := 2) hx hb hts in_X3 hown hK hP 0 rfl rfl 0 (by decide) (hts _ q914) (fun _ h9 => h9) rfl dX3_less_43 ?_
      refine lv_iload_n hx hb dX3_less_46 rfl (lv_at hl 3 rfl) ?_
      refine lv_lload_n hx hb dX3_less_47 rfl (lv_at hl 0 rfl) ?_
      refine lv_l2i (v := x2.toInt32) hx hb dX3_less_48 rfl ?_
      refine va_iast (i := y2) (x := x2.toInt32) hx hb hK hP hD hS 1 0 rfl rfl hw.1 dX3_less_49 (fun H locs hP hD hS => ?_)
      have hP : va_P D vwCl [(h0, .inr (3, [.ref l0, .long cy0'])), (l0, .inl (TY 0, 64, .inl (upd fl0' y2.toNatClampNeg x2.toInt32))), (h1, .inr (3, [.ref l1, .long cy1])), (l1, .inl (TY 0, 64, .inl fl1))] H := hP
      have hD : va_D A [(h0, .inr (3, [.ref l0, .long cy0'])), (l0, .inl (TY 0, 64, .inl (upd fl0' y2.toNatClampNeg x2.toInt32))), (h1, .inr (3, [.ref l1, .long cy1])), (l1, .inl (TY 0, 64, .inl fl1))] := hD
      replace hw := hw.2
      refine lv_aload_n hx hb dX3_less_50 rfl (lv_at hl 1 rfl) ?_
      refine lv_lload_n hx hb dX3_less_51 rfl (lv_at hl 0 rfl) ?_
      refine lv_bipush (v := 32) hx hb dX3_less_52 (by decide) ?_
      refine lv_lshr (v := jshr x2 32) hx hb dX3_less_54 rfl ?_
      refine lv_topl (fun x3 ex3 => ?_)
      replace hw := hw x3 ex3
      refine va_put (D := D) (ci := 3) (v := .long x3) (ty := .long) (C := RX3) (T := TX3) (N := 2) hx hb hts in_X3 tyX3 tyX3_ok nmX3 hown hK hP hD hS 0 rfl rfl 1 (by decide) (hts _ q915) (fun _ h9 => h9) rfl (by decide +kernel) rfl rfl (Nat.le_of_ble_eq_true rfl) dX3_less_55 (fun H locs hP hD hS => ?_)
      have hP : va_P D vwCl [(h0, .inr (3, [.ref l0, .long x3])), (l0, .inl (TY 0, 64, .inl (upd fl0' y2.toNatClampNeg x2.toInt32))), (h1, .inr (3, [.ref l1, .long cy1])), (l1, .inl (TY 0, 64, .inl fl1))] H := hP
      have hD : va_D A [(h0, .inr (3, [.ref l0, .long x3])), (l0, .inl (TY 0, 64, .inl (upd fl0' y2.toNatClampNeg x2.toInt32))), (h1, .inr (3, [.ref l1, .long cy1])), (l1, .inl (TY 0, 64, .inl fl1))] := hD
      obtain ⟨x4, ex4⟩ : ∃ y : Int32, y = y2 + 1 := ⟨_, rfl⟩
      refine lv_iinc (v := x4) (lv' := [(2, .int x4), (3, .long x2), (0, .ref h0), (1, .ref h1)]) hx hb dX3_less_58 hl (k := 3) rfl (by rw [ex4]; rfl) (by decide) rfl (fun ls hl => ?_)
      replace hw := hw x4 ex4
      refine lv_goto (tgt := 7) hx hb dX3_less_61 (by decide) ?_
      exact ih x4 x3 (upd fl0' y2.toNatClampNeg x2.toInt32) hw _ _ (hP.sub [0, 1, 2, 3] rfl) (hD.sub [0, 1, 2, 3] (by decide) rfl) hS _ (lv_sub hl [2, 3, 0] rfl)
set_option maxHeartbeats 4000000 in
set_option maxRecDepth 100000 in
theorem mX3_less (l : Launch) (D : va_G) (TY : Nat → ClassId) (sz : Nat) (h0 : Nat) (l0 : Nat) (cy0 : Int64) (fl0 : Nat → Int32) (h1 : Nat) (l1 : Nat) (cy1 : Int64) (fl1 : Nat → Int32) (post : (Int64 × (Nat → Int32)) → Prop) (hw : wX3_less fl0 fl1 post) : Met l yX3_less (ws_ yX3_less cX3_less 5 (Option.none : Option Jvm.ClassFile.FieldType)) ({ frames := 0, cells := 0, slots := 0, locals := 0 }) (PC D TY [.ref h0, .ref h1] sz [(h0, .inr (3, [.ref l0, .long cy0])), (l0, .inl (TY 0, 64, .inl fl0)), (h1, .inr (3, [.ref l1, .long cy1])), (l1, .inl (TY 0, 64, .inl fl1))]) (va_Qv post (fun (u : Int64 × (Nat → Int32)) t => BB D TY (va_A [(h0, .inr (3, [.ref l0, .long cy0])), (l0, .inl (TY 0, 64, .inl fl0)), (h1, .inr (3, [.ref l1, .long cy1])), (l1, .inl (TY 0, 64, .inl fl1))] sz) [(h0, .inr (3, [.ref l0, .long u.1])), (l0, .inl (TY 0, 64, .inl u.2)), (h1, .inr (3, [.ref l1, .long cy1])), (l1, .inl (TY 0, 64, .inl fl1))] t) (va_A [(h0, .inr (3, [.ref l0, .long cy0])), (l0, .inl (TY 0, 64, .inl fl0)), (h1, .inr (3, [.ref l1, .long cy1])), (l1, .inl (TY 0, 64, .inl fl1))] sz)) 0 0 (va_A [(h0, .inr (3, [.ref l0, .long cy0])), (l0, .inl (TY 0, 64, .inl fl0)), (h1, .inr (3, [.ref l1, .long cy1])), (l1, .inl (TY 0, 64, .inl fl1))] sz) := by
  refine ofWF (cc := cX3_less) (maxL := 5) (ret := (Option.none : Option Jvm.ClassFile.FieldType)) (plainFor_of_name (by decide)) rfl ?_
  intro p e s m args below meth c s₁ B hml hv
  obtain ⟨rfl, hsz, hP, hK, hD0, hG⟩ := hv
  have hx := B.exec
  have hb := B.bytes
  have hr := B.returns
  have hts0 := atoms_spec (ws := ws_ yX3_less cX3_less 5 (Option.none : Option Jvm.ClassFile.FieldType)) B.pre
  have hts : ∀ w ∈ lw_all, w.before _ s = true := fun w h => hts0 w (List.mem_cons_of_mem _ h)
  have hown : s.vm.findClass RX3 = some m.cls := findClass_of_methodNamed B.named
  have hlocks := B.notSynchronized
  subst hsz
  have hD := hD0.self (sz := s.heap.size)
  generalize hAe : va_A [(h0, .inr (3, [.ref l0, .long cy0])), (l0, .inl (TY 0, 64, .inl fl0)), (h1, .inr (3, [.ref l1, .long cy1])), (l1, .inl (TY 0, 64, .inl fl1))] s.heap.size = A at hD hG ⊢
  have hA : ∀ q : Nat, s.heap.size ≤ q → A q := fun q h => by rw [← hAe]; exact Or.inr h
  have hS : va_S A s.heap s.heap [] := va_S.rf
  have hP : va_P D vwCl [(h0, .inr (3, [.ref l0, .long cy0])), (l0, .inl (TY 0, 64, .inl fl0)), (h1, .inr (3, [.ref l1, .long cy1])), (l1, .inl (TY 0, 64, .inl fl1))] s.heap := hP
  have hl := lv_entry ([.ref h0, .ref h1]) (n := 5) (Nat.le_of_ble_eq_true rfl)
  rw [lg_entry_eq]
  generalize (lg_sl ([.ref h0, .ref h1]) ++ List.replicate (5 - (lg_sl ([.ref h0, .ref h1])).length) Slot.unset).toArray = ls at hl ⊢
  have hl : lv_has ls 5 [(0, .ref h0), (1, .ref h1)] := hl
  unfold wX3_less at hw
  refine lv_aload_n hx hb dX3_less_0 rfl (lv_at hl 0 rfl) ?_
  refine lv_lconst (v := 0) hx hb dX3_less_1 (by decide) ?_
  refine va_put (D := D) (ci := 3) (v := .long 0) (ty := .long) (C := RX3) (T := TX3) (N := 2) hx hb hts in_X3 tyX3 tyX3_ok nmX3 hown hK hP hD hS 0 rfl rfl 1 (by decide) (hts _ q915) (fun _ h9 => h9) rfl (by decide +kernel) rfl rfl (Nat.le_of_ble_eq_true rfl) dX3_less_2 (fun H locs hP hD hS => ?_)
  have hP : va_P D vwCl [(h0, .inr (3, [.ref l0, .long 0])), (l0, .inl (TY 0, 64, .inl fl0)), (h1, .inr (3, [.ref l1, .long cy1])), (l1, .inl (TY 0, 64, .inl fl1))] H := hP
  have hD : va_D A [(h0, .inr (3, [.ref l0, .long 0])), (l0, .inl (TY 0, 64, .inl fl0)), (h1, .inr (3, [.ref l1, .long cy1])), (l1, .inl (TY 0, 64, .inl fl1))] := hD
  refine lv_iconst (v := 0) hx hb dX3_less_5 (by decide) ?_
  refine lv_istore_n (lv' := [(2, .int 0), (0, .ref h0), (1, .ref h1)]) hx hb dX3_less_6 rfl hl (by decide) rfl (fun ls hl => ?_)
  obtain ⟨n1, hw⟩ := hw
  exact bX3_less_7 h0 l0 cy0 fl0 h1 l1 cy1 fl1 post  hx hb hr hlocks hml hown hts hK hG hA n1 0 0 fl0 hw _ _ (hP.sub [0, 1, 2, 3] rfl) (hD.sub [0, 1, 2, 3] (by decide) rfl) hS _ (lv_sub hl [1, 2, 0] rfl)

def wX3_bits_22 (fl0 : Nat → Int32)  (post : Int32 → Prop) (y1 : Int32) : Prop := (((0 ≤ y1) → (vp_in y1 64)) ∧ (¬ (0 ≤ y1) → True)) ∧ (∀ x1 : Int32, x1 = (if 0 ≤ y1 then (((32 * y1) + 32) - (fJ4_numberOfLeadingZeros (fl0 y1.toNatClampNeg))) else 0) → post x1)
def wX3_bits_3 (fl0 : Nat → Int32)  (post : Int32 → Prop) : Nat → Int32 → Prop
  | 0, _ => False
  | n + 1, y1 => ((y1 < 0) → wX3_bits_22 fl0 post y1) ∧ (¬ (y1 < 0) → (vp_in y1 64) ∧ ((((fl0 y1.toNatClampNeg) = 0) → ∀ x3 : Int32, x3 = y1 + (-1) → ((wX3_bits_3 fl0 post n) x3)) ∧ (¬ ((fl0 y1.toNatClampNeg) = 0) → wX3_bits_22 fl0 post y1)))
def wX3_bits (fl0 : Nat → Int32) (post : Int32 → Prop) : Prop := ∃ n, wX3_bits_3 fl0 post n 63
set_option maxHeartbeats 4000000 in
set_option maxRecDepth 100000 in
theorem bX3_bits_22 {p : Program} {l : Launch} {e : Env} {s : State} {m : MethodId} {below : List Frame} {meth : Method} {c : Code} {D : va_G} {TY : Nat → ClassId} (h0 : Nat) (l0 : Nat) (cy0 : Int64) (fl0 : Nat → Int32) (post : Int32 → Prop) (hx : p.tables.exec = Jvm.exec) (hb : c.code = cX3_bits) (hr : meth.sig.returnType = (Option.some Jvm.ClassFile.FieldType.int)) (hlocks : meth.locks = false) (hml : c.maxLocals = 2) (hown : s.vm.findClass RX3 = some m.cls) (hts : ∀ w ∈ lw_all, w.before ([.ref h0] : List Value).toArray s = true) (hK : va_K D vwCl (tyL TY) s) (hG : gz (fun _ => False) s s.heap) (hS : va_S (fun _ => False) s.heap s.heap []) (hP : va_P D vwCl [(h0, .inr (3, [.ref l0, .long cy0])), (l0, .inl (TY 0, 64, .inl fl0))] s.heap) (y1 : Int32) (hw : wX3_bits_22 fl0 post y1) : ∀ ls : Array Slot, lv_has ls 2 [(0, .ref h0), (1, .int y1)] → W p l e (headSpec (ws_ yX3_bits cX3_bits 2 (Option.some Jvm.ClassFile.FieldType.int)) ({ frames := 1, cells := 0, slots := 0, locals := 21 })).room s m ([.ref h0] : List Value).toArray below meth c s.heap ([]) 0 0 (MQ below (vp_Si post) ([.ref h0] : List Value).toArray s 0 0 (fun _ => False)) (F0 m 22 ls []) := by
  intro ls hl
  unfold wX3_bits_22 at hw
  refine lv_iload_n hx hb dX3_bits_22 rfl (lv_at hl 1 rfl) ?_
  obtain ⟨PJx1, hPJx1⟩ : ∃ P : Int32 → Prop, ∀ x1 : Int32, P x1 ↔ ∀ ls : Array Slot, lv_has ls 2 [] → W p l e (headSpec (ws_ yX3_bits cX3_bits 2 (Option.some Jvm.ClassFile.FieldType.int)) ({ frames := 1, cells := 0, slots := 0, locals := 21 })).room s m ([.ref h0] : List Value).toArray below meth c s.heap ([]) 0 0 (MQ below (vp_Si post) ([.ref h0] : List Value).toArray s 0 0 (fun _ => False)) (F0 m 47 ls [.int x1]) := ⟨_, fun _ => Iff.rfl⟩
  have hox1 := hw.1
  have hjx1 : ∀ x1 : Int32, x1 = (if 0 ≤ y1 then (((32 * y1) + 32) - (fJ4_numberOfLeadingZeros (fl0 y1.toNatClampNeg))) else 0) → PJx1 x1 := by
    intro x1 ex1
    rw [hPJx1]
    intro ls hl
    replace hw := hw.2 x1 ex1
    exact W.iret (v := x1) hx hb hr (fun t ht hW => ⟨_, rfl, hw, ht⟩) (fun q h => nomatch h) dX3_bits_47
  replace hjx1 := hjx1 _ rfl
  refine lv_if_ge (tgt := 30) hx hb dX3_bits_23 (by decide) (fun c2 => ?_) (fun c2 => ?_)
  · replace hjx1 := pf_t (P := PJx1) c2 hjx1
    replace hox1 := hox1.1 c2
    refine lv_bipush (v := 32) hx hb dX3_bits_30 (by decide) ?_
    refine lv_iload_n hx hb dX3_bits_32 rfl (lv_at hl 1 rfl) ?_
    refine lv_imul hx hb dX3_bits_33 ?_
    refine lv_bipush (v := 32) hx hb dX3_bits_34 (by decide) ?_
    refine lv_iadd hx hb dX3_bits_36 ?_
    refine lv_aload_n hx hb dX3_bits_37 rfl (lv_at hl 0 rfl) ?_
    refine va_get (D := D) (ci := 3) (v := .ref l0) (C := RX3) (T := TX3) (N := 2) hx hb hts in_X3 hown hK hP 0 rfl rfl 0 (by decide) (hts _ q914) (fun _ h9 => h9) rfl dX3_bits_38 ?_
    refine lv_iload_n hx hb dX3_bits_41 rfl (lv_at hl 1 rfl) ?_
    refine va_iald hx hb hK hP 1 0 rfl rfl hox1 dX3_bits_42 ?_
    refine cSi (v := fJ4_numberOfLeadingZeros (fl0 y1.toNatClampNeg)) (W.runS (As := [.int (fl0 y1.toNatClampNeg)]) (rest := [.int ((32 * y1) + 32)]) ⟨hx, hb, hml, hown, hts⟩ (mJ4_numberOfLeadingZeros l D TY (fl0 y1.toNatClampNeg) (fun r => r = fJ4_numberOfLeadingZeros (fl0 y1.toNatClampNeg)) rfl) (va_cwS 1 hts (lw_S q740 q210 q56 q211) rfl rfl rfl hd_J4_numberOfLeadingZeros ⟨Nat.le_of_ble_eq_true rfl, Nat.le_of_ble_eq_true rfl⟩) (PR.S hP [] rfl hK hG hS) rfl rfl hl.1 rfl (lv_room (Nat.le_of_ble_eq_true rfl)) dX3_bits_43 ⟨Nat.le_of_ble_eq_true rfl, Nat.le_of_ble_eq_true rfl⟩) ?_
    refine lv_isub hx hb dX3_bits_46 ?_
    exact (hPJx1 _).1 hjx1 _ (lv_sub hl [] rfl)
  · replace hjx1 := pf_f (P := PJx1) c2 hjx1
    refine lv_iconst (v := 0) hx hb dX3_bits_26 (by decide) ?_
    refine lv_goto (tgt := 47) hx hb dX3_bits_27 (by decide) ?_
    exact (hPJx1 _).1 hjx1 _ (lv_sub hl [] rfl)
set_option maxHeartbeats 4000000 in
set_option maxRecDepth 100000 in
theorem bX3_bits_3 {p : Program} {l : Launch} {e : Env} {s : State} {m : MethodId} {below : List Frame} {meth : Method} {c : Code} {D : va_G} {TY : Nat → ClassId} (h0 : Nat) (l0 : Nat) (cy0 : Int64) (fl0 : Nat → Int32) (post : Int32 → Prop) (hx : p.tables.exec = Jvm.exec) (hb : c.code = cX3_bits) (hr : meth.sig.returnType = (Option.some Jvm.ClassFile.FieldType.int)) (hlocks : meth.locks = false) (hml : c.maxLocals = 2) (hown : s.vm.findClass RX3 = some m.cls) (hts : ∀ w ∈ lw_all, w.before ([.ref h0] : List Value).toArray s = true) (hK : va_K D vwCl (tyL TY) s) (hG : gz (fun _ => False) s s.heap) (hS : va_S (fun _ => False) s.heap s.heap []) (hP : va_P D vwCl [(h0, .inr (3, [.ref l0, .long cy0])), (l0, .inl (TY 0, 64, .inl fl0))] s.heap) : ∀ (n : Nat) (y1 : Int32), wX3_bits_3 fl0 post n y1 → ∀ ls : Array Slot, lv_has ls 2 [(0, .ref h0), (1, .int y1)] → W p l e (headSpec (ws_ yX3_bits cX3_bits 2 (Option.some Jvm.ClassFile.FieldType.int)) ({ frames := 1, cells := 0, slots := 0, locals := 21 })).room s m ([.ref h0] : List Value).toArray below meth c s.heap ([]) 0 0 (MQ below (vp_Si post) ([.ref h0] : List Value).toArray s 0 0 (fun _ => False)) (F0 m 3 ls []) := by
  intro n
  induction n with
  | zero => intro _ h; exact h.elim
  | succ n ih =>
    intro y1 hw
    unfold wX3_bits_3 at hw
    intro ls hl
    refine lv_iload_n hx hb dX3_bits_3 rfl (lv_at hl 1 rfl) ?_
    refine lv_if_lt (tgt := 22) hx hb dX3_bits_4 (by decide) (fun c1 => ?_) (fun c1 => ?_)
    · replace hw := hw.1 c1
      exact bX3_bits_22 h0 l0 cy0 fl0 post  hx hb hr hlocks hml hown hts hK hG hS hP y1 hw _ (lv_sub hl [0, 1] rfl)
    · replace hw := hw.2 c1
      refine lv_aload_n hx hb dX3_bits_7 rfl (lv_at hl 0 rfl) ?_
      refine va_get (D := D) (ci := 3) (v := .ref l0) (C := RX3) (T := TX3) (N := 2) hx hb hts in_X3 hown hK hP 0 rfl rfl 0 (by decide) (hts _ q914) (fun _ h9 => h9) rfl dX3_bits_8 ?_
      refine lv_iload_n hx hb dX3_bits_11 rfl (lv_at hl 1 rfl) ?_
      refine va_iald hx hb hK hP 1 0 rfl rfl hw.1 dX3_bits_12 ?_
      replace hw := hw.2
      refine lv_if_ne (tgt := 22) hx hb dX3_bits_13 (by decide) (fun c2 => ?_) (fun c2 => ?_)
      · replace hw := hw.2 c2
        exact bX3_bits_22 h0 l0 cy0 fl0 post  hx hb hr hlocks hml hown hts hK hG hS hP y1 hw _ (lv_sub hl [0, 1] rfl)
      · replace hw := hw.1 c2
        obtain ⟨x3, ex3⟩ : ∃ y : Int32, y = y1 + (-1) := ⟨_, rfl⟩
        refine lv_iinc (v := x3) (lv' := [(1, .int x3), (0, .ref h0)]) hx hb dX3_bits_16 hl (k := 1) rfl (by rw [ex3]; rfl) (by decide) rfl (fun ls hl => ?_)
        replace hw := hw x3 ex3
        refine lv_goto (tgt := 3) hx hb dX3_bits_19 (by decide) ?_
        exact ih x3 hw _ (lv_sub hl [1, 0] rfl)
set_option maxHeartbeats 4000000 in
set_option maxRecDepth 100000 in
theorem mX3_bits (l : Launch) (D : va_G) (TY : Nat → ClassId) (h0 : Nat) (l0 : Nat) (cy0 : Int64) (fl0 : Nat → Int32) (post : Int32 → Prop) (hw : wX3_bits fl0 post) : Met l yX3_bits (ws_ yX3_bits cX3_bits 2 (Option.some Jvm.ClassFile.FieldType.int)) ({ frames := 1, cells := 0, slots := 0, locals := 21 }) (PR D TY [.ref h0] [(h0, .inr (3, [.ref l0, .long cy0])), (l0, .inl (TY 0, 64, .inl fl0))]) (vp_Si post) 0 0 (fun _ => False) := by
  refine ofWF (cc := cX3_bits) (maxL := 2) (ret := (Option.some Jvm.ClassFile.FieldType.int)) (plainFor_of_name (by decide)) rfl ?_
  intro p e s m args below meth c s₁ B hml hv
  obtain ⟨rfl, hP, hK, hG⟩ := hv
  have hx := B.exec
  have hb := B.bytes
  have hr := B.returns
  have hts0 := atoms_spec (ws := ws_ yX3_bits cX3_bits 2 (Option.some Jvm.ClassFile.FieldType.int)) B.pre
  have hts : ∀ w ∈ lw_all, w.before _ s = true := fun w h => hts0 w (List.mem_cons_of_mem _ h)
  have hown : s.vm.findClass RX3 = some m.cls := findClass_of_methodNamed B.named
  have hlocks := B.notSynchronized
  have hS : va_S (fun _ => False) s.heap s.heap [] := va_S.rf
  have hl := lv_entry ([.ref h0]) (n := 2) (Nat.le_of_ble_eq_true rfl)
  rw [lg_entry_eq]
  generalize (lg_sl ([.ref h0]) ++ List.replicate (2 - (lg_sl ([.ref h0])).length) Slot.unset).toArray = ls at hl ⊢
  have hl : lv_has ls 2 [(0, .ref h0)] := hl
  unfold wX3_bits at hw
  refine lv_bipush (v := 63) hx hb dX3_bits_0 (by decide) ?_
  refine lv_istore_n (lv' := [(1, .int 63), (0, .ref h0)]) hx hb dX3_bits_2 rfl hl (by decide) rfl (fun ls hl => ?_)
  obtain ⟨n1, hw⟩ := hw
  exact bX3_bits_3 h0 l0 cy0 fl0 post  hx hb hr hlocks hml hown hts hK hG hS hP n1 63 hw _ (lv_sub hl [1, 0] rfl)
