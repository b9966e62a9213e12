def wX6_clear_2   (post : (Nat → Int64) → Prop) : Nat → Int32 → (Nat → Int64) → Prop
  | 0, _, _ => False
  | n + 1, y1, fa0' => ((170 ≤ y1) → post fa0') ∧ (¬ (170 ≤ y1) → (vp_in y1 170) ∧ (∀ x2 : Int32, x2 = y1 + 1 → ((wX6_clear_2 post n) x2 (vp_updL fa0' y1.toNatClampNeg 0))))
def wX6_clear (fa0 : Nat → Int64) (post : (Nat → Int64) → Prop) : Prop := ∃ n, wX6_clear_2 post n 0 fa0
set_option maxHeartbeats 4000000 in
set_option maxRecDepth 100000 in
theorem bX6_clear_2 {p : Program} {l : Launch} {e : Env} {s : State} {m : MethodId} {below : List Frame} {meth : Method} {c : Code} {D : va_G} {TY : Nat → ClassId} {A : Nat → Prop} (a0 : Nat) (fa0 : Nat → Int64) (post : (Nat → Int64) → Prop) (hx : p.tables.exec = Jvm.exec) (hb : c.code = cX6_clear) (hr : meth.sig.returnType = (Option.none : Option Jvm.ClassFile.FieldType)) (hlocks : meth.locks = false) (hml : c.maxLocals = 2) (hown : s.vm.findClass RX6 = some m.cls) (hts : ∀ w ∈ lw_all, w.before ([.ref a0] : List Value).toArray s = true) (hK : va_K D vwCl (tyL TY) s) (hG : gz A s s.heap) (hA : ∀ q : Nat, s.heap.size ≤ q → A q) : ∀ (n : Nat) (y1 : Int32) (fa0' : Nat → Int64), wX6_clear_2 post n y1 fa0' → ∀ (H : Heap) (locs : List Loc), va_P D vwCl [(a0, .inl (TY 1, 170, .inr (.inl fa0')))] H → va_D A [(a0, .inl (TY 1, 170, .inr (.inl fa0')))] → va_S A s.heap H locs → ∀ ls : Array Slot, lv_has ls 2 [(0, .ref a0), (1, .int y1)] → W p l e (headSpec (ws_ yX6_clear cX6_clear 2 (Option.none : Option Jvm.ClassFile.FieldType)) ({ frames := 0, cells := 0, slots := 0, locals := 0 })).room s m ([.ref a0] : List Value).toArray below meth c H locs 0 0 (MQ below (va_Qv post (fun (u : (Nat → Int64)) t => BB D TY A [(a0, .inl (TY 1, 170, .inr (.inl u)))] t) A) ([.ref a0] : List Value).toArray s 0 0 A) (F0 m 2 ls []) := by
  intro n
  induction n with
  | zero => intro _ _ h; exact h.elim
  | succ n ih =>
    intro y1 fa0' hw
    unfold wX6_clear_2 at hw
    intro H locs hP hD hS ls hl
    refine lv_iload_n hx hb dX6_clear_2 rfl (lv_at hl 1 rfl) ?_
    refine lv_sipush (v := 170) hx hb dX6_clear_3 (by decide) ?_
    refine lv_icmp_ge (tgt := 19) hx hb dX6_clear_6 (by decide) (fun c1 => ?_) (fun c1 => ?_)
    · replace hw := hw.1 c1
      have hP9 := hP.sub (ws' := [(a0, .inl (TY 1, 170, .inr (.inl fa0')))]) [0] rfl
      have hD9 := hD.sub (ws' := [(a0, .inl (TY 1, 170, .inr (.inl fa0')))]) [0] (by decide) rfl
      exact W.vret hx hb hr (fun t ht hW => ⟨⟨fa0', rfl, hw, BB.mk hP9 hD9 hK ht hW⟩, hS.F ht⟩) hS.2.2 dX6_clear_19
    · replace hw := hw.2 c1
      refine lv_aload_n hx hb dX6_clear_9 rfl (lv_at hl 0 rfl) ?_
      refine lv_iload_n hx hb dX6_clear_10 rfl (lv_at hl 1 rfl) ?_
      refine lv_lconst (v := 0) hx hb dX6_clear_11 (by decide) ?_
      refine va_last (i := y1) (x := 0) hx hb hK hP hD hS 0 1 rfl rfl hw.1 dX6_clear_12 (fun H locs hP hD hS => ?_)
      have hP : va_P D vwCl [(a0, .inl (TY 1, 170, .inr (.inl (vp_updL fa0' y1.toNatClampNeg 0))))] H := hP
      have hD : va_D A [(a0, .inl (TY 1, 170, .inr (.inl (vp_updL fa0' y1.toNatClampNeg 0))))] := hD
      replace hw := hw.2
      obtain ⟨x2, ex2⟩ : ∃ y : Int32, y = y1 + 1 := ⟨_, rfl⟩
      refine lv_iinc (v := x2) (lv' := [(1, .int x2), (0, .ref a0)]) hx hb dX6_clear_13 hl (k := 1) rfl (by rw [ex2]; rfl) (by decide) rfl (fun ls hl => ?_)
      replace hw := hw x2 ex2
      refine lv_goto (tgt := 2) hx hb dX6_clear_16 (by decide) ?_
      exact ih x2 (vp_updL fa0' y1.toNatClampNeg 0) hw _ _ (hP.sub [0] rfl) (hD.sub [0] (by decide) rfl) hS _ (lv_sub hl [1, 0] rfl)
set_option maxHeartbeats 4000000 in
set_option maxRecDepth 100000 in
theorem mX6_clear (l : Launch) (D : va_G) (TY : Nat → ClassId) (sz : Nat) (a0 : Nat) (fa0 : Nat → Int64) (post : (Nat → Int64) → Prop) (hw : wX6_clear fa0 post) : Met l yX6_clear (ws_ yX6_clear cX6_clear 2 (Option.none : Option Jvm.ClassFile.FieldType)) ({ frames := 0, cells := 0, slots := 0, locals := 0 }) (PC D TY [.ref a0] sz [(a0, .inl (TY 1, 170, .inr (.inl fa0)))]) (va_Qv post (fun (u : (Nat → Int64)) t => BB D TY (va_A [(a0, .inl (TY 1, 170, .inr (.inl fa0)))] sz) [(a0, .inl (TY 1, 170, .inr (.inl u)))] t) (va_A [(a0, .inl (TY 1, 170, .inr (.inl fa0)))] sz)) 0 0 (va_A [(a0, .inl (TY 1, 170, .inr (.inl fa0)))] sz) := by
  refine ofWF (cc := cX6_clear) (maxL := 2) (ret := (Option.none : Option Jvm.ClassFile.FieldType)) (plainFor_of_name (by decide)) rfl ?_
  intro p e s m args below meth c s₁ B hml hv
  obtain ⟨rfl, hsz, hP, hK, hD0, hG⟩ := hv
  have hx := B.exec
  have hb := B.bytes
  have hr := B.returns
  have hts0 := atoms_spec (ws := ws_ yX6_clear cX6_clear 2 (Option.none : Option Jvm.ClassFile.FieldType)) B.pre
  have hts : ∀ w ∈ lw_all, w.before _ s = true := fun w h => hts0 w (List.mem_cons_of_mem _ h)
  have hown : s.vm.findClass RX6 = some m.cls := findClass_of_methodNamed B.named
  have hlocks := B.notSynchronized
  subst hsz
  have hD := hD0.self (sz := s.heap.size)
  generalize hAe : va_A [(a0, .inl (TY 1, 170, .inr (.inl fa0)))] s.heap.size = A at hD hG ⊢
  have hA : ∀ q : Nat, s.heap.size ≤ q → A q := fun q h => by rw [← hAe]; exact Or.inr h
  have hS : va_S A s.heap s.heap [] := va_S.rf
  have hP : va_P D vwCl [(a0, .inl (TY 1, 170, .inr (.inl fa0)))] s.heap := hP
  have hl := lv_entry ([.ref a0]) (n := 2) (Nat.le_of_ble_eq_true rfl)
  rw [lg_entry_eq]
  generalize (lg_sl ([.ref a0]) ++ List.replicate (2 - (lg_sl ([.ref a0])).length) Slot.unset).toArray = ls at hl ⊢
  have hl : lv_has ls 2 [(0, .ref a0)] := hl
  unfold wX6_clear at hw
  refine lv_iconst (v := 0) hx hb dX6_clear_0 (by decide) ?_
  refine lv_istore_n (lv' := [(1, .int 0), (0, .ref a0)]) hx hb dX6_clear_1 rfl hl (by decide) rfl (fun ls hl => ?_)
  obtain ⟨n1, hw⟩ := hw
  exact bX6_clear_2 a0 fa0 post  hx hb hr hlocks hml hown hts hK hG hA n1 0 fa0 hw _ _ (hP.sub [0] rfl) (hD.sub [0] (by decide) rfl) hS _ (lv_sub hl [1, 0] rfl)

theorem hd_X6_clear : yX6_clear.cls ≠ "java/lang/invoke/MethodHandle" ∧ yX6_clear.cls ≠ "java/lang/invoke/VarHandle" ∧ (parseMethodDescriptor yX6_clear.desc).map (fun d => d.parameters.length) = some 1 := by decide +kernel
def wX6_set (fa0 : Nat → Int64) (p1 : Int64) (post : (Nat → Int64) → Prop) : Prop := wX6_clear fa0 (fun u2 => ∀ x3 : Int64, x3 = p1 &&& 1073741823 → ∀ x4 : Int64, x4 = (jushr p1 30) &&& 1073741823 → ∀ x5 : Int64, x5 = jushr p1 60 → post (vp_updL (vp_updL (vp_updL u2 0 x3) 1 x4) 2 x5))
set_option maxHeartbeats 4000000 in
set_option maxRecDepth 100000 in
theorem mX6_set (l : Launch) (D : va_G) (TY : Nat → ClassId) (sz : Nat) (a0 : Nat) (fa0 : Nat → Int64) (p1 : Int64) (post : (Nat → Int64) → Prop) (hw : wX6_set fa0 p1 post) : Met l yX6_set (ws_ yX6_set cX6_set 3 (Option.none : Option Jvm.ClassFile.FieldType)) ({ frames := 1, cells := 0, slots := 0, locals := 21 }) (PC D TY [.ref a0, .long p1] sz [(a0, .inl (TY 1, 170, .inr (.inl fa0)))]) (va_Qv post (fun (u : (Nat → Int64)) t => BB D TY (va_A [(a0, .inl (TY 1, 170, .inr (.inl fa0)))] sz) [(a0, .inl (TY 1, 170, .inr (.inl u)))] t) (va_A [(a0, .inl (TY 1, 170, .inr (.inl fa0)))] sz)) 0 0 (va_A [(a0, .inl (TY 1, 170, .inr (.inl fa0)))] sz) := by
  refine ofWF (cc := cX6_set) (maxL := 3) (ret := (Option.none : Option Jvm.ClassFile.FieldType)) (plainFor_of_name (by decide)) rfl ?_
  intro p e s m args below meth c s₁ B hml hv
  obtain ⟨rfl, hsz, hP, hK, hD0, hG⟩ := hv
  have hx := B.exec
  have hb := B.bytes
  have hr := B.returns
  have hts0 := atoms_spec (ws := ws_ yX6_set cX6_set 3 (Option.none : Option Jvm.ClassFile.FieldType)) B.pre
  have hts : ∀ w ∈ lw_all, w.before _ s = true := fun w h => hts0 w (List.mem_cons_of_mem _ h)
  have hown : s.vm.findClass RX6 = some m.cls := findClass_of_methodNamed B.named
  have hlocks := B.notSynchronized
  subst hsz
  have hD := hD0.self (sz := s.heap.size)
  generalize hAe : va_A [(a0, .inl (TY 1, 170, .inr (.inl fa0)))] s.heap.size = A at hD hG ⊢
  have hA : ∀ q : Nat, s.heap.size ≤ q → A q := fun q h => by rw [← hAe]; exact Or.inr h
  have hS : va_S A s.heap s.heap [] := va_S.rf
  have hP : va_P D vwCl [(a0, .inl (TY 1, 170, .inr (.inl fa0)))] s.heap := hP
  have hl := lv_entry ([.ref a0, .long p1]) (n := 3) (Nat.le_of_ble_eq_true rfl)
  rw [lg_entry_eq]
  generalize (lg_sl ([.ref a0, .long p1]) ++ List.replicate (3 - (lg_sl ([.ref a0, .long p1])).length) Slot.unset).toArray = ls at hl ⊢
  have hl : lv_has ls 3 [(0, .ref a0), (1, .long p1)] := hl
  unfold wX6_set at hw
  refine lv_aload_n hx hb dX6_set_0 rfl (lv_at hl 0 rfl) ?_
  have hPc := hP.sub (ws' := [(a0, .inl (TY 1, 170, .inr (.inl fa0)))]) [0] rfl
  have hDc := hD.sub (ws' := [(a0, .inl (TY 1, 170, .inr (.inl fa0)))]) [0] (by decide) rfl
  have hFc := va_free (wc := [(a0, .inl (TY 1, 170, .inr (.inl fa0)))]) hD hS hA [0] rfl
  refine va_callv (va_runS (As := [.ref a0]) (rest := []) ⟨hx, hb, hml, hown, hts⟩ (mX6_clear l D TY s.heap.size a0 fa0 _ hw) (va_cwS 1 hts (lw_S q1262 q1263 q50 q1264) rfl rfl rfl hd_X6_clear ⟨Nat.le_of_ble_eq_true rfl, Nat.le_of_ble_eq_true rfl⟩) (PC.S hPc hDc hFc hK hG hS) rfl rfl hl.1 rfl (lv_room (Nat.le_of_ble_eq_true rfl)) dX6_set_1 ⟨Nat.le_of_ble_eq_true rfl, Nat.le_of_ble_eq_true rfl⟩) hS (fun q _ h => hFc q h) hFc (fun u2 t H1 locs ht hvm hw hB hz1 hk1 hS => ?_)
  obtain ⟨hP, hD⟩ := BB.join (wr := []) (w1 := [(a0, .inl (TY 1, 170, .inr (.inl u2)))]) hB ht hP hD [0] [] rfl rfl (by decide) (by decide) hk1 hFc
  generalize H1 = H at hP hS ⊢
  have hP : va_P D vwCl [(a0, .inl (TY 1, 170, .inr (.inl u2)))] H := hP
  have hD : va_D A [(a0, .inl (TY 1, 170, .inr (.inl u2)))] := hD
  refine lv_aload_n hx hb dX6_set_4 rfl (lv_at hl 0 rfl) ?_
  refine lv_iconst (v := 0) hx hb dX6_set_5 (by decide) ?_
  refine lv_lload_n hx hb dX6_set_6 rfl (lv_at hl 1 rfl) ?_
  refine lv_ldc2 (v := 1073741823) hx hb hown (hts _ q1265) dX6_set_7 ?_
  refine lv_land hx hb dX6_set_10 ?_
  refine lv_topl (fun x3 ex3 => ?_)
  replace hw := hw x3 ex3
  refine va_last (i := 0) (x := x3) hx hb hK hP hD hS 0 1 rfl rfl (vp_in_nI (n := 0) (by decide) (by decide)) dX6_set_11 (fun H locs hP hD hS => ?_)
  have hP : va_P D vwCl [(a0, .inl (TY 1, 170, .inr (.inl (vp_updL u2 0 x3))))] H := hP
  have hD : va_D A [(a0, .inl (TY 1, 170, .inr (.inl (vp_updL u2 0 x3))))] := hD
  refine lv_aload_n hx hb dX6_set_12 rfl (lv_at hl 0 rfl) ?_
  refine lv_iconst (v := 1) hx hb dX6_set_13 (by decide) ?_
  refine lv_lload_n hx hb dX6_set_14 rfl (lv_at hl 1 rfl) ?_
  refine lv_bipush (v := 30) hx hb dX6_set_15 (by decide) ?_
  refine lv_lushr (v := jushr p1 30) hx hb dX6_set_17 rfl ?_
  refine lv_ldc2 (v := 1073741823) hx hb hown (hts _ q1265) dX6_set_18 ?_
  refine lv_land hx hb dX6_set_21 ?_
  refine lv_topl (fun x4 ex4 => ?_)
  replace hw := hw x4 ex4
  refine va_last (i := 1) (x := x4) hx hb hK hP hD hS 0 1 rfl rfl (vp_in_nI (n := 1) (by decide) (by decide)) dX6_set_22 (fun H locs hP hD hS => ?_)
  have hP : va_P D vwCl [(a0, .inl (TY 1, 170, .inr (.inl (vp_updL (vp_updL u2 0 x3) 1 x4))))] H := hP
  have hD : va_D A [(a0, .inl (TY 1, 170, .inr (.inl (vp_updL (vp_updL u2 0 x3) 1 x4))))] := hD
  refine lv_aload_n hx hb dX6_set_23 rfl (lv_at hl 0 rfl) ?_
  refine lv_iconst (v := 2) hx hb dX6_set_24 (by decide) ?_
  refine lv_lload_n hx hb dX6_set_25 rfl (lv_at hl 1 rfl) ?_
  refine lv_bipush (v := 60) hx hb dX6_set_26 (by decide) ?_
  refine lv_lushr (v := jushr p1 60) hx hb dX6_set_28 rfl ?_
  refine lv_topl (fun x5 ex5 => ?_)
  replace hw := hw x5 ex5
  refine va_last (i := 2) (x := x5) hx hb hK hP hD hS 0 1 rfl rfl (vp_in_nI (n := 2) (by decide) (by decide)) dX6_set_29 (fun H locs hP hD hS => ?_)
  have hP : va_P D vwCl [(a0, .inl (TY 1, 170, .inr (.inl (vp_updL (vp_updL (vp_updL u2 0 x3) 1 x4) 2 x5))))] H := hP
  have hD : va_D A [(a0, .inl (TY 1, 170, .inr (.inl (vp_updL (vp_updL (vp_updL u2 0 x3) 1 x4) 2 x5))))] := hD
  have hP9 := hP.sub (ws' := [(a0, .inl (TY 1, 170, .inr (.inl (vp_updL (vp_updL (vp_updL u2 0 x3) 1 x4) 2 x5))))]) [0] rfl
  have hD9 := hD.sub (ws' := [(a0, .inl (TY 1, 170, .inr (.inl (vp_updL (vp_updL (vp_updL u2 0 x3) 1 x4) 2 x5))))]) [0] (by decide) rfl
  exact W.vret hx hb hr (fun t ht hW => ⟨⟨(vp_updL (vp_updL (vp_updL u2 0 x3) 1 x4) 2 x5), rfl, hw, BB.mk hP9 hD9 hK ht hW⟩, hS.F ht⟩) hS.2.2 dX6_set_30

def wX6_times_6 (p1 : Int64)  (post : (Nat → Int64) → Prop) : Nat → Int64 → Int32 → (Nat → Int64) → Prop
  | 0, _, _, _ => False
  | n + 1, y5, y7, fa0' => ((170 ≤ y7) → post fa0') ∧ (¬ (170 ≤ y7) → (vp_in y7 170) ∧ (∀ x2 : Int64, x2 = ((fa0' y7.toNatClampNeg) * p1) + y5 → ∀ x3 : Int64, x3 = x2 &&& 1073741823 → (vp_in y7 170) ∧ (∀ x4 : Int64, x4 = jushr x2 30 → ∀ x5 : Int32, x5 = y7 + 1 → ((wX6_times_6 p1 post n) x4 x5 (vp_updL fa0' y7.toNatClampNeg x3)))))
def wX6_times (fa0 : Nat → Int64) (p1 : Int64) (p3 : Int64) (post : (Nat → Int64) → Prop) : Prop := ∃ n, wX6_times_6 p1 post n p3 0 fa0
set_option maxHeartbeats 4000000 in
set_option maxRecDepth 100000 in
theorem bX6_times_6 {p : Program} {l : Launch} {e : Env} {s : State} {m : MethodId} {below : List Frame} {meth : Method} {c : Code} {D : va_G} {TY : Nat → ClassId} {A : Nat → Prop} (a0 : Nat) (fa0 : Nat → Int64) (p1 : Int64) (p3 : Int64) (post : (Nat → Int64) → Prop) (hx : p.tables.exec = Jvm.exec) (hb : c.code = cX6_times) (hr : meth.sig.returnType = (Option.none : Option Jvm.ClassFile.FieldType)) (hlocks : meth.locks = false) (hml : c.maxLocals = 10) (hown : s.vm.findClass RX6 = some m.cls) (hts : ∀ w ∈ lw_all, w.before ([.ref a0, .long p1, .long p3] : List Value).toArray s = true) (hK : va_K D vwCl (tyL TY) s) (hG : gz A s s.heap) (hA : ∀ q : Nat, s.heap.size ≤ q → A q) : ∀ (n : Nat) (y5 : Int64) (y7 : Int32) (fa0' : Nat → Int64), wX6_times_6 p1 post n y5 y7 fa0' → ∀ (H : Heap) (locs : List Loc), va_P D vwCl [(a0, .inl (TY 1, 170, .inr (.inl fa0')))] H → va_D A [(a0, .inl (TY 1, 170, .inr (.inl fa0')))] → va_S A s.heap H locs → ∀ ls : Array Slot, lv_has ls 10 [(0, .ref a0), (1, .long p1), (5, .long y5), (7, .int y7)] → W p l e (headSpec (ws_ yX6_times cX6_times 10 (Option.none : Option Jvm.ClassFile.FieldType)) ({ frames := 0, cells := 0, slots := 0, locals := 0 })).room s m ([.ref a0, .long p1, .long p3] : List Value).toArray below meth c H locs 0 0 (MQ below (va_Qv post (fun (u : (Nat → Int64)) t => BB D TY A [(a0, .inl (TY 1, 170, .inr (.inl u)))] t) A) ([.ref a0, .long p1, .long p3] : List Value).toArray s 0 0 A) (F0 m 6 ls []) := by
  intro n
  induction n with
  | zero => intro _ _ _ h; exact h.elim
  | succ n ih =>
    intro y5 y7 fa0' hw
    unfold wX6_times_6 at hw
    intro H locs hP hD hS ls hl
    refine lv_iload hx hb dX6_times_6 (lv_at hl 3 rfl) ?_
    refine lv_sipush (v := 170) hx hb dX6_times_8 (by decide) ?_
    refine lv_icmp_ge (tgt := 48) hx hb dX6_times_11 (by decide) (fun c1 => ?_) (fun c1 => ?_)
    · replace hw := hw.1 c1
      have hP9 := hP.sub (ws' := [(a0, .inl (TY 1, 170, .inr (.inl fa0')))]) [0] rfl
      have hD9 := hD.sub (ws' := [(a0, .inl (TY 1, 170, .inr (.inl fa0')))]) [0] (by decide) rfl
      exact W.vret hx hb hr (fun t ht hW => ⟨⟨fa0', rfl, hw, BB.mk hP9 hD9 hK ht hW⟩, hS.F ht⟩) hS.2.2 dX6_times_48
    · replace hw := hw.2 c1
      refine lv_aload_n hx hb dX6_times_14 rfl (lv_at hl 0 rfl) ?_
      refine lv_iload hx hb dX6_times_15 (lv_at hl 3 rfl) ?_
      refine va_lald hx hb hK hP 0 1 rfl rfl hw.1 dX6_times_17 ?_
      replace hw := hw.2
      refine lv_lload_n hx hb dX6_times_18 rfl (lv_at hl 1 rfl) ?_
      refine lv_lmul hx hb dX6_times_19 ?_
      refine lv_lload hx hb dX6_times_20 (lv_at hl 2 rfl) ?_
      refine lv_ladd hx hb dX6_times_22 ?_
      refine lv_topl (fun x2 ex2 => ?_)
      replace hw := hw x2 ex2
      refine lv_lstore (lv' := [(8, .long x2), (0, .ref a0), (1, .long p1), (5, .long y5), (7, .int y7)]) hx hb dX6_times_23 hl (by decide) rfl (fun ls hl => ?_)
      refine lv_aload_n hx hb dX6_times_25 rfl (lv_at hl 1 rfl) ?_
      refine lv_iload hx hb dX6_times_26 (lv_at hl 4 rfl) ?_
      refine lv_lload hx hb dX6_times_28 (lv_at hl 0 rfl) ?_
      refine lv_ldc2 (v := 1073741823) hx hb hown (hts _ q1265) dX6_times_30 ?_
      refine lv_land hx hb dX6_times_33 ?_
      refine lv_topl (fun x3 ex3 => ?_)
      replace hw := hw x3 ex3
      refine va_last (i := y7) (x := x3) hx hb hK hP hD hS 0 1 rfl rfl hw.1 dX6_times_34 (fun H locs hP hD hS => ?_)
      have hP : va_P D vwCl [(a0, .inl (TY 1, 170, .inr (.inl (vp_updL fa0' y7.toNatClampNeg x3))))] H := hP
      have hD : va_D A [(a0, .inl (TY 1, 170, .inr (.inl (vp_updL fa0' y7.toNatClampNeg x3))))] := hD
      replace hw := hw.2
      refine lv_lload hx hb dX6_times_35 (lv_at hl 0 rfl) ?_
      refine lv_bipush (v := 30) hx hb dX6_times_37 (by decide) ?_
      refine lv_lushr (v := jushr x2 30) hx hb dX6_times_39 rfl ?_
      refine lv_topl (fun x4 ex4 => ?_)
      replace hw := hw x4 ex4
      refine lv_lstore (lv' := [(5, .long x4), (8, .long x2), (0, .ref a0), (1, .long p1), (7, .int y7)]) hx hb dX6_times_40 hl (by decide) rfl (fun ls hl => ?_)
      obtain ⟨x5, ex5⟩ : ∃ y : Int32, y = y7 + 1 := ⟨_, rfl⟩
      refine lv_iinc (v := x5) (lv' := [(7, .int x5), (5, .long x4), (8, .long x2), (0, .ref a0), (1, .long p1)]) hx hb dX6_times_42 hl (k := 4) rfl (by rw [ex5]; rfl) (by decide) rfl (fun ls hl => ?_)
      replace hw := hw x5 ex5
      refine lv_goto (tgt := 6) hx hb dX6_times_45 (by decide) ?_
      exact ih x4 x5 (vp_updL fa0' y7.toNatClampNeg x3) hw _ _ (hP.sub [0] rfl) (hD.sub [0] (by decide) rfl) hS _ (lv_sub hl [3, 4, 1, 0] rfl)
set_option maxHeartbeats 4000000 in
set_option maxRecDepth 100000 in
theorem mX6_times (l : Launch) (D : va_G) (TY : Nat → ClassId) (sz : Nat) (a0 : Nat) (fa0 : Nat → Int64) (p1 : Int64) (p3 : Int64) (post : (Nat → Int64) → Prop) (hw : wX6_times fa0 p1 p3 post) : Met l yX6_times (ws_ yX6_times cX6_times 10 (Option.none : Option Jvm.ClassFile.FieldType)) ({ frames := 0, cells := 0, slots := 0, locals := 0 }) (PC D TY [.ref a0, .long p1, .long p3] sz [(a0, .inl (TY 1, 170, .inr (.inl fa0)))]) (va_Qv post (fun (u : (Nat → Int64)) t => BB D TY (va_A [(a0, .inl (TY 1, 170, .inr (.inl fa0)))] sz) [(a0, .inl (TY 1, 170, .inr (.inl u)))] t) (va_A [(a0, .inl (TY 1, 170, .inr (.inl fa0)))] sz)) 0 0 (va_A [(a0, .inl (TY 1, 170, .inr (.inl fa0)))] sz) := by
  refine ofWF (cc := cX6_times) (maxL := 10) (ret := (Option.none : Option Jvm.ClassFile.FieldType)) (plainFor_of_name (by decide)) rfl ?_
  intro p e s m args below meth c s₁ B hml hv
  obtain ⟨rfl, hsz, hP, hK, hD0, hG⟩ := hv
  have hx := B.exec
  have hb := B.bytes
  have hr := B.returns
  have hts0 := atoms_spec (ws := ws_ yX6_times cX6_times 10 (Option.none : Option Jvm.ClassFile.FieldType)) B.pre
  have hts : ∀ w ∈ lw_all, w.before _ s = true := fun w h => hts0 w (List.mem_cons_of_mem _ h)
  have hown : s.vm.findClass RX6 = some m.cls := findClass_of_methodNamed B.named
  have hlocks := B.notSynchronized
  subst hsz
  have hD := hD0.self (sz := s.heap.size)
  generalize hAe : va_A [(a0, .inl (TY 1, 170, .inr (.inl fa0)))] s.heap.size = A at hD hG ⊢
  have hA : ∀ q : Nat, s.heap.size ≤ q → A q := fun q h => by rw [← hAe]; exact Or.inr h
  have hS : va_S A s.heap s.heap [] := va_S.rf
  have hP : va_P D vwCl [(a0, .inl (TY 1, 170, .inr (.inl fa0)))] s.heap := hP
  have hl := lv_entry ([.ref a0, .long p1, .long p3]) (n := 10) (Nat.le_of_ble_eq_true rfl)
  rw [lg_entry_eq]
  generalize (lg_sl ([.ref a0, .long p1, .long p3]) ++ List.replicate (10 - (lg_sl ([.ref a0, .long p1, .long p3])).length) Slot.unset).toArray = ls at hl ⊢
  have hl : lv_has ls 10 [(0, .ref a0), (1, .long p1), (3, .long p3)] := hl
  unfold wX6_times at hw
  refine lv_lload_n hx hb dX6_times_0 rfl (lv_at hl 2 rfl) ?_
  refine lv_lstore (lv' := [(5, .long p3), (0, .ref a0), (1, .long p1), (3, .long p3)]) hx hb dX6_times_1 hl (by decide) rfl (fun ls hl => ?_)
  refine lv_iconst (v := 0) hx hb dX6_times_3 (by decide) ?_
  refine lv_istore (lv' := [(7, .int 0), (5, .long p3), (0, .ref a0), (1, .long p1), (3, .long p3)]) hx hb dX6_times_4 hl (by decide) rfl (fun ls hl => ?_)
  obtain ⟨n1, hw⟩ := hw
  exact bX6_times_6 a0 fa0 p1 p3 post  hx hb hr hlocks hml hown hts hK hG hA n1 p3 0 fa0 hw _ _ (hP.sub [0] rfl) (hD.sub [0] (by decide) rfl) hS _ (lv_sub hl [2, 3, 1, 0] rfl)

def wX6_left_15   (post : (Nat → Int64) → Prop) : Nat → Int32 → Int32 → Int32 → (Nat → Int64) → Prop
  | 0, _, _, _, _ => False
  | n + 1, y2, y3, y4, fa0' => ((y4 < 0) → post fa0') ∧ (¬ (y4 < 0) → (((y4 < y2) → True) ∧ (¬ (y4 < y2) → (vp_in (y4 - y2) 170))) ∧ (∀ x2 : Int64, x2 = (if y4 < y2 then 0 else (jshl (fa0' (y4 - y2).toNatClampNeg) y3)) → (((y4 ≤ y2) → True) ∧ (¬ (y4 ≤ y2) → ((y3 ≤ 0) → True) ∧ (¬ (y3 ≤ 0) → (vp_in ((y4 - y2) - 1) 170)))) ∧ (∀ x4 : Int64, x4 = (if y4 ≤ y2 then 0 else (if y3 ≤ 0 then 0 else (jushr (fa0' ((y4 - y2) - 1).toNatClampNeg) (30 - y3)))) → ∀ x7 : Int64, x7 = (x2 ||| x4) &&& 1073741823 → (vp_in y4 170) ∧ (∀ x8 : Int32, x8 = y4 + (-1) → ((wX6_left_15 post n) y2 y3 x8 (vp_updL fa0' y4.toNatClampNeg x7))))))
def wX6_left (fa0 : Nat → Int64) (p1 : Int32) (post : (Nat → Int64) → Prop) : Prop := ∀ x1 : Int32, x1 = p1 / 30 → ∀ x2 : Int32, x2 = kirem p1 30 → ∃ n, wX6_left_15 post n x1 x2 169 fa0
set_option maxHeartbeats 4000000 in
set_option maxRecDepth 100000 in
theorem bX6_left_15 {p : Program} {l : Launch} {e : Env} {s : State} {m : MethodId} {below : List Frame} {meth : Method} {c : Code} {D : va_G} {TY : Nat → ClassId} {A : Nat → Prop} (a0 : Nat) (fa0 : Nat → Int64) (p1 : Int32) (post : (Nat → Int64) → Prop) (hx : p.tables.exec = Jvm.exec) (hb : c.code = cX6_left) (hr : meth.sig.returnType = (Option.none : Option Jvm.ClassFile.FieldType)) (hlocks : meth.locks = false) (hml : c.maxLocals = 9) (hown : s.vm.findClass RX6 = some m.cls) (hts : ∀ w ∈ lw_all, w.before ([.ref a0, .int p1] : List Value).toArray s = true) (hK : va_K D vwCl (tyL TY) s) (hG : gz A s s.heap) (hA : ∀ q : Nat, s.heap.size ≤ q → A q) : ∀ (n : Nat) (y2 : Int32) (y3 : Int32) (y4 : Int32) (fa0' : Nat → Int64), wX6_left_15 post n y2 y3 y4 fa0' → ∀ (H : Heap) (locs : List Loc), va_P D vwCl [(a0, .inl (TY 1, 170, .inr (.inl fa0')))] H → va_D A [(a0, .inl (TY 1, 170, .inr (.inl fa0')))] → va_S A s.heap H locs → ∀ ls : Array Slot, lv_has ls 9 [(0, .ref a0), (2, .int y2), (3, .int y3), (4, .int y4)] → W p l e (headSpec (ws_ yX6_left cX6_left 9 (Option.none : Option Jvm.ClassFile.FieldType)) ({ frames := 0, cells := 0, slots := 0, locals := 0 })).room s m ([.ref a0, .int p1] : List Value).toArray below meth c H locs 0 0 (MQ below (va_Qv post (fun (u : (Nat → Int64)) t => BB D TY A [(a0, .inl (TY 1, 170, .inr (.inl u)))] t) A) ([.ref a0, .int p1] : List Value).toArray s 0 0 A) (F0 m 15 ls []) := by
  intro n
  induction n with
  | zero => intro _ _ _ _ h; exact h.elim
  | succ n ih =>
    intro y2 y3 y4 fa0' hw
    unfold wX6_left_15 at hw
    intro H locs hP hD hS ls hl
    refine lv_iload hx hb dX6_left_15 (lv_at hl 3 rfl) ?_
    refine lv_if_lt (tgt := 88) hx hb dX6_left_17 (by decide) (fun c1 => ?_) (fun c1 => ?_)
    · replace hw := hw.1 c1
      have hP9 := hP.sub (ws' := [(a0, .inl (TY 1, 170, .inr (.inl fa0')))]) [0] rfl
      have hD9 := hD.sub (ws' := [(a0, .inl (TY 1, 170, .inr (.inl fa0')))]) [0] (by decide) rfl
      exact W.vret hx hb hr (fun t ht hW => ⟨⟨fa0', rfl, hw, BB.mk hP9 hD9 hK ht hW⟩, hS.F ht⟩) hS.2.2 dX6_left_88
    · replace hw := hw.2 c1
      refine lv_iload hx hb dX6_left_20 (lv_at hl 3 rfl) ?_
      refine lv_iload_n hx hb dX6_left_22 rfl (lv_at hl 1 rfl) ?_
      obtain ⟨PJx2, hPJx2⟩ : ∃ P : Int64 → Prop, ∀ x2 : Int64, P x2 ↔ ∀ ls : Array Slot, lv_has ls 9 [(0, .ref a0), (2, .int y2), (3, .int y3), (4, .int y4)] → W p l e (headSpec (ws_ yX6_left cX6_left 9 (Option.none : Option Jvm.ClassFile.FieldType)) ({ frames := 0, cells := 0, slots := 0, locals := 0 })).room s m ([.ref a0, .int p1] : List Value).toArray below meth c H locs 0 0 (MQ below (va_Qv post (fun (u : (Nat → Int64)) t => BB D TY A [(a0, .inl (TY 1, 170, .inr (.inl u)))] t) A) ([.ref a0, .int p1] : List Value).toArray s 0 0 A) (F0 m 38 ls [.long x2]) := ⟨_, fun _ => Iff.rfl⟩
      have hox2 := hw.1
      have hjx2 : ∀ x2 : Int64, x2 = (if y4 < y2 then 0 else (jshl (fa0' (y4 - y2).toNatClampNeg) y3)) → PJx2 x2 := by
        intro x2 ex2
        rw [hPJx2]
        intro ls hl
        replace hw := hw.2 x2 ex2
        refine lv_lstore (lv' := [(5, .long x2), (0, .ref a0), (2, .int y2), (3, .int y3), (4, .int y4)]) hx hb dX6_left_38 hl (by decide) rfl (fun ls hl => ?_)
        refine lv_iload hx hb dX6_left_40 (lv_at hl 4 rfl) ?_
        refine lv_iload_n hx hb dX6_left_42 rfl (lv_at hl 2 rfl) ?_
        obtain ⟨PJx4, hPJx4⟩ : ∃ P : Int64 → Prop, ∀ x4 : Int64, P x4 ↔ ∀ ls : Array Slot, lv_has ls 9 [(0, .ref a0), (2, .int y2), (3, .int y3), (4, .int y4), (5, .long x2)] → W p l e (headSpec (ws_ yX6_left cX6_left 9 (Option.none : Option Jvm.ClassFile.FieldType)) ({ frames := 0, cells := 0, slots := 0, locals := 0 })).room s m ([.ref a0, .int p1] : List Value).toArray below meth c H locs 0 0 (MQ below (va_Qv post (fun (u : (Nat → Int64)) t => BB D TY A [(a0, .inl (TY 1, 170, .inr (.inl u)))] t) A) ([.ref a0, .int p1] : List Value).toArray s 0 0 A) (F0 m 67 ls [.long x4]) := ⟨_, fun _ => Iff.rfl⟩
        have hox4 := hw.1
        have hjx4 : ∀ x4 : Int64, x4 = (if y4 ≤ y2 then 0 else (if y3 ≤ 0 then 0 else (jushr (fa0' ((y4 - y2) - 1).toNatClampNeg) (30 - y3)))) → PJx4 x4 := by
          intro x4 ex4
          rw [hPJx4]
          intro ls hl
          replace hw := hw.2 x4 ex4
          refine lv_lstore (lv' := [(7, .long x4), (0, .ref a0), (2, .int y2), (3, .int y3), (4, .int y4), (5, .long x2)]) hx hb dX6_left_67 hl (by decide) rfl (fun ls hl => ?_)
          refine lv_aload_n hx hb dX6_left_69 rfl (lv_at hl 1 rfl) ?_
          refine lv_iload hx hb dX6_left_70 (lv_at hl 4 rfl) ?_
          refine lv_lload hx hb dX6_left_72 (lv_at hl 5 rfl) ?_
          refine lv_lload hx hb dX6_left_74 (lv_at hl 0 rfl) ?_
          refine lv_lor hx hb dX6_left_76 ?_
          refine lv_ldc2 (v := 1073741823) hx hb hown (hts _ q1265) dX6_left_77 ?_
          refine lv_land hx hb dX6_left_80 ?_
          refine lv_topl (fun x7 ex7 => ?_)
          replace hw := hw x7 ex7
          refine va_last (i := y4) (x := x7) hx hb hK hP hD hS 0 1 rfl rfl hw.1 dX6_left_81 (fun H locs hP hD hS => ?_)
          have hP : va_P D vwCl [(a0, .inl (TY 1, 170, .inr (.inl (vp_updL fa0' y4.toNatClampNeg x7))))] H := hP
          have hD : va_D A [(a0, .inl (TY 1, 170, .inr (.inl (vp_updL fa0' y4.toNatClampNeg x7))))] := hD
          replace hw := hw.2
          obtain ⟨x8, ex8⟩ : ∃ y : Int32, y = y4 + (-1) := ⟨_, rfl⟩
          refine lv_iinc (v := x8) (lv' := [(4, .int x8), (7, .long x4), (0, .ref a0), (2, .int y2), (3, .int y3), (5, .long x2)]) hx hb dX6_left_82 hl (k := 4) rfl (by rw [ex8]; rfl) (by decide) rfl (fun ls hl => ?_)
          replace hw := hw x8 ex8
          refine lv_goto (tgt := 15) hx hb dX6_left_85 (by decide) ?_
          exact ih y2 y3 x8 (vp_updL fa0' y4.toNatClampNeg x7) hw _ _ (hP.sub [0] rfl) (hD.sub [0] (by decide) rfl) hS _ (lv_sub hl [2, 3, 4, 0] rfl)
        replace hjx4 := hjx4 _ rfl
        refine lv_icmp_le (tgt := 66) hx hb dX6_left_43 (by decide) (fun c5 => ?_) (fun c5 => ?_)
        · replace hjx4 := pf_t (P := PJx4) c5 hjx4
          refine lv_lconst (v := 0) hx hb dX6_left_66 (by decide) ?_
          exact (hPJx4 _).1 hjx4 _ (lv_sub hl [1, 2, 3, 4, 0] rfl)
        · replace hjx4 := pf_f (P := PJx4) c5 hjx4
          replace hox4 := hox4.2 c5
          refine lv_iload_n hx hb dX6_left_46 rfl (lv_at hl 3 rfl) ?_
          refine lv_if_le (tgt := 66) hx hb dX6_left_47 (by decide) (fun c6 => ?_) (fun c6 => ?_)
          · replace hjx4 := pf_t (P := PJx4) c6 hjx4
            refine lv_lconst (v := 0) hx hb dX6_left_66 (by decide) ?_
            exact (hPJx4 _).1 hjx4 _ (lv_sub hl [1, 2, 3, 4, 0] rfl)
          · replace hjx4 := pf_f (P := PJx4) c6 hjx4
            replace hox4 := hox4.2 c6
            refine lv_aload_n hx hb dX6_left_50 rfl (lv_at hl 1 rfl) ?_
            refine lv_iload hx hb dX6_left_51 (lv_at hl 4 rfl) ?_
            refine lv_iload_n hx hb dX6_left_53 rfl (lv_at hl 2 rfl) ?_
            refine lv_isub hx hb dX6_left_54 ?_
            refine lv_iconst (v := 1) hx hb dX6_left_55 (by decide) ?_
            refine lv_isub hx hb dX6_left_56 ?_
            refine va_lald hx hb hK hP 0 1 rfl rfl hox4 dX6_left_57 ?_
            refine lv_bipush (v := 30) hx hb dX6_left_58 (by decide) ?_
            refine lv_iload_n hx hb dX6_left_60 rfl (lv_at hl 3 rfl) ?_
            refine lv_isub hx hb dX6_left_61 ?_
            refine lv_lushr (v := jushr (fa0' ((y4 - y2) - 1).toNatClampNeg) (30 - y3)) hx hb dX6_left_62 rfl ?_
            refine lv_goto (tgt := 67) hx hb dX6_left_63 (by decide) ?_
            exact (hPJx4 _).1 hjx4 _ (lv_sub hl [1, 2, 3, 4, 0] rfl)
      replace hjx2 := hjx2 _ rfl
      refine lv_icmp_lt (tgt := 37) hx hb dX6_left_23 (by decide) (fun c3 => ?_) (fun c3 => ?_)
      · replace hjx2 := pf_t (P := PJx2) c3 hjx2
        refine lv_lconst (v := 0) hx hb dX6_left_37 (by decide) ?_
        exact (hPJx2 _).1 hjx2 _ (lv_sub hl [0, 1, 2, 3] rfl)
      · replace hjx2 := pf_f (P := PJx2) c3 hjx2
        replace hox2 := hox2.2 c3
        refine lv_aload_n hx hb dX6_left_26 rfl (lv_at hl 0 rfl) ?_
        refine lv_iload hx hb dX6_left_27 (lv_at hl 3 rfl) ?_
        refine lv_iload_n hx hb dX6_left_29 rfl (lv_at hl 1 rfl) ?_
        refine lv_isub hx hb dX6_left_30 ?_
        refine va_lald hx hb hK hP 0 1 rfl rfl hox2 dX6_left_31 ?_
        refine lv_iload_n hx hb dX6_left_32 rfl (lv_at hl 2 rfl) ?_
        refine lv_lshl (v := jshl (fa0' (y4 - y2).toNatClampNeg) y3) hx hb dX6_left_33 rfl ?_
        refine lv_goto (tgt := 38) hx hb dX6_left_34 (by decide) ?_
        exact (hPJx2 _).1 hjx2 _ (lv_sub hl [0, 1, 2, 3] rfl)
set_option maxHeartbeats 4000000 in
set_option maxRecDepth 100000 in
theorem mX6_left (l : Launch) (D : va_G) (TY : Nat → ClassId) (sz : Nat) (a0 : Nat) (fa0 : Nat → Int64) (p1 : Int32) (post : (Nat → Int64) → Prop) (hw : wX6_left fa0 p1 post) : Met l yX6_left (ws_ yX6_left cX6_left 9 (Option.none : Option Jvm.ClassFile.FieldType)) ({ frames := 0, cells := 0, slots := 0, locals := 0 }) (PC D TY [.ref a0, .int p1] sz [(a0, .inl (TY 1, 170, .inr (.inl fa0)))]) (va_Qv post (fun (u : (Nat → Int64)) t => BB D TY (va_A [(a0, .inl (TY 1, 170, .inr (.inl fa0)))] sz) [(a0, .inl (TY 1, 170, .inr (.inl u)))] t) (va_A [(a0, .inl (TY 1, 170, .inr (.inl fa0)))] sz)) 0 0 (va_A [(a0, .inl (TY 1, 170, .inr (.inl fa0)))] sz) := by
  refine ofWF (cc := cX6_left) (maxL := 9) (ret := (Option.none : Option Jvm.ClassFile.FieldType)) (plainFor_of_name (by decide)) rfl ?_
  intro p e s m args below meth c s₁ B hml hv
  obtain ⟨rfl, hsz, hP, hK, hD0, hG⟩ := hv
  have hx := B.exec
  have hb := B.bytes
  have hr := B.returns
  have hts0 := atoms_spec (ws := ws_ yX6_left cX6_left 9 (Option.none : Option Jvm.ClassFile.FieldType)) B.pre
  have hts : ∀ w ∈ lw_all, w.before _ s = true := fun w h => hts0 w (List.mem_cons_of_mem _ h)
  have hown : s.vm.findClass RX6 = some m.cls := findClass_of_methodNamed B.named
  have hlocks := B.notSynchronized
  subst hsz
  have hD := hD0.self (sz := s.heap.size)
  generalize hAe : va_A [(a0, .inl (TY 1, 170, .inr (.inl fa0)))] s.heap.size = A at hD hG ⊢
  have hA : ∀ q : Nat, s.heap.size ≤ q → A q := fun q h => by rw [← hAe]; exact Or.inr h
  have hS : va_S A s.heap s.heap [] := va_S.rf
  have hP : va_P D vwCl [(a0, .inl (TY 1, 170, .inr (.inl fa0)))] s.heap := hP
  have hl := lv_entry ([.ref a0, .int p1]) (n := 9) (Nat.le_of_ble_eq_true rfl)
  rw [lg_entry_eq]
  generalize (lg_sl ([.ref a0, .int p1]) ++ List.replicate (9 - (lg_sl ([.ref a0, .int p1])).length) Slot.unset).toArray = ls at hl ⊢
  have hl : lv_has ls 9 [(0, .ref a0), (1, .int p1)] := hl
  unfold wX6_left at hw
  refine lv_iload_n hx hb dX6_left_0 rfl (lv_at hl 1 rfl) ?_
  refine lv_bipush (v := 30) hx hb dX6_left_1 (by decide) ?_
  refine lv_idiv hx hb dX6_left_3 (by decide) ?_
  refine lv_topi (fun x1 ex1 => ?_)
  replace hw := hw x1 ex1
  refine lv_istore_n (lv' := [(2, .int x1), (0, .ref a0), (1, .int p1)]) hx hb dX6_left_4 rfl hl (by decide) rfl (fun ls hl => ?_)
  refine lv_iload_n hx hb dX6_left_5 rfl (lv_at hl 2 rfl) ?_
  refine lv_bipush (v := 30) hx hb dX6_left_6 (by decide) ?_
  refine lv_irem hx hb dX6_left_8 (by decide) ?_
  refine lv_topi (fun x2 ex2 => ?_)
  replace hw := hw x2 ex2
  refine lv_istore_n (lv' := [(3, .int x2), (2, .int x1), (0, .ref a0), (1, .int p1)]) hx hb dX6_left_9 rfl hl (by decide) rfl (fun ls hl => ?_)
  refine lv_sipush (v := 169) hx hb dX6_left_10 (by decide) ?_
  refine lv_istore (lv' := [(4, .int 169), (3, .int x2), (2, .int x1), (0, .ref a0), (1, .int p1)]) hx hb dX6_left_13 hl (by decide) rfl (fun ls hl => ?_)
  obtain ⟨n3, hw⟩ := hw
  exact bX6_left_15 a0 fa0 p1 post  hx hb hr hlocks hml hown hts hK hG hA n3 x1 x2 169 fa0 hw _ _ (hP.sub [0] rfl) (hD.sub [0] (by decide) rfl) hS _ (lv_sub hl [3, 2, 1, 0] rfl)

def wX6_half_2   (post : (Nat → Int64) → Prop) : Nat → Int32 → (Nat → Int64) → Prop
  | 0, _, _ => False
  | n + 1, y1, fa0' => ((170 ≤ y1) → post fa0') ∧ (¬ (170 ≤ y1) → (((170 ≤ (y1 + 1)) → True) ∧ (¬ (170 ≤ (y1 + 1)) → (vp_in (y1 + 1) 170))) ∧ (∀ x2 : Int64, x2 = (if 170 ≤ (y1 + 1) then 0 else ((fa0' (y1 + 1).toNatClampNeg) &&& 1)) → (vp_in y1 170) ∧ (∀ x4 : Int64, x4 = (jushr (fa0' y1.toNatClampNeg) 1) ||| (jshl x2 29) → (vp_in y1 170) ∧ (∀ x5 : Int32, x5 = y1 + 1 → ((wX6_half_2 post n) x5 (vp_updL fa0' y1.toNatClampNeg x4))))))
def wX6_half (fa0 : Nat → Int64) (post : (Nat → Int64) → Prop) : Prop := ∃ n, wX6_half_2 post n 0 fa0
set_option maxHeartbeats 4000000 in
set_option maxRecDepth 100000 in
theorem bX6_half_2 {p : Program} {l : Launch} {e : Env} {s : State} {m : MethodId} {below : List Frame} {meth : Method} {c : Code} {D : va_G} {TY : Nat → ClassId} {A : Nat → Prop} (a0 : Nat) (fa0 : Nat → Int64) (post : (Nat → Int64) → Prop) (hx : p.tables.exec = Jvm.exec) (hb : c.code = cX6_half) (hr : meth.sig.returnType = (Option.none : Option Jvm.ClassFile.FieldType)) (hlocks : meth.locks = false) (hml : c.maxLocals = 4) (hown : s.vm.findClass RX6 = some m.cls) (hts : ∀ w ∈ lw_all, w.before ([.ref a0] : List Value).toArray s = true) (hK : va_K D vwCl (tyL TY) s) (hG : gz A s s.heap) (hA : ∀ q : Nat, s.heap.size ≤ q → A q) : ∀ (n : Nat) (y1 : Int32) (fa0' : Nat → Int64), wX6_half_2 post n y1 fa0' → ∀ (H : Heap) (locs : List Loc), va_P D vwCl [(a0, .inl (TY 1, 170, .inr (.inl fa0')))] H → va_D A [(a0, .inl (TY 1, 170, .inr (.inl fa0')))] → va_S A s.heap H locs → ∀ ls : Array Slot, lv_has ls 4 [(0, .ref a0), (1, .int y1)] → W p l e (headSpec (ws_ yX6_half cX6_half 4 (Option.none : Option Jvm.ClassFile.FieldType)) ({ frames := 0, cells := 0, slots := 0, locals := 0 })).room s m ([.ref a0] : List Value).toArray below meth c H locs 0 0 (MQ below (va_Qv post (fun (u : (Nat → Int64)) t => BB D TY A [(a0, .inl (TY 1, 170, .inr (.inl u)))] t) A) ([.ref a0] : List Value).toArray s 0 0 A) (F0 m 2 ls []) := by
  intro n
  induction n with
  | zero => intro _ _ h; exact h.elim
  | succ n ih =>
    intro y1 fa0' hw
    unfold wX6_half_2 at hw
    intro H locs hP hD hS ls hl
    refine lv_iload_n hx hb dX6_half_2 rfl (lv_at hl 1 rfl) ?_
    refine lv_sipush (v := 170) hx hb dX6_half_3 (by decide) ?_
    refine lv_icmp_ge (tgt := 49) hx hb dX6_half_6 (by decide) (fun c1 => ?_) (fun c1 => ?_)
    · replace hw := hw.1 c1
      have hP9 := hP.sub (ws' := [(a0, .inl (TY 1, 170, .inr (.inl fa0')))]) [0] rfl
      have hD9 := hD.sub (ws' := [(a0, .inl (TY 1, 170, .inr (.inl fa0')))]) [0] (by decide) rfl
      exact W.vret hx hb hr (fun t ht hW => ⟨⟨fa0', rfl, hw, BB.mk hP9 hD9 hK ht hW⟩, hS.F ht⟩) hS.2.2 dX6_half_49
    · replace hw := hw.2 c1
      refine lv_iload_n hx hb dX6_half_9 rfl (lv_at hl 1 rfl) ?_
      refine lv_iconst (v := 1) hx hb dX6_half_10 (by decide) ?_
      refine lv_iadd hx hb dX6_half_11 ?_
      refine lv_sipush (v := 170) hx hb dX6_half_12 (by decide) ?_
      obtain ⟨PJx2, hPJx2⟩ : ∃ P : Int64 → Prop, ∀ x2 : Int64, P x2 ↔ ∀ ls : Array Slot, lv_has ls 4 [(0, .ref a0), (1, .int y1)] → W p l e (headSpec (ws_ yX6_half cX6_half 4 (Option.none : Option Jvm.ClassFile.FieldType)) ({ frames := 0, cells := 0, slots := 0, locals := 0 })).room s m ([.ref a0] : List Value).toArray below meth c H locs 0 0 (MQ below (va_Qv post (fun (u : (Nat → Int64)) t => BB D TY A [(a0, .inl (TY 1, 170, .inr (.inl u)))] t) A) ([.ref a0] : List Value).toArray s 0 0 A) (F0 m 29 ls [.long x2]) := ⟨_, fun _ => Iff.rfl⟩
      have hox2 := hw.1
      have hjx2 : ∀ x2 : Int64, x2 = (if 170 ≤ (y1 + 1) then 0 else ((fa0' (y1 + 1).toNatClampNeg) &&& 1)) → PJx2 x2 := by
        intro x2 ex2
        rw [hPJx2]
        intro ls hl
        replace hw := hw.2 x2 ex2
        refine lv_lstore_n (lv' := [(2, .long x2), (0, .ref a0), (1, .int y1)]) hx hb dX6_half_29 rfl hl (by decide) rfl (fun ls hl => ?_)
        refine lv_aload_n hx hb dX6_half_30 rfl (lv_at hl 1 rfl) ?_
        refine lv_iload_n hx hb dX6_half_31 rfl (lv_at hl 2 rfl) ?_
        refine lv_aload_n hx hb dX6_half_32 rfl (lv_at hl 1 rfl) ?_
        refine lv_iload_n hx hb dX6_half_33 rfl (lv_at hl 2 rfl) ?_
        refine va_lald hx hb hK hP 0 1 rfl rfl hw.1 dX6_half_34 ?_
        replace hw := hw.2
        refine lv_iconst (v := 1) hx hb dX6_half_35 (by decide) ?_
        refine lv_lushr (v := jushr (fa0' y1.toNatClampNeg) 1) hx hb dX6_half_36 rfl ?_
        refine lv_lload_n hx hb dX6_half_37 rfl (lv_at hl 0 rfl) ?_
        refine lv_bipush (v := 29) hx hb dX6_half_38 (by decide) ?_
        refine lv_lshl (v := jshl x2 29) hx hb dX6_half_40 rfl ?_
        refine lv_lor hx hb dX6_half_41 ?_
        refine lv_topl (fun x4 ex4 => ?_)
        replace hw := hw x4 ex4
        refine va_last (i := y1) (x := x4) hx hb hK hP hD hS 0 1 rfl rfl hw.1 dX6_half_42 (fun H locs hP hD hS => ?_)
        have hP : va_P D vwCl [(a0, .inl (TY 1, 170, .inr (.inl (vp_updL fa0' y1.toNatClampNeg x4))))] H := hP
        have hD : va_D A [(a0, .inl (TY 1, 170, .inr (.inl (vp_updL fa0' y1.toNatClampNeg x4))))] := hD
        replace hw := hw.2
        obtain ⟨x5, ex5⟩ : ∃ y : Int32, y = y1 + 1 := ⟨_, rfl⟩
        refine lv_iinc (v := x5) (lv' := [(1, .int x5), (2, .long x2), (0, .ref a0)]) hx hb dX6_half_43 hl (k := 2) rfl (by rw [ex5]; rfl) (by decide) rfl (fun ls hl => ?_)
        replace hw := hw x5 ex5
        refine lv_goto (tgt := 2) hx hb dX6_half_46 (by decide) ?_
        exact ih x5 (vp_updL fa0' y1.toNatClampNeg x4) hw _ _ (hP.sub [0] rfl) (hD.sub [0] (by decide) rfl) hS _ (lv_sub hl [2, 0] rfl)
      replace hjx2 := hjx2 _ rfl
      refine lv_icmp_ge (tgt := 28) hx hb dX6_half_15 (by decide) (fun c3 => ?_) (fun c3 => ?_)
      · replace hjx2 := pf_t (P := PJx2) c3 hjx2
        refine lv_lconst (v := 0) hx hb dX6_half_28 (by decide) ?_
        exact (hPJx2 _).1 hjx2 _ (lv_sub hl [0, 1] rfl)
      · replace hjx2 := pf_f (P := PJx2) c3 hjx2
        replace hox2 := hox2.2 c3
        refine lv_aload_n hx hb dX6_half_18 rfl (lv_at hl 0 rfl) ?_
        refine lv_iload_n hx hb dX6_half_19 rfl (lv_at hl 1 rfl) ?_
        refine lv_iconst (v := 1) hx hb dX6_half_20 (by decide) ?_
        refine lv_iadd hx hb dX6_half_21 ?_
        refine va_lald hx hb hK hP 0 1 rfl rfl hox2 dX6_half_22 ?_
        refine lv_lconst (v := 1) hx hb dX6_half_23 (by decide) ?_
        refine lv_land hx hb dX6_half_24 ?_
        refine lv_goto (tgt := 29) hx hb dX6_half_25 (by decide) ?_
        exact (hPJx2 _).1 hjx2 _ (lv_sub hl [0, 1] rfl)
set_option maxHeartbeats 4000000 in
set_option maxRecDepth 100000 in
theorem mX6_half (l : Launch) (D : va_G) (TY : Nat → ClassId) (sz : Nat) (a0 : Nat) (fa0 : Nat → Int64) (post : (Nat → Int64) → Prop) (hw : wX6_half fa0 post) : Met l yX6_half (ws_ yX6_half cX6_half 4 (Option.none : Option Jvm.ClassFile.FieldType)) ({ frames := 0, cells := 0, slots := 0, locals := 0 }) (PC D TY [.ref a0] sz [(a0, .inl (TY 1, 170, .inr (.inl fa0)))]) (va_Qv post (fun (u : (Nat → Int64)) t => BB D TY (va_A [(a0, .inl (TY 1, 170, .inr (.inl fa0)))] sz) [(a0, .inl (TY 1, 170, .inr (.inl u)))] t) (va_A [(a0, .inl (TY 1, 170, .inr (.inl fa0)))] sz)) 0 0 (va_A [(a0, .inl (TY 1, 170, .inr (.inl fa0)))] sz) := by
  refine ofWF (cc := cX6_half) (maxL := 4) (ret := (Option.none : Option Jvm.ClassFile.FieldType)) (plainFor_of_name (by decide)) rfl ?_
  intro p e s m args below meth c s₁ B hml hv
  obtain ⟨rfl, hsz, hP, hK, hD0, hG⟩ := hv
  have hx := B.exec
  have hb := B.bytes
  have hr := B.returns
  have hts0 := atoms_spec (ws := ws_ yX6_half cX6_half 4 (Option.none : Option Jvm.ClassFile.FieldType)) B.pre
  have hts : ∀ w ∈ lw_all, w.before _ s = true := fun w h => hts0 w (List.mem_cons_of_mem _ h)
  have hown : s.vm.findClass RX6 = some m.cls := findClass_of_methodNamed B.named
  have hlocks := B.notSynchronized
  subst hsz
  have hD := hD0.self (sz := s.heap.size)
  generalize hAe : va_A [(a0, .inl (TY 1, 170, .inr (.inl fa0)))] s.heap.size = A at hD hG ⊢
  have hA : ∀ q : Nat, s.heap.size ≤ q → A q := fun q h => by rw [← hAe]; exact Or.inr h
  have hS : va_S A s.heap s.heap [] := va_S.rf
  have hP : va_P D vwCl [(a0, .inl (TY 1, 170, .inr (.inl fa0)))] s.heap := hP
  have hl := lv_entry ([.ref a0]) (n := 4) (Nat.le_of_ble_eq_true rfl)
  rw [lg_entry_eq]
  generalize (lg_sl ([.ref a0]) ++ List.replicate (4 - (lg_sl ([.ref a0])).length) Slot.unset).toArray = ls at hl ⊢
  have hl : lv_has ls 4 [(0, .ref a0)] := hl
  unfold wX6_half at hw
  refine lv_iconst (v := 0) hx hb dX6_half_0 (by decide) ?_
  refine lv_istore_n (lv' := [(1, .int 0), (0, .ref a0)]) hx hb dX6_half_1 rfl hl (by decide) rfl (fun ls hl => ?_)
  obtain ⟨n1, hw⟩ := hw
  exact bX6_half_2 a0 fa0 post  hx hb hr hlocks hml hown hts hK hG hA n1 0 fa0 hw _ _ (hP.sub [0] rfl) (hD.sub [0] (by decide) rfl) hS _ (lv_sub hl [1, 0] rfl)

def wX6_order_24 (fa0 : Nat → Int64) (fa1 : Nat → Int64)  (post : Int32 → Prop) (y2 : Int32) : Prop := (vp_in y2 170) ∧ ((vp_in y2 170) ∧ (((((fa0 y2.toNatClampNeg) < (fa1 y2.toNatClampNeg)) → True) ∧ (¬ ((fa0 y2.toNatClampNeg) < (fa1 y2.toNatClampNeg)) → (vp_in y2 170) ∧ (vp_in y2 170))) ∧ (∀ x1 : Int32, x1 = (if (fa0 y2.toNatClampNeg) < (fa1 y2.toNatClampNeg) then (-1) else (if (fa1 y2.toNatClampNeg) < (fa0 y2.toNatClampNeg) then 1 else 0)) → post x1)))
def wX6_order_4 (fa0 : Nat → Int64) (fa1 : Nat → Int64)  (post : Int32 → Prop) : Nat → Int32 → Prop
  | 0, _ => False
  | n + 1, y2 => ((y2 ≤ 0) → wX6_order_24 fa0 fa1 post y2) ∧ (¬ (y2 ≤ 0) → (vp_in y2 170) ∧ ((vp_in y2 170) ∧ ((((fa0 y2.toNatClampNeg) = (fa1 y2.toNatClampNeg)) → ∀ x3 : Int32, x3 = y2 + (-1) → ((wX6_order_4 fa0 fa1 post n) x3)) ∧ (¬ ((fa0 y2.toNatClampNeg) = (fa1 y2.toNatClampNeg)) → wX6_order_24 fa0 fa1 post y2))))
def wX6_order (fa0 : Nat → Int64) (fa1 : Nat → Int64) (post : Int32 → Prop) : Prop := ∃ n, wX6_order_4 fa0 fa1 post n 169
set_option maxHeartbeats 4000000 in
set_option maxRecDepth 100000 in
theorem bX6_order_24 {p : Program} {l : Launch} {e : Env} {s : State} {m : MethodId} {below : List Frame} {meth : Method} {c : Code} {D : va_G} {TY : Nat → ClassId} (a0 : Nat) (a1 : Nat) (fa0 : Nat → Int64) (fa1 : Nat → Int64) (post : Int32 → Prop) (hx : p.tables.exec = Jvm.exec) (hb : c.code = cX6_order) (hr : meth.sig.returnType = (Option.some Jvm.ClassFile.FieldType.int)) (hlocks : meth.locks = false) (hml : c.maxLocals = 3) (hown : s.vm.findClass RX6 = some m.cls) (hts : ∀ w ∈ lw_all, w.before ([.ref a0, .ref a1] : List Value).toArray s = true) (hK : va_K D vwCl (tyL TY) s) (hG : gz (fun _ => False) s s.heap) (hS : va_S (fun _ => False) s.heap s.heap []) (hP : va_P D vwCl [(a0, .inl (TY 1, 170, .inr (.inl fa0))), (a1, .inl (TY 1, 170, .inr (.inl fa1)))] s.heap) (y2 : Int32) (hw : wX6_order_24 fa0 fa1 post y2) : ∀ ls : Array Slot, lv_has ls 3 [(0, .ref a0), (1, .ref a1), (2, .int y2)] → W p l e (headSpec (ws_ yX6_order cX6_order 3 (Option.some Jvm.ClassFile.FieldType.int)) ({ frames := 0, cells := 0, slots := 0, locals := 0 })).room s m ([.ref a0, .ref a1] : List Value).toArray below meth c s.heap ([]) 0 0 (MQ below (vp_Si post) ([.ref a0, .ref a1] : List Value).toArray s 0 0 (fun _ => False)) (F0 m 24 ls []) := by
  intro ls hl
  unfold wX6_order_24 at hw
  refine lv_aload_n hx hb dX6_order_24 rfl (lv_at hl 0 rfl) ?_
  refine lv_iload_n hx hb dX6_order_25 rfl (lv_at hl 2 rfl) ?_
  refine va_lald hx hb hK hP 0 1 rfl rfl hw.1 dX6_order_26 ?_
  replace hw := hw.2
  refine lv_aload_n hx hb dX6_order_27 rfl (lv_at hl 1 rfl) ?_
  refine lv_iload_n hx hb dX6_order_28 rfl (lv_at hl 2 rfl) ?_
  refine va_lald hx hb hK hP 1 1 rfl rfl hw.1 dX6_order_29 ?_
  replace hw := hw.2
  obtain ⟨PJx1, hPJx1⟩ : ∃ P : Int32 → Prop, ∀ x1 : Int32, P x1 ↔ ∀ ls : Array Slot, lv_has ls 3 [] → W p l e (headSpec (ws_ yX6_order cX6_order 3 (Option.some Jvm.ClassFile.FieldType.int)) ({ frames := 0, cells := 0, slots := 0, locals := 0 })).room s m ([.ref a0, .ref a1] : List Value).toArray below meth c s.heap ([]) 0 0 (MQ below (vp_Si post) ([.ref a0, .ref a1] : List Value).toArray s 0 0 (fun _ => False)) (F0 m 53 ls [.int x1]) := ⟨_, fun _ => Iff.rfl⟩
  have hox1 := hw.1
  have hjx1 : ∀ x1 : Int32, x1 = (if (fa0 y2.toNatClampNeg) < (fa1 y2.toNatClampNeg) then (-1) else (if (fa1 y2.toNatClampNeg) < (fa0 y2.toNatClampNeg) then 1 else 0)) → PJx1 x1 := by
    intro x1 ex1
    rw [hPJx1]
    intro ls hl
    replace hw := hw.2 x1 ex1
    exact W.iret (v := x1) hx hb hr (fun t ht hW => ⟨_, rfl, hw, ht⟩) (fun q h => nomatch h) dX6_order_53
  replace hjx1 := hjx1 _ rfl
  refine lx_lge (tgt := 38) hx hb dX6_order_30 dX6_order_31 (by decide) (fun c2 => ?_) (fun c2 => ?_)
  · replace hjx1 := pf_f (P := PJx1) c2 hjx1
    replace hox1 := hox1.2 c2
    refine lv_aload_n hx hb dX6_order_38 rfl (lv_at hl 0 rfl) ?_
    refine lv_iload_n hx hb dX6_order_39 rfl (lv_at hl 2 rfl) ?_
    refine va_lald hx hb hK hP 0 1 rfl rfl hox1.1 dX6_order_40 ?_
    replace hox1 := hox1.2
    refine lv_aload_n hx hb dX6_order_41 rfl (lv_at hl 1 rfl) ?_
    refine lv_iload_n hx hb dX6_order_42 rfl (lv_at hl 2 rfl) ?_
    refine va_lald hx hb hK hP 1 1 rfl rfl hox1 dX6_order_43 ?_
    refine lx_lle (tgt := 52) hx hb dX6_order_44 dX6_order_45 (by decide) (fun c3 => ?_) (fun c3 => ?_)
    · replace hjx1 := pf_f (P := PJx1) c3 hjx1
      refine lv_iconst (v := 0) hx hb dX6_order_52 (by decide) ?_
      exact (hPJx1 _).1 hjx1 _ (lv_sub hl [] rfl)
    · replace hjx1 := pf_t (P := PJx1) c3 hjx1
      refine lv_iconst (v := 1) hx hb dX6_order_48 (by decide) ?_
      refine lv_goto (tgt := 53) hx hb dX6_order_49 (by decide) ?_
      exact (hPJx1 _).1 hjx1 _ (lv_sub hl [] rfl)
  · replace hjx1 := pf_t (P := PJx1) c2 hjx1
    refine lv_iconst (v := (-1)) hx hb dX6_order_34 (by decide) ?_
    refine lv_goto (tgt := 53) hx hb dX6_order_35 (by decide) ?_
    exact (hPJx1 _).1 hjx1 _ (lv_sub hl [] rfl)
set_option maxHeartbeats 4000000 in
set_option maxRecDepth 100000 in
theorem bX6_order_4 {p : Program} {l : Launch} {e : Env} {s : State} {m : MethodId} {below : List Frame} {meth : Method} {c : Code} {D : va_G} {TY : Nat → ClassId} (a0 : Nat) (a1 : Nat) (fa0 : Nat → Int64) (fa1 : Nat → Int64) (post : Int32 → Prop) (hx : p.tables.exec = Jvm.exec) (hb : c.code = cX6_order) (hr : meth.sig.returnType = (Option.some Jvm.ClassFile.FieldType.int)) (hlocks : meth.locks = false) (hml : c.maxLocals = 3) (hown : s.vm.findClass RX6 = some m.cls) (hts : ∀ w ∈ lw_all, w.before ([.ref a0, .ref a1] : List Value).toArray s = true) (hK : va_K D vwCl (tyL TY) s) (hG : gz (fun _ => False) s s.heap) (hS : va_S (fun _ => False) s.heap s.heap []) (hP : va_P D vwCl [(a0, .inl (TY 1, 170, .inr (.inl fa0))), (a1, .inl (TY 1, 170, .inr (.inl fa1)))] s.heap) : ∀ (n : Nat) (y2 : Int32), wX6_order_4 fa0 fa1 post n y2 → ∀ ls : Array Slot, lv_has ls 3 [(0, .ref a0), (1, .ref a1), (2, .int y2)] → W p l e (headSpec (ws_ yX6_order cX6_order 3 (Option.some Jvm.ClassFile.FieldType.int)) ({ frames := 0, cells := 0, slots := 0, locals := 0 })).room s m ([.ref a0, .ref a1] : List Value).toArray below meth c s.heap ([]) 0 0 (MQ below (vp_Si post) ([.ref a0, .ref a1] : List Value).toArray s 0 0 (fun _ => False)) (F0 m 4 ls []) := by
  intro n
  induction n with
  | zero => intro _ h; exact h.elim
  | succ n ih =>
    intro y2 hw
    unfold wX6_order_4 at hw
    intro ls hl
    refine lv_iload_n hx hb dX6_order_4 rfl (lv_at hl 2 rfl) ?_
    refine lv_if_le (tgt := 24) hx hb dX6_order_5 (by decide) (fun c1 => ?_) (fun c1 => ?_)
    · replace hw := hw.1 c1
      exact bX6_order_24 a0 a1 fa0 fa1 post  hx hb hr hlocks hml hown hts hK hG hS hP y2 hw _ (lv_sub hl [0, 1, 2] rfl)
    · replace hw := hw.2 c1
      refine lv_aload_n hx hb dX6_order_8 rfl (lv_at hl 0 rfl) ?_
      refine lv_iload_n hx hb dX6_order_9 rfl (lv_at hl 2 rfl) ?_
      refine va_lald hx hb hK hP 0 1 rfl rfl hw.1 dX6_order_10 ?_
      replace hw := hw.2
      refine lv_aload_n hx hb dX6_order_11 rfl (lv_at hl 1 rfl) ?_
      refine lv_iload_n hx hb dX6_order_12 rfl (lv_at hl 2 rfl) ?_
      refine va_lald hx hb hK hP 1 1 rfl rfl hw.1 dX6_order_13 ?_
      replace hw := hw.2
      refine lx_lne (tgt := 24) hx hb dX6_order_14 dX6_order_15 (by decide) (fun c2 => ?_) (fun c2 => ?_)
      · replace hw := hw.2 c2
        exact bX6_order_24 a0 a1 fa0 fa1 post  hx hb hr hlocks hml hown hts hK hG hS hP y2 hw _ (lv_sub hl [0, 1, 2] rfl)
      · replace hw := hw.1 c2
        obtain ⟨x3, ex3⟩ : ∃ y : Int32, y = y2 + (-1) := ⟨_, rfl⟩
        refine lv_iinc (v := x3) (lv' := [(2, .int x3), (0, .ref a0), (1, .ref a1)]) hx hb dX6_order_18 hl (k := 2) rfl (by rw [ex3]; rfl) (by decide) rfl (fun ls hl => ?_)
        replace hw := hw x3 ex3
        refine lv_goto (tgt := 4) hx hb dX6_order_21 (by decide) ?_
        exact ih x3 hw _ (lv_sub hl [1, 2, 0] rfl)
set_option maxHeartbeats 4000000 in
set_option maxRecDepth 100000 in
theorem mX6_order (l : Launch) (D : va_G) (TY : Nat → ClassId) (a0 : Nat) (a1 : Nat) (fa0 : Nat → Int64) (fa1 : Nat → Int64) (post : Int32 → Prop) (hw : wX6_order fa0 fa1 post) : Met l yX6_order (ws_ yX6_order cX6_order 3 (Option.some Jvm.ClassFile.FieldType.int)) ({ frames := 0, cells := 0, slots := 0, locals := 0 }) (PR D TY [.ref a0, .ref a1] [(a0, .inl (TY 1, 170, .inr (.inl fa0))), (a1, .inl (TY 1, 170, .inr (.inl fa1)))]) (vp_Si post) 0 0 (fun _ => False) := by
  refine ofWF (cc := cX6_order) (maxL := 3) (ret := (Option.some Jvm.ClassFile.FieldType.int)) (plainFor_of_name (by decide)) rfl ?_
  intro p e s m args below meth c s₁ B hml hv
  obtain ⟨rfl, hP, hK, hG⟩ := hv
  have hx := B.exec
  have hb := B.bytes
  have hr := B.returns
  have hts0 := atoms_spec (ws := ws_ yX6_order cX6_order 3 (Option.some Jvm.ClassFile.FieldType.int)) B.pre
  have hts : ∀ w ∈ lw_all, w.before _ s = true := fun w h => hts0 w (List.mem_cons_of_mem _ h)
  have hown : s.vm.findClass RX6 = some m.cls := findClass_of_methodNamed B.named
  have hlocks := B.notSynchronized
  have hS : va_S (fun _ => False) s.heap s.heap [] := va_S.rf
  have hl := lv_entry ([.ref a0, .ref a1]) (n := 3) (Nat.le_of_ble_eq_true rfl)
  rw [lg_entry_eq]
  generalize (lg_sl ([.ref a0, .ref a1]) ++ List.replicate (3 - (lg_sl ([.ref a0, .ref a1])).length) Slot.unset).toArray = ls at hl ⊢
  have hl : lv_has ls 3 [(0, .ref a0), (1, .ref a1)] := hl
  unfold wX6_order at hw
  refine lv_sipush (v := 169) hx hb dX6_order_0 (by decide) ?_
  refine lv_istore_n (lv' := [(2, .int 169), (0, .ref a0), (1, .ref a1)]) hx hb dX6_order_3 rfl hl (by decide) rfl (fun ls hl => ?_)
  obtain ⟨n1, hw⟩ := hw
  exact bX6_order_4 a0 a1 fa0 fa1 post  hx hb hr hlocks hml hown hts hK hG hS hP n1 169 hw _ (lv_sub hl [1, 2, 0] rfl)

def wX6_less_5 (fa1 : Nat → Int64)  (post : (Nat → Int64) → Prop) : Nat → Int64 → Int32 → (Nat → Int64) → Prop
  | 0, _, _, _ => False
  | n + 1, y2, y4, fa0' => ((170 ≤ y4) → post fa0') ∧ (¬ (170 ≤ y4) → (vp_in y4 170) ∧ ((vp_in y4 170) ∧ (∀ x2 : Int64, x2 = ((fa0' y4.toNatClampNeg) - (fa1 y4.toNatClampNeg)) - y2 → (∀ x3 : Int64, x3 = (if x2 < 0 then 1 else 0) → ∀ x5 : Int64, x5 = x2 &&& 1073741823 → (vp_in y4 170) ∧ (∀ x6 : Int32, x6 = y4 + 1 → ((wX6_less_5 fa1 post n) x3 x6 (vp_updL fa0' y4.toNatClampNeg x5)))))))
def wX6_less (fa0 : Nat → Int64) (fa1 : Nat → Int64) (post : (Nat → Int64) → Prop) : Prop := ∃ n, wX6_less_5 fa1 post n 0 0 fa0
set_option maxHeartbeats 4000000 in
set_option maxRecDepth 100000 in
theorem bX6_less_5 {p : Program} {l : Launch} {e : Env} {s : State} {m : MethodId} {below : List Frame} {meth : Method} {c : Code} {D : va_G} {TY : Nat → ClassId} {A : Nat → Prop} (a0 : Nat) (a1 : Nat) (fa0 : Nat → Int64) (fa1 : Nat → Int64) (post : (Nat → Int64) → Prop) (hx : p.tables.exec = Jvm.exec) (hb : c.code = cX6_less) (hr : meth.sig.returnType = (Option.none : Option Jvm.ClassFile.FieldType)) (hlocks : meth.locks = false) (hml : c.maxLocals = 7) (hown : s.vm.findClass RX6 = some m.cls) (hts : ∀ w ∈ lw_all, w.before ([.ref a0, .ref a1] : List Value).toArray s = true) (hK : va_K D vwCl (tyL TY) s) (hG : gz A s s.heap) (hA : ∀ q : Nat, s.heap.size ≤ q → A q) : ∀ (n : Nat) (y2 : Int64) (y4 : Int32) (fa0' : Nat → Int64), wX6_less_5 fa1 post n y2 y4 fa0' → ∀ (H : Heap) (locs : List Loc), va_P D vwCl [(a0, .inl (TY 1, 170, .inr (.inl fa0'))), (a1, .inl (TY 1, 170, .inr (.inl fa1)))] H → va_D A [(a0, .inl (TY 1, 170, .inr (.inl fa0'))), (a1, .inl (TY 1, 170, .inr (.inl fa1)))] → va_S A s.heap H locs → ∀ ls : Array Slot, lv_has ls 7 [(0, .ref a0), (1, .ref a1), (2, .long y2), (4, .int y4)] → W p l e (headSpec (ws_ yX6_less cX6_less 7 (Option.none : Option Jvm.ClassFile.FieldType)) ({ frames := 0, cells := 0, slots := 0, locals := 0 })).room s m ([.ref a0, .ref a1] : List Value).toArray below meth c H locs 0 0 (MQ below (va_Qv post (fun (u : (Nat → Int64)) t => BB D TY A [(a0, .inl (TY 1, 170, .inr (.inl u))), (a1, .inl (TY 1, 170, .inr (.inl fa1)))] t) A) ([.ref a0, .ref a1] : List Value).toArray s 0 0 A) (F0 m 5 ls []) := by
  intro n
  induction n with
  | zero => intro _ _ _ h; exact h.elim
  | succ n ih =>
    intro y2 y4 fa0' hw
    unfold wX6_less_5 at hw
    intro H locs hP hD hS ls hl
    refine lv_iload hx hb dX6_less_5 (lv_at hl 3 rfl) ?_
    refine lv_sipush (v := 170) hx hb dX6_less_7 (by decide) ?_
    refine lv_icmp_ge (tgt := 55) hx hb dX6_less_10 (by decide) (fun c1 => ?_) (fun c1 => ?_)
    · replace hw := hw.1 c1
      have hP9 := hP.sub (ws' := [(a0, .inl (TY 1, 170, .inr (.inl fa0'))), (a1, .inl (TY 1, 170, .inr (.inl fa1)))]) [0, 1] rfl
      have hD9 := hD.sub (ws' := [(a0, .inl (TY 1, 170, .inr (.inl fa0'))), (a1, .inl (TY 1, 170, .inr (.inl fa1)))]) [0, 1] (by decide) rfl
      exact W.vret hx hb hr (fun t ht hW => ⟨⟨fa0', rfl, hw, BB.mk hP9 hD9 hK ht hW⟩, hS.F ht⟩) hS.2.2 dX6_less_55
    · replace hw := hw.2 c1
      refine lv_aload_n hx hb dX6_less_13 rfl (lv_at hl 0 rfl) ?_
      refine lv_iload hx hb dX6_less_14 (lv_at hl 3 rfl) ?_
      refine va_lald hx hb hK hP 0 1 rfl rfl hw.1 dX6_less_16 ?_
      replace hw := hw.2
      refine lv_aload_n hx hb dX6_less_17 rfl (lv_at hl 1 rfl) ?_
      refine lv_iload hx hb dX6_less_18 (lv_at hl 3 rfl) ?_
      refine va_lald hx hb hK hP 1 1 rfl rfl hw.1 dX6_less_20 ?_
      replace hw := hw.2
      refine lv_lsub hx hb dX6_less_21 ?_
      refine lv_lload_n hx hb dX6_less_22 rfl (lv_at hl 2 rfl) ?_
      refine lv_lsub hx hb dX6_less_23 ?_
      refine lv_topl (fun x2 ex2 => ?_)
      replace hw := hw x2 ex2
      refine lv_lstore (lv' := [(5, .long x2), (0, .ref a0), (1, .ref a1), (2, .long y2), (4, .int y4)]) hx hb dX6_less_24 hl (by decide) rfl (fun ls hl => ?_)
      refine lv_lload hx hb dX6_less_26 (lv_at hl 0 rfl) ?_
      refine lv_lconst (v := 0) hx hb dX6_less_28 (by decide) ?_
      obtain ⟨PJx3, hPJx3⟩ : ∃ P : Int64 → Prop, ∀ x3 : Int64, P x3 ↔ ∀ ls : Array Slot, lv_has ls 7 [(0, .ref a0), (1, .ref a1), (4, .int y4), (5, .long x2)] → W p l e (headSpec (ws_ yX6_less cX6_less 7 (Option.none : Option Jvm.ClassFile.FieldType)) ({ frames := 0, cells := 0, slots := 0, locals := 0 })).room s m ([.ref a0, .ref a1] : List Value).toArray below meth c H locs 0 0 (MQ below (va_Qv post (fun (u : (Nat → Int64)) t => BB D TY A [(a0, .inl (TY 1, 170, .inr (.inl u))), (a1, .inl (TY 1, 170, .inr (.inl fa1)))] t) A) ([.ref a0, .ref a1] : List Value).toArray s 0 0 A) (F0 m 38 ls [.long x3]) := ⟨_, fun _ => Iff.rfl⟩
      have hjx3 : ∀ x3 : Int64, x3 = (if x2 < 0 then 1 else 0) → PJx3 x3 := by
        intro x3 ex3
        rw [hPJx3]
        intro ls hl
        replace hw := hw x3 ex3
        refine lv_lstore_n (lv' := [(2, .long x3), (0, .ref a0), (1, .ref a1), (4, .int y4), (5, .long x2)]) hx hb dX6_less_38 rfl hl (by decide) rfl (fun ls hl => ?_)
        refine lv_aload_n hx hb dX6_less_39 rfl (lv_at hl 1 rfl) ?_
        refine lv_iload hx hb dX6_less_40 (lv_at hl 3 rfl) ?_
        refine lv_lload hx hb dX6_less_42 (lv_at hl 4 rfl) ?_
        refine lv_ldc2 (v := 1073741823) hx hb hown (hts _ q1265) dX6_less_44 ?_
        refine lv_land hx hb dX6_less_47 ?_
        refine lv_topl (fun x5 ex5 => ?_)
        replace hw := hw x5 ex5
        refine va_last (i := y4) (x := x5) hx hb hK hP hD hS 0 1 rfl rfl hw.1 dX6_less_48 (fun H locs hP hD hS => ?_)
        have hP : va_P D vwCl [(a0, .inl (TY 1, 170, .inr (.inl (vp_updL fa0' y4.toNatClampNeg x5)))), (a1, .inl (TY 1, 170, .inr (.inl fa1)))] H := hP
        have hD : va_D A [(a0, .inl (TY 1, 170, .inr (.inl (vp_updL fa0' y4.toNatClampNeg x5)))), (a1, .inl (TY 1, 170, .inr (.inl fa1)))] := hD
        replace hw := hw.2
        obtain ⟨x6, ex6⟩ : ∃ y : Int32, y = y4 + 1 := ⟨_, rfl⟩
        refine lv_iinc (v := x6) (lv' := [(4, .int x6), (2, .long x3), (0, .ref a0), (1, .ref a1), (5, .long x2)]) hx hb dX6_less_49 hl (k := 3) rfl (by rw [ex6]; rfl) (by decide) rfl (fun ls hl => ?_)
        replace hw := hw x6 ex6
        refine lv_goto (tgt := 5) hx hb dX6_less_52 (by decide) ?_
        exact ih x3 x6 (vp_updL fa0' y4.toNatClampNeg x5) hw _ _ (hP.sub [0, 1] rfl) (hD.sub [0, 1] (by decide) rfl) hS _ (lv_sub hl [2, 3, 1, 0] rfl)
      replace hjx3 := hjx3 _ rfl
      refine lx_lge (tgt := 37) hx hb dX6_less_29 dX6_less_30 (by decide) (fun c4 => ?_) (fun c4 => ?_)
      · replace hjx3 := pf_f (P := PJx3) c4 hjx3
        refine lv_lconst (v := 0) hx hb dX6_less_37 (by decide) ?_
        exact (hPJx3 _).1 hjx3 _ (lv_sub hl [1, 2, 4, 0] rfl)
      · replace hjx3 := pf_t (P := PJx3) c4 hjx3
        refine lv_lconst (v := 1) hx hb dX6_less_33 (by decide) ?_
        refine lv_goto (tgt := 38) hx hb dX6_less_34 (by decide) ?_
        exact (hPJx3 _).1 hjx3 _ (lv_sub hl [1, 2, 4, 0] rfl)
set_option maxHeartbeats 4000000 in
set_option maxRecDepth 100000 in
theorem mX6_less (l : Launch) (D : va_G) (TY : Nat → ClassId) (sz : Nat) (a0 : Nat) (a1 : Nat) (fa0 : Nat → Int64) (fa1 : Nat → Int64) (post : (Nat → Int64) → Prop) (hw : wX6_less fa0 fa1 post) : Met l yX6_less (ws_ yX6_less cX6_less 7 (Option.none : Option Jvm.ClassFile.FieldType)) ({ frames := 0, cells := 0, slots := 0, locals := 0 }) (PC D TY [.ref a0, .ref a1] sz [(a0, .inl (TY 1, 170, .inr (.inl fa0))), (a1, .inl (TY 1, 170, .inr (.inl fa1)))]) (va_Qv post (fun (u : (Nat → Int64)) t => BB D TY (va_A [(a0, .inl (TY 1, 170, .inr (.inl fa0))), (a1, .inl (TY 1, 170, .inr (.inl fa1)))] sz) [(a0, .inl (TY 1, 170, .inr (.inl u))), (a1, .inl (TY 1, 170, .inr (.inl fa1)))] t) (va_A [(a0, .inl (TY 1, 170, .inr (.inl fa0))), (a1, .inl (TY 1, 170, .inr (.inl fa1)))] sz)) 0 0 (va_A [(a0, .inl (TY 1, 170, .inr (.inl fa0))), (a1, .inl (TY 1, 170, .inr (.inl fa1)))] sz) := by
  refine ofWF (cc := cX6_less) (maxL := 7) (ret := (Option.none : Option Jvm.ClassFile.FieldType)) (plainFor_of_name (by decide)) rfl ?_
  intro p e s m args below meth c s₁ B hml hv
  obtain ⟨rfl, hsz, hP, hK, hD0, hG⟩ := hv
  have hx := B.exec
  have hb := B.bytes
  have hr := B.returns
  have hts0 := atoms_spec (ws := ws_ yX6_less cX6_less 7 (Option.none : Option Jvm.ClassFile.FieldType)) B.pre
  have hts : ∀ w ∈ lw_all, w.before _ s = true := fun w h => hts0 w (List.mem_cons_of_mem _ h)
  have hown : s.vm.findClass RX6 = some m.cls := findClass_of_methodNamed B.named
  have hlocks := B.notSynchronized
  subst hsz
  have hD := hD0.self (sz := s.heap.size)
  generalize hAe : va_A [(a0, .inl (TY 1, 170, .inr (.inl fa0))), (a1, .inl (TY 1, 170, .inr (.inl fa1)))] s.heap.size = A at hD hG ⊢
  have hA : ∀ q : Nat, s.heap.size ≤ q → A q := fun q h => by rw [← hAe]; exact Or.inr h
  have hS : va_S A s.heap s.heap [] := va_S.rf
  have hP : va_P D vwCl [(a0, .inl (TY 1, 170, .inr (.inl fa0))), (a1, .inl (TY 1, 170, .inr (.inl fa1)))] s.heap := hP
  have hl := lv_entry ([.ref a0, .ref a1]) (n := 7) (Nat.le_of_ble_eq_true rfl)
  rw [lg_entry_eq]
  generalize (lg_sl ([.ref a0, .ref a1]) ++ List.replicate (7 - (lg_sl ([.ref a0, .ref a1])).length) Slot.unset).toArray = ls at hl ⊢
  have hl : lv_has ls 7 [(0, .ref a0), (1, .ref a1)] := hl
  unfold wX6_less at hw
  refine lv_lconst (v := 0) hx hb dX6_less_0 (by decide) ?_
  refine lv_lstore_n (lv' := [(2, .long 0), (0, .ref a0), (1, .ref a1)]) hx hb dX6_less_1 rfl hl (by decide) rfl (fun ls hl => ?_)
  refine lv_iconst (v := 0) hx hb dX6_less_2 (by decide) ?_
  refine lv_istore (lv' := [(4, .int 0), (2, .long 0), (0, .ref a0), (1, .ref a1)]) hx hb dX6_less_3 hl (by decide) rfl (fun ls hl => ?_)
  obtain ⟨n1, hw⟩ := hw
  exact bX6_less_5 a0 a1 fa0 fa1 post  hx hb hr hlocks hml hown hts hK hG hA n1 0 0 fa0 hw _ _ (hP.sub [0, 1] rfl) (hD.sub [0, 1] (by decide) rfl) hS _ (lv_sub hl [2, 3, 1, 0] rfl)

def wX6_more_5 (fa1 : Nat → Int64)  (post : (Nat → Int64) → Prop) : Nat → Int64 → Int32 → (Nat → Int64) → Prop
  | 0, _, _, _ => False
  | n + 1, y2, y4, fa0' => ((170 ≤ y4) → post fa0') ∧ (¬ (170 ≤ y4) → (vp_in y4 170) ∧ ((vp_in y4 170) ∧ (∀ x2 : Int64, x2 = ((fa0' y4.toNatClampNeg) + (fa1 y4.toNatClampNeg)) + y2 → ∀ x3 : Int64, x3 = x2 &&& 1073741823 → (vp_in y4 170) ∧ (∀ x4 : Int64, x4 = jushr x2 30 → ∀ x5 : Int32, x5 = y4 + 1 → ((wX6_more_5 fa1 post n) x4 x5 (vp_updL fa0' y4.toNatClampNeg x3))))))
def wX6_more (fa0 : Nat → Int64) (fa1 : Nat → Int64) (post : (Nat → Int64) → Prop) : Prop := ∃ n, wX6_more_5 fa1 post n 0 0 fa0
set_option maxHeartbeats 4000000 in
set_option maxRecDepth 100000 in
theorem bX6_more_5 {p : Program} {l : Launch} {e : Env} {s : State} {m : MethodId} {below : List Frame} {meth : Method} {c : Code} {D : va_G} {TY : Nat → ClassId} {A : Nat → Prop} (a0 : Nat) (a1 : Nat) (fa0 : Nat → Int64) (fa1 : Nat → Int64) (post : (Nat → Int64) → Prop) (hx : p.tables.exec = Jvm.exec) (hb : c.code = cX6_more) (hr : meth.sig.returnType = (Option.none : Option Jvm.ClassFile.FieldType)) (hlocks : meth.locks = false) (hml : c.maxLocals = 7) (hown : s.vm.findClass RX6 = some m.cls) (hts : ∀ w ∈ lw_all, w.before ([.ref a0, .ref a1] : List Value).toArray s = true) (hK : va_K D vwCl (tyL TY) s) (hG : gz A s s.heap) (hA : ∀ q : Nat, s.heap.size ≤ q → A q) : ∀ (n : Nat) (y2 : Int64) (y4 : Int32) (fa0' : Nat → Int64), wX6_more_5 fa1 post n y2 y4 fa0' → ∀ (H : Heap) (locs : List Loc), va_P D vwCl [(a0, .inl (TY 1, 170, .inr (.inl fa0'))), (a1, .inl (TY 1, 170, .inr (.inl fa1)))] H → va_D A [(a0, .inl (TY 1, 170, .inr (.inl fa0'))), (a1, .inl (TY 1, 170, .inr (.inl fa1)))] → va_S A s.heap H locs → ∀ ls : Array Slot, lv_has ls 7 [(0, .ref a0), (1, .ref a1), (2, .long y2), (4, .int y4)] → W p l e (headSpec (ws_ yX6_more cX6_more 7 (Option.none : Option Jvm.ClassFile.FieldType)) ({ frames := 0, cells := 0, slots := 0, locals := 0 })).room s m ([.ref a0, .ref a1] : List Value).toArray below meth c H locs 0 0 (MQ below (va_Qv post (fun (u : (Nat → Int64)) t => BB D TY A [(a0, .inl (TY 1, 170, .inr (.inl u))), (a1, .inl (TY 1, 170, .inr (.inl fa1)))] t) A) ([.ref a0, .ref a1] : List Value).toArray s 0 0 A) (F0 m 5 ls []) := by
  intro n
  induction n with
  | zero => intro _ _ _ h; exact h.elim
  | succ n ih =>
    intro y2 y4 fa0' hw
    unfold wX6_more_5 at hw
    intro H locs hP hD hS ls hl
    refine lv_iload hx hb dX6_more_5 (lv_at hl 3 rfl) ?_
    refine lv_sipush (v := 170) hx hb dX6_more_7 (by decide) ?_
    refine lv_icmp_ge (tgt := 48) hx hb dX6_more_10 (by decide) (fun c1 => ?_) (fun c1 => ?_)
    · replace hw := hw.1 c1
      have hP9 := hP.sub (ws' := [(a0, .inl (TY 1, 170, .inr (.inl fa0'))), (a1, .inl (TY 1, 170, .inr (.inl fa1)))]) [0, 1] rfl
      have hD9 := hD.sub (ws' := [(a0, .inl (TY 1, 170, .inr (.inl fa0'))), (a1, .inl (TY 1, 170, .inr (.inl fa1)))]) [0, 1] (by decide) rfl
      exact W.vret hx hb hr (fun t ht hW => ⟨⟨fa0', rfl, hw, BB.mk hP9 hD9 hK ht hW⟩, hS.F ht⟩) hS.2.2 dX6_more_48
    · replace hw := hw.2 c1
      refine lv_aload_n hx hb dX6_more_13 rfl (lv_at hl 0 rfl) ?_
      refine lv_iload hx hb dX6_more_14 (lv_at hl 3 rfl) ?_
      refine va_lald hx hb hK hP 0 1 rfl rfl hw.1 dX6_more_16 ?_
      replace hw := hw.2
      refine lv_aload_n hx hb dX6_more_17 rfl (lv_at hl 1 rfl) ?_
      refine lv_iload hx hb dX6_more_18 (lv_at hl 3 rfl) ?_
      refine va_lald hx hb hK hP 1 1 rfl rfl hw.1 dX6_more_20 ?_
      replace hw := hw.2
      refine lv_ladd hx hb dX6_more_21 ?_
      refine lv_lload_n hx hb dX6_more_22 rfl (lv_at hl 2 rfl) ?_
      refine lv_ladd hx hb dX6_more_23 ?_
      refine lv_topl (fun x2 ex2 => ?_)
      replace hw := hw x2 ex2
      refine lv_lstore (lv' := [(5, .long x2), (0, .ref a0), (1, .ref a1), (2, .long y2), (4, .int y4)]) hx hb dX6_more_24 hl (by decide) rfl (fun ls hl => ?_)
      refine lv_aload_n hx hb dX6_more_26 rfl (lv_at hl 1 rfl) ?_
      refine lv_iload hx hb dX6_more_27 (lv_at hl 4 rfl) ?_
      refine lv_lload hx hb dX6_more_29 (lv_at hl 0 rfl) ?_
      refine lv_ldc2 (v := 1073741823) hx hb hown (hts _ q1265) dX6_more_31 ?_
      refine lv_land hx hb dX6_more_34 ?_
      refine lv_topl (fun x3 ex3 => ?_)
      replace hw := hw x3 ex3
      refine va_last (i := y4) (x := x3) hx hb hK hP hD hS 0 1 rfl rfl hw.1 dX6_more_35 (fun H locs hP hD hS => ?_)
      have hP : va_P D vwCl [(a0, .inl (TY 1, 170, .inr (.inl (vp_updL fa0' y4.toNatClampNeg x3)))), (a1, .inl (TY 1, 170, .inr (.inl fa1)))] H := hP
      have hD : va_D A [(a0, .inl (TY 1, 170, .inr (.inl (vp_updL fa0' y4.toNatClampNeg x3)))), (a1, .inl (TY 1, 170, .inr (.inl fa1)))] := hD
      replace hw := hw.2
      refine lv_lload hx hb dX6_more_36 (lv_at hl 0 rfl) ?_
      refine lv_bipush (v := 30) hx hb dX6_more_38 (by decide) ?_
      refine lv_lushr (v := jushr x2 30) hx hb dX6_more_40 rfl ?_
      refine lv_topl (fun x4 ex4 => ?_)
      replace hw := hw x4 ex4
      refine lv_lstore_n (lv' := [(2, .long x4), (5, .long x2), (0, .ref a0), (1, .ref a1), (4, .int y4)]) hx hb dX6_more_41 rfl hl (by decide) rfl (fun ls hl => ?_)
      obtain ⟨x5, ex5⟩ : ∃ y : Int32, y = y4 + 1 := ⟨_, rfl⟩
      refine lv_iinc (v := x5) (lv' := [(4, .int x5), (2, .long x4), (5, .long x2), (0, .ref a0), (1, .ref a1)]) hx hb dX6_more_42 hl (k := 4) rfl (by rw [ex5]; rfl) (by decide) rfl (fun ls hl => ?_)
      replace hw := hw x5 ex5
      refine lv_goto (tgt := 5) hx hb dX6_more_45 (by decide) ?_
      exact ih x4 x5 (vp_updL fa0' y4.toNatClampNeg x3) hw _ _ (hP.sub [0, 1] rfl) (hD.sub [0, 1] (by decide) rfl) hS _ (lv_sub hl [3, 4, 1, 0] rfl)
set_option maxHeartbeats 4000000 in
set_option maxRecDepth 100000 in
theorem mX6_more (l : Launch) (D : va_G) (TY : Nat → ClassId) (sz : Nat) (a0 : Nat) (a1 : Nat) (fa0 : Nat → Int64) (fa1 : Nat → Int64) (post : (Nat → Int64) → Prop) (hw : wX6_more fa0 fa1 post) : Met l yX6_more (ws_ yX6_more cX6_more 7 (Option.none : Option Jvm.ClassFile.FieldType)) ({ frames := 0, cells := 0, slots := 0, locals := 0 }) (PC D TY [.ref a0, .ref a1] sz [(a0, .inl (TY 1, 170, .inr (.inl fa0))), (a1, .inl (TY 1, 170, .inr (.inl fa1)))]) (va_Qv post (fun (u : (Nat → Int64)) t => BB D TY (va_A [(a0, .inl (TY 1, 170, .inr (.inl fa0))), (a1, .inl (TY 1, 170, .inr (.inl fa1)))] sz) [(a0, .inl (TY 1, 170, .inr (.inl u))), (a1, .inl (TY 1, 170, .inr (.inl fa1)))] t) (va_A [(a0, .inl (TY 1, 170, .inr (.inl fa0))), (a1, .inl (TY 1, 170, .inr (.inl fa1)))] sz)) 0 0 (va_A [(a0, .inl (TY 1, 170, .inr (.inl fa0))), (a1, .inl (TY 1, 170, .inr (.inl fa1)))] sz) := by
  refine ofWF (cc := cX6_more) (maxL := 7) (ret := (Option.none : Option Jvm.ClassFile.FieldType)) (plainFor_of_name (by decide)) rfl ?_
  intro p e s m args below meth c s₁ B hml hv
  obtain ⟨rfl, hsz, hP, hK, hD0, hG⟩ := hv
  have hx := B.exec
  have hb := B.bytes
  have hr := B.returns
  have hts0 := atoms_spec (ws := ws_ yX6_more cX6_more 7 (Option.none : Option Jvm.ClassFile.FieldType)) B.pre
  have hts : ∀ w ∈ lw_all, w.before _ s = true := fun w h => hts0 w (List.mem_cons_of_mem _ h)
  have hown : s.vm.findClass RX6 = some m.cls := findClass_of_methodNamed B.named
  have hlocks := B.notSynchronized
  subst hsz
  have hD := hD0.self (sz := s.heap.size)
  generalize hAe : va_A [(a0, .inl (TY 1, 170, .inr (.inl fa0))), (a1, .inl (TY 1, 170, .inr (.inl fa1)))] s.heap.size = A at hD hG ⊢
  have hA : ∀ q : Nat, s.heap.size ≤ q → A q := fun q h => by rw [← hAe]; exact Or.inr h
  have hS : va_S A s.heap s.heap [] := va_S.rf
  have hP : va_P D vwCl [(a0, .inl (TY 1, 170, .inr (.inl fa0))), (a1, .inl (TY 1, 170, .inr (.inl fa1)))] s.heap := hP
  have hl := lv_entry ([.ref a0, .ref a1]) (n := 7) (Nat.le_of_ble_eq_true rfl)
  rw [lg_entry_eq]
  generalize (lg_sl ([.ref a0, .ref a1]) ++ List.replicate (7 - (lg_sl ([.ref a0, .ref a1])).length) Slot.unset).toArray = ls at hl ⊢
  have hl : lv_has ls 7 [(0, .ref a0), (1, .ref a1)] := hl
  unfold wX6_more at hw
  refine lv_lconst (v := 0) hx hb dX6_more_0 (by decide) ?_
  refine lv_lstore_n (lv' := [(2, .long 0), (0, .ref a0), (1, .ref a1)]) hx hb dX6_more_1 rfl hl (by decide) rfl (fun ls hl => ?_)
  refine lv_iconst (v := 0) hx hb dX6_more_2 (by decide) ?_
  refine lv_istore (lv' := [(4, .int 0), (2, .long 0), (0, .ref a0), (1, .ref a1)]) hx hb dX6_more_3 hl (by decide) rfl (fun ls hl => ?_)
  obtain ⟨n1, hw⟩ := hw
  exact bX6_more_5 a0 a1 fa0 fa1 post  hx hb hr hlocks hml hown hts hK hG hA n1 0 0 fa0 hw _ _ (hP.sub [0, 1] rfl) (hD.sub [0, 1] (by decide) rfl) hS _ (lv_sub hl [2, 3, 1, 0] rfl)

def wX6_copyOf_2 (fa0 : Nat → Int64)  (post : (Nat → Int64) → Prop) : Nat → Int32 → (Nat → Int64) → Prop
  | 0, _, _ => False
  | n + 1, y2, fa1' => ((170 ≤ y2) → post fa1') ∧ (¬ (170 ≤ y2) → (vp_in y2 170) ∧ (∀ x2 : Int64, x2 = fa0 y2.toNatClampNeg → (vp_in y2 170) ∧ (∀ x3 : Int32, x3 = y2 + 1 → ((wX6_copyOf_2 fa0 post n) x3 (vp_updL fa1' y2.toNatClampNeg x2)))))
def wX6_copyOf (fa0 : Nat → Int64) (fa1 : Nat → Int64) (post : (Nat → Int64) → Prop) : Prop := ∃ n, wX6_copyOf_2 fa0 post n 0 fa1
set_option maxHeartbeats 4000000 in
set_option maxRecDepth 100000 in
theorem bX6_copyOf_2 {p : Program} {l : Launch} {e : Env} {s : State} {m : MethodId} {below : List Frame} {meth : Method} {c : Code} {D : va_G} {TY : Nat → ClassId} {A : Nat → Prop} (a0 : Nat) (a1 : Nat) (fa0 : Nat → Int64) (fa1 : Nat → Int64) (post : (Nat → Int64) → Prop) (hx : p.tables.exec = Jvm.exec) (hb : c.code = cX6_copyOf) (hr : meth.sig.returnType = (Option.none : Option Jvm.ClassFile.FieldType)) (hlocks : meth.locks = false) (hml : c.maxLocals = 3) (hown : s.vm.findClass RX6 = some m.cls) (hts : ∀ w ∈ lw_all, w.before ([.ref a0, .ref a1] : List Value).toArray s = true) (hK : va_K D vwCl (tyL TY) s) (hG : gz A s s.heap) (hA : ∀ q : Nat, s.heap.size ≤ q → A q) : ∀ (n : Nat) (y2 : Int32) (fa1' : Nat → Int64), wX6_copyOf_2 fa0 post n y2 fa1' → ∀ (H : Heap) (locs : List Loc), va_P D vwCl [(a0, .inl (TY 1, 170, .inr (.inl fa0))), (a1, .inl (TY 1, 170, .inr (.inl fa1')))] H → va_D A [(a0, .inl (TY 1, 170, .inr (.inl fa0))), (a1, .inl (TY 1, 170, .inr (.inl fa1')))] → va_S A s.heap H locs → ∀ ls : Array Slot, lv_has ls 3 [(0, .ref a0), (1, .ref a1), (2, .int y2)] → W p l e (headSpec (ws_ yX6_copyOf cX6_copyOf 3 (Option.none : Option Jvm.ClassFile.FieldType)) ({ frames := 0, cells := 0, slots := 0, locals := 0 })).room s m ([.ref a0, .ref a1] : List Value).toArray below meth c H locs 0 0 (MQ below (va_Qv post (fun (u : (Nat → Int64)) t => BB D TY A [(a0, .inl (TY 1, 170, .inr (.inl fa0))), (a1, .inl (TY 1, 170, .inr (.inl u)))] t) A) ([.ref a0, .ref a1] : List Value).toArray s 0 0 A) (F0 m 2 ls []) := by
  intro n
  induction n with
  | zero => intro _ _ h; exact h.elim
  | succ n ih =>
    intro y2 fa1' hw
    unfold wX6_copyOf_2 at hw
    intro H locs hP hD hS ls hl
    refine lv_iload_n hx hb dX6_copyOf_2 rfl (lv_at hl 2 rfl) ?_
    refine lv_sipush (v := 170) hx hb dX6_copyOf_3 (by decide) ?_
    refine lv_icmp_ge (tgt := 21) hx hb dX6_copyOf_6 (by decide) (fun c1 => ?_) (fun c1 => ?_)
    · replace hw := hw.1 c1
      have hP9 := hP.sub (ws' := [(a0, .inl (TY 1, 170, .inr (.inl fa0))), (a1, .inl (TY 1, 170, .inr (.inl fa1')))]) [0, 1] rfl
      have hD9 := hD.sub (ws' := [(a0, .inl (TY 1, 170, .inr (.inl fa0))), (a1, .inl (TY 1, 170, .inr (.inl fa1')))]) [0, 1] (by decide) rfl
      exact W.vret hx hb hr (fun t ht hW => ⟨⟨fa1', rfl, hw, BB.mk hP9 hD9 hK ht hW⟩, hS.F ht⟩) hS.2.2 dX6_copyOf_21
    · replace hw := hw.2 c1
      refine lv_aload_n hx hb dX6_copyOf_9 rfl (lv_at hl 1 rfl) ?_
      refine lv_iload_n hx hb dX6_copyOf_10 rfl (lv_at hl 2 rfl) ?_
      refine lv_aload_n hx hb dX6_copyOf_11 rfl (lv_at hl 0 rfl) ?_
      refine lv_iload_n hx hb dX6_copyOf_12 rfl (lv_at hl 2 rfl) ?_
      refine va_lald hx hb hK hP 0 1 rfl rfl hw.1 dX6_copyOf_13 ?_
      replace hw := hw.2
      refine lv_topl (fun x2 ex2 => ?_)
      replace hw := hw x2 ex2
      refine va_last (i := y2) (x := x2) hx hb hK hP hD hS 1 1 rfl rfl hw.1 dX6_copyOf_14 (fun H locs hP hD hS => ?_)
      have hP : va_P D vwCl [(a0, .inl (TY 1, 170, .inr (.inl fa0))), (a1, .inl (TY 1, 170, .inr (.inl (vp_updL fa1' y2.toNatClampNeg x2))))] H := hP
      have hD : va_D A [(a0, .inl (TY 1, 170, .inr (.inl fa0))), (a1, .inl (TY 1, 170, .inr (.inl (vp_updL fa1' y2.toNatClampNeg x2))))] := hD
      replace hw := hw.2
      obtain ⟨x3, ex3⟩ : ∃ y : Int32, y = y2 + 1 := ⟨_, rfl⟩
      refine lv_iinc (v := x3) (lv' := [(2, .int x3), (0, .ref a0), (1, .ref a1)]) hx hb dX6_copyOf_15 hl (k := 2) rfl (by rw [ex3]; rfl) (by decide) rfl (fun ls hl => ?_)
      replace hw := hw x3 ex3
      refine lv_goto (tgt := 2) hx hb dX6_copyOf_18 (by decide) ?_
      exact ih x3 (vp_updL fa1' y2.toNatClampNeg x2) hw _ _ (hP.sub [0, 1] rfl) (hD.sub [0, 1] (by decide) rfl) hS _ (lv_sub hl [1, 2, 0] rfl)
set_option maxHeartbeats 4000000 in
set_option maxRecDepth 100000 in
theorem mX6_copyOf (l : Launch) (D : va_G) (TY : Nat → ClassId) (sz : Nat) (a0 : Nat) (a1 : Nat) (fa0 : Nat → Int64) (fa1 : Nat → Int64) (post : (Nat → Int64) → Prop) (hw : wX6_copyOf fa0 fa1 post) : Met l yX6_copyOf (ws_ yX6_copyOf cX6_copyOf 3 (Option.none : Option Jvm.ClassFile.FieldType)) ({ frames := 0, cells := 0, slots := 0, locals := 0 }) (PC D TY [.ref a0, .ref a1] sz [(a0, .inl (TY 1, 170, .inr (.inl fa0))), (a1, .inl (TY 1, 170, .inr (.inl fa1)))]) (va_Qv post (fun (u : (Nat → Int64)) t => BB D TY (va_A [(a0, .inl (TY 1, 170, .inr (.inl fa0))), (a1, .inl (TY 1, 170, .inr (.inl fa1)))] sz) [(a0, .inl (TY 1, 170, .inr (.inl fa0))), (a1, .inl (TY 1, 170, .inr (.inl u)))] t) (va_A [(a0, .inl (TY 1, 170, .inr (.inl fa0))), (a1, .inl (TY 1, 170, .inr (.inl fa1)))] sz)) 0 0 (va_A [(a0, .inl (TY 1, 170, .inr (.inl fa0))), (a1, .inl (TY 1, 170, .inr (.inl fa1)))] sz) := by
  refine ofWF (cc := cX6_copyOf) (maxL := 3) (ret := (Option.none : Option Jvm.ClassFile.FieldType)) (plainFor_of_name (by decide)) rfl ?_
  intro p e s m args below meth c s₁ B hml hv
  obtain ⟨rfl, hsz, hP, hK, hD0, hG⟩ := hv
  have hx := B.exec
  have hb := B.bytes
  have hr := B.returns
  have hts0 := atoms_spec (ws := ws_ yX6_copyOf cX6_copyOf 3 (Option.none : Option Jvm.ClassFile.FieldType)) B.pre
  have hts : ∀ w ∈ lw_all, w.before _ s = true := fun w h => hts0 w (List.mem_cons_of_mem _ h)
  have hown : s.vm.findClass RX6 = some m.cls := findClass_of_methodNamed B.named
  have hlocks := B.notSynchronized
  subst hsz
  have hD := hD0.self (sz := s.heap.size)
  generalize hAe : va_A [(a0, .inl (TY 1, 170, .inr (.inl fa0))), (a1, .inl (TY 1, 170, .inr (.inl fa1)))] s.heap.size = A at hD hG ⊢
  have hA : ∀ q : Nat, s.heap.size ≤ q → A q := fun q h => by rw [← hAe]; exact Or.inr h
  have hS : va_S A s.heap s.heap [] := va_S.rf
  have hP : va_P D vwCl [(a0, .inl (TY 1, 170, .inr (.inl fa0))), (a1, .inl (TY 1, 170, .inr (.inl fa1)))] s.heap := hP
  have hl := lv_entry ([.ref a0, .ref a1]) (n := 3) (Nat.le_of_ble_eq_true rfl)
  rw [lg_entry_eq]
  generalize (lg_sl ([.ref a0, .ref a1]) ++ List.replicate (3 - (lg_sl ([.ref a0, .ref a1])).length) Slot.unset).toArray = ls at hl ⊢
  have hl : lv_has ls 3 [(0, .ref a0), (1, .ref a1)] := hl
  unfold wX6_copyOf at hw
  refine lv_iconst (v := 0) hx hb dX6_copyOf_0 (by decide) ?_
  refine lv_istore_n (lv' := [(2, .int 0), (0, .ref a0), (1, .ref a1)]) hx hb dX6_copyOf_1 rfl hl (by decide) rfl (fun ls hl => ?_)
  obtain ⟨n1, hw⟩ := hw
  exact bX6_copyOf_2 a0 a1 fa0 fa1 post  hx hb hr hlocks hml hown hts hK hG hA n1 0 fa1 hw _ _ (hP.sub [0, 1] rfl) (hD.sub [0, 1] (by decide) rfl) hS _ (lv_sub hl [1, 2, 0] rfl)

def wX6_length_43   (post : Int32 → Prop) : Nat → Int32 → Int32 → Int64 → Prop
  | 0, _, _, _ => False
  | n + 1, y1, y2, y3 => ((y1 < 0) → (∀ x2 : Int32, x2 = (if 0 ≤ y1 then y2 else 0) → post x2)) ∧ (¬ (y1 < 0) → ((y3 < 536870912) → ∀ x7 : Int32, x7 = y2 + (-1) → ∀ x8 : Int64, x8 = y3 * 2 → ((wX6_length_43 post n) y1 x7 x8)) ∧ (¬ (y3 < 536870912) → (∀ x5 : Int32, x5 = (if 0 ≤ y1 then y2 else 0) → post x5)))
def wX6_length_4 (fa0 : Nat → Int64)  (post : Int32 → Prop) : Nat → Int32 → Prop
  | 0, _ => False
  | n + 1, y1 => ((y1 < 0) → ∀ x2 : Int32, x2 = 30 * (y1 + 1) → (((0 ≤ y1) → (vp_in y1 170)) ∧ (¬ (0 ≤ y1) → True)) ∧ (∀ x3 : Int64, x3 = (if 0 ≤ y1 then (fa0 y1.toNatClampNeg) else 1073741824) → ∃ n, wX6_length_43 post n y1 x2 x3)) ∧ (¬ (y1 < 0) → (vp_in y1 170) ∧ ((((fa0 y1.toNatClampNeg) = 0) → ∀ x11 : Int32, x11 = y1 + (-1) → ((wX6_length_4 fa0 post n) x11)) ∧ (¬ ((fa0 y1.toNatClampNeg) = 0) → ∀ x7 : Int32, x7 = 30 * (y1 + 1) → (((0 ≤ y1) → (vp_in y1 170)) ∧ (¬ (0 ≤ y1) → True)) ∧ (∀ x8 : Int64, x8 = (if 0 ≤ y1 then (fa0 y1.toNatClampNeg) else 1073741824) → ∃ n, wX6_length_43 post n y1 x7 x8))))
def wX6_length (fa0 : Nat → Int64) (post : Int32 → Prop) : Prop := ∃ n, wX6_length_4 fa0 post n 169
set_option maxHeartbeats 4000000 in
set_option maxRecDepth 100000 in
theorem bX6_length_43 {p : Program} {l : Launch} {e : Env} {s : State} {m : MethodId} {below : List Frame} {meth : Method} {c : Code} {D : va_G} {TY : Nat → ClassId} (a0 : Nat) (fa0 : Nat → Int64) (post : Int32 → Prop) (hx : p.tables.exec = Jvm.exec) (hb : c.code = cX6_length) (hr : meth.sig.returnType = (Option.some Jvm.ClassFile.FieldType.int)) (hlocks : meth.locks = false) (hml : c.maxLocals = 5) (hown : s.vm.findClass RX6 = some m.cls) (hts : ∀ w ∈ lw_all, w.before ([.ref a0] : List Value).toArray s = true) (hK : va_K D vwCl (tyL TY) s) (hG : gz (fun _ => False) s s.heap) (hS : va_S (fun _ => False) s.heap s.heap []) (hP : va_P D vwCl [(a0, .inl (TY 1, 170, .inr (.inl fa0)))] s.heap) : ∀ (n : Nat) (y1 : Int32) (y2 : Int32) (y3 : Int64), wX6_length_43 post n y1 y2 y3 → ∀ ls : Array Slot, lv_has ls 5 [(1, .int y1), (2, .int y2), (3, .long y3)] → W p l e (headSpec (ws_ yX6_length cX6_length 5 (Option.some Jvm.ClassFile.FieldType.int)) ({ frames := 0, cells := 0, slots := 0, locals := 0 })).room s m ([.ref a0] : List Value).toArray below meth c s.heap ([]) 0 0 (MQ below (vp_Si post) ([.ref a0] : List Value).toArray s 0 0 (fun _ => False)) (F0 m 43 ls []) := by
  intro n
  induction n with
  | zero => intro _ _ _ h; exact h.elim
  | succ n ih =>
    intro y1 y2 y3 hw
    unfold wX6_length_43 at hw
    intro ls hl
    refine lv_iload_n hx hb dX6_length_43 rfl (lv_at hl 0 rfl) ?_
    refine lv_if_lt (tgt := 67) hx hb dX6_length_44 (by decide) (fun c1 => ?_) (fun c1 => ?_)
    · replace hw := hw.1 c1
      refine lv_iload_n hx hb dX6_length_67 rfl (lv_at hl 0 rfl) ?_
      obtain ⟨PJx2, hPJx2⟩ : ∃ P : Int32 → Prop, ∀ x2 : Int32, P x2 ↔ ∀ ls : Array Slot, lv_has ls 5 [] → W p l e (headSpec (ws_ yX6_length cX6_length 5 (Option.some Jvm.ClassFile.FieldType.int)) ({ frames := 0, cells := 0, slots := 0, locals := 0 })).room s m ([.ref a0] : List Value).toArray below meth c s.heap ([]) 0 0 (MQ below (vp_Si post) ([.ref a0] : List Value).toArray s 0 0 (fun _ => False)) (F0 m 76 ls [.int x2]) := ⟨_, fun _ => Iff.rfl⟩
      have hjx2 : ∀ x2 : Int32, x2 = (if 0 ≤ y1 then y2 else 0) → PJx2 x2 := by
        intro x2 ex2
        rw [hPJx2]
        intro ls hl
        replace hw := hw x2 ex2
        exact W.iret (v := x2) hx hb hr (fun t ht hW => ⟨_, rfl, hw, ht⟩) (fun q h => nomatch h) dX6_length_76
      replace hjx2 := hjx2 _ rfl
      refine lv_if_ge (tgt := 75) hx hb dX6_length_68 (by decide) (fun c3 => ?_) (fun c3 => ?_)
      · replace hjx2 := pf_t (P := PJx2) c3 hjx2
        refine lv_iload_n hx hb dX6_length_75 rfl (lv_at hl 1 rfl) ?_
        exact (hPJx2 _).1 hjx2 _ (lv_sub hl [] rfl)
      · replace hjx2 := pf_f (P := PJx2) c3 hjx2
        refine lv_iconst (v := 0) hx hb dX6_length_71 (by decide) ?_
        refine lv_goto (tgt := 76) hx hb dX6_length_72 (by decide) ?_
        exact (hPJx2 _).1 hjx2 _ (lv_sub hl [] rfl)
    · replace hw := hw.2 c1
      refine lv_lload_n hx hb dX6_length_47 rfl (lv_at hl 2 rfl) ?_
      refine lv_ldc2 (v := 536870912) hx hb hown (hts _ q1274) dX6_length_48 ?_
      refine lx_lge (tgt := 67) hx hb dX6_length_51 dX6_length_52 (by decide) (fun c4 => ?_) (fun c4 => ?_)
      · replace hw := hw.2 c4
        refine lv_iload_n hx hb dX6_length_67 rfl (lv_at hl 0 rfl) ?_
        obtain ⟨PJx5, hPJx5⟩ : ∃ P : Int32 → Prop, ∀ x5 : Int32, P x5 ↔ ∀ ls : Array Slot, lv_has ls 5 [] → W p l e (headSpec (ws_ yX6_length cX6_length 5 (Option.some Jvm.ClassFile.FieldType.int)) ({ frames := 0, cells := 0, slots := 0, locals := 0 })).room s m ([.ref a0] : List Value).toArray below meth c s.heap ([]) 0 0 (MQ below (vp_Si post) ([.ref a0] : List Value).toArray s 0 0 (fun _ => False)) (F0 m 76 ls [.int x5]) := ⟨_, fun _ => Iff.rfl⟩
        have hjx5 : ∀ x5 : Int32, x5 = (if 0 ≤ y1 then y2 else 0) → PJx5 x5 := by
          intro x5 ex5
          rw [hPJx5]
          intro ls hl
          replace hw := hw x5 ex5
          exact W.iret (v := x5) hx hb hr (fun t ht hW => ⟨_, rfl, hw, ht⟩) (fun q h => nomatch h) dX6_length_76
        replace hjx5 := hjx5 _ rfl
        refine lv_if_ge (tgt := 75) hx hb dX6_length_68 (by decide) (fun c6 => ?_) (fun c6 => ?_)
        · replace hjx5 := pf_t (P := PJx5) c6 hjx5
          refine lv_iload_n hx hb dX6_length_75 rfl (lv_at hl 1 rfl) ?_
          exact (hPJx5 _).1 hjx5 _ (lv_sub hl [] rfl)
        · replace hjx5 := pf_f (P := PJx5) c6 hjx5
          refine lv_iconst (v := 0) hx hb dX6_length_71 (by decide) ?_
          refine lv_goto (tgt := 76) hx hb dX6_length_72 (by decide) ?_
          exact (hPJx5 _).1 hjx5 _ (lv_sub hl [] rfl)
      · replace hw := hw.1 c4
        obtain ⟨x7, ex7⟩ : ∃ y : Int32, y = y2 + (-1) := ⟨_, rfl⟩
        refine lv_iinc (v := x7) (lv' := [(2, .int x7), (1, .int y1), (3, .long y3)]) hx hb dX6_length_55 hl (k := 1) rfl (by rw [ex7]; rfl) (by decide) rfl (fun ls hl => ?_)
        replace hw := hw x7 ex7
        refine lv_lload_n hx hb dX6_length_58 rfl (lv_at hl 2 rfl) ?_
        refine lv_ldc2 (v := 2) hx hb hown (hts _ q1275) dX6_length_59 ?_
        refine lv_lmul hx hb dX6_length_62 ?_
        refine lv_topl (fun x8 ex8 => ?_)
        replace hw := hw x8 ex8
        refine lv_lstore_n (lv' := [(3, .long x8), (2, .int x7), (1, .int y1)]) hx hb dX6_length_63 rfl hl (by decide) rfl (fun ls hl => ?_)
        refine lv_goto (tgt := 43) hx hb dX6_length_64 (by decide) ?_
        exact ih y1 x7 x8 hw _ (lv_sub hl [2, 1, 0] rfl)
set_option maxHeartbeats 4000000 in
set_option maxRecDepth 100000 in
theorem bX6_length_4 {p : Program} {l : Launch} {e : Env} {s : State} {m : MethodId} {below : List Frame} {meth : Method} {c : Code} {D : va_G} {TY : Nat → ClassId} (a0 : Nat) (fa0 : Nat → Int64) (post : Int32 → Prop) (hx : p.tables.exec = Jvm.exec) (hb : c.code = cX6_length) (hr : meth.sig.returnType = (Option.some Jvm.ClassFile.FieldType.int)) (hlocks : meth.locks = false) (hml : c.maxLocals = 5) (hown : s.vm.findClass RX6 = some m.cls) (hts : ∀ w ∈ lw_all, w.before ([.ref a0] : List Value).toArray s = true) (hK : va_K D vwCl (tyL TY) s) (hG : gz (fun _ => False) s s.heap) (hS : va_S (fun _ => False) s.heap s.heap []) (hP : va_P D vwCl [(a0, .inl (TY 1, 170, .inr (.inl fa0)))] s.heap) : ∀ (n : Nat) (y1 : Int32), wX6_length_4 fa0 post n y1 → ∀ ls : Array Slot, lv_has ls 5 [(0, .ref a0), (1, .int y1)] → W p l e (headSpec (ws_ yX6_length cX6_length 5 (Option.some Jvm.ClassFile.FieldType.int)) ({ frames := 0, cells := 0, slots := 0, locals := 0 })).room s m ([.ref a0] : List Value).toArray below meth c s.heap ([]) 0 0 (MQ below (vp_Si post) ([.ref a0] : List Value).toArray s 0 0 (fun _ => False)) (F0 m 4 ls []) := by
  intro n
  induction n with
  | zero => intro _ h; exact h.elim
  | succ n ih =>
    intro y1 hw
    unfold wX6_length_4 at hw
    intro ls hl
    refine lv_iload_n hx hb dX6_length_4 rfl (lv_at hl 1 rfl) ?_
    refine lv_if_lt (tgt := 22) hx hb dX6_length_5 (by decide) (fun c1 => ?_) (fun c1 => ?_)
    · replace hw := hw.1 c1
      refine lv_bipush (v := 30) hx hb dX6_length_22 (by decide) ?_
      refine lv_iload_n hx hb dX6_length_24 rfl (lv_at hl 1 rfl) ?_
      refine lv_iconst (v := 1) hx hb dX6_length_25 (by decide) ?_
      refine lv_iadd hx hb dX6_length_26 ?_
      refine lv_imul hx hb dX6_length_27 ?_
      refine lv_topi (fun x2 ex2 => ?_)
      replace hw := hw x2 ex2
      refine lv_istore_n (lv' := [(2, .int x2), (0, .ref a0), (1, .int y1)]) hx hb dX6_length_28 rfl hl (by decide) rfl (fun ls hl => ?_)
      refine lv_iload_n hx hb dX6_length_29 rfl (lv_at hl 2 rfl) ?_
      obtain ⟨PJx3, hPJx3⟩ : ∃ P : Int64 → Prop, ∀ x3 : Int64, P x3 ↔ ∀ ls : Array Slot, lv_has ls 5 [(1, .int y1), (2, .int x2)] → W p l e (headSpec (ws_ yX6_length cX6_length 5 (Option.some Jvm.ClassFile.FieldType.int)) ({ frames := 0, cells := 0, slots := 0, locals := 0 })).room s m ([.ref a0] : List Value).toArray below meth c s.heap ([]) 0 0 (MQ below (vp_Si post) ([.ref a0] : List Value).toArray s 0 0 (fun _ => False)) (F0 m 42 ls [.long x3]) := ⟨_, fun _ => Iff.rfl⟩
      have hox3 := hw.1
      have hjx3 : ∀ x3 : Int64, x3 = (if 0 ≤ y1 then (fa0 y1.toNatClampNeg) else 1073741824) → PJx3 x3 := by
        intro x3 ex3
        rw [hPJx3]
        intro ls hl
        replace hw := hw.2 x3 ex3
        refine lv_lstore_n (lv' := [(3, .long x3), (1, .int y1), (2, .int x2)]) hx hb dX6_length_42 rfl hl (by decide) rfl (fun ls hl => ?_)
        obtain ⟨n5, hw⟩ := hw
        exact bX6_length_43 a0 fa0 post  hx hb hr hlocks hml hown hts hK hG hS hP n5 y1 x2 x3 hw _ (lv_sub hl [1, 2, 0] rfl)
      replace hjx3 := hjx3 _ rfl
      refine lv_if_ge (tgt := 39) hx hb dX6_length_30 (by decide) (fun c4 => ?_) (fun c4 => ?_)
      · replace hjx3 := pf_t (P := PJx3) c4 hjx3
        replace hox3 := hox3.1 c4
        refine lv_aload_n hx hb dX6_length_39 rfl (lv_at hl 1 rfl) ?_
        refine lv_iload_n hx hb dX6_length_40 rfl (lv_at hl 2 rfl) ?_
        refine va_lald hx hb hK hP 0 1 rfl rfl hox3 dX6_length_41 ?_
        exact (hPJx3 _).1 hjx3 _ (lv_sub hl [2, 0] rfl)
      · replace hjx3 := pf_f (P := PJx3) c4 hjx3
        refine lv_ldc2 (v := 1073741824) hx hb hown (hts _ q1273) dX6_length_33 ?_
        refine lv_goto (tgt := 42) hx hb dX6_length_36 (by decide) ?_
        exact (hPJx3 _).1 hjx3 _ (lv_sub hl [2, 0] rfl)
    · replace hw := hw.2 c1
      refine lv_aload_n hx hb dX6_length_8 rfl (lv_at hl 0 rfl) ?_
      refine lv_iload_n hx hb dX6_length_9 rfl (lv_at hl 1 rfl) ?_
      refine va_lald hx hb hK hP 0 1 rfl rfl hw.1 dX6_length_10 ?_
      replace hw := hw.2
      refine lv_lconst (v := 0) hx hb dX6_length_11 (by decide) ?_
      refine lx_lne (tgt := 22) hx hb dX6_length_12 dX6_length_13 (by decide) (fun c6 => ?_) (fun c6 => ?_)
      · replace hw := hw.2 c6
        refine lv_bipush (v := 30) hx hb dX6_length_22 (by decide) ?_
        refine lv_iload_n hx hb dX6_length_24 rfl (lv_at hl 1 rfl) ?_
        refine lv_iconst (v := 1) hx hb dX6_length_25 (by decide) ?_
        refine lv_iadd hx hb dX6_length_26 ?_
        refine lv_imul hx hb dX6_length_27 ?_
        refine lv_topi (fun x7 ex7 => ?_)
        replace hw := hw x7 ex7
        refine lv_istore_n (lv' := [(2, .int x7), (0, .ref a0), (1, .int y1)]) hx hb dX6_length_28 rfl hl (by decide) rfl (fun ls hl => ?_)
        refine lv_iload_n hx hb dX6_length_29 rfl (lv_at hl 2 rfl) ?_
        obtain ⟨PJx8, hPJx8⟩ : ∃ P : Int64 → Prop, ∀ x8 : Int64, P x8 ↔ ∀ ls : Array Slot, lv_has ls 5 [(1, .int y1), (2, .int x7)] → W p l e (headSpec (ws_ yX6_length cX6_length 5 (Option.some Jvm.ClassFile.FieldType.int)) ({ frames := 0, cells := 0, slots := 0, locals := 0 })).room s m ([.ref a0] : List Value).toArray below meth c s.heap ([]) 0 0 (MQ below (vp_Si post) ([.ref a0] : List Value).toArray s 0 0 (fun _ => False)) (F0 m 42 ls [.long x8]) := ⟨_, fun _ => Iff.rfl⟩
        have hox8 := hw.1
        have hjx8 : ∀ x8 : Int64, x8 = (if 0 ≤ y1 then (fa0 y1.toNatClampNeg) else 1073741824) → PJx8 x8 := by
          intro x8 ex8
          rw [hPJx8]
          intro ls hl
          replace hw := hw.2 x8 ex8
          refine lv_lstore_n (lv' := [(3, .long x8), (1, .int y1), (2, .int x7)]) hx hb dX6_length_42 rfl hl (by decide) rfl (fun ls hl => ?_)
          obtain ⟨n10, hw⟩ := hw
          exact bX6_length_43 a0 fa0 post  hx hb hr hlocks hml hown hts hK hG hS hP n10 y1 x7 x8 hw _ (lv_sub hl [1, 2, 0] rfl)
        replace hjx8 := hjx8 _ rfl
        refine lv_if_ge (tgt := 39) hx hb dX6_length_30 (by decide) (fun c9 => ?_) (fun c9 => ?_)
        · replace hjx8 := pf_t (P := PJx8) c9 hjx8
          replace hox8 := hox8.1 c9
          refine lv_aload_n hx hb dX6_length_39 rfl (lv_at hl 1 rfl) ?_
          refine lv_iload_n hx hb dX6_length_40 rfl (lv_at hl 2 rfl) ?_
          refine va_lald hx hb hK hP 0 1 rfl rfl hox8 dX6_length_41 ?_
          exact (hPJx8 _).1 hjx8 _ (lv_sub hl [2, 0] rfl)
        · replace hjx8 := pf_f (P := PJx8) c9 hjx8
          refine lv_ldc2 (v := 1073741824) hx hb hown (hts _ q1273) dX6_length_33 ?_
          refine lv_goto (tgt := 42) hx hb dX6_length_36 (by decide) ?_
          exact (hPJx8 _).1 hjx8 _ (lv_sub hl [2, 0] rfl)
      · replace hw := hw.1 c6
        obtain ⟨x11, ex11⟩ : ∃ y : Int32, y = y1 + (-1) := ⟨_, rfl⟩
        refine lv_iinc (v := x11) (lv' := [(1, .int x11), (0, .ref a0)]) hx hb dX6_length_16 hl (k := 1) rfl (by rw [ex11]; rfl) (by decide) rfl (fun ls hl => ?_)
        replace hw := hw x11 ex11
        refine lv_goto (tgt := 4) hx hb dX6_length_19 (by decide) ?_
        exact ih x11 hw _ (lv_sub hl [1, 0] rfl)
set_option maxHeartbeats 4000000 in
set_option maxRecDepth 100000 in
theorem mX6_length (l : Launch) (D : va_G) (TY : Nat → ClassId) (a0 : Nat) (fa0 : Nat → Int64) (post : Int32 → Prop) (hw : wX6_length fa0 post) : Met l yX6_length (ws_ yX6_length cX6_length 5 (Option.some Jvm.ClassFile.FieldType.int)) ({ frames := 0, cells := 0, slots := 0, locals := 0 }) (PR D TY [.ref a0] [(a0, .inl (TY 1, 170, .inr (.inl fa0)))]) (vp_Si post) 0 0 (fun _ => False) := by
  refine ofWF (cc := cX6_length) (maxL := 5) (ret := (Option.some Jvm.ClassFile.FieldType.int)) (plainFor_of_name (by decide)) rfl ?_
  intro p e s m args below meth c s₁ B hml hv
  obtain ⟨rfl, hP, hK, hG⟩ := hv
  have hx := B.exec
  have hb := B.bytes
  have hr := B.returns
  have hts0 := atoms_spec (ws := ws_ yX6_length cX6_length 5 (Option.some Jvm.ClassFile.FieldType.int)) B.pre
  have hts : ∀ w ∈ lw_all, w.before _ s = true := fun w h => hts0 w (List.mem_cons_of_mem _ h)
  have hown : s.vm.findClass RX6 = some m.cls := findClass_of_methodNamed B.named
  have hlocks := B.notSynchronized
  have hS : va_S (fun _ => False) s.heap s.heap [] := va_S.rf
  have hl := lv_entry ([.ref a0]) (n := 5) (Nat.le_of_ble_eq_true rfl)
  rw [lg_entry_eq]
  generalize (lg_sl ([.ref a0]) ++ List.replicate (5 - (lg_sl ([.ref a0])).length) Slot.unset).toArray = ls at hl ⊢
  have hl : lv_has ls 5 [(0, .ref a0)] := hl
  unfold wX6_length at hw
  refine lv_sipush (v := 169) hx hb dX6_length_0 (by decide) ?_
  refine lv_istore_n (lv' := [(1, .int 169), (0, .ref a0)]) hx hb dX6_length_3 rfl hl (by decide) rfl (fun ls hl => ?_)
  obtain ⟨n1, hw⟩ := hw
  exact bX6_length_4 a0 fa0 post  hx hb hr hlocks hml hown hts hK hG hS hP n1 169 hw _ (lv_sub hl [1, 0] rfl)
