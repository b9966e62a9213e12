def fX6_failed (v_failed : Int32) : Int32 := v_failed
set_option maxHeartbeats 4000000 in
set_option maxRecDepth 100000 in
theorem mX6_failed (l : Launch) (D : va_G) (TY : Nat → ClassId) (h0 : Nat) (c_counts : Nat) (c_text : Nat) (c_rows : Nat) (c_rowKind : Nat) (c_rowSize : Nat) (c_num : Nat) (c_den : Nat) (c_work : Nat) (c_root : Nat) (v_failed : Int32) (v_size : Int32) (v_neg : Int32) (v_nan : Int32) (v_inf : Int32) (v_m : Int64) (v_n : Int32) (v_at : Int32) (v_end : Int32) (v_fault : Int32) (v_digits : Int32) (g_counts : Nat → Int32) (g_text : Nat → Int32) (g_rows : Nat → Int64) (g_rowKind : Nat → Int32) (g_rowSize : Nat → Int32) (g_num : Nat → Int64) (g_den : Nat → Int64) (g_work : Nat → Int64) (g_root : Nat → Int64) (post : Int32 → Prop) (hw : post (fX6_failed v_failed)) : Met l yX6_failed (ws_ yX6_failed cX6_failed 1 (Option.some Jvm.ClassFile.FieldType.int)) ({ frames := 0, cells := 0, slots := 0, locals := 0 }) (PR D TY [.ref h0] [(h0, .inr (6, [.int v_failed, .ref c_counts, .ref c_text, .int v_size, .ref c_rows, .ref c_rowKind, .ref c_rowSize, .int v_neg, .int v_nan, .int v_inf, .long v_m, .int v_n, .ref c_num, .ref c_den, .ref c_work, .ref c_root, .int v_at, .int v_end, .int v_fault, .int v_digits])), (c_counts, .inl (TY 0, 10, .inl g_counts)), (c_text, .inl (TY 0, 60, .inl g_text)), (c_rows, .inl (TY 1, 320, .inr (.inl g_rows))), (c_rowKind, .inl (TY 0, 8, .inl g_rowKind)), (c_rowSize, .inl (TY 0, 8, .inl g_rowSize)), (c_num, .inl (TY 1, 170, .inr (.inl g_num))), (c_den, .inl (TY 1, 170, .inr (.inl g_den))), (c_work, .inl (TY 1, 170, .inr (.inl g_work))), (c_root, .inl (TY 1, 170, .inr (.inl g_root)))]) (vp_Si post) 0 0 (fun _ => False) := by
  refine ofWF (cc := cX6_failed) (maxL := 1) (ret := (Option.some Jvm.ClassFile.FieldType.int)) (plainFor_of_name (by decide)) rfl ?_
  intro p e s m args below meth c s₁ B hml hv
  obtain ⟨rfl, hP, hK, hG⟩ := hv
  have hx := B.exec
  have hb := B.bytes
  have hr := B.returns
  have hts0 := atoms_spec (ws := ws_ yX6_failed cX6_failed 1 (Option.some Jvm.ClassFile.FieldType.int)) B.pre
  have hts : ∀ w ∈ lw_all, w.before _ s = true := fun w h => hts0 w (List.mem_cons_of_mem _ h)
  have hown : s.vm.findClass RX6 = some m.cls := findClass_of_methodNamed B.named
  have hlocks := B.notSynchronized
  have hS : va_S (fun _ => False) s.heap s.heap [] := va_S.rf
  have hl := lv_entry ([.ref h0]) (n := 1) (Nat.le_of_ble_eq_true rfl)
  rw [lg_entry_eq]
  generalize (lg_sl ([.ref h0]) ++ List.replicate (1 - (lg_sl ([.ref h0])).length) Slot.unset).toArray = ls at hl ⊢
  have hl : lv_has ls 1 [(0, .ref h0)] := hl
  unfold fX6_failed at hw
  refine lv_aload_n hx hb dX6_failed_0 rfl (lv_at hl 0 rfl) ?_
  refine va_get (D := D) (ci := 6) (v := .int v_failed) (C := RX6) (T := TX6) (N := 20) hx hb hts in_X6 hown hK hP 0 rfl rfl 0 (by decide) (hts _ q1147) (fun _ h9 => h9) rfl dX6_failed_1 ?_
  exact W.iret (v := v_failed) hx hb hr (fun t ht hW => ⟨_, rfl, hw, ht⟩) (fun q h => nomatch h) dX6_failed_4

def wX6_begin  (post : Int32 → Prop) : Prop := post 0
set_option maxHeartbeats 4000000 in
set_option maxRecDepth 100000 in
theorem mX6_begin (l : Launch) (D : va_G) (TY : Nat → ClassId) (sz : Nat) (h0 : Nat) (c_counts : Nat) (c_text : Nat) (c_rows : Nat) (c_rowKind : Nat) (c_rowSize : Nat) (c_num : Nat) (c_den : Nat) (c_work : Nat) (c_root : Nat) (v_failed : Int32) (v_size : Int32) (v_neg : Int32) (v_nan : Int32) (v_inf : Int32) (v_m : Int64) (v_n : Int32) (v_at : Int32) (v_end : Int32) (v_fault : Int32) (v_digits : Int32) (g_counts : Nat → Int32) (g_text : Nat → Int32) (g_rows : Nat → Int64) (g_rowKind : Nat → Int32) (g_rowSize : Nat → Int32) (g_num : Nat → Int64) (g_den : Nat → Int64) (g_work : Nat → Int64) (g_root : Nat → Int64) (post : Int32 → Prop) (hw : wX6_begin post) : Met l yX6_begin (ws_ yX6_begin cX6_begin 1 (Option.none : Option Jvm.ClassFile.FieldType)) ({ frames := 0, cells := 0, slots := 0, locals := 0 }) (PC D TY [.ref h0] sz [(h0, .inr (6, [.int v_failed, .ref c_counts, .ref c_text, .int v_size, .ref c_rows, .ref c_rowKind, .ref c_rowSize, .int v_neg, .int v_nan, .int v_inf, .long v_m, .int v_n, .ref c_num, .ref c_den, .ref c_work, .ref c_root, .int v_at, .int v_end, .int v_fault, .int v_digits])), (c_counts, .inl (TY 0, 10, .inl g_counts)), (c_text, .inl (TY 0, 60, .inl g_text)), (c_rows, .inl (TY 1, 320, .inr (.inl g_rows))), (c_rowKind, .inl (TY 0, 8, .inl g_rowKind)), (c_rowSize, .inl (TY 0, 8, .inl g_rowSize)), (c_num, .inl (TY 1, 170, .inr (.inl g_num))), (c_den, .inl (TY 1, 170, .inr (.inl g_den))), (c_work, .inl (TY 1, 170, .inr (.inl g_work))), (c_root, .inl (TY 1, 170, .inr (.inl g_root)))]) (va_Qv post (fun (u : Int32) t => BB D TY (va_A [(h0, .inr (6, [.int v_failed, .ref c_counts, .ref c_text, .int v_size, .ref c_rows, .ref c_rowKind, .ref c_rowSize, .int v_neg, .int v_nan, .int v_inf, .long v_m, .int v_n, .ref c_num, .ref c_den, .ref c_work, .ref c_root, .int v_at, .int v_end, .int v_fault, .int v_digits])), (c_counts, .inl (TY 0, 10, .inl g_counts)), (c_text, .inl (TY 0, 60, .inl g_text)), (c_rows, .inl (TY 1, 320, .inr (.inl g_rows))), (c_rowKind, .inl (TY 0, 8, .inl g_rowKind)), (c_rowSize, .inl (TY 0, 8, .inl g_rowSize)), (c_num, .inl (TY 1, 170, .inr (.inl g_num))), (c_den, .inl (TY 1, 170, .inr (.inl g_den))), (c_work, .inl (TY 1, 170, .inr (.inl g_work))), (c_root, .inl (TY 1, 170, .inr (.inl g_root)))] sz) [(h0, .inr (6, [.int u, .ref c_counts, .ref c_text, .int v_size, .ref c_rows, .ref c_rowKind, .ref c_rowSize, .int v_neg, .int v_nan, .int v_inf, .long v_m, .int v_n, .ref c_num, .ref c_den, .ref c_work, .ref c_root, .int v_at, .int v_end, .int v_fault, .int v_digits])), (c_counts, .inl (TY 0, 10, .inl g_counts)), (c_text, .inl (TY 0, 60, .inl g_text)), (c_rows, .inl (TY 1, 320, .inr (.inl g_rows))), (c_rowKind, .inl (TY 0, 8, .inl g_rowKind)), (c_rowSize, .inl (TY 0, 8, .inl g_rowSize)), (c_num, .inl (TY 1, 170, .inr (.inl g_num))), (c_den, .inl (TY 1, 170, .inr (.inl g_den))), (c_work, .inl (TY 1, 170, .inr (.inl g_work))), (c_root, .inl (TY 1, 170, .inr (.inl g_root)))] t) (va_A [(h0, .inr (6, [.int v_failed, .ref c_counts, .ref c_text, .int v_size, .ref c_rows, .ref c_rowKind, .ref c_rowSize, .int v_neg, .int v_nan, .int v_inf, .long v_m, .int v_n, .ref c_num, .ref c_den, .ref c_work, .ref c_root, .int v_at, .int v_end, .int v_fault, .int v_digits])), (c_counts, .inl (TY 0, 10, .inl g_counts)), (c_text, .inl (TY 0, 60, .inl g_text)), (c_rows, .inl (TY 1, 320, .inr (.inl g_rows))), (c_rowKind, .inl (TY 0, 8, .inl g_rowKind)), (c_rowSize, .inl (TY 0, 8, .inl g_rowSize)), (c_num, .inl (TY 1, 170, .inr (.inl g_num))), (c_den, .inl (TY 1, 170, .inr (.inl g_den))), (c_work, .inl (TY 1, 170, .inr (.inl g_work))), (c_root, .inl (TY 1, 170, .inr (.inl g_root)))] sz)) 0 0 (va_A [(h0, .inr (6, [.int v_failed, .ref c_counts, .ref c_text, .int v_size, .ref c_rows, .ref c_rowKind, .ref c_rowSize, .int v_neg, .int v_nan, .int v_inf, .long v_m, .int v_n, .ref c_num, .ref c_den, .ref c_work, .ref c_root, .int v_at, .int v_end, .int v_fault, .int v_digits])), (c_counts, .inl (TY 0, 10, .inl g_counts)), (c_text, .inl (TY 0, 60, .inl g_text)), (c_rows, .inl (TY 1, 320, .inr (.inl g_rows))), (c_rowKind, .inl (TY 0, 8, .inl g_rowKind)), (c_rowSize, .inl (TY 0, 8, .inl g_rowSize)), (c_num, .inl (TY 1, 170, .inr (.inl g_num))), (c_den, .inl (TY 1, 170, .inr (.inl g_den))), (c_work, .inl (TY 1, 170, .inr (.inl g_work))), (c_root, .inl (TY 1, 170, .inr (.inl g_root)))] sz) := by
  refine ofWF (cc := cX6_begin) (maxL := 1) (ret := (Option.none : Option Jvm.ClassFile.FieldType)) (plainFor_of_name (by decide)) rfl ?_
  intro p e s m args below meth c s₁ B hml hv
  obtain ⟨rfl, hsz, hP, hK, hD0, hG⟩ := hv
  have hx := B.exec
  have hb := B.bytes
  have hr := B.returns
  have hts0 := atoms_spec (ws := ws_ yX6_begin cX6_begin 1 (Option.none : Option Jvm.ClassFile.FieldType)) B.pre
  have hts : ∀ w ∈ lw_all, w.before _ s = true := fun w h => hts0 w (List.mem_cons_of_mem _ h)
  have hown : s.vm.findClass RX6 = some m.cls := findClass_of_methodNamed B.named
  have hlocks := B.notSynchronized
  subst hsz
  have hD := hD0.self (sz := s.heap.size)
  generalize hAe : va_A [(h0, .inr (6, [.int v_failed, .ref c_counts, .ref c_text, .int v_size, .ref c_rows, .ref c_rowKind, .ref c_rowSize, .int v_neg, .int v_nan, .int v_inf, .long v_m, .int v_n, .ref c_num, .ref c_den, .ref c_work, .ref c_root, .int v_at, .int v_end, .int v_fault, .int v_digits])), (c_counts, .inl (TY 0, 10, .inl g_counts)), (c_text, .inl (TY 0, 60, .inl g_text)), (c_rows, .inl (TY 1, 320, .inr (.inl g_rows))), (c_rowKind, .inl (TY 0, 8, .inl g_rowKind)), (c_rowSize, .inl (TY 0, 8, .inl g_rowSize)), (c_num, .inl (TY 1, 170, .inr (.inl g_num))), (c_den, .inl (TY 1, 170, .inr (.inl g_den))), (c_work, .inl (TY 1, 170, .inr (.inl g_work))), (c_root, .inl (TY 1, 170, .inr (.inl g_root)))] s.heap.size = A at hD hG ⊢
  have hA : ∀ q : Nat, s.heap.size ≤ q → A q := fun q h => by rw [← hAe]; exact Or.inr h
  have hS : va_S A s.heap s.heap [] := va_S.rf
  have hP : va_P D vwCl [(h0, .inr (6, [.int v_failed, .ref c_counts, .ref c_text, .int v_size, .ref c_rows, .ref c_rowKind, .ref c_rowSize, .int v_neg, .int v_nan, .int v_inf, .long v_m, .int v_n, .ref c_num, .ref c_den, .ref c_work, .ref c_root, .int v_at, .int v_end, .int v_fault, .int v_digits])), (c_counts, .inl (TY 0, 10, .inl g_counts)), (c_text, .inl (TY 0, 60, .inl g_text)), (c_rows, .inl (TY 1, 320, .inr (.inl g_rows))), (c_rowKind, .inl (TY 0, 8, .inl g_rowKind)), (c_rowSize, .inl (TY 0, 8, .inl g_rowSize)), (c_num, .inl (TY 1, 170, .inr (.inl g_num))), (c_den, .inl (TY 1, 170, .inr (.inl g_den))), (c_work, .inl (TY 1, 170, .inr (.inl g_work))), (c_root, .inl (TY 1, 170, .inr (.inl g_root)))] s.heap := hP
  have hl := lv_entry ([.ref h0]) (n := 1) (Nat.le_of_ble_eq_true rfl)
  rw [lg_entry_eq]
  generalize (lg_sl ([.ref h0]) ++ List.replicate (1 - (lg_sl ([.ref h0])).length) Slot.unset).toArray = ls at hl ⊢
  have hl : lv_has ls 1 [(0, .ref h0)] := hl
  unfold wX6_begin at hw
  refine lv_aload_n hx hb dX6_begin_0 rfl (lv_at hl 0 rfl) ?_
  refine lv_iconst (v := 0) hx hb dX6_begin_1 (by decide) ?_
  refine va_put (D := D) (ci := 6) (v := .int 0) (ty := .int) (C := RX6) (T := TX6) (N := 20) hx hb hts in_X6 tyX6 tyX6_ok nmX6 hown hK hP hD hS 0 rfl rfl 0 (by decide) (hts _ q1147) (fun _ h9 => h9) rfl (by decide +kernel) rfl rfl (Nat.le_of_ble_eq_true rfl) dX6_begin_2 (fun H locs hP hD hS => ?_)
  have hP : va_P D vwCl [(h0, .inr (6, [.int 0, .ref c_counts, .ref c_text, .int v_size, .ref c_rows, .ref c_rowKind, .ref c_rowSize, .int v_neg, .int v_nan, .int v_inf, .long v_m, .int v_n, .ref c_num, .ref c_den, .ref c_work, .ref c_root, .int v_at, .int v_end, .int v_fault, .int v_digits])), (c_counts, .inl (TY 0, 10, .inl g_counts)), (c_text, .inl (TY 0, 60, .inl g_text)), (c_rows, .inl (TY 1, 320, .inr (.inl g_rows))), (c_rowKind, .inl (TY 0, 8, .inl g_rowKind)), (c_rowSize, .inl (TY 0, 8, .inl g_rowSize)), (c_num, .inl (TY 1, 170, .inr (.inl g_num))), (c_den, .inl (TY 1, 170, .inr (.inl g_den))), (c_work, .inl (TY 1, 170, .inr (.inl g_work))), (c_root, .inl (TY 1, 170, .inr (.inl g_root)))] H := hP
  have hD : va_D A [(h0, .inr (6, [.int 0, .ref c_counts, .ref c_text, .int v_size, .ref c_rows, .ref c_rowKind, .ref c_rowSize, .int v_neg, .int v_nan, .int v_inf, .long v_m, .int v_n, .ref c_num, .ref c_den, .ref c_work, .ref c_root, .int v_at, .int v_end, .int v_fault, .int v_digits])), (c_counts, .inl (TY 0, 10, .inl g_counts)), (c_text, .inl (TY 0, 60, .inl g_text)), (c_rows, .inl (TY 1, 320, .inr (.inl g_rows))), (c_rowKind, .inl (TY 0, 8, .inl g_rowKind)), (c_rowSize, .inl (TY 0, 8, .inl g_rowSize)), (c_num, .inl (TY 1, 170, .inr (.inl g_num))), (c_den, .inl (TY 1, 170, .inr (.inl g_den))), (c_work, .inl (TY 1, 170, .inr (.inl g_work))), (c_root, .inl (TY 1, 170, .inr (.inl g_root)))] := hD
  have hP9 := hP.sub (ws' := [(h0, .inr (6, [.int 0, .ref c_counts, .ref c_text, .int v_size, .ref c_rows, .ref c_rowKind, .ref c_rowSize, .int v_neg, .int v_nan, .int v_inf, .long v_m, .int v_n, .ref c_num, .ref c_den, .ref c_work, .ref c_root, .int v_at, .int v_end, .int v_fault, .int v_digits])), (c_counts, .inl (TY 0, 10, .inl g_counts)), (c_text, .inl (TY 0, 60, .inl g_text)), (c_rows, .inl (TY 1, 320, .inr (.inl g_rows))), (c_rowKind, .inl (TY 0, 8, .inl g_rowKind)), (c_rowSize, .inl (TY 0, 8, .inl g_rowSize)), (c_num, .inl (TY 1, 170, .inr (.inl g_num))), (c_den, .inl (TY 1, 170, .inr (.inl g_den))), (c_work, .inl (TY 1, 170, .inr (.inl g_work))), (c_root, .inl (TY 1, 170, .inr (.inl g_root)))]) [0, 1, 2, 3, 4, 5, 6, 7, 8, 9] rfl
  have hD9 := hD.sub (ws' := [(h0, .inr (6, [.int 0, .ref c_counts, .ref c_text, .int v_size, .ref c_rows, .ref c_rowKind, .ref c_rowSize, .int v_neg, .int v_nan, .int v_inf, .long v_m, .int v_n, .ref c_num, .ref c_den, .ref c_work, .ref c_root, .int v_at, .int v_end, .int v_fault, .int v_digits])), (c_counts, .inl (TY 0, 10, .inl g_counts)), (c_text, .inl (TY 0, 60, .inl g_text)), (c_rows, .inl (TY 1, 320, .inr (.inl g_rows))), (c_rowKind, .inl (TY 0, 8, .inl g_rowKind)), (c_rowSize, .inl (TY 0, 8, .inl g_rowSize)), (c_num, .inl (TY 1, 170, .inr (.inl g_num))), (c_den, .inl (TY 1, 170, .inr (.inl g_den))), (c_work, .inl (TY 1, 170, .inr (.inl g_work))), (c_root, .inl (TY 1, 170, .inr (.inl g_root)))]) [0, 1, 2, 3, 4, 5, 6, 7, 8, 9] (by decide) rfl
  exact W.vret hx hb hr (fun t ht hW => ⟨⟨0, rfl, hw, BB.mk hP9 hD9 hK ht hW⟩, hS.F ht⟩) hS.2.2 dX6_begin_5

def wX6_fail (g_counts : Nat → Int32) (p1 : Int32) (post : Int64 → (Int32 × (Nat → Int32)) → Prop) : Prop := (vp_in p1 10) ∧ (∀ x1 : Int32, x1 = (g_counts p1.toNatClampNeg) + 1 → (vp_in p1 10) ∧ (post 0 (p1, upd g_counts p1.toNatClampNeg x1)))
set_option maxHeartbeats 4000000 in
set_option maxRecDepth 100000 in
theorem mX6_fail (l : Launch) (D : va_G) (TY : Nat → ClassId) (sz : Nat) (h0 : Nat) (c_counts : Nat) (c_text : Nat) (c_rows : Nat) (c_rowKind : Nat) (c_rowSize : Nat) (c_num : Nat) (c_den : Nat) (c_work : Nat) (c_root : Nat) (v_failed : Int32) (v_size : Int32) (v_neg : Int32) (v_nan : Int32) (v_inf : Int32) (v_m : Int64) (v_n : Int32) (v_at : Int32) (v_end : Int32) (v_fault : Int32) (v_digits : Int32) (g_counts : Nat → Int32) (g_text : Nat → Int32) (g_rows : Nat → Int64) (g_rowKind : Nat → Int32) (g_rowSize : Nat → Int32) (g_num : Nat → Int64) (g_den : Nat → Int64) (g_work : Nat → Int64) (g_root : Nat → Int64) (p1 : Int32) (post : Int64 → (Int32 × (Nat → Int32)) → Prop) (hw : wX6_fail g_counts p1 post) : Met l yX6_fail (ws_ yX6_fail cX6_fail 2 (Option.some Jvm.ClassFile.FieldType.long)) ({ frames := 0, cells := 0, slots := 0, locals := 0 }) (PC D TY [.ref h0, .int p1] sz [(h0, .inr (6, [.int v_failed, .ref c_counts, .ref c_text, .int v_size, .ref c_rows, .ref c_rowKind, .ref c_rowSize, .int v_neg, .int v_nan, .int v_inf, .long v_m, .int v_n, .ref c_num, .ref c_den, .ref c_work, .ref c_root, .int v_at, .int v_end, .int v_fault, .int v_digits])), (c_counts, .inl (TY 0, 10, .inl g_counts)), (c_text, .inl (TY 0, 60, .inl g_text)), (c_rows, .inl (TY 1, 320, .inr (.inl g_rows))), (c_rowKind, .inl (TY 0, 8, .inl g_rowKind)), (c_rowSize, .inl (TY 0, 8, .inl g_rowSize)), (c_num, .inl (TY 1, 170, .inr (.inl g_num))), (c_den, .inl (TY 1, 170, .inr (.inl g_den))), (c_work, .inl (TY 1, 170, .inr (.inl g_work))), (c_root, .inl (TY 1, 170, .inr (.inl g_root)))]) (va_Ql post (fun (u : Int32 × (Nat → Int32)) t => BB D TY (va_A [(h0, .inr (6, [.int v_failed, .ref c_counts, .ref c_text, .int v_size, .ref c_rows, .ref c_rowKind, .ref c_rowSize, .int v_neg, .int v_nan, .int v_inf, .long v_m, .int v_n, .ref c_num, .ref c_den, .ref c_work, .ref c_root, .int v_at, .int v_end, .int v_fault, .int v_digits])), (c_counts, .inl (TY 0, 10, .inl g_counts)), (c_text, .inl (TY 0, 60, .inl g_text)), (c_rows, .inl (TY 1, 320, .inr (.inl g_rows))), (c_rowKind, .inl (TY 0, 8, .inl g_rowKind)), (c_rowSize, .inl (TY 0, 8, .inl g_rowSize)), (c_num, .inl (TY 1, 170, .inr (.inl g_num))), (c_den, .inl (TY 1, 170, .inr (.inl g_den))), (c_work, .inl (TY 1, 170, .inr (.inl g_work))), (c_root, .inl (TY 1, 170, .inr (.inl g_root)))] sz) [(h0, .inr (6, [.int u.1, .ref c_counts, .ref c_text, .int v_size, .ref c_rows, .ref c_rowKind, .ref c_rowSize, .int v_neg, .int v_nan, .int v_inf, .long v_m, .int v_n, .ref c_num, .ref c_den, .ref c_work, .ref c_root, .int v_at, .int v_end, .int v_fault, .int v_digits])), (c_counts, .inl (TY 0, 10, .inl u.2)), (c_text, .inl (TY 0, 60, .inl g_text)), (c_rows, .inl (TY 1, 320, .inr (.inl g_rows))), (c_rowKind, .inl (TY 0, 8, .inl g_rowKind)), (c_rowSize, .inl (TY 0, 8, .inl g_rowSize)), (c_num, .inl (TY 1, 170, .inr (.inl g_num))), (c_den, .inl (TY 1, 170, .inr (.inl g_den))), (c_work, .inl (TY 1, 170, .inr (.inl g_work))), (c_root, .inl (TY 1, 170, .inr (.inl g_root)))] t) (va_A [(h0, .inr (6, [.int v_failed, .ref c_counts, .ref c_text, .int v_size, .ref c_rows, .ref c_rowKind, .ref c_rowSize, .int v_neg, .int v_nan, .int v_inf, .long v_m, .int v_n, .ref c_num, .ref c_den, .ref c_work, .ref c_root, .int v_at, .int v_end, .int v_fault, .int v_digits])), (c_counts, .inl (TY 0, 10, .inl g_counts)), (c_text, .inl (TY 0, 60, .inl g_text)), (c_rows, .inl (TY 1, 320, .inr (.inl g_rows))), (c_rowKind, .inl (TY 0, 8, .inl g_rowKind)), (c_rowSize, .inl (TY 0, 8, .inl g_rowSize)), (c_num, .inl (TY 1, 170, .inr (.inl g_num))), (c_den, .inl (TY 1, 170, .inr (.inl g_den))), (c_work, .inl (TY 1, 170, .inr (.inl g_work))), (c_root, .inl (TY 1, 170, .inr (.inl g_root)))] sz)) 0 0 (va_A [(h0, .inr (6, [.int v_failed, .ref c_counts, .ref c_text, .int v_size, .ref c_rows, .ref c_rowKind, .ref c_rowSize, .int v_neg, .int v_nan, .int v_inf, .long v_m, .int v_n, .ref c_num, .ref c_den, .ref c_work, .ref c_root, .int v_at, .int v_end, .int v_fault, .int v_digits])), (c_counts, .inl (TY 0, 10, .inl g_counts)), (c_text, .inl (TY 0, 60, .inl g_text)), (c_rows, .inl (TY 1, 320, .inr (.inl g_rows))), (c_rowKind, .inl (TY 0, 8, .inl g_rowKind)), (c_rowSize, .inl (TY 0, 8, .inl g_rowSize)), (c_num, .inl (TY 1, 170, .inr (.inl g_num))), (c_den, .inl (TY 1, 170, .inr (.inl g_den))), (c_work, .inl (TY 1, 170, .inr (.inl g_work))), (c_root, .inl (TY 1, 170, .inr (.inl g_root)))] sz) := by
  refine ofWF (cc := cX6_fail) (maxL := 2) (ret := (Option.some Jvm.ClassFile.FieldType.long)) (plainFor_of_name (by decide)) rfl ?_
  intro p e s m args below meth c s₁ B hml hv
  obtain ⟨rfl, hsz, hP, hK, hD0, hG⟩ := hv
  have hx := B.exec
  have hb := B.bytes
  have hr := B.returns
  have hts0 := atoms_spec (ws := ws_ yX6_fail cX6_fail 2 (Option.some Jvm.ClassFile.FieldType.long)) B.pre
  have hts : ∀ w ∈ lw_all, w.before _ s = true := fun w h => hts0 w (List.mem_cons_of_mem _ h)
  have hown : s.vm.findClass RX6 = some m.cls := findClass_of_methodNamed B.named
  have hlocks := B.notSynchronized
  subst hsz
  have hD := hD0.self (sz := s.heap.size)
  generalize hAe : va_A [(h0, .inr (6, [.int v_failed, .ref c_counts, .ref c_text, .int v_size, .ref c_rows, .ref c_rowKind, .ref c_rowSize, .int v_neg, .int v_nan, .int v_inf, .long v_m, .int v_n, .ref c_num, .ref c_den, .ref c_work, .ref c_root, .int v_at, .int v_end, .int v_fault, .int v_digits])), (c_counts, .inl (TY 0, 10, .inl g_counts)), (c_text, .inl (TY 0, 60, .inl g_text)), (c_rows, .inl (TY 1, 320, .inr (.inl g_rows))), (c_rowKind, .inl (TY 0, 8, .inl g_rowKind)), (c_rowSize, .inl (TY 0, 8, .inl g_rowSize)), (c_num, .inl (TY 1, 170, .inr (.inl g_num))), (c_den, .inl (TY 1, 170, .inr (.inl g_den))), (c_work, .inl (TY 1, 170, .inr (.inl g_work))), (c_root, .inl (TY 1, 170, .inr (.inl g_root)))] s.heap.size = A at hD hG ⊢
  have hA : ∀ q : Nat, s.heap.size ≤ q → A q := fun q h => by rw [← hAe]; exact Or.inr h
  have hS : va_S A s.heap s.heap [] := va_S.rf
  have hP : va_P D vwCl [(h0, .inr (6, [.int v_failed, .ref c_counts, .ref c_text, .int v_size, .ref c_rows, .ref c_rowKind, .ref c_rowSize, .int v_neg, .int v_nan, .int v_inf, .long v_m, .int v_n, .ref c_num, .ref c_den, .ref c_work, .ref c_root, .int v_at, .int v_end, .int v_fault, .int v_digits])), (c_counts, .inl (TY 0, 10, .inl g_counts)), (c_text, .inl (TY 0, 60, .inl g_text)), (c_rows, .inl (TY 1, 320, .inr (.inl g_rows))), (c_rowKind, .inl (TY 0, 8, .inl g_rowKind)), (c_rowSize, .inl (TY 0, 8, .inl g_rowSize)), (c_num, .inl (TY 1, 170, .inr (.inl g_num))), (c_den, .inl (TY 1, 170, .inr (.inl g_den))), (c_work, .inl (TY 1, 170, .inr (.inl g_work))), (c_root, .inl (TY 1, 170, .inr (.inl g_root)))] s.heap := hP
  have hl := lv_entry ([.ref h0, .int p1]) (n := 2) (Nat.le_of_ble_eq_true rfl)
  rw [lg_entry_eq]
  generalize (lg_sl ([.ref h0, .int p1]) ++ List.replicate (2 - (lg_sl ([.ref h0, .int p1])).length) Slot.unset).toArray = ls at hl ⊢
  have hl : lv_has ls 2 [(0, .ref h0), (1, .int p1)] := hl
  unfold wX6_fail at hw
  refine lv_aload_n hx hb dX6_fail_0 rfl (lv_at hl 0 rfl) ?_
  refine lv_iload_n hx hb dX6_fail_1 rfl (lv_at hl 1 rfl) ?_
  refine va_put (D := D) (ci := 6) (v := .int p1) (ty := .int) (C := RX6) (T := TX6) (N := 20) hx hb hts in_X6 tyX6 tyX6_ok nmX6 hown hK hP hD hS 0 rfl rfl 0 (by decide) (hts _ q1147) (fun _ h9 => h9) rfl (by decide +kernel) rfl rfl (Nat.le_of_ble_eq_true rfl) dX6_fail_2 (fun H locs hP hD hS => ?_)
  have hP : va_P D vwCl [(h0, .inr (6, [.int p1, .ref c_counts, .ref c_text, .int v_size, .ref c_rows, .ref c_rowKind, .ref c_rowSize, .int v_neg, .int v_nan, .int v_inf, .long v_m, .int v_n, .ref c_num, .ref c_den, .ref c_work, .ref c_root, .int v_at, .int v_end, .int v_fault, .int v_digits])), (c_counts, .inl (TY 0, 10, .inl g_counts)), (c_text, .inl (TY 0, 60, .inl g_text)), (c_rows, .inl (TY 1, 320, .inr (.inl g_rows))), (c_rowKind, .inl (TY 0, 8, .inl g_rowKind)), (c_rowSize, .inl (TY 0, 8, .inl g_rowSize)), (c_num, .inl (TY 1, 170, .inr (.inl g_num))), (c_den, .inl (TY 1, 170, .inr (.inl g_den))), (c_work, .inl (TY 1, 170, .inr (.inl g_work))), (c_root, .inl (TY 1, 170, .inr (.inl g_root)))] H := hP
  have hD : va_D A [(h0, .inr (6, [.int p1, .ref c_counts, .ref c_text, .int v_size, .ref c_rows, .ref c_rowKind, .ref c_rowSize, .int v_neg, .int v_nan, .int v_inf, .long v_m, .int v_n, .ref c_num, .ref c_den, .ref c_work, .ref c_root, .int v_at, .int v_end, .int v_fault, .int v_digits])), (c_counts, .inl (TY 0, 10, .inl g_counts)), (c_text, .inl (TY 0, 60, .inl g_text)), (c_rows, .inl (TY 1, 320, .inr (.inl g_rows))), (c_rowKind, .inl (TY 0, 8, .inl g_rowKind)), (c_rowSize, .inl (TY 0, 8, .inl g_rowSize)), (c_num, .inl (TY 1, 170, .inr (.inl g_num))), (c_den, .inl (TY 1, 170, .inr (.inl g_den))), (c_work, .inl (TY 1, 170, .inr (.inl g_work))), (c_root, .inl (TY 1, 170, .inr (.inl g_root)))] := hD
  refine lv_aload_n hx hb dX6_fail_5 rfl (lv_at hl 0 rfl) ?_
  refine va_get (D := D) (ci := 6) (v := .ref c_counts) (C := RX6) (T := TX6) (N := 20) hx hb hts in_X6 hown hK hP 0 rfl rfl 1 (by decide) (hts _ q1148) (fun _ h9 => h9) rfl dX6_fail_6 ?_
  refine lv_iload_n hx hb dX6_fail_9 rfl (lv_at hl 1 rfl) ?_
  refine lv_dup2_11 hx hb dX6_fail_10 rfl rfl ?_
  refine va_iald hx hb hK hP 1 0 rfl rfl hw.1 dX6_fail_11 ?_
  replace hw := hw.2
  refine lv_iconst (v := 1) hx hb dX6_fail_12 (by decide) ?_
  refine lv_iadd hx hb dX6_fail_13 ?_
  refine lv_topi (fun x1 ex1 => ?_)
  replace hw := hw x1 ex1
  refine va_iast (i := p1) (x := x1) hx hb hK hP hD hS 1 0 rfl rfl hw.1 dX6_fail_14 (fun H locs hP hD hS => ?_)
  have hP : va_P D vwCl [(h0, .inr (6, [.int p1, .ref c_counts, .ref c_text, .int v_size, .ref c_rows, .ref c_rowKind, .ref c_rowSize, .int v_neg, .int v_nan, .int v_inf, .long v_m, .int v_n, .ref c_num, .ref c_den, .ref c_work, .ref c_root, .int v_at, .int v_end, .int v_fault, .int v_digits])), (c_counts, .inl (TY 0, 10, .inl (upd g_counts p1.toNatClampNeg x1))), (c_text, .inl (TY 0, 60, .inl g_text)), (c_rows, .inl (TY 1, 320, .inr (.inl g_rows))), (c_rowKind, .inl (TY 0, 8, .inl g_rowKind)), (c_rowSize, .inl (TY 0, 8, .inl g_rowSize)), (c_num, .inl (TY 1, 170, .inr (.inl g_num))), (c_den, .inl (TY 1, 170, .inr (.inl g_den))), (c_work, .inl (TY 1, 170, .inr (.inl g_work))), (c_root, .inl (TY 1, 170, .inr (.inl g_root)))] H := hP
  have hD : va_D A [(h0, .inr (6, [.int p1, .ref c_counts, .ref c_text, .int v_size, .ref c_rows, .ref c_rowKind, .ref c_rowSize, .int v_neg, .int v_nan, .int v_inf, .long v_m, .int v_n, .ref c_num, .ref c_den, .ref c_work, .ref c_root, .int v_at, .int v_end, .int v_fault, .int v_digits])), (c_counts, .inl (TY 0, 10, .inl (upd g_counts p1.toNatClampNeg x1))), (c_text, .inl (TY 0, 60, .inl g_text)), (c_rows, .inl (TY 1, 320, .inr (.inl g_rows))), (c_rowKind, .inl (TY 0, 8, .inl g_rowKind)), (c_rowSize, .inl (TY 0, 8, .inl g_rowSize)), (c_num, .inl (TY 1, 170, .inr (.inl g_num))), (c_den, .inl (TY 1, 170, .inr (.inl g_den))), (c_work, .inl (TY 1, 170, .inr (.inl g_work))), (c_root, .inl (TY 1, 170, .inr (.inl g_root)))] := hD
  replace hw := hw.2
  refine lv_lconst (v := 0) hx hb dX6_fail_15 (by decide) ?_
  have hP9 := hP.sub (ws' := [(h0, .inr (6, [.int p1, .ref c_counts, .ref c_text, .int v_size, .ref c_rows, .ref c_rowKind, .ref c_rowSize, .int v_neg, .int v_nan, .int v_inf, .long v_m, .int v_n, .ref c_num, .ref c_den, .ref c_work, .ref c_root, .int v_at, .int v_end, .int v_fault, .int v_digits])), (c_counts, .inl (TY 0, 10, .inl (upd g_counts p1.toNatClampNeg x1))), (c_text, .inl (TY 0, 60, .inl g_text)), (c_rows, .inl (TY 1, 320, .inr (.inl g_rows))), (c_rowKind, .inl (TY 0, 8, .inl g_rowKind)), (c_rowSize, .inl (TY 0, 8, .inl g_rowSize)), (c_num, .inl (TY 1, 170, .inr (.inl g_num))), (c_den, .inl (TY 1, 170, .inr (.inl g_den))), (c_work, .inl (TY 1, 170, .inr (.inl g_work))), (c_root, .inl (TY 1, 170, .inr (.inl g_root)))]) [0, 1, 2, 3, 4, 5, 6, 7, 8, 9] rfl
  have hD9 := hD.sub (ws' := [(h0, .inr (6, [.int p1, .ref c_counts, .ref c_text, .int v_size, .ref c_rows, .ref c_rowKind, .ref c_rowSize, .int v_neg, .int v_nan, .int v_inf, .long v_m, .int v_n, .ref c_num, .ref c_den, .ref c_work, .ref c_root, .int v_at, .int v_end, .int v_fault, .int v_digits])), (c_counts, .inl (TY 0, 10, .inl (upd g_counts p1.toNatClampNeg x1))), (c_text, .inl (TY 0, 60, .inl g_text)), (c_rows, .inl (TY 1, 320, .inr (.inl g_rows))), (c_rowKind, .inl (TY 0, 8, .inl g_rowKind)), (c_rowSize, .inl (TY 0, 8, .inl g_rowSize)), (c_num, .inl (TY 1, 170, .inr (.inl g_num))), (c_den, .inl (TY 1, 170, .inr (.inl g_den))), (c_work, .inl (TY 1, 170, .inr (.inl g_work))), (c_root, .inl (TY 1, 170, .inr (.inl g_root)))]) [0, 1, 2, 3, 4, 5, 6, 7, 8, 9] (by decide) rfl
  exact W.lret (v := 0) hx hb hr (fun t ht hW => ⟨⟨0, (p1, upd g_counts p1.toNatClampNeg x1), rfl, hw, BB.mk hP9 hD9 hK ht hW⟩, hS.F ht⟩) hS.2.2 dX6_fail_16

theorem hd_X6_begin : yX6_begin.cls ≠ "java/lang/invoke/MethodHandle" ∧ yX6_begin.cls ≠ "java/lang/invoke/VarHandle" ∧ (parseMethodDescriptor yX6_begin.desc).map (fun d => d.parameters.length) = some 0 := by decide +kernel
theorem hd_X6_fail : yX6_fail.cls ≠ "java/lang/invoke/MethodHandle" ∧ yX6_fail.cls ≠ "java/lang/invoke/VarHandle" ∧ (parseMethodDescriptor yX6_fail.desc).map (fun d => d.parameters.length) = some 1 := by decide +kernel
def wX6_told (g_counts : Nat → Int32) (p1 : Int32) (post : Int32 → (Int32 × (Nat → Int32)) → Prop) : Prop := wX6_begin  (fun u2 => ((p1 < 1) → wX6_fail g_counts 9 (fun r4 u5 => post r4.toInt32 (u5.1, u5.2))) ∧ (¬ (p1 < 1) → ((p1 ≤ 9) → (vp_in p1 10) ∧ (post (g_counts p1.toNatClampNeg) (u2, g_counts))) ∧ (¬ (p1 ≤ 9) → wX6_fail g_counts 9 (fun r7 u8 => post r7.toInt32 (u8.1, u8.2)))))
set_option maxHeartbeats 4000000 in
set_option maxRecDepth 100000 in
theorem mX6_told (l : Launch) (D : va_G) (TY : Nat → ClassId) (sz : Nat) (h0 : Nat) (c_counts : Nat) (c_text : Nat) (c_rows : Nat) (c_rowKind : Nat) (c_rowSize : Nat) (c_num : Nat) (c_den : Nat) (c_work : Nat) (c_root : Nat) (v_failed : Int32) (v_size : Int32) (v_neg : Int32) (v_nan : Int32) (v_inf : Int32) (v_m : Int64) (v_n : Int32) (v_at : Int32) (v_end : Int32) (v_fault : Int32) (v_digits : Int32) (g_counts : Nat → Int32) (g_text : Nat → Int32) (g_rows : Nat → Int64) (g_rowKind : Nat → Int32) (g_rowSize : Nat → Int32) (g_num : Nat → Int64) (g_den : Nat → Int64) (g_work : Nat → Int64) (g_root : Nat → Int64) (p1 : Int32) (post : Int32 → (Int32 × (Nat → Int32)) → Prop) (hw : wX6_told g_counts p1 post) : Met l yX6_told (ws_ yX6_told cX6_told 2 (Option.some Jvm.ClassFile.FieldType.int)) ({ frames := 1, cells := 0, slots := 0, locals := 21 }) (PC D TY [.ref h0, .int p1] sz [(h0, .inr (6, [.int v_failed, .ref c_counts, .ref c_text, .int v_size, .ref c_rows, .ref c_rowKind, .ref c_rowSize, .int v_neg, .int v_nan, .int v_inf, .long v_m, .int v_n, .ref c_num, .ref c_den, .ref c_work, .ref c_root, .int v_at, .int v_end, .int v_fault, .int v_digits])), (c_counts, .inl (TY 0, 10, .inl g_counts)), (c_text, .inl (TY 0, 60, .inl g_text)), (c_rows, .inl (TY 1, 320, .inr (.inl g_rows))), (c_rowKind, .inl (TY 0, 8, .inl g_rowKind)), (c_rowSize, .inl (TY 0, 8, .inl g_rowSize)), (c_num, .inl (TY 1, 170, .inr (.inl g_num))), (c_den, .inl (TY 1, 170, .inr (.inl g_den))), (c_work, .inl (TY 1, 170, .inr (.inl g_work))), (c_root, .inl (TY 1, 170, .inr (.inl g_root)))]) (va_Qi post (fun (u : Int32 × (Nat → Int32)) t => BB D TY (va_A [(h0, .inr (6, [.int v_failed, .ref c_counts, .ref c_text, .int v_size, .ref c_rows, .ref c_rowKind, .ref c_rowSize, .int v_neg, .int v_nan, .int v_inf, .long v_m, .int v_n, .ref c_num, .ref c_den, .ref c_work, .ref c_root, .int v_at, .int v_end, .int v_fault, .int v_digits])), (c_counts, .inl (TY 0, 10, .inl g_counts)), (c_text, .inl (TY 0, 60, .inl g_text)), (c_rows, .inl (TY 1, 320, .inr (.inl g_rows))), (c_rowKind, .inl (TY 0, 8, .inl g_rowKind)), (c_rowSize, .inl (TY 0, 8, .inl g_rowSize)), (c_num, .inl (TY 1, 170, .inr (.inl g_num))), (c_den, .inl (TY 1, 170, .inr (.inl g_den))), (c_work, .inl (TY 1, 170, .inr (.inl g_work))), (c_root, .inl (TY 1, 170, .inr (.inl g_root)))] sz) [(h0, .inr (6, [.int u.1, .ref c_counts, .ref c_text, .int v_size, .ref c_rows, .ref c_rowKind, .ref c_rowSize, .int v_neg, .int v_nan, .int v_inf, .long v_m, .int v_n, .ref c_num, .ref c_den, .ref c_work, .ref c_root, .int v_at, .int v_end, .int v_fault, .int v_digits])), (c_counts, .inl (TY 0, 10, .inl u.2)), (c_text, .inl (TY 0, 60, .inl g_text)), (c_rows, .inl (TY 1, 320, .inr (.inl g_rows))), (c_rowKind, .inl (TY 0, 8, .inl g_rowKind)), (c_rowSize, .inl (TY 0, 8, .inl g_rowSize)), (c_num, .inl (TY 1, 170, .inr (.inl g_num))), (c_den, .inl (TY 1, 170, .inr (.inl g_den))), (c_work, .inl (TY 1, 170, .inr (.inl g_work))), (c_root, .inl (TY 1, 170, .inr (.inl g_root)))] t) (va_A [(h0, .inr (6, [.int v_failed, .ref c_counts, .ref c_text, .int v_size, .ref c_rows, .ref c_rowKind, .ref c_rowSize, .int v_neg, .int v_nan, .int v_inf, .long v_m, .int v_n, .ref c_num, .ref c_den, .ref c_work, .ref c_root, .int v_at, .int v_end, .int v_fault, .int v_digits])), (c_counts, .inl (TY 0, 10, .inl g_counts)), (c_text, .inl (TY 0, 60, .inl g_text)), (c_rows, .inl (TY 1, 320, .inr (.inl g_rows))), (c_rowKind, .inl (TY 0, 8, .inl g_rowKind)), (c_rowSize, .inl (TY 0, 8, .inl g_rowSize)), (c_num, .inl (TY 1, 170, .inr (.inl g_num))), (c_den, .inl (TY 1, 170, .inr (.inl g_den))), (c_work, .inl (TY 1, 170, .inr (.inl g_work))), (c_root, .inl (TY 1, 170, .inr (.inl g_root)))] sz)) 0 0 (va_A [(h0, .inr (6, [.int v_failed, .ref c_counts, .ref c_text, .int v_size, .ref c_rows, .ref c_rowKind, .ref c_rowSize, .int v_neg, .int v_nan, .int v_inf, .long v_m, .int v_n, .ref c_num, .ref c_den, .ref c_work, .ref c_root, .int v_at, .int v_end, .int v_fault, .int v_digits])), (c_counts, .inl (TY 0, 10, .inl g_counts)), (c_text, .inl (TY 0, 60, .inl g_text)), (c_rows, .inl (TY 1, 320, .inr (.inl g_rows))), (c_rowKind, .inl (TY 0, 8, .inl g_rowKind)), (c_rowSize, .inl (TY 0, 8, .inl g_rowSize)), (c_num, .inl (TY 1, 170, .inr (.inl g_num))), (c_den, .inl (TY 1, 170, .inr (.inl g_den))), (c_work, .inl (TY 1, 170, .inr (.inl g_work))), (c_root, .inl (TY 1, 170, .inr (.inl g_root)))] sz) := by
  refine ofWF (cc := cX6_told) (maxL := 2) (ret := (Option.some Jvm.ClassFile.FieldType.int)) (plainFor_of_name (by decide)) rfl ?_
  intro p e s m args below meth c s₁ B hml hv
  obtain ⟨rfl, hsz, hP, hK, hD0, hG⟩ := hv
  have hx := B.exec
  have hb := B.bytes
  have hr := B.returns
  have hts0 := atoms_spec (ws := ws_ yX6_told cX6_told 2 (Option.some Jvm.ClassFile.FieldType.int)) B.pre
  have hts : ∀ w ∈ lw_all, w.before _ s = true := fun w h => hts0 w (List.mem_cons_of_mem _ h)
  have hown : s.vm.findClass RX6 = some m.cls := findClass_of_methodNamed B.named
  have hlocks := B.notSynchronized
  subst hsz
  have hD := hD0.self (sz := s.heap.size)
  generalize hAe : va_A [(h0, .inr (6, [.int v_failed, .ref c_counts, .ref c_text, .int v_size, .ref c_rows, .ref c_rowKind, .ref c_rowSize, .int v_neg, .int v_nan, .int v_inf, .long v_m, .int v_n, .ref c_num, .ref c_den, .ref c_work, .ref c_root, .int v_at, .int v_end, .int v_fault, .int v_digits])), (c_counts, .inl (TY 0, 10, .inl g_counts)), (c_text, .inl (TY 0, 60, .inl g_text)), (c_rows, .inl (TY 1, 320, .inr (.inl g_rows))), (c_rowKind, .inl (TY 0, 8, .inl g_rowKind)), (c_rowSize, .inl (TY 0, 8, .inl g_rowSize)), (c_num, .inl (TY 1, 170, .inr (.inl g_num))), (c_den, .inl (TY 1, 170, .inr (.inl g_den))), (c_work, .inl (TY 1, 170, .inr (.inl g_work))), (c_root, .inl (TY 1, 170, .inr (.inl g_root)))] s.heap.size = A at hD hG ⊢
  have hA : ∀ q : Nat, s.heap.size ≤ q → A q := fun q h => by rw [← hAe]; exact Or.inr h
  have hS : va_S A s.heap s.heap [] := va_S.rf
  have hP : va_P D vwCl [(h0, .inr (6, [.int v_failed, .ref c_counts, .ref c_text, .int v_size, .ref c_rows, .ref c_rowKind, .ref c_rowSize, .int v_neg, .int v_nan, .int v_inf, .long v_m, .int v_n, .ref c_num, .ref c_den, .ref c_work, .ref c_root, .int v_at, .int v_end, .int v_fault, .int v_digits])), (c_counts, .inl (TY 0, 10, .inl g_counts)), (c_text, .inl (TY 0, 60, .inl g_text)), (c_rows, .inl (TY 1, 320, .inr (.inl g_rows))), (c_rowKind, .inl (TY 0, 8, .inl g_rowKind)), (c_rowSize, .inl (TY 0, 8, .inl g_rowSize)), (c_num, .inl (TY 1, 170, .inr (.inl g_num))), (c_den, .inl (TY 1, 170, .inr (.inl g_den))), (c_work, .inl (TY 1, 170, .inr (.inl g_work))), (c_root, .inl (TY 1, 170, .inr (.inl g_root)))] s.heap := hP
  have hl := lv_entry ([.ref h0, .int p1]) (n := 2) (Nat.le_of_ble_eq_true rfl)
  rw [lg_entry_eq]
  generalize (lg_sl ([.ref h0, .int p1]) ++ List.replicate (2 - (lg_sl ([.ref h0, .int p1])).length) Slot.unset).toArray = ls at hl ⊢
  have hl : lv_has ls 2 [(0, .ref h0), (1, .int p1)] := hl
  unfold wX6_told at hw
  refine lv_aload_n hx hb dX6_told_0 rfl (lv_at hl 0 rfl) ?_
  have hPc := hP.sub (ws' := [(h0, .inr (6, [.int v_failed, .ref c_counts, .ref c_text, .int v_size, .ref c_rows, .ref c_rowKind, .ref c_rowSize, .int v_neg, .int v_nan, .int v_inf, .long v_m, .int v_n, .ref c_num, .ref c_den, .ref c_work, .ref c_root, .int v_at, .int v_end, .int v_fault, .int v_digits])), (c_counts, .inl (TY 0, 10, .inl g_counts)), (c_text, .inl (TY 0, 60, .inl g_text)), (c_rows, .inl (TY 1, 320, .inr (.inl g_rows))), (c_rowKind, .inl (TY 0, 8, .inl g_rowKind)), (c_rowSize, .inl (TY 0, 8, .inl g_rowSize)), (c_num, .inl (TY 1, 170, .inr (.inl g_num))), (c_den, .inl (TY 1, 170, .inr (.inl g_den))), (c_work, .inl (TY 1, 170, .inr (.inl g_work))), (c_root, .inl (TY 1, 170, .inr (.inl g_root)))]) [0, 1, 2, 3, 4, 5, 6, 7, 8, 9] rfl
  have hDc := hD.sub (ws' := [(h0, .inr (6, [.int v_failed, .ref c_counts, .ref c_text, .int v_size, .ref c_rows, .ref c_rowKind, .ref c_rowSize, .int v_neg, .int v_nan, .int v_inf, .long v_m, .int v_n, .ref c_num, .ref c_den, .ref c_work, .ref c_root, .int v_at, .int v_end, .int v_fault, .int v_digits])), (c_counts, .inl (TY 0, 10, .inl g_counts)), (c_text, .inl (TY 0, 60, .inl g_text)), (c_rows, .inl (TY 1, 320, .inr (.inl g_rows))), (c_rowKind, .inl (TY 0, 8, .inl g_rowKind)), (c_rowSize, .inl (TY 0, 8, .inl g_rowSize)), (c_num, .inl (TY 1, 170, .inr (.inl g_num))), (c_den, .inl (TY 1, 170, .inr (.inl g_den))), (c_work, .inl (TY 1, 170, .inr (.inl g_work))), (c_root, .inl (TY 1, 170, .inr (.inl g_root)))]) [0, 1, 2, 3, 4, 5, 6, 7, 8, 9] (by decide) rfl
  have hFc := va_free (wc := [(h0, .inr (6, [.int v_failed, .ref c_counts, .ref c_text, .int v_size, .ref c_rows, .ref c_rowKind, .ref c_rowSize, .int v_neg, .int v_nan, .int v_inf, .long v_m, .int v_n, .ref c_num, .ref c_den, .ref c_work, .ref c_root, .int v_at, .int v_end, .int v_fault, .int v_digits])), (c_counts, .inl (TY 0, 10, .inl g_counts)), (c_text, .inl (TY 0, 60, .inl g_text)), (c_rows, .inl (TY 1, 320, .inr (.inl g_rows))), (c_rowKind, .inl (TY 0, 8, .inl g_rowKind)), (c_rowSize, .inl (TY 0, 8, .inl g_rowSize)), (c_num, .inl (TY 1, 170, .inr (.inl g_num))), (c_den, .inl (TY 1, 170, .inr (.inl g_den))), (c_work, .inl (TY 1, 170, .inr (.inl g_work))), (c_root, .inl (TY 1, 170, .inr (.inl g_root)))]) hD hS hA [0, 1, 2, 3, 4, 5, 6, 7, 8, 9] rfl
  refine va_callv (va_runV (As := []) (rest := []) ⟨hx, hb, hml, hown, hts⟩ (mX6_begin l D TY s.heap.size h0 c_counts c_text c_rows c_rowKind c_rowSize c_num c_den c_work c_root v_failed v_size v_neg v_nan v_inf v_m v_n v_at v_end v_fault v_digits g_counts g_text g_rows g_rowKind g_rowSize g_num g_den g_work g_root _ hw) (cwV 0 hts (lw_V q1217 q1219 qs16 q50 q1220) rfl rfl rfl ⟨rfl, hd_X6_begin⟩ ⟨Nat.le_of_ble_eq_true rfl, Nat.le_of_ble_eq_true rfl⟩) (PC.V (q0 := 0) (ci := 6) hPc hDc hFc hK hG hS rfl rfl) rfl rfl hl.1 rfl (lv_room (Nat.le_of_ble_eq_true rfl)) dX6_told_1 ⟨Nat.le_of_ble_eq_true rfl, Nat.le_of_ble_eq_true rfl⟩) hS (fun q _ h => hFc q h) hFc (fun u2 t H1 locs ht hvm hw hB hz1 hk1 hS => ?_)
  obtain ⟨hP, hD⟩ := BB.join (wr := []) (w1 := [(h0, .inr (6, [.int u2, .ref c_counts, .ref c_text, .int v_size, .ref c_rows, .ref c_rowKind, .ref c_rowSize, .int v_neg, .int v_nan, .int v_inf, .long v_m, .int v_n, .ref c_num, .ref c_den, .ref c_work, .ref c_root, .int v_at, .int v_end, .int v_fault, .int v_digits])), (c_counts, .inl (TY 0, 10, .inl g_counts)), (c_text, .inl (TY 0, 60, .inl g_text)), (c_rows, .inl (TY 1, 320, .inr (.inl g_rows))), (c_rowKind, .inl (TY 0, 8, .inl g_rowKind)), (c_rowSize, .inl (TY 0, 8, .inl g_rowSize)), (c_num, .inl (TY 1, 170, .inr (.inl g_num))), (c_den, .inl (TY 1, 170, .inr (.inl g_den))), (c_work, .inl (TY 1, 170, .inr (.inl g_work))), (c_root, .inl (TY 1, 170, .inr (.inl g_root)))]) hB ht hP hD [0, 1, 2, 3, 4, 5, 6, 7, 8, 9] [] rfl rfl (by decide) (by decide) hk1 hFc
  generalize H1 = H at hP hS ⊢
  have hP : va_P D vwCl [(h0, .inr (6, [.int u2, .ref c_counts, .ref c_text, .int v_size, .ref c_rows, .ref c_rowKind, .ref c_rowSize, .int v_neg, .int v_nan, .int v_inf, .long v_m, .int v_n, .ref c_num, .ref c_den, .ref c_work, .ref c_root, .int v_at, .int v_end, .int v_fault, .int v_digits])), (c_counts, .inl (TY 0, 10, .inl g_counts)), (c_text, .inl (TY 0, 60, .inl g_text)), (c_rows, .inl (TY 1, 320, .inr (.inl g_rows))), (c_rowKind, .inl (TY 0, 8, .inl g_rowKind)), (c_rowSize, .inl (TY 0, 8, .inl g_rowSize)), (c_num, .inl (TY 1, 170, .inr (.inl g_num))), (c_den, .inl (TY 1, 170, .inr (.inl g_den))), (c_work, .inl (TY 1, 170, .inr (.inl g_work))), (c_root, .inl (TY 1, 170, .inr (.inl g_root)))] H := hP
  have hD : va_D A [(h0, .inr (6, [.int u2, .ref c_counts, .ref c_text, .int v_size, .ref c_rows, .ref c_rowKind, .ref c_rowSize, .int v_neg, .int v_nan, .int v_inf, .long v_m, .int v_n, .ref c_num, .ref c_den, .ref c_work, .ref c_root, .int v_at, .int v_end, .int v_fault, .int v_digits])), (c_counts, .inl (TY 0, 10, .inl g_counts)), (c_text, .inl (TY 0, 60, .inl g_text)), (c_rows, .inl (TY 1, 320, .inr (.inl g_rows))), (c_rowKind, .inl (TY 0, 8, .inl g_rowKind)), (c_rowSize, .inl (TY 0, 8, .inl g_rowSize)), (c_num, .inl (TY 1, 170, .inr (.inl g_num))), (c_den, .inl (TY 1, 170, .inr (.inl g_den))), (c_work, .inl (TY 1, 170, .inr (.inl g_work))), (c_root, .inl (TY 1, 170, .inr (.inl g_root)))] := hD
  refine lv_iload_n hx hb dX6_told_4 rfl (lv_at hl 1 rfl) ?_
  refine lv_iconst (v := 1) hx hb dX6_told_5 (by decide) ?_
  refine lv_icmp_lt (tgt := 15) hx hb dX6_told_6 (by decide) (fun c3 => ?_) (fun c3 => ?_)
  · replace hw := hw.1 c3
    refine lv_aload_n hx hb dX6_told_15 rfl (lv_at hl 0 rfl) ?_
    refine lv_bipush (v := 9) hx hb dX6_told_16 (by decide) ?_
    have hPc := hP.sub (ws' := [(h0, .inr (6, [.int u2, .ref c_counts, .ref c_text, .int v_size, .ref c_rows, .ref c_rowKind, .ref c_rowSize, .int v_neg, .int v_nan, .int v_inf, .long v_m, .int v_n, .ref c_num, .ref c_den, .ref c_work, .ref c_root, .int v_at, .int v_end, .int v_fault, .int v_digits])), (c_counts, .inl (TY 0, 10, .inl g_counts)), (c_text, .inl (TY 0, 60, .inl g_text)), (c_rows, .inl (TY 1, 320, .inr (.inl g_rows))), (c_rowKind, .inl (TY 0, 8, .inl g_rowKind)), (c_rowSize, .inl (TY 0, 8, .inl g_rowSize)), (c_num, .inl (TY 1, 170, .inr (.inl g_num))), (c_den, .inl (TY 1, 170, .inr (.inl g_den))), (c_work, .inl (TY 1, 170, .inr (.inl g_work))), (c_root, .inl (TY 1, 170, .inr (.inl g_root)))]) [0, 1, 2, 3, 4, 5, 6, 7, 8, 9] rfl
    have hDc := hD.sub (ws' := [(h0, .inr (6, [.int u2, .ref c_counts, .ref c_text, .int v_size, .ref c_rows, .ref c_rowKind, .ref c_rowSize, .int v_neg, .int v_nan, .int v_inf, .long v_m, .int v_n, .ref c_num, .ref c_den, .ref c_work, .ref c_root, .int v_at, .int v_end, .int v_fault, .int v_digits])), (c_counts, .inl (TY 0, 10, .inl g_counts)), (c_text, .inl (TY 0, 60, .inl g_text)), (c_rows, .inl (TY 1, 320, .inr (.inl g_rows))), (c_rowKind, .inl (TY 0, 8, .inl g_rowKind)), (c_rowSize, .inl (TY 0, 8, .inl g_rowSize)), (c_num, .inl (TY 1, 170, .inr (.inl g_num))), (c_den, .inl (TY 1, 170, .inr (.inl g_den))), (c_work, .inl (TY 1, 170, .inr (.inl g_work))), (c_root, .inl (TY 1, 170, .inr (.inl g_root)))]) [0, 1, 2, 3, 4, 5, 6, 7, 8, 9] (by decide) rfl
    have hFc := va_free (wc := [(h0, .inr (6, [.int u2, .ref c_counts, .ref c_text, .int v_size, .ref c_rows, .ref c_rowKind, .ref c_rowSize, .int v_neg, .int v_nan, .int v_inf, .long v_m, .int v_n, .ref c_num, .ref c_den, .ref c_work, .ref c_root, .int v_at, .int v_end, .int v_fault, .int v_digits])), (c_counts, .inl (TY 0, 10, .inl g_counts)), (c_text, .inl (TY 0, 60, .inl g_text)), (c_rows, .inl (TY 1, 320, .inr (.inl g_rows))), (c_rowKind, .inl (TY 0, 8, .inl g_rowKind)), (c_rowSize, .inl (TY 0, 8, .inl g_rowSize)), (c_num, .inl (TY 1, 170, .inr (.inl g_num))), (c_den, .inl (TY 1, 170, .inr (.inl g_den))), (c_work, .inl (TY 1, 170, .inr (.inl g_work))), (c_root, .inl (TY 1, 170, .inr (.inl g_root)))]) hD hS hA [0, 1, 2, 3, 4, 5, 6, 7, 8, 9] rfl
    refine va_calll (va_runV (As := [.int 9]) (rest := []) ⟨hx, hb, hml, hown, hts⟩ (mX6_fail l D TY H.size h0 c_counts c_text c_rows c_rowKind c_rowSize c_num c_den c_work c_root u2 v_size v_neg v_nan v_inf v_m v_n v_at v_end v_fault v_digits g_counts g_text g_rows g_rowKind g_rowSize g_num g_den g_work g_root 9 _ hw) (cwV 1 hts (lw_V q1221 q1223 qs17 q50 q1224) rfl rfl rfl ⟨rfl, hd_X6_fail⟩ ⟨Nat.le_of_ble_eq_true rfl, Nat.le_of_ble_eq_true rfl⟩) (PC.V (q0 := 0) (ci := 6) hPc hDc hFc hK hG hS rfl rfl) rfl rfl hl.1 rfl (lv_room (Nat.le_of_ble_eq_true rfl)) dX6_told_18 ⟨Nat.le_of_ble_eq_true rfl, Nat.le_of_ble_eq_true rfl⟩) hS (fun q _ h => hFc q h) hFc (fun r4 u5 t H1 locs ht hvm hw hB hz1 hk1 hS => ?_)
    obtain ⟨hP, hD⟩ := BB.join (wr := []) (w1 := [(h0, .inr (6, [.int u5.1, .ref c_counts, .ref c_text, .int v_size, .ref c_rows, .ref c_rowKind, .ref c_rowSize, .int v_neg, .int v_nan, .int v_inf, .long v_m, .int v_n, .ref c_num, .ref c_den, .ref c_work, .ref c_root, .int v_at, .int v_end, .int v_fault, .int v_digits])), (c_counts, .inl (TY 0, 10, .inl u5.2)), (c_text, .inl (TY 0, 60, .inl g_text)), (c_rows, .inl (TY 1, 320, .inr (.inl g_rows))), (c_rowKind, .inl (TY 0, 8, .inl g_rowKind)), (c_rowSize, .inl (TY 0, 8, .inl g_rowSize)), (c_num, .inl (TY 1, 170, .inr (.inl g_num))), (c_den, .inl (TY 1, 170, .inr (.inl g_den))), (c_work, .inl (TY 1, 170, .inr (.inl g_work))), (c_root, .inl (TY 1, 170, .inr (.inl g_root)))]) hB ht hP hD [0, 1, 2, 3, 4, 5, 6, 7, 8, 9] [] rfl rfl (by decide) (by decide) hk1 hFc
    generalize H1 = H at hP hS ⊢
    have hP : va_P D vwCl [(h0, .inr (6, [.int u5.1, .ref c_counts, .ref c_text, .int v_size, .ref c_rows, .ref c_rowKind, .ref c_rowSize, .int v_neg, .int v_nan, .int v_inf, .long v_m, .int v_n, .ref c_num, .ref c_den, .ref c_work, .ref c_root, .int v_at, .int v_end, .int v_fault, .int v_digits])), (c_counts, .inl (TY 0, 10, .inl u5.2)), (c_text, .inl (TY 0, 60, .inl g_text)), (c_rows, .inl (TY 1, 320, .inr (.inl g_rows))), (c_rowKind, .inl (TY 0, 8, .inl g_rowKind)), (c_rowSize, .inl (TY 0, 8, .inl g_rowSize)), (c_num, .inl (TY 1, 170, .inr (.inl g_num))), (c_den, .inl (TY 1, 170, .inr (.inl g_den))), (c_work, .inl (TY 1, 170, .inr (.inl g_work))), (c_root, .inl (TY 1, 170, .inr (.inl g_root)))] H := hP
    have hD : va_D A [(h0, .inr (6, [.int u5.1, .ref c_counts, .ref c_text, .int v_size, .ref c_rows, .ref c_rowKind, .ref c_rowSize, .int v_neg, .int v_nan, .int v_inf, .long v_m, .int v_n, .ref c_num, .ref c_den, .ref c_work, .ref c_root, .int v_at, .int v_end, .int v_fault, .int v_digits])), (c_counts, .inl (TY 0, 10, .inl u5.2)), (c_text, .inl (TY 0, 60, .inl g_text)), (c_rows, .inl (TY 1, 320, .inr (.inl g_rows))), (c_rowKind, .inl (TY 0, 8, .inl g_rowKind)), (c_rowSize, .inl (TY 0, 8, .inl g_rowSize)), (c_num, .inl (TY 1, 170, .inr (.inl g_num))), (c_den, .inl (TY 1, 170, .inr (.inl g_den))), (c_work, .inl (TY 1, 170, .inr (.inl g_work))), (c_root, .inl (TY 1, 170, .inr (.inl g_root)))] := hD
    refine lv_l2i (v := r4.toInt32) hx hb dX6_told_21 rfl ?_
    refine lv_goto (tgt := 31) hx hb dX6_told_22 (by decide) ?_
    have hP9 := hP.sub (ws' := [(h0, .inr (6, [.int u5.1, .ref c_counts, .ref c_text, .int v_size, .ref c_rows, .ref c_rowKind, .ref c_rowSize, .int v_neg, .int v_nan, .int v_inf, .long v_m, .int v_n, .ref c_num, .ref c_den, .ref c_work, .ref c_root, .int v_at, .int v_end, .int v_fault, .int v_digits])), (c_counts, .inl (TY 0, 10, .inl u5.2)), (c_text, .inl (TY 0, 60, .inl g_text)), (c_rows, .inl (TY 1, 320, .inr (.inl g_rows))), (c_rowKind, .inl (TY 0, 8, .inl g_rowKind)), (c_rowSize, .inl (TY 0, 8, .inl g_rowSize)), (c_num, .inl (TY 1, 170, .inr (.inl g_num))), (c_den, .inl (TY 1, 170, .inr (.inl g_den))), (c_work, .inl (TY 1, 170, .inr (.inl g_work))), (c_root, .inl (TY 1, 170, .inr (.inl g_root)))]) [0, 1, 2, 3, 4, 5, 6, 7, 8, 9] rfl
    have hD9 := hD.sub (ws' := [(h0, .inr (6, [.int u5.1, .ref c_counts, .ref c_text, .int v_size, .ref c_rows, .ref c_rowKind, .ref c_rowSize, .int v_neg, .int v_nan, .int v_inf, .long v_m, .int v_n, .ref c_num, .ref c_den, .ref c_work, .ref c_root, .int v_at, .int v_end, .int v_fault, .int v_digits])), (c_counts, .inl (TY 0, 10, .inl u5.2)), (c_text, .inl (TY 0, 60, .inl g_text)), (c_rows, .inl (TY 1, 320, .inr (.inl g_rows))), (c_rowKind, .inl (TY 0, 8, .inl g_rowKind)), (c_rowSize, .inl (TY 0, 8, .inl g_rowSize)), (c_num, .inl (TY 1, 170, .inr (.inl g_num))), (c_den, .inl (TY 1, 170, .inr (.inl g_den))), (c_work, .inl (TY 1, 170, .inr (.inl g_work))), (c_root, .inl (TY 1, 170, .inr (.inl g_root)))]) [0, 1, 2, 3, 4, 5, 6, 7, 8, 9] (by decide) rfl
    exact W.iret (v := r4.toInt32) hx hb hr (fun t ht hW => ⟨⟨r4.toInt32, (u5.1, u5.2), rfl, hw, BB.mk hP9 hD9 hK ht hW⟩, hS.F ht⟩) hS.2.2 dX6_told_31
  · replace hw := hw.2 c3
    refine lv_iload_n hx hb dX6_told_9 rfl (lv_at hl 1 rfl) ?_
    refine lv_bipush (v := 9) hx hb dX6_told_10 (by decide) ?_
    refine lv_icmp_le (tgt := 25) hx hb dX6_told_12 (by decide) (fun c6 => ?_) (fun c6 => ?_)
    · replace hw := hw.1 c6
      refine lv_aload_n hx hb dX6_told_25 rfl (lv_at hl 0 rfl) ?_
      refine va_get (D := D) (ci := 6) (v := .ref c_counts) (C := RX6) (T := TX6) (N := 20) hx hb hts in_X6 hown hK hP 0 rfl rfl 1 (by decide) (hts _ q1148) (fun _ h9 => h9) rfl dX6_told_26 ?_
      refine lv_iload_n hx hb dX6_told_29 rfl (lv_at hl 1 rfl) ?_
      refine va_iald hx hb hK hP 1 0 rfl rfl hw.1 dX6_told_30 ?_
      replace hw := hw.2
      have hP9 := hP.sub (ws' := [(h0, .inr (6, [.int u2, .ref c_counts, .ref c_text, .int v_size, .ref c_rows, .ref c_rowKind, .ref c_rowSize, .int v_neg, .int v_nan, .int v_inf, .long v_m, .int v_n, .ref c_num, .ref c_den, .ref c_work, .ref c_root, .int v_at, .int v_end, .int v_fault, .int v_digits])), (c_counts, .inl (TY 0, 10, .inl g_counts)), (c_text, .inl (TY 0, 60, .inl g_text)), (c_rows, .inl (TY 1, 320, .inr (.inl g_rows))), (c_rowKind, .inl (TY 0, 8, .inl g_rowKind)), (c_rowSize, .inl (TY 0, 8, .inl g_rowSize)), (c_num, .inl (TY 1, 170, .inr (.inl g_num))), (c_den, .inl (TY 1, 170, .inr (.inl g_den))), (c_work, .inl (TY 1, 170, .inr (.inl g_work))), (c_root, .inl (TY 1, 170, .inr (.inl g_root)))]) [0, 1, 2, 3, 4, 5, 6, 7, 8, 9] rfl
      have hD9 := hD.sub (ws' := [(h0, .inr (6, [.int u2, .ref c_counts, .ref c_text, .int v_size, .ref c_rows, .ref c_rowKind, .ref c_rowSize, .int v_neg, .int v_nan, .int v_inf, .long v_m, .int v_n, .ref c_num, .ref c_den, .ref c_work, .ref c_root, .int v_at, .int v_end, .int v_fault, .int v_digits])), (c_counts, .inl (TY 0, 10, .inl g_counts)), (c_text, .inl (TY 0, 60, .inl g_text)), (c_rows, .inl (TY 1, 320, .inr (.inl g_rows))), (c_rowKind, .inl (TY 0, 8, .inl g_rowKind)), (c_rowSize, .inl (TY 0, 8, .inl g_rowSize)), (c_num, .inl (TY 1, 170, .inr (.inl g_num))), (c_den, .inl (TY 1, 170, .inr (.inl g_den))), (c_work, .inl (TY 1, 170, .inr (.inl g_work))), (c_root, .inl (TY 1, 170, .inr (.inl g_root)))]) [0, 1, 2, 3, 4, 5, 6, 7, 8, 9] (by decide) rfl
      exact W.iret (v := g_counts p1.toNatClampNeg) hx hb hr (fun t ht hW => ⟨⟨g_counts p1.toNatClampNeg, (u2, g_counts), rfl, hw, BB.mk hP9 hD9 hK ht hW⟩, hS.F ht⟩) hS.2.2 dX6_told_31
    · replace hw := hw.2 c6
      refine lv_aload_n hx hb dX6_told_15 rfl (lv_at hl 0 rfl) ?_
      refine lv_bipush (v := 9) hx hb dX6_told_16 (by decide) ?_
      have hPc := hP.sub (ws' := [(h0, .inr (6, [.int u2, .ref c_counts, .ref c_text, .int v_size, .ref c_rows, .ref c_rowKind, .ref c_rowSize, .int v_neg, .int v_nan, .int v_inf, .long v_m, .int v_n, .ref c_num, .ref c_den, .ref c_work, .ref c_root, .int v_at, .int v_end, .int v_fault, .int v_digits])), (c_counts, .inl (TY 0, 10, .inl g_counts)), (c_text, .inl (TY 0, 60, .inl g_text)), (c_rows, .inl (TY 1, 320, .inr (.inl g_rows))), (c_rowKind, .inl (TY 0, 8, .inl g_rowKind)), (c_rowSize, .inl (TY 0, 8, .inl g_rowSize)), (c_num, .inl (TY 1, 170, .inr (.inl g_num))), (c_den, .inl (TY 1, 170, .inr (.inl g_den))), (c_work, .inl (TY 1, 170, .inr (.inl g_work))), (c_root, .inl (TY 1, 170, .inr (.inl g_root)))]) [0, 1, 2, 3, 4, 5, 6, 7, 8, 9] rfl
      have hDc := hD.sub (ws' := [(h0, .inr (6, [.int u2, .ref c_counts, .ref c_text, .int v_size, .ref c_rows, .ref c_rowKind, .ref c_rowSize, .int v_neg, .int v_nan, .int v_inf, .long v_m, .int v_n, .ref c_num, .ref c_den, .ref c_work, .ref c_root, .int v_at, .int v_end, .int v_fault, .int v_digits])), (c_counts, .inl (TY 0, 10, .inl g_counts)), (c_text, .inl (TY 0, 60, .inl g_text)), (c_rows, .inl (TY 1, 320, .inr (.inl g_rows))), (c_rowKind, .inl (TY 0, 8, .inl g_rowKind)), (c_rowSize, .inl (TY 0, 8, .inl g_rowSize)), (c_num, .inl (TY 1, 170, .inr (.inl g_num))), (c_den, .inl (TY 1, 170, .inr (.inl g_den))), (c_work, .inl (TY 1, 170, .inr (.inl g_work))), (c_root, .inl (TY 1, 170, .inr (.inl g_root)))]) [0, 1, 2, 3, 4, 5, 6, 7, 8, 9] (by decide) rfl
      have hFc := va_free (wc := [(h0, .inr (6, [.int u2, .ref c_counts, .ref c_text, .int v_size, .ref c_rows, .ref c_rowKind, .ref c_rowSize, .int v_neg, .int v_nan, .int v_inf, .long v_m, .int v_n, .ref c_num, .ref c_den, .ref c_work, .ref c_root, .int v_at, .int v_end, .int v_fault, .int v_digits])), (c_counts, .inl (TY 0, 10, .inl g_counts)), (c_text, .inl (TY 0, 60, .inl g_text)), (c_rows, .inl (TY 1, 320, .inr (.inl g_rows))), (c_rowKind, .inl (TY 0, 8, .inl g_rowKind)), (c_rowSize, .inl (TY 0, 8, .inl g_rowSize)), (c_num, .inl (TY 1, 170, .inr (.inl g_num))), (c_den, .inl (TY 1, 170, .inr (.inl g_den))), (c_work, .inl (TY 1, 170, .inr (.inl g_work))), (c_root, .inl (TY 1, 170, .inr (.inl g_root)))]) hD hS hA [0, 1, 2, 3, 4, 5, 6, 7, 8, 9] rfl
      refine va_calll (va_runV (As := [.int 9]) (rest := []) ⟨hx, hb, hml, hown, hts⟩ (mX6_fail l D TY H.size h0 c_counts c_text c_rows c_rowKind c_rowSize c_num c_den c_work c_root u2 v_size v_neg v_nan v_inf v_m v_n v_at v_end v_fault v_digits g_counts g_text g_rows g_rowKind g_rowSize g_num g_den g_work g_root 9 _ hw) (cwV 1 hts (lw_V q1221 q1223 qs17 q50 q1224) rfl rfl rfl ⟨rfl, hd_X6_fail⟩ ⟨Nat.le_of_ble_eq_true rfl, Nat.le_of_ble_eq_true rfl⟩) (PC.V (q0 := 0) (ci := 6) hPc hDc hFc hK hG hS rfl rfl) rfl rfl hl.1 rfl (lv_room (Nat.le_of_ble_eq_true rfl)) dX6_told_18 ⟨Nat.le_of_ble_eq_true rfl, Nat.le_of_ble_eq_true rfl⟩) hS (fun q _ h => hFc q h) hFc (fun r7 u8 t H1 locs ht hvm hw hB hz1 hk1 hS => ?_)
      obtain ⟨hP, hD⟩ := BB.join (wr := []) (w1 := [(h0, .inr (6, [.int u8.1, .ref c_counts, .ref c_text, .int v_size, .ref c_rows, .ref c_rowKind, .ref c_rowSize, .int v_neg, .int v_nan, .int v_inf, .long v_m, .int v_n, .ref c_num, .ref c_den, .ref c_work, .ref c_root, .int v_at, .int v_end, .int v_fault, .int v_digits])), (c_counts, .inl (TY 0, 10, .inl u8.2)), (c_text, .inl (TY 0, 60, .inl g_text)), (c_rows, .inl (TY 1, 320, .inr (.inl g_rows))), (c_rowKind, .inl (TY 0, 8, .inl g_rowKind)), (c_rowSize, .inl (TY 0, 8, .inl g_rowSize)), (c_num, .inl (TY 1, 170, .inr (.inl g_num))), (c_den, .inl (TY 1, 170, .inr (.inl g_den))), (c_work, .inl (TY 1, 170, .inr (.inl g_work))), (c_root, .inl (TY 1, 170, .inr (.inl g_root)))]) hB ht hP hD [0, 1, 2, 3, 4, 5, 6, 7, 8, 9] [] rfl rfl (by decide) (by decide) hk1 hFc
      generalize H1 = H at hP hS ⊢
      have hP : va_P D vwCl [(h0, .inr (6, [.int u8.1, .ref c_counts, .ref c_text, .int v_size, .ref c_rows, .ref c_rowKind, .ref c_rowSize, .int v_neg, .int v_nan, .int v_inf, .long v_m, .int v_n, .ref c_num, .ref c_den, .ref c_work, .ref c_root, .int v_at, .int v_end, .int v_fault, .int v_digits])), (c_counts, .inl (TY 0, 10, .inl u8.2)), (c_text, .inl (TY 0, 60, .inl g_text)), (c_rows, .inl (TY 1, 320, .inr (.inl g_rows))), (c_rowKind, .inl (TY 0, 8, .inl g_rowKind)), (c_rowSize, .inl (TY 0, 8, .inl g_rowSize)), (c_num, .inl (TY 1, 170, .inr (.inl g_num))), (c_den, .inl (TY 1, 170, .inr (.inl g_den))), (c_work, .inl (TY 1, 170, .inr (.inl g_work))), (c_root, .inl (TY 1, 170, .inr (.inl g_root)))] H := hP
      have hD : va_D A [(h0, .inr (6, [.int u8.1, .ref c_counts, .ref c_text, .int v_size, .ref c_rows, .ref c_rowKind, .ref c_rowSize, .int v_neg, .int v_nan, .int v_inf, .long v_m, .int v_n, .ref c_num, .ref c_den, .ref c_work, .ref c_root, .int v_at, .int v_end, .int v_fault, .int v_digits])), (c_counts, .inl (TY 0, 10, .inl u8.2)), (c_text, .inl (TY 0, 60, .inl g_text)), (c_rows, .inl (TY 1, 320, .inr (.inl g_rows))), (c_rowKind, .inl (TY 0, 8, .inl g_rowKind)), (c_rowSize, .inl (TY 0, 8, .inl g_rowSize)), (c_num, .inl (TY 1, 170, .inr (.inl g_num))), (c_den, .inl (TY 1, 170, .inr (.inl g_den))), (c_work, .inl (TY 1, 170, .inr (.inl g_work))), (c_root, .inl (TY 1, 170, .inr (.inl g_root)))] := hD
      refine lv_l2i (v := r7.toInt32) hx hb dX6_told_21 rfl ?_
      refine lv_goto (tgt := 31) hx hb dX6_told_22 (by decide) ?_
      have hP9 := hP.sub (ws' := [(h0, .inr (6, [.int u8.1, .ref c_counts, .ref c_text, .int v_size, .ref c_rows, .ref c_rowKind, .ref c_rowSize, .int v_neg, .int v_nan, .int v_inf, .long v_m, .int v_n, .ref c_num, .ref c_den, .ref c_work, .ref c_root, .int v_at, .int v_end, .int v_fault, .int v_digits])), (c_counts, .inl (TY 0, 10, .inl u8.2)), (c_text, .inl (TY 0, 60, .inl g_text)), (c_rows, .inl (TY 1, 320, .inr (.inl g_rows))), (c_rowKind, .inl (TY 0, 8, .inl g_rowKind)), (c_rowSize, .inl (TY 0, 8, .inl g_rowSize)), (c_num, .inl (TY 1, 170, .inr (.inl g_num))), (c_den, .inl (TY 1, 170, .inr (.inl g_den))), (c_work, .inl (TY 1, 170, .inr (.inl g_work))), (c_root, .inl (TY 1, 170, .inr (.inl g_root)))]) [0, 1, 2, 3, 4, 5, 6, 7, 8, 9] rfl
      have hD9 := hD.sub (ws' := [(h0, .inr (6, [.int u8.1, .ref c_counts, .ref c_text, .int v_size, .ref c_rows, .ref c_rowKind, .ref c_rowSize, .int v_neg, .int v_nan, .int v_inf, .long v_m, .int v_n, .ref c_num, .ref c_den, .ref c_work, .ref c_root, .int v_at, .int v_end, .int v_fault, .int v_digits])), (c_counts, .inl (TY 0, 10, .inl u8.2)), (c_text, .inl (TY 0, 60, .inl g_text)), (c_rows, .inl (TY 1, 320, .inr (.inl g_rows))), (c_rowKind, .inl (TY 0, 8, .inl g_rowKind)), (c_rowSize, .inl (TY 0, 8, .inl g_rowSize)), (c_num, .inl (TY 1, 170, .inr (.inl g_num))), (c_den, .inl (TY 1, 170, .inr (.inl g_den))), (c_work, .inl (TY 1, 170, .inr (.inl g_work))), (c_root, .inl (TY 1, 170, .inr (.inl g_root)))]) [0, 1, 2, 3, 4, 5, 6, 7, 8, 9] (by decide) rfl
      exact W.iret (v := r7.toInt32) hx hb hr (fun t ht hW => ⟨⟨r7.toInt32, (u8.1, u8.2), rfl, hw, BB.mk hP9 hD9 hK ht hW⟩, hS.F ht⟩) hS.2.2 dX6_told_31

theorem hd_X6_bitsOf : yX6_bitsOf.cls ≠ "java/lang/invoke/MethodHandle" ∧ yX6_bitsOf.cls ≠ "java/lang/invoke/VarHandle" ∧ (parseMethodDescriptor yX6_bitsOf.desc).map (fun d => d.parameters.length) = some 1 := by decide +kernel
theorem hd_X6_least : yX6_least.cls ≠ "java/lang/invoke/MethodHandle" ∧ yX6_least.cls ≠ "java/lang/invoke/VarHandle" ∧ (parseMethodDescriptor yX6_least.desc).map (fun d => d.parameters.length) = some 1 := by decide +kernel
def wX6_take (p1 : Int32) (p2 : Int64) (post : (Int32 × Int32 × Int32 × Int64 × Int32) → Prop) : Prop := ∀ x1 : Int32, x1 = (fX6_bitsOf p1) - 1 → (∀ x2 : Int32, x2 = (if p1 = 0 then 8 else 11) → (∀ x4 : Int64, x4 = (if p1 = 0 then (p2 &&& 4294967295) else p2) → (∀ x6 : Int32, x6 = (if ((jushr x4 (x1 + x2)) &&& 1) = 1 then 1 else 0) → ∀ x8 : Int32, x8 = ((jushr x4 x1).toInt32) &&& ((kshl 1 x2) - 1) → ∀ x9 : Int64, x9 = x4 &&& ((jshl 1 x1) - 1) → (∀ x10 : Int32, x10 = (if x8 = ((kshl 1 x2) - 1) then (if x9 = 0 then 0 else 1) else 0) → (∀ x13 : Int32, x13 = (if x8 = ((kshl 1 x2) - 1) then (if x9 = 0 then 1 else 0) else 0) → (∀ x16 : Int64, x16 = (if x8 = 0 then x9 else (x9 ||| (jshl 1 x1))) → (∀ x18 : Int32, x18 = (if x8 = 0 then 0 else (x8 - 1)) → ∀ x20 : Int32, x20 = x18 + (fX6_least p1) → (∀ x21 : Int32, x21 = (if x10 = 0 then 1 else 0) → ∀ x23 : Int32, x23 = x6 &&& x21 → (Zb x23) ∧ (post (x23, x10, x13, x16, x20))))))))))
set_option maxHeartbeats 4000000 in
set_option maxRecDepth 100000 in
theorem mX6_take (l : Launch) (D : va_G) (TY : Nat → ClassId) (sz : Nat) (h0 : Nat) (c_counts : Nat) (c_text : Nat) (c_rows : Nat) (c_rowKind : Nat) (c_rowSize : Nat) (c_num : Nat) (c_den : Nat) (c_work : Nat) (c_root : Nat) (v_failed : Int32) (v_size : Int32) (v_neg : Int32) (v_nan : Int32) (v_inf : Int32) (v_m : Int64) (v_n : Int32) (v_at : Int32) (v_end : Int32) (v_fault : Int32) (v_digits : Int32) (g_counts : Nat → Int32) (g_text : Nat → Int32) (g_rows : Nat → Int64) (g_rowKind : Nat → Int32) (g_rowSize : Nat → Int32) (g_num : Nat → Int64) (g_den : Nat → Int64) (g_work : Nat → Int64) (g_root : Nat → Int64) (p1 : Int32) (p2 : Int64) (post : (Int32 × Int32 × Int32 × Int64 × Int32) → Prop) (hw : wX6_take p1 p2 post) : Met l yX6_take (ws_ yX6_take cX6_take 11 (Option.none : Option Jvm.ClassFile.FieldType)) ({ frames := 1, cells := 0, slots := 0, locals := 20 }) (PC D TY [.ref h0, .int p1, .long p2] sz [(h0, .inr (6, [.int v_failed, .ref c_counts, .ref c_text, .int v_size, .ref c_rows, .ref c_rowKind, .ref c_rowSize, .int v_neg, .int v_nan, .int v_inf, .long v_m, .int v_n, .ref c_num, .ref c_den, .ref c_work, .ref c_root, .int v_at, .int v_end, .int v_fault, .int v_digits])), (c_counts, .inl (TY 0, 10, .inl g_counts)), (c_text, .inl (TY 0, 60, .inl g_text)), (c_rows, .inl (TY 1, 320, .inr (.inl g_rows))), (c_rowKind, .inl (TY 0, 8, .inl g_rowKind)), (c_rowSize, .inl (TY 0, 8, .inl g_rowSize)), (c_num, .inl (TY 1, 170, .inr (.inl g_num))), (c_den, .inl (TY 1, 170, .inr (.inl g_den))), (c_work, .inl (TY 1, 170, .inr (.inl g_work))), (c_root, .inl (TY 1, 170, .inr (.inl g_root)))]) (va_Qv post (fun (u : Int32 × Int32 × Int32 × Int64 × Int32) t => BB D TY (va_A [(h0, .inr (6, [.int v_failed, .ref c_counts, .ref c_text, .int v_size, .ref c_rows, .ref c_rowKind, .ref c_rowSize, .int v_neg, .int v_nan, .int v_inf, .long v_m, .int v_n, .ref c_num, .ref c_den, .ref c_work, .ref c_root, .int v_at, .int v_end, .int v_fault, .int v_digits])), (c_counts, .inl (TY 0, 10, .inl g_counts)), (c_text, .inl (TY 0, 60, .inl g_text)), (c_rows, .inl (TY 1, 320, .inr (.inl g_rows))), (c_rowKind, .inl (TY 0, 8, .inl g_rowKind)), (c_rowSize, .inl (TY 0, 8, .inl g_rowSize)), (c_num, .inl (TY 1, 170, .inr (.inl g_num))), (c_den, .inl (TY 1, 170, .inr (.inl g_den))), (c_work, .inl (TY 1, 170, .inr (.inl g_work))), (c_root, .inl (TY 1, 170, .inr (.inl g_root)))] sz) [(h0, .inr (6, [.int v_failed, .ref c_counts, .ref c_text, .int v_size, .ref c_rows, .ref c_rowKind, .ref c_rowSize, .int u.1, .int u.2.1, .int u.2.2.1, .long u.2.2.2.1, .int u.2.2.2.2, .ref c_num, .ref c_den, .ref c_work, .ref c_root, .int v_at, .int v_end, .int v_fault, .int v_digits])), (c_counts, .inl (TY 0, 10, .inl g_counts)), (c_text, .inl (TY 0, 60, .inl g_text)), (c_rows, .inl (TY 1, 320, .inr (.inl g_rows))), (c_rowKind, .inl (TY 0, 8, .inl g_rowKind)), (c_rowSize, .inl (TY 0, 8, .inl g_rowSize)), (c_num, .inl (TY 1, 170, .inr (.inl g_num))), (c_den, .inl (TY 1, 170, .inr (.inl g_den))), (c_work, .inl (TY 1, 170, .inr (.inl g_work))), (c_root, .inl (TY 1, 170, .inr (.inl g_root)))] t) (va_A [(h0, .inr (6, [.int v_failed, .ref c_counts, .ref c_text, .int v_size, .ref c_rows, .ref c_rowKind, .ref c_rowSize, .int v_neg, .int v_nan, .int v_inf, .long v_m, .int v_n, .ref c_num, .ref c_den, .ref c_work, .ref c_root, .int v_at, .int v_end, .int v_fault, .int v_digits])), (c_counts, .inl (TY 0, 10, .inl g_counts)), (c_text, .inl (TY 0, 60, .inl g_text)), (c_rows, .inl (TY 1, 320, .inr (.inl g_rows))), (c_rowKind, .inl (TY 0, 8, .inl g_rowKind)), (c_rowSize, .inl (TY 0, 8, .inl g_rowSize)), (c_num, .inl (TY 1, 170, .inr (.inl g_num))), (c_den, .inl (TY 1, 170, .inr (.inl g_den))), (c_work, .inl (TY 1, 170, .inr (.inl g_work))), (c_root, .inl (TY 1, 170, .inr (.inl g_root)))] sz)) 0 0 (va_A [(h0, .inr (6, [.int v_failed, .ref c_counts, .ref c_text, .int v_size, .ref c_rows, .ref c_rowKind, .ref c_rowSize, .int v_neg, .int v_nan, .int v_inf, .long v_m, .int v_n, .ref c_num, .ref c_den, .ref c_work, .ref c_root, .int v_at, .int v_end, .int v_fault, .int v_digits])), (c_counts, .inl (TY 0, 10, .inl g_counts)), (c_text, .inl (TY 0, 60, .inl g_text)), (c_rows, .inl (TY 1, 320, .inr (.inl g_rows))), (c_rowKind, .inl (TY 0, 8, .inl g_rowKind)), (c_rowSize, .inl (TY 0, 8, .inl g_rowSize)), (c_num, .inl (TY 1, 170, .inr (.inl g_num))), (c_den, .inl (TY 1, 170, .inr (.inl g_den))), (c_work, .inl (TY 1, 170, .inr (.inl g_work))), (c_root, .inl (TY 1, 170, .inr (.inl g_root)))] sz) := by
  refine ofWF (cc := cX6_take) (maxL := 11) (ret := (Option.none : Option Jvm.ClassFile.FieldType)) (plainFor_of_name (by decide)) rfl ?_
  intro p e s m args below meth c s₁ B hml hv
  obtain ⟨rfl, hsz, hP, hK, hD0, hG⟩ := hv
  have hx := B.exec
  have hb := B.bytes
  have hr := B.returns
  have hts0 := atoms_spec (ws := ws_ yX6_take cX6_take 11 (Option.none : Option Jvm.ClassFile.FieldType)) B.pre
  have hts : ∀ w ∈ lw_all, w.before _ s = true := fun w h => hts0 w (List.mem_cons_of_mem _ h)
  have hown : s.vm.findClass RX6 = some m.cls := findClass_of_methodNamed B.named
  have hlocks := B.notSynchronized
  subst hsz
  have hD := hD0.self (sz := s.heap.size)
  generalize hAe : va_A [(h0, .inr (6, [.int v_failed, .ref c_counts, .ref c_text, .int v_size, .ref c_rows, .ref c_rowKind, .ref c_rowSize, .int v_neg, .int v_nan, .int v_inf, .long v_m, .int v_n, .ref c_num, .ref c_den, .ref c_work, .ref c_root, .int v_at, .int v_end, .int v_fault, .int v_digits])), (c_counts, .inl (TY 0, 10, .inl g_counts)), (c_text, .inl (TY 0, 60, .inl g_text)), (c_rows, .inl (TY 1, 320, .inr (.inl g_rows))), (c_rowKind, .inl (TY 0, 8, .inl g_rowKind)), (c_rowSize, .inl (TY 0, 8, .inl g_rowSize)), (c_num, .inl (TY 1, 170, .inr (.inl g_num))), (c_den, .inl (TY 1, 170, .inr (.inl g_den))), (c_work, .inl (TY 1, 170, .inr (.inl g_work))), (c_root, .inl (TY 1, 170, .inr (.inl g_root)))] s.heap.size = A at hD hG ⊢
  have hA : ∀ q : Nat, s.heap.size ≤ q → A q := fun q h => by rw [← hAe]; exact Or.inr h
  have hS : va_S A s.heap s.heap [] := va_S.rf
  have hP : va_P D vwCl [(h0, .inr (6, [.int v_failed, .ref c_counts, .ref c_text, .int v_size, .ref c_rows, .ref c_rowKind, .ref c_rowSize, .int v_neg, .int v_nan, .int v_inf, .long v_m, .int v_n, .ref c_num, .ref c_den, .ref c_work, .ref c_root, .int v_at, .int v_end, .int v_fault, .int v_digits])), (c_counts, .inl (TY 0, 10, .inl g_counts)), (c_text, .inl (TY 0, 60, .inl g_text)), (c_rows, .inl (TY 1, 320, .inr (.inl g_rows))), (c_rowKind, .inl (TY 0, 8, .inl g_rowKind)), (c_rowSize, .inl (TY 0, 8, .inl g_rowSize)), (c_num, .inl (TY 1, 170, .inr (.inl g_num))), (c_den, .inl (TY 1, 170, .inr (.inl g_den))), (c_work, .inl (TY 1, 170, .inr (.inl g_work))), (c_root, .inl (TY 1, 170, .inr (.inl g_root)))] s.heap := hP
  have hl := lv_entry ([.ref h0, .int p1, .long p2]) (n := 11) (Nat.le_of_ble_eq_true rfl)
  rw [lg_entry_eq]
  generalize (lg_sl ([.ref h0, .int p1, .long p2]) ++ List.replicate (11 - (lg_sl ([.ref h0, .int p1, .long p2])).length) Slot.unset).toArray = ls at hl ⊢
  have hl : lv_has ls 11 [(0, .ref h0), (1, .int p1), (2, .long p2)] := hl
  unfold wX6_take at hw
  refine lv_iload_n hx hb dX6_take_0 rfl (lv_at hl 1 rfl) ?_
  refine cSi (v := fX6_bitsOf p1) (W.runS (As := [.int p1]) (rest := []) ⟨hx, hb, hml, hown, hts⟩ (mX6_bitsOf l D TY p1 (fun r => r = fX6_bitsOf p1) rfl) (va_cwS 1 hts (lw_S q1240 q1241 q50 q1242) rfl rfl rfl hd_X6_bitsOf ⟨Nat.le_of_ble_eq_true rfl, Nat.le_of_ble_eq_true rfl⟩) (PR.S hP [] rfl hK hG hS) rfl rfl hl.1 rfl (lv_room (Nat.le_of_ble_eq_true rfl)) dX6_take_1 ⟨Nat.le_of_ble_eq_true rfl, Nat.le_of_ble_eq_true rfl⟩) ?_
  refine lv_iconst (v := 1) hx hb dX6_take_4 (by decide) ?_
  refine lv_isub hx hb dX6_take_5 ?_
  refine lv_topi (fun x1 ex1 => ?_)
  replace hw := hw x1 ex1
  refine lv_istore (lv' := [(4, .int x1), (0, .ref h0), (1, .int p1), (2, .long p2)]) hx hb dX6_take_6 hl (by decide) rfl (fun ls hl => ?_)
  refine lv_iload_n hx hb dX6_take_8 rfl (lv_at hl 2 rfl) ?_
  obtain ⟨PJx2, hPJx2⟩ : ∃ P : Int32 → Prop, ∀ x2 : Int32, P x2 ↔ ∀ ls : Array Slot, lv_has ls 11 [(0, .ref h0), (1, .int p1), (2, .long p2), (4, .int x1)] → W p l e (headSpec (ws_ yX6_take cX6_take 11 (Option.none : Option Jvm.ClassFile.FieldType)) ({ frames := 1, cells := 0, slots := 0, locals := 20 })).room s m ([.ref h0, .int p1, .long p2] : List Value).toArray below meth c s.heap ([]) 0 0 (MQ below (va_Qv post (fun (u : Int32 × Int32 × Int32 × Int64 × Int32) t => BB D TY A [(h0, .inr (6, [.int v_failed, .ref c_counts, .ref c_text, .int v_size, .ref c_rows, .ref c_rowKind, .ref c_rowSize, .int u.1, .int u.2.1, .int u.2.2.1, .long u.2.2.2.1, .int u.2.2.2.2, .ref c_num, .ref c_den, .ref c_work, .ref c_root, .int v_at, .int v_end, .int v_fault, .int v_digits])), (c_counts, .inl (TY 0, 10, .inl g_counts)), (c_text, .inl (TY 0, 60, .inl g_text)), (c_rows, .inl (TY 1, 320, .inr (.inl g_rows))), (c_rowKind, .inl (TY 0, 8, .inl g_rowKind)), (c_rowSize, .inl (TY 0, 8, .inl g_rowSize)), (c_num, .inl (TY 1, 170, .inr (.inl g_num))), (c_den, .inl (TY 1, 170, .inr (.inl g_den))), (c_work, .inl (TY 1, 170, .inr (.inl g_work))), (c_root, .inl (TY 1, 170, .inr (.inl g_root)))] t) A) ([.ref h0, .int p1, .long p2] : List Value).toArray s 0 0 A) (F0 m 19 ls [.int x2]) := ⟨_, fun _ => Iff.rfl⟩
  have hjx2 : ∀ x2 : Int32, x2 = (if p1 = 0 then 8 else 11) → PJx2 x2 := by
    intro x2 ex2
    rw [hPJx2]
    intro ls hl
    replace hw := hw x2 ex2
    refine lv_istore (lv' := [(5, .int x2), (0, .ref h0), (1, .int p1), (2, .long p2), (4, .int x1)]) hx hb dX6_take_19 hl (by decide) rfl (fun ls hl => ?_)
    refine lv_iload_n hx hb dX6_take_21 rfl (lv_at hl 2 rfl) ?_
    obtain ⟨PJx4, hPJx4⟩ : ∃ P : Int64 → Prop, ∀ x4 : Int64, P x4 ↔ ∀ ls : Array Slot, lv_has ls 11 [(0, .ref h0), (1, .int p1), (4, .int x1), (5, .int x2)] → W p l e (headSpec (ws_ yX6_take cX6_take 11 (Option.none : Option Jvm.ClassFile.FieldType)) ({ frames := 1, cells := 0, slots := 0, locals := 20 })).room s m ([.ref h0, .int p1, .long p2] : List Value).toArray below meth c s.heap ([]) 0 0 (MQ below (va_Qv post (fun (u : Int32 × Int32 × Int32 × Int64 × Int32) t => BB D TY A [(h0, .inr (6, [.int v_failed, .ref c_counts, .ref c_text, .int v_size, .ref c_rows, .ref c_rowKind, .ref c_rowSize, .int u.1, .int u.2.1, .int u.2.2.1, .long u.2.2.2.1, .int u.2.2.2.2, .ref c_num, .ref c_den, .ref c_work, .ref c_root, .int v_at, .int v_end, .int v_fault, .int v_digits])), (c_counts, .inl (TY 0, 10, .inl g_counts)), (c_text, .inl (TY 0, 60, .inl g_text)), (c_rows, .inl (TY 1, 320, .inr (.inl g_rows))), (c_rowKind, .inl (TY 0, 8, .inl g_rowKind)), (c_rowSize, .inl (TY 0, 8, .inl g_rowSize)), (c_num, .inl (TY 1, 170, .inr (.inl g_num))), (c_den, .inl (TY 1, 170, .inr (.inl g_den))), (c_work, .inl (TY 1, 170, .inr (.inl g_work))), (c_root, .inl (TY 1, 170, .inr (.inl g_root)))] t) A) ([.ref h0, .int p1, .long p2] : List Value).toArray s 0 0 A) (F0 m 34 ls [.long x4]) := ⟨_, fun _ => Iff.rfl⟩
    have hjx4 : ∀ x4 : Int64, x4 = (if p1 = 0 then (p2 &&& 4294967295) else p2) → PJx4 x4 := by
      intro x4 ex4
      rw [hPJx4]
      intro ls hl
      replace hw := hw x4 ex4
      refine lv_lstore (lv' := [(6, .long x4), (0, .ref h0), (1, .int p1), (4, .int x1), (5, .int x2)]) hx hb dX6_take_34 hl (by decide) rfl (fun ls hl => ?_)
      refine lv_aload_n hx hb dX6_take_36 rfl (lv_at hl 1 rfl) ?_
      refine lv_lload hx hb dX6_take_37 (lv_at hl 0 rfl) ?_
      refine lv_iload hx hb dX6_take_39 (lv_at hl 3 rfl) ?_
      refine lv_iload hx hb dX6_take_41 (lv_at hl 4 rfl) ?_
      refine lv_iadd hx hb dX6_take_43 ?_
      refine lv_lushr (v := jushr x4 (x1 + x2)) hx hb dX6_take_44 rfl ?_
      refine lv_lconst (v := 1) hx hb dX6_take_45 (by decide) ?_
      refine lv_land hx hb dX6_take_46 ?_
      refine lv_lconst (v := 1) hx hb dX6_take_47 (by decide) ?_
      obtain ⟨PJx6, hPJx6⟩ : ∃ P : Int32 → Prop, ∀ x6 : Int32, P x6 ↔ ∀ ls : Array Slot, lv_has ls 11 [(0, .ref h0), (1, .int p1), (4, .int x1), (5, .int x2), (6, .long x4)] → W p l e (headSpec (ws_ yX6_take cX6_take 11 (Option.none : Option Jvm.ClassFile.FieldType)) ({ frames := 1, cells := 0, slots := 0, locals := 20 })).room s m ([.ref h0, .int p1, .long p2] : List Value).toArray below meth c s.heap ([]) 0 0 (MQ below (va_Qv post (fun (u : Int32 × Int32 × Int32 × Int64 × Int32) t => BB D TY A [(h0, .inr (6, [.int v_failed, .ref c_counts, .ref c_text, .int v_size, .ref c_rows, .ref c_rowKind, .ref c_rowSize, .int u.1, .int u.2.1, .int u.2.2.1, .long u.2.2.2.1, .int u.2.2.2.2, .ref c_num, .ref c_den, .ref c_work, .ref c_root, .int v_at, .int v_end, .int v_fault, .int v_digits])), (c_counts, .inl (TY 0, 10, .inl g_counts)), (c_text, .inl (TY 0, 60, .inl g_text)), (c_rows, .inl (TY 1, 320, .inr (.inl g_rows))), (c_rowKind, .inl (TY 0, 8, .inl g_rowKind)), (c_rowSize, .inl (TY 0, 8, .inl g_rowSize)), (c_num, .inl (TY 1, 170, .inr (.inl g_num))), (c_den, .inl (TY 1, 170, .inr (.inl g_den))), (c_work, .inl (TY 1, 170, .inr (.inl g_work))), (c_root, .inl (TY 1, 170, .inr (.inl g_root)))] t) A) ([.ref h0, .int p1, .long p2] : List Value).toArray s 0 0 A) (F0 m 57 ls [.int x6, .ref h0]) := ⟨_, fun _ => Iff.rfl⟩
      have hjx6 : ∀ x6 : Int32, x6 = (if ((jushr x4 (x1 + x2)) &&& 1) = 1 then 1 else 0) → PJx6 x6 := by
        intro x6 ex6
        rw [hPJx6]
        intro ls hl
        replace hw := hw x6 ex6
        refine va_put (D := D) (ci := 6) (v := .int x6) (ty := .boolean) (C := RX6) (T := TX6) (N := 20) hx hb hts in_X6 tyX6 tyX6_ok nmX6 hown hK hP hD hS 0 rfl rfl 7 (by decide) (hts _ q1154) (fun _ h9 => h9) rfl (by decide +kernel) (by rw [ex6]; exact (zb_ite rfl rfl)) (zbfit (by rw [ex6]; exact (zb_ite rfl rfl))) (Nat.le_of_ble_eq_true rfl) dX6_take_57 (fun H locs hP hD hS => ?_)
        have hP : va_P D vwCl [(h0, .inr (6, [.int v_failed, .ref c_counts, .ref c_text, .int v_size, .ref c_rows, .ref c_rowKind, .ref c_rowSize, .int x6, .int v_nan, .int v_inf, .long v_m, .int v_n, .ref c_num, .ref c_den, .ref c_work, .ref c_root, .int v_at, .int v_end, .int v_fault, .int v_digits])), (c_counts, .inl (TY 0, 10, .inl g_counts)), (c_text, .inl (TY 0, 60, .inl g_text)), (c_rows, .inl (TY 1, 320, .inr (.inl g_rows))), (c_rowKind, .inl (TY 0, 8, .inl g_rowKind)), (c_rowSize, .inl (TY 0, 8, .inl g_rowSize)), (c_num, .inl (TY 1, 170, .inr (.inl g_num))), (c_den, .inl (TY 1, 170, .inr (.inl g_den))), (c_work, .inl (TY 1, 170, .inr (.inl g_work))), (c_root, .inl (TY 1, 170, .inr (.inl g_root)))] H := hP
        have hD : va_D A [(h0, .inr (6, [.int v_failed, .ref c_counts, .ref c_text, .int v_size, .ref c_rows, .ref c_rowKind, .ref c_rowSize, .int x6, .int v_nan, .int v_inf, .long v_m, .int v_n, .ref c_num, .ref c_den, .ref c_work, .ref c_root, .int v_at, .int v_end, .int v_fault, .int v_digits])), (c_counts, .inl (TY 0, 10, .inl g_counts)), (c_text, .inl (TY 0, 60, .inl g_text)), (c_rows, .inl (TY 1, 320, .inr (.inl g_rows))), (c_rowKind, .inl (TY 0, 8, .inl g_rowKind)), (c_rowSize, .inl (TY 0, 8, .inl g_rowSize)), (c_num, .inl (TY 1, 170, .inr (.inl g_num))), (c_den, .inl (TY 1, 170, .inr (.inl g_den))), (c_work, .inl (TY 1, 170, .inr (.inl g_work))), (c_root, .inl (TY 1, 170, .inr (.inl g_root)))] := hD
        refine lv_lload hx hb dX6_take_60 (lv_at hl 4 rfl) ?_
        refine lv_iload hx hb dX6_take_62 (lv_at hl 2 rfl) ?_
        refine lv_lushr (v := jushr x4 x1) hx hb dX6_take_64 rfl ?_
        refine lv_l2i (v := (jushr x4 x1).toInt32) hx hb dX6_take_65 rfl ?_
        refine lv_iconst (v := 1) hx hb dX6_take_66 (by decide) ?_
        refine lv_iload hx hb dX6_take_67 (lv_at hl 3 rfl) ?_
        refine lv_ishl hx hb dX6_take_69 ?_
        refine lv_iconst (v := 1) hx hb dX6_take_70 (by decide) ?_
        refine lv_isub hx hb dX6_take_71 ?_
        refine lv_iand hx hb dX6_take_72 ?_
        refine lv_topi (fun x8 ex8 => ?_)
        replace hw := hw x8 ex8
        refine lv_istore (lv' := [(8, .int x8), (0, .ref h0), (1, .int p1), (4, .int x1), (5, .int x2), (6, .long x4)]) hx hb dX6_take_73 hl (by decide) rfl (fun ls hl => ?_)
        refine lv_lload hx hb dX6_take_75 (lv_at hl 5 rfl) ?_
        refine lv_lconst (v := 1) hx hb dX6_take_77 (by decide) ?_
        refine lv_iload hx hb dX6_take_78 (lv_at hl 3 rfl) ?_
        refine lv_lshl (v := jshl 1 x1) hx hb dX6_take_80 rfl ?_
        refine lv_lconst (v := 1) hx hb dX6_take_81 (by decide) ?_
        refine lv_lsub hx hb dX6_take_82 ?_
        refine lv_land hx hb dX6_take_83 ?_
        refine lv_topl (fun x9 ex9 => ?_)
        replace hw := hw x9 ex9
        refine lv_lstore (lv' := [(9, .long x9), (8, .int x8), (0, .ref h0), (1, .int p1), (4, .int x1), (5, .int x2), (6, .long x4)]) hx hb dX6_take_84 hl (by decide) rfl (fun ls hl => ?_)
        refine lv_aload_n hx hb dX6_take_86 rfl (lv_at hl 2 rfl) ?_
        refine lv_iload hx hb dX6_take_87 (lv_at hl 1 rfl) ?_
        refine lv_iconst (v := 1) hx hb dX6_take_89 (by decide) ?_
        refine lv_iload hx hb dX6_take_90 (lv_at hl 5 rfl) ?_
        refine lv_ishl hx hb dX6_take_92 ?_
        refine lv_iconst (v := 1) hx hb dX6_take_93 (by decide) ?_
        refine lv_isub hx hb dX6_take_94 ?_
        obtain ⟨PJx10, hPJx10⟩ : ∃ P : Int32 → Prop, ∀ x10 : Int32, P x10 ↔ ∀ ls : Array Slot, lv_has ls 11 [(0, .ref h0), (1, .int p1), (4, .int x1), (5, .int x2), (8, .int x8), (9, .long x9)] → W p l e (headSpec (ws_ yX6_take cX6_take 11 (Option.none : Option Jvm.ClassFile.FieldType)) ({ frames := 1, cells := 0, slots := 0, locals := 20 })).room s m ([.ref h0, .int p1, .long p2] : List Value).toArray below meth c H locs 0 0 (MQ below (va_Qv post (fun (u : Int32 × Int32 × Int32 × Int64 × Int32) t => BB D TY A [(h0, .inr (6, [.int v_failed, .ref c_counts, .ref c_text, .int v_size, .ref c_rows, .ref c_rowKind, .ref c_rowSize, .int u.1, .int u.2.1, .int u.2.2.1, .long u.2.2.2.1, .int u.2.2.2.2, .ref c_num, .ref c_den, .ref c_work, .ref c_root, .int v_at, .int v_end, .int v_fault, .int v_digits])), (c_counts, .inl (TY 0, 10, .inl g_counts)), (c_text, .inl (TY 0, 60, .inl g_text)), (c_rows, .inl (TY 1, 320, .inr (.inl g_rows))), (c_rowKind, .inl (TY 0, 8, .inl g_rowKind)), (c_rowSize, .inl (TY 0, 8, .inl g_rowSize)), (c_num, .inl (TY 1, 170, .inr (.inl g_num))), (c_den, .inl (TY 1, 170, .inr (.inl g_den))), (c_work, .inl (TY 1, 170, .inr (.inl g_work))), (c_root, .inl (TY 1, 170, .inr (.inl g_root)))] t) A) ([.ref h0, .int p1, .long p2] : List Value).toArray s 0 0 A) (F0 m 110 ls [.int x10, .ref h0]) := ⟨_, fun _ => Iff.rfl⟩
        have hjx10 : ∀ x10 : Int32, x10 = (if x8 = ((kshl 1 x2) - 1) then (if x9 = 0 then 0 else 1) else 0) → PJx10 x10 := by
          intro x10 ex10
          rw [hPJx10]
          intro ls hl
          replace hw := hw x10 ex10
          refine va_put (D := D) (ci := 6) (v := .int x10) (ty := .boolean) (C := RX6) (T := TX6) (N := 20) hx hb hts in_X6 tyX6 tyX6_ok nmX6 hown hK hP hD hS 0 rfl rfl 8 (by decide) (hts _ q1155) (fun _ h9 => h9) rfl (by decide +kernel) (by rw [ex10]; exact (zb_ite (zb_ite rfl rfl) rfl)) (zbfit (by rw [ex10]; exact (zb_ite (zb_ite rfl rfl) rfl))) (Nat.le_of_ble_eq_true rfl) dX6_take_110 (fun H locs hP hD hS => ?_)
          have hP : va_P D vwCl [(h0, .inr (6, [.int v_failed, .ref c_counts, .ref c_text, .int v_size, .ref c_rows, .ref c_rowKind, .ref c_rowSize, .int x6, .int x10, .int v_inf, .long v_m, .int v_n, .ref c_num, .ref c_den, .ref c_work, .ref c_root, .int v_at, .int v_end, .int v_fault, .int v_digits])), (c_counts, .inl (TY 0, 10, .inl g_counts)), (c_text, .inl (TY 0, 60, .inl g_text)), (c_rows, .inl (TY 1, 320, .inr (.inl g_rows))), (c_rowKind, .inl (TY 0, 8, .inl g_rowKind)), (c_rowSize, .inl (TY 0, 8, .inl g_rowSize)), (c_num, .inl (TY 1, 170, .inr (.inl g_num))), (c_den, .inl (TY 1, 170, .inr (.inl g_den))), (c_work, .inl (TY 1, 170, .inr (.inl g_work))), (c_root, .inl (TY 1, 170, .inr (.inl g_root)))] H := hP
          have hD : va_D A [(h0, .inr (6, [.int v_failed, .ref c_counts, .ref c_text, .int v_size, .ref c_rows, .ref c_rowKind, .ref c_rowSize, .int x6, .int x10, .int v_inf, .long v_m, .int v_n, .ref c_num, .ref c_den, .ref c_work, .ref c_root, .int v_at, .int v_end, .int v_fault, .int v_digits])), (c_counts, .inl (TY 0, 10, .inl g_counts)), (c_text, .inl (TY 0, 60, .inl g_text)), (c_rows, .inl (TY 1, 320, .inr (.inl g_rows))), (c_rowKind, .inl (TY 0, 8, .inl g_rowKind)), (c_rowSize, .inl (TY 0, 8, .inl g_rowSize)), (c_num, .inl (TY 1, 170, .inr (.inl g_num))), (c_den, .inl (TY 1, 170, .inr (.inl g_den))), (c_work, .inl (TY 1, 170, .inr (.inl g_work))), (c_root, .inl (TY 1, 170, .inr (.inl g_root)))] := hD
          refine lv_aload_n hx hb dX6_take_113 rfl (lv_at hl 0 rfl) ?_
          refine lv_iload hx hb dX6_take_114 (lv_at hl 4 rfl) ?_
          refine lv_iconst (v := 1) hx hb dX6_take_116 (by decide) ?_
          refine lv_iload hx hb dX6_take_117 (lv_at hl 3 rfl) ?_
          refine lv_ishl hx hb dX6_take_119 ?_
          refine lv_iconst (v := 1) hx hb dX6_take_120 (by decide) ?_
          refine lv_isub hx hb dX6_take_121 ?_
          obtain ⟨PJx13, hPJx13⟩ : ∃ P : Int32 → Prop, ∀ x13 : Int32, P x13 ↔ ∀ ls : Array Slot, lv_has ls 11 [(0, .ref h0), (1, .int p1), (4, .int x1), (8, .int x8), (9, .long x9)] → W p l e (headSpec (ws_ yX6_take cX6_take 11 (Option.none : Option Jvm.ClassFile.FieldType)) ({ frames := 1, cells := 0, slots := 0, locals := 20 })).room s m ([.ref h0, .int p1, .long p2] : List Value).toArray below meth c H locs 0 0 (MQ below (va_Qv post (fun (u : Int32 × Int32 × Int32 × Int64 × Int32) t => BB D TY A [(h0, .inr (6, [.int v_failed, .ref c_counts, .ref c_text, .int v_size, .ref c_rows, .ref c_rowKind, .ref c_rowSize, .int u.1, .int u.2.1, .int u.2.2.1, .long u.2.2.2.1, .int u.2.2.2.2, .ref c_num, .ref c_den, .ref c_work, .ref c_root, .int v_at, .int v_end, .int v_fault, .int v_digits])), (c_counts, .inl (TY 0, 10, .inl g_counts)), (c_text, .inl (TY 0, 60, .inl g_text)), (c_rows, .inl (TY 1, 320, .inr (.inl g_rows))), (c_rowKind, .inl (TY 0, 8, .inl g_rowKind)), (c_rowSize, .inl (TY 0, 8, .inl g_rowSize)), (c_num, .inl (TY 1, 170, .inr (.inl g_num))), (c_den, .inl (TY 1, 170, .inr (.inl g_den))), (c_work, .inl (TY 1, 170, .inr (.inl g_work))), (c_root, .inl (TY 1, 170, .inr (.inl g_root)))] t) A) ([.ref h0, .int p1, .long p2] : List Value).toArray s 0 0 A) (F0 m 137 ls [.int x13, .ref h0]) := ⟨_, fun _ => Iff.rfl⟩
          have hjx13 : ∀ x13 : Int32, x13 = (if x8 = ((kshl 1 x2) - 1) then (if x9 = 0 then 1 else 0) else 0) → PJx13 x13 := by
            intro x13 ex13
            rw [hPJx13]
            intro ls hl
            replace hw := hw x13 ex13
            refine va_put (D := D) (ci := 6) (v := .int x13) (ty := .boolean) (C := RX6) (T := TX6) (N := 20) hx hb hts in_X6 tyX6 tyX6_ok nmX6 hown hK hP hD hS 0 rfl rfl 9 (by decide) (hts _ q1156) (fun _ h9 => h9) rfl (by decide +kernel) (by rw [ex13]; exact (zb_ite (zb_ite rfl rfl) rfl)) (zbfit (by rw [ex13]; exact (zb_ite (zb_ite rfl rfl) rfl))) (Nat.le_of_ble_eq_true rfl) dX6_take_137 (fun H locs hP hD hS => ?_)
            have hP : va_P D vwCl [(h0, .inr (6, [.int v_failed, .ref c_counts, .ref c_text, .int v_size, .ref c_rows, .ref c_rowKind, .ref c_rowSize, .int x6, .int x10, .int x13, .long v_m, .int v_n, .ref c_num, .ref c_den, .ref c_work, .ref c_root, .int v_at, .int v_end, .int v_fault, .int v_digits])), (c_counts, .inl (TY 0, 10, .inl g_counts)), (c_text, .inl (TY 0, 60, .inl g_text)), (c_rows, .inl (TY 1, 320, .inr (.inl g_rows))), (c_rowKind, .inl (TY 0, 8, .inl g_rowKind)), (c_rowSize, .inl (TY 0, 8, .inl g_rowSize)), (c_num, .inl (TY 1, 170, .inr (.inl g_num))), (c_den, .inl (TY 1, 170, .inr (.inl g_den))), (c_work, .inl (TY 1, 170, .inr (.inl g_work))), (c_root, .inl (TY 1, 170, .inr (.inl g_root)))] H := hP
            have hD : va_D A [(h0, .inr (6, [.int v_failed, .ref c_counts, .ref c_text, .int v_size, .ref c_rows, .ref c_rowKind, .ref c_rowSize, .int x6, .int x10, .int x13, .long v_m, .int v_n, .ref c_num, .ref c_den, .ref c_work, .ref c_root, .int v_at, .int v_end, .int v_fault, .int v_digits])), (c_counts, .inl (TY 0, 10, .inl g_counts)), (c_text, .inl (TY 0, 60, .inl g_text)), (c_rows, .inl (TY 1, 320, .inr (.inl g_rows))), (c_rowKind, .inl (TY 0, 8, .inl g_rowKind)), (c_rowSize, .inl (TY 0, 8, .inl g_rowSize)), (c_num, .inl (TY 1, 170, .inr (.inl g_num))), (c_den, .inl (TY 1, 170, .inr (.inl g_den))), (c_work, .inl (TY 1, 170, .inr (.inl g_work))), (c_root, .inl (TY 1, 170, .inr (.inl g_root)))] := hD
            refine lv_aload_n hx hb dX6_take_140 rfl (lv_at hl 0 rfl) ?_
            refine lv_iload hx hb dX6_take_141 (lv_at hl 3 rfl) ?_
            obtain ⟨PJx16, hPJx16⟩ : ∃ P : Int64 → Prop, ∀ x16 : Int64, P x16 ↔ ∀ ls : Array Slot, lv_has ls 11 [(0, .ref h0), (1, .int p1), (8, .int x8)] → W p l e (headSpec (ws_ yX6_take cX6_take 11 (Option.none : Option Jvm.ClassFile.FieldType)) ({ frames := 1, cells := 0, slots := 0, locals := 20 })).room s m ([.ref h0, .int p1, .long p2] : List Value).toArray below meth c H locs 0 0 (MQ below (va_Qv post (fun (u : Int32 × Int32 × Int32 × Int64 × Int32) t => BB D TY A [(h0, .inr (6, [.int v_failed, .ref c_counts, .ref c_text, .int v_size, .ref c_rows, .ref c_rowKind, .ref c_rowSize, .int u.1, .int u.2.1, .int u.2.2.1, .long u.2.2.2.1, .int u.2.2.2.2, .ref c_num, .ref c_den, .ref c_work, .ref c_root, .int v_at, .int v_end, .int v_fault, .int v_digits])), (c_counts, .inl (TY 0, 10, .inl g_counts)), (c_text, .inl (TY 0, 60, .inl g_text)), (c_rows, .inl (TY 1, 320, .inr (.inl g_rows))), (c_rowKind, .inl (TY 0, 8, .inl g_rowKind)), (c_rowSize, .inl (TY 0, 8, .inl g_rowSize)), (c_num, .inl (TY 1, 170, .inr (.inl g_num))), (c_den, .inl (TY 1, 170, .inr (.inl g_den))), (c_work, .inl (TY 1, 170, .inr (.inl g_work))), (c_root, .inl (TY 1, 170, .inr (.inl g_root)))] t) A) ([.ref h0, .int p1, .long p2] : List Value).toArray s 0 0 A) (F0 m 158 ls [.long x16, .ref h0]) := ⟨_, fun _ => Iff.rfl⟩
            have hjx16 : ∀ x16 : Int64, x16 = (if x8 = 0 then x9 else (x9 ||| (jshl 1 x1))) → PJx16 x16 := by
              intro x16 ex16
              rw [hPJx16]
              intro ls hl
              replace hw := hw x16 ex16
              refine va_put (D := D) (ci := 6) (v := .long x16) (ty := .long) (C := RX6) (T := TX6) (N := 20) hx hb hts in_X6 tyX6 tyX6_ok nmX6 hown hK hP hD hS 0 rfl rfl 10 (by decide) (hts _ q1157) (fun _ h9 => h9) rfl (by decide +kernel) rfl rfl (Nat.le_of_ble_eq_true rfl) dX6_take_158 (fun H locs hP hD hS => ?_)
              have hP : va_P D vwCl [(h0, .inr (6, [.int v_failed, .ref c_counts, .ref c_text, .int v_size, .ref c_rows, .ref c_rowKind, .ref c_rowSize, .int x6, .int x10, .int x13, .long x16, .int v_n, .ref c_num, .ref c_den, .ref c_work, .ref c_root, .int v_at, .int v_end, .int v_fault, .int v_digits])), (c_counts, .inl (TY 0, 10, .inl g_counts)), (c_text, .inl (TY 0, 60, .inl g_text)), (c_rows, .inl (TY 1, 320, .inr (.inl g_rows))), (c_rowKind, .inl (TY 0, 8, .inl g_rowKind)), (c_rowSize, .inl (TY 0, 8, .inl g_rowSize)), (c_num, .inl (TY 1, 170, .inr (.inl g_num))), (c_den, .inl (TY 1, 170, .inr (.inl g_den))), (c_work, .inl (TY 1, 170, .inr (.inl g_work))), (c_root, .inl (TY 1, 170, .inr (.inl g_root)))] H := hP
              have hD : va_D A [(h0, .inr (6, [.int v_failed, .ref c_counts, .ref c_text, .int v_size, .ref c_rows, .ref c_rowKind, .ref c_rowSize, .int x6, .int x10, .int x13, .long x16, .int v_n, .ref c_num, .ref c_den, .ref c_work, .ref c_root, .int v_at, .int v_end, .int v_fault, .int v_digits])), (c_counts, .inl (TY 0, 10, .inl g_counts)), (c_text, .inl (TY 0, 60, .inl g_text)), (c_rows, .inl (TY 1, 320, .inr (.inl g_rows))), (c_rowKind, .inl (TY 0, 8, .inl g_rowKind)), (c_rowSize, .inl (TY 0, 8, .inl g_rowSize)), (c_num, .inl (TY 1, 170, .inr (.inl g_num))), (c_den, .inl (TY 1, 170, .inr (.inl g_den))), (c_work, .inl (TY 1, 170, .inr (.inl g_work))), (c_root, .inl (TY 1, 170, .inr (.inl g_root)))] := hD
              refine lv_aload_n hx hb dX6_take_161 rfl (lv_at hl 0 rfl) ?_
              refine lv_iload hx hb dX6_take_162 (lv_at hl 2 rfl) ?_
              obtain ⟨PJx18, hPJx18⟩ : ∃ P : Int32 → Prop, ∀ x18 : Int32, P x18 ↔ ∀ ls : Array Slot, lv_has ls 11 [(0, .ref h0), (1, .int p1)] → W p l e (headSpec (ws_ yX6_take cX6_take 11 (Option.none : Option Jvm.ClassFile.FieldType)) ({ frames := 1, cells := 0, slots := 0, locals := 20 })).room s m ([.ref h0, .int p1, .long p2] : List Value).toArray below meth c H locs 0 0 (MQ below (va_Qv post (fun (u : Int32 × Int32 × Int32 × Int64 × Int32) t => BB D TY A [(h0, .inr (6, [.int v_failed, .ref c_counts, .ref c_text, .int v_size, .ref c_rows, .ref c_rowKind, .ref c_rowSize, .int u.1, .int u.2.1, .int u.2.2.1, .long u.2.2.2.1, .int u.2.2.2.2, .ref c_num, .ref c_den, .ref c_work, .ref c_root, .int v_at, .int v_end, .int v_fault, .int v_digits])), (c_counts, .inl (TY 0, 10, .inl g_counts)), (c_text, .inl (TY 0, 60, .inl g_text)), (c_rows, .inl (TY 1, 320, .inr (.inl g_rows))), (c_rowKind, .inl (TY 0, 8, .inl g_rowKind)), (c_rowSize, .inl (TY 0, 8, .inl g_rowSize)), (c_num, .inl (TY 1, 170, .inr (.inl g_num))), (c_den, .inl (TY 1, 170, .inr (.inl g_den))), (c_work, .inl (TY 1, 170, .inr (.inl g_work))), (c_root, .inl (TY 1, 170, .inr (.inl g_root)))] t) A) ([.ref h0, .int p1, .long p2] : List Value).toArray s 0 0 A) (F0 m 175 ls [.int x18, .ref h0]) := ⟨_, fun _ => Iff.rfl⟩
              have hjx18 : ∀ x18 : Int32, x18 = (if x8 = 0 then 0 else (x8 - 1)) → PJx18 x18 := by
                intro x18 ex18
                rw [hPJx18]
                intro ls hl
                replace hw := hw x18 ex18
                refine lv_iload_n hx hb dX6_take_175 rfl (lv_at hl 1 rfl) ?_
                refine cSi (v := fX6_least p1) (W.runS (As := [.int p1]) (rest := [.int x18, .ref h0]) ⟨hx, hb, hml, hown, hts⟩ (mX6_least l D TY p1 (fun r => r = fX6_least p1) rfl) (va_cwS 1 hts (lw_S q1244 q1245 q50 q1246) rfl rfl rfl hd_X6_least ⟨Nat.le_of_ble_eq_true rfl, Nat.le_of_ble_eq_true rfl⟩) (PR.S hP [] rfl hK hG hS) rfl rfl hl.1 rfl (lv_room (Nat.le_of_ble_eq_true rfl)) dX6_take_176 ⟨Nat.le_of_ble_eq_true rfl, Nat.le_of_ble_eq_true rfl⟩) ?_
                refine lv_iadd hx hb dX6_take_179 ?_
                refine lv_topi (fun x20 ex20 => ?_)
                replace hw := hw x20 ex20
                refine va_put (D := D) (ci := 6) (v := .int x20) (ty := .int) (C := RX6) (T := TX6) (N := 20) hx hb hts in_X6 tyX6 tyX6_ok nmX6 hown hK hP hD hS 0 rfl rfl 11 (by decide) (hts _ q1158) (fun _ h9 => h9) rfl (by decide +kernel) rfl rfl (Nat.le_of_ble_eq_true rfl) dX6_take_180 (fun H locs hP hD hS => ?_)
                have hP : va_P D vwCl [(h0, .inr (6, [.int v_failed, .ref c_counts, .ref c_text, .int v_size, .ref c_rows, .ref c_rowKind, .ref c_rowSize, .int x6, .int x10, .int x13, .long x16, .int x20, .ref c_num, .ref c_den, .ref c_work, .ref c_root, .int v_at, .int v_end, .int v_fault, .int v_digits])), (c_counts, .inl (TY 0, 10, .inl g_counts)), (c_text, .inl (TY 0, 60, .inl g_text)), (c_rows, .inl (TY 1, 320, .inr (.inl g_rows))), (c_rowKind, .inl (TY 0, 8, .inl g_rowKind)), (c_rowSize, .inl (TY 0, 8, .inl g_rowSize)), (c_num, .inl (TY 1, 170, .inr (.inl g_num))), (c_den, .inl (TY 1, 170, .inr (.inl g_den))), (c_work, .inl (TY 1, 170, .inr (.inl g_work))), (c_root, .inl (TY 1, 170, .inr (.inl g_root)))] H := hP
                have hD : va_D A [(h0, .inr (6, [.int v_failed, .ref c_counts, .ref c_text, .int v_size, .ref c_rows, .ref c_rowKind, .ref c_rowSize, .int x6, .int x10, .int x13, .long x16, .int x20, .ref c_num, .ref c_den, .ref c_work, .ref c_root, .int v_at, .int v_end, .int v_fault, .int v_digits])), (c_counts, .inl (TY 0, 10, .inl g_counts)), (c_text, .inl (TY 0, 60, .inl g_text)), (c_rows, .inl (TY 1, 320, .inr (.inl g_rows))), (c_rowKind, .inl (TY 0, 8, .inl g_rowKind)), (c_rowSize, .inl (TY 0, 8, .inl g_rowSize)), (c_num, .inl (TY 1, 170, .inr (.inl g_num))), (c_den, .inl (TY 1, 170, .inr (.inl g_den))), (c_work, .inl (TY 1, 170, .inr (.inl g_work))), (c_root, .inl (TY 1, 170, .inr (.inl g_root)))] := hD
                refine lv_aload_n hx hb dX6_take_183 rfl (lv_at hl 0 rfl) ?_
                refine lv_dup hx hb dX6_take_184 rfl ?_
                refine va_get (D := D) (ci := 6) (v := .int x6) (C := RX6) (T := TX6) (N := 20) hx hb hts in_X6 hown hK hP 0 rfl rfl 7 (by decide) (hts _ q1154) (fun _ h9 => h9) rfl dX6_take_185 ?_
                refine lv_aload_n hx hb dX6_take_188 rfl (lv_at hl 0 rfl) ?_
                refine va_get (D := D) (ci := 6) (v := .int x10) (C := RX6) (T := TX6) (N := 20) hx hb hts in_X6 hown hK hP 0 rfl rfl 8 (by decide) (hts _ q1155) (fun _ h9 => h9) rfl dX6_take_189 ?_
                obtain ⟨PJx21, hPJx21⟩ : ∃ P : Int32 → Prop, ∀ x21 : Int32, P x21 ↔ ∀ ls : Array Slot, lv_has ls 11 [] → W p l e (headSpec (ws_ yX6_take cX6_take 11 (Option.none : Option Jvm.ClassFile.FieldType)) ({ frames := 1, cells := 0, slots := 0, locals := 20 })).room s m ([.ref h0, .int p1, .long p2] : List Value).toArray below meth c H locs 0 0 (MQ below (va_Qv post (fun (u : Int32 × Int32 × Int32 × Int64 × Int32) t => BB D TY A [(h0, .inr (6, [.int v_failed, .ref c_counts, .ref c_text, .int v_size, .ref c_rows, .ref c_rowKind, .ref c_rowSize, .int u.1, .int u.2.1, .int u.2.2.1, .long u.2.2.2.1, .int u.2.2.2.2, .ref c_num, .ref c_den, .ref c_work, .ref c_root, .int v_at, .int v_end, .int v_fault, .int v_digits])), (c_counts, .inl (TY 0, 10, .inl g_counts)), (c_text, .inl (TY 0, 60, .inl g_text)), (c_rows, .inl (TY 1, 320, .inr (.inl g_rows))), (c_rowKind, .inl (TY 0, 8, .inl g_rowKind)), (c_rowSize, .inl (TY 0, 8, .inl g_rowSize)), (c_num, .inl (TY 1, 170, .inr (.inl g_num))), (c_den, .inl (TY 1, 170, .inr (.inl g_den))), (c_work, .inl (TY 1, 170, .inr (.inl g_work))), (c_root, .inl (TY 1, 170, .inr (.inl g_root)))] t) A) ([.ref h0, .int p1, .long p2] : List Value).toArray s 0 0 A) (F0 m 200 ls [.int x21, .int x6, .ref h0]) := ⟨_, fun _ => Iff.rfl⟩
                have hjx21 : ∀ x21 : Int32, x21 = (if x10 = 0 then 1 else 0) → PJx21 x21 := by
                  intro x21 ex21
                  rw [hPJx21]
                  intro ls hl
                  replace hw := hw x21 ex21
                  refine lv_iand hx hb dX6_take_200 ?_
                  refine lv_topi (fun x23 ex23 => ?_)
                  replace hw := hw x23 ex23
                  refine va_put (D := D) (ci := 6) (v := .int x23) (ty := .boolean) (C := RX6) (T := TX6) (N := 20) hx hb hts in_X6 tyX6 tyX6_ok nmX6 hown hK hP hD hS 0 rfl rfl 7 (by decide) (hts _ q1154) (fun _ h9 => h9) rfl (by decide +kernel) hw.1 (zbfit hw.1) (Nat.le_of_ble_eq_true rfl) dX6_take_201 (fun H locs hP hD hS => ?_)
                  have hP : va_P D vwCl [(h0, .inr (6, [.int v_failed, .ref c_counts, .ref c_text, .int v_size, .ref c_rows, .ref c_rowKind, .ref c_rowSize, .int x23, .int x10, .int x13, .long x16, .int x20, .ref c_num, .ref c_den, .ref c_work, .ref c_root, .int v_at, .int v_end, .int v_fault, .int v_digits])), (c_counts, .inl (TY 0, 10, .inl g_counts)), (c_text, .inl (TY 0, 60, .inl g_text)), (c_rows, .inl (TY 1, 320, .inr (.inl g_rows))), (c_rowKind, .inl (TY 0, 8, .inl g_rowKind)), (c_rowSize, .inl (TY 0, 8, .inl g_rowSize)), (c_num, .inl (TY 1, 170, .inr (.inl g_num))), (c_den, .inl (TY 1, 170, .inr (.inl g_den))), (c_work, .inl (TY 1, 170, .inr (.inl g_work))), (c_root, .inl (TY 1, 170, .inr (.inl g_root)))] H := hP
                  have hD : va_D A [(h0, .inr (6, [.int v_failed, .ref c_counts, .ref c_text, .int v_size, .ref c_rows, .ref c_rowKind, .ref c_rowSize, .int x23, .int x10, .int x13, .long x16, .int x20, .ref c_num, .ref c_den, .ref c_work, .ref c_root, .int v_at, .int v_end, .int v_fault, .int v_digits])), (c_counts, .inl (TY 0, 10, .inl g_counts)), (c_text, .inl (TY 0, 60, .inl g_text)), (c_rows, .inl (TY 1, 320, .inr (.inl g_rows))), (c_rowKind, .inl (TY 0, 8, .inl g_rowKind)), (c_rowSize, .inl (TY 0, 8, .inl g_rowSize)), (c_num, .inl (TY 1, 170, .inr (.inl g_num))), (c_den, .inl (TY 1, 170, .inr (.inl g_den))), (c_work, .inl (TY 1, 170, .inr (.inl g_work))), (c_root, .inl (TY 1, 170, .inr (.inl g_root)))] := hD
                  replace hw := hw.2
                  have hP9 := hP.sub (ws' := [(h0, .inr (6, [.int v_failed, .ref c_counts, .ref c_text, .int v_size, .ref c_rows, .ref c_rowKind, .ref c_rowSize, .int x23, .int x10, .int x13, .long x16, .int x20, .ref c_num, .ref c_den, .ref c_work, .ref c_root, .int v_at, .int v_end, .int v_fault, .int v_digits])), (c_counts, .inl (TY 0, 10, .inl g_counts)), (c_text, .inl (TY 0, 60, .inl g_text)), (c_rows, .inl (TY 1, 320, .inr (.inl g_rows))), (c_rowKind, .inl (TY 0, 8, .inl g_rowKind)), (c_rowSize, .inl (TY 0, 8, .inl g_rowSize)), (c_num, .inl (TY 1, 170, .inr (.inl g_num))), (c_den, .inl (TY 1, 170, .inr (.inl g_den))), (c_work, .inl (TY 1, 170, .inr (.inl g_work))), (c_root, .inl (TY 1, 170, .inr (.inl g_root)))]) [0, 1, 2, 3, 4, 5, 6, 7, 8, 9] rfl
                  have hD9 := hD.sub (ws' := [(h0, .inr (6, [.int v_failed, .ref c_counts, .ref c_text, .int v_size, .ref c_rows, .ref c_rowKind, .ref c_rowSize, .int x23, .int x10, .int x13, .long x16, .int x20, .ref c_num, .ref c_den, .ref c_work, .ref c_root, .int v_at, .int v_end, .int v_fault, .int v_digits])), (c_counts, .inl (TY 0, 10, .inl g_counts)), (c_text, .inl (TY 0, 60, .inl g_text)), (c_rows, .inl (TY 1, 320, .inr (.inl g_rows))), (c_rowKind, .inl (TY 0, 8, .inl g_rowKind)), (c_rowSize, .inl (TY 0, 8, .inl g_rowSize)), (c_num, .inl (TY 1, 170, .inr (.inl g_num))), (c_den, .inl (TY 1, 170, .inr (.inl g_den))), (c_work, .inl (TY 1, 170, .inr (.inl g_work))), (c_root, .inl (TY 1, 170, .inr (.inl g_root)))]) [0, 1, 2, 3, 4, 5, 6, 7, 8, 9] (by decide) rfl
                  exact W.vret hx hb hr (fun t ht hW => ⟨⟨(x23, x10, x13, x16, x20), rfl, hw, BB.mk hP9 hD9 hK ht hW⟩, hS.F ht⟩) hS.2.2 dX6_take_204
                replace hjx21 := hjx21 _ rfl
                refine lv_if_ne (tgt := 199) hx hb dX6_take_192 (by decide) (fun c22 => ?_) (fun c22 => ?_)
                · replace hjx21 := pf_f (P := PJx21) c22 hjx21
                  refine lv_iconst (v := 0) hx hb dX6_take_199 (by decide) ?_
                  exact (hPJx21 _).1 hjx21 _ (lv_sub hl [] rfl)
                · replace hjx21 := pf_t (P := PJx21) c22 hjx21
                  refine lv_iconst (v := 1) hx hb dX6_take_195 (by decide) ?_
                  refine lv_goto (tgt := 200) hx hb dX6_take_196 (by decide) ?_
                  exact (hPJx21 _).1 hjx21 _ (lv_sub hl [] rfl)
              replace hjx18 := hjx18 _ rfl
              refine lv_if_ne (tgt := 171) hx hb dX6_take_164 (by decide) (fun c19 => ?_) (fun c19 => ?_)
              · replace hjx18 := pf_f (P := PJx18) c19 hjx18
                refine lv_iload hx hb dX6_take_171 (lv_at hl 2 rfl) ?_
                refine lv_iconst (v := 1) hx hb dX6_take_173 (by decide) ?_
                refine lv_isub hx hb dX6_take_174 ?_
                exact (hPJx18 _).1 hjx18 _ (lv_sub hl [0, 1] rfl)
              · replace hjx18 := pf_t (P := PJx18) c19 hjx18
                refine lv_iconst (v := 0) hx hb dX6_take_167 (by decide) ?_
                refine lv_goto (tgt := 175) hx hb dX6_take_168 (by decide) ?_
                exact (hPJx18 _).1 hjx18 _ (lv_sub hl [0, 1] rfl)
            replace hjx16 := hjx16 _ rfl
            refine lv_if_ne (tgt := 151) hx hb dX6_take_143 (by decide) (fun c17 => ?_) (fun c17 => ?_)
            · replace hjx16 := pf_f (P := PJx16) c17 hjx16
              refine lv_lload hx hb dX6_take_151 (lv_at hl 4 rfl) ?_
              refine lv_lconst (v := 1) hx hb dX6_take_153 (by decide) ?_
              refine lv_iload hx hb dX6_take_154 (lv_at hl 2 rfl) ?_
              refine lv_lshl (v := jshl 1 x1) hx hb dX6_take_156 rfl ?_
              refine lv_lor hx hb dX6_take_157 ?_
              exact (hPJx16 _).1 hjx16 _ (lv_sub hl [0, 1, 3] rfl)
            · replace hjx16 := pf_t (P := PJx16) c17 hjx16
              refine lv_lload hx hb dX6_take_146 (lv_at hl 4 rfl) ?_
              refine lv_goto (tgt := 158) hx hb dX6_take_148 (by decide) ?_
              exact (hPJx16 _).1 hjx16 _ (lv_sub hl [0, 1, 3] rfl)
          replace hjx13 := hjx13 _ rfl
          refine lv_icmp_ne (tgt := 136) hx hb dX6_take_122 (by decide) (fun c14 => ?_) (fun c14 => ?_)
          · replace hjx13 := pf_f (P := PJx13) c14 hjx13
            refine lv_iconst (v := 0) hx hb dX6_take_136 (by decide) ?_
            exact (hPJx13 _).1 hjx13 _ (lv_sub hl [0, 1, 2, 4, 5] rfl)
          · replace hjx13 := pf_t (P := PJx13) c14 hjx13
            refine lv_lload hx hb dX6_take_125 (lv_at hl 5 rfl) ?_
            refine lv_lconst (v := 0) hx hb dX6_take_127 (by decide) ?_
            refine lx_lne (tgt := 136) hx hb dX6_take_128 dX6_take_129 (by decide) (fun c15 => ?_) (fun c15 => ?_)
            · replace hjx13 := pf_f (P := PJx13) c15 hjx13
              refine lv_iconst (v := 0) hx hb dX6_take_136 (by decide) ?_
              exact (hPJx13 _).1 hjx13 _ (lv_sub hl [0, 1, 2, 4, 5] rfl)
            · replace hjx13 := pf_t (P := PJx13) c15 hjx13
              refine lv_iconst (v := 1) hx hb dX6_take_132 (by decide) ?_
              refine lv_goto (tgt := 137) hx hb dX6_take_133 (by decide) ?_
              exact (hPJx13 _).1 hjx13 _ (lv_sub hl [0, 1, 2, 4, 5] rfl)
        replace hjx10 := hjx10 _ rfl
        refine lv_icmp_ne (tgt := 109) hx hb dX6_take_95 (by decide) (fun c11 => ?_) (fun c11 => ?_)
        · replace hjx10 := pf_f (P := PJx10) c11 hjx10
          refine lv_iconst (v := 0) hx hb dX6_take_109 (by decide) ?_
          exact (hPJx10 _).1 hjx10 _ (lv_sub hl [2, 3, 4, 5, 1, 0] rfl)
        · replace hjx10 := pf_t (P := PJx10) c11 hjx10
          refine lv_lload hx hb dX6_take_98 (lv_at hl 0 rfl) ?_
          refine lv_lconst (v := 0) hx hb dX6_take_100 (by decide) ?_
          refine lx_leq (tgt := 109) hx hb dX6_take_101 dX6_take_102 (by decide) (fun c12 => ?_) (fun c12 => ?_)
          · replace hjx10 := pf_t (P := PJx10) c12 hjx10
            refine lv_iconst (v := 0) hx hb dX6_take_109 (by decide) ?_
            exact (hPJx10 _).1 hjx10 _ (lv_sub hl [2, 3, 4, 5, 1, 0] rfl)
          · replace hjx10 := pf_f (P := PJx10) c12 hjx10
            refine lv_iconst (v := 1) hx hb dX6_take_105 (by decide) ?_
            refine lv_goto (tgt := 110) hx hb dX6_take_106 (by decide) ?_
            exact (hPJx10 _).1 hjx10 _ (lv_sub hl [2, 3, 4, 5, 1, 0] rfl)
      replace hjx6 := hjx6 _ rfl
      refine lx_lne (tgt := 56) hx hb dX6_take_48 dX6_take_49 (by decide) (fun c7 => ?_) (fun c7 => ?_)
      · replace hjx6 := pf_f (P := PJx6) c7 hjx6
        refine lv_iconst (v := 0) hx hb dX6_take_56 (by decide) ?_
        exact (hPJx6 _).1 hjx6 _ (lv_sub hl [1, 2, 3, 4, 0] rfl)
      · replace hjx6 := pf_t (P := PJx6) c7 hjx6
        refine lv_iconst (v := 1) hx hb dX6_take_52 (by decide) ?_
        refine lv_goto (tgt := 57) hx hb dX6_take_53 (by decide) ?_
        exact (hPJx6 _).1 hjx6 _ (lv_sub hl [1, 2, 3, 4, 0] rfl)
    replace hjx4 := hjx4 _ rfl
    refine lv_if_ne (tgt := 33) hx hb dX6_take_22 (by decide) (fun c5 => ?_) (fun c5 => ?_)
    · replace hjx4 := pf_f (P := PJx4) c5 hjx4
      refine lv_lload_n hx hb dX6_take_33 rfl (lv_at hl 3 rfl) ?_
      exact (hPJx4 _).1 hjx4 _ (lv_sub hl [1, 2, 4, 0] rfl)
    · replace hjx4 := pf_t (P := PJx4) c5 hjx4
      refine lv_lload_n hx hb dX6_take_25 rfl (lv_at hl 3 rfl) ?_
      refine lv_ldc2 (v := 4294967295) hx hb hown (hts _ q1243) dX6_take_26 ?_
      refine lv_land hx hb dX6_take_29 ?_
      refine lv_goto (tgt := 34) hx hb dX6_take_30 (by decide) ?_
      exact (hPJx4 _).1 hjx4 _ (lv_sub hl [1, 2, 4, 0] rfl)
  replace hjx2 := hjx2 _ rfl
  refine lv_if_ne (tgt := 17) hx hb dX6_take_9 (by decide) (fun c3 => ?_) (fun c3 => ?_)
  · replace hjx2 := pf_f (P := PJx2) c3 hjx2
    refine lv_bipush (v := 11) hx hb dX6_take_17 (by decide) ?_
    exact (hPJx2 _).1 hjx2 _ (lv_sub hl [1, 2, 3, 0] rfl)
  · replace hjx2 := pf_t (P := PJx2) c3 hjx2
    refine lv_bipush (v := 8) hx hb dX6_take_12 (by decide) ?_
    refine lv_goto (tgt := 19) hx hb dX6_take_14 (by decide) ?_
    exact (hPJx2 _).1 hjx2 _ (lv_sub hl [1, 2, 3, 0] rfl)

theorem hd_X6_nanOf : yX6_nanOf.cls ≠ "java/lang/invoke/MethodHandle" ∧ yX6_nanOf.cls ≠ "java/lang/invoke/VarHandle" ∧ (parseMethodDescriptor yX6_nanOf.desc).map (fun d => d.parameters.length) = some 1 := by decide +kernel
theorem hd_X6_take : yX6_take.cls ≠ "java/lang/invoke/MethodHandle" ∧ yX6_take.cls ≠ "java/lang/invoke/VarHandle" ∧ (parseMethodDescriptor yX6_take.desc).map (fun d => d.parameters.length) = some 2 := by decide +kernel
def wX6_told_2 (p1 : Int32) (p2 : Int64) (post : Int64 → (Int32 × Int32 × Int32 × Int64 × Int32) → Prop) : Prop := wX6_take p1 p2 (fun u2 => (∀ x3 : Int64, x3 = (if u2.2.1 = 0 then (if p1 = 0 then p2.toInt32.toInt64 else p2) else (fX6_nanOf p1)) → post x3 (u2.1, u2.2.1, u2.2.2.1, u2.2.2.2.1, u2.2.2.2.2)))
set_option maxHeartbeats 4000000 in
set_option maxRecDepth 100000 in
theorem mX6_told_2 (l : Launch) (D : va_G) (TY : Nat → ClassId) (sz : Nat) (h0 : Nat) (c_counts : Nat) (c_text : Nat) (c_rows : Nat) (c_rowKind : Nat) (c_rowSize : Nat) (c_num : Nat) (c_den : Nat) (c_work : Nat) (c_root : Nat) (v_failed : Int32) (v_size : Int32) (v_neg : Int32) (v_nan : Int32) (v_inf : Int32) (v_m : Int64) (v_n : Int32) (v_at : Int32) (v_end : Int32) (v_fault : Int32) (v_digits : Int32) (g_counts : Nat → Int32) (g_text : Nat → Int32) (g_rows : Nat → Int64) (g_rowKind : Nat → Int32) (g_rowSize : Nat → Int32) (g_num : Nat → Int64) (g_den : Nat → Int64) (g_work : Nat → Int64) (g_root : Nat → Int64) (p1 : Int32) (p2 : Int64) (post : Int64 → (Int32 × Int32 × Int32 × Int64 × Int32) → Prop) (hw : wX6_told_2 p1 p2 post) : Met l yX6_told_2 (ws_ yX6_told_2 cX6_told_2 4 (Option.some Jvm.ClassFile.FieldType.long)) ({ frames := 2, cells := 0, slots := 0, locals := 50 }) (PC D TY [.ref h0, .int p1, .long p2] sz [(h0, .inr (6, [.int v_failed, .ref c_counts, .ref c_text, .int v_size, .ref c_rows, .ref c_rowKind, .ref c_rowSize, .int v_neg, .int v_nan, .int v_inf, .long v_m, .int v_n, .ref c_num, .ref c_den, .ref c_work, .ref c_root, .int v_at, .int v_end, .int v_fault, .int v_digits])), (c_counts, .inl (TY 0, 10, .inl g_counts)), (c_text, .inl (TY 0, 60, .inl g_text)), (c_rows, .inl (TY 1, 320, .inr (.inl g_rows))), (c_rowKind, .inl (TY 0, 8, .inl g_rowKind)), (c_rowSize, .inl (TY 0, 8, .inl g_rowSize)), (c_num, .inl (TY 1, 170, .inr (.inl g_num))), (c_den, .inl (TY 1, 170, .inr (.inl g_den))), (c_work, .inl (TY 1, 170, .inr (.inl g_work))), (c_root, .inl (TY 1, 170, .inr (.inl g_root)))]) (va_Ql post (fun (u : Int32 × Int32 × Int32 × Int64 × Int32) t => BB D TY (va_A [(h0, .inr (6, [.int v_failed, .ref c_counts, .ref c_text, .int v_size, .ref c_rows, .ref c_rowKind, .ref c_rowSize, .int v_neg, .int v_nan, .int v_inf, .long v_m, .int v_n, .ref c_num, .ref c_den, .ref c_work, .ref c_root, .int v_at, .int v_end, .int v_fault, .int v_digits])), (c_counts, .inl (TY 0, 10, .inl g_counts)), (c_text, .inl (TY 0, 60, .inl g_text)), (c_rows, .inl (TY 1, 320, .inr (.inl g_rows))), (c_rowKind, .inl (TY 0, 8, .inl g_rowKind)), (c_rowSize, .inl (TY 0, 8, .inl g_rowSize)), (c_num, .inl (TY 1, 170, .inr (.inl g_num))), (c_den, .inl (TY 1, 170, .inr (.inl g_den))), (c_work, .inl (TY 1, 170, .inr (.inl g_work))), (c_root, .inl (TY 1, 170, .inr (.inl g_root)))] sz) [(h0, .inr (6, [.int v_failed, .ref c_counts, .ref c_text, .int v_size, .ref c_rows, .ref c_rowKind, .ref c_rowSize, .int u.1, .int u.2.1, .int u.2.2.1, .long u.2.2.2.1, .int u.2.2.2.2, .ref c_num, .ref c_den, .ref c_work, .ref c_root, .int v_at, .int v_end, .int v_fault, .int v_digits])), (c_counts, .inl (TY 0, 10, .inl g_counts)), (c_text, .inl (TY 0, 60, .inl g_text)), (c_rows, .inl (TY 1, 320, .inr (.inl g_rows))), (c_rowKind, .inl (TY 0, 8, .inl g_rowKind)), (c_rowSize, .inl (TY 0, 8, .inl g_rowSize)), (c_num, .inl (TY 1, 170, .inr (.inl g_num))), (c_den, .inl (TY 1, 170, .inr (.inl g_den))), (c_work, .inl (TY 1, 170, .inr (.inl g_work))), (c_root, .inl (TY 1, 170, .inr (.inl g_root)))] t) (va_A [(h0, .inr (6, [.int v_failed, .ref c_counts, .ref c_text, .int v_size, .ref c_rows, .ref c_rowKind, .ref c_rowSize, .int v_neg, .int v_nan, .int v_inf, .long v_m, .int v_n, .ref c_num, .ref c_den, .ref c_work, .ref c_root, .int v_at, .int v_end, .int v_fault, .int v_digits])), (c_counts, .inl (TY 0, 10, .inl g_counts)), (c_text, .inl (TY 0, 60, .inl g_text)), (c_rows, .inl (TY 1, 320, .inr (.inl g_rows))), (c_rowKind, .inl (TY 0, 8, .inl g_rowKind)), (c_rowSize, .inl (TY 0, 8, .inl g_rowSize)), (c_num, .inl (TY 1, 170, .inr (.inl g_num))), (c_den, .inl (TY 1, 170, .inr (.inl g_den))), (c_work, .inl (TY 1, 170, .inr (.inl g_work))), (c_root, .inl (TY 1, 170, .inr (.inl g_root)))] sz)) 0 0 (va_A [(h0, .inr (6, [.int v_failed, .ref c_counts, .ref c_text, .int v_size, .ref c_rows, .ref c_rowKind, .ref c_rowSize, .int v_neg, .int v_nan, .int v_inf, .long v_m, .int v_n, .ref c_num, .ref c_den, .ref c_work, .ref c_root, .int v_at, .int v_end, .int v_fault, .int v_digits])), (c_counts, .inl (TY 0, 10, .inl g_counts)), (c_text, .inl (TY 0, 60, .inl g_text)), (c_rows, .inl (TY 1, 320, .inr (.inl g_rows))), (c_rowKind, .inl (TY 0, 8, .inl g_rowKind)), (c_rowSize, .inl (TY 0, 8, .inl g_rowSize)), (c_num, .inl (TY 1, 170, .inr (.inl g_num))), (c_den, .inl (TY 1, 170, .inr (.inl g_den))), (c_work, .inl (TY 1, 170, .inr (.inl g_work))), (c_root, .inl (TY 1, 170, .inr (.inl g_root)))] sz) := by
  refine ofWF (cc := cX6_told_2) (maxL := 4) (ret := (Option.some Jvm.ClassFile.FieldType.long)) (plainFor_of_name (by decide)) rfl ?_
  intro p e s m args below meth c s₁ B hml hv
  obtain ⟨rfl, hsz, hP, hK, hD0, hG⟩ := hv
  have hx := B.exec
  have hb := B.bytes
  have hr := B.returns
  have hts0 := atoms_spec (ws := ws_ yX6_told_2 cX6_told_2 4 (Option.some Jvm.ClassFile.FieldType.long)) B.pre
  have hts : ∀ w ∈ lw_all, w.before _ s = true := fun w h => hts0 w (List.mem_cons_of_mem _ h)
  have hown : s.vm.findClass RX6 = some m.cls := findClass_of_methodNamed B.named
  have hlocks := B.notSynchronized
  subst hsz
  have hD := hD0.self (sz := s.heap.size)
  generalize hAe : va_A [(h0, .inr (6, [.int v_failed, .ref c_counts, .ref c_text, .int v_size, .ref c_rows, .ref c_rowKind, .ref c_rowSize, .int v_neg, .int v_nan, .int v_inf, .long v_m, .int v_n, .ref c_num, .ref c_den, .ref c_work, .ref c_root, .int v_at, .int v_end, .int v_fault, .int v_digits])), (c_counts, .inl (TY 0, 10, .inl g_counts)), (c_text, .inl (TY 0, 60, .inl g_text)), (c_rows, .inl (TY 1, 320, .inr (.inl g_rows))), (c_rowKind, .inl (TY 0, 8, .inl g_rowKind)), (c_rowSize, .inl (TY 0, 8, .inl g_rowSize)), (c_num, .inl (TY 1, 170, .inr (.inl g_num))), (c_den, .inl (TY 1, 170, .inr (.inl g_den))), (c_work, .inl (TY 1, 170, .inr (.inl g_work))), (c_root, .inl (TY 1, 170, .inr (.inl g_root)))] s.heap.size = A at hD hG ⊢
  have hA : ∀ q : Nat, s.heap.size ≤ q → A q := fun q h => by rw [← hAe]; exact Or.inr h
  have hS : va_S A s.heap s.heap [] := va_S.rf
  have hP : va_P D vwCl [(h0, .inr (6, [.int v_failed, .ref c_counts, .ref c_text, .int v_size, .ref c_rows, .ref c_rowKind, .ref c_rowSize, .int v_neg, .int v_nan, .int v_inf, .long v_m, .int v_n, .ref c_num, .ref c_den, .ref c_work, .ref c_root, .int v_at, .int v_end, .int v_fault, .int v_digits])), (c_counts, .inl (TY 0, 10, .inl g_counts)), (c_text, .inl (TY 0, 60, .inl g_text)), (c_rows, .inl (TY 1, 320, .inr (.inl g_rows))), (c_rowKind, .inl (TY 0, 8, .inl g_rowKind)), (c_rowSize, .inl (TY 0, 8, .inl g_rowSize)), (c_num, .inl (TY 1, 170, .inr (.inl g_num))), (c_den, .inl (TY 1, 170, .inr (.inl g_den))), (c_work, .inl (TY 1, 170, .inr (.inl g_work))), (c_root, .inl (TY 1, 170, .inr (.inl g_root)))] s.heap := hP
  have hl := lv_entry ([.ref h0, .int p1, .long p2]) (n := 4) (Nat.le_of_ble_eq_true rfl)
  rw [lg_entry_eq]
  generalize (lg_sl ([.ref h0, .int p1, .long p2]) ++ List.replicate (4 - (lg_sl ([.ref h0, .int p1, .long p2])).length) Slot.unset).toArray = ls at hl ⊢
  have hl : lv_has ls 4 [(0, .ref h0), (1, .int p1), (2, .long p2)] := hl
  unfold wX6_told_2 at hw
  refine lv_aload_n hx hb dX6_told_2_0 rfl (lv_at hl 0 rfl) ?_
  refine lv_iload_n hx hb dX6_told_2_1 rfl (lv_at hl 1 rfl) ?_
  refine lv_lload_n hx hb dX6_told_2_2 rfl (lv_at hl 2 rfl) ?_
  have hPc := hP.sub (ws' := [(h0, .inr (6, [.int v_failed, .ref c_counts, .ref c_text, .int v_size, .ref c_rows, .ref c_rowKind, .ref c_rowSize, .int v_neg, .int v_nan, .int v_inf, .long v_m, .int v_n, .ref c_num, .ref c_den, .ref c_work, .ref c_root, .int v_at, .int v_end, .int v_fault, .int v_digits])), (c_counts, .inl (TY 0, 10, .inl g_counts)), (c_text, .inl (TY 0, 60, .inl g_text)), (c_rows, .inl (TY 1, 320, .inr (.inl g_rows))), (c_rowKind, .inl (TY 0, 8, .inl g_rowKind)), (c_rowSize, .inl (TY 0, 8, .inl g_rowSize)), (c_num, .inl (TY 1, 170, .inr (.inl g_num))), (c_den, .inl (TY 1, 170, .inr (.inl g_den))), (c_work, .inl (TY 1, 170, .inr (.inl g_work))), (c_root, .inl (TY 1, 170, .inr (.inl g_root)))]) [0, 1, 2, 3, 4, 5, 6, 7, 8, 9] rfl
  have hDc := hD.sub (ws' := [(h0, .inr (6, [.int v_failed, .ref c_counts, .ref c_text, .int v_size, .ref c_rows, .ref c_rowKind, .ref c_rowSize, .int v_neg, .int v_nan, .int v_inf, .long v_m, .int v_n, .ref c_num, .ref c_den, .ref c_work, .ref c_root, .int v_at, .int v_end, .int v_fault, .int v_digits])), (c_counts, .inl (TY 0, 10, .inl g_counts)), (c_text, .inl (TY 0, 60, .inl g_text)), (c_rows, .inl (TY 1, 320, .inr (.inl g_rows))), (c_rowKind, .inl (TY 0, 8, .inl g_rowKind)), (c_rowSize, .inl (TY 0, 8, .inl g_rowSize)), (c_num, .inl (TY 1, 170, .inr (.inl g_num))), (c_den, .inl (TY 1, 170, .inr (.inl g_den))), (c_work, .inl (TY 1, 170, .inr (.inl g_work))), (c_root, .inl (TY 1, 170, .inr (.inl g_root)))]) [0, 1, 2, 3, 4, 5, 6, 7, 8, 9] (by decide) rfl
  have hFc := va_free (wc := [(h0, .inr (6, [.int v_failed, .ref c_counts, .ref c_text, .int v_size, .ref c_rows, .ref c_rowKind, .ref c_rowSize, .int v_neg, .int v_nan, .int v_inf, .long v_m, .int v_n, .ref c_num, .ref c_den, .ref c_work, .ref c_root, .int v_at, .int v_end, .int v_fault, .int v_digits])), (c_counts, .inl (TY 0, 10, .inl g_counts)), (c_text, .inl (TY 0, 60, .inl g_text)), (c_rows, .inl (TY 1, 320, .inr (.inl g_rows))), (c_rowKind, .inl (TY 0, 8, .inl g_rowKind)), (c_rowSize, .inl (TY 0, 8, .inl g_rowSize)), (c_num, .inl (TY 1, 170, .inr (.inl g_num))), (c_den, .inl (TY 1, 170, .inr (.inl g_den))), (c_work, .inl (TY 1, 170, .inr (.inl g_work))), (c_root, .inl (TY 1, 170, .inr (.inl g_root)))]) hD hS hA [0, 1, 2, 3, 4, 5, 6, 7, 8, 9] rfl
  refine va_callv (va_runV (As := [.int p1, .long p2]) (rest := []) ⟨hx, hb, hml, hown, hts⟩ (mX6_take l D TY s.heap.size h0 c_counts c_text c_rows c_rowKind c_rowSize c_num c_den c_work c_root v_failed v_size v_neg v_nan v_inf v_m v_n v_at v_end v_fault v_digits g_counts g_text g_rows g_rowKind g_rowSize g_num g_den g_work g_root p1 p2 _ hw) (cwV 2 hts (lw_V q1236 q1238 qs19 q50 q1239) rfl rfl rfl ⟨rfl, hd_X6_take⟩ ⟨Nat.le_of_ble_eq_true rfl, Nat.le_of_ble_eq_true rfl⟩) (PC.V (q0 := 0) (ci := 6) hPc hDc hFc hK hG hS rfl rfl) rfl rfl hl.1 rfl (lv_room (Nat.le_of_ble_eq_true rfl)) dX6_told_2_3 ⟨Nat.le_of_ble_eq_true rfl, Nat.le_of_ble_eq_true rfl⟩) hS (fun q _ h => hFc q h) hFc (fun u2 t H1 locs ht hvm hw hB hz1 hk1 hS => ?_)
  obtain ⟨hP, hD⟩ := BB.join (wr := []) (w1 := [(h0, .inr (6, [.int v_failed, .ref c_counts, .ref c_text, .int v_size, .ref c_rows, .ref c_rowKind, .ref c_rowSize, .int u2.1, .int u2.2.1, .int u2.2.2.1, .long u2.2.2.2.1, .int u2.2.2.2.2, .ref c_num, .ref c_den, .ref c_work, .ref c_root, .int v_at, .int v_end, .int v_fault, .int v_digits])), (c_counts, .inl (TY 0, 10, .inl g_counts)), (c_text, .inl (TY 0, 60, .inl g_text)), (c_rows, .inl (TY 1, 320, .inr (.inl g_rows))), (c_rowKind, .inl (TY 0, 8, .inl g_rowKind)), (c_rowSize, .inl (TY 0, 8, .inl g_rowSize)), (c_num, .inl (TY 1, 170, .inr (.inl g_num))), (c_den, .inl (TY 1, 170, .inr (.inl g_den))), (c_work, .inl (TY 1, 170, .inr (.inl g_work))), (c_root, .inl (TY 1, 170, .inr (.inl g_root)))]) hB ht hP hD [0, 1, 2, 3, 4, 5, 6, 7, 8, 9] [] rfl rfl (by decide) (by decide) hk1 hFc
  generalize H1 = H at hP hS ⊢
  have hP : va_P D vwCl [(h0, .inr (6, [.int v_failed, .ref c_counts, .ref c_text, .int v_size, .ref c_rows, .ref c_rowKind, .ref c_rowSize, .int u2.1, .int u2.2.1, .int u2.2.2.1, .long u2.2.2.2.1, .int u2.2.2.2.2, .ref c_num, .ref c_den, .ref c_work, .ref c_root, .int v_at, .int v_end, .int v_fault, .int v_digits])), (c_counts, .inl (TY 0, 10, .inl g_counts)), (c_text, .inl (TY 0, 60, .inl g_text)), (c_rows, .inl (TY 1, 320, .inr (.inl g_rows))), (c_rowKind, .inl (TY 0, 8, .inl g_rowKind)), (c_rowSize, .inl (TY 0, 8, .inl g_rowSize)), (c_num, .inl (TY 1, 170, .inr (.inl g_num))), (c_den, .inl (TY 1, 170, .inr (.inl g_den))), (c_work, .inl (TY 1, 170, .inr (.inl g_work))), (c_root, .inl (TY 1, 170, .inr (.inl g_root)))] H := hP
  have hD : va_D A [(h0, .inr (6, [.int v_failed, .ref c_counts, .ref c_text, .int v_size, .ref c_rows, .ref c_rowKind, .ref c_rowSize, .int u2.1, .int u2.2.1, .int u2.2.2.1, .long u2.2.2.2.1, .int u2.2.2.2.2, .ref c_num, .ref c_den, .ref c_work, .ref c_root, .int v_at, .int v_end, .int v_fault, .int v_digits])), (c_counts, .inl (TY 0, 10, .inl g_counts)), (c_text, .inl (TY 0, 60, .inl g_text)), (c_rows, .inl (TY 1, 320, .inr (.inl g_rows))), (c_rowKind, .inl (TY 0, 8, .inl g_rowKind)), (c_rowSize, .inl (TY 0, 8, .inl g_rowSize)), (c_num, .inl (TY 1, 170, .inr (.inl g_num))), (c_den, .inl (TY 1, 170, .inr (.inl g_den))), (c_work, .inl (TY 1, 170, .inr (.inl g_work))), (c_root, .inl (TY 1, 170, .inr (.inl g_root)))] := hD
  refine lv_aload_n hx hb dX6_told_2_6 rfl (lv_at hl 0 rfl) ?_
  refine va_get (D := D) (ci := 6) (v := .int u2.2.1) (C := RX6) (T := TX6) (N := 20) hx hb hts in_X6 hown hK hP 0 rfl rfl 8 (by decide) (hts _ q1155) (fun _ h9 => h9) rfl dX6_told_2_7 ?_
  obtain ⟨PJx3, hPJx3⟩ : ∃ P : Int64 → Prop, ∀ x3 : Int64, P x3 ↔ ∀ ls : Array Slot, lv_has ls 4 [] → W p l e (headSpec (ws_ yX6_told_2 cX6_told_2 4 (Option.some Jvm.ClassFile.FieldType.long)) ({ frames := 2, cells := 0, slots := 0, locals := 50 })).room s m ([.ref h0, .int p1, .long p2] : List Value).toArray below meth c H locs 0 0 (MQ below (va_Ql post (fun (u : Int32 × Int32 × Int32 × Int64 × Int32) t => BB D TY A [(h0, .inr (6, [.int v_failed, .ref c_counts, .ref c_text, .int v_size, .ref c_rows, .ref c_rowKind, .ref c_rowSize, .int u.1, .int u.2.1, .int u.2.2.1, .long u.2.2.2.1, .int u.2.2.2.2, .ref c_num, .ref c_den, .ref c_work, .ref c_root, .int v_at, .int v_end, .int v_fault, .int v_digits])), (c_counts, .inl (TY 0, 10, .inl g_counts)), (c_text, .inl (TY 0, 60, .inl g_text)), (c_rows, .inl (TY 1, 320, .inr (.inl g_rows))), (c_rowKind, .inl (TY 0, 8, .inl g_rowKind)), (c_rowSize, .inl (TY 0, 8, .inl g_rowSize)), (c_num, .inl (TY 1, 170, .inr (.inl g_num))), (c_den, .inl (TY 1, 170, .inr (.inl g_den))), (c_work, .inl (TY 1, 170, .inr (.inl g_work))), (c_root, .inl (TY 1, 170, .inr (.inl g_root)))] t) A) ([.ref h0, .int p1, .long p2] : List Value).toArray s 0 0 A) (F0 m 31 ls [.long x3]) := ⟨_, fun _ => Iff.rfl⟩
  have hjx3 : ∀ x3 : Int64, x3 = (if u2.2.1 = 0 then (if p1 = 0 then p2.toInt32.toInt64 else p2) else (fX6_nanOf p1)) → PJx3 x3 := by
    intro x3 ex3
    rw [hPJx3]
    intro ls hl
    replace hw := hw x3 ex3
    have hP9 := hP.sub (ws' := [(h0, .inr (6, [.int v_failed, .ref c_counts, .ref c_text, .int v_size, .ref c_rows, .ref c_rowKind, .ref c_rowSize, .int u2.1, .int u2.2.1, .int u2.2.2.1, .long u2.2.2.2.1, .int u2.2.2.2.2, .ref c_num, .ref c_den, .ref c_work, .ref c_root, .int v_at, .int v_end, .int v_fault, .int v_digits])), (c_counts, .inl (TY 0, 10, .inl g_counts)), (c_text, .inl (TY 0, 60, .inl g_text)), (c_rows, .inl (TY 1, 320, .inr (.inl g_rows))), (c_rowKind, .inl (TY 0, 8, .inl g_rowKind)), (c_rowSize, .inl (TY 0, 8, .inl g_rowSize)), (c_num, .inl (TY 1, 170, .inr (.inl g_num))), (c_den, .inl (TY 1, 170, .inr (.inl g_den))), (c_work, .inl (TY 1, 170, .inr (.inl g_work))), (c_root, .inl (TY 1, 170, .inr (.inl g_root)))]) [0, 1, 2, 3, 4, 5, 6, 7, 8, 9] rfl
    have hD9 := hD.sub (ws' := [(h0, .inr (6, [.int v_failed, .ref c_counts, .ref c_text, .int v_size, .ref c_rows, .ref c_rowKind, .ref c_rowSize, .int u2.1, .int u2.2.1, .int u2.2.2.1, .long u2.2.2.2.1, .int u2.2.2.2.2, .ref c_num, .ref c_den, .ref c_work, .ref c_root, .int v_at, .int v_end, .int v_fault, .int v_digits])), (c_counts, .inl (TY 0, 10, .inl g_counts)), (c_text, .inl (TY 0, 60, .inl g_text)), (c_rows, .inl (TY 1, 320, .inr (.inl g_rows))), (c_rowKind, .inl (TY 0, 8, .inl g_rowKind)), (c_rowSize, .inl (TY 0, 8, .inl g_rowSize)), (c_num, .inl (TY 1, 170, .inr (.inl g_num))), (c_den, .inl (TY 1, 170, .inr (.inl g_den))), (c_work, .inl (TY 1, 170, .inr (.inl g_work))), (c_root, .inl (TY 1, 170, .inr (.inl g_root)))]) [0, 1, 2, 3, 4, 5, 6, 7, 8, 9] (by decide) rfl
    exact W.lret (v := x3) hx hb hr (fun t ht hW => ⟨⟨x3, (u2.1, u2.2.1, u2.2.2.1, u2.2.2.2.1, u2.2.2.2.2), rfl, hw, BB.mk hP9 hD9 hK ht hW⟩, hS.F ht⟩) hS.2.2 dX6_told_2_31
  replace hjx3 := hjx3 _ rfl
  refine lv_if_eq (tgt := 20) hx hb dX6_told_2_10 (by decide) (fun c4 => ?_) (fun c4 => ?_)
  · replace hjx3 := pf_t (P := PJx3) c4 hjx3
    refine lv_iload_n hx hb dX6_told_2_20 rfl (lv_at hl 1 rfl) ?_
    refine lv_if_ne (tgt := 30) hx hb dX6_told_2_21 (by decide) (fun c5 => ?_) (fun c5 => ?_)
    · replace hjx3 := pf_f (P := PJx3) c5 hjx3
      refine lv_lload_n hx hb dX6_told_2_30 rfl (lv_at hl 2 rfl) ?_
      exact (hPJx3 _).1 hjx3 _ (lv_sub hl [] rfl)
    · replace hjx3 := pf_t (P := PJx3) c5 hjx3
      refine lv_lload_n hx hb dX6_told_2_24 rfl (lv_at hl 2 rfl) ?_
      refine lv_l2i (v := p2.toInt32) hx hb dX6_told_2_25 rfl ?_
      refine lv_i2l (v := p2.toInt32.toInt64) hx hb dX6_told_2_26 rfl ?_
      refine lv_goto (tgt := 31) hx hb dX6_told_2_27 (by decide) ?_
      exact (hPJx3 _).1 hjx3 _ (lv_sub hl [] rfl)
  · replace hjx3 := pf_f (P := PJx3) c4 hjx3
    refine lv_iload_n hx hb dX6_told_2_13 rfl (lv_at hl 1 rfl) ?_
    refine cSl (v := fX6_nanOf p1) (W.runS (As := [.int p1]) (rest := []) ⟨hx, hb, hml, hown, hts⟩ (mX6_nanOf l D TY p1 (fun r => r = fX6_nanOf p1) rfl) (va_cwS 1 hts (lw_S q1317 q1318 q50 q1319) rfl rfl rfl hd_X6_nanOf ⟨Nat.le_of_ble_eq_true rfl, Nat.le_of_ble_eq_true rfl⟩) (PR.S hP [] rfl hK hG hS) rfl rfl hl.1 rfl (lv_room (Nat.le_of_ble_eq_true rfl)) dX6_told_2_14 ⟨Nat.le_of_ble_eq_true rfl, Nat.le_of_ble_eq_true rfl⟩) ?_
    refine lv_goto (tgt := 31) hx hb dX6_told_2_17 (by decide) ?_
    exact (hPJx3 _).1 hjx3 _ (lv_sub hl [] rfl)

def wX6_isFinite (p1 : Int32) (p2 : Int64) (post : Int32 → (Int32 × Int32 × Int32 × Int64 × Int32) → Prop) : Prop := wX6_take p1 p2 (fun u2 => (∀ x3 : Int32, x3 = (if u2.2.1 = 0 then (if u2.2.2.1 = 0 then 1 else 0) else 0) → post x3 (u2.1, u2.2.1, u2.2.2.1, u2.2.2.2.1, u2.2.2.2.2)))
set_option maxHeartbeats 4000000 in
set_option maxRecDepth 100000 in
theorem mX6_isFinite (l : Launch) (D : va_G) (TY : Nat → ClassId) (sz : Nat) (h0 : Nat) (c_counts : Nat) (c_text : Nat) (c_rows : Nat) (c_rowKind : Nat) (c_rowSize : Nat) (c_num : Nat) (c_den : Nat) (c_work : Nat) (c_root : Nat) (v_failed : Int32) (v_size : Int32) (v_neg : Int32) (v_nan : Int32) (v_inf : Int32) (v_m : Int64) (v_n : Int32) (v_at : Int32) (v_end : Int32) (v_fault : Int32) (v_digits : Int32) (g_counts : Nat → Int32) (g_text : Nat → Int32) (g_rows : Nat → Int64) (g_rowKind : Nat → Int32) (g_rowSize : Nat → Int32) (g_num : Nat → Int64) (g_den : Nat → Int64) (g_work : Nat → Int64) (g_root : Nat → Int64) (p1 : Int32) (p2 : Int64) (post : Int32 → (Int32 × Int32 × Int32 × Int64 × Int32) → Prop) (hw : wX6_isFinite p1 p2 post) : Met l yX6_isFinite (ws_ yX6_isFinite cX6_isFinite 4 (Option.some Jvm.ClassFile.FieldType.boolean)) ({ frames := 2, cells := 0, slots := 0, locals := 50 }) (PC D TY [.ref h0, .int p1, .long p2] sz [(h0, .inr (6, [.int v_failed, .ref c_counts, .ref c_text, .int v_size, .ref c_rows, .ref c_rowKind, .ref c_rowSize, .int v_neg, .int v_nan, .int v_inf, .long v_m, .int v_n, .ref c_num, .ref c_den, .ref c_work, .ref c_root, .int v_at, .int v_end, .int v_fault, .int v_digits])), (c_counts, .inl (TY 0, 10, .inl g_counts)), (c_text, .inl (TY 0, 60, .inl g_text)), (c_rows, .inl (TY 1, 320, .inr (.inl g_rows))), (c_rowKind, .inl (TY 0, 8, .inl g_rowKind)), (c_rowSize, .inl (TY 0, 8, .inl g_rowSize)), (c_num, .inl (TY 1, 170, .inr (.inl g_num))), (c_den, .inl (TY 1, 170, .inr (.inl g_den))), (c_work, .inl (TY 1, 170, .inr (.inl g_work))), (c_root, .inl (TY 1, 170, .inr (.inl g_root)))]) (va_Qi post (fun (u : Int32 × Int32 × Int32 × Int64 × Int32) t => BB D TY (va_A [(h0, .inr (6, [.int v_failed, .ref c_counts, .ref c_text, .int v_size, .ref c_rows, .ref c_rowKind, .ref c_rowSize, .int v_neg, .int v_nan, .int v_inf, .long v_m, .int v_n, .ref c_num, .ref c_den, .ref c_work, .ref c_root, .int v_at, .int v_end, .int v_fault, .int v_digits])), (c_counts, .inl (TY 0, 10, .inl g_counts)), (c_text, .inl (TY 0, 60, .inl g_text)), (c_rows, .inl (TY 1, 320, .inr (.inl g_rows))), (c_rowKind, .inl (TY 0, 8, .inl g_rowKind)), (c_rowSize, .inl (TY 0, 8, .inl g_rowSize)), (c_num, .inl (TY 1, 170, .inr (.inl g_num))), (c_den, .inl (TY 1, 170, .inr (.inl g_den))), (c_work, .inl (TY 1, 170, .inr (.inl g_work))), (c_root, .inl (TY 1, 170, .inr (.inl g_root)))] sz) [(h0, .inr (6, [.int v_failed, .ref c_counts, .ref c_text, .int v_size, .ref c_rows, .ref c_rowKind, .ref c_rowSize, .int u.1, .int u.2.1, .int u.2.2.1, .long u.2.2.2.1, .int u.2.2.2.2, .ref c_num, .ref c_den, .ref c_work, .ref c_root, .int v_at, .int v_end, .int v_fault, .int v_digits])), (c_counts, .inl (TY 0, 10, .inl g_counts)), (c_text, .inl (TY 0, 60, .inl g_text)), (c_rows, .inl (TY 1, 320, .inr (.inl g_rows))), (c_rowKind, .inl (TY 0, 8, .inl g_rowKind)), (c_rowSize, .inl (TY 0, 8, .inl g_rowSize)), (c_num, .inl (TY 1, 170, .inr (.inl g_num))), (c_den, .inl (TY 1, 170, .inr (.inl g_den))), (c_work, .inl (TY 1, 170, .inr (.inl g_work))), (c_root, .inl (TY 1, 170, .inr (.inl g_root)))] t) (va_A [(h0, .inr (6, [.int v_failed, .ref c_counts, .ref c_text, .int v_size, .ref c_rows, .ref c_rowKind, .ref c_rowSize, .int v_neg, .int v_nan, .int v_inf, .long v_m, .int v_n, .ref c_num, .ref c_den, .ref c_work, .ref c_root, .int v_at, .int v_end, .int v_fault, .int v_digits])), (c_counts, .inl (TY 0, 10, .inl g_counts)), (c_text, .inl (TY 0, 60, .inl g_text)), (c_rows, .inl (TY 1, 320, .inr (.inl g_rows))), (c_rowKind, .inl (TY 0, 8, .inl g_rowKind)), (c_rowSize, .inl (TY 0, 8, .inl g_rowSize)), (c_num, .inl (TY 1, 170, .inr (.inl g_num))), (c_den, .inl (TY 1, 170, .inr (.inl g_den))), (c_work, .inl (TY 1, 170, .inr (.inl g_work))), (c_root, .inl (TY 1, 170, .inr (.inl g_root)))] sz)) 0 0 (va_A [(h0, .inr (6, [.int v_failed, .ref c_counts, .ref c_text, .int v_size, .ref c_rows, .ref c_rowKind, .ref c_rowSize, .int v_neg, .int v_nan, .int v_inf, .long v_m, .int v_n, .ref c_num, .ref c_den, .ref c_work, .ref c_root, .int v_at, .int v_end, .int v_fault, .int v_digits])), (c_counts, .inl (TY 0, 10, .inl g_counts)), (c_text, .inl (TY 0, 60, .inl g_text)), (c_rows, .inl (TY 1, 320, .inr (.inl g_rows))), (c_rowKind, .inl (TY 0, 8, .inl g_rowKind)), (c_rowSize, .inl (TY 0, 8, .inl g_rowSize)), (c_num, .inl (TY 1, 170, .inr (.inl g_num))), (c_den, .inl (TY 1, 170, .inr (.inl g_den))), (c_work, .inl (TY 1, 170, .inr (.inl g_work))), (c_root, .inl (TY 1, 170, .inr (.inl g_root)))] sz) := by
  refine ofWF (cc := cX6_isFinite) (maxL := 4) (ret := (Option.some Jvm.ClassFile.FieldType.boolean)) (plainFor_of_name (by decide)) rfl ?_
  intro p e s m args below meth c s₁ B hml hv
  obtain ⟨rfl, hsz, hP, hK, hD0, hG⟩ := hv
  have hx := B.exec
  have hb := B.bytes
  have hr := B.returns
  have hts0 := atoms_spec (ws := ws_ yX6_isFinite cX6_isFinite 4 (Option.some Jvm.ClassFile.FieldType.boolean)) B.pre
  have hts : ∀ w ∈ lw_all, w.before _ s = true := fun w h => hts0 w (List.mem_cons_of_mem _ h)
  have hown : s.vm.findClass RX6 = some m.cls := findClass_of_methodNamed B.named
  have hlocks := B.notSynchronized
  subst hsz
  have hD := hD0.self (sz := s.heap.size)
  generalize hAe : va_A [(h0, .inr (6, [.int v_failed, .ref c_counts, .ref c_text, .int v_size, .ref c_rows, .ref c_rowKind, .ref c_rowSize, .int v_neg, .int v_nan, .int v_inf, .long v_m, .int v_n, .ref c_num, .ref c_den, .ref c_work, .ref c_root, .int v_at, .int v_end, .int v_fault, .int v_digits])), (c_counts, .inl (TY 0, 10, .inl g_counts)), (c_text, .inl (TY 0, 60, .inl g_text)), (c_rows, .inl (TY 1, 320, .inr (.inl g_rows))), (c_rowKind, .inl (TY 0, 8, .inl g_rowKind)), (c_rowSize, .inl (TY 0, 8, .inl g_rowSize)), (c_num, .inl (TY 1, 170, .inr (.inl g_num))), (c_den, .inl (TY 1, 170, .inr (.inl g_den))), (c_work, .inl (TY 1, 170, .inr (.inl g_work))), (c_root, .inl (TY 1, 170, .inr (.inl g_root)))] s.heap.size = A at hD hG ⊢
  have hA : ∀ q : Nat, s.heap.size ≤ q → A q := fun q h => by rw [← hAe]; exact Or.inr h
  have hS : va_S A s.heap s.heap [] := va_S.rf
  have hP : va_P D vwCl [(h0, .inr (6, [.int v_failed, .ref c_counts, .ref c_text, .int v_size, .ref c_rows, .ref c_rowKind, .ref c_rowSize, .int v_neg, .int v_nan, .int v_inf, .long v_m, .int v_n, .ref c_num, .ref c_den, .ref c_work, .ref c_root, .int v_at, .int v_end, .int v_fault, .int v_digits])), (c_counts, .inl (TY 0, 10, .inl g_counts)), (c_text, .inl (TY 0, 60, .inl g_text)), (c_rows, .inl (TY 1, 320, .inr (.inl g_rows))), (c_rowKind, .inl (TY 0, 8, .inl g_rowKind)), (c_rowSize, .inl (TY 0, 8, .inl g_rowSize)), (c_num, .inl (TY 1, 170, .inr (.inl g_num))), (c_den, .inl (TY 1, 170, .inr (.inl g_den))), (c_work, .inl (TY 1, 170, .inr (.inl g_work))), (c_root, .inl (TY 1, 170, .inr (.inl g_root)))] s.heap := hP
  have hl := lv_entry ([.ref h0, .int p1, .long p2]) (n := 4) (Nat.le_of_ble_eq_true rfl)
  rw [lg_entry_eq]
  generalize (lg_sl ([.ref h0, .int p1, .long p2]) ++ List.replicate (4 - (lg_sl ([.ref h0, .int p1, .long p2])).length) Slot.unset).toArray = ls at hl ⊢
  have hl : lv_has ls 4 [(0, .ref h0), (1, .int p1), (2, .long p2)] := hl
  unfold wX6_isFinite at hw
  refine lv_aload_n hx hb dX6_isFinite_0 rfl (lv_at hl 0 rfl) ?_
  refine lv_iload_n hx hb dX6_isFinite_1 rfl (lv_at hl 1 rfl) ?_
  refine lv_lload_n hx hb dX6_isFinite_2 rfl (lv_at hl 2 rfl) ?_
  have hPc := hP.sub (ws' := [(h0, .inr (6, [.int v_failed, .ref c_counts, .ref c_text, .int v_size, .ref c_rows, .ref c_rowKind, .ref c_rowSize, .int v_neg, .int v_nan, .int v_inf, .long v_m, .int v_n, .ref c_num, .ref c_den, .ref c_work, .ref c_root, .int v_at, .int v_end, .int v_fault, .int v_digits])), (c_counts, .inl (TY 0, 10, .inl g_counts)), (c_text, .inl (TY 0, 60, .inl g_text)), (c_rows, .inl (TY 1, 320, .inr (.inl g_rows))), (c_rowKind, .inl (TY 0, 8, .inl g_rowKind)), (c_rowSize, .inl (TY 0, 8, .inl g_rowSize)), (c_num, .inl (TY 1, 170, .inr (.inl g_num))), (c_den, .inl (TY 1, 170, .inr (.inl g_den))), (c_work, .inl (TY 1, 170, .inr (.inl g_work))), (c_root, .inl (TY 1, 170, .inr (.inl g_root)))]) [0, 1, 2, 3, 4, 5, 6, 7, 8, 9] rfl
  have hDc := hD.sub (ws' := [(h0, .inr (6, [.int v_failed, .ref c_counts, .ref c_text, .int v_size, .ref c_rows, .ref c_rowKind, .ref c_rowSize, .int v_neg, .int v_nan, .int v_inf, .long v_m, .int v_n, .ref c_num, .ref c_den, .ref c_work, .ref c_root, .int v_at, .int v_end, .int v_fault, .int v_digits])), (c_counts, .inl (TY 0, 10, .inl g_counts)), (c_text, .inl (TY 0, 60, .inl g_text)), (c_rows, .inl (TY 1, 320, .inr (.inl g_rows))), (c_rowKind, .inl (TY 0, 8, .inl g_rowKind)), (c_rowSize, .inl (TY 0, 8, .inl g_rowSize)), (c_num, .inl (TY 1, 170, .inr (.inl g_num))), (c_den, .inl (TY 1, 170, .inr (.inl g_den))), (c_work, .inl (TY 1, 170, .inr (.inl g_work))), (c_root, .inl (TY 1, 170, .inr (.inl g_root)))]) [0, 1, 2, 3, 4, 5, 6, 7, 8, 9] (by decide) rfl
  have hFc := va_free (wc := [(h0, .inr (6, [.int v_failed, .ref c_counts, .ref c_text, .int v_size, .ref c_rows, .ref c_rowKind, .ref c_rowSize, .int v_neg, .int v_nan, .int v_inf, .long v_m, .int v_n, .ref c_num, .ref c_den, .ref c_work, .ref c_root, .int v_at, .int v_end, .int v_fault, .int v_digits])), (c_counts, .inl (TY 0, 10, .inl g_counts)), (c_text, .inl (TY 0, 60, .inl g_text)), (c_rows, .inl (TY 1, 320, .inr (.inl g_rows))), (c_rowKind, .inl (TY 0, 8, .inl g_rowKind)), (c_rowSize, .inl (TY 0, 8, .inl g_rowSize)), (c_num, .inl (TY 1, 170, .inr (.inl g_num))), (c_den, .inl (TY 1, 170, .inr (.inl g_den))), (c_work, .inl (TY 1, 170, .inr (.inl g_work))), (c_root, .inl (TY 1, 170, .inr (.inl g_root)))]) hD hS hA [0, 1, 2, 3, 4, 5, 6, 7, 8, 9] rfl
  refine va_callv (va_runV (As := [.int p1, .long p2]) (rest := []) ⟨hx, hb, hml, hown, hts⟩ (mX6_take l D TY s.heap.size h0 c_counts c_text c_rows c_rowKind c_rowSize c_num c_den c_work c_root v_failed v_size v_neg v_nan v_inf v_m v_n v_at v_end v_fault v_digits g_counts g_text g_rows g_rowKind g_rowSize g_num g_den g_work g_root p1 p2 _ hw) (cwV 2 hts (lw_V q1236 q1238 qs19 q50 q1239) rfl rfl rfl ⟨rfl, hd_X6_take⟩ ⟨Nat.le_of_ble_eq_true rfl, Nat.le_of_ble_eq_true rfl⟩) (PC.V (q0 := 0) (ci := 6) hPc hDc hFc hK hG hS rfl rfl) rfl rfl hl.1 rfl (lv_room (Nat.le_of_ble_eq_true rfl)) dX6_isFinite_3 ⟨Nat.le_of_ble_eq_true rfl, Nat.le_of_ble_eq_true rfl⟩) hS (fun q _ h => hFc q h) hFc (fun u2 t H1 locs ht hvm hw hB hz1 hk1 hS => ?_)
  obtain ⟨hP, hD⟩ := BB.join (wr := []) (w1 := [(h0, .inr (6, [.int v_failed, .ref c_counts, .ref c_text, .int v_size, .ref c_rows, .ref c_rowKind, .ref c_rowSize, .int u2.1, .int u2.2.1, .int u2.2.2.1, .long u2.2.2.2.1, .int u2.2.2.2.2, .ref c_num, .ref c_den, .ref c_work, .ref c_root, .int v_at, .int v_end, .int v_fault, .int v_digits])), (c_counts, .inl (TY 0, 10, .inl g_counts)), (c_text, .inl (TY 0, 60, .inl g_text)), (c_rows, .inl (TY 1, 320, .inr (.inl g_rows))), (c_rowKind, .inl (TY 0, 8, .inl g_rowKind)), (c_rowSize, .inl (TY 0, 8, .inl g_rowSize)), (c_num, .inl (TY 1, 170, .inr (.inl g_num))), (c_den, .inl (TY 1, 170, .inr (.inl g_den))), (c_work, .inl (TY 1, 170, .inr (.inl g_work))), (c_root, .inl (TY 1, 170, .inr (.inl g_root)))]) hB ht hP hD [0, 1, 2, 3, 4, 5, 6, 7, 8, 9] [] rfl rfl (by decide) (by decide) hk1 hFc
  generalize H1 = H at hP hS ⊢
  have hP : va_P D vwCl [(h0, .inr (6, [.int v_failed, .ref c_counts, .ref c_text, .int v_size, .ref c_rows, .ref c_rowKind, .ref c_rowSize, .int u2.1, .int u2.2.1, .int u2.2.2.1, .long u2.2.2.2.1, .int u2.2.2.2.2, .ref c_num, .ref c_den, .ref c_work, .ref c_root, .int v_at, .int v_end, .int v_fault, .int v_digits])), (c_counts, .inl (TY 0, 10, .inl g_counts)), (c_text, .inl (TY 0, 60, .inl g_text)), (c_rows, .inl (TY 1, 320, .inr (.inl g_rows))), (c_rowKind, .inl (TY 0, 8, .inl g_rowKind)), (c_rowSize, .inl (TY 0, 8, .inl g_rowSize)), (c_num, .inl (TY 1, 170, .inr (.inl g_num))), (c_den, .inl (TY 1, 170, .inr (.inl g_den))), (c_work, .inl (TY 1, 170, .inr (.inl g_work))), (c_root, .inl (TY 1, 170, .inr (.inl g_root)))] H := hP
  have hD : va_D A [(h0, .inr (6, [.int v_failed, .ref c_counts, .ref c_text, .int v_size, .ref c_rows, .ref c_rowKind, .ref c_rowSize, .int u2.1, .int u2.2.1, .int u2.2.2.1, .long u2.2.2.2.1, .int u2.2.2.2.2, .ref c_num, .ref c_den, .ref c_work, .ref c_root, .int v_at, .int v_end, .int v_fault, .int v_digits])), (c_counts, .inl (TY 0, 10, .inl g_counts)), (c_text, .inl (TY 0, 60, .inl g_text)), (c_rows, .inl (TY 1, 320, .inr (.inl g_rows))), (c_rowKind, .inl (TY 0, 8, .inl g_rowKind)), (c_rowSize, .inl (TY 0, 8, .inl g_rowSize)), (c_num, .inl (TY 1, 170, .inr (.inl g_num))), (c_den, .inl (TY 1, 170, .inr (.inl g_den))), (c_work, .inl (TY 1, 170, .inr (.inl g_work))), (c_root, .inl (TY 1, 170, .inr (.inl g_root)))] := hD
  refine lv_aload_n hx hb dX6_isFinite_6 rfl (lv_at hl 0 rfl) ?_
  refine va_get (D := D) (ci := 6) (v := .int u2.2.1) (C := RX6) (T := TX6) (N := 20) hx hb hts in_X6 hown hK hP 0 rfl rfl 8 (by decide) (hts _ q1155) (fun _ h9 => h9) rfl dX6_isFinite_7 ?_
  obtain ⟨PJx3, hPJx3⟩ : ∃ P : Int32 → Prop, ∀ x3 : Int32, P x3 ↔ ∀ ls : Array Slot, lv_has ls 4 [] → W p l e (headSpec (ws_ yX6_isFinite cX6_isFinite 4 (Option.some Jvm.ClassFile.FieldType.boolean)) ({ frames := 2, cells := 0, slots := 0, locals := 50 })).room s m ([.ref h0, .int p1, .long p2] : List Value).toArray below meth c H locs 0 0 (MQ below (va_Qi post (fun (u : Int32 × Int32 × Int32 × Int64 × Int32) t => BB D TY A [(h0, .inr (6, [.int v_failed, .ref c_counts, .ref c_text, .int v_size, .ref c_rows, .ref c_rowKind, .ref c_rowSize, .int u.1, .int u.2.1, .int u.2.2.1, .long u.2.2.2.1, .int u.2.2.2.2, .ref c_num, .ref c_den, .ref c_work, .ref c_root, .int v_at, .int v_end, .int v_fault, .int v_digits])), (c_counts, .inl (TY 0, 10, .inl g_counts)), (c_text, .inl (TY 0, 60, .inl g_text)), (c_rows, .inl (TY 1, 320, .inr (.inl g_rows))), (c_rowKind, .inl (TY 0, 8, .inl g_rowKind)), (c_rowSize, .inl (TY 0, 8, .inl g_rowSize)), (c_num, .inl (TY 1, 170, .inr (.inl g_num))), (c_den, .inl (TY 1, 170, .inr (.inl g_den))), (c_work, .inl (TY 1, 170, .inr (.inl g_work))), (c_root, .inl (TY 1, 170, .inr (.inl g_root)))] t) A) ([.ref h0, .int p1, .long p2] : List Value).toArray s 0 0 A) (F0 m 25 ls [.int x3]) := ⟨_, fun _ => Iff.rfl⟩
  have hjx3 : ∀ x3 : Int32, x3 = (if u2.2.1 = 0 then (if u2.2.2.1 = 0 then 1 else 0) else 0) → PJx3 x3 := by
    intro x3 ex3
    rw [hPJx3]
    intro ls hl
    replace hw := hw x3 ex3
    have hP9 := hP.sub (ws' := [(h0, .inr (6, [.int v_failed, .ref c_counts, .ref c_text, .int v_size, .ref c_rows, .ref c_rowKind, .ref c_rowSize, .int u2.1, .int u2.2.1, .int u2.2.2.1, .long u2.2.2.2.1, .int u2.2.2.2.2, .ref c_num, .ref c_den, .ref c_work, .ref c_root, .int v_at, .int v_end, .int v_fault, .int v_digits])), (c_counts, .inl (TY 0, 10, .inl g_counts)), (c_text, .inl (TY 0, 60, .inl g_text)), (c_rows, .inl (TY 1, 320, .inr (.inl g_rows))), (c_rowKind, .inl (TY 0, 8, .inl g_rowKind)), (c_rowSize, .inl (TY 0, 8, .inl g_rowSize)), (c_num, .inl (TY 1, 170, .inr (.inl g_num))), (c_den, .inl (TY 1, 170, .inr (.inl g_den))), (c_work, .inl (TY 1, 170, .inr (.inl g_work))), (c_root, .inl (TY 1, 170, .inr (.inl g_root)))]) [0, 1, 2, 3, 4, 5, 6, 7, 8, 9] rfl
    have hD9 := hD.sub (ws' := [(h0, .inr (6, [.int v_failed, .ref c_counts, .ref c_text, .int v_size, .ref c_rows, .ref c_rowKind, .ref c_rowSize, .int u2.1, .int u2.2.1, .int u2.2.2.1, .long u2.2.2.2.1, .int u2.2.2.2.2, .ref c_num, .ref c_den, .ref c_work, .ref c_root, .int v_at, .int v_end, .int v_fault, .int v_digits])), (c_counts, .inl (TY 0, 10, .inl g_counts)), (c_text, .inl (TY 0, 60, .inl g_text)), (c_rows, .inl (TY 1, 320, .inr (.inl g_rows))), (c_rowKind, .inl (TY 0, 8, .inl g_rowKind)), (c_rowSize, .inl (TY 0, 8, .inl g_rowSize)), (c_num, .inl (TY 1, 170, .inr (.inl g_num))), (c_den, .inl (TY 1, 170, .inr (.inl g_den))), (c_work, .inl (TY 1, 170, .inr (.inl g_work))), (c_root, .inl (TY 1, 170, .inr (.inl g_root)))]) [0, 1, 2, 3, 4, 5, 6, 7, 8, 9] (by decide) rfl
    exact W.zret (v := x3) hx hb hr (by rw [ex3]; exact (zb_ite (zb_ite rfl rfl) rfl)) (fun t ht hW => ⟨⟨x3, (u2.1, u2.2.1, u2.2.2.1, u2.2.2.2.1, u2.2.2.2.2), rfl, hw, BB.mk hP9 hD9 hK ht hW⟩, hS.F ht⟩) hS.2.2 dX6_isFinite_25
  replace hjx3 := hjx3 _ rfl
  refine lv_if_ne (tgt := 24) hx hb dX6_isFinite_10 (by decide) (fun c4 => ?_) (fun c4 => ?_)
  · replace hjx3 := pf_f (P := PJx3) c4 hjx3
    refine lv_iconst (v := 0) hx hb dX6_isFinite_24 (by decide) ?_
    exact (hPJx3 _).1 hjx3 _ (lv_sub hl [] rfl)
  · replace hjx3 := pf_t (P := PJx3) c4 hjx3
    refine lv_aload_n hx hb dX6_isFinite_13 rfl (lv_at hl 0 rfl) ?_
    refine va_get (D := D) (ci := 6) (v := .int u2.2.2.1) (C := RX6) (T := TX6) (N := 20) hx hb hts in_X6 hown hK hP 0 rfl rfl 9 (by decide) (hts _ q1156) (fun _ h9 => h9) rfl dX6_isFinite_14 ?_
    refine lv_if_ne (tgt := 24) hx hb dX6_isFinite_17 (by decide) (fun c5 => ?_) (fun c5 => ?_)
    · replace hjx3 := pf_f (P := PJx3) c5 hjx3
      refine lv_iconst (v := 0) hx hb dX6_isFinite_24 (by decide) ?_
      exact (hPJx3 _).1 hjx3 _ (lv_sub hl [] rfl)
    · replace hjx3 := pf_t (P := PJx3) c5 hjx3
      refine lv_iconst (v := 1) hx hb dX6_isFinite_20 (by decide) ?_
      refine lv_goto (tgt := 25) hx hb dX6_isFinite_21 (by decide) ?_
      exact (hPJx3 _).1 hjx3 _ (lv_sub hl [] rfl)

def wX6_infiniteOf (p1 : Int32) (p2 : Int64) (post : Int32 → (Int32 × Int32 × Int32 × Int64 × Int32) → Prop) : Prop := wX6_take p1 p2 (fun u2 => (Zb u2.2.2.1) ∧ post u2.2.2.1 (u2.1, u2.2.1, u2.2.2.1, u2.2.2.2.1, u2.2.2.2.2))
set_option maxHeartbeats 4000000 in
set_option maxRecDepth 100000 in
theorem mX6_infiniteOf (l : Launch) (D : va_G) (TY : Nat → ClassId) (sz : Nat) (h0 : Nat) (c_counts : Nat) (c_text : Nat) (c_rows : Nat) (c_rowKind : Nat) (c_rowSize : Nat) (c_num : Nat) (c_den : Nat) (c_work : Nat) (c_root : Nat) (v_failed : Int32) (v_size : Int32) (v_neg : Int32) (v_nan : Int32) (v_inf : Int32) (v_m : Int64) (v_n : Int32) (v_at : Int32) (v_end : Int32) (v_fault : Int32) (v_digits : Int32) (g_counts : Nat → Int32) (g_text : Nat → Int32) (g_rows : Nat → Int64) (g_rowKind : Nat → Int32) (g_rowSize : Nat → Int32) (g_num : Nat → Int64) (g_den : Nat → Int64) (g_work : Nat → Int64) (g_root : Nat → Int64) (p1 : Int32) (p2 : Int64) (post : Int32 → (Int32 × Int32 × Int32 × Int64 × Int32) → Prop) (hw : wX6_infiniteOf p1 p2 post) : Met l yX6_infiniteOf (ws_ yX6_infiniteOf cX6_infiniteOf 4 (Option.some Jvm.ClassFile.FieldType.boolean)) ({ frames := 2, cells := 0, slots := 0, locals := 50 }) (PC D TY [.ref h0, .int p1, .long p2] sz [(h0, .inr (6, [.int v_failed, .ref c_counts, .ref c_text, .int v_size, .ref c_rows, .ref c_rowKind, .ref c_rowSize, .int v_neg, .int v_nan, .int v_inf, .long v_m, .int v_n, .ref c_num, .ref c_den, .ref c_work, .ref c_root, .int v_at, .int v_end, .int v_fault, .int v_digits])), (c_counts, .inl (TY 0, 10, .inl g_counts)), (c_text, .inl (TY 0, 60, .inl g_text)), (c_rows, .inl (TY 1, 320, .inr (.inl g_rows))), (c_rowKind, .inl (TY 0, 8, .inl g_rowKind)), (c_rowSize, .inl (TY 0, 8, .inl g_rowSize)), (c_num, .inl (TY 1, 170, .inr (.inl g_num))), (c_den, .inl (TY 1, 170, .inr (.inl g_den))), (c_work, .inl (TY 1, 170, .inr (.inl g_work))), (c_root, .inl (TY 1, 170, .inr (.inl g_root)))]) (va_Qi post (fun (u : Int32 × Int32 × Int32 × Int64 × Int32) t => BB D TY (va_A [(h0, .inr (6, [.int v_failed, .ref c_counts, .ref c_text, .int v_size, .ref c_rows, .ref c_rowKind, .ref c_rowSize, .int v_neg, .int v_nan, .int v_inf, .long v_m, .int v_n, .ref c_num, .ref c_den, .ref c_work, .ref c_root, .int v_at, .int v_end, .int v_fault, .int v_digits])), (c_counts, .inl (TY 0, 10, .inl g_counts)), (c_text, .inl (TY 0, 60, .inl g_text)), (c_rows, .inl (TY 1, 320, .inr (.inl g_rows))), (c_rowKind, .inl (TY 0, 8, .inl g_rowKind)), (c_rowSize, .inl (TY 0, 8, .inl g_rowSize)), (c_num, .inl (TY 1, 170, .inr (.inl g_num))), (c_den, .inl (TY 1, 170, .inr (.inl g_den))), (c_work, .inl (TY 1, 170, .inr (.inl g_work))), (c_root, .inl (TY 1, 170, .inr (.inl g_root)))] sz) [(h0, .inr (6, [.int v_failed, .ref c_counts, .ref c_text, .int v_size, .ref c_rows, .ref c_rowKind, .ref c_rowSize, .int u.1, .int u.2.1, .int u.2.2.1, .long u.2.2.2.1, .int u.2.2.2.2, .ref c_num, .ref c_den, .ref c_work, .ref c_root, .int v_at, .int v_end, .int v_fault, .int v_digits])), (c_counts, .inl (TY 0, 10, .inl g_counts)), (c_text, .inl (TY 0, 60, .inl g_text)), (c_rows, .inl (TY 1, 320, .inr (.inl g_rows))), (c_rowKind, .inl (TY 0, 8, .inl g_rowKind)), (c_rowSize, .inl (TY 0, 8, .inl g_rowSize)), (c_num, .inl (TY 1, 170, .inr (.inl g_num))), (c_den, .inl (TY 1, 170, .inr (.inl g_den))), (c_work, .inl (TY 1, 170, .inr (.inl g_work))), (c_root, .inl (TY 1, 170, .inr (.inl g_root)))] t) (va_A [(h0, .inr (6, [.int v_failed, .ref c_counts, .ref c_text, .int v_size, .ref c_rows, .ref c_rowKind, .ref c_rowSize, .int v_neg, .int v_nan, .int v_inf, .long v_m, .int v_n, .ref c_num, .ref c_den, .ref c_work, .ref c_root, .int v_at, .int v_end, .int v_fault, .int v_digits])), (c_counts, .inl (TY 0, 10, .inl g_counts)), (c_text, .inl (TY 0, 60, .inl g_text)), (c_rows, .inl (TY 1, 320, .inr (.inl g_rows))), (c_rowKind, .inl (TY 0, 8, .inl g_rowKind)), (c_rowSize, .inl (TY 0, 8, .inl g_rowSize)), (c_num, .inl (TY 1, 170, .inr (.inl g_num))), (c_den, .inl (TY 1, 170, .inr (.inl g_den))), (c_work, .inl (TY 1, 170, .inr (.inl g_work))), (c_root, .inl (TY 1, 170, .inr (.inl g_root)))] sz)) 0 0 (va_A [(h0, .inr (6, [.int v_failed, .ref c_counts, .ref c_text, .int v_size, .ref c_rows, .ref c_rowKind, .ref c_rowSize, .int v_neg, .int v_nan, .int v_inf, .long v_m, .int v_n, .ref c_num, .ref c_den, .ref c_work, .ref c_root, .int v_at, .int v_end, .int v_fault, .int v_digits])), (c_counts, .inl (TY 0, 10, .inl g_counts)), (c_text, .inl (TY 0, 60, .inl g_text)), (c_rows, .inl (TY 1, 320, .inr (.inl g_rows))), (c_rowKind, .inl (TY 0, 8, .inl g_rowKind)), (c_rowSize, .inl (TY 0, 8, .inl g_rowSize)), (c_num, .inl (TY 1, 170, .inr (.inl g_num))), (c_den, .inl (TY 1, 170, .inr (.inl g_den))), (c_work, .inl (TY 1, 170, .inr (.inl g_work))), (c_root, .inl (TY 1, 170, .inr (.inl g_root)))] sz) := by
  refine ofWF (cc := cX6_infiniteOf) (maxL := 4) (ret := (Option.some Jvm.ClassFile.FieldType.boolean)) (plainFor_of_name (by decide)) rfl ?_
  intro p e s m args below meth c s₁ B hml hv
  obtain ⟨rfl, hsz, hP, hK, hD0, hG⟩ := hv
  have hx := B.exec
  have hb := B.bytes
  have hr := B.returns
  have hts0 := atoms_spec (ws := ws_ yX6_infiniteOf cX6_infiniteOf 4 (Option.some Jvm.ClassFile.FieldType.boolean)) B.pre
  have hts : ∀ w ∈ lw_all, w.before _ s = true := fun w h => hts0 w (List.mem_cons_of_mem _ h)
  have hown : s.vm.findClass RX6 = some m.cls := findClass_of_methodNamed B.named
  have hlocks := B.notSynchronized
  subst hsz
  have hD := hD0.self (sz := s.heap.size)
  generalize hAe : va_A [(h0, .inr (6, [.int v_failed, .ref c_counts, .ref c_text, .int v_size, .ref c_rows, .ref c_rowKind, .ref c_rowSize, .int v_neg, .int v_nan, .int v_inf, .long v_m, .int v_n, .ref c_num, .ref c_den, .ref c_work, .ref c_root, .int v_at, .int v_end, .int v_fault, .int v_digits])), (c_counts, .inl (TY 0, 10, .inl g_counts)), (c_text, .inl (TY 0, 60, .inl g_text)), (c_rows, .inl (TY 1, 320, .inr (.inl g_rows))), (c_rowKind, .inl (TY 0, 8, .inl g_rowKind)), (c_rowSize, .inl (TY 0, 8, .inl g_rowSize)), (c_num, .inl (TY 1, 170, .inr (.inl g_num))), (c_den, .inl (TY 1, 170, .inr (.inl g_den))), (c_work, .inl (TY 1, 170, .inr (.inl g_work))), (c_root, .inl (TY 1, 170, .inr (.inl g_root)))] s.heap.size = A at hD hG ⊢
  have hA : ∀ q : Nat, s.heap.size ≤ q → A q := fun q h => by rw [← hAe]; exact Or.inr h
  have hS : va_S A s.heap s.heap [] := va_S.rf
  have hP : va_P D vwCl [(h0, .inr (6, [.int v_failed, .ref c_counts, .ref c_text, .int v_size, .ref c_rows, .ref c_rowKind, .ref c_rowSize, .int v_neg, .int v_nan, .int v_inf, .long v_m, .int v_n, .ref c_num, .ref c_den, .ref c_work, .ref c_root, .int v_at, .int v_end, .int v_fault, .int v_digits])), (c_counts, .inl (TY 0, 10, .inl g_counts)), (c_text, .inl (TY 0, 60, .inl g_text)), (c_rows, .inl (TY 1, 320, .inr (.inl g_rows))), (c_rowKind, .inl (TY 0, 8, .inl g_rowKind)), (c_rowSize, .inl (TY 0, 8, .inl g_rowSize)), (c_num, .inl (TY 1, 170, .inr (.inl g_num))), (c_den, .inl (TY 1, 170, .inr (.inl g_den))), (c_work, .inl (TY 1, 170, .inr (.inl g_work))), (c_root, .inl (TY 1, 170, .inr (.inl g_root)))] s.heap := hP
  have hl := lv_entry ([.ref h0, .int p1, .long p2]) (n := 4) (Nat.le_of_ble_eq_true rfl)
  rw [lg_entry_eq]
  generalize (lg_sl ([.ref h0, .int p1, .long p2]) ++ List.replicate (4 - (lg_sl ([.ref h0, .int p1, .long p2])).length) Slot.unset).toArray = ls at hl ⊢
  have hl : lv_has ls 4 [(0, .ref h0), (1, .int p1), (2, .long p2)] := hl
  unfold wX6_infiniteOf at hw
  refine lv_aload_n hx hb dX6_infiniteOf_0 rfl (lv_at hl 0 rfl) ?_
  refine lv_iload_n hx hb dX6_infiniteOf_1 rfl (lv_at hl 1 rfl) ?_
  refine lv_lload_n hx hb dX6_infiniteOf_2 rfl (lv_at hl 2 rfl) ?_
  have hPc := hP.sub (ws' := [(h0, .inr (6, [.int v_failed, .ref c_counts, .ref c_text, .int v_size, .ref c_rows, .ref c_rowKind, .ref c_rowSize, .int v_neg, .int v_nan, .int v_inf, .long v_m, .int v_n, .ref c_num, .ref c_den, .ref c_work, .ref c_root, .int v_at, .int v_end, .int v_fault, .int v_digits])), (c_counts, .inl (TY 0, 10, .inl g_counts)), (c_text, .inl (TY 0, 60, .inl g_text)), (c_rows, .inl (TY 1, 320, .inr (.inl g_rows))), (c_rowKind, .inl (TY 0, 8, .inl g_rowKind)), (c_rowSize, .inl (TY 0, 8, .inl g_rowSize)), (c_num, .inl (TY 1, 170, .inr (.inl g_num))), (c_den, .inl (TY 1, 170, .inr (.inl g_den))), (c_work, .inl (TY 1, 170, .inr (.inl g_work))), (c_root, .inl (TY 1, 170, .inr (.inl g_root)))]) [0, 1, 2, 3, 4, 5, 6, 7, 8, 9] rfl
  have hDc := hD.sub (ws' := [(h0, .inr (6, [.int v_failed, .ref c_counts, .ref c_text, .int v_size, .ref c_rows, .ref c_rowKind, .ref c_rowSize, .int v_neg, .int v_nan, .int v_inf, .long v_m, .int v_n, .ref c_num, .ref c_den, .ref c_work, .ref c_root, .int v_at, .int v_end, .int v_fault, .int v_digits])), (c_counts, .inl (TY 0, 10, .inl g_counts)), (c_text, .inl (TY 0, 60, .inl g_text)), (c_rows, .inl (TY 1, 320, .inr (.inl g_rows))), (c_rowKind, .inl (TY 0, 8, .inl g_rowKind)), (c_rowSize, .inl (TY 0, 8, .inl g_rowSize)), (c_num, .inl (TY 1, 170, .inr (.inl g_num))), (c_den, .inl (TY 1, 170, .inr (.inl g_den))), (c_work, .inl (TY 1, 170, .inr (.inl g_work))), (c_root, .inl (TY 1, 170, .inr (.inl g_root)))]) [0, 1, 2, 3, 4, 5, 6, 7, 8, 9] (by decide) rfl
  have hFc := va_free (wc := [(h0, .inr (6, [.int v_failed, .ref c_counts, .ref c_text, .int v_size, .ref c_rows, .ref c_rowKind, .ref c_rowSize, .int v_neg, .int v_nan, .int v_inf, .long v_m, .int v_n, .ref c_num, .ref c_den, .ref c_work, .ref c_root, .int v_at, .int v_end, .int v_fault, .int v_digits])), (c_counts, .inl (TY 0, 10, .inl g_counts)), (c_text, .inl (TY 0, 60, .inl g_text)), (c_rows, .inl (TY 1, 320, .inr (.inl g_rows))), (c_rowKind, .inl (TY 0, 8, .inl g_rowKind)), (c_rowSize, .inl (TY 0, 8, .inl g_rowSize)), (c_num, .inl (TY 1, 170, .inr (.inl g_num))), (c_den, .inl (TY 1, 170, .inr (.inl g_den))), (c_work, .inl (TY 1, 170, .inr (.inl g_work))), (c_root, .inl (TY 1, 170, .inr (.inl g_root)))]) hD hS hA [0, 1, 2, 3, 4, 5, 6, 7, 8, 9] rfl
  refine va_callv (va_runV (As := [.int p1, .long p2]) (rest := []) ⟨hx, hb, hml, hown, hts⟩ (mX6_take l D TY s.heap.size h0 c_counts c_text c_rows c_rowKind c_rowSize c_num c_den c_work c_root v_failed v_size v_neg v_nan v_inf v_m v_n v_at v_end v_fault v_digits g_counts g_text g_rows g_rowKind g_rowSize g_num g_den g_work g_root p1 p2 _ hw) (cwV 2 hts (lw_V q1236 q1238 qs19 q50 q1239) rfl rfl rfl ⟨rfl, hd_X6_take⟩ ⟨Nat.le_of_ble_eq_true rfl, Nat.le_of_ble_eq_true rfl⟩) (PC.V (q0 := 0) (ci := 6) hPc hDc hFc hK hG hS rfl rfl) rfl rfl hl.1 rfl (lv_room (Nat.le_of_ble_eq_true rfl)) dX6_infiniteOf_3 ⟨Nat.le_of_ble_eq_true rfl, Nat.le_of_ble_eq_true rfl⟩) hS (fun q _ h => hFc q h) hFc (fun u2 t H1 locs ht hvm hw hB hz1 hk1 hS => ?_)
  obtain ⟨hP, hD⟩ := BB.join (wr := []) (w1 := [(h0, .inr (6, [.int v_failed, .ref c_counts, .ref c_text, .int v_size, .ref c_rows, .ref c_rowKind, .ref c_rowSize, .int u2.1, .int u2.2.1, .int u2.2.2.1, .long u2.2.2.2.1, .int u2.2.2.2.2, .ref c_num, .ref c_den, .ref c_work, .ref c_root, .int v_at, .int v_end, .int v_fault, .int v_digits])), (c_counts, .inl (TY 0, 10, .inl g_counts)), (c_text, .inl (TY 0, 60, .inl g_text)), (c_rows, .inl (TY 1, 320, .inr (.inl g_rows))), (c_rowKind, .inl (TY 0, 8, .inl g_rowKind)), (c_rowSize, .inl (TY 0, 8, .inl g_rowSize)), (c_num, .inl (TY 1, 170, .inr (.inl g_num))), (c_den, .inl (TY 1, 170, .inr (.inl g_den))), (c_work, .inl (TY 1, 170, .inr (.inl g_work))), (c_root, .inl (TY 1, 170, .inr (.inl g_root)))]) hB ht hP hD [0, 1, 2, 3, 4, 5, 6, 7, 8, 9] [] rfl rfl (by decide) (by decide) hk1 hFc
  generalize H1 = H at hP hS ⊢
  have hP : va_P D vwCl [(h0, .inr (6, [.int v_failed, .ref c_counts, .ref c_text, .int v_size, .ref c_rows, .ref c_rowKind, .ref c_rowSize, .int u2.1, .int u2.2.1, .int u2.2.2.1, .long u2.2.2.2.1, .int u2.2.2.2.2, .ref c_num, .ref c_den, .ref c_work, .ref c_root, .int v_at, .int v_end, .int v_fault, .int v_digits])), (c_counts, .inl (TY 0, 10, .inl g_counts)), (c_text, .inl (TY 0, 60, .inl g_text)), (c_rows, .inl (TY 1, 320, .inr (.inl g_rows))), (c_rowKind, .inl (TY 0, 8, .inl g_rowKind)), (c_rowSize, .inl (TY 0, 8, .inl g_rowSize)), (c_num, .inl (TY 1, 170, .inr (.inl g_num))), (c_den, .inl (TY 1, 170, .inr (.inl g_den))), (c_work, .inl (TY 1, 170, .inr (.inl g_work))), (c_root, .inl (TY 1, 170, .inr (.inl g_root)))] H := hP
  have hD : va_D A [(h0, .inr (6, [.int v_failed, .ref c_counts, .ref c_text, .int v_size, .ref c_rows, .ref c_rowKind, .ref c_rowSize, .int u2.1, .int u2.2.1, .int u2.2.2.1, .long u2.2.2.2.1, .int u2.2.2.2.2, .ref c_num, .ref c_den, .ref c_work, .ref c_root, .int v_at, .int v_end, .int v_fault, .int v_digits])), (c_counts, .inl (TY 0, 10, .inl g_counts)), (c_text, .inl (TY 0, 60, .inl g_text)), (c_rows, .inl (TY 1, 320, .inr (.inl g_rows))), (c_rowKind, .inl (TY 0, 8, .inl g_rowKind)), (c_rowSize, .inl (TY 0, 8, .inl g_rowSize)), (c_num, .inl (TY 1, 170, .inr (.inl g_num))), (c_den, .inl (TY 1, 170, .inr (.inl g_den))), (c_work, .inl (TY 1, 170, .inr (.inl g_work))), (c_root, .inl (TY 1, 170, .inr (.inl g_root)))] := hD
  refine lv_aload_n hx hb dX6_infiniteOf_6 rfl (lv_at hl 0 rfl) ?_
  refine va_get (D := D) (ci := 6) (v := .int u2.2.2.1) (C := RX6) (T := TX6) (N := 20) hx hb hts in_X6 hown hK hP 0 rfl rfl 9 (by decide) (hts _ q1156) (fun _ h9 => h9) rfl dX6_infiniteOf_7 ?_
  have hP9 := hP.sub (ws' := [(h0, .inr (6, [.int v_failed, .ref c_counts, .ref c_text, .int v_size, .ref c_rows, .ref c_rowKind, .ref c_rowSize, .int u2.1, .int u2.2.1, .int u2.2.2.1, .long u2.2.2.2.1, .int u2.2.2.2.2, .ref c_num, .ref c_den, .ref c_work, .ref c_root, .int v_at, .int v_end, .int v_fault, .int v_digits])), (c_counts, .inl (TY 0, 10, .inl g_counts)), (c_text, .inl (TY 0, 60, .inl g_text)), (c_rows, .inl (TY 1, 320, .inr (.inl g_rows))), (c_rowKind, .inl (TY 0, 8, .inl g_rowKind)), (c_rowSize, .inl (TY 0, 8, .inl g_rowSize)), (c_num, .inl (TY 1, 170, .inr (.inl g_num))), (c_den, .inl (TY 1, 170, .inr (.inl g_den))), (c_work, .inl (TY 1, 170, .inr (.inl g_work))), (c_root, .inl (TY 1, 170, .inr (.inl g_root)))]) [0, 1, 2, 3, 4, 5, 6, 7, 8, 9] rfl
  have hD9 := hD.sub (ws' := [(h0, .inr (6, [.int v_failed, .ref c_counts, .ref c_text, .int v_size, .ref c_rows, .ref c_rowKind, .ref c_rowSize, .int u2.1, .int u2.2.1, .int u2.2.2.1, .long u2.2.2.2.1, .int u2.2.2.2.2, .ref c_num, .ref c_den, .ref c_work, .ref c_root, .int v_at, .int v_end, .int v_fault, .int v_digits])), (c_counts, .inl (TY 0, 10, .inl g_counts)), (c_text, .inl (TY 0, 60, .inl g_text)), (c_rows, .inl (TY 1, 320, .inr (.inl g_rows))), (c_rowKind, .inl (TY 0, 8, .inl g_rowKind)), (c_rowSize, .inl (TY 0, 8, .inl g_rowSize)), (c_num, .inl (TY 1, 170, .inr (.inl g_num))), (c_den, .inl (TY 1, 170, .inr (.inl g_den))), (c_work, .inl (TY 1, 170, .inr (.inl g_work))), (c_root, .inl (TY 1, 170, .inr (.inl g_root)))]) [0, 1, 2, 3, 4, 5, 6, 7, 8, 9] (by decide) rfl
  exact W.zret (v := u2.2.2.1) hx hb hr hw.1 (fun t ht hW => ⟨⟨u2.2.2.1, (u2.1, u2.2.1, u2.2.2.1, u2.2.2.2.1, u2.2.2.2.2), rfl, hw.2, BB.mk hP9 hD9 hK ht hW⟩, hS.F ht⟩) hS.2.2 dX6_infiniteOf_10

def wX6_fill_0 (p1 : Int32)  (post : (Int64 × Int32) → Prop) : Nat → Int64 → Int32 → Prop
  | 0, _, _ => False
  | n + 1, v_m', v_n' => ((v_m' < (jshl 1 ((fX6_bitsOf p1) - 1))) → ∀ x2 : Int64, x2 = jshl v_m' 1 → ∀ x3 : Int32, x3 = v_n' - 1 → ((wX6_fill_0 p1 post n) x2 x3)) ∧ (¬ (v_m' < (jshl 1 ((fX6_bitsOf p1) - 1))) → post (v_m', v_n'))
def wX6_fill (v_m : Int64) (v_n : Int32) (p1 : Int32) (post : (Int64 × Int32) → Prop) : Prop := ∃ n, wX6_fill_0 p1 post n v_m v_n
set_option maxHeartbeats 4000000 in
set_option maxRecDepth 100000 in
theorem bX6_fill_0 {p : Program} {l : Launch} {e : Env} {s : State} {m : MethodId} {below : List Frame} {meth : Method} {c : Code} {D : va_G} {TY : Nat → ClassId} {A : Nat → Prop} (h0 : Nat) (c_counts : Nat) (c_text : Nat) (c_rows : Nat) (c_rowKind : Nat) (c_rowSize : Nat) (c_num : Nat) (c_den : Nat) (c_work : Nat) (c_root : Nat) (v_failed : Int32) (v_size : Int32) (v_neg : Int32) (v_nan : Int32) (v_inf : Int32) (v_m : Int64) (v_n : Int32) (v_at : Int32) (v_end : Int32) (v_fault : Int32) (v_digits : Int32) (g_counts : Nat → Int32) (g_text : Nat → Int32) (g_rows : Nat → Int64) (g_rowKind : Nat → Int32) (g_rowSize : Nat → Int32) (g_num : Nat → Int64) (g_den : Nat → Int64) (g_work : Nat → Int64) (g_root : Nat → Int64) (p1 : Int32) (post : (Int64 × Int32) → Prop) (hx : p.tables.exec = Jvm.exec) (hb : c.code = cX6_fill) (hr : meth.sig.returnType = (Option.none : Option Jvm.ClassFile.FieldType)) (hlocks : meth.locks = false) (hml : c.maxLocals = 2) (hown : s.vm.findClass RX6 = some m.cls) (hts : ∀ w ∈ lw_all, w.before ([.ref h0, .int p1] : List Value).toArray s = true) (hK : va_K D vwCl (tyL TY) s) (hG : gz A s s.heap) (hA : ∀ q : Nat, s.heap.size ≤ q → A q) : ∀ (n : Nat) (v_m' : Int64) (v_n' : Int32), wX6_fill_0 p1 post n v_m' v_n' → ∀ (H : Heap) (locs : List Loc), va_P D vwCl [(h0, .inr (6, [.int v_failed, .ref c_counts, .ref c_text, .int v_size, .ref c_rows, .ref c_rowKind, .ref c_rowSize, .int v_neg, .int v_nan, .int v_inf, .long v_m', .int v_n', .ref c_num, .ref c_den, .ref c_work, .ref c_root, .int v_at, .int v_end, .int v_fault, .int v_digits])), (c_counts, .inl (TY 0, 10, .inl g_counts)), (c_text, .inl (TY 0, 60, .inl g_text)), (c_rows, .inl (TY 1, 320, .inr (.inl g_rows))), (c_rowKind, .inl (TY 0, 8, .inl g_rowKind)), (c_rowSize, .inl (TY 0, 8, .inl g_rowSize)), (c_num, .inl (TY 1, 170, .inr (.inl g_num))), (c_den, .inl (TY 1, 170, .inr (.inl g_den))), (c_work, .inl (TY 1, 170, .inr (.inl g_work))), (c_root, .inl (TY 1, 170, .inr (.inl g_root)))] H → va_D A [(h0, .inr (6, [.int v_failed, .ref c_counts, .ref c_text, .int v_size, .ref c_rows, .ref c_rowKind, .ref c_rowSize, .int v_neg, .int v_nan, .int v_inf, .long v_m', .int v_n', .ref c_num, .ref c_den, .ref c_work, .ref c_root, .int v_at, .int v_end, .int v_fault, .int v_digits])), (c_counts, .inl (TY 0, 10, .inl g_counts)), (c_text, .inl (TY 0, 60, .inl g_text)), (c_rows, .inl (TY 1, 320, .inr (.inl g_rows))), (c_rowKind, .inl (TY 0, 8, .inl g_rowKind)), (c_rowSize, .inl (TY 0, 8, .inl g_rowSize)), (c_num, .inl (TY 1, 170, .inr (.inl g_num))), (c_den, .inl (TY 1, 170, .inr (.inl g_den))), (c_work, .inl (TY 1, 170, .inr (.inl g_work))), (c_root, .inl (TY 1, 170, .inr (.inl g_root)))] → va_S A s.heap H locs → ∀ ls : Array Slot, lv_has ls 2 [(0, .ref h0), (1, .int p1)] → W p l e (headSpec (ws_ yX6_fill cX6_fill 2 (Option.none : Option Jvm.ClassFile.FieldType)) ({ frames := 1, cells := 0, slots := 0, locals := 20 })).room s m ([.ref h0, .int p1] : List Value).toArray below meth c H locs 0 0 (MQ below (va_Qv post (fun (u : Int64 × Int32) t => BB D TY A [(h0, .inr (6, [.int v_failed, .ref c_counts, .ref c_text, .int v_size, .ref c_rows, .ref c_rowKind, .ref c_rowSize, .int v_neg, .int v_nan, .int v_inf, .long u.1, .int u.2, .ref c_num, .ref c_den, .ref c_work, .ref c_root, .int v_at, .int v_end, .int v_fault, .int v_digits])), (c_counts, .inl (TY 0, 10, .inl g_counts)), (c_text, .inl (TY 0, 60, .inl g_text)), (c_rows, .inl (TY 1, 320, .inr (.inl g_rows))), (c_rowKind, .inl (TY 0, 8, .inl g_rowKind)), (c_rowSize, .inl (TY 0, 8, .inl g_rowSize)), (c_num, .inl (TY 1, 170, .inr (.inl g_num))), (c_den, .inl (TY 1, 170, .inr (.inl g_den))), (c_work, .inl (TY 1, 170, .inr (.inl g_work))), (c_root, .inl (TY 1, 170, .inr (.inl g_root)))] t) A) ([.ref h0, .int p1] : List Value).toArray s 0 0 A) (F0 m 0 ls []) := by
  intro n
  induction n with
  | zero => intro _ _ h; exact h.elim
  | succ n ih =>
    intro v_m' v_n' hw
    unfold wX6_fill_0 at hw
    intro H locs hP hD hS ls hl
    refine lv_aload_n hx hb dX6_fill_0 rfl (lv_at hl 0 rfl) ?_
    refine va_get (D := D) (ci := 6) (v := .long v_m') (C := RX6) (T := TX6) (N := 20) hx hb hts in_X6 hown hK hP 0 rfl rfl 10 (by decide) (hts _ q1157) (fun _ h9 => h9) rfl dX6_fill_1 ?_
    refine lv_lconst (v := 1) hx hb dX6_fill_4 (by decide) ?_
    refine lv_iload_n hx hb dX6_fill_5 rfl (lv_at hl 1 rfl) ?_
    refine cSi (v := fX6_bitsOf p1) (W.runS (As := [.int p1]) (rest := [.long 1, .long v_m']) ⟨hx, hb, hml, hown, hts⟩ (mX6_bitsOf l D TY p1 (fun r => r = fX6_bitsOf p1) rfl) (va_cwS 1 hts (lw_S q1240 q1241 q50 q1242) rfl rfl rfl hd_X6_bitsOf ⟨Nat.le_of_ble_eq_true rfl, Nat.le_of_ble_eq_true rfl⟩) (PR.S hP [] rfl hK hG hS) rfl rfl hl.1 rfl (lv_room (Nat.le_of_ble_eq_true rfl)) dX6_fill_6 ⟨Nat.le_of_ble_eq_true rfl, Nat.le_of_ble_eq_true rfl⟩) ?_
    refine lv_iconst (v := 1) hx hb dX6_fill_9 (by decide) ?_
    refine lv_isub hx hb dX6_fill_10 ?_
    refine lv_lshl (v := jshl 1 ((fX6_bitsOf p1) - 1)) hx hb dX6_fill_11 rfl ?_
    refine lx_lge (tgt := 39) hx hb dX6_fill_12 dX6_fill_13 (by decide) (fun c1 => ?_) (fun c1 => ?_)
    · replace hw := hw.2 c1
      have hP9 := hP.sub (ws' := [(h0, .inr (6, [.int v_failed, .ref c_counts, .ref c_text, .int v_size, .ref c_rows, .ref c_rowKind, .ref c_rowSize, .int v_neg, .int v_nan, .int v_inf, .long v_m', .int v_n', .ref c_num, .ref c_den, .ref c_work, .ref c_root, .int v_at, .int v_end, .int v_fault, .int v_digits])), (c_counts, .inl (TY 0, 10, .inl g_counts)), (c_text, .inl (TY 0, 60, .inl g_text)), (c_rows, .inl (TY 1, 320, .inr (.inl g_rows))), (c_rowKind, .inl (TY 0, 8, .inl g_rowKind)), (c_rowSize, .inl (TY 0, 8, .inl g_rowSize)), (c_num, .inl (TY 1, 170, .inr (.inl g_num))), (c_den, .inl (TY 1, 170, .inr (.inl g_den))), (c_work, .inl (TY 1, 170, .inr (.inl g_work))), (c_root, .inl (TY 1, 170, .inr (.inl g_root)))]) [0, 1, 2, 3, 4, 5, 6, 7, 8, 9] rfl
      have hD9 := hD.sub (ws' := [(h0, .inr (6, [.int v_failed, .ref c_counts, .ref c_text, .int v_size, .ref c_rows, .ref c_rowKind, .ref c_rowSize, .int v_neg, .int v_nan, .int v_inf, .long v_m', .int v_n', .ref c_num, .ref c_den, .ref c_work, .ref c_root, .int v_at, .int v_end, .int v_fault, .int v_digits])), (c_counts, .inl (TY 0, 10, .inl g_counts)), (c_text, .inl (TY 0, 60, .inl g_text)), (c_rows, .inl (TY 1, 320, .inr (.inl g_rows))), (c_rowKind, .inl (TY 0, 8, .inl g_rowKind)), (c_rowSize, .inl (TY 0, 8, .inl g_rowSize)), (c_num, .inl (TY 1, 170, .inr (.inl g_num))), (c_den, .inl (TY 1, 170, .inr (.inl g_den))), (c_work, .inl (TY 1, 170, .inr (.inl g_work))), (c_root, .inl (TY 1, 170, .inr (.inl g_root)))]) [0, 1, 2, 3, 4, 5, 6, 7, 8, 9] (by decide) rfl
      exact W.vret hx hb hr (fun t ht hW => ⟨⟨(v_m', v_n'), rfl, hw, BB.mk hP9 hD9 hK ht hW⟩, hS.F ht⟩) hS.2.2 dX6_fill_39
    · replace hw := hw.1 c1
      refine lv_aload_n hx hb dX6_fill_16 rfl (lv_at hl 0 rfl) ?_
      refine lv_dup hx hb dX6_fill_17 rfl ?_
      refine va_get (D := D) (ci := 6) (v := .long v_m') (C := RX6) (T := TX6) (N := 20) hx hb hts in_X6 hown hK hP 0 rfl rfl 10 (by decide) (hts _ q1157) (fun _ h9 => h9) rfl dX6_fill_18 ?_
      refine lv_iconst (v := 1) hx hb dX6_fill_21 (by decide) ?_
      refine lv_lshl (v := jshl v_m' 1) hx hb dX6_fill_22 rfl ?_
      refine lv_topl (fun x2 ex2 => ?_)
      replace hw := hw x2 ex2
      refine va_put (D := D) (ci := 6) (v := .long x2) (ty := .long) (C := RX6) (T := TX6) (N := 20) hx hb hts in_X6 tyX6 tyX6_ok nmX6 hown hK hP hD hS 0 rfl rfl 10 (by decide) (hts _ q1157) (fun _ h9 => h9) rfl (by decide +kernel) rfl rfl (Nat.le_of_ble_eq_true rfl) dX6_fill_23 (fun H locs hP hD hS => ?_)
      have hP : va_P D vwCl [(h0, .inr (6, [.int v_failed, .ref c_counts, .ref c_text, .int v_size, .ref c_rows, .ref c_rowKind, .ref c_rowSize, .int v_neg, .int v_nan, .int v_inf, .long x2, .int v_n', .ref c_num, .ref c_den, .ref c_work, .ref c_root, .int v_at, .int v_end, .int v_fault, .int v_digits])), (c_counts, .inl (TY 0, 10, .inl g_counts)), (c_text, .inl (TY 0, 60, .inl g_text)), (c_rows, .inl (TY 1, 320, .inr (.inl g_rows))), (c_rowKind, .inl (TY 0, 8, .inl g_rowKind)), (c_rowSize, .inl (TY 0, 8, .inl g_rowSize)), (c_num, .inl (TY 1, 170, .inr (.inl g_num))), (c_den, .inl (TY 1, 170, .inr (.inl g_den))), (c_work, .inl (TY 1, 170, .inr (.inl g_work))), (c_root, .inl (TY 1, 170, .inr (.inl g_root)))] H := hP
      have hD : va_D A [(h0, .inr (6, [.int v_failed, .ref c_counts, .ref c_text, .int v_size, .ref c_rows, .ref c_rowKind, .ref c_rowSize, .int v_neg, .int v_nan, .int v_inf, .long x2, .int v_n', .ref c_num, .ref c_den, .ref c_work, .ref c_root, .int v_at, .int v_end, .int v_fault, .int v_digits])), (c_counts, .inl (TY 0, 10, .inl g_counts)), (c_text, .inl (TY 0, 60, .inl g_text)), (c_rows, .inl (TY 1, 320, .inr (.inl g_rows))), (c_rowKind, .inl (TY 0, 8, .inl g_rowKind)), (c_rowSize, .inl (TY 0, 8, .inl g_rowSize)), (c_num, .inl (TY 1, 170, .inr (.inl g_num))), (c_den, .inl (TY 1, 170, .inr (.inl g_den))), (c_work, .inl (TY 1, 170, .inr (.inl g_work))), (c_root, .inl (TY 1, 170, .inr (.inl g_root)))] := hD
      refine lv_aload_n hx hb dX6_fill_26 rfl (lv_at hl 0 rfl) ?_
      refine lv_dup hx hb dX6_fill_27 rfl ?_
      refine va_get (D := D) (ci := 6) (v := .int v_n') (C := RX6) (T := TX6) (N := 20) hx hb hts in_X6 hown hK hP 0 rfl rfl 11 (by decide) (hts _ q1158) (fun _ h9 => h9) rfl dX6_fill_28 ?_
      refine lv_iconst (v := 1) hx hb dX6_fill_31 (by decide) ?_
      refine lv_isub hx hb dX6_fill_32 ?_
      refine lv_topi (fun x3 ex3 => ?_)
      replace hw := hw x3 ex3
      refine va_put (D := D) (ci := 6) (v := .int x3) (ty := .int) (C := RX6) (T := TX6) (N := 20) hx hb hts in_X6 tyX6 tyX6_ok nmX6 hown hK hP hD hS 0 rfl rfl 11 (by decide) (hts _ q1158) (fun _ h9 => h9) rfl (by decide +kernel) rfl rfl (Nat.le_of_ble_eq_true rfl) dX6_fill_33 (fun H locs hP hD hS => ?_)
      have hP : va_P D vwCl [(h0, .inr (6, [.int v_failed, .ref c_counts, .ref c_text, .int v_size, .ref c_rows, .ref c_rowKind, .ref c_rowSize, .int v_neg, .int v_nan, .int v_inf, .long x2, .int x3, .ref c_num, .ref c_den, .ref c_work, .ref c_root, .int v_at, .int v_end, .int v_fault, .int v_digits])), (c_counts, .inl (TY 0, 10, .inl g_counts)), (c_text, .inl (TY 0, 60, .inl g_text)), (c_rows, .inl (TY 1, 320, .inr (.inl g_rows))), (c_rowKind, .inl (TY 0, 8, .inl g_rowKind)), (c_rowSize, .inl (TY 0, 8, .inl g_rowSize)), (c_num, .inl (TY 1, 170, .inr (.inl g_num))), (c_den, .inl (TY 1, 170, .inr (.inl g_den))), (c_work, .inl (TY 1, 170, .inr (.inl g_work))), (c_root, .inl (TY 1, 170, .inr (.inl g_root)))] H := hP
      have hD : va_D A [(h0, .inr (6, [.int v_failed, .ref c_counts, .ref c_text, .int v_size, .ref c_rows, .ref c_rowKind, .ref c_rowSize, .int v_neg, .int v_nan, .int v_inf, .long x2, .int x3, .ref c_num, .ref c_den, .ref c_work, .ref c_root, .int v_at, .int v_end, .int v_fault, .int v_digits])), (c_counts, .inl (TY 0, 10, .inl g_counts)), (c_text, .inl (TY 0, 60, .inl g_text)), (c_rows, .inl (TY 1, 320, .inr (.inl g_rows))), (c_rowKind, .inl (TY 0, 8, .inl g_rowKind)), (c_rowSize, .inl (TY 0, 8, .inl g_rowSize)), (c_num, .inl (TY 1, 170, .inr (.inl g_num))), (c_den, .inl (TY 1, 170, .inr (.inl g_den))), (c_work, .inl (TY 1, 170, .inr (.inl g_work))), (c_root, .inl (TY 1, 170, .inr (.inl g_root)))] := hD
      refine lv_goto (tgt := 0) hx hb dX6_fill_36 (by decide) ?_
      exact ih x2 x3 hw _ _ (hP.sub [0, 1, 2, 3, 4, 5, 6, 7, 8, 9] rfl) (hD.sub [0, 1, 2, 3, 4, 5, 6, 7, 8, 9] (by decide) rfl) hS _ (lv_sub hl [0, 1] rfl)
set_option maxHeartbeats 4000000 in
set_option maxRecDepth 100000 in
theorem mX6_fill (l : Launch) (D : va_G) (TY : Nat → ClassId) (sz : Nat) (h0 : Nat) (c_counts : Nat) (c_text : Nat) (c_rows : Nat) (c_rowKind : Nat) (c_rowSize : Nat) (c_num : Nat) (c_den : Nat) (c_work : Nat) (c_root : Nat) (v_failed : Int32) (v_size : Int32) (v_neg : Int32) (v_nan : Int32) (v_inf : Int32) (v_m : Int64) (v_n : Int32) (v_at : Int32) (v_end : Int32) (v_fault : Int32) (v_digits : Int32) (g_counts : Nat → Int32) (g_text : Nat → Int32) (g_rows : Nat → Int64) (g_rowKind : Nat → Int32) (g_rowSize : Nat → Int32) (g_num : Nat → Int64) (g_den : Nat → Int64) (g_work : Nat → Int64) (g_root : Nat → Int64) (p1 : Int32) (post : (Int64 × Int32) → Prop) (hw : wX6_fill v_m v_n p1 post) : Met l yX6_fill (ws_ yX6_fill cX6_fill 2 (Option.none : Option Jvm.ClassFile.FieldType)) ({ frames := 1, cells := 0, slots := 0, locals := 20 }) (PC D TY [.ref h0, .int p1] sz [(h0, .inr (6, [.int v_failed, .ref c_counts, .ref c_text, .int v_size, .ref c_rows, .ref c_rowKind, .ref c_rowSize, .int v_neg, .int v_nan, .int v_inf, .long v_m, .int v_n, .ref c_num, .ref c_den, .ref c_work, .ref c_root, .int v_at, .int v_end, .int v_fault, .int v_digits])), (c_counts, .inl (TY 0, 10, .inl g_counts)), (c_text, .inl (TY 0, 60, .inl g_text)), (c_rows, .inl (TY 1, 320, .inr (.inl g_rows))), (c_rowKind, .inl (TY 0, 8, .inl g_rowKind)), (c_rowSize, .inl (TY 0, 8, .inl g_rowSize)), (c_num, .inl (TY 1, 170, .inr (.inl g_num))), (c_den, .inl (TY 1, 170, .inr (.inl g_den))), (c_work, .inl (TY 1, 170, .inr (.inl g_work))), (c_root, .inl (TY 1, 170, .inr (.inl g_root)))]) (va_Qv post (fun (u : Int64 × Int32) t => BB D TY (va_A [(h0, .inr (6, [.int v_failed, .ref c_counts, .ref c_text, .int v_size, .ref c_rows, .ref c_rowKind, .ref c_rowSize, .int v_neg, .int v_nan, .int v_inf, .long v_m, .int v_n, .ref c_num, .ref c_den, .ref c_work, .ref c_root, .int v_at, .int v_end, .int v_fault, .int v_digits])), (c_counts, .inl (TY 0, 10, .inl g_counts)), (c_text, .inl (TY 0, 60, .inl g_text)), (c_rows, .inl (TY 1, 320, .inr (.inl g_rows))), (c_rowKind, .inl (TY 0, 8, .inl g_rowKind)), (c_rowSize, .inl (TY 0, 8, .inl g_rowSize)), (c_num, .inl (TY 1, 170, .inr (.inl g_num))), (c_den, .inl (TY 1, 170, .inr (.inl g_den))), (c_work, .inl (TY 1, 170, .inr (.inl g_work))), (c_root, .inl (TY 1, 170, .inr (.inl g_root)))] sz) [(h0, .inr (6, [.int v_failed, .ref c_counts, .ref c_text, .int v_size, .ref c_rows, .ref c_rowKind, .ref c_rowSize, .int v_neg, .int v_nan, .int v_inf, .long u.1, .int u.2, .ref c_num, .ref c_den, .ref c_work, .ref c_root, .int v_at, .int v_end, .int v_fault, .int v_digits])), (c_counts, .inl (TY 0, 10, .inl g_counts)), (c_text, .inl (TY 0, 60, .inl g_text)), (c_rows, .inl (TY 1, 320, .inr (.inl g_rows))), (c_rowKind, .inl (TY 0, 8, .inl g_rowKind)), (c_rowSize, .inl (TY 0, 8, .inl g_rowSize)), (c_num, .inl (TY 1, 170, .inr (.inl g_num))), (c_den, .inl (TY 1, 170, .inr (.inl g_den))), (c_work, .inl (TY 1, 170, .inr (.inl g_work))), (c_root, .inl (TY 1, 170, .inr (.inl g_root)))] t) (va_A [(h0, .inr (6, [.int v_failed, .ref c_counts, .ref c_text, .int v_size, .ref c_rows, .ref c_rowKind, .ref c_rowSize, .int v_neg, .int v_nan, .int v_inf, .long v_m, .int v_n, .ref c_num, .ref c_den, .ref c_work, .ref c_root, .int v_at, .int v_end, .int v_fault, .int v_digits])), (c_counts, .inl (TY 0, 10, .inl g_counts)), (c_text, .inl (TY 0, 60, .inl g_text)), (c_rows, .inl (TY 1, 320, .inr (.inl g_rows))), (c_rowKind, .inl (TY 0, 8, .inl g_rowKind)), (c_rowSize, .inl (TY 0, 8, .inl g_rowSize)), (c_num, .inl (TY 1, 170, .inr (.inl g_num))), (c_den, .inl (TY 1, 170, .inr (.inl g_den))), (c_work, .inl (TY 1, 170, .inr (.inl g_work))), (c_root, .inl (TY 1, 170, .inr (.inl g_root)))] sz)) 0 0 (va_A [(h0, .inr (6, [.int v_failed, .ref c_counts, .ref c_text, .int v_size, .ref c_rows, .ref c_rowKind, .ref c_rowSize, .int v_neg, .int v_nan, .int v_inf, .long v_m, .int v_n, .ref c_num, .ref c_den, .ref c_work, .ref c_root, .int v_at, .int v_end, .int v_fault, .int v_digits])), (c_counts, .inl (TY 0, 10, .inl g_counts)), (c_text, .inl (TY 0, 60, .inl g_text)), (c_rows, .inl (TY 1, 320, .inr (.inl g_rows))), (c_rowKind, .inl (TY 0, 8, .inl g_rowKind)), (c_rowSize, .inl (TY 0, 8, .inl g_rowSize)), (c_num, .inl (TY 1, 170, .inr (.inl g_num))), (c_den, .inl (TY 1, 170, .inr (.inl g_den))), (c_work, .inl (TY 1, 170, .inr (.inl g_work))), (c_root, .inl (TY 1, 170, .inr (.inl g_root)))] sz) := by
  refine ofWF (cc := cX6_fill) (maxL := 2) (ret := (Option.none : Option Jvm.ClassFile.FieldType)) (plainFor_of_name (by decide)) rfl ?_
  intro p e s m args below meth c s₁ B hml hv
  obtain ⟨rfl, hsz, hP, hK, hD0, hG⟩ := hv
  have hx := B.exec
  have hb := B.bytes
  have hr := B.returns
  have hts0 := atoms_spec (ws := ws_ yX6_fill cX6_fill 2 (Option.none : Option Jvm.ClassFile.FieldType)) B.pre
  have hts : ∀ w ∈ lw_all, w.before _ s = true := fun w h => hts0 w (List.mem_cons_of_mem _ h)
  have hown : s.vm.findClass RX6 = some m.cls := findClass_of_methodNamed B.named
  have hlocks := B.notSynchronized
  subst hsz
  have hD := hD0.self (sz := s.heap.size)
  generalize hAe : va_A [(h0, .inr (6, [.int v_failed, .ref c_counts, .ref c_text, .int v_size, .ref c_rows, .ref c_rowKind, .ref c_rowSize, .int v_neg, .int v_nan, .int v_inf, .long v_m, .int v_n, .ref c_num, .ref c_den, .ref c_work, .ref c_root, .int v_at, .int v_end, .int v_fault, .int v_digits])), (c_counts, .inl (TY 0, 10, .inl g_counts)), (c_text, .inl (TY 0, 60, .inl g_text)), (c_rows, .inl (TY 1, 320, .inr (.inl g_rows))), (c_rowKind, .inl (TY 0, 8, .inl g_rowKind)), (c_rowSize, .inl (TY 0, 8, .inl g_rowSize)), (c_num, .inl (TY 1, 170, .inr (.inl g_num))), (c_den, .inl (TY 1, 170, .inr (.inl g_den))), (c_work, .inl (TY 1, 170, .inr (.inl g_work))), (c_root, .inl (TY 1, 170, .inr (.inl g_root)))] s.heap.size = A at hD hG ⊢
  have hA : ∀ q : Nat, s.heap.size ≤ q → A q := fun q h => by rw [← hAe]; exact Or.inr h
  have hS : va_S A s.heap s.heap [] := va_S.rf
  have hP : va_P D vwCl [(h0, .inr (6, [.int v_failed, .ref c_counts, .ref c_text, .int v_size, .ref c_rows, .ref c_rowKind, .ref c_rowSize, .int v_neg, .int v_nan, .int v_inf, .long v_m, .int v_n, .ref c_num, .ref c_den, .ref c_work, .ref c_root, .int v_at, .int v_end, .int v_fault, .int v_digits])), (c_counts, .inl (TY 0, 10, .inl g_counts)), (c_text, .inl (TY 0, 60, .inl g_text)), (c_rows, .inl (TY 1, 320, .inr (.inl g_rows))), (c_rowKind, .inl (TY 0, 8, .inl g_rowKind)), (c_rowSize, .inl (TY 0, 8, .inl g_rowSize)), (c_num, .inl (TY 1, 170, .inr (.inl g_num))), (c_den, .inl (TY 1, 170, .inr (.inl g_den))), (c_work, .inl (TY 1, 170, .inr (.inl g_work))), (c_root, .inl (TY 1, 170, .inr (.inl g_root)))] s.heap := hP
  have hl := lv_entry ([.ref h0, .int p1]) (n := 2) (Nat.le_of_ble_eq_true rfl)
  rw [lg_entry_eq]
  generalize (lg_sl ([.ref h0, .int p1]) ++ List.replicate (2 - (lg_sl ([.ref h0, .int p1])).length) Slot.unset).toArray = ls at hl ⊢
  have hl : lv_has ls 2 [(0, .ref h0), (1, .int p1)] := hl
  unfold wX6_fill at hw
  obtain ⟨n1, hw⟩ := hw
  exact bX6_fill_0 h0 c_counts c_text c_rows c_rowKind c_rowSize c_num c_den c_work c_root v_failed v_size v_neg v_nan v_inf v_m v_n v_at v_end v_fault v_digits g_counts g_text g_rows g_rowKind g_rowSize g_num g_den g_work g_root p1 post  hx hb hr hlocks hml hown hts hK hG hA n1 v_m v_n hw _ _ (hP.sub [0, 1, 2, 3, 4, 5, 6, 7, 8, 9] rfl) (hD.sub [0, 1, 2, 3, 4, 5, 6, 7, 8, 9] (by decide) rfl) hS _ (lv_sub hl [0, 1] rfl)

def wX6_fillDown_0   (post : (Int64 × Int32) → Prop) : Nat → Int64 → Int32 → Prop
  | 0, _, _ => False
  | n + 1, v_m', v_n' => (((v_m' &&& 1) = 0) → ∀ x2 : Int64, x2 = jshr v_m' 1 → ∀ x3 : Int32, x3 = v_n' + 1 → ((wX6_fillDown_0 post n) x2 x3)) ∧ (¬ ((v_m' &&& 1) = 0) → post (v_m', v_n'))
def wX6_fillDown (v_m : Int64) (v_n : Int32) (post : (Int64 × Int32) → Prop) : Prop := ∃ n, wX6_fillDown_0 post n v_m v_n
set_option maxHeartbeats 4000000 in
set_option maxRecDepth 100000 in
theorem bX6_fillDown_0 {p : Program} {l : Launch} {e : Env} {s : State} {m : MethodId} {below : List Frame} {meth : Method} {c : Code} {D : va_G} {TY : Nat → ClassId} {A : Nat → Prop} (h0 : Nat) (c_counts : Nat) (c_text : Nat) (c_rows : Nat) (c_rowKind : Nat) (c_rowSize : Nat) (c_num : Nat) (c_den : Nat) (c_work : Nat) (c_root : Nat) (v_failed : Int32) (v_size : Int32) (v_neg : Int32) (v_nan : Int32) (v_inf : Int32) (v_m : Int64) (v_n : Int32) (v_at : Int32) (v_end : Int32) (v_fault : Int32) (v_digits : Int32) (g_counts : Nat → Int32) (g_text : Nat → Int32) (g_rows : Nat → Int64) (g_rowKind : Nat → Int32) (g_rowSize : Nat → Int32) (g_num : Nat → Int64) (g_den : Nat → Int64) (g_work : Nat → Int64) (g_root : Nat → Int64) (post : (Int64 × Int32) → Prop) (hx : p.tables.exec = Jvm.exec) (hb : c.code = cX6_fillDown) (hr : meth.sig.returnType = (Option.none : Option Jvm.ClassFile.FieldType)) (hlocks : meth.locks = false) (hml : c.maxLocals = 1) (hown : s.vm.findClass RX6 = some m.cls) (hts : ∀ w ∈ lw_all, w.before ([.ref h0] : List Value).toArray s = true) (hK : va_K D vwCl (tyL TY) s) (hG : gz A s s.heap) (hA : ∀ q : Nat, s.heap.size ≤ q → A q) : ∀ (n : Nat) (v_m' : Int64) (v_n' : Int32), wX6_fillDown_0 post n v_m' v_n' → ∀ (H : Heap) (locs : List Loc), va_P D vwCl [(h0, .inr (6, [.int v_failed, .ref c_counts, .ref c_text, .int v_size, .ref c_rows, .ref c_rowKind, .ref c_rowSize, .int v_neg, .int v_nan, .int v_inf, .long v_m', .int v_n', .ref c_num, .ref c_den, .ref c_work, .ref c_root, .int v_at, .int v_end, .int v_fault, .int v_digits])), (c_counts, .inl (TY 0, 10, .inl g_counts)), (c_text, .inl (TY 0, 60, .inl g_text)), (c_rows, .inl (TY 1, 320, .inr (.inl g_rows))), (c_rowKind, .inl (TY 0, 8, .inl g_rowKind)), (c_rowSize, .inl (TY 0, 8, .inl g_rowSize)), (c_num, .inl (TY 1, 170, .inr (.inl g_num))), (c_den, .inl (TY 1, 170, .inr (.inl g_den))), (c_work, .inl (TY 1, 170, .inr (.inl g_work))), (c_root, .inl (TY 1, 170, .inr (.inl g_root)))] H → va_D A [(h0, .inr (6, [.int v_failed, .ref c_counts, .ref c_text, .int v_size, .ref c_rows, .ref c_rowKind, .ref c_rowSize, .int v_neg, .int v_nan, .int v_inf, .long v_m', .int v_n', .ref c_num, .ref c_den, .ref c_work, .ref c_root, .int v_at, .int v_end, .int v_fault, .int v_digits])), (c_counts, .inl (TY 0, 10, .inl g_counts)), (c_text, .inl (TY 0, 60, .inl g_text)), (c_rows, .inl (TY 1, 320, .inr (.inl g_rows))), (c_rowKind, .inl (TY 0, 8, .inl g_rowKind)), (c_rowSize, .inl (TY 0, 8, .inl g_rowSize)), (c_num, .inl (TY 1, 170, .inr (.inl g_num))), (c_den, .inl (TY 1, 170, .inr (.inl g_den))), (c_work, .inl (TY 1, 170, .inr (.inl g_work))), (c_root, .inl (TY 1, 170, .inr (.inl g_root)))] → va_S A s.heap H locs → ∀ ls : Array Slot, lv_has ls 1 [(0, .ref h0)] → W p l e (headSpec (ws_ yX6_fillDown cX6_fillDown 1 (Option.none : Option Jvm.ClassFile.FieldType)) ({ frames := 0, cells := 0, slots := 0, locals := 0 })).room s m ([.ref h0] : List Value).toArray below meth c H locs 0 0 (MQ below (va_Qv post (fun (u : Int64 × Int32) t => BB D TY A [(h0, .inr (6, [.int v_failed, .ref c_counts, .ref c_text, .int v_size, .ref c_rows, .ref c_rowKind, .ref c_rowSize, .int v_neg, .int v_nan, .int v_inf, .long u.1, .int u.2, .ref c_num, .ref c_den, .ref c_work, .ref c_root, .int v_at, .int v_end, .int v_fault, .int v_digits])), (c_counts, .inl (TY 0, 10, .inl g_counts)), (c_text, .inl (TY 0, 60, .inl g_text)), (c_rows, .inl (TY 1, 320, .inr (.inl g_rows))), (c_rowKind, .inl (TY 0, 8, .inl g_rowKind)), (c_rowSize, .inl (TY 0, 8, .inl g_rowSize)), (c_num, .inl (TY 1, 170, .inr (.inl g_num))), (c_den, .inl (TY 1, 170, .inr (.inl g_den))), (c_work, .inl (TY 1, 170, .inr (.inl g_work))), (c_root, .inl (TY 1, 170, .inr (.inl g_root)))] t) A) ([.ref h0] : List Value).toArray s 0 0 A) (F0 m 0 ls []) := by
  intro n
  induction n with
  | zero => intro _ _ h; exact h.elim
  | succ n ih =>
    intro v_m' v_n' hw
    unfold wX6_fillDown_0 at hw
    intro H locs hP hD hS ls hl
    refine lv_aload_n hx hb dX6_fillDown_0 rfl (lv_at hl 0 rfl) ?_
    refine va_get (D := D) (ci := 6) (v := .long v_m') (C := RX6) (T := TX6) (N := 20) hx hb hts in_X6 hown hK hP 0 rfl rfl 10 (by decide) (hts _ q1157) (fun _ h9 => h9) rfl dX6_fillDown_1 ?_
    refine lv_lconst (v := 1) hx hb dX6_fillDown_4 (by decide) ?_
    refine lv_land hx hb dX6_fillDown_5 ?_
    refine lv_lconst (v := 0) hx hb dX6_fillDown_6 (by decide) ?_
    refine lx_lne (tgt := 34) hx hb dX6_fillDown_7 dX6_fillDown_8 (by decide) (fun c1 => ?_) (fun c1 => ?_)
    · replace hw := hw.2 c1
      have hP9 := hP.sub (ws' := [(h0, .inr (6, [.int v_failed, .ref c_counts, .ref c_text, .int v_size, .ref c_rows, .ref c_rowKind, .ref c_rowSize, .int v_neg, .int v_nan, .int v_inf, .long v_m', .int v_n', .ref c_num, .ref c_den, .ref c_work, .ref c_root, .int v_at, .int v_end, .int v_fault, .int v_digits])), (c_counts, .inl (TY 0, 10, .inl g_counts)), (c_text, .inl (TY 0, 60, .inl g_text)), (c_rows, .inl (TY 1, 320, .inr (.inl g_rows))), (c_rowKind, .inl (TY 0, 8, .inl g_rowKind)), (c_rowSize, .inl (TY 0, 8, .inl g_rowSize)), (c_num, .inl (TY 1, 170, .inr (.inl g_num))), (c_den, .inl (TY 1, 170, .inr (.inl g_den))), (c_work, .inl (TY 1, 170, .inr (.inl g_work))), (c_root, .inl (TY 1, 170, .inr (.inl g_root)))]) [0, 1, 2, 3, 4, 5, 6, 7, 8, 9] rfl
      have hD9 := hD.sub (ws' := [(h0, .inr (6, [.int v_failed, .ref c_counts, .ref c_text, .int v_size, .ref c_rows, .ref c_rowKind, .ref c_rowSize, .int v_neg, .int v_nan, .int v_inf, .long v_m', .int v_n', .ref c_num, .ref c_den, .ref c_work, .ref c_root, .int v_at, .int v_end, .int v_fault, .int v_digits])), (c_counts, .inl (TY 0, 10, .inl g_counts)), (c_text, .inl (TY 0, 60, .inl g_text)), (c_rows, .inl (TY 1, 320, .inr (.inl g_rows))), (c_rowKind, .inl (TY 0, 8, .inl g_rowKind)), (c_rowSize, .inl (TY 0, 8, .inl g_rowSize)), (c_num, .inl (TY 1, 170, .inr (.inl g_num))), (c_den, .inl (TY 1, 170, .inr (.inl g_den))), (c_work, .inl (TY 1, 170, .inr (.inl g_work))), (c_root, .inl (TY 1, 170, .inr (.inl g_root)))]) [0, 1, 2, 3, 4, 5, 6, 7, 8, 9] (by decide) rfl
      exact W.vret hx hb hr (fun t ht hW => ⟨⟨(v_m', v_n'), rfl, hw, BB.mk hP9 hD9 hK ht hW⟩, hS.F ht⟩) hS.2.2 dX6_fillDown_34
    · replace hw := hw.1 c1
      refine lv_aload_n hx hb dX6_fillDown_11 rfl (lv_at hl 0 rfl) ?_
      refine lv_dup hx hb dX6_fillDown_12 rfl ?_
      refine va_get (D := D) (ci := 6) (v := .long v_m') (C := RX6) (T := TX6) (N := 20) hx hb hts in_X6 hown hK hP 0 rfl rfl 10 (by decide) (hts _ q1157) (fun _ h9 => h9) rfl dX6_fillDown_13 ?_
      refine lv_iconst (v := 1) hx hb dX6_fillDown_16 (by decide) ?_
      refine lv_lshr (v := jshr v_m' 1) hx hb dX6_fillDown_17 rfl ?_
      refine lv_topl (fun x2 ex2 => ?_)
      replace hw := hw x2 ex2
      refine va_put (D := D) (ci := 6) (v := .long x2) (ty := .long) (C := RX6) (T := TX6) (N := 20) hx hb hts in_X6 tyX6 tyX6_ok nmX6 hown hK hP hD hS 0 rfl rfl 10 (by decide) (hts _ q1157) (fun _ h9 => h9) rfl (by decide +kernel) rfl rfl (Nat.le_of_ble_eq_true rfl) dX6_fillDown_18 (fun H locs hP hD hS => ?_)
      have hP : va_P D vwCl [(h0, .inr (6, [.int v_failed, .ref c_counts, .ref c_text, .int v_size, .ref c_rows, .ref c_rowKind, .ref c_rowSize, .int v_neg, .int v_nan, .int v_inf, .long x2, .int v_n', .ref c_num, .ref c_den, .ref c_work, .ref c_root, .int v_at, .int v_end, .int v_fault, .int v_digits])), (c_counts, .inl (TY 0, 10, .inl g_counts)), (c_text, .inl (TY 0, 60, .inl g_text)), (c_rows, .inl (TY 1, 320, .inr (.inl g_rows))), (c_rowKind, .inl (TY 0, 8, .inl g_rowKind)), (c_rowSize, .inl (TY 0, 8, .inl g_rowSize)), (c_num, .inl (TY 1, 170, .inr (.inl g_num))), (c_den, .inl (TY 1, 170, .inr (.inl g_den))), (c_work, .inl (TY 1, 170, .inr (.inl g_work))), (c_root, .inl (TY 1, 170, .inr (.inl g_root)))] H := hP
      have hD : va_D A [(h0, .inr (6, [.int v_failed, .ref c_counts, .ref c_text, .int v_size, .ref c_rows, .ref c_rowKind, .ref c_rowSize, .int v_neg, .int v_nan, .int v_inf, .long x2, .int v_n', .ref c_num, .ref c_den, .ref c_work, .ref c_root, .int v_at, .int v_end, .int v_fault, .int v_digits])), (c_counts, .inl (TY 0, 10, .inl g_counts)), (c_text, .inl (TY 0, 60, .inl g_text)), (c_rows, .inl (TY 1, 320, .inr (.inl g_rows))), (c_rowKind, .inl (TY 0, 8, .inl g_rowKind)), (c_rowSize, .inl (TY 0, 8, .inl g_rowSize)), (c_num, .inl (TY 1, 170, .inr (.inl g_num))), (c_den, .inl (TY 1, 170, .inr (.inl g_den))), (c_work, .inl (TY 1, 170, .inr (.inl g_work))), (c_root, .inl (TY 1, 170, .inr (.inl g_root)))] := hD
      refine lv_aload_n hx hb dX6_fillDown_21 rfl (lv_at hl 0 rfl) ?_
      refine lv_dup hx hb dX6_fillDown_22 rfl ?_
      refine va_get (D := D) (ci := 6) (v := .int v_n') (C := RX6) (T := TX6) (N := 20) hx hb hts in_X6 hown hK hP 0 rfl rfl 11 (by decide) (hts _ q1158) (fun _ h9 => h9) rfl dX6_fillDown_23 ?_
      refine lv_iconst (v := 1) hx hb dX6_fillDown_26 (by decide) ?_
      refine lv_iadd hx hb dX6_fillDown_27 ?_
      refine lv_topi (fun x3 ex3 => ?_)
      replace hw := hw x3 ex3
      refine va_put (D := D) (ci := 6) (v := .int x3) (ty := .int) (C := RX6) (T := TX6) (N := 20) hx hb hts in_X6 tyX6 tyX6_ok nmX6 hown hK hP hD hS 0 rfl rfl 11 (by decide) (hts _ q1158) (fun _ h9 => h9) rfl (by decide +kernel) rfl rfl (Nat.le_of_ble_eq_true rfl) dX6_fillDown_28 (fun H locs hP hD hS => ?_)
      have hP : va_P D vwCl [(h0, .inr (6, [.int v_failed, .ref c_counts, .ref c_text, .int v_size, .ref c_rows, .ref c_rowKind, .ref c_rowSize, .int v_neg, .int v_nan, .int v_inf, .long x2, .int x3, .ref c_num, .ref c_den, .ref c_work, .ref c_root, .int v_at, .int v_end, .int v_fault, .int v_digits])), (c_counts, .inl (TY 0, 10, .inl g_counts)), (c_text, .inl (TY 0, 60, .inl g_text)), (c_rows, .inl (TY 1, 320, .inr (.inl g_rows))), (c_rowKind, .inl (TY 0, 8, .inl g_rowKind)), (c_rowSize, .inl (TY 0, 8, .inl g_rowSize)), (c_num, .inl (TY 1, 170, .inr (.inl g_num))), (c_den, .inl (TY 1, 170, .inr (.inl g_den))), (c_work, .inl (TY 1, 170, .inr (.inl g_work))), (c_root, .inl (TY 1, 170, .inr (.inl g_root)))] H := hP
      have hD : va_D A [(h0, .inr (6, [.int v_failed, .ref c_counts, .ref c_text, .int v_size, .ref c_rows, .ref c_rowKind, .ref c_rowSize, .int v_neg, .int v_nan, .int v_inf, .long x2, .int x3, .ref c_num, .ref c_den, .ref c_work, .ref c_root, .int v_at, .int v_end, .int v_fault, .int v_digits])), (c_counts, .inl (TY 0, 10, .inl g_counts)), (c_text, .inl (TY 0, 60, .inl g_text)), (c_rows, .inl (TY 1, 320, .inr (.inl g_rows))), (c_rowKind, .inl (TY 0, 8, .inl g_rowKind)), (c_rowSize, .inl (TY 0, 8, .inl g_rowSize)), (c_num, .inl (TY 1, 170, .inr (.inl g_num))), (c_den, .inl (TY 1, 170, .inr (.inl g_den))), (c_work, .inl (TY 1, 170, .inr (.inl g_work))), (c_root, .inl (TY 1, 170, .inr (.inl g_root)))] := hD
      refine lv_goto (tgt := 0) hx hb dX6_fillDown_31 (by decide) ?_
      exact ih x2 x3 hw _ _ (hP.sub [0, 1, 2, 3, 4, 5, 6, 7, 8, 9] rfl) (hD.sub [0, 1, 2, 3, 4, 5, 6, 7, 8, 9] (by decide) rfl) hS _ (lv_sub hl [0] rfl)
set_option maxHeartbeats 4000000 in
set_option maxRecDepth 100000 in
theorem mX6_fillDown (l : Launch) (D : va_G) (TY : Nat → ClassId) (sz : Nat) (h0 : Nat) (c_counts : Nat) (c_text : Nat) (c_rows : Nat) (c_rowKind : Nat) (c_rowSize : Nat) (c_num : Nat) (c_den : Nat) (c_work : Nat) (c_root : Nat) (v_failed : Int32) (v_size : Int32) (v_neg : Int32) (v_nan : Int32) (v_inf : Int32) (v_m : Int64) (v_n : Int32) (v_at : Int32) (v_end : Int32) (v_fault : Int32) (v_digits : Int32) (g_counts : Nat → Int32) (g_text : Nat → Int32) (g_rows : Nat → Int64) (g_rowKind : Nat → Int32) (g_rowSize : Nat → Int32) (g_num : Nat → Int64) (g_den : Nat → Int64) (g_work : Nat → Int64) (g_root : Nat → Int64) (post : (Int64 × Int32) → Prop) (hw : wX6_fillDown v_m v_n post) : Met l yX6_fillDown (ws_ yX6_fillDown cX6_fillDown 1 (Option.none : Option Jvm.ClassFile.FieldType)) ({ frames := 0, cells := 0, slots := 0, locals := 0 }) (PC D TY [.ref h0] sz [(h0, .inr (6, [.int v_failed, .ref c_counts, .ref c_text, .int v_size, .ref c_rows, .ref c_rowKind, .ref c_rowSize, .int v_neg, .int v_nan, .int v_inf, .long v_m, .int v_n, .ref c_num, .ref c_den, .ref c_work, .ref c_root, .int v_at, .int v_end, .int v_fault, .int v_digits])), (c_counts, .inl (TY 0, 10, .inl g_counts)), (c_text, .inl (TY 0, 60, .inl g_text)), (c_rows, .inl (TY 1, 320, .inr (.inl g_rows))), (c_rowKind, .inl (TY 0, 8, .inl g_rowKind)), (c_rowSize, .inl (TY 0, 8, .inl g_rowSize)), (c_num, .inl (TY 1, 170, .inr (.inl g_num))), (c_den, .inl (TY 1, 170, .inr (.inl g_den))), (c_work, .inl (TY 1, 170, .inr (.inl g_work))), (c_root, .inl (TY 1, 170, .inr (.inl g_root)))]) (va_Qv post (fun (u : Int64 × Int32) t => BB D TY (va_A [(h0, .inr (6, [.int v_failed, .ref c_counts, .ref c_text, .int v_size, .ref c_rows, .ref c_rowKind, .ref c_rowSize, .int v_neg, .int v_nan, .int v_inf, .long v_m, .int v_n, .ref c_num, .ref c_den, .ref c_work, .ref c_root, .int v_at, .int v_end, .int v_fault, .int v_digits])), (c_counts, .inl (TY 0, 10, .inl g_counts)), (c_text, .inl (TY 0, 60, .inl g_text)), (c_rows, .inl (TY 1, 320, .inr (.inl g_rows))), (c_rowKind, .inl (TY 0, 8, .inl g_rowKind)), (c_rowSize, .inl (TY 0, 8, .inl g_rowSize)), (c_num, .inl (TY 1, 170, .inr (.inl g_num))), (c_den, .inl (TY 1, 170, .inr (.inl g_den))), (c_work, .inl (TY 1, 170, .inr (.inl g_work))), (c_root, .inl (TY 1, 170, .inr (.inl g_root)))] sz) [(h0, .inr (6, [.int v_failed, .ref c_counts, .ref c_text, .int v_size, .ref c_rows, .ref c_rowKind, .ref c_rowSize, .int v_neg, .int v_nan, .int v_inf, .long u.1, .int u.2, .ref c_num, .ref c_den, .ref c_work, .ref c_root, .int v_at, .int v_end, .int v_fault, .int v_digits])), (c_counts, .inl (TY 0, 10, .inl g_counts)), (c_text, .inl (TY 0, 60, .inl g_text)), (c_rows, .inl (TY 1, 320, .inr (.inl g_rows))), (c_rowKind, .inl (TY 0, 8, .inl g_rowKind)), (c_rowSize, .inl (TY 0, 8, .inl g_rowSize)), (c_num, .inl (TY 1, 170, .inr (.inl g_num))), (c_den, .inl (TY 1, 170, .inr (.inl g_den))), (c_work, .inl (TY 1, 170, .inr (.inl g_work))), (c_root, .inl (TY 1, 170, .inr (.inl g_root)))] t) (va_A [(h0, .inr (6, [.int v_failed, .ref c_counts, .ref c_text, .int v_size, .ref c_rows, .ref c_rowKind, .ref c_rowSize, .int v_neg, .int v_nan, .int v_inf, .long v_m, .int v_n, .ref c_num, .ref c_den, .ref c_work, .ref c_root, .int v_at, .int v_end, .int v_fault, .int v_digits])), (c_counts, .inl (TY 0, 10, .inl g_counts)), (c_text, .inl (TY 0, 60, .inl g_text)), (c_rows, .inl (TY 1, 320, .inr (.inl g_rows))), (c_rowKind, .inl (TY 0, 8, .inl g_rowKind)), (c_rowSize, .inl (TY 0, 8, .inl g_rowSize)), (c_num, .inl (TY 1, 170, .inr (.inl g_num))), (c_den, .inl (TY 1, 170, .inr (.inl g_den))), (c_work, .inl (TY 1, 170, .inr (.inl g_work))), (c_root, .inl (TY 1, 170, .inr (.inl g_root)))] sz)) 0 0 (va_A [(h0, .inr (6, [.int v_failed, .ref c_counts, .ref c_text, .int v_size, .ref c_rows, .ref c_rowKind, .ref c_rowSize, .int v_neg, .int v_nan, .int v_inf, .long v_m, .int v_n, .ref c_num, .ref c_den, .ref c_work, .ref c_root, .int v_at, .int v_end, .int v_fault, .int v_digits])), (c_counts, .inl (TY 0, 10, .inl g_counts)), (c_text, .inl (TY 0, 60, .inl g_text)), (c_rows, .inl (TY 1, 320, .inr (.inl g_rows))), (c_rowKind, .inl (TY 0, 8, .inl g_rowKind)), (c_rowSize, .inl (TY 0, 8, .inl g_rowSize)), (c_num, .inl (TY 1, 170, .inr (.inl g_num))), (c_den, .inl (TY 1, 170, .inr (.inl g_den))), (c_work, .inl (TY 1, 170, .inr (.inl g_work))), (c_root, .inl (TY 1, 170, .inr (.inl g_root)))] sz) := by
  refine ofWF (cc := cX6_fillDown) (maxL := 1) (ret := (Option.none : Option Jvm.ClassFile.FieldType)) (plainFor_of_name (by decide)) rfl ?_
  intro p e s m args below meth c s₁ B hml hv
  obtain ⟨rfl, hsz, hP, hK, hD0, hG⟩ := hv
  have hx := B.exec
  have hb := B.bytes
  have hr := B.returns
  have hts0 := atoms_spec (ws := ws_ yX6_fillDown cX6_fillDown 1 (Option.none : Option Jvm.ClassFile.FieldType)) B.pre
  have hts : ∀ w ∈ lw_all, w.before _ s = true := fun w h => hts0 w (List.mem_cons_of_mem _ h)
  have hown : s.vm.findClass RX6 = some m.cls := findClass_of_methodNamed B.named
  have hlocks := B.notSynchronized
  subst hsz
  have hD := hD0.self (sz := s.heap.size)
  generalize hAe : va_A [(h0, .inr (6, [.int v_failed, .ref c_counts, .ref c_text, .int v_size, .ref c_rows, .ref c_rowKind, .ref c_rowSize, .int v_neg, .int v_nan, .int v_inf, .long v_m, .int v_n, .ref c_num, .ref c_den, .ref c_work, .ref c_root, .int v_at, .int v_end, .int v_fault, .int v_digits])), (c_counts, .inl (TY 0, 10, .inl g_counts)), (c_text, .inl (TY 0, 60, .inl g_text)), (c_rows, .inl (TY 1, 320, .inr (.inl g_rows))), (c_rowKind, .inl (TY 0, 8, .inl g_rowKind)), (c_rowSize, .inl (TY 0, 8, .inl g_rowSize)), (c_num, .inl (TY 1, 170, .inr (.inl g_num))), (c_den, .inl (TY 1, 170, .inr (.inl g_den))), (c_work, .inl (TY 1, 170, .inr (.inl g_work))), (c_root, .inl (TY 1, 170, .inr (.inl g_root)))] s.heap.size = A at hD hG ⊢
  have hA : ∀ q : Nat, s.heap.size ≤ q → A q := fun q h => by rw [← hAe]; exact Or.inr h
  have hS : va_S A s.heap s.heap [] := va_S.rf
  have hP : va_P D vwCl [(h0, .inr (6, [.int v_failed, .ref c_counts, .ref c_text, .int v_size, .ref c_rows, .ref c_rowKind, .ref c_rowSize, .int v_neg, .int v_nan, .int v_inf, .long v_m, .int v_n, .ref c_num, .ref c_den, .ref c_work, .ref c_root, .int v_at, .int v_end, .int v_fault, .int v_digits])), (c_counts, .inl (TY 0, 10, .inl g_counts)), (c_text, .inl (TY 0, 60, .inl g_text)), (c_rows, .inl (TY 1, 320, .inr (.inl g_rows))), (c_rowKind, .inl (TY 0, 8, .inl g_rowKind)), (c_rowSize, .inl (TY 0, 8, .inl g_rowSize)), (c_num, .inl (TY 1, 170, .inr (.inl g_num))), (c_den, .inl (TY 1, 170, .inr (.inl g_den))), (c_work, .inl (TY 1, 170, .inr (.inl g_work))), (c_root, .inl (TY 1, 170, .inr (.inl g_root)))] s.heap := hP
  have hl := lv_entry ([.ref h0]) (n := 1) (Nat.le_of_ble_eq_true rfl)
  rw [lg_entry_eq]
  generalize (lg_sl ([.ref h0]) ++ List.replicate (1 - (lg_sl ([.ref h0])).length) Slot.unset).toArray = ls at hl ⊢
  have hl : lv_has ls 1 [(0, .ref h0)] := hl
  unfold wX6_fillDown at hw
  obtain ⟨n1, hw⟩ := hw
  exact bX6_fillDown_0 h0 c_counts c_text c_rows c_rowKind c_rowSize c_num c_den c_work c_root v_failed v_size v_neg v_nan v_inf v_m v_n v_at v_end v_fault v_digits g_counts g_text g_rows g_rowKind g_rowSize g_num g_den g_work g_root post  hx hb hr hlocks hml hown hts hK hG hA n1 v_m v_n hw _ _ (hP.sub [0, 1, 2, 3, 4, 5, 6, 7, 8, 9] rfl) (hD.sub [0, 1, 2, 3, 4, 5, 6, 7, 8, 9] (by decide) rfl) hS _ (lv_sub hl [0] rfl)

def fX6_wholeOf (v_neg : Int32) (v_m : Int64) (v_n : Int32) (p1 : Int32) : Int64 := lt_ (-v_n) (fun x1 : Int32 => lt_ (if x1 ≤ 62 then (jushr v_m x1) else 0) (fun x2 : Int64 => lt_ (if x1 ≤ 62 then (v_m &&& ((jshl 1 x1) - 1)) else v_m) (fun x4 : Int64 => lt_ (if 0 < x4 then (if p1 = 1 then v_neg else (if p1 = 2 then (lt_ (if v_neg = 0 then 1 else 0) (fun x18 : Int32 => x18)) else (if p1 = 3 then (lt_ (if x1 ≤ 62 then (jshl 1 (x1 - 1)) else 0) (fun x11 : Int64 => lt_ (if 62 < x1 then 0 else (if x11 < x4 then 1 else (if x4 = x11 then (if (x2 &&& 1) = 1 then 1 else 0) else 0))) (fun x13 : Int32 => x13))) else 0))) else 0) (fun x6 : Int32 => lt_ (if x6 = 0 then x2 else (x2 + 1)) (fun x20 : Int64 => x20)))))
set_option maxHeartbeats 4000000 in
set_option maxRecDepth 100000 in
theorem mX6_wholeOf (l : Launch) (D : va_G) (TY : Nat → ClassId) (h0 : Nat) (c_counts : Nat) (c_text : Nat) (c_rows : Nat) (c_rowKind : Nat) (c_rowSize : Nat) (c_num : Nat) (c_den : Nat) (c_work : Nat) (c_root : Nat) (v_failed : Int32) (v_size : Int32) (v_neg : Int32) (v_nan : Int32) (v_inf : Int32) (v_m : Int64) (v_n : Int32) (v_at : Int32) (v_end : Int32) (v_fault : Int32) (v_digits : Int32) (g_counts : Nat → Int32) (g_text : Nat → Int32) (g_rows : Nat → Int64) (g_rowKind : Nat → Int32) (g_rowSize : Nat → Int32) (g_num : Nat → Int64) (g_den : Nat → Int64) (g_work : Nat → Int64) (g_root : Nat → Int64) (p1 : Int32) (post : Int64 → Prop) (hw : post (fX6_wholeOf v_neg v_m v_n p1)) : Met l yX6_wholeOf (ws_ yX6_wholeOf cX6_wholeOf 10 (Option.some Jvm.ClassFile.FieldType.long)) ({ frames := 0, cells := 0, slots := 0, locals := 0 }) (PR D TY [.ref h0, .int p1] [(h0, .inr (6, [.int v_failed, .ref c_counts, .ref c_text, .int v_size, .ref c_rows, .ref c_rowKind, .ref c_rowSize, .int v_neg, .int v_nan, .int v_inf, .long v_m, .int v_n, .ref c_num, .ref c_den, .ref c_work, .ref c_root, .int v_at, .int v_end, .int v_fault, .int v_digits])), (c_counts, .inl (TY 0, 10, .inl g_counts)), (c_text, .inl (TY 0, 60, .inl g_text)), (c_rows, .inl (TY 1, 320, .inr (.inl g_rows))), (c_rowKind, .inl (TY 0, 8, .inl g_rowKind)), (c_rowSize, .inl (TY 0, 8, .inl g_rowSize)), (c_num, .inl (TY 1, 170, .inr (.inl g_num))), (c_den, .inl (TY 1, 170, .inr (.inl g_den))), (c_work, .inl (TY 1, 170, .inr (.inl g_work))), (c_root, .inl (TY 1, 170, .inr (.inl g_root)))]) (vp_Sl post) 0 0 (fun _ => False) := by
  refine ofWF (cc := cX6_wholeOf) (maxL := 10) (ret := (Option.some Jvm.ClassFile.FieldType.long)) (plainFor_of_name (by decide)) rfl ?_
  intro p e s m args below meth c s₁ B hml hv
  obtain ⟨rfl, hP, hK, hG⟩ := hv
  have hx := B.exec
  have hb := B.bytes
  have hr := B.returns
  have hts0 := atoms_spec (ws := ws_ yX6_wholeOf cX6_wholeOf 10 (Option.some Jvm.ClassFile.FieldType.long)) B.pre
  have hts : ∀ w ∈ lw_all, w.before _ s = true := fun w h => hts0 w (List.mem_cons_of_mem _ h)
  have hown : s.vm.findClass RX6 = some m.cls := findClass_of_methodNamed B.named
  have hlocks := B.notSynchronized
  have hS : va_S (fun _ => False) s.heap s.heap [] := va_S.rf
  have hl := lv_entry ([.ref h0, .int p1]) (n := 10) (Nat.le_of_ble_eq_true rfl)
  rw [lg_entry_eq]
  generalize (lg_sl ([.ref h0, .int p1]) ++ List.replicate (10 - (lg_sl ([.ref h0, .int p1])).length) Slot.unset).toArray = ls at hl ⊢
  have hl : lv_has ls 10 [(0, .ref h0), (1, .int p1)] := hl
  unfold fX6_wholeOf at hw
  refine lv_aload_n hx hb dX6_wholeOf_0 rfl (lv_at hl 0 rfl) ?_
  refine va_get (D := D) (ci := 6) (v := .int v_n) (C := RX6) (T := TX6) (N := 20) hx hb hts in_X6 hown hK hP 0 rfl rfl 11 (by decide) (hts _ q1158) (fun _ h9 => h9) rfl dX6_wholeOf_1 ?_
  refine lv_ineg hx hb dX6_wholeOf_4 ?_
  refine lv_topi (fun x1 ex1 => ?_)
  replace hw := pf_let (P := post) hw x1 ex1
  refine lv_istore_n (lv' := [(2, .int x1), (0, .ref h0), (1, .int p1)]) hx hb dX6_wholeOf_5 rfl hl (by decide) rfl (fun ls hl => ?_)
  refine lv_iload_n hx hb dX6_wholeOf_6 rfl (lv_at hl 0 rfl) ?_
  refine lv_bipush (v := 62) hx hb dX6_wholeOf_7 (by decide) ?_
  obtain ⟨PJx2, hPJx2⟩ : ∃ P : Int64 → Prop, ∀ x2 : Int64, P x2 ↔ ∀ ls : Array Slot, lv_has ls 10 [(0, .ref h0), (1, .int p1), (2, .int x1)] → W p l e (headSpec (ws_ yX6_wholeOf cX6_wholeOf 10 (Option.some Jvm.ClassFile.FieldType.long)) ({ frames := 0, cells := 0, slots := 0, locals := 0 })).room s m ([.ref h0, .int p1] : List Value).toArray below meth c s.heap ([]) 0 0 (MQ below (vp_Sl post) ([.ref h0, .int p1] : List Value).toArray s 0 0 (fun _ => False)) (F0 m 22 ls [.long x2]) := ⟨_, fun _ => Iff.rfl⟩
  have hjx2 : ∀ x2 : Int64, x2 = (if x1 ≤ 62 then (jushr v_m x1) else 0) → PJx2 x2 := by
    intro x2 ex2
    rw [hPJx2]
    intro ls hl
    replace hw := pf_let (P := post) hw x2 ex2
    refine lv_lstore_n (lv' := [(3, .long x2), (0, .ref h0), (1, .int p1), (2, .int x1)]) hx hb dX6_wholeOf_22 rfl hl (by decide) rfl (fun ls hl => ?_)
    refine lv_iload_n hx hb dX6_wholeOf_23 rfl (lv_at hl 3 rfl) ?_
    refine lv_bipush (v := 62) hx hb dX6_wholeOf_24 (by decide) ?_
    obtain ⟨PJx4, hPJx4⟩ : ∃ P : Int64 → Prop, ∀ x4 : Int64, P x4 ↔ ∀ ls : Array Slot, lv_has ls 10 [(0, .ref h0), (1, .int p1), (2, .int x1), (3, .long x2)] → W p l e (headSpec (ws_ yX6_wholeOf cX6_wholeOf 10 (Option.some Jvm.ClassFile.FieldType.long)) ({ frames := 0, cells := 0, slots := 0, locals := 0 })).room s m ([.ref h0, .int p1] : List Value).toArray below meth c s.heap ([]) 0 0 (MQ below (vp_Sl post) ([.ref h0, .int p1] : List Value).toArray s 0 0 (fun _ => False)) (F0 m 46 ls [.long x4]) := ⟨_, fun _ => Iff.rfl⟩
    have hjx4 : ∀ x4 : Int64, x4 = (if x1 ≤ 62 then (v_m &&& ((jshl 1 x1) - 1)) else v_m) → PJx4 x4 := by
      intro x4 ex4
      rw [hPJx4]
      intro ls hl
      replace hw := pf_let (P := post) hw x4 ex4
      refine lv_lstore (lv' := [(5, .long x4), (0, .ref h0), (1, .int p1), (2, .int x1), (3, .long x2)]) hx hb dX6_wholeOf_46 hl (by decide) rfl (fun ls hl => ?_)
      refine lv_iconst (v := 0) hx hb dX6_wholeOf_48 (by decide) ?_
      refine lv_istore (lv' := [(7, .int 0), (5, .long x4), (0, .ref h0), (1, .int p1), (2, .int x1), (3, .long x2)]) hx hb dX6_wholeOf_49 hl (by decide) rfl (fun ls hl => ?_)
      refine lv_lload hx hb dX6_wholeOf_51 (lv_at hl 1 rfl) ?_
      refine lv_lconst (v := 0) hx hb dX6_wholeOf_53 (by decide) ?_
      obtain ⟨PJx6, hPJx6⟩ : ∃ P : Int32 → Prop, ∀ x6 : Int32, P x6 ↔ ∀ ls : Array Slot, lv_has ls 10 [(3, .long x2), (7, .int x6)] → W p l e (headSpec (ws_ yX6_wholeOf cX6_wholeOf 10 (Option.some Jvm.ClassFile.FieldType.long)) ({ frames := 0, cells := 0, slots := 0, locals := 0 })).room s m ([.ref h0, .int p1] : List Value).toArray below meth c s.heap ([]) 0 0 (MQ below (vp_Sl post) ([.ref h0, .int p1] : List Value).toArray s 0 0 (fun _ => False)) (F0 m 153 ls []) := ⟨_, fun _ => Iff.rfl⟩
      have hjx6 : ∀ x6 : Int32, x6 = (if 0 < x4 then (if p1 = 1 then v_neg else (if p1 = 2 then (lt_ (if v_neg = 0 then 1 else 0) (fun x18 : Int32 => x18)) else (if p1 = 3 then (lt_ (if x1 ≤ 62 then (jshl 1 (x1 - 1)) else 0) (fun x11 : Int64 => lt_ (if 62 < x1 then 0 else (if x11 < x4 then 1 else (if x4 = x11 then (if (x2 &&& 1) = 1 then 1 else 0) else 0))) (fun x13 : Int32 => x13))) else 0))) else 0) → PJx6 x6 := by
        intro x6 ex6
        rw [hPJx6]
        intro ls hl
        replace hw := pf_let (P := post) hw x6 ex6
        refine lv_iload hx hb dX6_wholeOf_153 (lv_at hl 1 rfl) ?_
        obtain ⟨PJx20, hPJx20⟩ : ∃ P : Int64 → Prop, ∀ x20 : Int64, P x20 ↔ ∀ ls : Array Slot, lv_has ls 10 [] → W p l e (headSpec (ws_ yX6_wholeOf cX6_wholeOf 10 (Option.some Jvm.ClassFile.FieldType.long)) ({ frames := 0, cells := 0, slots := 0, locals := 0 })).room s m ([.ref h0, .int p1] : List Value).toArray below meth c s.heap ([]) 0 0 (MQ below (vp_Sl post) ([.ref h0, .int p1] : List Value).toArray s 0 0 (fun _ => False)) (F0 m 165 ls [.long x20]) := ⟨_, fun _ => Iff.rfl⟩
        have hjx20 : ∀ x20 : Int64, x20 = (if x6 = 0 then x2 else (x2 + 1)) → PJx20 x20 := by
          intro x20 ex20
          rw [hPJx20]
          intro ls hl
          replace hw := pf_let (P := post) hw x20 ex20
          exact W.lret (v := x20) hx hb hr (fun t ht hW => ⟨_, rfl, hw, ht⟩) (fun q h => nomatch h) dX6_wholeOf_165
        replace hjx20 := hjx20 _ rfl
        refine lv_if_eq (tgt := 164) hx hb dX6_wholeOf_155 (by decide) (fun c21 => ?_) (fun c21 => ?_)
        · replace hjx20 := pf_t (P := PJx20) c21 hjx20
          refine lv_lload_n hx hb dX6_wholeOf_164 rfl (lv_at hl 0 rfl) ?_
          exact (hPJx20 _).1 hjx20 _ (lv_sub hl [] rfl)
        · replace hjx20 := pf_f (P := PJx20) c21 hjx20
          refine lv_lload_n hx hb dX6_wholeOf_158 rfl (lv_at hl 0 rfl) ?_
          refine lv_lconst (v := 1) hx hb dX6_wholeOf_159 (by decide) ?_
          refine lv_ladd hx hb dX6_wholeOf_160 ?_
          refine lv_goto (tgt := 165) hx hb dX6_wholeOf_161 (by decide) ?_
          exact (hPJx20 _).1 hjx20 _ (lv_sub hl [] rfl)
      replace hjx6 := hjx6 _ rfl
      refine lx_lle (tgt := 153) hx hb dX6_wholeOf_54 dX6_wholeOf_55 (by decide) (fun c7 => ?_) (fun c7 => ?_)
      · replace hjx6 := pf_f (P := PJx6) c7 hjx6
        exact (hPJx6 _).1 hjx6 _ (lv_sub hl [5, 0] rfl)
      · replace hjx6 := pf_t (P := PJx6) c7 hjx6
        refine lv_iload_n hx hb dX6_wholeOf_58 rfl (lv_at hl 3 rfl) ?_
        refine lv_iconst (v := 1) hx hb dX6_wholeOf_59 (by decide) ?_
        refine lv_icmp_ne (tgt := 72) hx hb dX6_wholeOf_60 (by decide) (fun c8 => ?_) (fun c8 => ?_)
        · replace hjx6 := pf_f (P := PJx6) c8 hjx6
          refine lv_iload_n hx hb dX6_wholeOf_72 rfl (lv_at hl 3 rfl) ?_
          refine lv_iconst (v := 2) hx hb dX6_wholeOf_73 (by decide) ?_
          refine lv_icmp_ne (tgt := 94) hx hb dX6_wholeOf_74 (by decide) (fun c9 => ?_) (fun c9 => ?_)
          · replace hjx6 := pf_f (P := PJx6) c9 hjx6
            refine lv_iload_n hx hb dX6_wholeOf_94 rfl (lv_at hl 3 rfl) ?_
            refine lv_iconst (v := 3) hx hb dX6_wholeOf_95 (by decide) ?_
            refine lv_icmp_ne (tgt := 153) hx hb dX6_wholeOf_96 (by decide) (fun c10 => ?_) (fun c10 => ?_)
            · replace hjx6 := pf_f (P := PJx6) c10 hjx6
              exact (hPJx6 _).1 hjx6 _ (lv_sub hl [5, 0] rfl)
            · replace hjx6 := pf_t (P := PJx6) c10 hjx6
              refine lv_iload_n hx hb dX6_wholeOf_99 rfl (lv_at hl 4 rfl) ?_
              refine lv_bipush (v := 62) hx hb dX6_wholeOf_100 (by decide) ?_
              obtain ⟨PJx11, hPJx11⟩ : ∃ P : Int64 → Prop, ∀ x11 : Int64, P x11 ↔ ∀ ls : Array Slot, lv_has ls 10 [(2, .int x1), (3, .long x2), (5, .long x4)] → W p l e (headSpec (ws_ yX6_wholeOf cX6_wholeOf 10 (Option.some Jvm.ClassFile.FieldType.long)) ({ frames := 0, cells := 0, slots := 0, locals := 0 })).room s m ([.ref h0, .int p1] : List Value).toArray below meth c s.heap ([]) 0 0 (MQ below (vp_Sl post) ([.ref h0, .int p1] : List Value).toArray s 0 0 (fun _ => False)) (F0 m 114 ls [.long x11]) := ⟨_, fun _ => Iff.rfl⟩
              have hjx11 : ∀ x11 : Int64, x11 = (if x1 ≤ 62 then (jshl 1 (x1 - 1)) else 0) → PJx11 x11 := by
                intro x11 ex11
                rw [hPJx11]
                intro ls hl
                replace hjx6 := pf_let (P := PJx6) hjx6 x11 ex11
                refine lv_lstore (lv' := [(8, .long x11), (2, .int x1), (3, .long x2), (5, .long x4)]) hx hb dX6_wholeOf_114 hl (by decide) rfl (fun ls hl => ?_)
                refine lv_iload_n hx hb dX6_wholeOf_116 rfl (lv_at hl 1 rfl) ?_
                refine lv_bipush (v := 62) hx hb dX6_wholeOf_117 (by decide) ?_
                obtain ⟨PJx13, hPJx13⟩ : ∃ P : Int32 → Prop, ∀ x13 : Int32, P x13 ↔ ∀ ls : Array Slot, lv_has ls 10 [(3, .long x2)] → W p l e (headSpec (ws_ yX6_wholeOf cX6_wholeOf 10 (Option.some Jvm.ClassFile.FieldType.long)) ({ frames := 0, cells := 0, slots := 0, locals := 0 })).room s m ([.ref h0, .int p1] : List Value).toArray below meth c s.heap ([]) 0 0 (MQ below (vp_Sl post) ([.ref h0, .int p1] : List Value).toArray s 0 0 (fun _ => False)) (F0 m 151 ls [.int x13]) := ⟨_, fun _ => Iff.rfl⟩
                have hjx13 : ∀ x13 : Int32, x13 = (if 62 < x1 then 0 else (if x11 < x4 then 1 else (if x4 = x11 then (if (x2 &&& 1) = 1 then 1 else 0) else 0))) → PJx13 x13 := by
                  intro x13 ex13
                  rw [hPJx13]
                  intro ls hl
                  replace hjx6 := pf_let (P := PJx6) hjx6 x13 ex13
                  refine lv_istore (lv' := [(7, .int x13), (3, .long x2)]) hx hb dX6_wholeOf_151 hl (by decide) rfl (fun ls hl => ?_)
                  exact (hPJx6 _).1 hjx6 _ (lv_sub hl [1, 0] rfl)
                replace hjx13 := hjx13 _ rfl
                refine lv_icmp_gt (tgt := 150) hx hb dX6_wholeOf_119 (by decide) (fun c14 => ?_) (fun c14 => ?_)
                · replace hjx13 := pf_t (P := PJx13) c14 hjx13
                  refine lv_iconst (v := 0) hx hb dX6_wholeOf_150 (by decide) ?_
                  exact (hPJx13 _).1 hjx13 _ (lv_sub hl [2] rfl)
                · replace hjx13 := pf_f (P := PJx13) c14 hjx13
                  refine lv_lload hx hb dX6_wholeOf_122 (lv_at hl 3 rfl) ?_
                  refine lv_lload hx hb dX6_wholeOf_124 (lv_at hl 0 rfl) ?_
                  refine lx_lgt (tgt := 146) hx hb dX6_wholeOf_126 dX6_wholeOf_127 (by decide) (fun c15 => ?_) (fun c15 => ?_)
                  · replace hjx13 := pf_t (P := PJx13) c15 hjx13
                    refine lv_iconst (v := 1) hx hb dX6_wholeOf_146 (by decide) ?_
                    refine lv_goto (tgt := 151) hx hb dX6_wholeOf_147 (by decide) ?_
                    exact (hPJx13 _).1 hjx13 _ (lv_sub hl [2] rfl)
                  · replace hjx13 := pf_f (P := PJx13) c15 hjx13
                    refine lv_lload hx hb dX6_wholeOf_130 (lv_at hl 3 rfl) ?_
                    refine lv_lload hx hb dX6_wholeOf_132 (lv_at hl 0 rfl) ?_
                    refine lx_lne (tgt := 150) hx hb dX6_wholeOf_134 dX6_wholeOf_135 (by decide) (fun c16 => ?_) (fun c16 => ?_)
                    · replace hjx13 := pf_f (P := PJx13) c16 hjx13
                      refine lv_iconst (v := 0) hx hb dX6_wholeOf_150 (by decide) ?_
                      exact (hPJx13 _).1 hjx13 _ (lv_sub hl [2] rfl)
                    · replace hjx13 := pf_t (P := PJx13) c16 hjx13
                      refine lv_lload_n hx hb dX6_wholeOf_138 rfl (lv_at hl 2 rfl) ?_
                      refine lv_lconst (v := 1) hx hb dX6_wholeOf_139 (by decide) ?_
                      refine lv_land hx hb dX6_wholeOf_140 ?_
                      refine lv_lconst (v := 1) hx hb dX6_wholeOf_141 (by decide) ?_
                      refine lx_lne (tgt := 150) hx hb dX6_wholeOf_142 dX6_wholeOf_143 (by decide) (fun c17 => ?_) (fun c17 => ?_)
                      · replace hjx13 := pf_f (P := PJx13) c17 hjx13
                        refine lv_iconst (v := 0) hx hb dX6_wholeOf_150 (by decide) ?_
                        exact (hPJx13 _).1 hjx13 _ (lv_sub hl [2] rfl)
                      · replace hjx13 := pf_t (P := PJx13) c17 hjx13
                        refine lv_iconst (v := 1) hx hb dX6_wholeOf_146 (by decide) ?_
                        refine lv_goto (tgt := 151) hx hb dX6_wholeOf_147 (by decide) ?_
                        exact (hPJx13 _).1 hjx13 _ (lv_sub hl [2] rfl)
              replace hjx11 := hjx11 _ rfl
              refine lv_icmp_le (tgt := 109) hx hb dX6_wholeOf_102 (by decide) (fun c12 => ?_) (fun c12 => ?_)
              · replace hjx11 := pf_t (P := PJx11) c12 hjx11
                refine lv_lconst (v := 1) hx hb dX6_wholeOf_109 (by decide) ?_
                refine lv_iload_n hx hb dX6_wholeOf_110 rfl (lv_at hl 4 rfl) ?_
                refine lv_iconst (v := 1) hx hb dX6_wholeOf_111 (by decide) ?_
                refine lv_isub hx hb dX6_wholeOf_112 ?_
                refine lv_lshl (v := jshl 1 (x1 - 1)) hx hb dX6_wholeOf_113 rfl ?_
                exact (hPJx11 _).1 hjx11 _ (lv_sub hl [4, 5, 1] rfl)
              · replace hjx11 := pf_f (P := PJx11) c12 hjx11
                refine lv_lconst (v := 0) hx hb dX6_wholeOf_105 (by decide) ?_
                refine lv_goto (tgt := 114) hx hb dX6_wholeOf_106 (by decide) ?_
                exact (hPJx11 _).1 hjx11 _ (lv_sub hl [4, 5, 1] rfl)
          · replace hjx6 := pf_t (P := PJx6) c9 hjx6
            refine lv_aload_n hx hb dX6_wholeOf_77 rfl (lv_at hl 2 rfl) ?_
            refine va_get (D := D) (ci := 6) (v := .int v_neg) (C := RX6) (T := TX6) (N := 20) hx hb hts in_X6 hown hK hP 0 rfl rfl 7 (by decide) (hts _ q1154) (fun _ h9 => h9) rfl dX6_wholeOf_78 ?_
            obtain ⟨PJx18, hPJx18⟩ : ∃ P : Int32 → Prop, ∀ x18 : Int32, P x18 ↔ ∀ ls : Array Slot, lv_has ls 10 [(3, .long x2)] → W p l e (headSpec (ws_ yX6_wholeOf cX6_wholeOf 10 (Option.some Jvm.ClassFile.FieldType.long)) ({ frames := 0, cells := 0, slots := 0, locals := 0 })).room s m ([.ref h0, .int p1] : List Value).toArray below meth c s.heap ([]) 0 0 (MQ below (vp_Sl post) ([.ref h0, .int p1] : List Value).toArray s 0 0 (fun _ => False)) (F0 m 89 ls [.int x18]) := ⟨_, fun _ => Iff.rfl⟩
            have hjx18 : ∀ x18 : Int32, x18 = (if v_neg = 0 then 1 else 0) → PJx18 x18 := by
              intro x18 ex18
              rw [hPJx18]
              intro ls hl
              replace hjx6 := pf_let (P := PJx6) hjx6 x18 ex18
              refine lv_istore (lv' := [(7, .int x18), (3, .long x2)]) hx hb dX6_wholeOf_89 hl (by decide) rfl (fun ls hl => ?_)
              refine lv_goto (tgt := 153) hx hb dX6_wholeOf_91 (by decide) ?_
              exact (hPJx6 _).1 hjx6 _ (lv_sub hl [1, 0] rfl)
            replace hjx18 := hjx18 _ rfl
            refine lv_if_ne (tgt := 88) hx hb dX6_wholeOf_81 (by decide) (fun c19 => ?_) (fun c19 => ?_)
            · replace hjx18 := pf_f (P := PJx18) c19 hjx18
              refine lv_iconst (v := 0) hx hb dX6_wholeOf_88 (by decide) ?_
              exact (hPJx18 _).1 hjx18 _ (lv_sub hl [5] rfl)
            · replace hjx18 := pf_t (P := PJx18) c19 hjx18
              refine lv_iconst (v := 1) hx hb dX6_wholeOf_84 (by decide) ?_
              refine lv_goto (tgt := 89) hx hb dX6_wholeOf_85 (by decide) ?_
              exact (hPJx18 _).1 hjx18 _ (lv_sub hl [5] rfl)
        · replace hjx6 := pf_t (P := PJx6) c8 hjx6
          refine lv_aload_n hx hb dX6_wholeOf_63 rfl (lv_at hl 2 rfl) ?_
          refine va_get (D := D) (ci := 6) (v := .int v_neg) (C := RX6) (T := TX6) (N := 20) hx hb hts in_X6 hown hK hP 0 rfl rfl 7 (by decide) (hts _ q1154) (fun _ h9 => h9) rfl dX6_wholeOf_64 ?_
          refine lv_istore (lv' := [(7, .int v_neg), (5, .long x4), (0, .ref h0), (1, .int p1), (2, .int x1), (3, .long x2)]) hx hb dX6_wholeOf_67 hl (by decide) rfl (fun ls hl => ?_)
          refine lv_goto (tgt := 153) hx hb dX6_wholeOf_69 (by decide) ?_
          exact (hPJx6 _).1 hjx6 _ (lv_sub hl [5, 0] rfl)
    replace hjx4 := hjx4 _ rfl
    refine lv_icmp_le (tgt := 36) hx hb dX6_wholeOf_26 (by decide) (fun c5 => ?_) (fun c5 => ?_)
    · replace hjx4 := pf_t (P := PJx4) c5 hjx4
      refine lv_aload_n hx hb dX6_wholeOf_36 rfl (lv_at hl 1 rfl) ?_
      refine va_get (D := D) (ci := 6) (v := .long v_m) (C := RX6) (T := TX6) (N := 20) hx hb hts in_X6 hown hK hP 0 rfl rfl 10 (by decide) (hts _ q1157) (fun _ h9 => h9) rfl dX6_wholeOf_37 ?_
      refine lv_lconst (v := 1) hx hb dX6_wholeOf_40 (by decide) ?_
      refine lv_iload_n hx hb dX6_wholeOf_41 rfl (lv_at hl 3 rfl) ?_
      refine lv_lshl (v := jshl 1 x1) hx hb dX6_wholeOf_42 rfl ?_
      refine lv_lconst (v := 1) hx hb dX6_wholeOf_43 (by decide) ?_
      refine lv_lsub hx hb dX6_wholeOf_44 ?_
      refine lv_land hx hb dX6_wholeOf_45 ?_
      exact (hPJx4 _).1 hjx4 _ (lv_sub hl [1, 2, 3, 0] rfl)
    · replace hjx4 := pf_f (P := PJx4) c5 hjx4
      refine lv_aload_n hx hb dX6_wholeOf_29 rfl (lv_at hl 1 rfl) ?_
      refine va_get (D := D) (ci := 6) (v := .long v_m) (C := RX6) (T := TX6) (N := 20) hx hb hts in_X6 hown hK hP 0 rfl rfl 10 (by decide) (hts _ q1157) (fun _ h9 => h9) rfl dX6_wholeOf_30 ?_
      refine lv_goto (tgt := 46) hx hb dX6_wholeOf_33 (by decide) ?_
      exact (hPJx4 _).1 hjx4 _ (lv_sub hl [1, 2, 3, 0] rfl)
  replace hjx2 := hjx2 _ rfl
  refine lv_icmp_le (tgt := 16) hx hb dX6_wholeOf_9 (by decide) (fun c3 => ?_) (fun c3 => ?_)
  · replace hjx2 := pf_t (P := PJx2) c3 hjx2
    refine lv_aload_n hx hb dX6_wholeOf_16 rfl (lv_at hl 1 rfl) ?_
    refine va_get (D := D) (ci := 6) (v := .long v_m) (C := RX6) (T := TX6) (N := 20) hx hb hts in_X6 hown hK hP 0 rfl rfl 10 (by decide) (hts _ q1157) (fun _ h9 => h9) rfl dX6_wholeOf_17 ?_
    refine lv_iload_n hx hb dX6_wholeOf_20 rfl (lv_at hl 0 rfl) ?_
    refine lv_lushr (v := jushr v_m x1) hx hb dX6_wholeOf_21 rfl ?_
    exact (hPJx2 _).1 hjx2 _ (lv_sub hl [1, 2, 0] rfl)
  · replace hjx2 := pf_f (P := PJx2) c3 hjx2
    refine lv_lconst (v := 0) hx hb dX6_wholeOf_12 (by decide) ?_
    refine lv_goto (tgt := 22) hx hb dX6_wholeOf_13 (by decide) ?_
    exact (hPJx2 _).1 hjx2 _ (lv_sub hl [1, 2, 0] rfl)

theorem hd_X6_isKind : yX6_isKind.cls ≠ "java/lang/invoke/MethodHandle" ∧ yX6_isKind.cls ≠ "java/lang/invoke/VarHandle" ∧ (parseMethodDescriptor yX6_isKind.desc).map (fun d => d.parameters.length) = some 1 := by decide +kernel
theorem hd_X6_isRow : yX6_isRow.cls ≠ "java/lang/invoke/MethodHandle" ∧ yX6_isRow.cls ≠ "java/lang/invoke/VarHandle" ∧ (parseMethodDescriptor yX6_isRow.desc).map (fun d => d.parameters.length) = some 1 := by decide +kernel
def fX6_barred (g_rowKind : Nat → Int32) (g_rowSize : Nat → Int32) (p1 : Int32) (p2 : Int32) (p3 : Int32) : Int32 := if (fX6_isRow p1) = 0 then 9 else (if (fX6_isKind p2) = 0 then 9 else (lt_ (if 0 ≤ (g_rowKind p1.toNatClampNeg) then (if (g_rowKind p1.toNatClampNeg) = p2 then (if p3 < 0 then 2 else (if p3 < (g_rowSize p1.toNatClampNeg) then 0 else 2)) else 5) else 1) (fun x3 : Int32 => x3)))
def oX6_barred (g_rowKind : Nat → Int32) (p1 : Int32) (p2 : Int32) (p3 : Int32) : Prop := (((fX6_isRow p1) = 0) → True) ∧ (¬ ((fX6_isRow p1) = 0) → (((fX6_isKind p2) = 0) → True) ∧ (¬ ((fX6_isKind p2) = 0) → (vp_in p1 8) ∧ (((0 ≤ (g_rowKind p1.toNatClampNeg)) → (vp_in p1 8) ∧ ((((g_rowKind p1.toNatClampNeg) = p2) → ((p3 < 0) → True) ∧ (¬ (p3 < 0) → (vp_in p1 8))) ∧ (¬ ((g_rowKind p1.toNatClampNeg) = p2) → True))) ∧ (¬ (0 ≤ (g_rowKind p1.toNatClampNeg)) → True))))
set_option maxHeartbeats 4000000 in
set_option maxRecDepth 100000 in
theorem mX6_barred (l : Launch) (D : va_G) (TY : Nat → ClassId) (h0 : Nat) (c_counts : Nat) (c_text : Nat) (c_rows : Nat) (c_rowKind : Nat) (c_rowSize : Nat) (c_num : Nat) (c_den : Nat) (c_work : Nat) (c_root : Nat) (v_failed : Int32) (v_size : Int32) (v_neg : Int32) (v_nan : Int32) (v_inf : Int32) (v_m : Int64) (v_n : Int32) (v_at : Int32) (v_end : Int32) (v_fault : Int32) (v_digits : Int32) (g_counts : Nat → Int32) (g_text : Nat → Int32) (g_rows : Nat → Int64) (g_rowKind : Nat → Int32) (g_rowSize : Nat → Int32) (g_num : Nat → Int64) (g_den : Nat → Int64) (g_work : Nat → Int64) (g_root : Nat → Int64) (p1 : Int32) (p2 : Int32) (p3 : Int32) (post : Int32 → Prop) (hw : post (fX6_barred g_rowKind g_rowSize p1 p2 p3)) (hok : oX6_barred g_rowKind p1 p2 p3) : Met l yX6_barred (ws_ yX6_barred cX6_barred 4 (Option.some Jvm.ClassFile.FieldType.int)) ({ frames := 1, cells := 0, slots := 0, locals := 20 }) (PR D TY [.ref h0, .int p1, .int p2, .int p3] [(h0, .inr (6, [.int v_failed, .ref c_counts, .ref c_text, .int v_size, .ref c_rows, .ref c_rowKind, .ref c_rowSize, .int v_neg, .int v_nan, .int v_inf, .long v_m, .int v_n, .ref c_num, .ref c_den, .ref c_work, .ref c_root, .int v_at, .int v_end, .int v_fault, .int v_digits])), (c_counts, .inl (TY 0, 10, .inl g_counts)), (c_text, .inl (TY 0, 60, .inl g_text)), (c_rows, .inl (TY 1, 320, .inr (.inl g_rows))), (c_rowKind, .inl (TY 0, 8, .inl g_rowKind)), (c_rowSize, .inl (TY 0, 8, .inl g_rowSize)), (c_num, .inl (TY 1, 170, .inr (.inl g_num))), (c_den, .inl (TY 1, 170, .inr (.inl g_den))), (c_work, .inl (TY 1, 170, .inr (.inl g_work))), (c_root, .inl (TY 1, 170, .inr (.inl g_root)))]) (vp_Si post) 0 0 (fun _ => False) := by
  refine ofWF (cc := cX6_barred) (maxL := 4) (ret := (Option.some Jvm.ClassFile.FieldType.int)) (plainFor_of_name (by decide)) rfl ?_
  intro p e s m args below meth c s₁ B hml hv
  obtain ⟨rfl, hP, hK, hG⟩ := hv
  have hx := B.exec
  have hb := B.bytes
  have hr := B.returns
  have hts0 := atoms_spec (ws := ws_ yX6_barred cX6_barred 4 (Option.some Jvm.ClassFile.FieldType.int)) B.pre
  have hts : ∀ w ∈ lw_all, w.before _ s = true := fun w h => hts0 w (List.mem_cons_of_mem _ h)
  have hown : s.vm.findClass RX6 = some m.cls := findClass_of_methodNamed B.named
  have hlocks := B.notSynchronized
  have hS : va_S (fun _ => False) s.heap s.heap [] := va_S.rf
  have hl := lv_entry ([.ref h0, .int p1, .int p2, .int p3]) (n := 4) (Nat.le_of_ble_eq_true rfl)
  rw [lg_entry_eq]
  generalize (lg_sl ([.ref h0, .int p1, .int p2, .int p3]) ++ List.replicate (4 - (lg_sl ([.ref h0, .int p1, .int p2, .int p3])).length) Slot.unset).toArray = ls at hl ⊢
  have hl : lv_has ls 4 [(0, .ref h0), (1, .int p1), (2, .int p2), (3, .int p3)] := hl
  unfold fX6_barred at hw
  unfold oX6_barred at hok
  refine lv_iload_n hx hb dX6_barred_0 rfl (lv_at hl 1 rfl) ?_
  refine cSi (v := fX6_isRow p1) (W.runS (As := [.int p1]) (rest := []) ⟨hx, hb, hml, hown, hts⟩ (mX6_isRow l D TY p1 (fun r => r = fX6_isRow p1) rfl) (va_cwS 1 hts (lw_S q1549 q1550 q50 q1551) rfl rfl rfl hd_X6_isRow ⟨Nat.le_of_ble_eq_true rfl, Nat.le_of_ble_eq_true rfl⟩) (PR.S hP [] rfl hK hG hS) rfl rfl hl.1 rfl (lv_room (Nat.le_of_ble_eq_true rfl)) dX6_barred_1 ⟨Nat.le_of_ble_eq_true rfl, Nat.le_of_ble_eq_true rfl⟩) ?_
  refine lv_if_eq (tgt := 14) hx hb dX6_barred_4 (by decide) (fun c1 => ?_) (fun c1 => ?_)
  · replace hw := pf_t (P := post) c1 hw
    refine lv_bipush (v := 9) hx hb dX6_barred_14 (by decide) ?_
    exact W.iret (v := 9) hx hb hr (fun t ht hW => ⟨_, rfl, hw, ht⟩) (fun q h => nomatch h) dX6_barred_16
  · replace hw := pf_f (P := post) c1 hw
    replace hok := hok.2 c1
    refine lv_iload_n hx hb dX6_barred_7 rfl (lv_at hl 2 rfl) ?_
    refine cSi (v := fX6_isKind p2) (W.runS (As := [.int p2]) (rest := []) ⟨hx, hb, hml, hown, hts⟩ (mX6_isKind l D TY p2 (fun r => r = fX6_isKind p2) rfl) (va_cwS 1 hts (lw_S q1229 q1230 q50 q1231) rfl rfl rfl hd_X6_isKind ⟨Nat.le_of_ble_eq_true rfl, Nat.le_of_ble_eq_true rfl⟩) (PR.S hP [] rfl hK hG hS) rfl rfl hl.1 rfl (lv_room (Nat.le_of_ble_eq_true rfl)) dX6_barred_8 ⟨Nat.le_of_ble_eq_true rfl, Nat.le_of_ble_eq_true rfl⟩) ?_
    refine lv_if_ne (tgt := 17) hx hb dX6_barred_11 (by decide) (fun c2 => ?_) (fun c2 => ?_)
    · replace hw := pf_f (P := post) c2 hw
      replace hok := hok.2 c2
      refine lv_aload_n hx hb dX6_barred_17 rfl (lv_at hl 0 rfl) ?_
      refine va_get (D := D) (ci := 6) (v := .ref c_rowKind) (C := RX6) (T := TX6) (N := 20) hx hb hts in_X6 hown hK hP 0 rfl rfl 5 (by decide) (hts _ q1152) (fun _ h9 => h9) rfl dX6_barred_18 ?_
      refine lv_iload_n hx hb dX6_barred_21 rfl (lv_at hl 1 rfl) ?_
      refine va_iald hx hb hK hP 4 0 rfl rfl hok.1 dX6_barred_22 ?_
      replace hok := hok.2
      obtain ⟨PJx3, hPJx3⟩ : ∃ P : Int32 → Prop, ∀ x3 : Int32, P x3 ↔ ∀ ls : Array Slot, lv_has ls 4 [] → W p l e (headSpec (ws_ yX6_barred cX6_barred 4 (Option.some Jvm.ClassFile.FieldType.int)) ({ frames := 1, cells := 0, slots := 0, locals := 20 })).room s m ([.ref h0, .int p1, .int p2, .int p3] : List Value).toArray below meth c s.heap ([]) 0 0 (MQ below (vp_Si post) ([.ref h0, .int p1, .int p2, .int p3] : List Value).toArray s 0 0 (fun _ => False)) (F0 m 63 ls [.int x3]) := ⟨_, fun _ => Iff.rfl⟩
      have hox3 := hok
      have hjx3 : ∀ x3 : Int32, x3 = (if 0 ≤ (g_rowKind p1.toNatClampNeg) then (if (g_rowKind p1.toNatClampNeg) = p2 then (if p3 < 0 then 2 else (if p3 < (g_rowSize p1.toNatClampNeg) then 0 else 2)) else 5) else 1) → PJx3 x3 := by
        intro x3 ex3
        rw [hPJx3]
        intro ls hl
        replace hw := pf_let (P := post) hw x3 ex3
        exact W.iret (v := x3) hx hb hr (fun t ht hW => ⟨_, rfl, hw, ht⟩) (fun q h => nomatch h) dX6_barred_63
      replace hjx3 := hjx3 _ rfl
      refine lv_if_ge (tgt := 30) hx hb dX6_barred_23 (by decide) (fun c4 => ?_) (fun c4 => ?_)
      · replace hjx3 := pf_t (P := PJx3) c4 hjx3
        replace hox3 := hox3.1 c4
        refine lv_aload_n hx hb dX6_barred_30 rfl (lv_at hl 0 rfl) ?_
        refine va_get (D := D) (ci := 6) (v := .ref c_rowKind) (C := RX6) (T := TX6) (N := 20) hx hb hts in_X6 hown hK hP 0 rfl rfl 5 (by decide) (hts _ q1152) (fun _ h9 => h9) rfl dX6_barred_31 ?_
        refine lv_iload_n hx hb dX6_barred_34 rfl (lv_at hl 1 rfl) ?_
        refine va_iald hx hb hK hP 4 0 rfl rfl hox3.1 dX6_barred_35 ?_
        replace hox3 := hox3.2
        refine lv_iload_n hx hb dX6_barred_36 rfl (lv_at hl 2 rfl) ?_
        refine lv_icmp_eq (tgt := 44) hx hb dX6_barred_37 (by decide) (fun c5 => ?_) (fun c5 => ?_)
        · replace hjx3 := pf_t (P := PJx3) c5 hjx3
          replace hox3 := hox3.1 c5
          refine lv_iload_n hx hb dX6_barred_44 rfl (lv_at hl 3 rfl) ?_
          refine lv_if_lt (tgt := 58) hx hb dX6_barred_45 (by decide) (fun c6 => ?_) (fun c6 => ?_)
          · replace hjx3 := pf_t (P := PJx3) c6 hjx3
            refine lv_iconst (v := 2) hx hb dX6_barred_58 (by decide) ?_
            refine lv_goto (tgt := 63) hx hb dX6_barred_59 (by decide) ?_
            exact (hPJx3 _).1 hjx3 _ (lv_sub hl [] rfl)
          · replace hjx3 := pf_f (P := PJx3) c6 hjx3
            replace hox3 := hox3.2 c6
            refine lv_iload_n hx hb dX6_barred_48 rfl (lv_at hl 3 rfl) ?_
            refine lv_aload_n hx hb dX6_barred_49 rfl (lv_at hl 0 rfl) ?_
            refine va_get (D := D) (ci := 6) (v := .ref c_rowSize) (C := RX6) (T := TX6) (N := 20) hx hb hts in_X6 hown hK hP 0 rfl rfl 6 (by decide) (hts _ q1153) (fun _ h9 => h9) rfl dX6_barred_50 ?_
            refine lv_iload_n hx hb dX6_barred_53 rfl (lv_at hl 1 rfl) ?_
            refine va_iald hx hb hK hP 5 0 rfl rfl hox3 dX6_barred_54 ?_
            refine lv_icmp_lt (tgt := 62) hx hb dX6_barred_55 (by decide) (fun c7 => ?_) (fun c7 => ?_)
            · replace hjx3 := pf_t (P := PJx3) c7 hjx3
              refine lv_iconst (v := 0) hx hb dX6_barred_62 (by decide) ?_
              exact (hPJx3 _).1 hjx3 _ (lv_sub hl [] rfl)
            · replace hjx3 := pf_f (P := PJx3) c7 hjx3
              refine lv_iconst (v := 2) hx hb dX6_barred_58 (by decide) ?_
              refine lv_goto (tgt := 63) hx hb dX6_barred_59 (by decide) ?_
              exact (hPJx3 _).1 hjx3 _ (lv_sub hl [] rfl)
        · replace hjx3 := pf_f (P := PJx3) c5 hjx3
          refine lv_iconst (v := 5) hx hb dX6_barred_40 (by decide) ?_
          refine lv_goto (tgt := 63) hx hb dX6_barred_41 (by decide) ?_
          exact (hPJx3 _).1 hjx3 _ (lv_sub hl [] rfl)
      · replace hjx3 := pf_f (P := PJx3) c4 hjx3
        refine lv_iconst (v := 1) hx hb dX6_barred_26 (by decide) ?_
        refine lv_goto (tgt := 63) hx hb dX6_barred_27 (by decide) ?_
        exact (hPJx3 _).1 hjx3 _ (lv_sub hl [] rfl)
    · replace hw := pf_t (P := post) c2 hw
      refine lv_bipush (v := 9) hx hb dX6_barred_14 (by decide) ?_
      exact W.iret (v := 9) hx hb hr (fun t ht hW => ⟨_, rfl, hw, ht⟩) (fun q h => nomatch h) dX6_barred_16

def fX6_peek (v_at : Int32) (v_end : Int32) (g_text : Nat → Int32) : Int32 := lt_ (if v_end ≤ v_at then (-1) else (g_text v_at.toNatClampNeg)) (fun x1 : Int32 => x1)
def oX6_peek (v_at : Int32) (v_end : Int32) : Prop := ((v_end ≤ v_at) → True) ∧ (¬ (v_end ≤ v_at) → (vp_in v_at 60))
set_option maxHeartbeats 4000000 in
set_option maxRecDepth 100000 in
theorem mX6_peek (l : Launch) (D : va_G) (TY : Nat → ClassId) (h0 : Nat) (c_counts : Nat) (c_text : Nat) (c_rows : Nat) (c_rowKind : Nat) (c_rowSize : Nat) (c_num : Nat) (c_den : Nat) (c_work : Nat) (c_root : Nat) (v_failed : Int32) (v_size : Int32) (v_neg : Int32) (v_nan : Int32) (v_inf : Int32) (v_m : Int64) (v_n : Int32) (v_at : Int32) (v_end : Int32) (v_fault : Int32) (v_digits : Int32) (g_counts : Nat → Int32) (g_text : Nat → Int32) (g_rows : Nat → Int64) (g_rowKind : Nat → Int32) (g_rowSize : Nat → Int32) (g_num : Nat → Int64) (g_den : Nat → Int64) (g_work : Nat → Int64) (g_root : Nat → Int64) (post : Int32 → Prop) (hw : post (fX6_peek v_at v_end g_text)) (hok : oX6_peek v_at v_end) : Met l yX6_peek (ws_ yX6_peek cX6_peek 1 (Option.some Jvm.ClassFile.FieldType.int)) ({ frames := 0, cells := 0, slots := 0, locals := 0 }) (PR D TY [.ref h0] [(h0, .inr (6, [.int v_failed, .ref c_counts, .ref c_text, .int v_size, .ref c_rows, .ref c_rowKind, .ref c_rowSize, .int v_neg, .int v_nan, .int v_inf, .long v_m, .int v_n, .ref c_num, .ref c_den, .ref c_work, .ref c_root, .int v_at, .int v_end, .int v_fault, .int v_digits])), (c_counts, .inl (TY 0, 10, .inl g_counts)), (c_text, .inl (TY 0, 60, .inl g_text)), (c_rows, .inl (TY 1, 320, .inr (.inl g_rows))), (c_rowKind, .inl (TY 0, 8, .inl g_rowKind)), (c_rowSize, .inl (TY 0, 8, .inl g_rowSize)), (c_num, .inl (TY 1, 170, .inr (.inl g_num))), (c_den, .inl (TY 1, 170, .inr (.inl g_den))), (c_work, .inl (TY 1, 170, .inr (.inl g_work))), (c_root, .inl (TY 1, 170, .inr (.inl g_root)))]) (vp_Si post) 0 0 (fun _ => False) := by
  refine ofWF (cc := cX6_peek) (maxL := 1) (ret := (Option.some Jvm.ClassFile.FieldType.int)) (plainFor_of_name (by decide)) rfl ?_
  intro p e s m args below meth c s₁ B hml hv
  obtain ⟨rfl, hP, hK, hG⟩ := hv
  have hx := B.exec
  have hb := B.bytes
  have hr := B.returns
  have hts0 := atoms_spec (ws := ws_ yX6_peek cX6_peek 1 (Option.some Jvm.ClassFile.FieldType.int)) B.pre
  have hts : ∀ w ∈ lw_all, w.before _ s = true := fun w h => hts0 w (List.mem_cons_of_mem _ h)
  have hown : s.vm.findClass RX6 = some m.cls := findClass_of_methodNamed B.named
  have hlocks := B.notSynchronized
  have hS : va_S (fun _ => False) s.heap s.heap [] := va_S.rf
  have hl := lv_entry ([.ref h0]) (n := 1) (Nat.le_of_ble_eq_true rfl)
  rw [lg_entry_eq]
  generalize (lg_sl ([.ref h0]) ++ List.replicate (1 - (lg_sl ([.ref h0])).length) Slot.unset).toArray = ls at hl ⊢
  have hl : lv_has ls 1 [(0, .ref h0)] := hl
  unfold fX6_peek at hw
  unfold oX6_peek at hok
  refine lv_aload_n hx hb dX6_peek_0 rfl (lv_at hl 0 rfl) ?_
  refine va_get (D := D) (ci := 6) (v := .int v_at) (C := RX6) (T := TX6) (N := 20) hx hb hts in_X6 hown hK hP 0 rfl rfl 16 (by decide) (hts _ q1163) (fun _ h9 => h9) rfl dX6_peek_1 ?_
  refine lv_aload_n hx hb dX6_peek_4 rfl (lv_at hl 0 rfl) ?_
  refine va_get (D := D) (ci := 6) (v := .int v_end) (C := RX6) (T := TX6) (N := 20) hx hb hts in_X6 hown hK hP 0 rfl rfl 17 (by decide) (hts _ q1164) (fun _ h9 => h9) rfl dX6_peek_5 ?_
  obtain ⟨PJx1, hPJx1⟩ : ∃ P : Int32 → Prop, ∀ x1 : Int32, P x1 ↔ ∀ ls : Array Slot, lv_has ls 1 [] → W p l e (headSpec (ws_ yX6_peek cX6_peek 1 (Option.some Jvm.ClassFile.FieldType.int)) ({ frames := 0, cells := 0, slots := 0, locals := 0 })).room s m ([.ref h0] : List Value).toArray below meth c s.heap ([]) 0 0 (MQ below (vp_Si post) ([.ref h0] : List Value).toArray s 0 0 (fun _ => False)) (F0 m 24 ls [.int x1]) := ⟨_, fun _ => Iff.rfl⟩
  have hox1 := hok
  have hjx1 : ∀ x1 : Int32, x1 = (if v_end ≤ v_at then (-1) else (g_text v_at.toNatClampNeg)) → PJx1 x1 := by
    intro x1 ex1
    rw [hPJx1]
    intro ls hl
    replace hw := pf_let (P := post) hw x1 ex1
    exact W.iret (v := x1) hx hb hr (fun t ht hW => ⟨_, rfl, hw, ht⟩) (fun q h => nomatch h) dX6_peek_24
  replace hjx1 := hjx1 _ rfl
  refine lv_icmp_ge (tgt := 23) hx hb dX6_peek_8 (by decide) (fun c2 => ?_) (fun c2 => ?_)
  · replace hjx1 := pf_t (P := PJx1) c2 hjx1
    refine lv_iconst (v := (-1)) hx hb dX6_peek_23 (by decide) ?_
    exact (hPJx1 _).1 hjx1 _ (lv_sub hl [] rfl)
  · replace hjx1 := pf_f (P := PJx1) c2 hjx1
    replace hox1 := hox1.2 c2
    refine lv_aload_n hx hb dX6_peek_11 rfl (lv_at hl 0 rfl) ?_
    refine va_get (D := D) (ci := 6) (v := .ref c_text) (C := RX6) (T := TX6) (N := 20) hx hb hts in_X6 hown hK hP 0 rfl rfl 2 (by decide) (hts _ q1149) (fun _ h9 => h9) rfl dX6_peek_12 ?_
    refine lv_aload_n hx hb dX6_peek_15 rfl (lv_at hl 0 rfl) ?_
    refine va_get (D := D) (ci := 6) (v := .int v_at) (C := RX6) (T := TX6) (N := 20) hx hb hts in_X6 hown hK hP 0 rfl rfl 16 (by decide) (hts _ q1163) (fun _ h9 => h9) rfl dX6_peek_16 ?_
    refine va_iald hx hb hK hP 2 0 rfl rfl hox1 dX6_peek_19 ?_
    refine lv_goto (tgt := 24) hx hb dX6_peek_20 (by decide) ?_
    exact (hPJx1 _).1 hjx1 _ (lv_sub hl [] rfl)

theorem hd_X6_peek : yX6_peek.cls ≠ "java/lang/invoke/MethodHandle" ∧ yX6_peek.cls ≠ "java/lang/invoke/VarHandle" ∧ (parseMethodDescriptor yX6_peek.desc).map (fun d => d.parameters.length) = some 0 := by decide +kernel
def fX6_isDigit (v_at : Int32) (v_end : Int32) (g_text : Nat → Int32) : Int32 := lt_ (if (fX6_peek v_at v_end g_text) < 48 then 0 else (if 57 < (fX6_peek v_at v_end g_text) then 0 else 1)) (fun x1 : Int32 => x1)
def oX6_isDigit (v_at : Int32) (v_end : Int32) (g_text : Nat → Int32) : Prop := (oX6_peek v_at v_end) ∧ ((((fX6_peek v_at v_end g_text) < 48) → True) ∧ (¬ ((fX6_peek v_at v_end g_text) < 48) → (oX6_peek v_at v_end)))
theorem zb_fX6_isDigit (v_at : Int32) (v_end : Int32) (g_text : Nat → Int32) : Zb (fX6_isDigit v_at v_end g_text) := by
  unfold fX6_isDigit
  exact (zb_ite rfl (zb_ite rfl rfl))
set_option maxHeartbeats 4000000 in
set_option maxRecDepth 100000 in
theorem mX6_isDigit (l : Launch) (D : va_G) (TY : Nat → ClassId) (h0 : Nat) (c_counts : Nat) (c_text : Nat) (c_rows : Nat) (c_rowKind : Nat) (c_rowSize : Nat) (c_num : Nat) (c_den : Nat) (c_work : Nat) (c_root : Nat) (v_failed : Int32) (v_size : Int32) (v_neg : Int32) (v_nan : Int32) (v_inf : Int32) (v_m : Int64) (v_n : Int32) (v_at : Int32) (v_end : Int32) (v_fault : Int32) (v_digits : Int32) (g_counts : Nat → Int32) (g_text : Nat → Int32) (g_rows : Nat → Int64) (g_rowKind : Nat → Int32) (g_rowSize : Nat → Int32) (g_num : Nat → Int64) (g_den : Nat → Int64) (g_work : Nat → Int64) (g_root : Nat → Int64) (post : Int32 → Prop) (hw : post (fX6_isDigit v_at v_end g_text)) (hok : oX6_isDigit v_at v_end g_text) : Met l yX6_isDigit (ws_ yX6_isDigit cX6_isDigit 1 (Option.some Jvm.ClassFile.FieldType.boolean)) ({ frames := 1, cells := 0, slots := 0, locals := 20 }) (PR D TY [.ref h0] [(h0, .inr (6, [.int v_failed, .ref c_counts, .ref c_text, .int v_size, .ref c_rows, .ref c_rowKind, .ref c_rowSize, .int v_neg, .int v_nan, .int v_inf, .long v_m, .int v_n, .ref c_num, .ref c_den, .ref c_work, .ref c_root, .int v_at, .int v_end, .int v_fault, .int v_digits])), (c_counts, .inl (TY 0, 10, .inl g_counts)), (c_text, .inl (TY 0, 60, .inl g_text)), (c_rows, .inl (TY 1, 320, .inr (.inl g_rows))), (c_rowKind, .inl (TY 0, 8, .inl g_rowKind)), (c_rowSize, .inl (TY 0, 8, .inl g_rowSize)), (c_num, .inl (TY 1, 170, .inr (.inl g_num))), (c_den, .inl (TY 1, 170, .inr (.inl g_den))), (c_work, .inl (TY 1, 170, .inr (.inl g_work))), (c_root, .inl (TY 1, 170, .inr (.inl g_root)))]) (vp_Si post) 0 0 (fun _ => False) := by
  refine ofWF (cc := cX6_isDigit) (maxL := 1) (ret := (Option.some Jvm.ClassFile.FieldType.boolean)) (plainFor_of_name (by decide)) rfl ?_
  intro p e s m args below meth c s₁ B hml hv
  obtain ⟨rfl, hP, hK, hG⟩ := hv
  have hx := B.exec
  have hb := B.bytes
  have hr := B.returns
  have hts0 := atoms_spec (ws := ws_ yX6_isDigit cX6_isDigit 1 (Option.some Jvm.ClassFile.FieldType.boolean)) B.pre
  have hts : ∀ w ∈ lw_all, w.before _ s = true := fun w h => hts0 w (List.mem_cons_of_mem _ h)
  have hown : s.vm.findClass RX6 = some m.cls := findClass_of_methodNamed B.named
  have hlocks := B.notSynchronized
  have hS : va_S (fun _ => False) s.heap s.heap [] := va_S.rf
  have hl := lv_entry ([.ref h0]) (n := 1) (Nat.le_of_ble_eq_true rfl)
  rw [lg_entry_eq]
  generalize (lg_sl ([.ref h0]) ++ List.replicate (1 - (lg_sl ([.ref h0])).length) Slot.unset).toArray = ls at hl ⊢
  have hl : lv_has ls 1 [(0, .ref h0)] := hl
  unfold fX6_isDigit at hw
  unfold oX6_isDigit at hok
  refine lv_aload_n hx hb dX6_isDigit_0 rfl (lv_at hl 0 rfl) ?_
  refine cSi (v := fX6_peek v_at v_end g_text) (W.runV (As := []) (rest := []) ⟨hx, hb, hml, hown, hts⟩ (mX6_peek l D TY h0 c_counts c_text c_rows c_rowKind c_rowSize c_num c_den c_work c_root v_failed v_size v_neg v_nan v_inf v_m v_n v_at v_end v_fault v_digits g_counts g_text g_rows g_rowKind g_rowSize g_num g_den g_work g_root (fun r => r = fX6_peek v_at v_end g_text) rfl hok.1) (cwV 0 hts (lw_V q1527 q1529 qs38 q50 q1530) rfl rfl rfl ⟨rfl, hd_X6_peek⟩ ⟨Nat.le_of_ble_eq_true rfl, Nat.le_of_ble_eq_true rfl⟩) (PR.V (q0 := 0) (ci := 6) hP [0, 1, 2, 3, 4, 5, 6, 7, 8, 9] rfl hK hG hS rfl rfl) rfl rfl hl.1 rfl (lv_room (Nat.le_of_ble_eq_true rfl)) dX6_isDigit_1 ⟨Nat.le_of_ble_eq_true rfl, Nat.le_of_ble_eq_true rfl⟩) ?_
  replace hok := hok.2
  refine lv_bipush (v := 48) hx hb dX6_isDigit_4 (by decide) ?_
  obtain ⟨PJx1, hPJx1⟩ : ∃ P : Int32 → Prop, ∀ x1 : Int32, P x1 ↔ ∀ ls : Array Slot, lv_has ls 1 [] → W p l e (headSpec (ws_ yX6_isDigit cX6_isDigit 1 (Option.some Jvm.ClassFile.FieldType.boolean)) ({ frames := 1, cells := 0, slots := 0, locals := 20 })).room s m ([.ref h0] : List Value).toArray below meth c s.heap ([]) 0 0 (MQ below (vp_Si post) ([.ref h0] : List Value).toArray s 0 0 (fun _ => False)) (F0 m 23 ls [.int x1]) := ⟨_, fun _ => Iff.rfl⟩
  have hox1 := hok
  have hjx1 : ∀ x1 : Int32, x1 = (if (fX6_peek v_at v_end g_text) < 48 then 0 else (if 57 < (fX6_peek v_at v_end g_text) then 0 else 1)) → PJx1 x1 := by
    intro x1 ex1
    rw [hPJx1]
    intro ls hl
    replace hw := pf_let (P := post) hw x1 ex1
    exact W.zret (v := x1) hx hb hr (by rw [ex1]; exact (zb_ite rfl (zb_ite rfl rfl))) (fun t ht hW => ⟨_, rfl, hw, ht⟩) (fun q h => nomatch h) dX6_isDigit_23
  replace hjx1 := hjx1 _ rfl
  refine lv_icmp_lt (tgt := 22) hx hb dX6_isDigit_6 (by decide) (fun c2 => ?_) (fun c2 => ?_)
  · replace hjx1 := pf_t (P := PJx1) c2 hjx1
    refine lv_iconst (v := 0) hx hb dX6_isDigit_22 (by decide) ?_
    exact (hPJx1 _).1 hjx1 _ (lv_sub hl [] rfl)
  · replace hjx1 := pf_f (P := PJx1) c2 hjx1
    replace hox1 := hox1.2 c2
    refine lv_aload_n hx hb dX6_isDigit_9 rfl (lv_at hl 0 rfl) ?_
    refine cSi (v := fX6_peek v_at v_end g_text) (W.runV (As := []) (rest := []) ⟨hx, hb, hml, hown, hts⟩ (mX6_peek l D TY h0 c_counts c_text c_rows c_rowKind c_rowSize c_num c_den c_work c_root v_failed v_size v_neg v_nan v_inf v_m v_n v_at v_end v_fault v_digits g_counts g_text g_rows g_rowKind g_rowSize g_num g_den g_work g_root (fun r => r = fX6_peek v_at v_end g_text) rfl hox1) (cwV 0 hts (lw_V q1527 q1529 qs38 q50 q1530) rfl rfl rfl ⟨rfl, hd_X6_peek⟩ ⟨Nat.le_of_ble_eq_true rfl, Nat.le_of_ble_eq_true rfl⟩) (PR.V (q0 := 0) (ci := 6) hP [0, 1, 2, 3, 4, 5, 6, 7, 8, 9] rfl hK hG hS rfl rfl) rfl rfl hl.1 rfl (lv_room (Nat.le_of_ble_eq_true rfl)) dX6_isDigit_10 ⟨Nat.le_of_ble_eq_true rfl, Nat.le_of_ble_eq_true rfl⟩) ?_
    refine lv_bipush (v := 57) hx hb dX6_isDigit_13 (by decide) ?_
    refine lv_icmp_gt (tgt := 22) hx hb dX6_isDigit_15 (by decide) (fun c3 => ?_) (fun c3 => ?_)
    · replace hjx1 := pf_t (P := PJx1) c3 hjx1
      refine lv_iconst (v := 0) hx hb dX6_isDigit_22 (by decide) ?_
      exact (hPJx1 _).1 hjx1 _ (lv_sub hl [] rfl)
    · replace hjx1 := pf_f (P := PJx1) c3 hjx1
      refine lv_iconst (v := 1) hx hb dX6_isDigit_18 (by decide) ?_
      refine lv_goto (tgt := 23) hx hb dX6_isDigit_19 (by decide) ?_
      exact (hPJx1 _).1 hjx1 _ (lv_sub hl [] rfl)
