theorem i32_modelled (i : Int32) : ((toString i) == notModelled) = false := by
  rw [beq_eq_false_iff_ne]
  intro h
  have h1 := int32_print i
  rw [h] at h1
  exact absurd h1 (by decide)
theorem i32_bytes (i : Int32) : (stringBytes (stringToUtf16 (toString i))).size ≤ 212 := by
  have h1 := int32_print i
  have h2 := utf16_size_le (toString i)
  have h3 := stringBytes_size_le (stringToUtf16 (toString i))
  omega

set_option maxHeartbeats 4000000 in
set_option maxRecDepth 100000 in
theorem mX0_made_F (l : Launch) (D : va_G) (TY : Nat → ClassId) (sz : Nat) (p0 p1 : Int32) (h0 : p0 = 0) (hn : ¬ p1 < 0) (h40 : p1.toNatClampNeg ≤ 40) : Met l yX0_made (ws_ yX0_made cX0_made 2 (Option.some (Jvm.ClassFile.FieldType.object "java/lang/Object"))) ({ frames := 0, cells := 1, slots := 40, locals := 0 }) (PC D TY [.int p0, .int p1] sz []) (va_Qr (fun (_ : Unit) => True) (fun (_ : Unit) (q : Nat) t => BB D TY (va_A [] sz) [(q, .inl (TY 2, p1.toNatClampNeg, .inr (.inr (.inl (fun _ => 0)))))] t) (va_A [] sz)) 1 40 (va_A [] sz) := by
  refine ofWF (cc := cX0_made) (maxL := 2) (ret := (Option.some (Jvm.ClassFile.FieldType.object "java/lang/Object"))) (plainFor_of_name (by decide)) rfl ?_
  intro p e s m args below meth c s₁ B hml hv
  obtain ⟨rfl, hsz, hP, hK, hD0, hG⟩ := hv
  have hx := B.exec
  have hb := B.bytes
  have hr := B.returns
  have hts0 := atoms_spec (ws := ws_ yX0_made cX0_made 2 (Option.some (Jvm.ClassFile.FieldType.object "java/lang/Object"))) B.pre
  have hts : ∀ w ∈ lw_all, w.before _ s = true := fun w h => hts0 w (List.mem_cons_of_mem _ h)
  have hown : s.vm.findClass RX0 = some m.cls := findClass_of_methodNamed B.named
  have hlocks := B.notSynchronized
  subst hsz
  have hD := hD0.self (sz := s.heap.size)
  generalize hAe : va_A [] s.heap.size = A at hD hG ⊢
  have hA : ∀ q : Nat, s.heap.size ≤ q → A q := fun q h => by rw [← hAe]; exact Or.inr h
  have hS : va_S A s.heap s.heap [] := va_S.rf
  have hP : va_P D vwCl [] s.heap := hP
  have hl := lv_entry ([.int p0, .int p1]) (n := 2) (Nat.le_of_ble_eq_true rfl)
  rw [lg_entry_eq]
  generalize (lg_sl ([.int p0, .int p1]) ++ List.replicate (2 - (lg_sl ([.int p0, .int p1])).length) Slot.unset).toArray = ls at hl ⊢
  have hl : lv_has ls 2 [(0, .int p0), (1, .int p1)] := hl
  refine lv_iload_n hx hb dX0_made_0 rfl (lv_at hl 0 rfl) ?_
  refine lv_if_ne (tgt := 8) hx hb dX0_made_1 (by decide) (fun c1 => ?_) (fun c1 => ?_)
  · exact absurd h0 c1
  · skip
    refine lv_iload_n hx hb dX0_made_4 rfl (lv_at hl 1 rfl) ?_
    refine nw_f (N' := p1.toNatClampNeg) hx hb (hts _ q1020) hK hP hD hS hA hn rfl (by omega) (Nat.le_of_ble_eq_true rfl) (by show 0 + p1.toNatClampNeg ≤ 40; omega) dX0_made_5 (fun q H hP hD hS => ?_)
    have hP : va_P D vwCl [(q, .inl (TY 2, p1.toNatClampNeg, .inr (.inr (.inl (fun _ => 0)))))] H := hP
    have hD : va_D A [(q, .inl (TY 2, p1.toNatClampNeg, .inr (.inr (.inl (fun _ => 0)))))] := hD
    refine W.widen (k := 1) (n := 40) (Nat.le_of_ble_eq_true rfl) (by omega) ?_
    exact W.aret (v := .ref q) hx hb hr (Or.inl ⟨_, rfl⟩) (Or.inr ⟨_, rfl⟩) (fun t ht hW => ⟨⟨(), q, rfl, trivial, BB.mk hP hD hK ht hW⟩, hS.F ht⟩) hS.2.2 dX0_made_7

set_option maxHeartbeats 4000000 in
set_option maxRecDepth 100000 in
theorem mX0_made_D (l : Launch) (D : va_G) (TY : Nat → ClassId) (sz : Nat) (p0 p1 : Int32) (h0 : ¬ p0 = 0) (hn : ¬ p1 < 0) (h40 : p1.toNatClampNeg ≤ 40) : Met l yX0_made (ws_ yX0_made cX0_made 2 (Option.some (Jvm.ClassFile.FieldType.object "java/lang/Object"))) ({ frames := 0, cells := 1, slots := 40, locals := 0 }) (PC D TY [.int p0, .int p1] sz []) (va_Qr (fun (_ : Unit) => True) (fun (_ : Unit) (q : Nat) t => BB D TY (va_A [] sz) [(q, .inl (TY 3, p1.toNatClampNeg, .inr (.inr (.inr (.inl (fun _ => 0))))))] t) (va_A [] sz)) 1 40 (va_A [] sz) := by
  refine ofWF (cc := cX0_made) (maxL := 2) (ret := (Option.some (Jvm.ClassFile.FieldType.object "java/lang/Object"))) (plainFor_of_name (by decide)) rfl ?_
  intro p e s m args below meth c s₁ B hml hv
  obtain ⟨rfl, hsz, hP, hK, hD0, hG⟩ := hv
  have hx := B.exec
  have hb := B.bytes
  have hr := B.returns
  have hts0 := atoms_spec (ws := ws_ yX0_made cX0_made 2 (Option.some (Jvm.ClassFile.FieldType.object "java/lang/Object"))) B.pre
  have hts : ∀ w ∈ lw_all, w.before _ s = true := fun w h => hts0 w (List.mem_cons_of_mem _ h)
  have hown : s.vm.findClass RX0 = some m.cls := findClass_of_methodNamed B.named
  have hlocks := B.notSynchronized
  subst hsz
  have hD := hD0.self (sz := s.heap.size)
  generalize hAe : va_A [] s.heap.size = A at hD hG ⊢
  have hA : ∀ q : Nat, s.heap.size ≤ q → A q := fun q h => by rw [← hAe]; exact Or.inr h
  have hS : va_S A s.heap s.heap [] := va_S.rf
  have hP : va_P D vwCl [] s.heap := hP
  have hl := lv_entry ([.int p0, .int p1]) (n := 2) (Nat.le_of_ble_eq_true rfl)
  rw [lg_entry_eq]
  generalize (lg_sl ([.int p0, .int p1]) ++ List.replicate (2 - (lg_sl ([.int p0, .int p1])).length) Slot.unset).toArray = ls at hl ⊢
  have hl : lv_has ls 2 [(0, .int p0), (1, .int p1)] := hl
  refine lv_iload_n hx hb dX0_made_0 rfl (lv_at hl 0 rfl) ?_
  refine lv_if_ne (tgt := 8) hx hb dX0_made_1 (by decide) (fun c1 => ?_) (fun c1 => ?_)
  · skip
    refine lv_iload_n hx hb dX0_made_8 rfl (lv_at hl 1 rfl) ?_
    refine nw_d (N' := p1.toNatClampNeg) hx hb (hts _ q1021) hK hP hD hS hA hn rfl (by omega) (Nat.le_of_ble_eq_true rfl) (by show 0 + p1.toNatClampNeg ≤ 40; omega) dX0_made_9 (fun q H hP hD hS => ?_)
    have hP : va_P D vwCl [(q, .inl (TY 3, p1.toNatClampNeg, .inr (.inr (.inr (.inl (fun _ => 0))))))] H := hP
    have hD : va_D A [(q, .inl (TY 3, p1.toNatClampNeg, .inr (.inr (.inr (.inl (fun _ => 0))))))] := hD
    refine W.widen (k := 1) (n := 40) (Nat.le_of_ble_eq_true rfl) (by omega) ?_
    exact W.aret (v := .ref q) hx hb hr (Or.inl ⟨_, rfl⟩) (Or.inr ⟨_, rfl⟩) (fun t ht hW => ⟨⟨(), q, rfl, trivial, BB.mk hP hD hK ht hW⟩, hS.F ht⟩) hS.2.2 dX0_made_11
  · exact absurd c1 h0

set_option maxHeartbeats 4000000 in
set_option maxRecDepth 100000 in
theorem mX0_made_Z (l : Launch) (D : va_G) (TY : Nat → ClassId) (sz : Nat) (p0 p1 : Int32) (post : Unit → Prop) (px : Nat → Unit → Prop) (hst : l.stackTraces = false) (hn : p1 < 0) (hw : px 3 ()) : vy_Met l yX0_made (ws_ yX0_made cX0_made 2 (Option.some (Jvm.ClassFile.FieldType.object "java/lang/Object"))) ({ frames := 8, cells := 3, slots := 222, locals := 10241 }) (PC D TY [.int p0, .int p1] sz []) (va_Qr post (fun (_ : Unit) (q : Nat) t => False) (va_A [] sz)) (vx_X (fun (u : Nat × Unit) => px u.1 u.2) (fun E _ (u : Nat × Unit) t => E = exN u.1 ∧ (u.1 = 3) ∧ BB D TY (va_A [] sz) [] t) (va_A [] sz)) 3 222 (va_A [] sz) := by
  refine vy_ofW (cc := cX0_made) (maxL := 2) (ret := (Option.some (Jvm.ClassFile.FieldType.object "java/lang/Object"))) (by decide) rfl ?_
  intro p e s m args below meth c s₁ B hml htab hv
  obtain ⟨rfl, hsz, hP, hK, hD0, hG⟩ := hv
  have hx := B.exec
  have hb := B.bytes
  have hr := B.returns
  have hts0 := atoms_spec (ws := ws_ yX0_made cX0_made 2 (Option.some (Jvm.ClassFile.FieldType.object "java/lang/Object"))) B.pre
  have hts : ∀ w ∈ lw_all, w.before _ s = true := fun w h => hts0 w (List.mem_cons_of_mem _ h)
  have hown : s.vm.findClass RX0 = some m.cls := findClass_of_methodNamed B.named
  have hlocks := B.notSynchronized
  subst hsz
  have hD := hD0.self (sz := s.heap.size)
  generalize hAe : va_A [] s.heap.size = A at hD hG ⊢
  have hA : ∀ q : Nat, s.heap.size ≤ q → A q := fun q h => by rw [← hAe]; exact Or.inr h
  have hS : va_S A s.heap s.heap [] := va_S.rf
  have hP : va_P D vwCl [] s.heap := hP
  have hl := lv_entry ([.int p0, .int p1]) (n := 2) (Nat.le_of_ble_eq_true rfl)
  rw [lg_entry_eq]
  generalize (lg_sl ([.int p0, .int p1]) ++ List.replicate (2 - (lg_sl ([.int p0, .int p1])).length) Slot.unset).toArray = ls at hl ⊢
  have hl : lv_has ls 2 [(0, .int p0), (1, .int p1)] := hl
  refine lv_iload_n hx hb dX0_made_0 rfl (lv_at hl 0 rfl) ?_
  refine lv_if_ne (tgt := 8) hx hb dX0_made_1 (by decide) (fun c1 => ?_) (fun c1 => ?_)
  · skip
    refine lv_iload_n hx hb dX0_made_8 rfl (lv_at hl 1 rfl) ?_
    refine vx_newarrayZ hx hb hn dX0_made_9 (fun tx etx => ?_)
    refine nx_3 (nb := 212) hx hst hts hG hS (hl.1.trans hml.symm) (by rw [etx]; exact i32_modelled _) (by rw [etx]; exact i32_bytes _) (by decide) (Nat.le_of_ble_eq_true rfl) (Nat.le_of_ble_eq_true rfl) (Nat.le_of_ble_eq_true rfl) (Nat.le_of_ble_eq_true rfl) hlocks (fun H e2 ce2 ze2 ke2 hS he2 ve2 le2 => ?_)
    replace hP : va_P D vwCl [] H := va_P.grow hP ke2
    refine vy_out (E := "java/lang/NegativeArraySizeException") (fun x h => (htab x h).elim) hlocks he2 ve2 le2 (fun t ht hvm => ⟨(3, ()), hw, ⟨rfl, rfl, BB.mkA hP hD hK ht hvm⟩, hS.F ht⟩) hS.2.2 (Nat.le_of_ble_eq_true rfl) (Nat.le_of_ble_eq_true rfl)
  · skip
    refine lv_iload_n hx hb dX0_made_4 rfl (lv_at hl 1 rfl) ?_
    refine vx_newarrayZ hx hb hn dX0_made_5 (fun tx etx => ?_)
    refine nx_3 (nb := 212) hx hst hts hG hS (hl.1.trans hml.symm) (by rw [etx]; exact i32_modelled _) (by rw [etx]; exact i32_bytes _) (by decide) (Nat.le_of_ble_eq_true rfl) (Nat.le_of_ble_eq_true rfl) (Nat.le_of_ble_eq_true rfl) (Nat.le_of_ble_eq_true rfl) hlocks (fun H e2 ce2 ze2 ke2 hS he2 ve2 le2 => ?_)
    replace hP : va_P D vwCl [] H := va_P.grow hP ke2
    refine vy_out (E := "java/lang/NegativeArraySizeException") (fun x h => (htab x h).elim) hlocks he2 ve2 le2 (fun t ht hvm => ⟨(3, ()), hw, ⟨rfl, rfl, BB.mkA hP hD hK ht hvm⟩, hS.F ht⟩) hS.2.2 (Nat.le_of_ble_eq_true rfl) (Nat.le_of_ble_eq_true rfl)

section NXZ
variable {p : Program} {l : Launch} {e : Env} {R : Room} {s : State} {m : MethodId} {args : Array Value} {below : List Frame} {meth : Method} {c : Code} {H : Heap} {locs : List Loc} {cells slots : Nat} {Q : State → Prop}
variable {mc ms : Nat} {free : Addr → Prop} {A0 A1 : Nat → Prop} {H0 : Heap} {a : Array Value} {pc : Nat} {ls : Array Slot} {st0 rest : List Value}
theorem nx_callZ {S SX : Type} {post : S → Prop} {px : SX → Prop} {BX : String → Addr → SX → State → Prop} {AX : Nat → Prop} (hr : vy_Run p l e R s m args below meth c H locs cells slots mc ms (F0 m pc ls st0) rest (va_Qr post (fun (_ : S) (_ : Nat) (_ : State) => False) A1 a) (vx_X px BX AX) free) (hS : va_S A0 H0 H locs) (hf : ∀ q, free q → A0 q) (hAX : ∀ q, q < H.size → AX q → A0 q)
    (kx : ∀ (E : String) (ce : Cell) (q9 : Addr) (u : SX) (t : State) (H1 : Heap) (locs1 : List Loc), t.heap = H1 → s.vm.Alike t.vm → px u → BX E q9 u t → H.size ≤ H1.size → (∀ q : Nat, q < H.size → ¬ AX q → H1[q]? = H[q]?) → va_S A0 H0 H1 locs1 → H1[q9]? = some ce → ce.vm = .none → s.vm.findClass E = some ce.cls → vx_W p l e R s m args below meth c H1 locs1 (cells + mc) (slots + ms) Q (F0 m pc ls rest) q9) : W p l e R s m args below meth c H locs cells slots Q (F0 m pc ls st0) := by
  intro T hT X
  rcases hr T hT X with ⟨v, st₀, t, T', L, h0, X', hL, e1, e2, ⟨⟨u, ra, hv, hp, hb⟩, hF⟩, st⟩ | ⟨q, st₀, t, T', L, E, ce, h0, X', hL, e1, e2, ⟨u, hp, hb, hF⟩, hce, hcv, hcl, st⟩
  · exact hb.elim
  · obtain ⟨k1, k2, k3⟩ := vx_keep h0 e1 hS hAX hf hL hF
    obtain ⟨t2, a1, b1⟩ := kx E ce q u t T'.heap (locs ++ L) e1.symm (by rw [← e2]; exact X'.warmed.alike) hp hb k1 k2 k3 (by rw [e1]; exact hce) hcv hcl T' rfl X'
    exact ⟨t2, st.trans a1, b1⟩
end NXZ
