/-! Fault.<init>(int): Exception's constructor, then its own field -/
theorem nx_superW {p : Program} {l : Launch} {e : Env} {R : Room} {s : State} {m : MethodId} {args : Array Value} {below : List Frame} {meth : Method} {c : Code} {cells slots : Nat} {Q : State → Prop} {cc : ByteArray} {pc : Nat} {ls : Array Slot} {rest : List Value} {A : Nat → Prop} {a : Nat} {cX : ClassId} {kX : Class}
    (hexec : p.tables.exec = Jvm.exec) (hb : c.code = cc) (hst : l.stackTraces = false) (hown : s.vm.findClass "FloatClasses$Fault" = some m.cls) (hts : ∀ w ∈ lw_all, w.before args s = true) (hG : gz A s s.heap)
    (hfX : s.vm.findClass "FloatClasses$Fault" = some cX) (hkX : s.vm.classes[cX]? = some kX) (hcell : s.heap[a]? = some (freshCell cX kX)) (hsize : ls.size = c.maxLocals) (hdg : decode cc pc = .ok (.invokespecial 1, 3))
    (hRf : 3 < R.frames) (hRl : (rest.map fun v => v.category).sum + 54 ≤ R.locals)
    (kk : ∀ (H1 : Heap) (L : List Loc) (ce : Cell), H1[a]? = some ce → ce.cls = cX → ce.vm = .none → ce.slots.size = (freshCell cX kX).slots.size → H1.size = s.heap.size → (∀ q : Nat, q ≠ a → H1[q]? = s.heap[q]?) → (∀ y ∈ L, y.base = a) →
      W p l e R s m args below meth c H1 L cells slots Q (F0 m (pc + 3) ls rest)) : W p l e R s m args below meth c s.heap [] cells slots Q (F0 m pc ls (.ref a :: rest)) := by
  intro T hT X
  have htr : e.platform.stackTraces = false := (show e.platform.stackTraces = l.stackTraces by rw [X.admits.platform]).trans hst
  obtain ⟨V, ce, L, Z, hL, hVh, hc9, hv9, hz9, st⟩ := nx_super X hexec htr hown (xw_Fa hts hG) rfl hfX hkX hT (by rw [hT]; exact hcell) (g := F0 m pc ls (.ref a :: rest)) rfl hsize rfl (by rw [hb]; exact hdg) hRf (by show 2 * 0 + (rest.map fun v => v.category).sum + 54 ≤ R.locals; omega)
  have hVs : V.heap = s.heap := hVh.trans hT
  have ha : a < V.heap.size := by rw [hVs]; exact (Array.getElem?_eq_some_iff.mp hcell).1
  obtain ⟨t, a1, b1⟩ := kk (V.setCell a ce).heap L ce (heapAt_setCell_self (s := V) ce ha) hc9 hv9 hz9 (by rw [size_setCell, hVs]) (fun q hq => by
    rw [← hVs]
    simp [State.setCell, Array.getElem?_setIfInBounds, Ne.symm hq]) hL (V.setCell a ce) rfl Z
  exact ⟨t, st t a1, b1⟩
theorem nx_made {D : va_G} {TY : Nat → ClassId} {s : State} {args : Array Value} (hts : ∀ w ∈ lw_all, w.before args s = true) (hK : va_K D vwCl (tyL TY) s) {kC : Class} (hkC : s.vm.classes[D.1 7]? = some kC) {ce : Cell} {a : Nat} {H : Heap} (hc : H[a]? = some ce) (hcls : ce.cls = D.1 7) (hvm : ce.vm = .none) (hsz : ce.slots.size = (freshCell (D.1 7) kC).slots.size) :
    ∃ g0 g1 g2 g3 g4 g5 g6 : Value, va_P D vwCl [(a, .inr (7, [g0, g1, g2, g3, g4, g5, g6]))] H := by
  have hKn := hK.1 7 _ rfl
  have h0 : t_OB 0 (D.1 7) 7 (D.2 7) #[freshCell (D.1 7) kC] (fun k => defaultValue (tyX7 k)) := u_born (C := RX7) (T := TX7) tyX7 hts in_X7 hKn hkC rfl tyX7_ok
  obtain ⟨cell, e1, e2, e3, e4⟩ := h0
  have e5 : freshCell (D.1 7) kC = cell := Option.some.inj e1
  have hlt : ∀ k, k < 7 → D.2 7 k < ce.slots.size := by
    intro k hk
    rw [hsz, e5]
    exact (Array.getElem?_eq_some_iff.mp (e4 k hk)).1
  refine ⟨(ce.slots[D.2 7 0]?).getD .null, (ce.slots[D.2 7 1]?).getD .null, (ce.slots[D.2 7 2]?).getD .null, (ce.slots[D.2 7 3]?).getD .null, (ce.slots[D.2 7 4]?).getD .null, (ce.slots[D.2 7 5]?).getD .null, (ce.slots[D.2 7 6]?).getD .null, fun k q hk => ?_⟩
  have hz : k < 1 := (List.getElem?_eq_some_iff.mp hk).1
  rw [show k = 0 by omega] at hk
  cases hk
  refine ⟨_, rfl, ce, hc, hcls, hvm, fun k hk => ?_⟩
  have h1 := hlt k hk
  have h2 : ce.slots[D.2 7 k]? = some ((ce.slots[D.2 7 k]?).getD .null) := by
    rw [Array.getElem?_eq_getElem h1]
    rfl
  rw [h2]
  have hk7 : k < 7 := hk
  rcases (show k = 0 ∨ k = 1 ∨ k = 2 ∨ k = 3 ∨ k = 4 ∨ k = 5 ∨ k = 6 by omega) with rfl | rfl | rfl | rfl | rfl | rfl | rfl <;> rfl
abbrev fV : Type := Value × Value × Value × Value × Value × Value
def FA (a sz : Nat) : Nat → Prop := fun q => q = a ∨ sz ≤ q
def PF (D : va_G) (TY : Nat → ClassId) (a : Nat) (v : Int32) (sz : Nat) : Array Value → State → Prop := va_Pc [.ref a, .int v] (fun U => U.heap.size = sz ∧ (∃ kC, U.vm.classes[D.1 7]? = some kC ∧ U.heap[a]? = some (freshCell (D.1 7) kC)) ∧ va_K D vwCl (tyL TY) U ∧ gz (FA a sz) U U.heap)
theorem PF.blind {D : va_G} {TY : Nat → ClassId} {a : Nat} {v : Int32} {sz : Nat} : FrameBlind (PF D TY a v sz) := by
  intro A U g mk q
  obtain ⟨q0, qz, qF, qK, qG⟩ := q
  exact ⟨q0, qz, qF, va_K.moved (u := U) (U := U.calling g mk A) (Vm.Alike.refl U.vm) qK, gz.same (s := U) (U := U.calling g mk A) rfl qG⟩
theorem va_D.one {A : Nat → Prop} {q : Nat × va_E} (h : A q.1) : va_D A [q] := by
  refine ⟨fun i j x y hi hj _ => ?_, fun k x hk => ?_⟩
  · have h1 : i < 1 := (List.getElem?_eq_some_iff.mp hi).1
    have h2 : j < 1 := (List.getElem?_eq_some_iff.mp hj).1
    omega
  · have h1 : k < 1 := (List.getElem?_eq_some_iff.mp hk).1
    rw [show k = 0 by omega] at hk
    cases hk
    exact h
set_option maxRecDepth 100000 in
theorem mX7_init (l : Launch) (D : va_G) (TY : Nat → ClassId) (sz a : Nat) (v : Int32) (hst : l.stackTraces = false) : Met l yX7_init (ws_ yX7_init cX7_init 2 (Option.none : Option Jvm.ClassFile.FieldType)) ({ frames := 4, cells := 0, slots := 0, locals := 54 }) (PF D TY a v sz)
    (va_Qv (fun _ => True) (fun (u : fV) t => BB D TY (FA a sz) [(a, .inr (7, [u.1, u.2.1, u.2.2.1, u.2.2.2.1, u.2.2.2.2.1, u.2.2.2.2.2, .int v]))] t) (FA a sz)) 0 0 (FA a sz) := by
  refine ofWF (cc := cX7_init) (maxL := 2) (ret := (Option.none : Option Jvm.ClassFile.FieldType)) (plainFor_of_name (by decide)) rfl ?_
  intro p e s m args below meth c s₁ B hml hv
  obtain ⟨rfl, hsz, ⟨kC, hkC, hcell⟩, hK, hG⟩ := hv
  have hx := B.exec
  have hb := B.bytes
  have hr := B.returns
  have hts0 := atoms_spec (ws := ws_ yX7_init cX7_init 2 (Option.none : Option Jvm.ClassFile.FieldType)) B.pre
  have hts : ∀ w ∈ lw_all, w.before _ s = true := fun w h => hts0 w (List.mem_cons_of_mem _ h)
  have hown : s.vm.findClass RX7 = some m.cls := findClass_of_methodNamed B.named
  have hlocks := B.notSynchronized
  have hin : meth.name = "<init>" := (name_of_methodNamed B.named B.method).1
  subst hsz
  have hl := lv_entry ([.ref a, .int v]) (n := 2) (Nat.le_of_ble_eq_true rfl)
  rw [lg_entry_eq]
  generalize (lg_sl ([.ref a, .int v]) ++ List.replicate (2 - (lg_sl ([.ref a, .int v])).length) Slot.unset).toArray = ls at hl ⊢
  have hl : lv_has ls 2 [(0, .ref a), (1, .int v)] := hl
  refine lv_aload_n hx hb dX7_init_0 rfl (lv_at hl 0 rfl) ?_
  refine nx_superW hx hb hst hown hts hG (hK.1 7 _ rfl).2.1 hkC hcell (hl.1.trans hml.symm) dX7_init_1 (Nat.le_of_ble_eq_true rfl) (Nat.le_of_ble_eq_true rfl) (fun H L ce hce hc9 hv9 hz9 hH1 hH2 hL => ?_)
  obtain ⟨g0, g1, g2, g3, g4, g5, g6, hP⟩ := nx_made hts hK hkC hce hc9 hv9 hz9
  have hD : va_D (FA a s.heap.size) [(a, .inr (7, [g0, g1, g2, g3, g4, g5, g6]))] := va_D.one (Or.inl rfl)
  have hS : va_S (FA a s.heap.size) s.heap H L := ⟨Nat.le_of_eq hH1.symm, fun q hq hn => hH2 q (fun h => hn (Or.inl h)), fun z hz => Or.inl (hL z hz)⟩
  refine lv_aload_n hx hb dX7_init_4 rfl (lv_at hl 0 rfl) ?_
  refine lv_iload_n hx hb dX7_init_5 rfl (lv_at hl 1 rfl) ?_
  refine va_putF (D := D) (ci := 7) (v := .int v) (ty := .int) (C := RX7) (T := TX7) (N := 7) hx hb hts in_X7 tyX7 tyX7_ok nmX7 hown hK hP hD hS 0 rfl rfl 6 (by decide) (hts _ q866) (fun _ h9 => h9) rfl hin rfl (by decide +kernel) rfl rfl (Nat.le_of_ble_eq_true rfl) dX7_init_6 (fun H locs hP hD hS => ?_)
  have hP : va_P D vwCl [(a, .inr (7, [g0, g1, g2, g3, g4, g5, .int v]))] H := hP
  have hD : va_D (FA a s.heap.size) [(a, .inr (7, [g0, g1, g2, g3, g4, g5, .int v]))] := hD
  exact W.vret hx hb hr (fun t ht hW => ⟨⟨(g0, g1, g2, g3, g4, g5), rfl, trivial, BB.mk hP hD hK ht hW⟩, hS.F ht⟩) hS.2.2 dX7_init_9
