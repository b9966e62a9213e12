/-! checkcast that fails, instanceof of arrays -/
theorem nx_home {vm : Vm} {k : Class} (hm : (vm.modules.all fun m => m.loader.isSome || m.name == "java.base" || !(castPackages_1.any fun p => m.packages.contains p)) = true) (hl : k.loader = none) (hp : castPackages_1.contains (packageOf k.name) = true) :
    vm.home k = "module java.base of loader 'bootstrap'" ∨ vm.home k = "unnamed module of loader 'bootstrap'" := by
  have hb : ∀ m, vm.moduleOf k = some m → m.name = "java.base" := by
    intro m h
    unfold Vm.moduleOf at h
    split at h
    · have h1 := List.find?_some h
      simpa using h1
    · have h1 := List.find?_some h
      have h2 := List.mem_of_find?_eq_some h
      have h3 := List.all_eq_true.mp hm m h2
      rw [hl] at h1
      simp only [Bool.and_eq_true, beq_iff_eq] at h1
      simp only [Bool.or_eq_true, beq_iff_eq, Bool.not_eq_true'] at h3
      rcases h3 with (h3 | h3) | h3
      · rw [h1.1] at h3; cases h3
      · exact h3
      · have h4 : castPackages_1.any (fun p => m.packages.contains p) = true := List.any_eq_true.mpr ⟨packageOf k.name, by simpa using hp, h1.2⟩
        rw [h4] at h3; cases h3
  unfold Vm.home
  rw [hl]
  cases hq : vm.moduleOf k with
  | none =>
    right
    show "unnamed module" ++ " of loader " ++ "'bootstrap'" = _
    decide +kernel
  | some m =>
    left
    show "module " ++ m.name ++ " of loader " ++ "'bootstrap'" = _
    rw [hb m hq]
    decide +kernel
/-- what is asked of a message -/
def nxT (t : String) : Prop := (t == notModelled) = false ∧ (stringBytes (stringToUtf16 t)).size ≤ 212
theorem nx_text {vm : Vm} {ks kt : Class} {S T : String} (h : (S, T) = ("[F", "[D") ∨ (S, T) = ("[D", "[F")) (hs : ks.shown = S) (ht : kt.shown = T) (h1 : vm.home ks = "module java.base of loader 'bootstrap'" ∨ vm.home ks = "unnamed module of loader 'bootstrap'") (h2 : vm.home kt = "module java.base of loader 'bootstrap'" ∨ vm.home kt = "unnamed module of loader 'bootstrap'") : nxT (checkcast.message vm ks kt) := by
  unfold checkcast.message Vm.homes
  rw [hs, ht]
  rcases h with h | h <;> (cases h; rcases h1 with h1 | h1 <;> rcases h2 with h2 | h2 <;> rw [h1, h2] <;> (split <;> exact ⟨by decide +kernel, by decide +kernel⟩))
section NX
variable {p : Program} {l : Launch} {e : Env} {R : Room} {s : State} {m : MethodId} {args : Array Value} {below : List Frame} {meth : Method} {c : Code} {H : Heap} {locs : List Loc} {cells slots : Nat} {Q : State → Prop}
variable {cc : ByteArray} {pc : Nat} {ls : Array Slot} {rest : List Value} {a : Nat}
theorem nx_cls {vm : Vm} {n : String} {k : ClassId} (h : vm.findClass n = some k) : ∃ K, vm.classes[k]? = some K ∧ K.name = n ∧ K.hidden = none ∧ K.loader = none := by
  obtain ⟨hlt, hp, _⟩ := Array.findIdx?_eq_some_iff_getElem.mp h
  refine ⟨vm.classes[k], by simp [hlt], ?_⟩
  simp only [Bool.and_eq_true, beq_iff_eq, Option.isNone_iff_eq_none] at hp
  exact ⟨hp.1.1.1, hp.1.1.2, hp.2⟩
theorem nx_castZ (hexec : p.tables.exec = Jvm.exec) (hb : c.code = cc) {own S nm : String} {index : Nat} {A : Nat → Prop} (hown : s.vm.findClass own = some m.cls) (hlink : (Cond.classLink own index nm).before args s = true) (hG : gz A s s.heap) (hc : va_Nc S nm s)
    (hST : (S, nm) = ("[F", "[D") ∨ (S, nm) = ("[D", "[F")) (hr : ∃ cell : Cell, H[a]? = some cell ∧ cell.vm.isStatics = false ∧ s.vm.findClass S = some cell.cls) (hdg : decode cc pc = .ok (.checkcast index, 3))
    (k : ∀ tx : String, nxT tx → vx_Note p l e R s m args below meth c H locs cells slots Q (F0 m pc ls (.ref a :: rest)) "java/lang/ClassCastException" tx) : W p l e R s m args below meth c H locs cells slots Q (F0 m pc ls (.ref a :: rest)) := by
  obtain ⟨cell, h1, h2, h3⟩ := hr
  obtain ⟨c0, t0, f1, f2, f3⟩ := hc
  cases h3.symm.trans f1
  intro T hT X
  have hpl : e.platform.magicAccessors = ({} : Platform).magicAccessors := by rw [X.admits.platform]
  obtain ⟨c', hc', hcl⟩ := Cond.classLink_spec hown hlink e.platform hpl
  cases f2.symm.trans hc'
  obtain ⟨dk, _, _, kt, hd, _, _, _, _, hkt, _, hopen⟩ := hcl.here
  have hcl₀ := X.warmed.classLinks hcl
  have hW' : s.WarmedH (T.vm.noted m.cls index (.cls t0)) := X.warmed.noted hd hopen (State.rightAt_cls hcl)
  obtain ⟨ks', hks', n1, n2, n3⟩ := nx_cls (vm := T.vm.noted m.cls index (.cls t0)) (n := S) (k := cell.cls) (by rw [hW'.alike.findClass]; exact h3)
  obtain ⟨kt', hkt', m1, m2, m3⟩ := nx_cls (vm := T.vm.noted m.cls index (.cls t0)) (n := nm) (k := t0) (by rw [hW'.alike.findClass]; exact f2)
  have hmod : modulesRight_1 (T.setVm (T.vm.noted m.cls index (.cls t0))) = true := mr_vm hW'.alike hG.2.2.2.2.2.2.2
  have hs : ks'.shown = S := by
    unfold Class.shown
    rw [n2, n1]
    rcases hST with h | h <;> (cases h; show dotted _ = _; decide +kernel)
  have ht : kt'.shown = nm := by
    unfold Class.shown
    rw [m2, m1]
    rcases hST with h | h <;> (cases h; show dotted _ = _; decide +kernel)
  have hx : nxT (checkcast.message (T.vm.noted m.cls index (.cls t0)) ks' kt') :=
    nx_text hST hs ht (nx_home hmod n3 (by rw [n1]; rcases hST with h | h <;> (cases h; decide +kernel))) (nx_home hmod m3 (by rw [m1]; rcases hST with h | h <;> (cases h; decide +kernel)))
  obtain ⟨t, st, q⟩ := k _ hx (T.setVm (T.vm.noted m.cls index (.cls t0))) hT (X.noted hW')
  refine ⟨t, ?_, q⟩
  have hdg' : decode c.code pc = .ok (.checkcast index, 3) := by rw [hb]; exact hdg
  jvm_step X.here [hexec, hdg', checkcast.wp_cold (e := e) (s := T) (f := F0 m pc ls (.ref a :: rest)) X.here.top rfl (resolveClass_links e.toSetting hcl₀) hcl₀.ready,
    checkcast.wp_ready (e := e) (s := T.setVm (T.vm.noted m.cls index (.cls t0))) (f := F0 m pc ls (.ref a :: rest)) X.here.top hcl₀.ready rfl]
  refine ⟨cell, by rw [hT]; exact h1, VmData.noStatics_of h2, ks', hks', kt', hkt', ?_⟩
  rw [if_neg (by rw [hW'.alike.assignable, f3]; exact Bool.false_ne_true)]
  exact st
theorem nx_instA (hexec : p.tables.exec = Jvm.exec) (hb : c.code = cc) {own nm : String} {index : Nat} (hown : s.vm.findClass own = some m.cls) (hlink : (Cond.classLink own index nm).before args s = true)
    (hr : ∃ cell : Cell, H[a]? = some cell ∧ cell.vm.isStatics = false ∧ s.vm.findClass nm = some cell.cls) (hdg : decode cc pc = .ok (.instanceof index, 3))
    (k : W p l e R s m args below meth c H locs cells slots Q (F0 m (pc + 3) ls (.int 1 :: rest))) : W p l e R s m args below meth c H locs cells slots Q (F0 m pc ls (.ref a :: rest)) := by
  obtain ⟨cell, h1, h2, h3⟩ := hr
  intro T hT X
  obtain ⟨vm', X', st⟩ := X.instanceofYes hexec hown hlink (by rw [hT]; exact h1) h2 h3 (va_asg _ _) (g := F0 m pc ls (.ref a :: rest)) rfl rfl (by rw [hb]; exact hdg)
  obtain ⟨t, a1, b1⟩ := k (T.setVm vm') hT X'
  exact ⟨t, st t a1, b1⟩
theorem nx_arr {D : va_G} {TY : Nat → ClassId} {ws : va_W} (hK : va_K D vwCl (tyL TY) s) (hP : va_P D vwCl ws H) (q0 t0 : Nat) {cA : ClassId} {x : vp_A} {ty : FieldType} {nm : String} (ha : ws[q0]? = some (a, .inl (cA, x))) (ht : (tyL TY)[t0]? = some (cA, ty)) (hn : va_RA s cA ty → s.vm.findClass nm = some cA) : ∃ cell : Cell, H[a]? = some cell ∧ cell.vm.isStatics = false ∧ s.vm.findClass nm = some cell.cls := by
  have h1 := hP q0 _ ha
  have h2 := hn (hK.2 t0 _ ht).2
  obtain ⟨n, x⟩ := x
  refine ⟨_, h1, ?_, ?_⟩
  · rcases x with x | x | x | x | x <;> rfl
  · rcases x with x | x | x | x | x <;> exact h2
end NX
