/-! entries of the machine that are run in place of a method's bytecode (Math.abs and its like): one law for those that answer at once -/
theorem nt_over {tb : Tables} {e : Env} {s : State} {f : JFrame} {k : Class} {x : Method} {row : NativeRow} (hpc : f.pc = 0) (hk : s.vm.classes[f.method.cls]? = some k) (hin : overriddenIn.contains k.name = true) (hboot : k.loader = none) (hx : k.methods[f.method.idx]? = some x) (hrow : NativeRow.find? tb.natives k.name x.name x.desc = some row) : overridden tb e s f = some row := by
  unfold overridden
  simp [hpc, hk, hboot, hx, hrow]
  intro h
  simp at hin
  exact absurd hin h
section NT
variable {p : Program} {e : Env} {below : List Frame} {s target : State} {g : JFrame} {c : Code}
theorem nt_step (htopS : s.topJava?.isSome) (habove : ∃ mid, s.frames.tail = mid ++ below) (hrunning : s.status = .running) (hrunnable : s.curStatus? = some .runnable) (haloneS : s.alone = true) (hcodeG : s.code? g.method = some c)
    {m : MethodId} {meth : Method} {k : Class} {cm : Code} {A : Array Value} {v : Value} {row : NativeRow} (acts : List Action)
    (hk : s.vm.classes[m.cls]? = some k) (hx : k.methods[m.idx]? = some meth) (hboot : k.loader = none) (hin : overriddenIn.contains k.name = true)
    (hrow : NativeRow.find? p.tables.natives k.name meth.name meth.desc = some row) (hc : meth.code = some cm) (hl : meth.locks = false)
    (hroom : (s.calling g m A).hasRoom e.platform {} = true)
    (hgiven : ((argsToLocals A cm.maxLocals).toList.filterMap fun | .val v => some v | _ => none).toArray.extract 0 (meth.sig.parameters.length + (if meth.isStatic then 0 else 1)) = A)
    (hrun : ∀ S : State, ∃ a2, (row.sem A).run e S = .ok (some v) S a2) {ig : Instr} {len : Nat} (hdg : decode c.code g.pc = .ok (ig, len))
    (hrest : Steps p.tables e below (s.setTop { g with pc := g.pc + len, stack := v :: g.stack }) target) :
    Steps p.tables e below (doInvoke e (s.setTop g) acts m A).1 target := by
  obtain ⟨g₀, hg⟩ := Option.isSome_iff_exists.mp htopS
  obtain ⟨r, hr⟩ := State.topJava?_eq_some.mp hg
  obtain ⟨mid, hmid⟩ := habove
  have hcur : s.cur < s.threads.size := State.cur_lt_of_frames hr
  have hm : s.vm.method? m = some meth := by simp [Vm.method?, hk, hx]
  have htop : s.setTop g = s.setFrames (.java g :: r) := State.setTop_of_frames _ hr
  have htail : s.frames.tail = r := by rw [hr]; rfl
  have hfull : e.platform.stackFull (s.setTop g).me (s.setTop g).frames cm.maxLocals = false := by
    have hfc := State.frames_calling htopS g m A
    obtain ⟨-, r2, -, r4⟩ := State.hasRoom_stack hroom
    rw [State.localsInUse_invoking hfc (meth := meth) (c := cm) hm hc] at r4
    rw [hfc, htail] at r2
    rw [htail] at r4
    have hw := stackUse_le_stackWeight (.java g :: r)
    rw [State.calling_eq htopS, State.stackLimits_setFrames] at r2 r4
    rw [htop, State.frames_setFrames _ hcur]
    refine Platform.stackFull_eq_false (by rw [State.stackLimits_setFrames]; simp only [List.length_cons] at r2 ⊢; have : ({} : Room).frames = 0 := rfl; omega) (by rw [State.stackLimits_setFrames]; have : ({} : Room).locals = 0 := rfl; omega)
  rw [(doInvoke_java (s := s.setTop g) (e := e) (acts := acts) (args := A) (meth := meth) (code := cm) hm hc hl hfull).1]
  have hU : (s.setTop g).pushFrame (.java { method := m, pc := 0, locals := argsToLocals A cm.maxLocals, stack := [], locked := none }) = s.setFrames (.java (entryFrame m A cm.maxLocals) :: .java g :: r) := by
    rw [State.pushFrame, State.frames_setTop _ hr, htop, State.setFrames_setFrames]
    rfl
  rw [hU]
  have hf1 : (s.setFrames (.java (entryFrame m A cm.maxLocals) :: .java g :: r)).frames = .java (entryFrame m A cm.maxLocals) :: .java g :: r := State.frames_setFrames _ hcur
  have hov : overridden p.tables e (s.setFrames (.java (entryFrame m A cm.maxLocals) :: .java g :: r)) (entryFrame m A cm.maxLocals) = some row :=
    nt_over (k := k) (x := meth) rfl hk hin hboot hx hrow
  have hac : argCount (s.setFrames (.java (entryFrame m A cm.maxLocals) :: .java g :: r)) m = meth.sig.parameters.length + (if meth.isStatic then 0 else 1) := by
    unfold argCount
    have h2 : ((s.setFrames (.java (entryFrame m A cm.maxLocals) :: .java g :: r)).vm.classes[m.cls]?.bind fun y => y.methods[m.idx]?) = some meth := by
      show (s.vm.classes[m.cls]?.bind fun y => y.methods[m.idx]?) = some meth
      simp [hk, hx]
    rw [h2]
  obtain ⟨acts₂, hr2⟩ := hrun (s.setFrames (.native { method := m, args := A } :: .java g :: r))
  have hcode : ∀ F : List Frame, (s.setFrames F).code? g.method = some c := by
    intro F
    have := hcodeG
    rw [State.code?_eq] at this ⊢
    simpa [State.setFrames] using this
  have hfs : handOver (s.setFrames (.native { method := m, args := A } :: .java g :: r)) (some v) (.java g :: r) = some (.java { g with pc := g.pc + len, stack := v :: g.stack } :: r) := by
    simp [handOver, hcode, hdg, Except.toOption]
  have hgv : ((entryFrame m A cm.maxLocals).locals.toList.filterMap fun | .val v => some v | _ => none).toArray.extract 0 (argCount (s.setFrames (.java (entryFrame m A cm.maxLocals) :: .java g :: r)) (entryFrame m A cm.maxLocals).method) = A := by
    show ((argsToLocals A cm.maxLocals).toList.filterMap fun | .val v => some v | _ => none).toArray.extract 0 (argCount (s.setFrames (.java (entryFrame m A cm.maxLocals) :: .java g :: r)) m) = A
    rw [hac]
    exact hgiven
  have hstep2 : (stepThread p.tables e (s.setFrames (.java (entryFrame m A cm.maxLocals) :: .java g :: r))).1 = s.setTop { g with pc := g.pc + len, stack := v :: g.stack } := by
    have key : ∀ G : Array Value, G = A → (afterNative e { method := m, args := G, locked := none } (.java g :: r) ((row.sem G).run e ((s.setFrames (.java (entryFrame m A cm.maxLocals) :: .java g :: r)).setFrames (.native { method := m, args := G, locked := none } :: .java g :: r)))).1 = s.setTop { g with pc := g.pc + len, stack := v :: g.stack } := by
      intro G hG
      subst hG
      rw [State.setFrames_setFrames, hr2]
      show (doReturn e (s.setFrames (.native { method := m, args := G } :: .java g :: r)) _ (some v)).1 = _
      rw [doReturn_native (f := { method := m, args := G }) (below := .java g :: r) (State.frames_setFrames _ hcur) rfl hfs, State.setFrames_setFrames, ← State.setTop_of_frames _ hr]
    unfold stepThread
    simp only [hf1, hov]
    refine key _ ?_
    exact hgv
  refine Steps.head ⟨hrunning, by simpa using hrunnable, by simpa using haloneS⟩ ⟨.java (entryFrame m A cm.maxLocals) :: .java g :: mid, by rw [hf1]; rw [hr] at hmid; simp at hmid; simp [hmid], by simp, by simp⟩ ?_
  rw [hstep2]
  exact hrest
end NT
section NTB
variable {l : Launch} {R : Room} {p : Program} {e : Env} {below : List Frame} {s : State} {sargs : Array Value}
/-- a call pays by such an entry -/
theorem nt_back {y : MethodName} {bytes : ByteArray} {maxL len W9 : Nat} {ret : Option FieldType} {row : NativeRow} {A : Array Value} {v : Value} (hrow : ∀ q : Program, NativeRow.find? q.tables.natives y.cls y.name y.desc = some row) (hin : overriddenIn.contains y.cls = true)
    (hcode : (Cond.code y bytes maxL ret).before sargs s = true) (hstat : (Cond.static y).before sargs s = true)
    (hgiven : ∀ sig, parseMethodDescriptor y.desc = some sig → ((argsToLocals A maxL).toList.filterMap fun | .val v => some v | _ => none).toArray.extract 0 sig.parameters.length = A)
    (hrun : ∀ S : State, ∃ a2, (row.sem A).run e S = .ok (some v) S a2) (hfr : 1 ≤ R.frames) (hlo : W9 + (maxL + 11) ≤ R.locals) :
    Back l R p e below s sargs y len W9 (fun X a' => X.cells ≤ R.cells ∧ X.slots ≤ R.slots ∧ a' = A) (fun X _ w B => w = some v ∧ B = X) := by
  intro m meth c X g ig mk a' XS hg hsize hdg hW hnamed ⟨hc, hs, ha'⟩
  subst ha'
  have hcodeU : (Cond.code y bytes maxL ret).before sargs X.U = true := Cond.tabsOnly_warm (args' := sargs) (T := X.U) XS.warmed _ rfl hcode
  have hstatU : (Cond.static y).before sargs X.U = true := Cond.tabsOnly_warm (args' := sargs) (T := X.U) XS.warmed _ rfl hstat
  obtain ⟨methM, cM, hmethM, hcodeM', -, hlocalsM, -, hlocksM, -, hsigM⟩ := Cond.code_spec hnamed hcodeU
  have hst : methM.isStatic = true := Cond.static_spec hnamed hmethM hstatU
  obtain ⟨kP, hkP, hkname⟩ := className_of_methodNamed hnamed
  obtain ⟨hmnM, hmdM⟩ := name_of_methodNamed hnamed hmethM
  have hxP : kP.methods[mk.idx]? = some methM := by simpa [Vm.method?, hkP] using hmethM
  have hbootP : kP.loader = none := Vm.bootOf_findClass (findClass_of_methodNamed hnamed) hkP
  refine ⟨some v, X, XS, ⟨rfl, rfl⟩, ?_⟩
  exact nt_step XS.here.top XS.here.above XS.here.running XS.here.runnable XS.here.alone (by rw [hg]; exact XS.here.code) [] hkP hxP hbootP (by rw [hkname]; exact hin) (by rw [hkname, hmnM, hmdM]; exact hrow p) hcodeM' hlocksM
    (XS.room_calling hsize hmethM hcodeM' (R' := {}) (by show 0 + 1 ≤ R.frames; omega) (by rw [hlocalsM]; show _ + (maxL + 11) + 0 ≤ R.locals; omega) (by show X.cells + 0 ≤ R.cells; omega) (by show X.slots + 0 ≤ R.slots; omega)) (by
      rw [hlocalsM, hst]
      exact hgiven _ hsigM) hrun hdg (Steps.refl _)
end NTB
