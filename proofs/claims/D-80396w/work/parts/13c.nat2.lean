/-! entries that call StrictMath's own method and hand on what it answers (Math.floor, Math.ceil, Math.rint): one law for the three -/
section NU
theorem nu_resumed {tb : Tables} {e : Env} {s : State} {f : NFrame} {rest : List Frame} {k : Class} {x : Method} {row : NativeRow} {o : Outcome}
    (hf : s.frames = .native f :: rest) (hk : s.vm.classes[f.method.cls]? = some k) (hboot : k.loader = none) (hx : k.methods[f.method.idx]? = some x)
    (hrow : NativeRow.find? tb.natives k.name x.name x.desc = some row) (ha : f.answer = some o) :
    stepThread tb e s = afterNative e f rest ((row.resume f.stage f.saved o).run e s) := by
  unfold stepThread
  simp only [hf, hk, hx, hrow, ha, hboot, Option.bind_eq_bind, Option.bind_some, Option.pure_def, Option.isNone_none, if_true]
theorem nu_bytes (s : State) (F : List Frame) : (s.setFrames F).me.stackBytes = s.me.stackBytes := by
  unfold State.me State.setFrames
  simp only [Array.getElem?_modify]
  cases s.threads[s.cur]? <;> simp
theorem nu_room {s : State} {pl : Platform} {m : MethodId} {a : Array Value} {nf : NFrame} {g : JFrame} {r : List Frame} {F L C Sl : Nat} (hcur : s.cur < s.threads.size) (hw : nf.words = 0)
    (h : (s.setFrames (.invoking m a :: .java g :: r)).hasRoom pl { frames := F + 1, locals := L + 1024, cells := C, slots := Sl } = true) :
    (s.setFrames (.invoking m a :: .native nf :: .java g :: r)).hasRoom pl { frames := F, locals := L, cells := C, slots := Sl } = true := by
  have hwt : Frame.weight (.native nf) = 1024 := by show max nf.words vmFrameWords = 1024; rw [hw]; rfl
  have e1 : (s.setFrames (.invoking m a :: .native nf :: .java g :: r)).vm = s.vm := rfl
  have e2 : (s.setFrames (.invoking m a :: .java g :: r)).vm = s.vm := rfl
  simp only [State.hasRoom, Bool.and_eq_true, decide_eq_true_eq, State.frames_setFrames _ hcur, State.stackLimits_setFrames, nu_bytes, State.localsInUse, stackWeight, List.map_cons, List.sum_cons, List.length_cons, hwt, e1, e2] at h ⊢
  obtain ⟨⟨⟨⟨a0, a1, a2, a3, a4, a5⟩, b1⟩, c1⟩, d1⟩ := h
  exact ⟨⟨⟨⟨by omega, by omega, by omega, by omega, by omega, a5⟩, b1⟩, c1⟩, d1⟩
abbrev nuF (m : MethodId) (A : Array Value) : NFrame := { method := m, args := A, stage := 1, saved := #[], awaiting := true, answer := none, words := 0 }
abbrev nuG (m : MethodId) (A : Array Value) (v : Value) : NFrame := { method := m, args := A, stage := 1, saved := #[], awaiting := false, answer := some (.returned (some v)), words := 0 }
theorem nu_step (l : Launch) (p : Program) {e : Env} (hadm : l.admits e) (hcas : FairCas e.choices) (hclk : FairClock e.choices) {below : List Frame} {s : State} {g : JFrame} {c : Code}
    (htopS : s.topJava?.isSome) (habove : ∃ mid, s.frames.tail = mid ++ below) (hrunning : s.status = .running) (hrunnable : s.curStatus? = some .runnable) (haloneS : s.alone = true) (hcodeG : s.code? g.method = some c)
    {m : MethodId} {meth : Method} {k : Class} {cm : Code} {A : Array Value} {v : Value} {row : NativeRow} (acts : List Action)
    (hk : s.vm.classes[m.cls]? = some k) (hx : k.methods[m.idx]? = some meth) (hboot : k.loader = none) (hin : overriddenIn.contains k.name = true) (hup : upcallWords k.name meth.name = 0)
    (hrow : NativeRow.find? p.tables.natives k.name meth.name meth.desc = some row) (hc : meth.code = some cm) (hl : meth.locks = false)
    (hroom : (s.calling g m A).hasRoom e.platform {} = true)
    (hgiven : ((argsToLocals A cm.maxLocals).toList.filterMap fun | .val v => some v | _ => none).toArray.extract 0 (meth.sig.parameters.length + (if meth.isStatic then 0 else 1)) = A)
    {M2 : MethodId} (hrun : ∀ F : List Frame, ∃ a2, (row.sem A).run e (s.setFrames F) = .ctl (.call M2 A 1 #[]) (s.setFrames F) a2)
    (hres : ∀ S : State, ∃ a2, (row.resume 1 #[] (.returned (some v))).run e S = .ok (some v) S a2)
    {y2 : MethodName} {ws : List Cond} {rm : Room} {Pc : Array Value → State → Prop} {Qc : Array Value → State → Outcome → State → Prop} (hM : Met l y2 ws rm Pc Qc 0 0 (fun _ => False))
    (hQ : ∀ a st o t, Qc a st o t → o = .returned (some v) ∧ t.heap = st.heap)
    (happ : (headSpec ws rm).appliesLoose y2 e.platform ((s.setFrames (.native (nuF m A) :: .java g :: s.frames.tail)).pushFrame (.invoking M2 A)) = true)
    (hP : Pc A ((s.setFrames (.native (nuF m A) :: .java g :: s.frames.tail)).pushFrame (.invoking M2 A)))
    {ig : Instr} {len : Nat} (hdg : decode c.code g.pc = .ok (ig, len)) :
    ∃ s₂ : State, FrameEnd ((s.setFrames (.native (nuF m A) :: .java g :: s.frames.tail)).pushFrame (.invoking M2 A)) (.returned (some v)) s₂ [] 0 0 ∧ s₂.heap = s.heap ∧
      Steps p.tables e below (doInvoke e (s.setTop g) acts m A).1 (s₂.setFrames (.java { g with pc := g.pc + len, stack := v :: g.stack } :: s.frames.tail)) := by
  obtain ⟨g₀, hg⟩ := Option.isSome_iff_exists.mp htopS
  obtain ⟨r, hr⟩ := State.topJava?_eq_some.mp hg
  obtain ⟨mid, hmid⟩ := habove
  have hcur : s.cur < s.threads.size := State.cur_lt_of_frames hr
  have hm : s.vm.method? m = some meth := by simp [Vm.method?, hk, hx]
  have htop : s.setTop g = s.setFrames (.java g :: r) := State.setTop_of_frames _ hr
  have htail : s.frames.tail = r := by rw [hr]; rfl
  rw [htail] at happ hP hmid ⊢
  have hfull : e.platform.stackFull (s.setTop g).me (s.setTop g).frames cm.maxLocals = false := by
    have hfc := State.frames_calling htopS g m A
    obtain ⟨-, r2, -, r4⟩ := State.hasRoom_stack hroom
    rw [State.localsInUse_invoking hfc (meth := meth) (c := cm) hm hc] at r4
    rw [hfc, htail] at r2
    rw [htail] at r4
    have hw := stackUse_le_stackWeight (.java g :: r)
    rw [State.calling_eq htopS, State.stackLimits_setFrames] at r2 r4
    rw [htop, State.frames_setFrames _ hcur]
    refine Platform.stackFull_eq_false (by rw [State.stackLimits_setFrames]; simp only [List.length_cons] at r2 ⊢; have : ({} : Room).frames = 0 := rfl; omega) (by rw [State.stackLimits_setFrames]; have : ({} : Room).locals = 0 := rfl; omega)
  rw [(doInvoke_java (s := s.setTop g) (e := e) (acts := acts) (args := A) (meth := meth) (code := cm) hm hc hl hfull).1]
  have hU : (s.setTop g).pushFrame (.java { method := m, pc := 0, locals := argsToLocals A cm.maxLocals, stack := [], locked := none }) = s.setFrames (.java (entryFrame m A cm.maxLocals) :: .java g :: r) := by
    rw [State.pushFrame, State.frames_setTop _ hr, htop, State.setFrames_setFrames]
    rfl
  rw [hU]
  have hf1 : (s.setFrames (.java (entryFrame m A cm.maxLocals) :: .java g :: r)).frames = .java (entryFrame m A cm.maxLocals) :: .java g :: r := State.frames_setFrames _ hcur
  have hov : overridden p.tables e (s.setFrames (.java (entryFrame m A cm.maxLocals) :: .java g :: r)) (entryFrame m A cm.maxLocals) = some row :=
    nt_over (k := k) (x := meth) rfl hk hin hboot hx hrow
  have hac : argCount (s.setFrames (.java (entryFrame m A cm.maxLocals) :: .java g :: r)) m = meth.sig.parameters.length + (if meth.isStatic then 0 else 1) := by
    unfold argCount
    have h2 : ((s.setFrames (.java (entryFrame m A cm.maxLocals) :: .java g :: r)).vm.classes[m.cls]?.bind fun y => y.methods[m.idx]?) = some meth := by
      show (s.vm.classes[m.cls]?.bind fun y => y.methods[m.idx]?) = some meth
      simp [hk, hx]
    rw [h2]
  obtain ⟨acts₂, hr2⟩ := hrun (.native { method := m, args := A } :: .java g :: r)
  have hgv : ((entryFrame m A cm.maxLocals).locals.toList.filterMap fun | .val v => some v | _ => none).toArray.extract 0 (argCount (s.setFrames (.java (entryFrame m A cm.maxLocals) :: .java g :: r)) (entryFrame m A cm.maxLocals).method) = A := by
    show ((argsToLocals A cm.maxLocals).toList.filterMap fun | .val v => some v | _ => none).toArray.extract 0 (argCount (s.setFrames (.java (entryFrame m A cm.maxLocals) :: .java g :: r)) m) = A
    rw [hac]
    exact hgiven
  have hw3 : (((s.setFrames (.native { method := m, args := A } :: .java g :: r)).vm.classes[m.cls]?).bind fun k => (k.methods[m.idx]?).map fun n => upcallWords k.name n.name).getD 0 = 0 := by
    show ((s.vm.classes[m.cls]?).bind fun k => (k.methods[m.idx]?).map fun n => upcallWords k.name n.name).getD 0 = 0
    simp [hk, hx, hup]
  have hstep2 : (stepThread p.tables e (s.setFrames (.java (entryFrame m A cm.maxLocals) :: .java g :: r))).1 = (doInvoke e (s.setFrames (.native (nuF m A) :: .java g :: r)) acts₂ M2 A).1 := by
    have key : ∀ G : Array Value, G = A → (afterNative e { method := m, args := G, locked := none } (.java g :: r) ((row.sem G).run e ((s.setFrames (.java (entryFrame m A cm.maxLocals) :: .java g :: r)).setFrames (.native { method := m, args := G, locked := none } :: .java g :: r)))).1 = (doInvoke e (s.setFrames (.native (nuF m A) :: .java g :: r)) acts₂ M2 A).1 := by
      intro G hG
      subst hG
      rw [State.setFrames_setFrames, hr2]
      simp only [afterNative, Option.bind_eq_bind, Option.pure_def]
      simp [State.setFrames_setFrames]
      simp at hw3
      simp [hw3]
    unfold stepThread
    simp only [hf1, hov]
    refine key _ ?_
    exact hgv
  have hfN : (s.setFrames (.native (nuF m A) :: .java g :: r)).frames = (.native (nuF m A) :: .java g :: mid) ++ below := by rw [State.frames_setFrames _ hcur, hmid]; rfl
  obtain ⟨o, s₂, hsteps, hrun2, hend, hq, Ls, hfe, hLs⟩ := Steps.callFree hM p hadm hcas hclk (s := (s.setFrames (.native (nuF m A) :: .java g :: r))) (m := M2) (args := A) (acts := acts₂) hfN happ hP trivial
  obtain ⟨ho, hh2⟩ := hQ _ _ _ _ hq
  subst ho
  have hLe : Ls = [] := by
    cases Ls with
    | nil => rfl
    | cons q t => exact (hLs q List.mem_cons_self).elim
  subst hLe
  rw [State.frames_setFrames _ hcur] at hend
  replace hend : s₂.frames = .native (nuG m A v) :: .java g :: r := hend
  refine ⟨s₂, hfe, hh2, ?_⟩
  refine Steps.head ⟨hrunning, by simpa using hrunnable, by simpa using haloneS⟩ ⟨.java (entryFrame m A cm.maxLocals) :: .java g :: mid, by rw [hf1, hmid]; rfl, by simp, by simp⟩ ?_
  rw [hstep2]
  refine hsteps.trans ?_
  obtain ⟨-, hW₂, e2, -⟩ := id hfe
  have hal : s.vm.Alike s₂.vm := hW₂.alike
  obtain ⟨k', hk', ek⟩ := hal.2.2 _ _ hk
  have hboot' : k'.loader = none := by rw [ek]; exact hboot
  have hx' : k'.methods[m.idx]? = some meth := by rw [ek]; exact hx
  have hkn' : k'.name = k.name := by rw [ek]
  obtain ⟨acts₃, hr3⟩ := hres s₂
  have hcode2 : s₂.code? g.method = some c := by
    have h1 : s₂.code? g.method = s.code? g.method := by rw [State.code?_eq, State.code?_eq, hal.method?]
    rw [h1]; exact hcodeG
  have hfs : handOver s₂ (some v) (.java g :: r) = some (.java { g with pc := g.pc + len, stack := v :: g.stack } :: r) := by
    simp [handOver, hcode2, hdg, Except.toOption]
  have hstep4 : (stepThread p.tables e s₂).1 = s₂.setFrames (.java { g with pc := g.pc + len, stack := v :: g.stack } :: r) := by
    rw [nu_resumed (f := nuG m A v) (o := .returned (some v)) hend hk' hboot' hx' (by rw [hkn']; exact hrow) rfl]
    show (afterNative e _ _ ((row.resume 1 #[] (.returned (some v))).run e s₂)).1 = _
    rw [hr3]
    exact doReturn_native (f := nuG m A v) hend rfl hfs
  have hcs : s₂.curStatus? = some .runnable := by
    have h1 : s₂.curStatus? = ({ s₂ with vm := ((s.setFrames (.native (nuF m A) :: .java g :: r)).pushFrame (.invoking M2 A)).vm } : State).curStatus? := rfl
    rw [h1, e2]
    show (((s.setFrames (.native (nuF m A) :: .java g :: r)).pushFrame (.invoking M2 A)).setFrames _).curStatus? = _
    simpa [State.pushFrame] using hrunnable
  have hal2 : s₂.alone = true := by
    have h1 : s₂.alone = ({ s₂ with vm := ((s.setFrames (.native (nuF m A) :: .java g :: r)).pushFrame (.invoking M2 A)).vm } : State).alone := rfl
    rw [h1, e2]
    show (((s.setFrames (.native (nuF m A) :: .java g :: r)).pushFrame (.invoking M2 A)).setFrames _).alone = _
    simpa [State.pushFrame] using haloneS
  refine Steps.head ⟨hrun2, hcs, hal2⟩ ⟨.native (nuG m A v) :: .java g :: mid, by rw [hend, hmid]; rfl, by simp, by simp⟩ ?_
  rw [hstep4]
  exact Steps.refl _
set_option maxRecDepth 100000 in
/-- a call pays by such an entry -/
theorem nu_back {l : Launch} {R : Room} {p : Program} {e : Env} {below : List Frame} {s : State} {sargs : Array Value} {y y2 : MethodName} {bytes b2 : ByteArray} {maxL ml2 len W9 : Nat} {ret ret2 : Option FieldType} {row : NativeRow} {A : Array Value} {v : Value}
    (hrow : ∀ q : Program, NativeRow.find? q.tables.natives y.cls y.name y.desc = some row) (hin : overriddenIn.contains y.cls = true) (hup : upcallWords y.cls y.name = 0)
    (hcode : (Cond.code y bytes maxL ret).before sargs s = true) (hstat : (Cond.static y).before sargs s = true)
    (hgiven : ∀ sig, parseMethodDescriptor y.desc = some sig → ((argsToLocals A maxL).toList.filterMap fun | .val v => some v | _ => none).toArray.extract 0 sig.parameters.length = A)
    (hcall : ∀ (S : State) (cS : ClassId) (kS : Class) (i : Nat), S.vm.findClass y2.cls = some cS → S.vm.classes[cS]? = some kS → kS.init = .initialized → kS.findMethod y2.name y2.desc = some i → ∃ a2, (row.sem A).run e S = .ctl (.call ⟨cS, i⟩ A 1 #[]) S a2)
    (hres : ∀ S : State, ∃ a2, (row.resume 1 #[] (.returned (some v))).run e S = .ok (some v) S a2)
    {ws : List Cond} {F2 L2 : Nat} {Pc : Array Value → State → Prop} {Qc : Array Value → State → Outcome → State → Prop} (hM : Met l y2 ws { frames := F2, cells := 0, slots := 0, locals := L2 } Pc Qc 0 0 (fun _ => False))
    (hblind : ∀ (a : Array Value) (U : State) (F : List Frame), Pc a U → Pc a (U.setFrames F)) (hQ : ∀ a st o t, Qc a st o t → o = .returned (some v) ∧ t.heap = st.heap)
    (hws : ∀ w ∈ ws, ∀ (a' : Array Value) (U : State), s.WarmedH U.vm → w.before a' U = true) (hcode2 : (Cond.code y2 b2 ml2 ret2).before sargs s = true) (hini2 : ∀ (a' : Array Value) (U : State), s.WarmedH U.vm → (Cond.initialized y2.cls).before a' U = true)
    (hfr : F2 + 2 ≤ R.frames) (hlo : W9 + (ml2 + 11) + (L2 + 1024) ≤ R.locals) (hlo1 : W9 + (maxL + 11) ≤ R.locals) :
    Back l R p e below s sargs y len W9 (fun X a' => X.cells ≤ R.cells ∧ X.slots ≤ R.slots ∧ a' = A ∧ Pc A X.U) (fun X _ w B => w = some v ∧ B.U.heap = X.U.heap ∧ B.locs = X.locs ∧ B.cells = X.cells ∧ B.slots = X.slots) := by
  intro m meth c X9 g ig mk a' X hg hsize hdg hW hnamed ⟨hc, hs, ha', hPc⟩
  subst ha'
  obtain ⟨U, Ls, c0, s0⟩ := X9
  dsimp only [Pt.U, Pt.locs, Pt.cells, Pt.slots] at hc hs X hnamed hPc ⊢
  have hcodeU : (Cond.code y bytes maxL ret).before sargs U = true := Cond.tabsOnly_warm (args' := sargs) (T := U) X.warmed _ rfl hcode
  have hcodeU2 : (Cond.code y2 b2 ml2 ret2).before sargs U = true := Cond.tabsOnly_warm (args' := sargs) (T := U) X.warmed _ rfl hcode2
  have hstatU : (Cond.static y).before sargs U = true := Cond.tabsOnly_warm (args' := sargs) (T := U) X.warmed _ rfl hstat
  obtain ⟨methM, cM, hmethM, hcodeM', -, hlocalsM, -, hlocksM, -, hsigM⟩ := Cond.code_spec hnamed hcodeU
  have hst : methM.isStatic = true := Cond.static_spec hnamed hmethM hstatU
  obtain ⟨kP, hkP, hkname⟩ := className_of_methodNamed hnamed
  obtain ⟨hmnM, hmdM⟩ := name_of_methodNamed hnamed hmethM
  have hxP : kP.methods[mk.idx]? = some methM := by simpa [Vm.method?, hkP] using hmethM
  have hbootP : kP.loader = none := Vm.bootOf_findClass (findClass_of_methodNamed hnamed) hkP
  obtain ⟨mS, hnS⟩ := Cond.code_named hcodeU2
  obtain ⟨methS, cSd, hmethS, hcodeS, -, hlocS, -, -, -, -⟩ := Cond.code_spec hnS hcodeU2
  obtain ⟨kS, hkS, -⟩ := className_of_methodNamed hnS
  have hfS : U.vm.findClass y2.cls = some mS.cls := findClass_of_methodNamed hnS
  have hiS : kS.init = .initialized := Cond.initialized_spec hfS hkS (hini2 sargs U X.warmed)
  have hmS : kS.findMethod y2.name y2.desc = some mS.idx := by
    have h := hnS
    simp only [State.methodNamed?, Option.bind_eq_bind, Option.pure_def] at h
    rw [hfS] at h
    simp only [Option.bind_some, hkS] at h
    cases hfm : kS.findMethod y2.name y2.desc with
    | none => rw [hfm] at h; cases h
    | some j => rw [hfm] at h; simp at h; rw [← h]
  have h : At U g.method c below := by rw [hg]; exact X.here
  obtain ⟨g₀, hg0⟩ := Option.isSome_iff_exists.mp h.top
  obtain ⟨r, hr⟩ := State.topJava?_eq_some.mp hg0
  have hcur : U.cur < U.threads.size := State.cur_lt_of_frames hr
  have htail : U.frames.tail = r := by rw [hr]; rfl
  have eFirst : (U.setFrames (.native (nuF mk a') :: .java g :: U.frames.tail)).pushFrame (.invoking ⟨mS.cls, mS.idx⟩ a') = U.setFrames (.invoking mS a' :: .native (nuF mk a') :: .java g :: r) := by
    rw [State.pushFrame, State.frames_setFrames _ hcur, State.setFrames_setFrames, htail]
  have hroomS : (U.calling g mS a').hasRoom e.platform { frames := F2 + 1, locals := L2 + 1024, cells := 0, slots := 0 } = true :=
    X.room_calling hsize hmethS hcodeS (R' := { frames := F2 + 1, locals := L2 + 1024, cells := 0, slots := 0 }) (by show F2 + 1 + 1 ≤ R.frames; omega) (by rw [hlocS]; show _ + (ml2 + 11) + (L2 + 1024) ≤ R.locals; omega) (by show c0 + 0 ≤ R.cells; omega) (by show s0 + 0 ≤ R.slots; omega)
  rw [State.calling_eq h.top, htail] at hroomS
  have happ : (headSpec ws { frames := F2, cells := 0, slots := 0, locals := L2 }).appliesLoose y2 e.platform ((U.setFrames (.native (nuF mk a') :: .java g :: U.frames.tail)).pushFrame (.invoking ⟨mS.cls, mS.idx⟩ a')) = true := by
    rw [eFirst]
    refine (Spec.appliesLoose_iff (State.frames_setFrames _ hcur)).mpr ⟨h.running, by simpa using h.runnable, by simpa using h.alone, hnS, rfl, State.classRipe_of (s := U.setFrames _) hkS hiS, nu_room (F := F2) (L := L2) (C := 0) (Sl := 0) hcur rfl hroomS, ?_⟩
    rw [Cond.before_setFrames]
    exact atoms_intro fun w hw => hws w hw _ _ X.warmed
  obtain ⟨s₂, hfe, hh2, hsteps⟩ := nu_step l p X.admits X.cas X.clock (below := below) (g := g) (c := c) h.top h.above h.running h.runnable h.alone h.code [] hkP hxP hbootP (by rw [hkname]; exact hin) (by rw [hkname, hmnM]; exact hup) (by rw [hkname, hmnM, hmdM]; exact hrow p) hcodeM' hlocksM
    (X.room_calling hsize hmethM hcodeM' (R' := {}) (by show 0 + 1 ≤ R.frames; omega) (by rw [hlocalsM]; show _ + (maxL + 11) + 0 ≤ R.locals; omega) (by show c0 + 0 ≤ R.cells; omega) (by show s0 + 0 ≤ R.slots; omega)) (by
      rw [hlocalsM, hst]
      exact hgiven _ hsigM) (fun F => hcall (U.setFrames F) mS.cls kS mS.idx hfS hkS hiS hmS) hres hM hQ happ (by rw [eFirst]; exact hblind _ _ _ hPc) hdg
  obtain ⟨-, hW₂, e2, q2, q3, q4, q5, q6⟩ := id hfe
  have hW' : U.WarmedH s₂.vm := hW₂
  have e3 : s₂ = ({ U.setFrames s₂.frames with heap := s₂.heap, slotsUsed := s₂.slotsUsed } : State).setVm s₂.vm := by
    have h1 : s₂ = ({ s₂ with vm := ((U.setFrames (.native (nuF mk a') :: .java g :: U.frames.tail)).pushFrame (.invoking ⟨mS.cls, mS.idx⟩ a')).vm } : State).setVm s₂.vm := rfl
    rw [e2, eFirst, State.setFrames_setFrames] at h1
    exact h1
  have hs₂ : s₂.setFrames (.java { g with pc := g.pc + len, stack := v :: g.stack } :: U.frames.tail) = (({ U with heap := s₂.heap, slotsUsed := s₂.slotsUsed } : State).setVm s₂.vm).setTop { g with pc := g.pc + len, stack := v :: g.stack } := by
    have hr' : (({ U with heap := s₂.heap, slotsUsed := s₂.slotsUsed } : State).setVm s₂.vm).frames = .java g₀ :: r := hr
    rw [State.setTop_of_frames _ hr', htail]
    conv => lhs; rw [e3]
    have e4 : ∀ F G : List Frame, (({ U.setFrames F with heap := s₂.heap, slotsUsed := s₂.slotsUsed } : State).setVm s₂.vm).setFrames G = (({ U with heap := s₂.heap, slotsUsed := s₂.slotsUsed } : State).setVm s₂.vm).setFrames G := fun F G => by
      show ({ (U.setFrames F).setFrames G with heap := s₂.heap, slotsUsed := s₂.slotsUsed } : State).setVm s₂.vm = _
      rw [State.setFrames_setFrames]; rfl
    exact e4 _ _
  have hsame : U.sameButNew ({ U with heap := s₂.heap, slotsUsed := s₂.slotsUsed } : State) [] 0 0 := by
    refine ⟨?_, q2, q3, q4, q5, q6⟩
    obtain ⟨t, ht, -⟩ := State.frames_cons hr
    show ({ U with heap := s₂.heap, slotsUsed := s₂.slotsUsed } : State) = { U.setFrames U.frames with heap := s₂.heap, slotsUsed := s₂.slotsUsed }
    rw [State.setFrames_self ht]
  subst hg
  refine ⟨some v, ⟨(({ U with heap := s₂.heap, slotsUsed := s₂.slotsUsed } : State).setVm s₂.vm), Ls ++ [], c0 + 0, s0 + 0⟩,
    ⟨X.admits, X.cas, X.clock, X.frames, X.room, X.hears, X.method, X.code, (X.here.setHeapUsed s₂.heap s₂.slotsUsed).setVm hW'.alike, X.tail, State.WarmedH.trans X.warmed hW', X.limits, X.bytes, X.same.trans (hsame.setVm s.vm)⟩,
    ⟨rfl, hh2, List.append_nil _, rfl, rfl⟩, ?_⟩
  show Steps p.tables e below _ ((({ U with heap := s₂.heap, slotsUsed := s₂.slotsUsed } : State).setVm s₂.vm).setTop { g with pc := g.pc + len, stack := v :: g.stack })
  rw [← hs₂]
  exact hsteps
theorem PR.setFrames {D : va_G} {TY : Nat → ClassId} {av : List Value} {ws : va_W} (a : Array Value) (U : State) (F : List Frame) (h : PR D TY av ws a U) : PR D TY av ws a (U.setFrames F) := by
  obtain ⟨q0, qP, qK, qG⟩ := h
  exact ⟨q0, qP, va_K.moved (u := U) (U := U.setFrames F) (Vm.Alike.refl U.vm) qK, gz.same (s := U) (U := U.setFrames F) rfl qG⟩
end NU
section NATS3
variable {p : Program} {l : Launch} {e : Env} {R : Room} {s : State} {m : MethodId} {args : Array Value} {below : List Frame} {meth : Method} {c : Code} {H : Heap} {locs : List Loc} {cells slots : Nat} {Q : State → Prop}
variable {cc : ByteArray} {pc : Nat} {ls : Array Slot} {rest : List Value}
def nv_floor_row : NativeRow := (NativeRow.find? Native.java_lang_Math.nans.rows "java/lang/Math" "floor" "(D)D").get (by decide +kernel)
set_option maxRecDepth 100000 in
theorem nv_floor_find (p : Program) : NativeRow.find? p.tables.natives "java/lang/Math" "floor" "(D)D" = some nv_floor_row := by
  cases p <;> rfl
theorem nv_floor_call (a : UInt64) (e : Env) (S : State) (cS : ClassId) (kS : Class) (i : Nat) (hf : S.vm.findClass "java/lang/StrictMath" = some cS) (hk : S.vm.classes[cS]? = some kS) (hi : kS.init = .initialized) (hm : kS.findMethod "floor" "(D)D" = some i) :
    ∃ acts, (nv_floor_row.sem #[.double a]).run e S = .ctl (.call ⟨cS, i⟩ #[.double a] 1 #[]) S acts := by
  have hsem : nv_floor_row.sem #[.double a] = (do
      let c ← classNamed "java/lang/StrictMath"
      ensureInit c
      let some i := (← theClass c).findMethod "floor" "(D)D" | modelBug ("StrictMath lacks " ++ "floor")
      callThen ⟨c, i⟩ #[.double a] 1 #[]) := rfl
  have hw : wpRun (nv_floor_row.sem #[.double a]) (fun _ _ _ => False) (fun c s₂ _ => c = .call ⟨cS, i⟩ #[.double a] 1 #[] ∧ s₂ = S) e S := by
    rw [hsem]
    simp [jvm, wpRun, W.classNamed_ready hf, W.ensureInit_ready ⟨kS, hk, hi⟩, theClass, callThen, hk, hm]
    exact ⟨rfl, rfl, rfl, rfl⟩
  have hw' := (wpRun_iff_run _ _ _ _ _).mp hw
  cases hr : (nv_floor_row.sem #[.double a]).run e S with
  | ok v s₂ acts₂ => rw [hr] at hw'; exact hw'.elim
  | ctl x s₂ acts₂ =>
    rw [hr] at hw'
    have h2 : x = .call ⟨cS, i⟩ #[.double a] 1 #[] ∧ s₂ = S := by cases x <;> first | exact hw' | exact hw'.elim
    obtain ⟨rfl, rfl⟩ := h2
    exact ⟨_, rfl⟩
theorem nv_floor_resume {r : UInt64} (hn : vf_n64 r) (e : Env) (S : State) :
    ∃ acts, (nv_floor_row.resume 1 #[] (.returned (some (.double r)))).run e S = .ok (some (.double r)) S acts := by
  have hsem : nv_floor_row.resume 1 #[] (.returned (some (.double r))) = (do
      let r ← anyNaN64 r
      mark "nat.java_lang_Math.floor"
      Pure.pure (some (.double r))) := rfl
  have hn' : r &&& 0x7fffffffffffffff ≤ 0x7ff0000000000000 := hn
  have hw : wpRun (nv_floor_row.resume 1 #[] (.returned (some (.double r)))) (fun v s₂ _ => v = some (.double r) ∧ s₂ = S) (fun _ _ _ => False) e S := by
    rw [hsem]
    simp [jvm, wpRun, anyNaN64, hn']
  have hw' := (wpRun_iff_run _ _ _ _ _).mp hw
  cases hr : (nv_floor_row.resume 1 #[] (.returned (some (.double r)))).run e S with
  | ok v s₂ acts₂ => rw [hr] at hw'; obtain ⟨rfl, rfl⟩ := hw'; exact ⟨_, rfl⟩
  | ctl x s₂ acts₂ => rw [hr] at hw'; cases x <;> exact hw'.elim
theorem nv_floor (hexec : p.tables.exec = Jvm.exec) (hb : c.code = cc) (hml : c.maxLocals = ls.size) {own : String} {index : Nat} (hown : s.vm.findClass own = some m.cls) (hts : ∀ w ∈ lw_all, w.before args s = true) {D : va_G} {TY : Nat → ClassId} (hK : va_K D vwCl (tyL TY) s) {A : Nat → Prop} (hG : gz A s s.heap) {ws : va_W} (hP : va_P D vwCl ws H) (hS : va_S A s.heap H locs) (hlink : (Cond.methodLink own index ⟨"java/lang/Math", "floor", "(D)D"⟩).before args s = true) (hstat : (Cond.static ⟨"java/lang/Math", "floor", "(D)D"⟩).before args s = true) (hcode : (Cond.code ⟨"java/lang/Math", "floor", "(D)D"⟩ cJ2_floor 2 (some .double)).before args s = true) (hinit : (Cond.initialized "java/lang/Math").before args s = true) {a : UInt64} (ho : (oJ5_floor a) ∧ (vf_n64 (fJ5_floor a)))
    (hframes : 8 ≤ R.frames) (hlocals : (rest.map fun v => v.category).sum + 1400 ≤ R.locals) (hc : cells ≤ R.cells) (hs : slots ≤ R.slots) (hdg : decode cc pc = .ok (.invokestatic index, 3))
    (k : W p l e R s m args below meth c H locs cells slots Q (F0 m (pc + 3) ls (.double (fJ5_floor a) :: rest))) : W p l e R s m args below meth c H locs cells slots Q (F0 m pc ls (.double a :: rest)) := by
  intro T hT X
  have hsig : ∀ sig, parseMethodDescriptor "(D)D" = some sig → sig = { parameters := [.double], returnType := some .double } := by
    intro sig h
    have h2 : parseMethodDescriptor "(D)D" = some { parameters := [.double], returnType := some .double } := by decide +kernel
    rw [h2] at h
    exact (Option.some.inj h).symm
  have hB := nu_back (l := l) (R := R) (p := p) (e := e) (below := below) (s := s) (sargs := args) (y := ⟨"java/lang/Math", "floor", "(D)D"⟩) (y2 := yJ5_floor) (len := 3) (W9 := (rest.map fun v => v.category).sum) (row := nv_floor_row) (A := #[.double a]) (v := .double (fJ5_floor a)) (fun q => nv_floor_find q) (by decide) (by decide) hcode hstat
    (fun sig h => by rw [hsig sig h]; rfl) (fun S cS kS i h1 h2 h3 h4 => nv_floor_call a e S cS kS i h1 h2 h3 h4) (fun S => nv_floor_resume ho.2 e S)
    (mJ5_floor l D TY a (fun r => r = fJ5_floor a) rfl ho.1) PR.setFrames (fun a' st o t h => by obtain ⟨r, h1, h2, h3⟩ := h; subst h2; exact ⟨h1, h3⟩)
    (pay_in hts (lw_meth q601)) (hts _ q601) (fun a' U hW => word_at hW (lw_self _ q57).2 (hts _ q57)) (by omega) (by omega) (by omega)
  obtain ⟨v, vm₁, B, hW, X', ⟨hv, hBh, hBl, hBc, hBs⟩, st⟩ := callS X hexec hown hlink hstat hinit hcode ⟨by decide, by decide⟩ hB (g := F0 m pc ls (.double a :: rest)) rfl (by rw [hml]) (argsL := [.double a]) (rest := rest) (fun sig h => by rw [hsig sig h]; rfl) rfl (by show 2 * 0 + _ ≤ _; omega) (by rw [hb]; exact hdg)
    (fun vm₁ hW => ⟨hc, hs, rfl, PR.of hP [] rfl hK hG hS _ hT hW⟩)
  subst hv
  rw [hBl, hBc, hBs] at X'
  obtain ⟨t, a1, b1⟩ := k B.U (hBh.trans hT) X'
  exact ⟨t, st t a1, b1⟩
def nv_ceil_row : NativeRow := (NativeRow.find? Native.java_lang_Math.nans.rows "java/lang/Math" "ceil" "(D)D").get (by decide +kernel)
set_option maxRecDepth 100000 in
theorem nv_ceil_find (p : Program) : NativeRow.find? p.tables.natives "java/lang/Math" "ceil" "(D)D" = some nv_ceil_row := by
  cases p <;> rfl
theorem nv_ceil_call (a : UInt64) (e : Env) (S : State) (cS : ClassId) (kS : Class) (i : Nat) (hf : S.vm.findClass "java/lang/StrictMath" = some cS) (hk : S.vm.classes[cS]? = some kS) (hi : kS.init = .initialized) (hm : kS.findMethod "ceil" "(D)D" = some i) :
    ∃ acts, (nv_ceil_row.sem #[.double a]).run e S = .ctl (.call ⟨cS, i⟩ #[.double a] 1 #[]) S acts := by
  have hsem : nv_ceil_row.sem #[.double a] = (do
      let c ← classNamed "java/lang/StrictMath"
      ensureInit c
      let some i := (← theClass c).findMethod "ceil" "(D)D" | modelBug ("StrictMath lacks " ++ "ceil")
      callThen ⟨c, i⟩ #[.double a] 1 #[]) := rfl
  have hw : wpRun (nv_ceil_row.sem #[.double a]) (fun _ _ _ => False) (fun c s₂ _ => c = .call ⟨cS, i⟩ #[.double a] 1 #[] ∧ s₂ = S) e S := by
    rw [hsem]
    simp [jvm, wpRun, W.classNamed_ready hf, W.ensureInit_ready ⟨kS, hk, hi⟩, theClass, callThen, hk, hm]
    exact ⟨rfl, rfl, rfl, rfl⟩
  have hw' := (wpRun_iff_run _ _ _ _ _).mp hw
  cases hr : (nv_ceil_row.sem #[.double a]).run e S with
  | ok v s₂ acts₂ => rw [hr] at hw'; exact hw'.elim
  | ctl x s₂ acts₂ =>
    rw [hr] at hw'
    have h2 : x = .call ⟨cS, i⟩ #[.double a] 1 #[] ∧ s₂ = S := by cases x <;> first | exact hw' | exact hw'.elim
    obtain ⟨rfl, rfl⟩ := h2
    exact ⟨_, rfl⟩
theorem nv_ceil_resume {r : UInt64} (hn : vf_n64 r) (e : Env) (S : State) :
    ∃ acts, (nv_ceil_row.resume 1 #[] (.returned (some (.double r)))).run e S = .ok (some (.double r)) S acts := by
  have hsem : nv_ceil_row.resume 1 #[] (.returned (some (.double r))) = (do
      let r ← anyNaN64 r
      mark "nat.java_lang_Math.ceil"
      Pure.pure (some (.double r))) := rfl
  have hn' : r &&& 0x7fffffffffffffff ≤ 0x7ff0000000000000 := hn
  have hw : wpRun (nv_ceil_row.resume 1 #[] (.returned (some (.double r)))) (fun v s₂ _ => v = some (.double r) ∧ s₂ = S) (fun _ _ _ => False) e S := by
    rw [hsem]
    simp [jvm, wpRun, anyNaN64, hn']
  have hw' := (wpRun_iff_run _ _ _ _ _).mp hw
  cases hr : (nv_ceil_row.resume 1 #[] (.returned (some (.double r)))).run e S with
  | ok v s₂ acts₂ => rw [hr] at hw'; obtain ⟨rfl, rfl⟩ := hw'; exact ⟨_, rfl⟩
  | ctl x s₂ acts₂ => rw [hr] at hw'; cases x <;> exact hw'.elim
theorem nv_ceil (hexec : p.tables.exec = Jvm.exec) (hb : c.code = cc) (hml : c.maxLocals = ls.size) {own : String} {index : Nat} (hown : s.vm.findClass own = some m.cls) (hts : ∀ w ∈ lw_all, w.before args s = true) {D : va_G} {TY : Nat → ClassId} (hK : va_K D vwCl (tyL TY) s) {A : Nat → Prop} (hG : gz A s s.heap) {ws : va_W} (hP : va_P D vwCl ws H) (hS : va_S A s.heap H locs) (hlink : (Cond.methodLink own index ⟨"java/lang/Math", "ceil", "(D)D"⟩).before args s = true) (hstat : (Cond.static ⟨"java/lang/Math", "ceil", "(D)D"⟩).before args s = true) (hcode : (Cond.code ⟨"java/lang/Math", "ceil", "(D)D"⟩ cJ2_ceil 2 (some .double)).before args s = true) (hinit : (Cond.initialized "java/lang/Math").before args s = true) {a : UInt64} (ho : (oJ5_ceil a) ∧ (vf_n64 (fJ5_ceil a)))
    (hframes : 8 ≤ R.frames) (hlocals : (rest.map fun v => v.category).sum + 1400 ≤ R.locals) (hc : cells ≤ R.cells) (hs : slots ≤ R.slots) (hdg : decode cc pc = .ok (.invokestatic index, 3))
    (k : W p l e R s m args below meth c H locs cells slots Q (F0 m (pc + 3) ls (.double (fJ5_ceil a) :: rest))) : W p l e R s m args below meth c H locs cells slots Q (F0 m pc ls (.double a :: rest)) := by
  intro T hT X
  have hsig : ∀ sig, parseMethodDescriptor "(D)D" = some sig → sig = { parameters := [.double], returnType := some .double } := by
    intro sig h
    have h2 : parseMethodDescriptor "(D)D" = some { parameters := [.double], returnType := some .double } := by decide +kernel
    rw [h2] at h
    exact (Option.some.inj h).symm
  have hB := nu_back (l := l) (R := R) (p := p) (e := e) (below := below) (s := s) (sargs := args) (y := ⟨"java/lang/Math", "ceil", "(D)D"⟩) (y2 := yJ5_ceil) (len := 3) (W9 := (rest.map fun v => v.category).sum) (row := nv_ceil_row) (A := #[.double a]) (v := .double (fJ5_ceil a)) (fun q => nv_ceil_find q) (by decide) (by decide) hcode hstat
    (fun sig h => by rw [hsig sig h]; rfl) (fun S cS kS i h1 h2 h3 h4 => nv_ceil_call a e S cS kS i h1 h2 h3 h4) (fun S => nv_ceil_resume ho.2 e S)
    (mJ5_ceil l D TY a (fun r => r = fJ5_ceil a) rfl ho.1) PR.setFrames (fun a' st o t h => by obtain ⟨r, h1, h2, h3⟩ := h; subst h2; exact ⟨h1, h3⟩)
    (pay_in hts (lw_meth q584)) (hts _ q584) (fun a' U hW => word_at hW (lw_self _ q57).2 (hts _ q57)) (by omega) (by omega) (by omega)
  obtain ⟨v, vm₁, B, hW, X', ⟨hv, hBh, hBl, hBc, hBs⟩, st⟩ := callS X hexec hown hlink hstat hinit hcode ⟨by decide, by decide⟩ hB (g := F0 m pc ls (.double a :: rest)) rfl (by rw [hml]) (argsL := [.double a]) (rest := rest) (fun sig h => by rw [hsig sig h]; rfl) rfl (by show 2 * 0 + _ ≤ _; omega) (by rw [hb]; exact hdg)
    (fun vm₁ hW => ⟨hc, hs, rfl, PR.of hP [] rfl hK hG hS _ hT hW⟩)
  subst hv
  rw [hBl, hBc, hBs] at X'
  obtain ⟨t, a1, b1⟩ := k B.U (hBh.trans hT) X'
  exact ⟨t, st t a1, b1⟩
end NATS3
