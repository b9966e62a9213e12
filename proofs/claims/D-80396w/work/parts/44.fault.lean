/-! an exception class of our own with a field: its constructor calls Exception's -/
def fw_atoms : List Cond := Bundle.throwableAtoms ++ Bundle.chain0Atoms "java/lang/Exception" [] ++
  [.methodLink "FloatClasses$Fault" 1 (Bundle.init0 "java/lang/Exception"), .instantiable "FloatClasses$Fault" 7, .selects "FloatClasses$Fault" Bundle.tFill0 Bundle.tFill0, .selects "FloatClasses$Fault" Bundle.tFill Bundle.tFill,
   .lays "FloatClasses$Fault" Bundle.tN "cause" "Ljava/lang/Throwable;", .lays "FloatClasses$Fault" Bundle.tN "stackTrace" Bundle.steD, .lays "FloatClasses$Fault" Bundle.tN "suppressedExceptions" Bundle.listD, .lays "FloatClasses$Fault" Bundle.tN "detailMessage" "Ljava/lang/String;",
   .isRef (.static Bundle.tN "UNASSIGNED_STACK" Bundle.steD), .isRef (.static Bundle.tN "SUPPRESSED_SENTINEL" Bundle.listD),
   .fieldLink Bundle.tN 198 Bundle.tN "backtrace" "Ljava/lang/Object;", .lays Bundle.tN Bundle.tN "backtrace" "Ljava/lang/Object;", .lays "FloatClasses$Fault" Bundle.tN "backtrace" "Ljava/lang/Object;"]
set_option maxRecDepth 100000 in
theorem xg_F : ∀ w ∈ (fw_atoms.filter vx_no).filter goodWord, w ∈ lw_all := lw_in _ [58, 719, 659, 681, 684, 686, 720, 721, 652, 653, 651, 658, 682, 689, 713, 690, 714, 691, 715, 654, 656, 716, 863, 864, 865, 720, 862, 851, 853, 661, 854, 855, 856, 857, 718, 717, 858] (by decide +kernel) (by decide +kernel)
set_option maxRecDepth 100000 in
theorem xb_F : ∀ w ∈ (fw_atoms.filter vx_no).filter (fun w => !goodWord w), w ∈ ([.declares ⟨"java/lang/Throwable", "<init>", "()V"⟩] : List Cond) := by decide +kernel
set_option maxRecDepth 100000 in
theorem xo_F : ∀ w ∈ fw_atoms.filter vx_no, vx_ot w = true := by decide +kernel
theorem xw_F {A : Nat → Prop} {s : State} {args : Array Value} (hts : ∀ w ∈ lw_all, w.before args s = true) (hG : gz A s s.heap) : ∀ w ∈ fw_atoms.filter vx_no, w.before args s = true := vx_hat (fun w h => hts w (xg_F w h)) xb_F (vx_c (va_Nw.use rfl (gz_de3 hG)) vx_n)
theorem xw_Fa {A : Nat → Prop} {s : State} {args : Array Value} (hts : ∀ w ∈ lw_all, w.before args s = true) (hG : gz A s s.heap) : ∀ w ∈ fw_atoms, w.before args s = true := vx_own (xw_F hts hG) (vx_isRefq hG.t.1.1) (vx_isRefq hG.t.2.1) hG.t.1.2.word hG.t.2.2.word
section NXF
variable {p : Program} {l : Launch} {e : Env} {R : Room} {s : State} {m₀ : MethodId} {args : Array Value} {below : List Frame} {meth : Method} {c : Code} {W : State} {locs : List Loc} {cells slots : Nat}
set_option maxHeartbeats 1000000 in
theorem nx_super (X : Stand p l e R s m₀ args below meth c W locs cells slots) (hexec : p.tables.exec = Jvm.exec) (htr : e.platform.stackTraces = false)
    (hown : s.vm.findClass "FloatClasses$Fault" = some m₀.cls) (h : ∀ a ∈ fw_atoms, a.before args s = true) (hlocs : locs = [])
    {a : Addr} {cX : ClassId} {kX : Class} (hfoundX : s.vm.findClass "FloatClasses$Fault" = some cX) (hkX : s.vm.classes[cX]? = some kX) (hheap : W.heap = s.heap) (hcell : W.heap[a]? = some (freshCell cX kX))
    {g : JFrame} (hg : g.method = m₀) (hsize : g.locals.size = c.maxLocals) {rest : List Value} (hstack : g.stack = .ref a :: rest)
    (hd6 : decode c.code g.pc = .ok (.invokespecial 1, 3))
    (hRframes : 3 < R.frames) (hRlocals : 2 * g.monitorRoom + (rest.map fun v => v.category).sum + 54 ≤ R.locals) :
    ∃ (V : State) (ce : Cell) (L : List Loc), Stand p l e R s m₀ args below meth c (V.setCell a ce) (locs ++ L) cells slots ∧ (∀ y ∈ L, y.base = a) ∧ V.heap = W.heap ∧ ce.cls = cX ∧ ce.vm = .none ∧ ce.slots.size = (freshCell cX kX).slots.size ∧
      ∀ target, Steps p.tables e below ((V.setCell a ce).setTop { g with stack := rest, pc := g.pc + 3 }) target → Steps p.tables e below (W.setTop g) target := by
  subst hlocs
  have howns : e.platform.frameOwnsMonitors = true := by rw [X.admits.platform]
  have hfin : e.platform.finalization = false := by rw [X.admits.platform]
  have hpl : e.platform.magicAccessors = ({} : Platform).magicAccessors := by rw [X.admits.platform]
  have a' : ∀ x, x ∈ fw_atoms → x.holds args s none s [] = true := fun x hx => h x hx
  obtain ⟨T, Z, L, LZ, Y⟩ := ThrowableC.of_atoms (args := args) howns hfin hpl (fun x hx => h x (by simp [fw_atoms, hx]))
  obtain ⟨P1, Ps, hlen, L1, hL, hP1m, hlink1, hlink⟩ := Bundle.chain0 (args := args) hpl Y.init0 [] "java/lang/Exception" (by decide +kernel) (fun n hn => nomatch hn) (fun x hx => h x (by simp [fw_atoms, hx]))
  obtain ⟨c1, kX', hc1, hk, hord, -, -, hn6⟩ := Cond.instantiable_spec (a' (.instantiable "FloatClasses$Fault" 7) (by simp [fw_atoms]))
  cases Option.some.inj (hc1.symm.trans hfoundX)
  cases Option.some.inj (hkX.symm.trans hk)
  have hsel0 : selectMethod e.platform s.vm cX T.fill0 = .method T.fill0 := by
    obtain ⟨c2, r2, m2, q1, q2, q3, q4, -⟩ := Cond.selects_spec (a' (.selects "FloatClasses$Fault" Bundle.tFill0 Bundle.tFill0) (by simp [fw_atoms]))
    cases Option.some.inj (q1.symm.trans hfoundX)
    cases Option.some.inj (q2.symm.trans (State.methodFound?_of_named Y.fill0 (by decide)))
    cases Option.some.inj (q3.symm.trans Y.fill0)
    rw [Launch.admits_selectMethod X.admits]; exact q4
  have hselF : selectMethod e.platform s.vm cX T.fill = .method T.fill := by
    obtain ⟨c2, r2, m2, q1, q2, q3, q4, -⟩ := Cond.selects_spec (a' (.selects "FloatClasses$Fault" Bundle.tFill Bundle.tFill) (by simp [fw_atoms]))
    cases Option.some.inj (q1.symm.trans hfoundX)
    cases Option.some.inj (q2.symm.trans (State.methodFound?_of_named Y.fill (by decide)))
    cases Option.some.inj (q3.symm.trans Y.fill)
    rw [Launch.admits_selectMethod X.admits]; exact q4
  obtain ⟨cellS0, hcS0, hiss⟩ := Y.statics
  obtain ⟨u0, hu0⟩ := Cond.staticRefV Y.unassigned L.unassignedStatic L.statics hcS0 hiss (a' (.isRef (.static Bundle.tN "UNASSIGNED_STACK" Bundle.steD)) (by simp [fw_atoms]))
  obtain ⟨sen, hsen⟩ := Cond.staticRefV Y.sentinel L.sentinelStatic L.statics hcS0 hiss (a' (.isRef (.static Bundle.tN "SUPPRESSED_SENTINEL" Bundle.listD)) (by simp [fw_atoms]))
  obtain ⟨ci198, i198, fB, hk198, hg198, ha198, hsB, -, hnB, htB, hffB⟩ := Cond.ownField (t := .object "java/lang/Object") Y.found L.cls (by decide +kernel) (a' (.fieldLink Bundle.tN 198 Bundle.tN "backtrace" "Ljava/lang/Object;") (by simp [fw_atoms])) (a' (.lays Bundle.tN Bundle.tN "backtrace" "Ljava/lang/Object;") (by simp [fw_atoms])) e.platform hpl
  have hcellS : W.heap[T.aS]? = some cellS0 := by rw [hheap]; exact hcS0
  have hknownS : cellS0.vm ≠ .unknown := by
    intro hu
    rw [hu] at hiss
    cases hiss
  have hneS : T.aS ≠ a := by
    intro he
    rw [he, hcell] at hcellS
    cases Option.some.inj hcellS
    cases hiss
  obtain ⟨iM, hffM⟩ := Y.msg
  obtain ⟨tyC, dC, hdC, hdnC⟩ := Cond.laysAt hfoundX hk Y.cause (a' (.lays "FloatClasses$Fault" Bundle.tN "cause" "Ljava/lang/Throwable;") (by simp [fw_atoms]))
  obtain ⟨tyS, dS, hdS, hdnS⟩ := Cond.laysAt hfoundX hk Y.stack (a' (.lays "FloatClasses$Fault" Bundle.tN "stackTrace" Bundle.steD) (by simp [fw_atoms]))
  obtain ⟨tyP, dP, hdP, hdnP⟩ := Cond.laysAt hfoundX hk Y.supp (a' (.lays "FloatClasses$Fault" Bundle.tN "suppressedExceptions" Bundle.listD) (by simp [fw_atoms]))
  obtain ⟨tyB, dB, hdB, hdnB⟩ := Cond.laysAt hfoundX hk hffB (a' (.lays "FloatClasses$Fault" Bundle.tN "backtrace" "Ljava/lang/Object;") (by simp [fw_atoms]))
  have bC := Cond.laysApart hdB hdC hdnB hdnC (by rw [hnB, Y.causeName]; decide)
  have bS := Cond.laysApart hdB hdS hdnB hdnS (by rw [hnB, Y.stackName]; decide)
  have bP := Cond.laysApart hdB hdP hdnB hdnP (by rw [hnB, Y.suppName]; decide)
  have hskip : SkipFacts T e.platform s (fun u => u) u0 ((preparedCellV T.toThrowableT (freshCell cX kX) a u0 sen).withEntry W.cur) :=
    ⟨{ ci198 := ci198, i198 := i198, fBack := fB }, ⟨hk198, hg198, ha198, hsB⟩, by
      have := fresh_default (c := cX) tyB
      rw [htB] at this
      simpa [preparedCellV, Cell.setSlot, Cell.withEntry, Array.getElem?_setIfInBounds, bC, bS, bP, bC.symm, bS.symm, bP.symm, defaultValue] using this, fun _ _ => rfl⟩
  obtain ⟨tm, methC, cdC, kC, vm₁, hnC, -, -, -, -, -, -, -, hW₁, st1⟩ := Steps.initCold (tb := p.tables) (e := e) (below := below) (s := s) (U := W) X.here hexec X.warmed hpl hown (t := Bundle.init0 "java/lang/Exception") rfl rfl (by decide)
    (a' (.methodLink "FloatClasses$Fault" 1 (Bundle.init0 "java/lang/Exception")) (by simp [fw_atoms])) (h (.instanceMethod (Bundle.init0 "java/lang/Exception")) (by simp [fw_atoms, Bundle.chain0Atoms, Bundle.passAtoms])) (bytes := Bundle.five) (maxL := 1) (h (.code (Bundle.init0 "java/lang/Exception") Bundle.five 1 none) (by simp [fw_atoms, Bundle.chain0Atoms, Bundle.passAtoms]))
    (f := g) hg (a := a) (rest := rest) hstack hd6
  cases Option.some.inj (hnC.symm.trans hP1m)
  have X₁ := X.noted hW₁
  obtain ⟨vm₂, X₂, st2⟩ := X₁.ctorPlainOffV hexec (g := { g with stack := rest }) hg hsize T L Z LZ (P1 :: Ps)
    (fun P hP => by rcases List.mem_cons.mp hP with rfl | hP; exact L1; exact hL P hP) ⟨hlink1, hlink⟩ (u0 := u0) (sen := sen) (self := a) (cell := freshCell cX kX) (cellS := cellS0)
    hcell (fun _ => by simp) (by simp) rfl rfl hsel0 hselF hcellS hneS hknownS hu0 hsen
    (Takes.of_laid hk hord tyC (by rw [Y.causeType]; rfl)) (Takes.of_laid hk hord tyS (by rw [Y.stackType]; exact fits_refV_array _ u0)) (Takes.of_laid hk hord tyP (by rw [Y.suppType]; exact fits_refV_object _ sen)) Y.objLocals hskip htr [] hd6
    (by simp only [List.length_cons, hlen, List.length_nil]; omega) (by simp only [List.length_cons, hlen, List.length_nil]; exact hRlocals)
  refine ⟨(W.setVm vm₁).setVm vm₂, _, _, X₂, fun y hy => ?_, rfl, rfl, rfl, ?_, fun target hwalk => st1 _ (fun acts => ?_)⟩
  · simp only [List.mem_cons, List.not_mem_nil, or_false] at hy
    rcases hy with rfl | rfl | rfl | rfl <;> rfl
  · simp [preparedCellV, Cell.setSlot]
  · rw [doInvoke_state]
    exact st2 _ hwalk
end NXF
