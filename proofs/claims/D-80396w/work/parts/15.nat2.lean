section NATS2
variable {p : Program} {l : Launch} {e : Env} {R : Room} {s : State} {m : MethodId} {args : Array Value} {below : List Frame} {meth : Method} {c : Code} {H : Heap} {locs : List Loc} {cells slots : Nat} {Q : State → Prop}
variable {cc : ByteArray} {pc : Nat} {ls : Array Slot} {rest : List Value}
def nv_rint_row : NativeRow := (NativeRow.find? Native.java_lang_Math.nans.rows "java/lang/Math" "rint" "(D)D").get (by decide +kernel)
set_option maxRecDepth 100000 in
theorem nv_rint_find (p : Program) : NativeRow.find? p.tables.natives "java/lang/Math" "rint" "(D)D" = some nv_rint_row := by
  cases p <;> rfl
theorem nv_rint_call (a : UInt64) (e : Env) (S : State) (cS : ClassId) (kS : Class) (i : Nat) (hf : S.vm.findClass "java/lang/StrictMath" = some cS) (hk : S.vm.classes[cS]? = some kS) (hi : kS.init = .initialized) (hm : kS.findMethod "rint" "(D)D" = some i) :
    ∃ acts, (nv_rint_row.sem #[.double a]).run e S = .ctl (.call ⟨cS, i⟩ #[.double a] 1 #[]) S acts := by
  have hsem : nv_rint_row.sem #[.double a] = (do
      let c ← classNamed "java/lang/StrictMath"
      ensureInit c
      let some i := (← theClass c).findMethod "rint" "(D)D" | modelBug ("StrictMath lacks " ++ "rint")
      callThen ⟨c, i⟩ #[.double a] 1 #[]) := rfl
  have hw : wpRun (nv_rint_row.sem #[.double a]) (fun _ _ _ => False) (fun c s₂ _ => c = .call ⟨cS, i⟩ #[.double a] 1 #[] ∧ s₂ = S) e S := by
    rw [hsem]
    simp [jvm, wpRun, W.classNamed_ready hf, W.ensureInit_ready ⟨kS, hk, hi⟩, theClass, callThen, hk, hm]
    exact ⟨rfl, rfl, rfl, rfl⟩
  have hw' := (wpRun_iff_run _ _ _ _ _).mp hw
  cases hr : (nv_rint_row.sem #[.double a]).run e S with
  | ok v s₂ acts₂ => rw [hr] at hw'; exact hw'.elim
  | ctl x s₂ acts₂ =>
    rw [hr] at hw'
    have h2 : x = .call ⟨cS, i⟩ #[.double a] 1 #[] ∧ s₂ = S := by cases x <;> first | exact hw' | exact hw'.elim
    obtain ⟨rfl, rfl⟩ := h2
    exact ⟨_, rfl⟩
theorem nv_rint_resume {r : UInt64} (hn : vf_n64 r) (e : Env) (S : State) :
    ∃ acts, (nv_rint_row.resume 1 #[] (.returned (some (.double r)))).run e S = .ok (some (.double r)) S acts := by
  have hsem : nv_rint_row.resume 1 #[] (.returned (some (.double r))) = (do
      let r ← anyNaN64 r
      mark "nat.java_lang_Math.rint"
      Pure.pure (some (.double r))) := rfl
  have hn' : r &&& 0x7fffffffffffffff ≤ 0x7ff0000000000000 := hn
  have hw : wpRun (nv_rint_row.resume 1 #[] (.returned (some (.double r)))) (fun v s₂ _ => v = some (.double r) ∧ s₂ = S) (fun _ _ _ => False) e S := by
    rw [hsem]
    simp [jvm, wpRun, anyNaN64, hn']
  have hw' := (wpRun_iff_run _ _ _ _ _).mp hw
  cases hr : (nv_rint_row.resume 1 #[] (.returned (some (.double r)))).run e S with
  | ok v s₂ acts₂ => rw [hr] at hw'; obtain ⟨rfl, rfl⟩ := hw'; exact ⟨_, rfl⟩
  | ctl x s₂ acts₂ => rw [hr] at hw'; cases x <;> exact hw'.elim
theorem nv_rint (hexec : p.tables.exec = Jvm.exec) (hb : c.code = cc) (hml : c.maxLocals = ls.size) {own : String} {index : Nat} (hown : s.vm.findClass own = some m.cls) (hts : ∀ w ∈ lw_all, w.before args s = true) {D : va_G} {TY : Nat → ClassId} (hK : va_K D vwCl (tyL TY) s) {A : Nat → Prop} (hG : gz A s s.heap) {ws : va_W} (hP : va_P D vwCl ws H) (hS : va_S A s.heap H locs) (hlink : (Cond.methodLink own index ⟨"java/lang/Math", "rint", "(D)D"⟩).before args s = true) (hstat : (Cond.static ⟨"java/lang/Math", "rint", "(D)D"⟩).before args s = true) (hcode : (Cond.code ⟨"java/lang/Math", "rint", "(D)D"⟩ cJ2_rint 2 (some .double)).before args s = true) (hinit : (Cond.initialized "java/lang/Math").before args s = true) {a : UInt64} (ho : (oJ5_rint a) ∧ (vf_n64 (fJ5_rint a)))
    (hframes : 8 ≤ R.frames) (hlocals : (rest.map fun v => v.category).sum + 1400 ≤ R.locals) (hc : cells ≤ R.cells) (hs : slots ≤ R.slots) (hdg : decode cc pc = .ok (.invokestatic index, 3))
    (k : W p l e R s m args below meth c H locs cells slots Q (F0 m (pc + 3) ls (.double (fJ5_rint a) :: rest))) : W p l e R s m args below meth c H locs cells slots Q (F0 m pc ls (.double a :: rest)) := by
  intro T hT X
  have hsig : ∀ sig, parseMethodDescriptor "(D)D" = some sig → sig = { parameters := [.double], returnType := some .double } := by
    intro sig h
    have h2 : parseMethodDescriptor "(D)D" = some { parameters := [.double], returnType := some .double } := by decide +kernel
    rw [h2] at h
    exact (Option.some.inj h).symm
  have hB := nu_back (l := l) (R := R) (p := p) (e := e) (below := below) (s := s) (sargs := args) (y := ⟨"java/lang/Math", "rint", "(D)D"⟩) (y2 := yJ5_rint) (len := 3) (W9 := (rest.map fun v => v.category).sum) (row := nv_rint_row) (A := #[.double a]) (v := .double (fJ5_rint a)) (fun q => nv_rint_find q) (by decide) (by decide) hcode hstat
    (fun sig h => by rw [hsig sig h]; rfl) (fun S cS kS i h1 h2 h3 h4 => nv_rint_call a e S cS kS i h1 h2 h3 h4) (fun S => nv_rint_resume ho.2 e S)
    (mJ5_rint l D TY a (fun r => r = fJ5_rint a) rfl ho.1) PR.setFrames (fun a' st o t h => by obtain ⟨r, h1, h2, h3⟩ := h; subst h2; exact ⟨h1, h3⟩)
    (pay_in hts (lw_meth q608)) (hts _ q608) (fun a' U hW => word_at hW (lw_self _ q57).2 (hts _ q57)) (by omega) (by omega) (by omega)
  obtain ⟨v, vm₁, B, hW, X', ⟨hv, hBh, hBl, hBc, hBs⟩, st⟩ := callS X hexec hown hlink hstat hinit hcode ⟨by decide, by decide⟩ hB (g := F0 m pc ls (.double a :: rest)) rfl (by rw [hml]) (argsL := [.double a]) (rest := rest) (fun sig h => by rw [hsig sig h]; rfl) rfl (by show 2 * 0 + _ ≤ _; omega) (by rw [hb]; exact hdg)
    (fun vm₁ hW => ⟨hc, hs, rfl, PR.of hP [] rfl hK hG hS _ hT hW⟩)
  subst hv
  rw [hBl, hBc, hBs] at X'
  obtain ⟨t, a1, b1⟩ := k B.U (hBh.trans hT) X'
  exact ⟨t, st t a1, b1⟩
end NATS2
