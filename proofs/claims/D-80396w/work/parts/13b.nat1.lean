theorem vf_noNaN64 {a : UInt64} (h : vf_n64 a) : FP.dIsNaN a = false := noNaN64_of ((vf64_iff a).mp h)
section NATS
variable {p : Program} {l : Launch} {e : Env} {R : Room} {s : State} {m : MethodId} {args : Array Value} {below : List Frame} {meth : Method} {c : Code} {H : Heap} {locs : List Loc} {cells slots : Nat} {Q : State → Prop}
variable {cc : ByteArray} {pc : Nat} {ls : Array Slot} {rest : List Value}
def nv_absD_row : NativeRow := (NativeRow.find? Native.java_lang_Math.nans.rows "java/lang/Math" "abs" "(D)D").get (by decide +kernel)
set_option maxRecDepth 100000 in
theorem nv_absD_find (p : Program) : NativeRow.find? p.tables.natives "java/lang/Math" "abs" "(D)D" = some nv_absD_row := by
  cases p <;> rfl
theorem nv_absD_run {a : UInt64} (ho : vf_n64 a) (e : Env) (S : State) : ∃ acts, (nv_absD_row.sem #[.double a]).run e S = .ok (some (.double (absD a))) S acts := by
  have hsem : nv_absD_row.sem #[.double a] = (do
      let r ← anyNaN64 (a &&& 0x7fffffffffffffff)
      mark "nat.java_lang_Math.abs"
      Pure.pure (some (.double r))) := rfl
  have hw : wpRun (nv_absD_row.sem #[.double a]) (fun v s₂ _ => v = some (.double (absD a)) ∧ s₂ = S) (fun _ _ _ => False) e S := by
    rw [hsem]
    have hn : (a &&& 0x7fffffffffffffff) &&& 0x7fffffffffffffff ≤ 0x7ff0000000000000 := by rw [UInt64.and_assoc, UInt64.and_self]; exact ho
    simp [jvm, wpRun, anyNaN64, hn, absD]
  have hw' := (wpRun_iff_run _ _ _ _ _).mp hw
  cases hr : (nv_absD_row.sem #[.double a]).run e S with
  | ok v s₂ acts₂ => rw [hr] at hw'; obtain ⟨rfl, rfl⟩ := hw'; exact ⟨_, rfl⟩
  | ctl x s₂ acts₂ => rw [hr] at hw'; cases x <;> exact hw'.elim
theorem nv_absD (hexec : p.tables.exec = Jvm.exec) (hb : c.code = cc) (hml : c.maxLocals = ls.size) {own : String} {index : Nat} (hown : s.vm.findClass own = some m.cls) (hlink : (Cond.methodLink own index ⟨"java/lang/Math", "abs", "(D)D"⟩).before args s = true) (hstat : (Cond.static ⟨"java/lang/Math", "abs", "(D)D"⟩).before args s = true) (hcode : (Cond.code ⟨"java/lang/Math", "abs", "(D)D"⟩ cJ2_abs 2 (some .double)).before args s = true) (hinit : (Cond.initialized "java/lang/Math").before args s = true) {a : UInt64} (ho : vf_n64 a)
    (hframes : 1 ≤ R.frames) (hlocals : (rest.map fun v => v.category).sum + 21 ≤ R.locals) (hc : cells ≤ R.cells) (hs : slots ≤ R.slots) (hdg : decode cc pc = .ok (.invokestatic index, 3))
    (k : W p l e R s m args below meth c H locs cells slots Q (F0 m (pc + 3) ls (.double (absD a) :: rest))) : W p l e R s m args below meth c H locs cells slots Q (F0 m pc ls (.double a :: rest)) := by
  intro T hT X
  have hB : Back l R p e below s args ⟨"java/lang/Math", "abs", "(D)D"⟩ 3 (rest.map fun v => v.category).sum (fun X a' => X.cells ≤ R.cells ∧ X.slots ≤ R.slots ∧ a' = #[.double a]) (fun X _ w B => w = some (.double (absD a)) ∧ B = X) :=
    nt_back (row := nv_absD_row) (fun q => nv_absD_find q) (by decide) hcode hstat (fun sig h => by
      have h2 : parseMethodDescriptor "(D)D" = some { parameters := [.double], returnType := some .double } := by decide +kernel
      rw [show ((⟨"java/lang/Math", "abs", "(D)D"⟩ : MethodName)).desc = "(D)D" from rfl, h2] at h
      rw [← Option.some.inj h]
      rfl) (fun S => nv_absD_run ho e S) hframes (by omega)
  obtain ⟨v, vm₁, B, hW, X', ⟨hv, hBe⟩, st⟩ := callS X hexec hown hlink hstat hinit hcode ⟨by decide, by decide⟩ hB (g := F0 m pc ls (.double a :: rest)) rfl (by rw [hml]) (argsL := [.double a]) (rest := rest) (fun sig h => by
      have h2 : parseMethodDescriptor "(D)D" = some { parameters := [.double], returnType := some .double } := by decide +kernel
      rw [show ((⟨"java/lang/Math", "abs", "(D)D"⟩ : MethodName)).desc = "(D)D" from rfl, h2] at h
      rw [← Option.some.inj h]
      rfl) rfl (by show 2 * 0 + _ ≤ _; omega) (by rw [hb]; exact hdg) (fun _ _ => ⟨hc, hs, rfl⟩)
  subst hv
  subst hBe
  obtain ⟨t, a1, b1⟩ := k (T.setVm vm₁) hT X'
  exact ⟨t, st t a1, b1⟩
def nv_absF_row : NativeRow := (NativeRow.find? Native.java_lang_Math.nans.rows "java/lang/Math" "abs" "(F)F").get (by decide +kernel)
set_option maxRecDepth 100000 in
theorem nv_absF_find (p : Program) : NativeRow.find? p.tables.natives "java/lang/Math" "abs" "(F)F" = some nv_absF_row := by
  cases p <;> rfl
theorem nv_absF_run {a : UInt32} (ho : vf_n32 a) (e : Env) (S : State) : ∃ acts, (nv_absF_row.sem #[.float a]).run e S = .ok (some (.float (absF a))) S acts := by
  have hsem : nv_absF_row.sem #[.float a] = (do
      let r ← anyNaN32 (a &&& 0x7fffffff)
      mark "nat.java_lang_Math.abs/float"
      Pure.pure (some (.float r))) := rfl
  have hw : wpRun (nv_absF_row.sem #[.float a]) (fun v s₂ _ => v = some (.float (absF a)) ∧ s₂ = S) (fun _ _ _ => False) e S := by
    rw [hsem]
    have hn : (a &&& 0x7fffffff) &&& 0x7fffffff ≤ 0x7f800000 := by rw [UInt32.and_assoc, UInt32.and_self]; exact ho
    simp [jvm, wpRun, anyNaN32, hn, absF]
  have hw' := (wpRun_iff_run _ _ _ _ _).mp hw
  cases hr : (nv_absF_row.sem #[.float a]).run e S with
  | ok v s₂ acts₂ => rw [hr] at hw'; obtain ⟨rfl, rfl⟩ := hw'; exact ⟨_, rfl⟩
  | ctl x s₂ acts₂ => rw [hr] at hw'; cases x <;> exact hw'.elim
theorem nv_absF (hexec : p.tables.exec = Jvm.exec) (hb : c.code = cc) (hml : c.maxLocals = ls.size) {own : String} {index : Nat} (hown : s.vm.findClass own = some m.cls) (hlink : (Cond.methodLink own index ⟨"java/lang/Math", "abs", "(F)F"⟩).before args s = true) (hstat : (Cond.static ⟨"java/lang/Math", "abs", "(F)F"⟩).before args s = true) (hcode : (Cond.code ⟨"java/lang/Math", "abs", "(F)F"⟩ cJ2_abs_2 1 (some .float)).before args s = true) (hinit : (Cond.initialized "java/lang/Math").before args s = true) {a : UInt32} (ho : vf_n32 a)
    (hframes : 1 ≤ R.frames) (hlocals : (rest.map fun v => v.category).sum + 21 ≤ R.locals) (hc : cells ≤ R.cells) (hs : slots ≤ R.slots) (hdg : decode cc pc = .ok (.invokestatic index, 3))
    (k : W p l e R s m args below meth c H locs cells slots Q (F0 m (pc + 3) ls (.float (absF a) :: rest))) : W p l e R s m args below meth c H locs cells slots Q (F0 m pc ls (.float a :: rest)) := by
  intro T hT X
  have hB : Back l R p e below s args ⟨"java/lang/Math", "abs", "(F)F"⟩ 3 (rest.map fun v => v.category).sum (fun X a' => X.cells ≤ R.cells ∧ X.slots ≤ R.slots ∧ a' = #[.float a]) (fun X _ w B => w = some (.float (absF a)) ∧ B = X) :=
    nt_back (row := nv_absF_row) (fun q => nv_absF_find q) (by decide) hcode hstat (fun sig h => by
      have h2 : parseMethodDescriptor "(F)F" = some { parameters := [.float], returnType := some .float } := by decide +kernel
      rw [show ((⟨"java/lang/Math", "abs", "(F)F"⟩ : MethodName)).desc = "(F)F" from rfl, h2] at h
      rw [← Option.some.inj h]
      rfl) (fun S => nv_absF_run ho e S) hframes (by omega)
  obtain ⟨v, vm₁, B, hW, X', ⟨hv, hBe⟩, st⟩ := callS X hexec hown hlink hstat hinit hcode ⟨by decide, by decide⟩ hB (g := F0 m pc ls (.float a :: rest)) rfl (by rw [hml]) (argsL := [.float a]) (rest := rest) (fun sig h => by
      have h2 : parseMethodDescriptor "(F)F" = some { parameters := [.float], returnType := some .float } := by decide +kernel
      rw [show ((⟨"java/lang/Math", "abs", "(F)F"⟩ : MethodName)).desc = "(F)F" from rfl, h2] at h
      rw [← Option.some.inj h]
      rfl) rfl (by show 2 * 0 + _ ≤ _; omega) (by rw [hb]; exact hdg) (fun _ _ => ⟨hc, hs, rfl⟩)
  subst hv
  subst hBe
  obtain ⟨t, a1, b1⟩ := k (T.setVm vm₁) hT X'
  exact ⟨t, st t a1, b1⟩
def nv_csign_row : NativeRow := (NativeRow.find? Native.java_lang_Math.nans.rows "java/lang/Math" "copySign" "(DD)D").get (by decide +kernel)
set_option maxRecDepth 100000 in
theorem nv_csign_find (p : Program) : NativeRow.find? p.tables.natives "java/lang/Math" "copySign" "(DD)D" = some nv_csign_row := by
  cases p <;> rfl
theorem nv_csign_run {a b : UInt64} (ho : vf_n64 b) (e : Env) (S : State) : ∃ acts, (nv_csign_row.sem #[.double a, .double b]).run e S = .ok (some (.double (csignD a b))) S acts := by
  have hsem : nv_csign_row.sem #[.double a, .double b] = (do
      let negative ← Native.java_lang_Math.nans.signOf (FP.dIsNaN b) (b >>> 63 == 1)
      mark "nat.java_lang_Math.copySign"
      Pure.pure (some (.double ((a &&& 0x7fffffffffffffff) ||| (if negative then 0x8000000000000000 else 0))))) := rfl
  have hw : wpRun (nv_csign_row.sem #[.double a, .double b]) (fun v s₂ _ => v = some (.double (csignD a b)) ∧ s₂ = S) (fun _ _ _ => False) e S := by
    rw [hsem]
    have hn : FP.dIsNaN b = false := vf_noNaN64 ho
    simp [jvm, wpRun, Native.java_lang_Math.nans.signOf, hn, csignD]
  have hw' := (wpRun_iff_run _ _ _ _ _).mp hw
  cases hr : (nv_csign_row.sem #[.double a, .double b]).run e S with
  | ok v s₂ acts₂ => rw [hr] at hw'; obtain ⟨rfl, rfl⟩ := hw'; exact ⟨_, rfl⟩
  | ctl x s₂ acts₂ => rw [hr] at hw'; cases x <;> exact hw'.elim
theorem nv_csign (hexec : p.tables.exec = Jvm.exec) (hb : c.code = cc) (hml : c.maxLocals = ls.size) {own : String} {index : Nat} (hown : s.vm.findClass own = some m.cls) (hlink : (Cond.methodLink own index ⟨"java/lang/Math", "copySign", "(DD)D"⟩).before args s = true) (hstat : (Cond.static ⟨"java/lang/Math", "copySign", "(DD)D"⟩).before args s = true) (hcode : (Cond.code ⟨"java/lang/Math", "copySign", "(DD)D"⟩ cJ2_copySign 4 (some .double)).before args s = true) (hinit : (Cond.initialized "java/lang/Math").before args s = true) {a b : UInt64} (ho : vf_n64 b)
    (hframes : 1 ≤ R.frames) (hlocals : (rest.map fun v => v.category).sum + 23 ≤ R.locals) (hc : cells ≤ R.cells) (hs : slots ≤ R.slots) (hdg : decode cc pc = .ok (.invokestatic index, 3))
    (k : W p l e R s m args below meth c H locs cells slots Q (F0 m (pc + 3) ls (.double (csignD a b) :: rest))) : W p l e R s m args below meth c H locs cells slots Q (F0 m pc ls (.double b :: .double a :: rest)) := by
  intro T hT X
  have hB : Back l R p e below s args ⟨"java/lang/Math", "copySign", "(DD)D"⟩ 3 (rest.map fun v => v.category).sum (fun X a' => X.cells ≤ R.cells ∧ X.slots ≤ R.slots ∧ a' = #[.double a, .double b]) (fun X _ w B => w = some (.double (csignD a b)) ∧ B = X) :=
    nt_back (row := nv_csign_row) (fun q => nv_csign_find q) (by decide) hcode hstat (fun sig h => by
      have h2 : parseMethodDescriptor "(DD)D" = some { parameters := [.double, .double], returnType := some .double } := by decide +kernel
      rw [show ((⟨"java/lang/Math", "copySign", "(DD)D"⟩ : MethodName)).desc = "(DD)D" from rfl, h2] at h
      rw [← Option.some.inj h]
      rfl) (fun S => nv_csign_run ho e S) hframes (by omega)
  obtain ⟨v, vm₁, B, hW, X', ⟨hv, hBe⟩, st⟩ := callS X hexec hown hlink hstat hinit hcode ⟨by decide, by decide⟩ hB (g := F0 m pc ls (.double b :: .double a :: rest)) rfl (by rw [hml]) (argsL := [.double a, .double b]) (rest := rest) (fun sig h => by
      have h2 : parseMethodDescriptor "(DD)D" = some { parameters := [.double, .double], returnType := some .double } := by decide +kernel
      rw [show ((⟨"java/lang/Math", "copySign", "(DD)D"⟩ : MethodName)).desc = "(DD)D" from rfl, h2] at h
      rw [← Option.some.inj h]
      rfl) rfl (by show 2 * 0 + _ ≤ _; omega) (by rw [hb]; exact hdg) (fun _ _ => ⟨hc, hs, rfl⟩)
  subst hv
  subst hBe
  obtain ⟨t, a1, b1⟩ := k (T.setVm vm₁) hT X'
  exact ⟨t, st t a1, b1⟩
def nv_signum_row : NativeRow := (NativeRow.find? Native.java_lang_Math.nans.rows "java/lang/Math" "signum" "(D)D").get (by decide +kernel)
set_option maxRecDepth 100000 in
theorem nv_signum_find (p : Program) : NativeRow.find? p.tables.natives "java/lang/Math" "signum" "(D)D" = some nv_signum_row := by
  cases p <;> rfl
theorem nv_signum_run {a : UInt64} (ho : vf_n64 a) (e : Env) (S : State) : ∃ acts, (nv_signum_row.sem #[.double a]).run e S = .ok (some (.double (signumD a))) S acts := by
  have hsem : nv_signum_row.sem #[.double a] = (do
      let r ← if FP.dIsNaN a then anyNaN64 a else Pure.pure (if a <<< 1 == 0 then a else (a &&& 0x8000000000000000) ||| 0x3ff0000000000000)
      mark "nat.java_lang_Math.signum"
      Pure.pure (some (.double r))) := rfl
  have hw : wpRun (nv_signum_row.sem #[.double a]) (fun v s₂ _ => v = some (.double (signumD a)) ∧ s₂ = S) (fun _ _ _ => False) e S := by
    rw [hsem]
    have hn : FP.dIsNaN a = false := vf_noNaN64 ho
    simp [jvm, wpRun, hn, signumD]
  have hw' := (wpRun_iff_run _ _ _ _ _).mp hw
  cases hr : (nv_signum_row.sem #[.double a]).run e S with
  | ok v s₂ acts₂ => rw [hr] at hw'; obtain ⟨rfl, rfl⟩ := hw'; exact ⟨_, rfl⟩
  | ctl x s₂ acts₂ => rw [hr] at hw'; cases x <;> exact hw'.elim
theorem nv_signum (hexec : p.tables.exec = Jvm.exec) (hb : c.code = cc) (hml : c.maxLocals = ls.size) {own : String} {index : Nat} (hown : s.vm.findClass own = some m.cls) (hlink : (Cond.methodLink own index ⟨"java/lang/Math", "signum", "(D)D"⟩).before args s = true) (hstat : (Cond.static ⟨"java/lang/Math", "signum", "(D)D"⟩).before args s = true) (hcode : (Cond.code ⟨"java/lang/Math", "signum", "(D)D"⟩ cJ2_signum 2 (some .double)).before args s = true) (hinit : (Cond.initialized "java/lang/Math").before args s = true) {a : UInt64} (ho : vf_n64 a)
    (hframes : 1 ≤ R.frames) (hlocals : (rest.map fun v => v.category).sum + 21 ≤ R.locals) (hc : cells ≤ R.cells) (hs : slots ≤ R.slots) (hdg : decode cc pc = .ok (.invokestatic index, 3))
    (k : W p l e R s m args below meth c H locs cells slots Q (F0 m (pc + 3) ls (.double (signumD a) :: rest))) : W p l e R s m args below meth c H locs cells slots Q (F0 m pc ls (.double a :: rest)) := by
  intro T hT X
  have hB : Back l R p e below s args ⟨"java/lang/Math", "signum", "(D)D"⟩ 3 (rest.map fun v => v.category).sum (fun X a' => X.cells ≤ R.cells ∧ X.slots ≤ R.slots ∧ a' = #[.double a]) (fun X _ w B => w = some (.double (signumD a)) ∧ B = X) :=
    nt_back (row := nv_signum_row) (fun q => nv_signum_find q) (by decide) hcode hstat (fun sig h => by
      have h2 : parseMethodDescriptor "(D)D" = some { parameters := [.double], returnType := some .double } := by decide +kernel
      rw [show ((⟨"java/lang/Math", "signum", "(D)D"⟩ : MethodName)).desc = "(D)D" from rfl, h2] at h
      rw [← Option.some.inj h]
      rfl) (fun S => nv_signum_run ho e S) hframes (by omega)
  obtain ⟨v, vm₁, B, hW, X', ⟨hv, hBe⟩, st⟩ := callS X hexec hown hlink hstat hinit hcode ⟨by decide, by decide⟩ hB (g := F0 m pc ls (.double a :: rest)) rfl (by rw [hml]) (argsL := [.double a]) (rest := rest) (fun sig h => by
      have h2 : parseMethodDescriptor "(D)D" = some { parameters := [.double], returnType := some .double } := by decide +kernel
      rw [show ((⟨"java/lang/Math", "signum", "(D)D"⟩ : MethodName)).desc = "(D)D" from rfl, h2] at h
      rw [← Option.some.inj h]
      rfl) rfl (by show 2 * 0 + _ ≤ _; omega) (by rw [hb]; exact hdg) (fun _ _ => ⟨hc, hs, rfl⟩)
  subst hv
  subst hBe
  obtain ⟨t, a1, b1⟩ := k (T.setVm vm₁) hT X'
  exact ⟨t, st t a1, b1⟩
end NATS
