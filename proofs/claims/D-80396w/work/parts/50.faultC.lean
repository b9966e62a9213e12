/-! the call of Fault's constructor; a cell of class Fault that is thrown -/
theorem nx_cell {s : State} {H : Heap} {D : va_G} {TY : Nat → ClassId} {a q0 : Nat} {fs : List Value} {ws : va_W} (hK : va_K D vwCl (tyL TY) s) (hP : va_P D vwCl ws H) (he : ws[q0]? = some (a, .inr (7, fs))) :
    ∃ ce : Cell, H[a]? = some ce ∧ ce.vm = .none ∧ s.vm.findClass "FloatClasses$Fault" = some ce.cls := by
  obtain ⟨q', h1, cell, g1, g2, g3, -⟩ := hP q0 _ he
  exact ⟨cell, g1, g3, by rw [g2]; exact (hK.1 7 _ rfl).2.1⟩
section NXC
variable {p : Program} {l : Launch} {e : Env} {R : Room} {s : State} {m : MethodId} {args : Array Value} {below : List Frame} {meth : Method} {c : Code} {H : Heap} {locs : List Loc} {cells slots : Nat} {Q : State → Prop}
variable {cc : ByteArray} {pc nL : Nat} {ls : Array Slot} {rest : List Value} {D : va_G} {TY : Nat → ClassId} {A : Nat → Prop} {ws : va_W} {own : String} {index n : Nat}
theorem nx_faultC (S : CallFix p m c cc nL s args lw_all own) (hst : l.stackTraces = false) {q : Nat} {v : Int32} {kC : Class} (hkC : s.vm.classes[D.1 7]? = some kC) (hF : H[q]? = some (freshCell (D.1 7) kC)) (hq : s.heap.size ≤ q) (hne : ∀ (k : Nat) (x : Nat × va_E), ws[k]? = some x → x.1 ≠ q)
    (hP : va_P D vwCl ws H) (hD : va_D A ws) (hS : va_S A s.heap H locs) (hA : ∀ q : Nat, s.heap.size ≤ q → A q) (hK : va_K D vwCl (tyL TY) s) (hG : gz A s s.heap)
    (cw : CallB R s args own index yX7_init cX7_init 2 (Option.none : Option Jvm.ClassFile.FieldType) (ws_ yX7_init cX7_init 2 (Option.none : Option Jvm.ClassFile.FieldType)) ({ frames := 4, cells := 0, slots := 0, locals := 54 }) 0 0 n ∧ yX7_init.name = "<init>" ∧ (Cond.instanceMethod yX7_init).before args s = true)
    (hn : [Value.int v].length = n) (hsize : ls.size = nL) (hW : 2 * 0 + (rest.map fun v => v.category).sum ≤ 8) (hdg : decode cc pc = .ok (.invokespecial index, 3)) (hf : cells + 0 ≤ R.cells ∧ slots + 0 ≤ R.slots)
    (kk : ∀ (u : fV) (H1 : Heap) (locs1 : List Loc), va_P D vwCl (ws ++ [(q, .inr (7, [u.1, u.2.1, u.2.2.1, u.2.2.2.1, u.2.2.2.2.1, u.2.2.2.2.2, .int v]))]) H1 → va_D A (ws ++ [(q, .inr (7, [u.1, u.2.1, u.2.2.1, u.2.2.2.1, u.2.2.2.2.1, u.2.2.2.2.2, .int v]))]) → va_S A s.heap H1 locs1 →
      W p l e R s m args below meth c H1 locs1 (cells + 0) (slots + 0) Q (F0 m (pc + 3) ls rest)) : W p l e R s m args below meth c H locs cells slots Q (F0 m pc ls (.int v :: .ref q :: rest)) := by
  have hfa : ∀ z, FA q H.size z → A z := by
    rintro z (rfl | h)
    · exact hA _ hq
    · exact hA z (Nat.le_trans hS.1 h)
  have hpre : PreS s H (PF D TY q v H.size) [.ref q, .int v] := ⟨PF.blind, fun U hU hW => by
    subst hU
    obtain ⟨k', hk1, hk2⟩ := hW.alike.2.2 (D.1 7) kC hkC
    exact ⟨rfl, rfl, ⟨k', hk1, by rw [hk2]; exact hF⟩, va_K.moved hW.alike hK, ((hG.kept hS.2.1).narrow hfa).warm hW⟩⟩
  refine va_callv (va_runI (As := [.int v]) (rest := rest) S (mX7_init l D TY H.size q v hst) cw hpre rfl hn hsize rfl hW hdg hf) hS (fun z _ h => hfa z h) hfa (fun u t H1 locs1 ht hvm _ hB hz hk hS1 => ?_)
  obtain ⟨b1, b2, b3⟩ := hB
  rw [ht] at b1
  have hk' : ∀ (k : Nat) (x : Nat × va_E), ws[k]? = some x → H1[x.1]? = H[x.1]? := fun k x hx => hk x.1 ((hP k x hx).lt) (by
    rintro (h | h)
    · exact hne k x hx h
    · exact absurd ((hP k x hx).lt) (Nat.not_lt.mpr h))
  refine kk u H1 locs1 ((hP.kept hk').app b1) (hD.app (b3.weaken (fun k x _ h => hfa _ h)) (fun i j x y hx hy => ?_)) hS1
  have hz1 : j < 1 := (List.getElem?_eq_some_iff.mp hy).1
  rw [show j = 0 by omega] at hy
  cases hy
  exact hne i x hx
end NXC
