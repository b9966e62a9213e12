section NEWS
variable {p : Program} {l : Launch} {e : Env} {R : Room} {s : State} {m : MethodId} {args : Array Value} {below : List Frame} {meth : Method} {c : Code} {H : Heap} {locs : List Loc} {cells slots : Nat} {Q : State → Prop}
variable {cc : ByteArray} {pc : Nat} {ls : Array Slot} {rest : List Value} {D : va_G} {TY : Nat → ClassId} {A : Nat → Prop} {ws : va_W} {H0 : Heap}
theorem nw_i (hexec : p.tables.exec = Jvm.exec) (hb : c.code = cc) (harr : (Cond.arrayClass .int).before args s = true) (hK : va_K D vwCl (tyL TY) s) (hP : va_P D vwCl ws H) (hD : va_D A ws) (hS : va_S A H0 H locs) (hA : ∀ q, H0.size ≤ q → A q)
    {n : Int32} {N' : Nat} (hn : ¬ n < 0) (hN : n.toNatClampNeg = N') (hbytes : N' * 4 ≤ 536870912) (hcells : cells + 1 ≤ R.cells) (hslots : slots + N' ≤ R.slots) (hdg : decode cc pc = .ok (.newarray .int, 2))
    (kk : ∀ (q : Nat) (H1 : Heap), va_P D vwCl (ws ++ [(q, .inl (TY 0, N', .inl (fun _ => 0)))]) H1 → va_D A (ws ++ [(q, .inl (TY 0, N', .inl (fun _ => 0)))]) → va_S A H0 H1 locs →
      W p l e R s m args below meth c H1 locs (cells + 1) (slots + N') Q (F0 m (pc + 2) ls (.ref q :: rest))) : W p l e R s m args below meth c H locs cells slots Q (F0 m pc ls (.int n :: rest)) := by
  refine va_newa (atype := .int) (ty := .int) (a0 := (N', .inl (fun _ => 0))) (N' := N') hexec hb harr rfl hK hP hD hS hA (fun _ => rfl) hn hN hbytes hcells hslots hdg (fun q cA H1 hK1 hP1 hD1 hS1 => ?_)
  have e1 : s.vm.findClass ("[" ++ (FieldType.toString .int)) = some cA := (hK1.2 5 (cA, .int) rfl).2
  have e2 : s.vm.findClass ("[" ++ (FieldType.toString .int)) = some (TY 0) := (hK.2 0 (TY 0, .int) rfl).2
  have e3 : cA = TY 0 := Option.some.inj (e1.symm.trans e2)
  subst e3
  exact kk q H1 hP1 hD1 hS1
theorem nw_l (hexec : p.tables.exec = Jvm.exec) (hb : c.code = cc) (harr : (Cond.arrayClass .long).before args s = true) (hK : va_K D vwCl (tyL TY) s) (hP : va_P D vwCl ws H) (hD : va_D A ws) (hS : va_S A H0 H locs) (hA : ∀ q, H0.size ≤ q → A q)
    {n : Int32} {N' : Nat} (hn : ¬ n < 0) (hN : n.toNatClampNeg = N') (hbytes : N' * 8 ≤ 536870912) (hcells : cells + 1 ≤ R.cells) (hslots : slots + N' ≤ R.slots) (hdg : decode cc pc = .ok (.newarray .long, 2))
    (kk : ∀ (q : Nat) (H1 : Heap), va_P D vwCl (ws ++ [(q, .inl (TY 1, N', .inr (.inl (fun _ => 0))))]) H1 → va_D A (ws ++ [(q, .inl (TY 1, N', .inr (.inl (fun _ => 0))))]) → va_S A H0 H1 locs →
      W p l e R s m args below meth c H1 locs (cells + 1) (slots + N') Q (F0 m (pc + 2) ls (.ref q :: rest))) : W p l e R s m args below meth c H locs cells slots Q (F0 m pc ls (.int n :: rest)) := by
  refine va_newa (atype := .long) (ty := .long) (a0 := (N', .inr (.inl (fun _ => 0)))) (N' := N') hexec hb harr rfl hK hP hD hS hA (fun _ => rfl) hn hN hbytes hcells hslots hdg (fun q cA H1 hK1 hP1 hD1 hS1 => ?_)
  have e1 : s.vm.findClass ("[" ++ (FieldType.toString .long)) = some cA := (hK1.2 5 (cA, .long) rfl).2
  have e2 : s.vm.findClass ("[" ++ (FieldType.toString .long)) = some (TY 1) := (hK.2 1 (TY 1, .long) rfl).2
  have e3 : cA = TY 1 := Option.some.inj (e1.symm.trans e2)
  subst e3
  exact kk q H1 hP1 hD1 hS1
theorem nw_f (hexec : p.tables.exec = Jvm.exec) (hb : c.code = cc) (harr : (Cond.arrayClass .float).before args s = true) (hK : va_K D vwCl (tyL TY) s) (hP : va_P D vwCl ws H) (hD : va_D A ws) (hS : va_S A H0 H locs) (hA : ∀ q, H0.size ≤ q → A q)
    {n : Int32} {N' : Nat} (hn : ¬ n < 0) (hN : n.toNatClampNeg = N') (hbytes : N' * 4 ≤ 536870912) (hcells : cells + 1 ≤ R.cells) (hslots : slots + N' ≤ R.slots) (hdg : decode cc pc = .ok (.newarray .float, 2))
    (kk : ∀ (q : Nat) (H1 : Heap), va_P D vwCl (ws ++ [(q, .inl (TY 2, N', .inr (.inr (.inl (fun _ => 0)))))]) H1 → va_D A (ws ++ [(q, .inl (TY 2, N', .inr (.inr (.inl (fun _ => 0)))))]) → va_S A H0 H1 locs →
      W p l e R s m args below meth c H1 locs (cells + 1) (slots + N') Q (F0 m (pc + 2) ls (.ref q :: rest))) : W p l e R s m args below meth c H locs cells slots Q (F0 m pc ls (.int n :: rest)) := by
  refine va_newa (atype := .float) (ty := .float) (a0 := (N', .inr (.inr (.inl (fun _ => 0))))) (N' := N') hexec hb harr rfl hK hP hD hS hA (fun _ => rfl) hn hN hbytes hcells hslots hdg (fun q cA H1 hK1 hP1 hD1 hS1 => ?_)
  have e1 : s.vm.findClass ("[" ++ (FieldType.toString .float)) = some cA := (hK1.2 5 (cA, .float) rfl).2
  have e2 : s.vm.findClass ("[" ++ (FieldType.toString .float)) = some (TY 2) := (hK.2 2 (TY 2, .float) rfl).2
  have e3 : cA = TY 2 := Option.some.inj (e1.symm.trans e2)
  subst e3
  exact kk q H1 hP1 hD1 hS1
theorem nw_d (hexec : p.tables.exec = Jvm.exec) (hb : c.code = cc) (harr : (Cond.arrayClass .double).before args s = true) (hK : va_K D vwCl (tyL TY) s) (hP : va_P D vwCl ws H) (hD : va_D A ws) (hS : va_S A H0 H locs) (hA : ∀ q, H0.size ≤ q → A q)
    {n : Int32} {N' : Nat} (hn : ¬ n < 0) (hN : n.toNatClampNeg = N') (hbytes : N' * 8 ≤ 536870912) (hcells : cells + 1 ≤ R.cells) (hslots : slots + N' ≤ R.slots) (hdg : decode cc pc = .ok (.newarray .double, 2))
    (kk : ∀ (q : Nat) (H1 : Heap), va_P D vwCl (ws ++ [(q, .inl (TY 3, N', .inr (.inr (.inr (.inl (fun _ => 0))))))]) H1 → va_D A (ws ++ [(q, .inl (TY 3, N', .inr (.inr (.inr (.inl (fun _ => 0))))))]) → va_S A H0 H1 locs →
      W p l e R s m args below meth c H1 locs (cells + 1) (slots + N') Q (F0 m (pc + 2) ls (.ref q :: rest))) : W p l e R s m args below meth c H locs cells slots Q (F0 m pc ls (.int n :: rest)) := by
  refine va_newa (atype := .double) (ty := .double) (a0 := (N', .inr (.inr (.inr (.inl (fun _ => 0)))))) (N' := N') hexec hb harr rfl hK hP hD hS hA (fun _ => rfl) hn hN hbytes hcells hslots hdg (fun q cA H1 hK1 hP1 hD1 hS1 => ?_)
  have e1 : s.vm.findClass ("[" ++ (FieldType.toString .double)) = some cA := (hK1.2 5 (cA, .double) rfl).2
  have e2 : s.vm.findClass ("[" ++ (FieldType.toString .double)) = some (TY 3) := (hK.2 3 (TY 3, .double) rfl).2
  have e3 : cA = TY 3 := Option.some.inj (e1.symm.trans e2)
  subst e3
  exact kk q H1 hP1 hD1 hS1
theorem nw_q (hexec : p.tables.exec = Jvm.exec) (hb : c.code = cc) {own : String} {index : Nat} (hown : s.vm.findClass own = some m.cls) (hclink : (Cond.classLink own index "FloatClasses$Holder").before args s = true) (hover : va_AO "FloatClasses$Holder" s) (hK : va_K D vwCl (tyL TY) s) (hP : va_P D vwCl ws H) (hD : va_D A ws) (hS : va_S A H0 H locs) (hA : ∀ q, H0.size ≤ q → A q)
    {n : Int32} {N' : Nat} (hn : ¬ n < 0) (hN : n.toNatClampNeg = N') (hbytes : N' * 4 ≤ 536870912) (hcells : cells + 1 ≤ R.cells) (hslots : slots + N' ≤ R.slots) (hdg : decode cc pc = .ok (.anewarray index, 3))
    (kk : ∀ (q : Nat) (H1 : Heap), va_P D vwCl (ws ++ [(q, .inl (TY 4, N', .inr (.inr (.inr (.inr (fun _ => none))))))]) H1 → va_D A (ws ++ [(q, .inl (TY 4, N', .inr (.inr (.inr (.inr (fun _ => none))))))]) → va_S A H0 H1 locs →
      W p l e R s m args below meth c H1 locs (cells + 1) (slots + N') Q (F0 m (pc + 3) ls (.ref q :: rest))) : W p l e R s m args below meth c H locs cells slots Q (F0 m pc ls (.int n :: rest)) := by
  refine va_newq hexec hb hown hclink hover hK hP hD hS hA hn hN hbytes hcells hslots hdg (fun q cA H1 hK1 hP1 hD1 hS1 => ?_)
  obtain ⟨-, -, -, -, -, e1⟩ := (hK1.2 5 (cA, .object "FloatClasses$Holder") rfl).2
  obtain ⟨-, -, -, -, -, e2⟩ := (hK.2 4 (TY 4, .object "FloatClasses$Holder") rfl).2
  have e3 : cA = TY 4 := Option.some.inj (e1.symm.trans e2)
  subst e3
  exact kk q H1 hP1 hD1 hS1
end NEWS
def tyE : Nat → FieldType := fun _ => .int
theorem tyE_ok : ∀ k, k < 0 → parseFieldDescriptor (TXE k).2.2.1 = some (tyE k) := fun k h => absurd h (Nat.not_lt_zero k)
theorem in_X1 : ∀ w ∈ u_ws RX1 TXE 0, w ∈ lw_all := fun w h => nomatch h
theorem in_X2 : ∀ w ∈ u_ws RX2 TXE 0, w ∈ lw_all := fun w h => nomatch h
