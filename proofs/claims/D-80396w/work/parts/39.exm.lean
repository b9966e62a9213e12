abbrev wsh_ (y : MethodName) (b : ByteArray) (L : Nat) (r : Option FieldType) (hh : List (Nat × Nat × Nat × Nat)) : List Cond := Cond.codeWith y b L r hh :: lw_all
theorem va_P.grow {D : va_G} {cl : List vw_C} {ws : va_W} {H H1 : Heap} (h : va_P D cl ws H) (hk : ∀ q : Nat, q < H.size → H1[q]? = H[q]?) : va_P D cl ws H1 := h.kept fun k q hq => hk q.1 (h k q hq).lt
theorem BB.mkA {D : va_G} {TY : Nat → ClassId} {A : Nat → Prop} {ws : va_W} {s t : State} {H : Heap} (hP : va_P D vwCl ws H) (hD : va_D A ws) (hK : va_K D vwCl (tyL TY) s) (ht : t.heap = H) (hvm : s.vm.Alike t.vm) : BB D TY A ws t := ⟨by rw [ht]; exact hP, va_K.moved hvm hK, hD⟩
theorem lw_VH {own : String} {idx : Nat} {C : String} {y : MethodName} {b : ByteArray} {L : Nat} {r : Option FieldType} {hh : List (Nat × Nat × Nat × Nat)} (h1 : Cond.methodLink own idx y ∈ lw_all) (h2 : Cond.instanceMethod y ∈ lw_all) (h3 : Cond.selects C y y ∈ lw_all) (h4 : Cond.initialized C ∈ lw_all) (h5 : Cond.codeWith y b L r hh ∈ lw_all) : GoodIn lw_all (wsV own idx C y (wsh_ y b L r hh)) := by
  refine lw_app ?_ (fun w hw => ?_)
  · intro w hw
    simp only [List.mem_cons, List.not_mem_nil, or_false] at hw
    rcases hw with e | e | e | e
    · rw [e]; exact h1
    · rw [e]; exact h2
    · rw [e]; exact h3
    · rw [e]; exact h4
  · rcases List.mem_cons.mp hw with e | e
    · rw [e]
      exact lw_self _ h5
    · exact lw_self _ e
theorem nx_F {s : State} {cA : ClassId} (h : va_RA s cA .float) : s.vm.findClass "[F" = some cA := by
  have e : ("[" ++ FieldType.toString .float) = "[F" := by decide +kernel
  rw [← e]
  exact h
theorem nx_D {s : State} {cA : ClassId} (h : va_RA s cA .double) : s.vm.findClass "[D" = some cA := by
  have e : ("[" ++ FieldType.toString .double) = "[D" := by decide +kernel
  rw [← e]
  exact h
