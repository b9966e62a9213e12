theorem hd_X8_minus : yX8_minus.cls ≠ "java/lang/invoke/MethodHandle" ∧ yX8_minus.cls ≠ "java/lang/invoke/VarHandle" ∧ (parseMethodDescriptor yX8_minus.desc).map (fun d => d.parameters.length) = some 2 := by decide +kernel
theorem hd_X8_over : yX8_over.cls ≠ "java/lang/invoke/MethodHandle" ∧ yX8_over.cls ≠ "java/lang/invoke/VarHandle" ∧ (parseMethodDescriptor yX8_over.desc).map (fun d => d.parameters.length) = some 2 := by decide +kernel
theorem hd_X8_plus : yX8_plus.cls ≠ "java/lang/invoke/MethodHandle" ∧ yX8_plus.cls ≠ "java/lang/invoke/VarHandle" ∧ (parseMethodDescriptor yX8_plus.desc).map (fun d => d.parameters.length) = some 2 := by decide +kernel
theorem hd_X8_rest : yX8_rest.cls ≠ "java/lang/invoke/MethodHandle" ∧ yX8_rest.cls ≠ "java/lang/invoke/VarHandle" ∧ (parseMethodDescriptor yX8_rest.desc).map (fun d => d.parameters.length) = some 2 := by decide +kernel
theorem hd_X8_times : yX8_times.cls ≠ "java/lang/invoke/MethodHandle" ∧ yX8_times.cls ≠ "java/lang/invoke/VarHandle" ∧ (parseMethodDescriptor yX8_times.desc).map (fun d => d.parameters.length) = some 2 := by decide +kernel
def fX8_two_D (p1 : Int32) (p2 : UInt64) (p4 : UInt64) : UInt64 := if p1 = 0 then (fX8_plus_D p2 p4) else (if p1 = 1 then (fX8_minus_D p2 p4) else (if p1 = 2 then (fX8_times_D p2 p4) else (if p1 = 3 then (fX8_over_D p2 p4) else (if p1 = 4 then (fX8_rest_D p2 p4) else (if p1 = 5 then (lt_ (if Dle p2 p4 then p4 else p2) (fun x7 : UInt64 => x7)) else (if p1 = 6 then (lt_ (if Dle p2 p4 then p2 else p4) (fun x10 : UInt64 => x10)) else (lt_ (if Deq p2 p2 then (lt_ (if Deq p4 p4 then p4 else FP.dconst1) (fun x14 : UInt64 => (csignD p2 x14))) else 9221120237041090560) (fun x12 : UInt64 => x12))))))))
def oX8_two_D (p1 : Int32) (p2 : UInt64) (p4 : UInt64) : Prop := ((p1 = 0) → (oX8_plus_D p2 p4)) ∧ (¬ (p1 = 0) → ((p1 = 1) → (oX8_minus_D p2 p4)) ∧ (¬ (p1 = 1) → ((p1 = 2) → (oX8_times_D p2 p4)) ∧ (¬ (p1 = 2) → ((p1 = 3) → (oX8_over_D p2 p4)) ∧ (¬ (p1 = 3) → ((p1 = 4) → (oX8_rest_D p2 p4)) ∧ (¬ (p1 = 4) → ((p1 = 5) → True) ∧ (¬ (p1 = 5) → ((p1 = 6) → True) ∧ (¬ (p1 = 6) → ((Deq p2 p2) → (∀ x14 : UInt64, x14 = (if Deq p4 p4 then p4 else FP.dconst1) → ((vf_n64 x14)))) ∧ (¬ (Deq p2 p2) → True))))))))
set_option maxHeartbeats 4000000 in
set_option maxRecDepth 100000 in
theorem mX8_two_D (l : Launch) (D : va_G) (TY : Nat → ClassId) (h0 : Nat) (p1 : Int32) (p2 : UInt64) (p4 : UInt64) (post : UInt64 → Prop) (hw : post (fX8_two_D p1 p2 p4)) (hok : oX8_two_D p1 p2 p4) : Met l yX8_two (ws_ yX8_two cX8_two 6 (Option.some Jvm.ClassFile.FieldType.double)) ({ frames := 2, cells := 0, slots := 0, locals := 47 }) (PR D TY [.ref h0, .int p1, .double p2, .double p4] [(h0, .inr (1, []))]) (vp_Sd post) 0 0 (fun _ => False) := by
  refine ofWF (cc := cX8_two) (maxL := 6) (ret := (Option.some Jvm.ClassFile.FieldType.double)) (plainFor_of_name (by decide)) rfl ?_
  intro p e s m args below meth c s₁ B hml hv
  obtain ⟨rfl, hP, hK, hG⟩ := hv
  have hx := B.exec
  have hb := B.bytes
  have hr := B.returns
  have hts0 := atoms_spec (ws := ws_ yX8_two cX8_two 6 (Option.some Jvm.ClassFile.FieldType.double)) B.pre
  have hts : ∀ w ∈ lw_all, w.before _ s = true := fun w h => hts0 w (List.mem_cons_of_mem _ h)
  have hown : s.vm.findClass RX8 = some m.cls := findClass_of_methodNamed B.named
  have hlocks := B.notSynchronized
  have hS : va_S (fun _ => False) s.heap s.heap [] := va_S.rf
  have hl := lv_entry ([.ref h0, .int p1, .double p2, .double p4]) (n := 6) (Nat.le_of_ble_eq_true rfl)
  rw [lg_entry_eq]
  generalize (lg_sl ([.ref h0, .int p1, .double p2, .double p4]) ++ List.replicate (6 - (lg_sl ([.ref h0, .int p1, .double p2, .double p4])).length) Slot.unset).toArray = ls at hl ⊢
  have hl : lv_has ls 6 [(0, .ref h0), (1, .int p1), (2, .double p2), (4, .double p4)] := hl
  unfold fX8_two_D at hw
  unfold oX8_two_D at hok
  refine lv_iload_n hx hb dX8_two_0 rfl (lv_at hl 1 rfl) ?_
  by_cases c1 : p1 = 0
  · replace hw := pf_t (P := post) c1 hw
    replace hok := hok.1 c1
    refine lv_tableIn (tgt := 44) (off := 43) hx hb dX8_two_1 (by rw [c1]; decide) (by rw [c1]; decide) (by rw [c1]; rfl) (by decide) ?_
    refine lv_aload_n hx hb dX8_two_44 rfl (lv_at hl 0 rfl) ?_
    refine lv_dload_n hx hb dX8_two_45 rfl (lv_at hl 2 rfl) ?_
    refine lv_dload hx hb dX8_two_46 (lv_at hl 3 rfl) ?_
    refine cFSd (v := fX8_plus_D p2 p4) (runFD (As := [.double p2, .double p4]) (rest := []) (hK.1 1 _ rfl).2 ⟨hx, hb, hml, hown, hts⟩ (mX8_plus_D l D TY h0 p2 p4 (fun r => r = fX8_plus_D p2 p4) rfl hok) (lw_meth q494) rfl rfl rfl q488 q492 q1587 (gz_fw15 hG) (gz_df7 hG) hd_X8_plus ⟨Nat.le_of_ble_eq_true rfl, Nat.le_of_ble_eq_true rfl⟩ (PR.V (q0 := 0) (ci := 1) hP [0] rfl hK hG hS rfl rfl) rfl rfl hl.1 rfl (lv_room (Nat.le_of_ble_eq_true rfl)) dX8_two_48 ⟨Nat.le_of_ble_eq_true rfl, Nat.le_of_ble_eq_true rfl⟩) ?_
    exact W.dret (v := fX8_plus_D p2 p4) hx hb hr (fun t ht hW => ⟨_, rfl, hw, ht⟩) (fun q h => nomatch h) dX8_two_53
  · replace hw := pf_f (P := post) c1 hw
    replace hok := hok.2 c1
    by_cases c2 : p1 = 1
    · replace hw := pf_t (P := post) c2 hw
      replace hok := hok.1 c2
      refine lv_tableIn (tgt := 54) (off := 53) hx hb dX8_two_1 (by rw [c2]; decide) (by rw [c2]; decide) (by rw [c2]; rfl) (by decide) ?_
      refine lv_aload_n hx hb dX8_two_54 rfl (lv_at hl 0 rfl) ?_
      refine lv_dload_n hx hb dX8_two_55 rfl (lv_at hl 2 rfl) ?_
      refine lv_dload hx hb dX8_two_56 (lv_at hl 3 rfl) ?_
      refine cFSd (v := fX8_minus_D p2 p4) (runFD (As := [.double p2, .double p4]) (rest := []) (hK.1 1 _ rfl).2 ⟨hx, hb, hml, hown, hts⟩ (mX8_minus_D l D TY h0 p2 p4 (fun r => r = fX8_minus_D p2 p4) rfl hok) (lw_meth q503) rfl rfl rfl q497 q501 q1587 (gz_fw16 hG) (gz_df8 hG) hd_X8_minus ⟨Nat.le_of_ble_eq_true rfl, Nat.le_of_ble_eq_true rfl⟩ (PR.V (q0 := 0) (ci := 1) hP [0] rfl hK hG hS rfl rfl) rfl rfl hl.1 rfl (lv_room (Nat.le_of_ble_eq_true rfl)) dX8_two_58 ⟨Nat.le_of_ble_eq_true rfl, Nat.le_of_ble_eq_true rfl⟩) ?_
      exact W.dret (v := fX8_minus_D p2 p4) hx hb hr (fun t ht hW => ⟨_, rfl, hw, ht⟩) (fun q h => nomatch h) dX8_two_63
    · replace hw := pf_f (P := post) c2 hw
      replace hok := hok.2 c2
      by_cases c3 : p1 = 2
      · replace hw := pf_t (P := post) c3 hw
        replace hok := hok.1 c3
        refine lv_tableIn (tgt := 64) (off := 63) hx hb dX8_two_1 (by rw [c3]; decide) (by rw [c3]; decide) (by rw [c3]; rfl) (by decide) ?_
        refine lv_aload_n hx hb dX8_two_64 rfl (lv_at hl 0 rfl) ?_
        refine lv_dload_n hx hb dX8_two_65 rfl (lv_at hl 2 rfl) ?_
        refine lv_dload hx hb dX8_two_66 (lv_at hl 3 rfl) ?_
        refine cFSd (v := fX8_times_D p2 p4) (runFD (As := [.double p2, .double p4]) (rest := []) (hK.1 1 _ rfl).2 ⟨hx, hb, hml, hown, hts⟩ (mX8_times_D l D TY h0 p2 p4 (fun r => r = fX8_times_D p2 p4) rfl hok) (lw_meth q512) rfl rfl rfl q506 q510 q1587 (gz_fw17 hG) (gz_df9 hG) hd_X8_times ⟨Nat.le_of_ble_eq_true rfl, Nat.le_of_ble_eq_true rfl⟩ (PR.V (q0 := 0) (ci := 1) hP [0] rfl hK hG hS rfl rfl) rfl rfl hl.1 rfl (lv_room (Nat.le_of_ble_eq_true rfl)) dX8_two_68 ⟨Nat.le_of_ble_eq_true rfl, Nat.le_of_ble_eq_true rfl⟩) ?_
        exact W.dret (v := fX8_times_D p2 p4) hx hb hr (fun t ht hW => ⟨_, rfl, hw, ht⟩) (fun q h => nomatch h) dX8_two_73
      · replace hw := pf_f (P := post) c3 hw
        replace hok := hok.2 c3
        by_cases c4 : p1 = 3
        · replace hw := pf_t (P := post) c4 hw
          replace hok := hok.1 c4
          refine lv_tableIn (tgt := 74) (off := 73) hx hb dX8_two_1 (by rw [c4]; decide) (by rw [c4]; decide) (by rw [c4]; rfl) (by decide) ?_
          refine lv_aload_n hx hb dX8_two_74 rfl (lv_at hl 0 rfl) ?_
          refine lv_dload_n hx hb dX8_two_75 rfl (lv_at hl 2 rfl) ?_
          refine lv_dload hx hb dX8_two_76 (lv_at hl 3 rfl) ?_
          refine cFSd (v := fX8_over_D p2 p4) (runFD (As := [.double p2, .double p4]) (rest := []) (hK.1 1 _ rfl).2 ⟨hx, hb, hml, hown, hts⟩ (mX8_over_D l D TY h0 p2 p4 (fun r => r = fX8_over_D p2 p4) rfl hok) (lw_meth q456) rfl rfl rfl q450 q454 q1587 (gz_fw12 hG) (gz_df5 hG) hd_X8_over ⟨Nat.le_of_ble_eq_true rfl, Nat.le_of_ble_eq_true rfl⟩ (PR.V (q0 := 0) (ci := 1) hP [0] rfl hK hG hS rfl rfl) rfl rfl hl.1 rfl (lv_room (Nat.le_of_ble_eq_true rfl)) dX8_two_78 ⟨Nat.le_of_ble_eq_true rfl, Nat.le_of_ble_eq_true rfl⟩) ?_
          exact W.dret (v := fX8_over_D p2 p4) hx hb hr (fun t ht hW => ⟨_, rfl, hw, ht⟩) (fun q h => nomatch h) dX8_two_83
        · replace hw := pf_f (P := post) c4 hw
          replace hok := hok.2 c4
          by_cases c5 : p1 = 4
          · replace hw := pf_t (P := post) c5 hw
            replace hok := hok.1 c5
            refine lv_tableIn (tgt := 84) (off := 83) hx hb dX8_two_1 (by rw [c5]; decide) (by rw [c5]; decide) (by rw [c5]; rfl) (by decide) ?_
            refine lv_aload_n hx hb dX8_two_84 rfl (lv_at hl 0 rfl) ?_
            refine lv_dload_n hx hb dX8_two_85 rfl (lv_at hl 2 rfl) ?_
            refine lv_dload hx hb dX8_two_86 (lv_at hl 3 rfl) ?_
            refine cFSd (v := fX8_rest_D p2 p4) (runFD (As := [.double p2, .double p4]) (rest := []) (hK.1 1 _ rfl).2 ⟨hx, hb, hml, hown, hts⟩ (mX8_rest_D l D TY h0 p2 p4 (fun r => r = fX8_rest_D p2 p4) rfl hok) (lw_meth q521) rfl rfl rfl q515 q519 q1587 (gz_fw18 hG) (gz_df10 hG) hd_X8_rest ⟨Nat.le_of_ble_eq_true rfl, Nat.le_of_ble_eq_true rfl⟩ (PR.V (q0 := 0) (ci := 1) hP [0] rfl hK hG hS rfl rfl) rfl rfl hl.1 rfl (lv_room (Nat.le_of_ble_eq_true rfl)) dX8_two_88 ⟨Nat.le_of_ble_eq_true rfl, Nat.le_of_ble_eq_true rfl⟩) ?_
            exact W.dret (v := fX8_rest_D p2 p4) hx hb hr (fun t ht hW => ⟨_, rfl, hw, ht⟩) (fun q h => nomatch h) dX8_two_93
          · replace hw := pf_f (P := post) c5 hw
            replace hok := hok.2 c5
            by_cases c6 : p1 = 5
            · replace hw := pf_t (P := post) c6 hw
              refine lv_tableIn (tgt := 94) (off := 93) hx hb dX8_two_1 (by rw [c6]; decide) (by rw [c6]; decide) (by rw [c6]; rfl) (by decide) ?_
              refine lv_dload_n hx hb dX8_two_94 rfl (lv_at hl 2 rfl) ?_
              refine lv_dload hx hb dX8_two_95 (lv_at hl 3 rfl) ?_
              obtain ⟨PJx7, hPJx7⟩ : ∃ P : UInt64 → Prop, ∀ x7 : UInt64, P x7 ↔ ∀ ls : Array Slot, lv_has ls 6 [] → W p l e (headSpec (ws_ yX8_two cX8_two 6 (Option.some Jvm.ClassFile.FieldType.double)) ({ frames := 2, cells := 0, slots := 0, locals := 47 })).room s m ([.ref h0, .int p1, .double p2, .double p4] : List Value).toArray below meth c s.heap ([]) 0 0 (MQ below (vp_Sd post) ([.ref h0, .int p1, .double p2, .double p4] : List Value).toArray s 0 0 (fun _ => False)) (F0 m 107 ls [.double x7]) := ⟨_, fun _ => Iff.rfl⟩
              have hjx7 : ∀ x7 : UInt64, x7 = (if Dle p2 p4 then p4 else p2) → PJx7 x7 := by
                intro x7 ex7
                rw [hPJx7]
                intro ls hl
                replace hw := pf_let (P := post) hw x7 ex7
                exact W.dret (v := x7) hx hb hr (fun t ht hW => ⟨_, rfl, hw, ht⟩) (fun q h => nomatch h) dX8_two_107
              replace hjx7 := hjx7 _ rfl
              refine lx_dggt (tgt := 106) hx hb dX8_two_97 dX8_two_98 (by decide) (fun c8 => ?_) (fun c8 => ?_)
              · replace hjx7 := pf_f (P := PJx7) c8 hjx7
                refine lv_dload_n hx hb dX8_two_106 rfl (lv_at hl 2 rfl) ?_
                exact (hPJx7 _).1 hjx7 _ (lv_sub hl [] rfl)
              · replace hjx7 := pf_t (P := PJx7) c8 hjx7
                refine lv_dload hx hb dX8_two_101 (lv_at hl 3 rfl) ?_
                refine lv_goto (tgt := 107) hx hb dX8_two_103 (by decide) ?_
                exact (hPJx7 _).1 hjx7 _ (lv_sub hl [] rfl)
            · replace hw := pf_f (P := post) c6 hw
              replace hok := hok.2 c6
              by_cases c9 : p1 = 6
              · replace hw := pf_t (P := post) c9 hw
                refine lv_tableIn (tgt := 108) (off := 107) hx hb dX8_two_1 (by rw [c9]; decide) (by rw [c9]; decide) (by rw [c9]; rfl) (by decide) ?_
                refine lv_dload_n hx hb dX8_two_108 rfl (lv_at hl 2 rfl) ?_
                refine lv_dload hx hb dX8_two_109 (lv_at hl 3 rfl) ?_
                obtain ⟨PJx10, hPJx10⟩ : ∃ P : UInt64 → Prop, ∀ x10 : UInt64, P x10 ↔ ∀ ls : Array Slot, lv_has ls 6 [] → W p l e (headSpec (ws_ yX8_two cX8_two 6 (Option.some Jvm.ClassFile.FieldType.double)) ({ frames := 2, cells := 0, slots := 0, locals := 47 })).room s m ([.ref h0, .int p1, .double p2, .double p4] : List Value).toArray below meth c s.heap ([]) 0 0 (MQ below (vp_Sd post) ([.ref h0, .int p1, .double p2, .double p4] : List Value).toArray s 0 0 (fun _ => False)) (F0 m 121 ls [.double x10]) := ⟨_, fun _ => Iff.rfl⟩
                have hjx10 : ∀ x10 : UInt64, x10 = (if Dle p2 p4 then p2 else p4) → PJx10 x10 := by
                  intro x10 ex10
                  rw [hPJx10]
                  intro ls hl
                  replace hw := pf_let (P := post) hw x10 ex10
                  exact W.dret (v := x10) hx hb hr (fun t ht hW => ⟨_, rfl, hw, ht⟩) (fun q h => nomatch h) dX8_two_121
                replace hjx10 := hjx10 _ rfl
                refine lx_dggt (tgt := 119) hx hb dX8_two_111 dX8_two_112 (by decide) (fun c11 => ?_) (fun c11 => ?_)
                · replace hjx10 := pf_f (P := PJx10) c11 hjx10
                  refine lv_dload hx hb dX8_two_119 (lv_at hl 3 rfl) ?_
                  exact (hPJx10 _).1 hjx10 _ (lv_sub hl [] rfl)
                · replace hjx10 := pf_t (P := PJx10) c11 hjx10
                  refine lv_dload_n hx hb dX8_two_115 rfl (lv_at hl 2 rfl) ?_
                  refine lv_goto (tgt := 121) hx hb dX8_two_116 (by decide) ?_
                  exact (hPJx10 _).1 hjx10 _ (lv_sub hl [] rfl)
              · replace hw := pf_f (P := post) c9 hw
                replace hok := hok.2 c9
                refine lv_tableOut (tgt := 122) hx hb dX8_two_1 (by have q0 := lv_neT c1 (show (0 : Int32).toInt = 0 by decide); have q1 := lv_neT c2 (show (1 : Int32).toInt = 1 by decide); have q2 := lv_neT c3 (show (2 : Int32).toInt = 2 by decide); have q3 := lv_neT c4 (show (3 : Int32).toInt = 3 by decide); have q4 := lv_neT c5 (show (4 : Int32).toInt = 4 by decide); have q5 := lv_neT c6 (show (5 : Int32).toInt = 5 by decide); have q6 := lv_neT c9 (show (6 : Int32).toInt = 6 by decide); omega) (by decide) ?_
                refine lv_dload_n hx hb dX8_two_122 rfl (lv_at hl 2 rfl) ?_
                refine lv_dload_n hx hb dX8_two_123 rfl (lv_at hl 2 rfl) ?_
                obtain ⟨PJx12, hPJx12⟩ : ∃ P : UInt64 → Prop, ∀ x12 : UInt64, P x12 ↔ ∀ ls : Array Slot, lv_has ls 6 [] → W p l e (headSpec (ws_ yX8_two cX8_two 6 (Option.some Jvm.ClassFile.FieldType.double)) ({ frames := 2, cells := 0, slots := 0, locals := 47 })).room s m ([.ref h0, .int p1, .double p2, .double p4] : List Value).toArray below meth c s.heap ([]) 0 0 (MQ below (vp_Sd post) ([.ref h0, .int p1, .double p2, .double p4] : List Value).toArray s 0 0 (fun _ => False)) (F0 m 152 ls [.double x12]) := ⟨_, fun _ => Iff.rfl⟩
                have hox12 := hok
                have hjx12 : ∀ x12 : UInt64, x12 = (if Deq p2 p2 then (lt_ (if Deq p4 p4 then p4 else FP.dconst1) (fun x14 : UInt64 => (csignD p2 x14))) else 9221120237041090560) → PJx12 x12 := by
                  intro x12 ex12
                  rw [hPJx12]
                  intro ls hl
                  replace hw := pf_let (P := post) hw x12 ex12
                  exact W.dret (v := x12) hx hb hr (fun t ht hW => ⟨_, rfl, hw, ht⟩) (fun q h => nomatch h) dX8_two_152
                replace hjx12 := hjx12 _ rfl
                refine lx_dleq (tgt := 134) hx hb dX8_two_124 dX8_two_125 (by decide) (fun c13 => ?_) (fun c13 => ?_)
                · replace hjx12 := pf_t (P := PJx12) c13 hjx12
                  replace hox12 := hox12.1 c13
                  refine lv_dload_n hx hb dX8_two_134 rfl (lv_at hl 2 rfl) ?_
                  refine lv_dload hx hb dX8_two_135 (lv_at hl 3 rfl) ?_
                  refine lv_dload hx hb dX8_two_137 (lv_at hl 3 rfl) ?_
                  obtain ⟨PJx14, hPJx14⟩ : ∃ P : UInt64 → Prop, ∀ x14 : UInt64, P x14 ↔ ∀ ls : Array Slot, lv_has ls 6 [] → W p l e (headSpec (ws_ yX8_two cX8_two 6 (Option.some Jvm.ClassFile.FieldType.double)) ({ frames := 2, cells := 0, slots := 0, locals := 47 })).room s m ([.ref h0, .int p1, .double p2, .double p4] : List Value).toArray below meth c s.heap ([]) 0 0 (MQ below (vp_Sd post) ([.ref h0, .int p1, .double p2, .double p4] : List Value).toArray s 0 0 (fun _ => False)) (F0 m 149 ls [.double x14, .double p2]) := ⟨_, fun _ => Iff.rfl⟩
                  have hjx14 : ∀ x14 : UInt64, x14 = (if Deq p4 p4 then p4 else FP.dconst1) → PJx14 x14 := by
                    intro x14 ex14
                    rw [hPJx14]
                    intro ls hl
                    replace hjx12 := pf_let (P := PJx12) hjx12 x14 ex14
                    replace hox12 := hox12 x14 ex14
                    refine nv_csign hx hb (hml.trans hl.1.symm) hown (hts _ q328) (hts _ q329) (hts _ q330) (hts _ q54) hox12 (Nat.le_of_ble_eq_true rfl) (Nat.le_of_ble_eq_true rfl) (Nat.le_of_ble_eq_true rfl) (Nat.le_of_ble_eq_true rfl) dX8_two_149 ?_
                    exact (hPJx12 _).1 hjx12 _ (lv_sub hl [] rfl)
                  replace hjx14 := hjx14 _ rfl
                  refine lx_dleq (tgt := 147) hx hb dX8_two_139 dX8_two_140 (by decide) (fun c15 => ?_) (fun c15 => ?_)
                  · replace hjx14 := pf_t (P := PJx14) c15 hjx14
                    refine lv_dload hx hb dX8_two_147 (lv_at hl 3 rfl) ?_
                    exact (hPJx14 _).1 hjx14 _ (lv_sub hl [] rfl)
                  · replace hjx14 := pf_f (P := PJx14) c15 hjx14
                    refine lv_dconst1 hx hb dX8_two_143 ?_
                    refine lv_goto (tgt := 149) hx hb dX8_two_144 (by decide) ?_
                    exact (hPJx14 _).1 hjx14 _ (lv_sub hl [] rfl)
                · replace hjx12 := pf_f (P := PJx12) c13 hjx12
                  refine va_getsN hx hb hG.nn hS hown (gz_fn8 hG _) (fun _ h => h) dX8_two_128 ?_
                  refine lv_goto (tgt := 152) hx hb dX8_two_131 (by decide) ?_
                  exact (hPJx12 _).1 hjx12 _ (lv_sub hl [] rfl)

def fX8_two_F (p1 : Int32) (p2 : UInt64) (p4 : UInt64) : UInt64 := if p1 = 0 then (fX8_plus_F p2 p4) else (if p1 = 1 then (fX8_minus_F p2 p4) else (if p1 = 2 then (fX8_times_F p2 p4) else (if p1 = 3 then (fX8_over_F p2 p4) else (if p1 = 4 then (fX8_rest_F p2 p4) else (if p1 = 5 then (lt_ (if Dle p2 p4 then p4 else p2) (fun x7 : UInt64 => x7)) else (if p1 = 6 then (lt_ (if Dle p2 p4 then p2 else p4) (fun x10 : UInt64 => x10)) else (lt_ (if Deq p2 p2 then (lt_ (if Deq p4 p4 then p4 else FP.dconst1) (fun x14 : UInt64 => (csignD p2 x14))) else 9221120237041090560) (fun x12 : UInt64 => x12))))))))
def oX8_two_F (p1 : Int32) (p2 : UInt64) (p4 : UInt64) : Prop := ((p1 = 0) → (oX8_plus_F p2 p4)) ∧ (¬ (p1 = 0) → ((p1 = 1) → (oX8_minus_F p2 p4)) ∧ (¬ (p1 = 1) → ((p1 = 2) → (oX8_times_F p2 p4)) ∧ (¬ (p1 = 2) → ((p1 = 3) → (oX8_over_F p2 p4)) ∧ (¬ (p1 = 3) → ((p1 = 4) → (oX8_rest_F p2 p4)) ∧ (¬ (p1 = 4) → ((p1 = 5) → True) ∧ (¬ (p1 = 5) → ((p1 = 6) → True) ∧ (¬ (p1 = 6) → ((Deq p2 p2) → (∀ x14 : UInt64, x14 = (if Deq p4 p4 then p4 else FP.dconst1) → ((vf_n64 x14)))) ∧ (¬ (Deq p2 p2) → True))))))))
set_option maxHeartbeats 4000000 in
set_option maxRecDepth 100000 in
theorem mX8_two_F (l : Launch) (D : va_G) (TY : Nat → ClassId) (h0 : Nat) (p1 : Int32) (p2 : UInt64) (p4 : UInt64) (post : UInt64 → Prop) (hw : post (fX8_two_F p1 p2 p4)) (hok : oX8_two_F p1 p2 p4) : Met l yX8_two (ws_ yX8_two cX8_two 6 (Option.some Jvm.ClassFile.FieldType.double)) ({ frames := 2, cells := 0, slots := 0, locals := 47 }) (PR D TY [.ref h0, .int p1, .double p2, .double p4] [(h0, .inr (2, []))]) (vp_Sd post) 0 0 (fun _ => False) := by
  refine ofWF (cc := cX8_two) (maxL := 6) (ret := (Option.some Jvm.ClassFile.FieldType.double)) (plainFor_of_name (by decide)) rfl ?_
  intro p e s m args below meth c s₁ B hml hv
  obtain ⟨rfl, hP, hK, hG⟩ := hv
  have hx := B.exec
  have hb := B.bytes
  have hr := B.returns
  have hts0 := atoms_spec (ws := ws_ yX8_two cX8_two 6 (Option.some Jvm.ClassFile.FieldType.double)) B.pre
  have hts : ∀ w ∈ lw_all, w.before _ s = true := fun w h => hts0 w (List.mem_cons_of_mem _ h)
  have hown : s.vm.findClass RX8 = some m.cls := findClass_of_methodNamed B.named
  have hlocks := B.notSynchronized
  have hS : va_S (fun _ => False) s.heap s.heap [] := va_S.rf
  have hl := lv_entry ([.ref h0, .int p1, .double p2, .double p4]) (n := 6) (Nat.le_of_ble_eq_true rfl)
  rw [lg_entry_eq]
  generalize (lg_sl ([.ref h0, .int p1, .double p2, .double p4]) ++ List.replicate (6 - (lg_sl ([.ref h0, .int p1, .double p2, .double p4])).length) Slot.unset).toArray = ls at hl ⊢
  have hl : lv_has ls 6 [(0, .ref h0), (1, .int p1), (2, .double p2), (4, .double p4)] := hl
  unfold fX8_two_F at hw
  unfold oX8_two_F at hok
  refine lv_iload_n hx hb dX8_two_0 rfl (lv_at hl 1 rfl) ?_
  by_cases c1 : p1 = 0
  · replace hw := pf_t (P := post) c1 hw
    replace hok := hok.1 c1
    refine lv_tableIn (tgt := 44) (off := 43) hx hb dX8_two_1 (by rw [c1]; decide) (by rw [c1]; decide) (by rw [c1]; rfl) (by decide) ?_
    refine lv_aload_n hx hb dX8_two_44 rfl (lv_at hl 0 rfl) ?_
    refine lv_dload_n hx hb dX8_two_45 rfl (lv_at hl 2 rfl) ?_
    refine lv_dload hx hb dX8_two_46 (lv_at hl 3 rfl) ?_
    refine cFSd (v := fX8_plus_F p2 p4) (runFD (As := [.double p2, .double p4]) (rest := []) (hK.1 2 _ rfl).2 ⟨hx, hb, hml, hown, hts⟩ (mX8_plus_F l D TY h0 p2 p4 (fun r => r = fX8_plus_F p2 p4) rfl hok) (lw_meth q494) rfl rfl rfl q488 q492 q1587 (gz_fw36 hG) (gz_df20 hG) hd_X8_plus ⟨Nat.le_of_ble_eq_true rfl, Nat.le_of_ble_eq_true rfl⟩ (PR.V (q0 := 0) (ci := 2) hP [0] rfl hK hG hS rfl rfl) rfl rfl hl.1 rfl (lv_room (Nat.le_of_ble_eq_true rfl)) dX8_two_48 ⟨Nat.le_of_ble_eq_true rfl, Nat.le_of_ble_eq_true rfl⟩) ?_
    exact W.dret (v := fX8_plus_F p2 p4) hx hb hr (fun t ht hW => ⟨_, rfl, hw, ht⟩) (fun q h => nomatch h) dX8_two_53
  · replace hw := pf_f (P := post) c1 hw
    replace hok := hok.2 c1
    by_cases c2 : p1 = 1
    · replace hw := pf_t (P := post) c2 hw
      replace hok := hok.1 c2
      refine lv_tableIn (tgt := 54) (off := 53) hx hb dX8_two_1 (by rw [c2]; decide) (by rw [c2]; decide) (by rw [c2]; rfl) (by decide) ?_
      refine lv_aload_n hx hb dX8_two_54 rfl (lv_at hl 0 rfl) ?_
      refine lv_dload_n hx hb dX8_two_55 rfl (lv_at hl 2 rfl) ?_
      refine lv_dload hx hb dX8_two_56 (lv_at hl 3 rfl) ?_
      refine cFSd (v := fX8_minus_F p2 p4) (runFD (As := [.double p2, .double p4]) (rest := []) (hK.1 2 _ rfl).2 ⟨hx, hb, hml, hown, hts⟩ (mX8_minus_F l D TY h0 p2 p4 (fun r => r = fX8_minus_F p2 p4) rfl hok) (lw_meth q503) rfl rfl rfl q497 q501 q1587 (gz_fw37 hG) (gz_df21 hG) hd_X8_minus ⟨Nat.le_of_ble_eq_true rfl, Nat.le_of_ble_eq_true rfl⟩ (PR.V (q0 := 0) (ci := 2) hP [0] rfl hK hG hS rfl rfl) rfl rfl hl.1 rfl (lv_room (Nat.le_of_ble_eq_true rfl)) dX8_two_58 ⟨Nat.le_of_ble_eq_true rfl, Nat.le_of_ble_eq_true rfl⟩) ?_
      exact W.dret (v := fX8_minus_F p2 p4) hx hb hr (fun t ht hW => ⟨_, rfl, hw, ht⟩) (fun q h => nomatch h) dX8_two_63
    · replace hw := pf_f (P := post) c2 hw
      replace hok := hok.2 c2
      by_cases c3 : p1 = 2
      · replace hw := pf_t (P := post) c3 hw
        replace hok := hok.1 c3
        refine lv_tableIn (tgt := 64) (off := 63) hx hb dX8_two_1 (by rw [c3]; decide) (by rw [c3]; decide) (by rw [c3]; rfl) (by decide) ?_
        refine lv_aload_n hx hb dX8_two_64 rfl (lv_at hl 0 rfl) ?_
        refine lv_dload_n hx hb dX8_two_65 rfl (lv_at hl 2 rfl) ?_
        refine lv_dload hx hb dX8_two_66 (lv_at hl 3 rfl) ?_
        refine cFSd (v := fX8_times_F p2 p4) (runFD (As := [.double p2, .double p4]) (rest := []) (hK.1 2 _ rfl).2 ⟨hx, hb, hml, hown, hts⟩ (mX8_times_F l D TY h0 p2 p4 (fun r => r = fX8_times_F p2 p4) rfl hok) (lw_meth q512) rfl rfl rfl q506 q510 q1587 (gz_fw38 hG) (gz_df22 hG) hd_X8_times ⟨Nat.le_of_ble_eq_true rfl, Nat.le_of_ble_eq_true rfl⟩ (PR.V (q0 := 0) (ci := 2) hP [0] rfl hK hG hS rfl rfl) rfl rfl hl.1 rfl (lv_room (Nat.le_of_ble_eq_true rfl)) dX8_two_68 ⟨Nat.le_of_ble_eq_true rfl, Nat.le_of_ble_eq_true rfl⟩) ?_
        exact W.dret (v := fX8_times_F p2 p4) hx hb hr (fun t ht hW => ⟨_, rfl, hw, ht⟩) (fun q h => nomatch h) dX8_two_73
      · replace hw := pf_f (P := post) c3 hw
        replace hok := hok.2 c3
        by_cases c4 : p1 = 3
        · replace hw := pf_t (P := post) c4 hw
          replace hok := hok.1 c4
          refine lv_tableIn (tgt := 74) (off := 73) hx hb dX8_two_1 (by rw [c4]; decide) (by rw [c4]; decide) (by rw [c4]; rfl) (by decide) ?_
          refine lv_aload_n hx hb dX8_two_74 rfl (lv_at hl 0 rfl) ?_
          refine lv_dload_n hx hb dX8_two_75 rfl (lv_at hl 2 rfl) ?_
          refine lv_dload hx hb dX8_two_76 (lv_at hl 3 rfl) ?_
          refine cFSd (v := fX8_over_F p2 p4) (runFD (As := [.double p2, .double p4]) (rest := []) (hK.1 2 _ rfl).2 ⟨hx, hb, hml, hown, hts⟩ (mX8_over_F l D TY h0 p2 p4 (fun r => r = fX8_over_F p2 p4) rfl hok) (lw_meth q456) rfl rfl rfl q450 q454 q1587 (gz_fw33 hG) (gz_df18 hG) hd_X8_over ⟨Nat.le_of_ble_eq_true rfl, Nat.le_of_ble_eq_true rfl⟩ (PR.V (q0 := 0) (ci := 2) hP [0] rfl hK hG hS rfl rfl) rfl rfl hl.1 rfl (lv_room (Nat.le_of_ble_eq_true rfl)) dX8_two_78 ⟨Nat.le_of_ble_eq_true rfl, Nat.le_of_ble_eq_true rfl⟩) ?_
          exact W.dret (v := fX8_over_F p2 p4) hx hb hr (fun t ht hW => ⟨_, rfl, hw, ht⟩) (fun q h => nomatch h) dX8_two_83
        · replace hw := pf_f (P := post) c4 hw
          replace hok := hok.2 c4
          by_cases c5 : p1 = 4
          · replace hw := pf_t (P := post) c5 hw
            replace hok := hok.1 c5
            refine lv_tableIn (tgt := 84) (off := 83) hx hb dX8_two_1 (by rw [c5]; decide) (by rw [c5]; decide) (by rw [c5]; rfl) (by decide) ?_
            refine lv_aload_n hx hb dX8_two_84 rfl (lv_at hl 0 rfl) ?_
            refine lv_dload_n hx hb dX8_two_85 rfl (lv_at hl 2 rfl) ?_
            refine lv_dload hx hb dX8_two_86 (lv_at hl 3 rfl) ?_
            refine cFSd (v := fX8_rest_F p2 p4) (runFD (As := [.double p2, .double p4]) (rest := []) (hK.1 2 _ rfl).2 ⟨hx, hb, hml, hown, hts⟩ (mX8_rest_F l D TY h0 p2 p4 (fun r => r = fX8_rest_F p2 p4) rfl hok) (lw_meth q521) rfl rfl rfl q515 q519 q1587 (gz_fw39 hG) (gz_df23 hG) hd_X8_rest ⟨Nat.le_of_ble_eq_true rfl, Nat.le_of_ble_eq_true rfl⟩ (PR.V (q0 := 0) (ci := 2) hP [0] rfl hK hG hS rfl rfl) rfl rfl hl.1 rfl (lv_room (Nat.le_of_ble_eq_true rfl)) dX8_two_88 ⟨Nat.le_of_ble_eq_true rfl, Nat.le_of_ble_eq_true rfl⟩) ?_
            exact W.dret (v := fX8_rest_F p2 p4) hx hb hr (fun t ht hW => ⟨_, rfl, hw, ht⟩) (fun q h => nomatch h) dX8_two_93
          · replace hw := pf_f (P := post) c5 hw
            replace hok := hok.2 c5
            by_cases c6 : p1 = 5
            · replace hw := pf_t (P := post) c6 hw
              refine lv_tableIn (tgt := 94) (off := 93) hx hb dX8_two_1 (by rw [c6]; decide) (by rw [c6]; decide) (by rw [c6]; rfl) (by decide) ?_
              refine lv_dload_n hx hb dX8_two_94 rfl (lv_at hl 2 rfl) ?_
              refine lv_dload hx hb dX8_two_95 (lv_at hl 3 rfl) ?_
              obtain ⟨PJx7, hPJx7⟩ : ∃ P : UInt64 → Prop, ∀ x7 : UInt64, P x7 ↔ ∀ ls : Array Slot, lv_has ls 6 [] → W p l e (headSpec (ws_ yX8_two cX8_two 6 (Option.some Jvm.ClassFile.FieldType.double)) ({ frames := 2, cells := 0, slots := 0, locals := 47 })).room s m ([.ref h0, .int p1, .double p2, .double p4] : List Value).toArray below meth c s.heap ([]) 0 0 (MQ below (vp_Sd post) ([.ref h0, .int p1, .double p2, .double p4] : List Value).toArray s 0 0 (fun _ => False)) (F0 m 107 ls [.double x7]) := ⟨_, fun _ => Iff.rfl⟩
              have hjx7 : ∀ x7 : UInt64, x7 = (if Dle p2 p4 then p4 else p2) → PJx7 x7 := by
                intro x7 ex7
                rw [hPJx7]
                intro ls hl
                replace hw := pf_let (P := post) hw x7 ex7
                exact W.dret (v := x7) hx hb hr (fun t ht hW => ⟨_, rfl, hw, ht⟩) (fun q h => nomatch h) dX8_two_107
              replace hjx7 := hjx7 _ rfl
              refine lx_dggt (tgt := 106) hx hb dX8_two_97 dX8_two_98 (by decide) (fun c8 => ?_) (fun c8 => ?_)
              · replace hjx7 := pf_f (P := PJx7) c8 hjx7
                refine lv_dload_n hx hb dX8_two_106 rfl (lv_at hl 2 rfl) ?_
                exact (hPJx7 _).1 hjx7 _ (lv_sub hl [] rfl)
              · replace hjx7 := pf_t (P := PJx7) c8 hjx7
                refine lv_dload hx hb dX8_two_101 (lv_at hl 3 rfl) ?_
                refine lv_goto (tgt := 107) hx hb dX8_two_103 (by decide) ?_
                exact (hPJx7 _).1 hjx7 _ (lv_sub hl [] rfl)
            · replace hw := pf_f (P := post) c6 hw
              replace hok := hok.2 c6
              by_cases c9 : p1 = 6
              · replace hw := pf_t (P := post) c9 hw
                refine lv_tableIn (tgt := 108) (off := 107) hx hb dX8_two_1 (by rw [c9]; decide) (by rw [c9]; decide) (by rw [c9]; rfl) (by decide) ?_
                refine lv_dload_n hx hb dX8_two_108 rfl (lv_at hl 2 rfl) ?_
                refine lv_dload hx hb dX8_two_109 (lv_at hl 3 rfl) ?_
                obtain ⟨PJx10, hPJx10⟩ : ∃ P : UInt64 → Prop, ∀ x10 : UInt64, P x10 ↔ ∀ ls : Array Slot, lv_has ls 6 [] → W p l e (headSpec (ws_ yX8_two cX8_two 6 (Option.some Jvm.ClassFile.FieldType.double)) ({ frames := 2, cells := 0, slots := 0, locals := 47 })).room s m ([.ref h0, .int p1, .double p2, .double p4] : List Value).toArray below meth c s.heap ([]) 0 0 (MQ below (vp_Sd post) ([.ref h0, .int p1, .double p2, .double p4] : List Value).toArray s 0 0 (fun _ => False)) (F0 m 121 ls [.double x10]) := ⟨_, fun _ => Iff.rfl⟩
                have hjx10 : ∀ x10 : UInt64, x10 = (if Dle p2 p4 then p2 else p4) → PJx10 x10 := by
                  intro x10 ex10
                  rw [hPJx10]
                  intro ls hl
                  replace hw := pf_let (P := post) hw x10 ex10
                  exact W.dret (v := x10) hx hb hr (fun t ht hW => ⟨_, rfl, hw, ht⟩) (fun q h => nomatch h) dX8_two_121
                replace hjx10 := hjx10 _ rfl
                refine lx_dggt (tgt := 119) hx hb dX8_two_111 dX8_two_112 (by decide) (fun c11 => ?_) (fun c11 => ?_)
                · replace hjx10 := pf_f (P := PJx10) c11 hjx10
                  refine lv_dload hx hb dX8_two_119 (lv_at hl 3 rfl) ?_
                  exact (hPJx10 _).1 hjx10 _ (lv_sub hl [] rfl)
                · replace hjx10 := pf_t (P := PJx10) c11 hjx10
                  refine lv_dload_n hx hb dX8_two_115 rfl (lv_at hl 2 rfl) ?_
                  refine lv_goto (tgt := 121) hx hb dX8_two_116 (by decide) ?_
                  exact (hPJx10 _).1 hjx10 _ (lv_sub hl [] rfl)
              · replace hw := pf_f (P := post) c9 hw
                replace hok := hok.2 c9
                refine lv_tableOut (tgt := 122) hx hb dX8_two_1 (by have q0 := lv_neT c1 (show (0 : Int32).toInt = 0 by decide); have q1 := lv_neT c2 (show (1 : Int32).toInt = 1 by decide); have q2 := lv_neT c3 (show (2 : Int32).toInt = 2 by decide); have q3 := lv_neT c4 (show (3 : Int32).toInt = 3 by decide); have q4 := lv_neT c5 (show (4 : Int32).toInt = 4 by decide); have q5 := lv_neT c6 (show (5 : Int32).toInt = 5 by decide); have q6 := lv_neT c9 (show (6 : Int32).toInt = 6 by decide); omega) (by decide) ?_
                refine lv_dload_n hx hb dX8_two_122 rfl (lv_at hl 2 rfl) ?_
                refine lv_dload_n hx hb dX8_two_123 rfl (lv_at hl 2 rfl) ?_
                obtain ⟨PJx12, hPJx12⟩ : ∃ P : UInt64 → Prop, ∀ x12 : UInt64, P x12 ↔ ∀ ls : Array Slot, lv_has ls 6 [] → W p l e (headSpec (ws_ yX8_two cX8_two 6 (Option.some Jvm.ClassFile.FieldType.double)) ({ frames := 2, cells := 0, slots := 0, locals := 47 })).room s m ([.ref h0, .int p1, .double p2, .double p4] : List Value).toArray below meth c s.heap ([]) 0 0 (MQ below (vp_Sd post) ([.ref h0, .int p1, .double p2, .double p4] : List Value).toArray s 0 0 (fun _ => False)) (F0 m 152 ls [.double x12]) := ⟨_, fun _ => Iff.rfl⟩
                have hox12 := hok
                have hjx12 : ∀ x12 : UInt64, x12 = (if Deq p2 p2 then (lt_ (if Deq p4 p4 then p4 else FP.dconst1) (fun x14 : UInt64 => (csignD p2 x14))) else 9221120237041090560) → PJx12 x12 := by
                  intro x12 ex12
                  rw [hPJx12]
                  intro ls hl
                  replace hw := pf_let (P := post) hw x12 ex12
                  exact W.dret (v := x12) hx hb hr (fun t ht hW => ⟨_, rfl, hw, ht⟩) (fun q h => nomatch h) dX8_two_152
                replace hjx12 := hjx12 _ rfl
                refine lx_dleq (tgt := 134) hx hb dX8_two_124 dX8_two_125 (by decide) (fun c13 => ?_) (fun c13 => ?_)
                · replace hjx12 := pf_t (P := PJx12) c13 hjx12
                  replace hox12 := hox12.1 c13
                  refine lv_dload_n hx hb dX8_two_134 rfl (lv_at hl 2 rfl) ?_
                  refine lv_dload hx hb dX8_two_135 (lv_at hl 3 rfl) ?_
                  refine lv_dload hx hb dX8_two_137 (lv_at hl 3 rfl) ?_
                  obtain ⟨PJx14, hPJx14⟩ : ∃ P : UInt64 → Prop, ∀ x14 : UInt64, P x14 ↔ ∀ ls : Array Slot, lv_has ls 6 [] → W p l e (headSpec (ws_ yX8_two cX8_two 6 (Option.some Jvm.ClassFile.FieldType.double)) ({ frames := 2, cells := 0, slots := 0, locals := 47 })).room s m ([.ref h0, .int p1, .double p2, .double p4] : List Value).toArray below meth c s.heap ([]) 0 0 (MQ below (vp_Sd post) ([.ref h0, .int p1, .double p2, .double p4] : List Value).toArray s 0 0 (fun _ => False)) (F0 m 149 ls [.double x14, .double p2]) := ⟨_, fun _ => Iff.rfl⟩
                  have hjx14 : ∀ x14 : UInt64, x14 = (if Deq p4 p4 then p4 else FP.dconst1) → PJx14 x14 := by
                    intro x14 ex14
                    rw [hPJx14]
                    intro ls hl
                    replace hjx12 := pf_let (P := PJx12) hjx12 x14 ex14
                    replace hox12 := hox12 x14 ex14
                    refine nv_csign hx hb (hml.trans hl.1.symm) hown (hts _ q328) (hts _ q329) (hts _ q330) (hts _ q54) hox12 (Nat.le_of_ble_eq_true rfl) (Nat.le_of_ble_eq_true rfl) (Nat.le_of_ble_eq_true rfl) (Nat.le_of_ble_eq_true rfl) dX8_two_149 ?_
                    exact (hPJx12 _).1 hjx12 _ (lv_sub hl [] rfl)
                  replace hjx14 := hjx14 _ rfl
                  refine lx_dleq (tgt := 147) hx hb dX8_two_139 dX8_two_140 (by decide) (fun c15 => ?_) (fun c15 => ?_)
                  · replace hjx14 := pf_t (P := PJx14) c15 hjx14
                    refine lv_dload hx hb dX8_two_147 (lv_at hl 3 rfl) ?_
                    exact (hPJx14 _).1 hjx14 _ (lv_sub hl [] rfl)
                  · replace hjx14 := pf_f (P := PJx14) c15 hjx14
                    refine lv_dconst1 hx hb dX8_two_143 ?_
                    refine lv_goto (tgt := 149) hx hb dX8_two_144 (by decide) ?_
                    exact (hPJx14 _).1 hjx14 _ (lv_sub hl [] rfl)
                · replace hjx12 := pf_f (P := PJx12) c13 hjx12
                  refine va_getsN hx hb hG.nn hS hown (gz_fn8 hG _) (fun _ h => h) dX8_two_128 ?_
                  refine lv_goto (tgt := 152) hx hb dX8_two_131 (by decide) ?_
                  exact (hPJx12 _).1 hjx12 _ (lv_sub hl [] rfl)

theorem hd_J2_abs_3 : yJ2_abs_3.cls ≠ "java/lang/invoke/MethodHandle" ∧ yJ2_abs_3.cls ≠ "java/lang/invoke/VarHandle" ∧ (parseMethodDescriptor yJ2_abs_3.desc).map (fun d => d.parameters.length) = some 1 := by decide +kernel
def wX8_power_D_54 (p3 : Int32)  (post : UInt64 → Prop) : Nat → Int64 → UInt64 → UInt64 → Prop
  | 0, _, _, _ => False
  | n + 1, y4, y6, y8 => ((1 < y4) → (oX8_times_D y6 y6) ∧ (∀ x4 : UInt64, x4 = fX8_times_D y6 y6 → ∀ x5 : Int64, x5 = y4 / 2 → ((((klrem x5 2) = 1) → (oX8_times_D y8 x4)) ∧ (¬ ((klrem x5 2) = 1) → True)) ∧ (∀ x6 : UInt64, x6 = (if (klrem x5 2) = 1 then (fX8_times_D y8 x4) else y8) → ((wX8_power_D_54 p3 post n) x5 x4 x6)))) ∧ (¬ (1 < y4) → (((0 ≤ p3) → True) ∧ (¬ (0 ≤ p3) → (oX8_over_D FP.dconst1 y8))) ∧ (∀ x2 : UInt64, x2 = (if 0 ≤ p3 then y8 else (fX8_over_D FP.dconst1 y8)) → post x2))
def wX8_power_D_16 (p3 : Int32)  (post : UInt64 → Prop) : Nat → Int64 → UInt64 → Prop
  | 0, _, _ => False
  | n + 1, y4, y6 => (((klrem y4 2) = 0) → (oX8_times_D y6 y6) ∧ (∀ x3 : UInt64, x3 = fX8_times_D y6 y6 → ∀ x4 : Int64, x4 = y4 / 2 → ((wX8_power_D_16 p3 post n) x4 x3))) ∧ (¬ ((klrem y4 2) = 0) → ∃ n, wX8_power_D_54 p3 post n y4 y6 y6)
def wX8_power_D (p1 : UInt64) (p3 : Int32) (post : UInt64 → Prop) : Prop := ((p3 = 0) → post FP.dconst1) ∧ (¬ (p3 = 0) → ∀ x2 : Int64, x2 = fJ2_abs_3 p3.toInt64 → ∃ n, wX8_power_D_16 p3 post n x2 p1)
set_option maxHeartbeats 4000000 in
set_option maxRecDepth 100000 in
theorem bX8_power_D_54 {p : Program} {l : Launch} {e : Env} {s : State} {m : MethodId} {below : List Frame} {meth : Method} {c : Code} {D : va_G} {TY : Nat → ClassId} (h0 : Nat) (p1 : UInt64) (p3 : Int32) (post : UInt64 → Prop) (hx : p.tables.exec = Jvm.exec) (hb : c.code = cX8_power) (hr : meth.sig.returnType = (Option.some Jvm.ClassFile.FieldType.double)) (hlocks : meth.locks = false) (hml : c.maxLocals = 10) (hown : s.vm.findClass RX8 = some m.cls) (hts : ∀ w ∈ lw_all, w.before ([.ref h0, .double p1, .int p3] : List Value).toArray s = true) (hK : va_K D vwCl (tyL TY) s) (hG : gz (fun _ => False) s s.heap) (hS : va_S (fun _ => False) s.heap s.heap []) (hP : va_P D vwCl [(h0, .inr (1, []))] s.heap) : ∀ (n : Nat) (y4 : Int64) (y6 : UInt64) (y8 : UInt64), wX8_power_D_54 p3 post n y4 y6 y8 → ∀ ls : Array Slot, lv_has ls 10 [(0, .ref h0), (3, .int p3), (4, .long y4), (6, .double y6), (8, .double y8)] → W p l e (headSpec (ws_ yX8_power cX8_power 10 (Option.some Jvm.ClassFile.FieldType.double)) ({ frames := 2, cells := 0, slots := 0, locals := 47 })).room s m ([.ref h0, .double p1, .int p3] : List Value).toArray below meth c s.heap ([]) 0 0 (MQ below (vp_Sd post) ([.ref h0, .double p1, .int p3] : List Value).toArray s 0 0 (fun _ => False)) (F0 m 54 ls []) := by
  intro n
  induction n with
  | zero => intro _ _ _ h; exact h.elim
  | succ n ih =>
    intro y4 y6 y8 hw
    unfold wX8_power_D_54 at hw
    intro ls hl
    refine lv_lload hx hb dX8_power_54 (lv_at hl 2 rfl) ?_
    refine lv_lconst (v := 1) hx hb dX8_power_56 (by decide) ?_
    refine lx_lle (tgt := 112) hx hb dX8_power_57 dX8_power_58 (by decide) (fun c1 => ?_) (fun c1 => ?_)
    · replace hw := hw.2 c1
      refine lv_iload_n hx hb dX8_power_112 rfl (lv_at hl 1 rfl) ?_
      obtain ⟨PJx2, hPJx2⟩ : ∃ P : UInt64 → Prop, ∀ x2 : UInt64, P x2 ↔ ∀ ls : Array Slot, lv_has ls 10 [] → W p l e (headSpec (ws_ yX8_power cX8_power 10 (Option.some Jvm.ClassFile.FieldType.double)) ({ frames := 2, cells := 0, slots := 0, locals := 47 })).room s m ([.ref h0, .double p1, .int p3] : List Value).toArray below meth c s.heap ([]) 0 0 (MQ below (vp_Sd post) ([.ref h0, .double p1, .int p3] : List Value).toArray s 0 0 (fun _ => False)) (F0 m 130 ls [.double x2]) := ⟨_, fun _ => Iff.rfl⟩
      have hox2 := hw.1
      have hjx2 : ∀ x2 : UInt64, x2 = (if 0 ≤ p3 then y8 else (fX8_over_D FP.dconst1 y8)) → PJx2 x2 := by
        intro x2 ex2
        rw [hPJx2]
        intro ls hl
        replace hw := hw.2 x2 ex2
        exact W.dret (v := x2) hx hb hr (fun t ht hW => ⟨_, rfl, hw, ht⟩) (fun q h => nomatch h) dX8_power_130
      replace hjx2 := hjx2 _ rfl
      refine lv_if_ge (tgt := 128) hx hb dX8_power_113 (by decide) (fun c3 => ?_) (fun c3 => ?_)
      · replace hjx2 := pf_t (P := PJx2) c3 hjx2
        refine lv_dload hx hb dX8_power_128 (lv_at hl 4 rfl) ?_
        exact (hPJx2 _).1 hjx2 _ (lv_sub hl [] rfl)
      · replace hjx2 := pf_f (P := PJx2) c3 hjx2
        replace hox2 := hox2.2 c3
        refine lv_aload_n hx hb dX8_power_116 rfl (lv_at hl 0 rfl) ?_
        refine lv_dconst1 hx hb dX8_power_117 ?_
        refine lv_dload hx hb dX8_power_118 (lv_at hl 4 rfl) ?_
        refine cFSd (v := fX8_over_D FP.dconst1 y8) (runFD (As := [.double FP.dconst1, .double y8]) (rest := []) (hK.1 1 _ rfl).2 ⟨hx, hb, hml, hown, hts⟩ (mX8_over_D l D TY h0 FP.dconst1 y8 (fun r => r = fX8_over_D FP.dconst1 y8) rfl hox2) (lw_meth q456) rfl rfl rfl q450 q454 q1587 (gz_fw12 hG) (gz_df5 hG) hd_X8_over ⟨Nat.le_of_ble_eq_true rfl, Nat.le_of_ble_eq_true rfl⟩ (PR.V (q0 := 0) (ci := 1) hP [0] rfl hK hG hS rfl rfl) rfl rfl hl.1 rfl (lv_room (Nat.le_of_ble_eq_true rfl)) dX8_power_120 ⟨Nat.le_of_ble_eq_true rfl, Nat.le_of_ble_eq_true rfl⟩) ?_
        refine lv_goto (tgt := 130) hx hb dX8_power_125 (by decide) ?_
        exact (hPJx2 _).1 hjx2 _ (lv_sub hl [] rfl)
    · replace hw := hw.1 c1
      refine lv_aload_n hx hb dX8_power_61 rfl (lv_at hl 0 rfl) ?_
      refine lv_dload hx hb dX8_power_62 (lv_at hl 3 rfl) ?_
      refine lv_dload hx hb dX8_power_64 (lv_at hl 3 rfl) ?_
      refine cFSd (v := fX8_times_D y6 y6) (runFD (As := [.double y6, .double y6]) (rest := []) (hK.1 1 _ rfl).2 ⟨hx, hb, hml, hown, hts⟩ (mX8_times_D l D TY h0 y6 y6 (fun r => r = fX8_times_D y6 y6) rfl hw.1) (lw_meth q512) rfl rfl rfl q506 q510 q1587 (gz_fw17 hG) (gz_df9 hG) hd_X8_times ⟨Nat.le_of_ble_eq_true rfl, Nat.le_of_ble_eq_true rfl⟩ (PR.V (q0 := 0) (ci := 1) hP [0] rfl hK hG hS rfl rfl) rfl rfl hl.1 rfl (lv_room (Nat.le_of_ble_eq_true rfl)) dX8_power_66 ⟨Nat.le_of_ble_eq_true rfl, Nat.le_of_ble_eq_true rfl⟩) ?_
      replace hw := hw.2
      refine lv_topd (fun x4 ex4 => ?_)
      replace hw := hw x4 ex4
      refine lv_dstore (lv' := [(6, .double x4), (0, .ref h0), (3, .int p3), (4, .long y4), (8, .double y8)]) hx hb dX8_power_71 hl (by decide) rfl (fun ls hl => ?_)
      refine lv_lload hx hb dX8_power_73 (lv_at hl 3 rfl) ?_
      refine lv_ldc2 (v := 2) hx hb hown (hts _ q569) dX8_power_75 ?_
      refine lv_ldiv hx hb dX8_power_78 (by decide) ?_
      refine lv_topl (fun x5 ex5 => ?_)
      replace hw := hw x5 ex5
      refine lv_lstore (lv' := [(4, .long x5), (6, .double x4), (0, .ref h0), (3, .int p3), (8, .double y8)]) hx hb dX8_power_79 hl (by decide) rfl (fun ls hl => ?_)
      refine lv_lload hx hb dX8_power_81 (lv_at hl 0 rfl) ?_
      refine lv_ldc2 (v := 2) hx hb hown (hts _ q569) dX8_power_83 ?_
      refine lv_lrem hx hb dX8_power_86 (by decide) ?_
      refine lv_lconst (v := 1) hx hb dX8_power_87 (by decide) ?_
      obtain ⟨PJx6, hPJx6⟩ : ∃ P : UInt64 → Prop, ∀ x6 : UInt64, P x6 ↔ ∀ ls : Array Slot, lv_has ls 10 [(0, .ref h0), (3, .int p3), (4, .long x5), (6, .double x4)] → W p l e (headSpec (ws_ yX8_power cX8_power 10 (Option.some Jvm.ClassFile.FieldType.double)) ({ frames := 2, cells := 0, slots := 0, locals := 47 })).room s m ([.ref h0, .double p1, .int p3] : List Value).toArray below meth c s.heap ([]) 0 0 (MQ below (vp_Sd post) ([.ref h0, .double p1, .int p3] : List Value).toArray s 0 0 (fun _ => False)) (F0 m 107 ls [.double x6]) := ⟨_, fun _ => Iff.rfl⟩
      have hox6 := hw.1
      have hjx6 : ∀ x6 : UInt64, x6 = (if (klrem x5 2) = 1 then (fX8_times_D y8 x4) else y8) → PJx6 x6 := by
        intro x6 ex6
        rw [hPJx6]
        intro ls hl
        replace hw := hw.2 x6 ex6
        refine lv_dstore (lv' := [(8, .double x6), (0, .ref h0), (3, .int p3), (4, .long x5), (6, .double x4)]) hx hb dX8_power_107 hl (by decide) rfl (fun ls hl => ?_)
        refine lv_goto (tgt := 54) hx hb dX8_power_109 (by decide) ?_
        exact ih x5 x4 x6 hw _ (lv_sub hl [1, 2, 3, 4, 0] rfl)
      replace hjx6 := hjx6 _ rfl
      refine lx_lne (tgt := 105) hx hb dX8_power_88 dX8_power_89 (by decide) (fun c7 => ?_) (fun c7 => ?_)
      · replace hjx6 := pf_f (P := PJx6) c7 hjx6
        refine lv_dload hx hb dX8_power_105 (lv_at hl 4 rfl) ?_
        exact (hPJx6 _).1 hjx6 _ (lv_sub hl [2, 3, 0, 1] rfl)
      · replace hjx6 := pf_t (P := PJx6) c7 hjx6
        replace hox6 := hox6.1 c7
        refine lv_aload_n hx hb dX8_power_92 rfl (lv_at hl 2 rfl) ?_
        refine lv_dload hx hb dX8_power_93 (lv_at hl 4 rfl) ?_
        refine lv_dload hx hb dX8_power_95 (lv_at hl 1 rfl) ?_
        refine cFSd (v := fX8_times_D y8 x4) (runFD (As := [.double y8, .double x4]) (rest := []) (hK.1 1 _ rfl).2 ⟨hx, hb, hml, hown, hts⟩ (mX8_times_D l D TY h0 y8 x4 (fun r => r = fX8_times_D y8 x4) rfl hox6) (lw_meth q512) rfl rfl rfl q506 q510 q1587 (gz_fw17 hG) (gz_df9 hG) hd_X8_times ⟨Nat.le_of_ble_eq_true rfl, Nat.le_of_ble_eq_true rfl⟩ (PR.V (q0 := 0) (ci := 1) hP [0] rfl hK hG hS rfl rfl) rfl rfl hl.1 rfl (lv_room (Nat.le_of_ble_eq_true rfl)) dX8_power_97 ⟨Nat.le_of_ble_eq_true rfl, Nat.le_of_ble_eq_true rfl⟩) ?_
        refine lv_goto (tgt := 107) hx hb dX8_power_102 (by decide) ?_
        exact (hPJx6 _).1 hjx6 _ (lv_sub hl [2, 3, 0, 1] rfl)
set_option maxHeartbeats 4000000 in
set_option maxRecDepth 100000 in
theorem bX8_power_D_16 {p : Program} {l : Launch} {e : Env} {s : State} {m : MethodId} {below : List Frame} {meth : Method} {c : Code} {D : va_G} {TY : Nat → ClassId} (h0 : Nat) (p1 : UInt64) (p3 : Int32) (post : UInt64 → Prop) (hx : p.tables.exec = Jvm.exec) (hb : c.code = cX8_power) (hr : meth.sig.returnType = (Option.some Jvm.ClassFile.FieldType.double)) (hlocks : meth.locks = false) (hml : c.maxLocals = 10) (hown : s.vm.findClass RX8 = some m.cls) (hts : ∀ w ∈ lw_all, w.before ([.ref h0, .double p1, .int p3] : List Value).toArray s = true) (hK : va_K D vwCl (tyL TY) s) (hG : gz (fun _ => False) s s.heap) (hS : va_S (fun _ => False) s.heap s.heap []) (hP : va_P D vwCl [(h0, .inr (1, []))] s.heap) : ∀ (n : Nat) (y4 : Int64) (y6 : UInt64), wX8_power_D_16 p3 post n y4 y6 → ∀ ls : Array Slot, lv_has ls 10 [(0, .ref h0), (3, .int p3), (4, .long y4), (6, .double y6)] → W p l e (headSpec (ws_ yX8_power cX8_power 10 (Option.some Jvm.ClassFile.FieldType.double)) ({ frames := 2, cells := 0, slots := 0, locals := 47 })).room s m ([.ref h0, .double p1, .int p3] : List Value).toArray below meth c s.heap ([]) 0 0 (MQ below (vp_Sd post) ([.ref h0, .double p1, .int p3] : List Value).toArray s 0 0 (fun _ => False)) (F0 m 16 ls []) := by
  intro n
  induction n with
  | zero => intro _ _ h; exact h.elim
  | succ n ih =>
    intro y4 y6 hw
    unfold wX8_power_D_16 at hw
    intro ls hl
    refine lv_lload hx hb dX8_power_16 (lv_at hl 2 rfl) ?_
    refine lv_ldc2 (v := 2) hx hb hown (hts _ q569) dX8_power_18 ?_
    refine lv_lrem hx hb dX8_power_21 (by decide) ?_
    refine lv_lconst (v := 0) hx hb dX8_power_22 (by decide) ?_
    refine lx_lne (tgt := 50) hx hb dX8_power_23 dX8_power_24 (by decide) (fun c1 => ?_) (fun c1 => ?_)
    · replace hw := hw.2 c1
      refine lv_dload hx hb dX8_power_50 (lv_at hl 3 rfl) ?_
      refine lv_dstore (lv' := [(8, .double y6), (0, .ref h0), (3, .int p3), (4, .long y4), (6, .double y6)]) hx hb dX8_power_52 hl (by decide) rfl (fun ls hl => ?_)
      obtain ⟨n2, hw⟩ := hw
      exact bX8_power_D_54 h0 p1 p3 post  hx hb hr hlocks hml hown hts hK hG hS hP n2 y4 y6 y6 hw _ (lv_sub hl [1, 2, 3, 4, 0] rfl)
    · replace hw := hw.1 c1
      refine lv_aload_n hx hb dX8_power_27 rfl (lv_at hl 0 rfl) ?_
      refine lv_dload hx hb dX8_power_28 (lv_at hl 3 rfl) ?_
      refine lv_dload hx hb dX8_power_30 (lv_at hl 3 rfl) ?_
      refine cFSd (v := fX8_times_D y6 y6) (runFD (As := [.double y6, .double y6]) (rest := []) (hK.1 1 _ rfl).2 ⟨hx, hb, hml, hown, hts⟩ (mX8_times_D l D TY h0 y6 y6 (fun r => r = fX8_times_D y6 y6) rfl hw.1) (lw_meth q512) rfl rfl rfl q506 q510 q1587 (gz_fw17 hG) (gz_df9 hG) hd_X8_times ⟨Nat.le_of_ble_eq_true rfl, Nat.le_of_ble_eq_true rfl⟩ (PR.V (q0 := 0) (ci := 1) hP [0] rfl hK hG hS rfl rfl) rfl rfl hl.1 rfl (lv_room (Nat.le_of_ble_eq_true rfl)) dX8_power_32 ⟨Nat.le_of_ble_eq_true rfl, Nat.le_of_ble_eq_true rfl⟩) ?_
      replace hw := hw.2
      refine lv_topd (fun x3 ex3 => ?_)
      replace hw := hw x3 ex3
      refine lv_dstore (lv' := [(6, .double x3), (0, .ref h0), (3, .int p3), (4, .long y4)]) hx hb dX8_power_37 hl (by decide) rfl (fun ls hl => ?_)
      refine lv_lload hx hb dX8_power_39 (lv_at hl 3 rfl) ?_
      refine lv_ldc2 (v := 2) hx hb hown (hts _ q569) dX8_power_41 ?_
      refine lv_ldiv hx hb dX8_power_44 (by decide) ?_
      refine lv_topl (fun x4 ex4 => ?_)
      replace hw := hw x4 ex4
      refine lv_lstore (lv' := [(4, .long x4), (6, .double x3), (0, .ref h0), (3, .int p3)]) hx hb dX8_power_45 hl (by decide) rfl (fun ls hl => ?_)
      refine lv_goto (tgt := 16) hx hb dX8_power_47 (by decide) ?_
      exact ih x4 x3 hw _ (lv_sub hl [2, 3, 0, 1] rfl)
set_option maxHeartbeats 4000000 in
set_option maxRecDepth 100000 in
theorem mX8_power_D (l : Launch) (D : va_G) (TY : Nat → ClassId) (h0 : Nat) (p1 : UInt64) (p3 : Int32) (post : UInt64 → Prop) (hw : wX8_power_D p1 p3 post) : Met l yX8_power (ws_ yX8_power cX8_power 10 (Option.some Jvm.ClassFile.FieldType.double)) ({ frames := 2, cells := 0, slots := 0, locals := 47 }) (PR D TY [.ref h0, .double p1, .int p3] [(h0, .inr (1, []))]) (vp_Sd post) 0 0 (fun _ => False) := by
  refine ofWF (cc := cX8_power) (maxL := 10) (ret := (Option.some Jvm.ClassFile.FieldType.double)) (plainFor_of_name (by decide)) rfl ?_
  intro p e s m args below meth c s₁ B hml hv
  obtain ⟨rfl, hP, hK, hG⟩ := hv
  have hx := B.exec
  have hb := B.bytes
  have hr := B.returns
  have hts0 := atoms_spec (ws := ws_ yX8_power cX8_power 10 (Option.some Jvm.ClassFile.FieldType.double)) B.pre
  have hts : ∀ w ∈ lw_all, w.before _ s = true := fun w h => hts0 w (List.mem_cons_of_mem _ h)
  have hown : s.vm.findClass RX8 = some m.cls := findClass_of_methodNamed B.named
  have hlocks := B.notSynchronized
  have hS : va_S (fun _ => False) s.heap s.heap [] := va_S.rf
  have hl := lv_entry ([.ref h0, .double p1, .int p3]) (n := 10) (Nat.le_of_ble_eq_true rfl)
  rw [lg_entry_eq]
  generalize (lg_sl ([.ref h0, .double p1, .int p3]) ++ List.replicate (10 - (lg_sl ([.ref h0, .double p1, .int p3])).length) Slot.unset).toArray = ls at hl ⊢
  have hl : lv_has ls 10 [(0, .ref h0), (1, .double p1), (3, .int p3)] := hl
  unfold wX8_power_D at hw
  refine lv_iload_n hx hb dX8_power_0 rfl (lv_at hl 2 rfl) ?_
  refine lv_if_ne (tgt := 6) hx hb dX8_power_1 (by decide) (fun c1 => ?_) (fun c1 => ?_)
  · replace hw := hw.2 c1
    refine lv_iload_n hx hb dX8_power_6 rfl (lv_at hl 2 rfl) ?_
    refine lv_i2l (v := p3.toInt64) hx hb dX8_power_7 rfl ?_
    refine cSl (v := fJ2_abs_3 p3.toInt64) (W.runS (As := [.long p3.toInt64]) (rest := []) ⟨hx, hb, hml, hown, hts⟩ (mJ2_abs_3 l D TY p3.toInt64 (fun r => r = fJ2_abs_3 p3.toInt64) rfl) (va_cwS 1 hts (lw_S q566 q567 q54 q568) rfl rfl rfl hd_J2_abs_3 ⟨Nat.le_of_ble_eq_true rfl, Nat.le_of_ble_eq_true rfl⟩) (PR.S hP [] rfl hK hG hS) rfl rfl hl.1 rfl (lv_room (Nat.le_of_ble_eq_true rfl)) dX8_power_8 ⟨Nat.le_of_ble_eq_true rfl, Nat.le_of_ble_eq_true rfl⟩) ?_
    refine lv_topl (fun x2 ex2 => ?_)
    replace hw := hw x2 ex2
    refine lv_lstore (lv' := [(4, .long x2), (0, .ref h0), (1, .double p1), (3, .int p3)]) hx hb dX8_power_11 hl (by decide) rfl (fun ls hl => ?_)
    refine lv_dload_n hx hb dX8_power_13 rfl (lv_at hl 2 rfl) ?_
    refine lv_dstore (lv' := [(6, .double p1), (4, .long x2), (0, .ref h0), (1, .double p1), (3, .int p3)]) hx hb dX8_power_14 hl (by decide) rfl (fun ls hl => ?_)
    obtain ⟨n3, hw⟩ := hw
    exact bX8_power_D_16 h0 p1 p3 post  hx hb hr hlocks hml hown hts hK hG hS hP n3 x2 p1 hw _ (lv_sub hl [2, 4, 1, 0] rfl)
  · replace hw := hw.1 c1
    refine lv_dconst1 hx hb dX8_power_4 ?_
    exact W.dret (v := FP.dconst1) hx hb hr (fun t ht hW => ⟨_, rfl, hw, ht⟩) (fun q h => nomatch h) dX8_power_5

def wX8_power_F_54 (p3 : Int32)  (post : UInt64 → Prop) : Nat → Int64 → UInt64 → UInt64 → Prop
  | 0, _, _, _ => False
  | n + 1, y4, y6, y8 => ((1 < y4) → (oX8_times_F y6 y6) ∧ (∀ x4 : UInt64, x4 = fX8_times_F y6 y6 → ∀ x5 : Int64, x5 = y4 / 2 → ((((klrem x5 2) = 1) → (oX8_times_F y8 x4)) ∧ (¬ ((klrem x5 2) = 1) → True)) ∧ (∀ x6 : UInt64, x6 = (if (klrem x5 2) = 1 then (fX8_times_F y8 x4) else y8) → ((wX8_power_F_54 p3 post n) x5 x4 x6)))) ∧ (¬ (1 < y4) → (((0 ≤ p3) → True) ∧ (¬ (0 ≤ p3) → (oX8_over_F FP.dconst1 y8))) ∧ (∀ x2 : UInt64, x2 = (if 0 ≤ p3 then y8 else (fX8_over_F FP.dconst1 y8)) → post x2))
def wX8_power_F_16 (p3 : Int32)  (post : UInt64 → Prop) : Nat → Int64 → UInt64 → Prop
  | 0, _, _ => False
  | n + 1, y4, y6 => (((klrem y4 2) = 0) → (oX8_times_F y6 y6) ∧ (∀ x3 : UInt64, x3 = fX8_times_F y6 y6 → ∀ x4 : Int64, x4 = y4 / 2 → ((wX8_power_F_16 p3 post n) x4 x3))) ∧ (¬ ((klrem y4 2) = 0) → ∃ n, wX8_power_F_54 p3 post n y4 y6 y6)
def wX8_power_F (p1 : UInt64) (p3 : Int32) (post : UInt64 → Prop) : Prop := ((p3 = 0) → post FP.dconst1) ∧ (¬ (p3 = 0) → ∀ x2 : Int64, x2 = fJ2_abs_3 p3.toInt64 → ∃ n, wX8_power_F_16 p3 post n x2 p1)
set_option maxHeartbeats 4000000 in
set_option maxRecDepth 100000 in
theorem bX8_power_F_54 {p : Program} {l : Launch} {e : Env} {s : State} {m : MethodId} {below : List Frame} {meth : Method} {c : Code} {D : va_G} {TY : Nat → ClassId} (h0 : Nat) (p1 : UInt64) (p3 : Int32) (post : UInt64 → Prop) (hx : p.tables.exec = Jvm.exec) (hb : c.code = cX8_power) (hr : meth.sig.returnType = (Option.some Jvm.ClassFile.FieldType.double)) (hlocks : meth.locks = false) (hml : c.maxLocals = 10) (hown : s.vm.findClass RX8 = some m.cls) (hts : ∀ w ∈ lw_all, w.before ([.ref h0, .double p1, .int p3] : List Value).toArray s = true) (hK : va_K D vwCl (tyL TY) s) (hG : gz (fun _ => False) s s.heap) (hS : va_S (fun _ => False) s.heap s.heap []) (hP : va_P D vwCl [(h0, .inr (2, []))] s.heap) : ∀ (n : Nat) (y4 : Int64) (y6 : UInt64) (y8 : UInt64), wX8_power_F_54 p3 post n y4 y6 y8 → ∀ ls : Array Slot, lv_has ls 10 [(0, .ref h0), (3, .int p3), (4, .long y4), (6, .double y6), (8, .double y8)] → W p l e (headSpec (ws_ yX8_power cX8_power 10 (Option.some Jvm.ClassFile.FieldType.double)) ({ frames := 2, cells := 0, slots := 0, locals := 47 })).room s m ([.ref h0, .double p1, .int p3] : List Value).toArray below meth c s.heap ([]) 0 0 (MQ below (vp_Sd post) ([.ref h0, .double p1, .int p3] : List Value).toArray s 0 0 (fun _ => False)) (F0 m 54 ls []) := by
  intro n
  induction n with
  | zero => intro _ _ _ h; exact h.elim
  | succ n ih =>
    intro y4 y6 y8 hw
    unfold wX8_power_F_54 at hw
    intro ls hl
    refine lv_lload hx hb dX8_power_54 (lv_at hl 2 rfl) ?_
    refine lv_lconst (v := 1) hx hb dX8_power_56 (by decide) ?_
    refine lx_lle (tgt := 112) hx hb dX8_power_57 dX8_power_58 (by decide) (fun c1 => ?_) (fun c1 => ?_)
    · replace hw := hw.2 c1
      refine lv_iload_n hx hb dX8_power_112 rfl (lv_at hl 1 rfl) ?_
      obtain ⟨PJx2, hPJx2⟩ : ∃ P : UInt64 → Prop, ∀ x2 : UInt64, P x2 ↔ ∀ ls : Array Slot, lv_has ls 10 [] → W p l e (headSpec (ws_ yX8_power cX8_power 10 (Option.some Jvm.ClassFile.FieldType.double)) ({ frames := 2, cells := 0, slots := 0, locals := 47 })).room s m ([.ref h0, .double p1, .int p3] : List Value).toArray below meth c s.heap ([]) 0 0 (MQ below (vp_Sd post) ([.ref h0, .double p1, .int p3] : List Value).toArray s 0 0 (fun _ => False)) (F0 m 130 ls [.double x2]) := ⟨_, fun _ => Iff.rfl⟩
      have hox2 := hw.1
      have hjx2 : ∀ x2 : UInt64, x2 = (if 0 ≤ p3 then y8 else (fX8_over_F FP.dconst1 y8)) → PJx2 x2 := by
        intro x2 ex2
        rw [hPJx2]
        intro ls hl
        replace hw := hw.2 x2 ex2
        exact W.dret (v := x2) hx hb hr (fun t ht hW => ⟨_, rfl, hw, ht⟩) (fun q h => nomatch h) dX8_power_130
      replace hjx2 := hjx2 _ rfl
      refine lv_if_ge (tgt := 128) hx hb dX8_power_113 (by decide) (fun c3 => ?_) (fun c3 => ?_)
      · replace hjx2 := pf_t (P := PJx2) c3 hjx2
        refine lv_dload hx hb dX8_power_128 (lv_at hl 4 rfl) ?_
        exact (hPJx2 _).1 hjx2 _ (lv_sub hl [] rfl)
      · replace hjx2 := pf_f (P := PJx2) c3 hjx2
        replace hox2 := hox2.2 c3
        refine lv_aload_n hx hb dX8_power_116 rfl (lv_at hl 0 rfl) ?_
        refine lv_dconst1 hx hb dX8_power_117 ?_
        refine lv_dload hx hb dX8_power_118 (lv_at hl 4 rfl) ?_
        refine cFSd (v := fX8_over_F FP.dconst1 y8) (runFD (As := [.double FP.dconst1, .double y8]) (rest := []) (hK.1 2 _ rfl).2 ⟨hx, hb, hml, hown, hts⟩ (mX8_over_F l D TY h0 FP.dconst1 y8 (fun r => r = fX8_over_F FP.dconst1 y8) rfl hox2) (lw_meth q456) rfl rfl rfl q450 q454 q1587 (gz_fw33 hG) (gz_df18 hG) hd_X8_over ⟨Nat.le_of_ble_eq_true rfl, Nat.le_of_ble_eq_true rfl⟩ (PR.V (q0 := 0) (ci := 2) hP [0] rfl hK hG hS rfl rfl) rfl rfl hl.1 rfl (lv_room (Nat.le_of_ble_eq_true rfl)) dX8_power_120 ⟨Nat.le_of_ble_eq_true rfl, Nat.le_of_ble_eq_true rfl⟩) ?_
        refine lv_goto (tgt := 130) hx hb dX8_power_125 (by decide) ?_
        exact (hPJx2 _).1 hjx2 _ (lv_sub hl [] rfl)
    · replace hw := hw.1 c1
      refine lv_aload_n hx hb dX8_power_61 rfl (lv_at hl 0 rfl) ?_
      refine lv_dload hx hb dX8_power_62 (lv_at hl 3 rfl) ?_
      refine lv_dload hx hb dX8_power_64 (lv_at hl 3 rfl) ?_
      refine cFSd (v := fX8_times_F y6 y6) (runFD (As := [.double y6, .double y6]) (rest := []) (hK.1 2 _ rfl).2 ⟨hx, hb, hml, hown, hts⟩ (mX8_times_F l D TY h0 y6 y6 (fun r => r = fX8_times_F y6 y6) rfl hw.1) (lw_meth q512) rfl rfl rfl q506 q510 q1587 (gz_fw38 hG) (gz_df22 hG) hd_X8_times ⟨Nat.le_of_ble_eq_true rfl, Nat.le_of_ble_eq_true rfl⟩ (PR.V (q0 := 0) (ci := 2) hP [0] rfl hK hG hS rfl rfl) rfl rfl hl.1 rfl (lv_room (Nat.le_of_ble_eq_true rfl)) dX8_power_66 ⟨Nat.le_of_ble_eq_true rfl, Nat.le_of_ble_eq_true rfl⟩) ?_
      replace hw := hw.2
      refine lv_topd (fun x4 ex4 => ?_)
      replace hw := hw x4 ex4
      refine lv_dstore (lv' := [(6, .double x4), (0, .ref h0), (3, .int p3), (4, .long y4), (8, .double y8)]) hx hb dX8_power_71 hl (by decide) rfl (fun ls hl => ?_)
      refine lv_lload hx hb dX8_power_73 (lv_at hl 3 rfl) ?_
      refine lv_ldc2 (v := 2) hx hb hown (hts _ q569) dX8_power_75 ?_
      refine lv_ldiv hx hb dX8_power_78 (by decide) ?_
      refine lv_topl (fun x5 ex5 => ?_)
      replace hw := hw x5 ex5
      refine lv_lstore (lv' := [(4, .long x5), (6, .double x4), (0, .ref h0), (3, .int p3), (8, .double y8)]) hx hb dX8_power_79 hl (by decide) rfl (fun ls hl => ?_)
      refine lv_lload hx hb dX8_power_81 (lv_at hl 0 rfl) ?_
      refine lv_ldc2 (v := 2) hx hb hown (hts _ q569) dX8_power_83 ?_
      refine lv_lrem hx hb dX8_power_86 (by decide) ?_
      refine lv_lconst (v := 1) hx hb dX8_power_87 (by decide) ?_
      obtain ⟨PJx6, hPJx6⟩ : ∃ P : UInt64 → Prop, ∀ x6 : UInt64, P x6 ↔ ∀ ls : Array Slot, lv_has ls 10 [(0, .ref h0), (3, .int p3), (4, .long x5), (6, .double x4)] → W p l e (headSpec (ws_ yX8_power cX8_power 10 (Option.some Jvm.ClassFile.FieldType.double)) ({ frames := 2, cells := 0, slots := 0, locals := 47 })).room s m ([.ref h0, .double p1, .int p3] : List Value).toArray below meth c s.heap ([]) 0 0 (MQ below (vp_Sd post) ([.ref h0, .double p1, .int p3] : List Value).toArray s 0 0 (fun _ => False)) (F0 m 107 ls [.double x6]) := ⟨_, fun _ => Iff.rfl⟩
      have hox6 := hw.1
      have hjx6 : ∀ x6 : UInt64, x6 = (if (klrem x5 2) = 1 then (fX8_times_F y8 x4) else y8) → PJx6 x6 := by
        intro x6 ex6
        rw [hPJx6]
        intro ls hl
        replace hw := hw.2 x6 ex6
        refine lv_dstore (lv' := [(8, .double x6), (0, .ref h0), (3, .int p3), (4, .long x5), (6, .double x4)]) hx hb dX8_power_107 hl (by decide) rfl (fun ls hl => ?_)
        refine lv_goto (tgt := 54) hx hb dX8_power_109 (by decide) ?_
        exact ih x5 x4 x6 hw _ (lv_sub hl [1, 2, 3, 4, 0] rfl)
      replace hjx6 := hjx6 _ rfl
      refine lx_lne (tgt := 105) hx hb dX8_power_88 dX8_power_89 (by decide) (fun c7 => ?_) (fun c7 => ?_)
      · replace hjx6 := pf_f (P := PJx6) c7 hjx6
        refine lv_dload hx hb dX8_power_105 (lv_at hl 4 rfl) ?_
        exact (hPJx6 _).1 hjx6 _ (lv_sub hl [2, 3, 0, 1] rfl)
      · replace hjx6 := pf_t (P := PJx6) c7 hjx6
        replace hox6 := hox6.1 c7
        refine lv_aload_n hx hb dX8_power_92 rfl (lv_at hl 2 rfl) ?_
        refine lv_dload hx hb dX8_power_93 (lv_at hl 4 rfl) ?_
        refine lv_dload hx hb dX8_power_95 (lv_at hl 1 rfl) ?_
        refine cFSd (v := fX8_times_F y8 x4) (runFD (As := [.double y8, .double x4]) (rest := []) (hK.1 2 _ rfl).2 ⟨hx, hb, hml, hown, hts⟩ (mX8_times_F l D TY h0 y8 x4 (fun r => r = fX8_times_F y8 x4) rfl hox6) (lw_meth q512) rfl rfl rfl q506 q510 q1587 (gz_fw38 hG) (gz_df22 hG) hd_X8_times ⟨Nat.le_of_ble_eq_true rfl, Nat.le_of_ble_eq_true rfl⟩ (PR.V (q0 := 0) (ci := 2) hP [0] rfl hK hG hS rfl rfl) rfl rfl hl.1 rfl (lv_room (Nat.le_of_ble_eq_true rfl)) dX8_power_97 ⟨Nat.le_of_ble_eq_true rfl, Nat.le_of_ble_eq_true rfl⟩) ?_
        refine lv_goto (tgt := 107) hx hb dX8_power_102 (by decide) ?_
        exact (hPJx6 _).1 hjx6 _ (lv_sub hl [2, 3, 0, 1] rfl)
set_option maxHeartbeats 4000000 in
set_option maxRecDepth 100000 in
theorem bX8_power_F_16 {p : Program} {l : Launch} {e : Env} {s : State} {m : MethodId} {below : List Frame} {meth : Method} {c : Code} {D : va_G} {TY : Nat → ClassId} (h0 : Nat) (p1 : UInt64) (p3 : Int32) (post : UInt64 → Prop) (hx : p.tables.exec = Jvm.exec) (hb : c.code = cX8_power) (hr : meth.sig.returnType = (Option.some Jvm.ClassFile.FieldType.double)) (hlocks : meth.locks = false) (hml : c.maxLocals = 10) (hown : s.vm.findClass RX8 = some m.cls) (hts : ∀ w ∈ lw_all, w.before ([.ref h0, .double p1, .int p3] : List Value).toArray s = true) (hK : va_K D vwCl (tyL TY) s) (hG : gz (fun _ => False) s s.heap) (hS : va_S (fun _ => False) s.heap s.heap []) (hP : va_P D vwCl [(h0, .inr (2, []))] s.heap) : ∀ (n : Nat) (y4 : Int64) (y6 : UInt64), wX8_power_F_16 p3 post n y4 y6 → ∀ ls : Array Slot, lv_has ls 10 [(0, .ref h0), (3, .int p3), (4, .long y4), (6, .double y6)] → W p l e (headSpec (ws_ yX8_power cX8_power 10 (Option.some Jvm.ClassFile.FieldType.double)) ({ frames := 2, cells := 0, slots := 0, locals := 47 })).room s m ([.ref h0, .double p1, .int p3] : List Value).toArray below meth c s.heap ([]) 0 0 (MQ below (vp_Sd post) ([.ref h0, .double p1, .int p3] : List Value).toArray s 0 0 (fun _ => False)) (F0 m 16 ls []) := by
  intro n
  induction n with
  | zero => intro _ _ h; exact h.elim
  | succ n ih =>
    intro y4 y6 hw
    unfold wX8_power_F_16 at hw
    intro ls hl
    refine lv_lload hx hb dX8_power_16 (lv_at hl 2 rfl) ?_
    refine lv_ldc2 (v := 2) hx hb hown (hts _ q569) dX8_power_18 ?_
    refine lv_lrem hx hb dX8_power_21 (by decide) ?_
    refine lv_lconst (v := 0) hx hb dX8_power_22 (by decide) ?_
    refine lx_lne (tgt := 50) hx hb dX8_power_23 dX8_power_24 (by decide) (fun c1 => ?_) (fun c1 => ?_)
    · replace hw := hw.2 c1
      refine lv_dload hx hb dX8_power_50 (lv_at hl 3 rfl) ?_
      refine lv_dstore (lv' := [(8, .double y6), (0, .ref h0), (3, .int p3), (4, .long y4), (6, .double y6)]) hx hb dX8_power_52 hl (by decide) rfl (fun ls hl => ?_)
      obtain ⟨n2, hw⟩ := hw
      exact bX8_power_F_54 h0 p1 p3 post  hx hb hr hlocks hml hown hts hK hG hS hP n2 y4 y6 y6 hw _ (lv_sub hl [1, 2, 3, 4, 0] rfl)
    · replace hw := hw.1 c1
      refine lv_aload_n hx hb dX8_power_27 rfl (lv_at hl 0 rfl) ?_
      refine lv_dload hx hb dX8_power_28 (lv_at hl 3 rfl) ?_
      refine lv_dload hx hb dX8_power_30 (lv_at hl 3 rfl) ?_
      refine cFSd (v := fX8_times_F y6 y6) (runFD (As := [.double y6, .double y6]) (rest := []) (hK.1 2 _ rfl).2 ⟨hx, hb, hml, hown, hts⟩ (mX8_times_F l D TY h0 y6 y6 (fun r => r = fX8_times_F y6 y6) rfl hw.1) (lw_meth q512) rfl rfl rfl q506 q510 q1587 (gz_fw38 hG) (gz_df22 hG) hd_X8_times ⟨Nat.le_of_ble_eq_true rfl, Nat.le_of_ble_eq_true rfl⟩ (PR.V (q0 := 0) (ci := 2) hP [0] rfl hK hG hS rfl rfl) rfl rfl hl.1 rfl (lv_room (Nat.le_of_ble_eq_true rfl)) dX8_power_32 ⟨Nat.le_of_ble_eq_true rfl, Nat.le_of_ble_eq_true rfl⟩) ?_
      replace hw := hw.2
      refine lv_topd (fun x3 ex3 => ?_)
      replace hw := hw x3 ex3
      refine lv_dstore (lv' := [(6, .double x3), (0, .ref h0), (3, .int p3), (4, .long y4)]) hx hb dX8_power_37 hl (by decide) rfl (fun ls hl => ?_)
      refine lv_lload hx hb dX8_power_39 (lv_at hl 3 rfl) ?_
      refine lv_ldc2 (v := 2) hx hb hown (hts _ q569) dX8_power_41 ?_
      refine lv_ldiv hx hb dX8_power_44 (by decide) ?_
      refine lv_topl (fun x4 ex4 => ?_)
      replace hw := hw x4 ex4
      refine lv_lstore (lv' := [(4, .long x4), (6, .double x3), (0, .ref h0), (3, .int p3)]) hx hb dX8_power_45 hl (by decide) rfl (fun ls hl => ?_)
      refine lv_goto (tgt := 16) hx hb dX8_power_47 (by decide) ?_
      exact ih x4 x3 hw _ (lv_sub hl [2, 3, 0, 1] rfl)
set_option maxHeartbeats 4000000 in
set_option maxRecDepth 100000 in
theorem mX8_power_F (l : Launch) (D : va_G) (TY : Nat → ClassId) (h0 : Nat) (p1 : UInt64) (p3 : Int32) (post : UInt64 → Prop) (hw : wX8_power_F p1 p3 post) : Met l yX8_power (ws_ yX8_power cX8_power 10 (Option.some Jvm.ClassFile.FieldType.double)) ({ frames := 2, cells := 0, slots := 0, locals := 47 }) (PR D TY [.ref h0, .double p1, .int p3] [(h0, .inr (2, []))]) (vp_Sd post) 0 0 (fun _ => False) := by
  refine ofWF (cc := cX8_power) (maxL := 10) (ret := (Option.some Jvm.ClassFile.FieldType.double)) (plainFor_of_name (by decide)) rfl ?_
  intro p e s m args below meth c s₁ B hml hv
  obtain ⟨rfl, hP, hK, hG⟩ := hv
  have hx := B.exec
  have hb := B.bytes
  have hr := B.returns
  have hts0 := atoms_spec (ws := ws_ yX8_power cX8_power 10 (Option.some Jvm.ClassFile.FieldType.double)) B.pre
  have hts : ∀ w ∈ lw_all, w.before _ s = true := fun w h => hts0 w (List.mem_cons_of_mem _ h)
  have hown : s.vm.findClass RX8 = some m.cls := findClass_of_methodNamed B.named
  have hlocks := B.notSynchronized
  have hS : va_S (fun _ => False) s.heap s.heap [] := va_S.rf
  have hl := lv_entry ([.ref h0, .double p1, .int p3]) (n := 10) (Nat.le_of_ble_eq_true rfl)
  rw [lg_entry_eq]
  generalize (lg_sl ([.ref h0, .double p1, .int p3]) ++ List.replicate (10 - (lg_sl ([.ref h0, .double p1, .int p3])).length) Slot.unset).toArray = ls at hl ⊢
  have hl : lv_has ls 10 [(0, .ref h0), (1, .double p1), (3, .int p3)] := hl
  unfold wX8_power_F at hw
  refine lv_iload_n hx hb dX8_power_0 rfl (lv_at hl 2 rfl) ?_
  refine lv_if_ne (tgt := 6) hx hb dX8_power_1 (by decide) (fun c1 => ?_) (fun c1 => ?_)
  · replace hw := hw.2 c1
    refine lv_iload_n hx hb dX8_power_6 rfl (lv_at hl 2 rfl) ?_
    refine lv_i2l (v := p3.toInt64) hx hb dX8_power_7 rfl ?_
    refine cSl (v := fJ2_abs_3 p3.toInt64) (W.runS (As := [.long p3.toInt64]) (rest := []) ⟨hx, hb, hml, hown, hts⟩ (mJ2_abs_3 l D TY p3.toInt64 (fun r => r = fJ2_abs_3 p3.toInt64) rfl) (va_cwS 1 hts (lw_S q566 q567 q54 q568) rfl rfl rfl hd_J2_abs_3 ⟨Nat.le_of_ble_eq_true rfl, Nat.le_of_ble_eq_true rfl⟩) (PR.S hP [] rfl hK hG hS) rfl rfl hl.1 rfl (lv_room (Nat.le_of_ble_eq_true rfl)) dX8_power_8 ⟨Nat.le_of_ble_eq_true rfl, Nat.le_of_ble_eq_true rfl⟩) ?_
    refine lv_topl (fun x2 ex2 => ?_)
    replace hw := hw x2 ex2
    refine lv_lstore (lv' := [(4, .long x2), (0, .ref h0), (1, .double p1), (3, .int p3)]) hx hb dX8_power_11 hl (by decide) rfl (fun ls hl => ?_)
    refine lv_dload_n hx hb dX8_power_13 rfl (lv_at hl 2 rfl) ?_
    refine lv_dstore (lv' := [(6, .double p1), (4, .long x2), (0, .ref h0), (1, .double p1), (3, .int p3)]) hx hb dX8_power_14 hl (by decide) rfl (fun ls hl => ?_)
    obtain ⟨n3, hw⟩ := hw
    exact bX8_power_F_16 h0 p1 p3 post  hx hb hr hlocks hml hown hts hK hG hS hP n3 x2 p1 hw _ (lv_sub hl [2, 4, 1, 0] rfl)
  · replace hw := hw.1 c1
    refine lv_dconst1 hx hb dX8_power_4 ?_
    exact W.dret (v := FP.dconst1) hx hb hr (fun t ht hW => ⟨_, rfl, hw, ht⟩) (fun q h => nomatch h) dX8_power_5
