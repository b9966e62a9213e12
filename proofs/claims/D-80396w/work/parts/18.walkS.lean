theorem hd_J2_max_2 : yJ2_max_2.cls ≠ "java/lang/invoke/MethodHandle" ∧ yJ2_max_2.cls ≠ "java/lang/invoke/VarHandle" ∧ (parseMethodDescriptor yJ2_max_2.desc).map (fun d => d.parameters.length) = some 2 := by decide +kernel
theorem hd_J3_numberOfLeadingZeros : yJ3_numberOfLeadingZeros.cls ≠ "java/lang/invoke/MethodHandle" ∧ yJ3_numberOfLeadingZeros.cls ≠ "java/lang/invoke/VarHandle" ∧ (parseMethodDescriptor yJ3_numberOfLeadingZeros.desc).map (fun d => d.parameters.length) = some 1 := by decide +kernel
theorem hd_X0_kept : yX0_kept.cls ≠ "java/lang/invoke/MethodHandle" ∧ yX0_kept.cls ≠ "java/lang/invoke/VarHandle" ∧ (parseMethodDescriptor yX0_kept.desc).map (fun d => d.parameters.length) = some 2 := by decide +kernel
def fX0_round_D (p1 : Int32) (p2 : Int64) (p4 : Int64) : UInt64 := lt_ (if p2 = 0 then FP.dconst0 else (lt_ ((p4 + 63) - ((fJ3_numberOfLeadingZeros p2).toInt64)) (fun x3 : Int64 => lt_ (fJ2_max_2 ((x3 - fX1_precision.toInt64) + 1) fX1_least.toInt64) (fun x4 : Int64 => lt_ (x4 - p4) (fun x5 : Int64 => if 2000 < x3 then 9218868437227405312 else (if 0 < x5 then (if 64 < x5 then FP.dconst0 else (lt_ (fX1_by (FP.l2d (fX0_kept p2 x5.toInt32)) x4.toInt32) (fun x9 : UInt64 => x9))) else (lt_ (fX1_by (FP.l2d p2) p4.toInt32) (fun x10 : UInt64 => x10)))))))) (fun x1 : UInt64 => lt_ (if p1 = 0 then x1 else (FP.dneg x1)) (fun x11 : UInt64 => x11))
def oX0_round_D (p2 : Int64) (p4 : Int64) : Prop := ((p2 = 0) → True) ∧ (¬ (p2 = 0) → ∀ x3 : Int64, x3 = (p4 + 63) - ((fJ3_numberOfLeadingZeros p2).toInt64) → ∀ x4 : Int64, x4 = fJ2_max_2 ((x3 - fX1_precision.toInt64) + 1) fX1_least.toInt64 → ∀ x5 : Int64, x5 = x4 - p4 → ((2000 < x3) → True) ∧ (¬ (2000 < x3) → ((0 < x5) → ((64 < x5) → True) ∧ (¬ (64 < x5) → (oX1_by (FP.l2d (fX0_kept p2 x5.toInt32))))) ∧ (¬ (0 < x5) → (oX1_by (FP.l2d p2)))))
set_option maxHeartbeats 4000000 in
set_option maxRecDepth 100000 in
theorem mX0_round_D (l : Launch) (D : va_G) (TY : Nat → ClassId) (h0 : Nat) (p1 : Int32) (p2 : Int64) (p4 : Int64) (post : UInt64 → Prop) (hw : post (fX0_round_D p1 p2 p4)) (hok : oX0_round_D p2 p4) : Met l yX0_round (ws_ yX0_round cX0_round 14 (Option.some Jvm.ClassFile.FieldType.double)) ({ frames := 4, cells := 0, slots := 0, locals := 86 }) (PR D TY [.ref h0, .int p1, .long p2, .long p4] [(h0, .inr (1, []))]) (vp_Sd post) 0 0 (fun _ => False) := by
  refine ofWF (cc := cX0_round) (maxL := 14) (ret := (Option.some Jvm.ClassFile.FieldType.double)) (plainFor_of_name (by decide)) rfl ?_
  intro p e s m args below meth c s₁ B hml hv
  obtain ⟨rfl, hP, hK, hG⟩ := hv
  have hx := B.exec
  have hb := B.bytes
  have hr := B.returns
  have hts0 := atoms_spec (ws := ws_ yX0_round cX0_round 14 (Option.some Jvm.ClassFile.FieldType.double)) B.pre
  have hts : ∀ w ∈ lw_all, w.before _ s = true := fun w h => hts0 w (List.mem_cons_of_mem _ h)
  have hown : s.vm.findClass RX0 = some m.cls := findClass_of_methodNamed B.named
  have hlocks := B.notSynchronized
  have hS : va_S (fun _ => False) s.heap s.heap [] := va_S.rf
  have hl := lv_entry ([.ref h0, .int p1, .long p2, .long p4]) (n := 14) (Nat.le_of_ble_eq_true rfl)
  rw [lg_entry_eq]
  generalize (lg_sl ([.ref h0, .int p1, .long p2, .long p4]) ++ List.replicate (14 - (lg_sl ([.ref h0, .int p1, .long p2, .long p4])).length) Slot.unset).toArray = ls at hl ⊢
  have hl : lv_has ls 14 [(0, .ref h0), (1, .int p1), (2, .long p2), (4, .long p4)] := hl
  unfold fX0_round_D at hw
  unfold oX0_round_D at hok
  refine lv_dconst0 hx hb dX0_round_0 ?_
  refine lv_dstore (lv' := [(6, .double FP.dconst0), (0, .ref h0), (1, .int p1), (2, .long p2), (4, .long p4)]) hx hb dX0_round_1 hl (by decide) rfl (fun ls hl => ?_)
  refine lv_lload_n hx hb dX0_round_3 rfl (lv_at hl 3 rfl) ?_
  refine lv_lconst (v := 0) hx hb dX0_round_4 (by decide) ?_
  obtain ⟨PJx1, hPJx1⟩ : ∃ P : UInt64 → Prop, ∀ x1 : UInt64, P x1 ↔ ∀ ls : Array Slot, lv_has ls 14 [(1, .int p1), (6, .double x1)] → W p l e (headSpec (ws_ yX0_round cX0_round 14 (Option.some Jvm.ClassFile.FieldType.double)) ({ frames := 4, cells := 0, slots := 0, locals := 86 })).room s m ([.ref h0, .int p1, .long p2, .long p4] : List Value).toArray below meth c s.heap ([]) 0 0 (MQ below (vp_Sd post) ([.ref h0, .int p1, .long p2, .long p4] : List Value).toArray s 0 0 (fun _ => False)) (F0 m 122 ls []) := ⟨_, fun _ => Iff.rfl⟩
  have hox1 := hok
  have hjx1 : ∀ x1 : UInt64, x1 = (if p2 = 0 then FP.dconst0 else (lt_ ((p4 + 63) - ((fJ3_numberOfLeadingZeros p2).toInt64)) (fun x3 : Int64 => lt_ (fJ2_max_2 ((x3 - fX1_precision.toInt64) + 1) fX1_least.toInt64) (fun x4 : Int64 => lt_ (x4 - p4) (fun x5 : Int64 => if 2000 < x3 then 9218868437227405312 else (if 0 < x5 then (if 64 < x5 then FP.dconst0 else (lt_ (fX1_by (FP.l2d (fX0_kept p2 x5.toInt32)) x4.toInt32) (fun x9 : UInt64 => x9))) else (lt_ (fX1_by (FP.l2d p2) p4.toInt32) (fun x10 : UInt64 => x10)))))))) → PJx1 x1 := by
    intro x1 ex1
    rw [hPJx1]
    intro ls hl
    replace hw := pf_let (P := post) hw x1 ex1
    refine lv_iload_n hx hb dX0_round_122 rfl (lv_at hl 0 rfl) ?_
    obtain ⟨PJx11, hPJx11⟩ : ∃ P : UInt64 → Prop, ∀ x11 : UInt64, P x11 ↔ ∀ ls : Array Slot, lv_has ls 14 [] → W p l e (headSpec (ws_ yX0_round cX0_round 14 (Option.some Jvm.ClassFile.FieldType.double)) ({ frames := 4, cells := 0, slots := 0, locals := 86 })).room s m ([.ref h0, .int p1, .long p2, .long p4] : List Value).toArray below meth c s.heap ([]) 0 0 (MQ below (vp_Sd post) ([.ref h0, .int p1, .long p2, .long p4] : List Value).toArray s 0 0 (fun _ => False)) (F0 m 134 ls [.double x11]) := ⟨_, fun _ => Iff.rfl⟩
    have hjx11 : ∀ x11 : UInt64, x11 = (if p1 = 0 then x1 else (FP.dneg x1)) → PJx11 x11 := by
      intro x11 ex11
      rw [hPJx11]
      intro ls hl
      replace hw := pf_let (P := post) hw x11 ex11
      exact W.dret (v := x11) hx hb hr (fun t ht hW => ⟨_, rfl, hw, ht⟩) (fun q h => nomatch h) dX0_round_134
    replace hjx11 := hjx11 _ rfl
    refine lv_if_eq (tgt := 132) hx hb dX0_round_123 (by decide) (fun c12 => ?_) (fun c12 => ?_)
    · replace hjx11 := pf_t (P := PJx11) c12 hjx11
      refine lv_dload hx hb dX0_round_132 (lv_at hl 1 rfl) ?_
      exact (hPJx11 _).1 hjx11 _ (lv_sub hl [] rfl)
    · replace hjx11 := pf_f (P := PJx11) c12 hjx11
      refine lv_dload hx hb dX0_round_126 (lv_at hl 1 rfl) ?_
      refine lv_dneg hx hb dX0_round_128 ?_
      refine lv_goto (tgt := 134) hx hb dX0_round_129 (by decide) ?_
      exact (hPJx11 _).1 hjx11 _ (lv_sub hl [] rfl)
  replace hjx1 := hjx1 _ rfl
  refine lx_leq (tgt := 122) hx hb dX0_round_5 dX0_round_6 (by decide) (fun c2 => ?_) (fun c2 => ?_)
  · replace hjx1 := pf_t (P := PJx1) c2 hjx1
    exact (hPJx1 _).1 hjx1 _ (lv_sub hl [2, 0] rfl)
  · replace hjx1 := pf_f (P := PJx1) c2 hjx1
    replace hox1 := hox1.2 c2
    refine lv_lload hx hb dX0_round_9 (lv_at hl 4 rfl) ?_
    refine lv_ldc2 (v := 63) hx hb hown (hts _ q205) dX0_round_11 ?_
    refine lv_ladd hx hb dX0_round_14 ?_
    refine lv_lload_n hx hb dX0_round_15 rfl (lv_at hl 3 rfl) ?_
    refine cSi (v := fJ3_numberOfLeadingZeros p2) (W.runS (As := [.long p2]) (rest := [.long (p4 + 63)]) ⟨hx, hb, hml, hown, hts⟩ (mJ3_numberOfLeadingZeros l D TY p2 (fun r => r = fJ3_numberOfLeadingZeros p2) rfl) (va_cwS 1 hts (lw_S q206 q207 q55 q208) rfl rfl rfl hd_J3_numberOfLeadingZeros ⟨Nat.le_of_ble_eq_true rfl, Nat.le_of_ble_eq_true rfl⟩) (PR.S hP [] rfl hK hG hS) rfl rfl hl.1 rfl (lv_room (Nat.le_of_ble_eq_true rfl)) dX0_round_16 ⟨Nat.le_of_ble_eq_true rfl, Nat.le_of_ble_eq_true rfl⟩) ?_
    refine lv_i2l (v := (fJ3_numberOfLeadingZeros p2).toInt64) hx hb dX0_round_19 rfl ?_
    refine lv_lsub hx hb dX0_round_20 ?_
    refine lv_topl (fun x3 ex3 => ?_)
    replace hjx1 := pf_let (P := PJx1) hjx1 x3 ex3
    replace hox1 := hox1 x3 ex3
    refine lv_lstore (lv' := [(8, .long x3), (6, .double FP.dconst0), (0, .ref h0), (1, .int p1), (2, .long p2), (4, .long p4)]) hx hb dX0_round_21 hl (by decide) rfl (fun ls hl => ?_)
    refine lv_lload hx hb dX0_round_23 (lv_at hl 0 rfl) ?_
    refine lv_aload_n hx hb dX0_round_25 rfl (lv_at hl 2 rfl) ?_
    refine cFSi (v := fX1_precision) (va_runF (As := []) (rest := [.long x3]) (hK.1 1 _ rfl).2 ⟨hx, hb, hml, hown, hts⟩ (mX1_precision l D TY h0 (fun r => r = fX1_precision) rfl) (va_cwF 0 hts (lw_F q214 q184 q186 q45 q188) rfl rfl rfl (gz_fw3 hG) hdF_precision ⟨Nat.le_of_ble_eq_true rfl, Nat.le_of_ble_eq_true rfl⟩) (PR.V (q0 := 0) (ci := 1) hP [0] rfl hK hG hS rfl rfl) rfl rfl hl.1 rfl (lv_room (Nat.le_of_ble_eq_true rfl)) dX0_round_26 ⟨Nat.le_of_ble_eq_true rfl, Nat.le_of_ble_eq_true rfl⟩) ?_
    refine lv_i2l (v := fX1_precision.toInt64) hx hb dX0_round_31 rfl ?_
    refine lv_lsub hx hb dX0_round_32 ?_
    refine lv_lconst (v := 1) hx hb dX0_round_33 (by decide) ?_
    refine lv_ladd hx hb dX0_round_34 ?_
    refine lv_aload_n hx hb dX0_round_35 rfl (lv_at hl 2 rfl) ?_
    refine cFSi (v := fX1_least) (va_runF (As := []) (rest := [.long ((x3 - fX1_precision.toInt64) + 1)]) (hK.1 1 _ rfl).2 ⟨hx, hb, hml, hown, hts⟩ (mX1_least l D TY h0 (fun r => r = fX1_least) rfl) (va_cwF 0 hts (lw_F q216 q219 q221 q45 q223) rfl rfl rfl (gz_fw4 hG) hdF_least ⟨Nat.le_of_ble_eq_true rfl, Nat.le_of_ble_eq_true rfl⟩) (PR.V (q0 := 0) (ci := 1) hP [0] rfl hK hG hS rfl rfl) rfl rfl hl.1 rfl (lv_room (Nat.le_of_ble_eq_true rfl)) dX0_round_36 ⟨Nat.le_of_ble_eq_true rfl, Nat.le_of_ble_eq_true rfl⟩) ?_
    refine lv_i2l (v := fX1_least.toInt64) hx hb dX0_round_41 rfl ?_
    refine cSl (v := fJ2_max_2 ((x3 - fX1_precision.toInt64) + 1) fX1_least.toInt64) (W.runS (As := [.long ((x3 - fX1_precision.toInt64) + 1), .long fX1_least.toInt64]) (rest := []) ⟨hx, hb, hml, hown, hts⟩ (mJ2_max_2 l D TY ((x3 - fX1_precision.toInt64) + 1) fX1_least.toInt64 (fun r => r = fJ2_max_2 ((x3 - fX1_precision.toInt64) + 1) fX1_least.toInt64) rfl) (va_cwS 2 hts (lw_S q229 q230 q54 q231) rfl rfl rfl hd_J2_max_2 ⟨Nat.le_of_ble_eq_true rfl, Nat.le_of_ble_eq_true rfl⟩) (PR.S hP [] rfl hK hG hS) rfl rfl hl.1 rfl (lv_room (Nat.le_of_ble_eq_true rfl)) dX0_round_42 ⟨Nat.le_of_ble_eq_true rfl, Nat.le_of_ble_eq_true rfl⟩) ?_
    refine lv_topl (fun x4 ex4 => ?_)
    replace hjx1 := pf_let (P := PJx1) hjx1 x4 ex4
    replace hox1 := hox1 x4 ex4
    refine lv_lstore (lv' := [(10, .long x4), (8, .long x3), (6, .double FP.dconst0), (0, .ref h0), (1, .int p1), (2, .long p2), (4, .long p4)]) hx hb dX0_round_45 hl (by decide) rfl (fun ls hl => ?_)
    refine lv_lload hx hb dX0_round_47 (lv_at hl 0 rfl) ?_
    refine lv_lload hx hb dX0_round_49 (lv_at hl 6 rfl) ?_
    refine lv_lsub hx hb dX0_round_51 ?_
    refine lv_topl (fun x5 ex5 => ?_)
    replace hjx1 := pf_let (P := PJx1) hjx1 x5 ex5
    replace hox1 := hox1 x5 ex5
    refine lv_lstore (lv' := [(12, .long x5), (10, .long x4), (8, .long x3), (6, .double FP.dconst0), (0, .ref h0), (1, .int p1), (2, .long p2), (4, .long p4)]) hx hb dX0_round_52 hl (by decide) rfl (fun ls hl => ?_)
    refine lv_lload hx hb dX0_round_54 (lv_at hl 2 rfl) ?_
    refine lv_ldc2 (v := 2000) hx hb hown (hts _ q232) dX0_round_56 ?_
    refine lx_lle (tgt := 71) hx hb dX0_round_59 dX0_round_60 (by decide) (fun c6 => ?_) (fun c6 => ?_)
    · replace hjx1 := pf_f (P := PJx1) c6 hjx1
      replace hox1 := hox1.2 c6
      refine lv_lload hx hb dX0_round_71 (lv_at hl 0 rfl) ?_
      refine lv_lconst (v := 0) hx hb dX0_round_73 (by decide) ?_
      refine lx_lgt (tgt := 94) hx hb dX0_round_74 dX0_round_75 (by decide) (fun c7 => ?_) (fun c7 => ?_)
      · replace hjx1 := pf_t (P := PJx1) c7 hjx1
        replace hox1 := hox1.1 c7
        refine lv_lload hx hb dX0_round_94 (lv_at hl 0 rfl) ?_
        refine lv_ldc2 (v := 64) hx hb hown (hts _ q255) dX0_round_96 ?_
        refine lx_lgt (tgt := 122) hx hb dX0_round_99 dX0_round_100 (by decide) (fun c8 => ?_) (fun c8 => ?_)
        · replace hjx1 := pf_t (P := PJx1) c8 hjx1
          exact (hPJx1 _).1 hjx1 _ (lv_sub hl [5, 3] rfl)
        · replace hjx1 := pf_f (P := PJx1) c8 hjx1
          replace hox1 := hox1.2 c8
          refine lv_aload_n hx hb dX0_round_103 rfl (lv_at hl 4 rfl) ?_
          refine lv_lload_n hx hb dX0_round_104 rfl (lv_at hl 6 rfl) ?_
          refine lv_lload hx hb dX0_round_105 (lv_at hl 0 rfl) ?_
          refine lv_l2i (v := x5.toInt32) hx hb dX0_round_107 rfl ?_
          refine cSl (v := fX0_kept p2 x5.toInt32) (W.runS (As := [.long p2, .int x5.toInt32]) (rest := [.ref h0]) ⟨hx, hb, hml, hown, hts⟩ (mX0_kept l D TY p2 x5.toInt32 (fun r => r = fX0_kept p2 x5.toInt32) rfl) (va_cwS 2 hts (lw_S q256 q257 q44 q258) rfl rfl rfl hd_X0_kept ⟨Nat.le_of_ble_eq_true rfl, Nat.le_of_ble_eq_true rfl⟩) (PR.S hP [] rfl hK hG hS) rfl rfl hl.1 rfl (lv_room (Nat.le_of_ble_eq_true rfl)) dX0_round_108 ⟨Nat.le_of_ble_eq_true rfl, Nat.le_of_ble_eq_true rfl⟩) ?_
          refine lv_l2d hx hb dX0_round_111 ?_
          refine lv_lload hx hb dX0_round_112 (lv_at hl 1 rfl) ?_
          refine lv_l2i (v := x4.toInt32) hx hb dX0_round_114 rfl ?_
          refine cFSd (v := fX1_by (FP.l2d (fX0_kept p2 x5.toInt32)) x4.toInt32) (va_runF (As := [.double (FP.l2d (fX0_kept p2 x5.toInt32)), .int x4.toInt32]) (rest := []) (hK.1 1 _ rfl).2 ⟨hx, hb, hml, hown, hts⟩ (mX1_by l D TY h0 (FP.l2d (fX0_kept p2 x5.toInt32)) x4.toInt32 (fun r => r = fX1_by (FP.l2d (fX0_kept p2 x5.toInt32)) x4.toInt32) rfl hox1) (va_cwF 2 hts (lw_F q235 q238 q240 q45 q242) rfl rfl rfl (gz_fw5 hG) hdF_by ⟨Nat.le_of_ble_eq_true rfl, Nat.le_of_ble_eq_true rfl⟩) (PR.V (q0 := 0) (ci := 1) hP [0] rfl hK hG hS rfl rfl) rfl rfl hl.1 rfl (lv_room (Nat.le_of_ble_eq_true rfl)) dX0_round_115 ⟨Nat.le_of_ble_eq_true rfl, Nat.le_of_ble_eq_true rfl⟩) ?_
          refine lv_topd (fun x9 ex9 => ?_)
          replace hjx1 := pf_let (P := PJx1) hjx1 x9 ex9
          refine lv_dstore (lv' := [(6, .double x9), (12, .long x5), (10, .long x4), (8, .long x3), (0, .ref h0), (1, .int p1), (2, .long p2), (4, .long p4)]) hx hb dX0_round_120 hl (by decide) rfl (fun ls hl => ?_)
          exact (hPJx1 _).1 hjx1 _ (lv_sub hl [5, 0] rfl)
      · replace hjx1 := pf_f (P := PJx1) c7 hjx1
        replace hox1 := hox1.2 c7
        refine lv_aload_n hx hb dX0_round_78 rfl (lv_at hl 4 rfl) ?_
        refine lv_lload_n hx hb dX0_round_79 rfl (lv_at hl 6 rfl) ?_
        refine lv_l2d hx hb dX0_round_80 ?_
        refine lv_lload hx hb dX0_round_81 (lv_at hl 7 rfl) ?_
        refine lv_l2i (v := p4.toInt32) hx hb dX0_round_83 rfl ?_
        refine cFSd (v := fX1_by (FP.l2d p2) p4.toInt32) (va_runF (As := [.double (FP.l2d p2), .int p4.toInt32]) (rest := []) (hK.1 1 _ rfl).2 ⟨hx, hb, hml, hown, hts⟩ (mX1_by l D TY h0 (FP.l2d p2) p4.toInt32 (fun r => r = fX1_by (FP.l2d p2) p4.toInt32) rfl hox1) (va_cwF 2 hts (lw_F q235 q238 q240 q45 q242) rfl rfl rfl (gz_fw5 hG) hdF_by ⟨Nat.le_of_ble_eq_true rfl, Nat.le_of_ble_eq_true rfl⟩) (PR.V (q0 := 0) (ci := 1) hP [0] rfl hK hG hS rfl rfl) rfl rfl hl.1 rfl (lv_room (Nat.le_of_ble_eq_true rfl)) dX0_round_84 ⟨Nat.le_of_ble_eq_true rfl, Nat.le_of_ble_eq_true rfl⟩) ?_
        refine lv_topd (fun x10 ex10 => ?_)
        replace hjx1 := pf_let (P := PJx1) hjx1 x10 ex10
        refine lv_dstore (lv' := [(6, .double x10), (12, .long x5), (10, .long x4), (8, .long x3), (0, .ref h0), (1, .int p1), (2, .long p2), (4, .long p4)]) hx hb dX0_round_89 hl (by decide) rfl (fun ls hl => ?_)
        refine lv_goto (tgt := 122) hx hb dX0_round_91 (by decide) ?_
        exact (hPJx1 _).1 hjx1 _ (lv_sub hl [5, 0] rfl)
    · replace hjx1 := pf_t (P := PJx1) c6 hjx1
      refine lv_ldc2d (v := 9218868437227405312) hx hb hown (hts _ q233) dX0_round_63 ?_
      refine lv_dstore (lv' := [(6, .double 9218868437227405312), (12, .long x5), (10, .long x4), (8, .long x3), (0, .ref h0), (1, .int p1), (2, .long p2), (4, .long p4)]) hx hb dX0_round_66 hl (by decide) rfl (fun ls hl => ?_)
      refine lv_goto (tgt := 122) hx hb dX0_round_68 (by decide) ?_
      exact (hPJx1 _).1 hjx1 _ (lv_sub hl [5, 0] rfl)

def fX0_round_F (p1 : Int32) (p2 : Int64) (p4 : Int64) : UInt64 := lt_ (if p2 = 0 then FP.dconst0 else (lt_ ((p4 + 63) - ((fJ3_numberOfLeadingZeros p2).toInt64)) (fun x3 : Int64 => lt_ (fJ2_max_2 ((x3 - fX2_precision.toInt64) + 1) fX2_least.toInt64) (fun x4 : Int64 => lt_ (x4 - p4) (fun x5 : Int64 => if 2000 < x3 then 9218868437227405312 else (if 0 < x5 then (if 64 < x5 then FP.dconst0 else (lt_ (fX2_by (FP.l2d (fX0_kept p2 x5.toInt32)) x4.toInt32) (fun x9 : UInt64 => x9))) else (lt_ (fX2_by (FP.l2d p2) p4.toInt32) (fun x10 : UInt64 => x10)))))))) (fun x1 : UInt64 => lt_ (if p1 = 0 then x1 else (FP.dneg x1)) (fun x11 : UInt64 => x11))
def oX0_round_F (p2 : Int64) (p4 : Int64) : Prop := ((p2 = 0) → True) ∧ (¬ (p2 = 0) → ∀ x3 : Int64, x3 = (p4 + 63) - ((fJ3_numberOfLeadingZeros p2).toInt64) → ∀ x4 : Int64, x4 = fJ2_max_2 ((x3 - fX2_precision.toInt64) + 1) fX2_least.toInt64 → ∀ x5 : Int64, x5 = x4 - p4 → ((2000 < x3) → True) ∧ (¬ (2000 < x3) → ((0 < x5) → ((64 < x5) → True) ∧ (¬ (64 < x5) → (oX2_by (FP.l2d (fX0_kept p2 x5.toInt32)) x4.toInt32))) ∧ (¬ (0 < x5) → (oX2_by (FP.l2d p2) p4.toInt32))))
set_option maxHeartbeats 4000000 in
set_option maxRecDepth 100000 in
theorem mX0_round_F (l : Launch) (D : va_G) (TY : Nat → ClassId) (h0 : Nat) (p1 : Int32) (p2 : Int64) (p4 : Int64) (post : UInt64 → Prop) (hw : post (fX0_round_F p1 p2 p4)) (hok : oX0_round_F p2 p4) : Met l yX0_round (ws_ yX0_round cX0_round 14 (Option.some Jvm.ClassFile.FieldType.double)) ({ frames := 5, cells := 0, slots := 0, locals := 109 }) (PR D TY [.ref h0, .int p1, .long p2, .long p4] [(h0, .inr (2, []))]) (vp_Sd post) 0 0 (fun _ => False) := by
  refine ofWF (cc := cX0_round) (maxL := 14) (ret := (Option.some Jvm.ClassFile.FieldType.double)) (plainFor_of_name (by decide)) rfl ?_
  intro p e s m args below meth c s₁ B hml hv
  obtain ⟨rfl, hP, hK, hG⟩ := hv
  have hx := B.exec
  have hb := B.bytes
  have hr := B.returns
  have hts0 := atoms_spec (ws := ws_ yX0_round cX0_round 14 (Option.some Jvm.ClassFile.FieldType.double)) B.pre
  have hts : ∀ w ∈ lw_all, w.before _ s = true := fun w h => hts0 w (List.mem_cons_of_mem _ h)
  have hown : s.vm.findClass RX0 = some m.cls := findClass_of_methodNamed B.named
  have hlocks := B.notSynchronized
  have hS : va_S (fun _ => False) s.heap s.heap [] := va_S.rf
  have hl := lv_entry ([.ref h0, .int p1, .long p2, .long p4]) (n := 14) (Nat.le_of_ble_eq_true rfl)
  rw [lg_entry_eq]
  generalize (lg_sl ([.ref h0, .int p1, .long p2, .long p4]) ++ List.replicate (14 - (lg_sl ([.ref h0, .int p1, .long p2, .long p4])).length) Slot.unset).toArray = ls at hl ⊢
  have hl : lv_has ls 14 [(0, .ref h0), (1, .int p1), (2, .long p2), (4, .long p4)] := hl
  unfold fX0_round_F at hw
  unfold oX0_round_F at hok
  refine lv_dconst0 hx hb dX0_round_0 ?_
  refine lv_dstore (lv' := [(6, .double FP.dconst0), (0, .ref h0), (1, .int p1), (2, .long p2), (4, .long p4)]) hx hb dX0_round_1 hl (by decide) rfl (fun ls hl => ?_)
  refine lv_lload_n hx hb dX0_round_3 rfl (lv_at hl 3 rfl) ?_
  refine lv_lconst (v := 0) hx hb dX0_round_4 (by decide) ?_
  obtain ⟨PJx1, hPJx1⟩ : ∃ P : UInt64 → Prop, ∀ x1 : UInt64, P x1 ↔ ∀ ls : Array Slot, lv_has ls 14 [(1, .int p1), (6, .double x1)] → W p l e (headSpec (ws_ yX0_round cX0_round 14 (Option.some Jvm.ClassFile.FieldType.double)) ({ frames := 5, cells := 0, slots := 0, locals := 109 })).room s m ([.ref h0, .int p1, .long p2, .long p4] : List Value).toArray below meth c s.heap ([]) 0 0 (MQ below (vp_Sd post) ([.ref h0, .int p1, .long p2, .long p4] : List Value).toArray s 0 0 (fun _ => False)) (F0 m 122 ls []) := ⟨_, fun _ => Iff.rfl⟩
  have hox1 := hok
  have hjx1 : ∀ x1 : UInt64, x1 = (if p2 = 0 then FP.dconst0 else (lt_ ((p4 + 63) - ((fJ3_numberOfLeadingZeros p2).toInt64)) (fun x3 : Int64 => lt_ (fJ2_max_2 ((x3 - fX2_precision.toInt64) + 1) fX2_least.toInt64) (fun x4 : Int64 => lt_ (x4 - p4) (fun x5 : Int64 => if 2000 < x3 then 9218868437227405312 else (if 0 < x5 then (if 64 < x5 then FP.dconst0 else (lt_ (fX2_by (FP.l2d (fX0_kept p2 x5.toInt32)) x4.toInt32) (fun x9 : UInt64 => x9))) else (lt_ (fX2_by (FP.l2d p2) p4.toInt32) (fun x10 : UInt64 => x10)))))))) → PJx1 x1 := by
    intro x1 ex1
    rw [hPJx1]
    intro ls hl
    replace hw := pf_let (P := post) hw x1 ex1
    refine lv_iload_n hx hb dX0_round_122 rfl (lv_at hl 0 rfl) ?_
    obtain ⟨PJx11, hPJx11⟩ : ∃ P : UInt64 → Prop, ∀ x11 : UInt64, P x11 ↔ ∀ ls : Array Slot, lv_has ls 14 [] → W p l e (headSpec (ws_ yX0_round cX0_round 14 (Option.some Jvm.ClassFile.FieldType.double)) ({ frames := 5, cells := 0, slots := 0, locals := 109 })).room s m ([.ref h0, .int p1, .long p2, .long p4] : List Value).toArray below meth c s.heap ([]) 0 0 (MQ below (vp_Sd post) ([.ref h0, .int p1, .long p2, .long p4] : List Value).toArray s 0 0 (fun _ => False)) (F0 m 134 ls [.double x11]) := ⟨_, fun _ => Iff.rfl⟩
    have hjx11 : ∀ x11 : UInt64, x11 = (if p1 = 0 then x1 else (FP.dneg x1)) → PJx11 x11 := by
      intro x11 ex11
      rw [hPJx11]
      intro ls hl
      replace hw := pf_let (P := post) hw x11 ex11
      exact W.dret (v := x11) hx hb hr (fun t ht hW => ⟨_, rfl, hw, ht⟩) (fun q h => nomatch h) dX0_round_134
    replace hjx11 := hjx11 _ rfl
    refine lv_if_eq (tgt := 132) hx hb dX0_round_123 (by decide) (fun c12 => ?_) (fun c12 => ?_)
    · replace hjx11 := pf_t (P := PJx11) c12 hjx11
      refine lv_dload hx hb dX0_round_132 (lv_at hl 1 rfl) ?_
      exact (hPJx11 _).1 hjx11 _ (lv_sub hl [] rfl)
    · replace hjx11 := pf_f (P := PJx11) c12 hjx11
      refine lv_dload hx hb dX0_round_126 (lv_at hl 1 rfl) ?_
      refine lv_dneg hx hb dX0_round_128 ?_
      refine lv_goto (tgt := 134) hx hb dX0_round_129 (by decide) ?_
      exact (hPJx11 _).1 hjx11 _ (lv_sub hl [] rfl)
  replace hjx1 := hjx1 _ rfl
  refine lx_leq (tgt := 122) hx hb dX0_round_5 dX0_round_6 (by decide) (fun c2 => ?_) (fun c2 => ?_)
  · replace hjx1 := pf_t (P := PJx1) c2 hjx1
    exact (hPJx1 _).1 hjx1 _ (lv_sub hl [2, 0] rfl)
  · replace hjx1 := pf_f (P := PJx1) c2 hjx1
    replace hox1 := hox1.2 c2
    refine lv_lload hx hb dX0_round_9 (lv_at hl 4 rfl) ?_
    refine lv_ldc2 (v := 63) hx hb hown (hts _ q205) dX0_round_11 ?_
    refine lv_ladd hx hb dX0_round_14 ?_
    refine lv_lload_n hx hb dX0_round_15 rfl (lv_at hl 3 rfl) ?_
    refine cSi (v := fJ3_numberOfLeadingZeros p2) (W.runS (As := [.long p2]) (rest := [.long (p4 + 63)]) ⟨hx, hb, hml, hown, hts⟩ (mJ3_numberOfLeadingZeros l D TY p2 (fun r => r = fJ3_numberOfLeadingZeros p2) rfl) (va_cwS 1 hts (lw_S q206 q207 q55 q208) rfl rfl rfl hd_J3_numberOfLeadingZeros ⟨Nat.le_of_ble_eq_true rfl, Nat.le_of_ble_eq_true rfl⟩) (PR.S hP [] rfl hK hG hS) rfl rfl hl.1 rfl (lv_room (Nat.le_of_ble_eq_true rfl)) dX0_round_16 ⟨Nat.le_of_ble_eq_true rfl, Nat.le_of_ble_eq_true rfl⟩) ?_
    refine lv_i2l (v := (fJ3_numberOfLeadingZeros p2).toInt64) hx hb dX0_round_19 rfl ?_
    refine lv_lsub hx hb dX0_round_20 ?_
    refine lv_topl (fun x3 ex3 => ?_)
    replace hjx1 := pf_let (P := PJx1) hjx1 x3 ex3
    replace hox1 := hox1 x3 ex3
    refine lv_lstore (lv' := [(8, .long x3), (6, .double FP.dconst0), (0, .ref h0), (1, .int p1), (2, .long p2), (4, .long p4)]) hx hb dX0_round_21 hl (by decide) rfl (fun ls hl => ?_)
    refine lv_lload hx hb dX0_round_23 (lv_at hl 0 rfl) ?_
    refine lv_aload_n hx hb dX0_round_25 rfl (lv_at hl 2 rfl) ?_
    refine cFSi (v := fX2_precision) (va_runF (As := []) (rest := [.long x3]) (hK.1 2 _ rfl).2 ⟨hx, hb, hml, hown, hts⟩ (mX2_precision l D TY h0 (fun r => r = fX2_precision) rfl) (va_cwF 0 hts (lw_F q214 q189 q191 q46 q193) rfl rfl rfl (gz_fw24 hG) hdF_precision ⟨Nat.le_of_ble_eq_true rfl, Nat.le_of_ble_eq_true rfl⟩) (PR.V (q0 := 0) (ci := 2) hP [0] rfl hK hG hS rfl rfl) rfl rfl hl.1 rfl (lv_room (Nat.le_of_ble_eq_true rfl)) dX0_round_26 ⟨Nat.le_of_ble_eq_true rfl, Nat.le_of_ble_eq_true rfl⟩) ?_
    refine lv_i2l (v := fX2_precision.toInt64) hx hb dX0_round_31 rfl ?_
    refine lv_lsub hx hb dX0_round_32 ?_
    refine lv_lconst (v := 1) hx hb dX0_round_33 (by decide) ?_
    refine lv_ladd hx hb dX0_round_34 ?_
    refine lv_aload_n hx hb dX0_round_35 rfl (lv_at hl 2 rfl) ?_
    refine cFSi (v := fX2_least) (va_runF (As := []) (rest := [.long ((x3 - fX2_precision.toInt64) + 1)]) (hK.1 2 _ rfl).2 ⟨hx, hb, hml, hown, hts⟩ (mX2_least l D TY h0 (fun r => r = fX2_least) rfl) (va_cwF 0 hts (lw_F q216 q224 q226 q46 q228) rfl rfl rfl (gz_fw25 hG) hdF_least ⟨Nat.le_of_ble_eq_true rfl, Nat.le_of_ble_eq_true rfl⟩) (PR.V (q0 := 0) (ci := 2) hP [0] rfl hK hG hS rfl rfl) rfl rfl hl.1 rfl (lv_room (Nat.le_of_ble_eq_true rfl)) dX0_round_36 ⟨Nat.le_of_ble_eq_true rfl, Nat.le_of_ble_eq_true rfl⟩) ?_
    refine lv_i2l (v := fX2_least.toInt64) hx hb dX0_round_41 rfl ?_
    refine cSl (v := fJ2_max_2 ((x3 - fX2_precision.toInt64) + 1) fX2_least.toInt64) (W.runS (As := [.long ((x3 - fX2_precision.toInt64) + 1), .long fX2_least.toInt64]) (rest := []) ⟨hx, hb, hml, hown, hts⟩ (mJ2_max_2 l D TY ((x3 - fX2_precision.toInt64) + 1) fX2_least.toInt64 (fun r => r = fJ2_max_2 ((x3 - fX2_precision.toInt64) + 1) fX2_least.toInt64) rfl) (va_cwS 2 hts (lw_S q229 q230 q54 q231) rfl rfl rfl hd_J2_max_2 ⟨Nat.le_of_ble_eq_true rfl, Nat.le_of_ble_eq_true rfl⟩) (PR.S hP [] rfl hK hG hS) rfl rfl hl.1 rfl (lv_room (Nat.le_of_ble_eq_true rfl)) dX0_round_42 ⟨Nat.le_of_ble_eq_true rfl, Nat.le_of_ble_eq_true rfl⟩) ?_
    refine lv_topl (fun x4 ex4 => ?_)
    replace hjx1 := pf_let (P := PJx1) hjx1 x4 ex4
    replace hox1 := hox1 x4 ex4
    refine lv_lstore (lv' := [(10, .long x4), (8, .long x3), (6, .double FP.dconst0), (0, .ref h0), (1, .int p1), (2, .long p2), (4, .long p4)]) hx hb dX0_round_45 hl (by decide) rfl (fun ls hl => ?_)
    refine lv_lload hx hb dX0_round_47 (lv_at hl 0 rfl) ?_
    refine lv_lload hx hb dX0_round_49 (lv_at hl 6 rfl) ?_
    refine lv_lsub hx hb dX0_round_51 ?_
    refine lv_topl (fun x5 ex5 => ?_)
    replace hjx1 := pf_let (P := PJx1) hjx1 x5 ex5
    replace hox1 := hox1 x5 ex5
    refine lv_lstore (lv' := [(12, .long x5), (10, .long x4), (8, .long x3), (6, .double FP.dconst0), (0, .ref h0), (1, .int p1), (2, .long p2), (4, .long p4)]) hx hb dX0_round_52 hl (by decide) rfl (fun ls hl => ?_)
    refine lv_lload hx hb dX0_round_54 (lv_at hl 2 rfl) ?_
    refine lv_ldc2 (v := 2000) hx hb hown (hts _ q232) dX0_round_56 ?_
    refine lx_lle (tgt := 71) hx hb dX0_round_59 dX0_round_60 (by decide) (fun c6 => ?_) (fun c6 => ?_)
    · replace hjx1 := pf_f (P := PJx1) c6 hjx1
      replace hox1 := hox1.2 c6
      refine lv_lload hx hb dX0_round_71 (lv_at hl 0 rfl) ?_
      refine lv_lconst (v := 0) hx hb dX0_round_73 (by decide) ?_
      refine lx_lgt (tgt := 94) hx hb dX0_round_74 dX0_round_75 (by decide) (fun c7 => ?_) (fun c7 => ?_)
      · replace hjx1 := pf_t (P := PJx1) c7 hjx1
        replace hox1 := hox1.1 c7
        refine lv_lload hx hb dX0_round_94 (lv_at hl 0 rfl) ?_
        refine lv_ldc2 (v := 64) hx hb hown (hts _ q255) dX0_round_96 ?_
        refine lx_lgt (tgt := 122) hx hb dX0_round_99 dX0_round_100 (by decide) (fun c8 => ?_) (fun c8 => ?_)
        · replace hjx1 := pf_t (P := PJx1) c8 hjx1
          exact (hPJx1 _).1 hjx1 _ (lv_sub hl [5, 3] rfl)
        · replace hjx1 := pf_f (P := PJx1) c8 hjx1
          replace hox1 := hox1.2 c8
          refine lv_aload_n hx hb dX0_round_103 rfl (lv_at hl 4 rfl) ?_
          refine lv_lload_n hx hb dX0_round_104 rfl (lv_at hl 6 rfl) ?_
          refine lv_lload hx hb dX0_round_105 (lv_at hl 0 rfl) ?_
          refine lv_l2i (v := x5.toInt32) hx hb dX0_round_107 rfl ?_
          refine cSl (v := fX0_kept p2 x5.toInt32) (W.runS (As := [.long p2, .int x5.toInt32]) (rest := [.ref h0]) ⟨hx, hb, hml, hown, hts⟩ (mX0_kept l D TY p2 x5.toInt32 (fun r => r = fX0_kept p2 x5.toInt32) rfl) (va_cwS 2 hts (lw_S q256 q257 q44 q258) rfl rfl rfl hd_X0_kept ⟨Nat.le_of_ble_eq_true rfl, Nat.le_of_ble_eq_true rfl⟩) (PR.S hP [] rfl hK hG hS) rfl rfl hl.1 rfl (lv_room (Nat.le_of_ble_eq_true rfl)) dX0_round_108 ⟨Nat.le_of_ble_eq_true rfl, Nat.le_of_ble_eq_true rfl⟩) ?_
          refine lv_l2d hx hb dX0_round_111 ?_
          refine lv_lload hx hb dX0_round_112 (lv_at hl 1 rfl) ?_
          refine lv_l2i (v := x4.toInt32) hx hb dX0_round_114 rfl ?_
          refine cFSd (v := fX2_by (FP.l2d (fX0_kept p2 x5.toInt32)) x4.toInt32) (va_runF (As := [.double (FP.l2d (fX0_kept p2 x5.toInt32)), .int x4.toInt32]) (rest := []) (hK.1 2 _ rfl).2 ⟨hx, hb, hml, hown, hts⟩ (mX2_by l D TY h0 (FP.l2d (fX0_kept p2 x5.toInt32)) x4.toInt32 (fun r => r = fX2_by (FP.l2d (fX0_kept p2 x5.toInt32)) x4.toInt32) rfl hox1) (va_cwF 2 hts (lw_F q235 q244 q246 q46 q248) rfl rfl rfl (gz_fw26 hG) hdF_by ⟨Nat.le_of_ble_eq_true rfl, Nat.le_of_ble_eq_true rfl⟩) (PR.V (q0 := 0) (ci := 2) hP [0] rfl hK hG hS rfl rfl) rfl rfl hl.1 rfl (lv_room (Nat.le_of_ble_eq_true rfl)) dX0_round_115 ⟨Nat.le_of_ble_eq_true rfl, Nat.le_of_ble_eq_true rfl⟩) ?_
          refine lv_topd (fun x9 ex9 => ?_)
          replace hjx1 := pf_let (P := PJx1) hjx1 x9 ex9
          refine lv_dstore (lv' := [(6, .double x9), (12, .long x5), (10, .long x4), (8, .long x3), (0, .ref h0), (1, .int p1), (2, .long p2), (4, .long p4)]) hx hb dX0_round_120 hl (by decide) rfl (fun ls hl => ?_)
          exact (hPJx1 _).1 hjx1 _ (lv_sub hl [5, 0] rfl)
      · replace hjx1 := pf_f (P := PJx1) c7 hjx1
        replace hox1 := hox1.2 c7
        refine lv_aload_n hx hb dX0_round_78 rfl (lv_at hl 4 rfl) ?_
        refine lv_lload_n hx hb dX0_round_79 rfl (lv_at hl 6 rfl) ?_
        refine lv_l2d hx hb dX0_round_80 ?_
        refine lv_lload hx hb dX0_round_81 (lv_at hl 7 rfl) ?_
        refine lv_l2i (v := p4.toInt32) hx hb dX0_round_83 rfl ?_
        refine cFSd (v := fX2_by (FP.l2d p2) p4.toInt32) (va_runF (As := [.double (FP.l2d p2), .int p4.toInt32]) (rest := []) (hK.1 2 _ rfl).2 ⟨hx, hb, hml, hown, hts⟩ (mX2_by l D TY h0 (FP.l2d p2) p4.toInt32 (fun r => r = fX2_by (FP.l2d p2) p4.toInt32) rfl hox1) (va_cwF 2 hts (lw_F q235 q244 q246 q46 q248) rfl rfl rfl (gz_fw26 hG) hdF_by ⟨Nat.le_of_ble_eq_true rfl, Nat.le_of_ble_eq_true rfl⟩) (PR.V (q0 := 0) (ci := 2) hP [0] rfl hK hG hS rfl rfl) rfl rfl hl.1 rfl (lv_room (Nat.le_of_ble_eq_true rfl)) dX0_round_84 ⟨Nat.le_of_ble_eq_true rfl, Nat.le_of_ble_eq_true rfl⟩) ?_
        refine lv_topd (fun x10 ex10 => ?_)
        replace hjx1 := pf_let (P := PJx1) hjx1 x10 ex10
        refine lv_dstore (lv' := [(6, .double x10), (12, .long x5), (10, .long x4), (8, .long x3), (0, .ref h0), (1, .int p1), (2, .long p2), (4, .long p4)]) hx hb dX0_round_89 hl (by decide) rfl (fun ls hl => ?_)
        refine lv_goto (tgt := 122) hx hb dX0_round_91 (by decide) ?_
        exact (hPJx1 _).1 hjx1 _ (lv_sub hl [5, 0] rfl)
    · replace hjx1 := pf_t (P := PJx1) c6 hjx1
      refine lv_ldc2d (v := 9218868437227405312) hx hb hown (hts _ q233) dX0_round_63 ?_
      refine lv_dstore (lv' := [(6, .double 9218868437227405312), (12, .long x5), (10, .long x4), (8, .long x3), (0, .ref h0), (1, .int p1), (2, .long p2), (4, .long p4)]) hx hb dX0_round_66 hl (by decide) rfl (fun ls hl => ?_)
      refine lv_goto (tgt := 122) hx hb dX0_round_68 (by decide) ?_
      exact (hPJx1 _).1 hjx1 _ (lv_sub hl [5, 0] rfl)

theorem hd_X0_round : yX0_round.cls ≠ "java/lang/invoke/MethodHandle" ∧ yX0_round.cls ≠ "java/lang/invoke/VarHandle" ∧ (parseMethodDescriptor yX0_round.desc).map (fun d => d.parameters.length) = some 4 := by decide +kernel
theorem hd_X0_sizeOf : yX0_sizeOf.cls ≠ "java/lang/invoke/MethodHandle" ∧ yX0_sizeOf.cls ≠ "java/lang/invoke/VarHandle" ∧ (parseMethodDescriptor yX0_sizeOf.desc).map (fun d => d.parameters.length) = some 1 := by decide +kernel
theorem hd_X0_squareTo : yX0_squareTo.cls ≠ "java/lang/invoke/MethodHandle" ∧ yX0_squareTo.cls ≠ "java/lang/invoke/VarHandle" ∧ (parseMethodDescriptor yX0_squareTo.desc).map (fun d => d.parameters.length) = some 2 := by decide +kernel
def wX0_root_D_111   (post : UInt64 → Prop) (y4 : Int64) (y6 : Int32) (y7 : Int64) : Prop := (∀ x1 : Int64, x1 = (if 0 ≤ (fX0_squareTo y7 y4) then (2 * y7) else ((2 * y7) + 1)) → (oX0_round_D x1 ((y6 - 28).toInt64)) ∧ (post (fX0_round_D 0 x1 ((y6 - 28).toInt64))))
def wX0_root_D_73   (post : UInt64 → Prop) : Nat → Int64 → Int32 → Int64 → Int64 → Prop
  | 0, _, _, _, _ => False
  | n + 1, y4, y6, y7, y9 => ((0 < y9) → (∀ x2 : Int64, x2 = (if 0 < (fX0_squareTo (y7 + y9) y4) then y7 else (lt_ (y7 + y9) (fun x4 : Int64 => x4))) → ∀ x5 : Int64, x5 = y9 / 2 → ((wX0_root_D_73 post n) y4 y6 x2 x5))) ∧ (¬ (0 < y9) → wX0_root_D_111 post y4 y6 y7)
def wX0_root_D (p1 : UInt64) (post : UInt64 → Prop) : Prop := ((Deq p1 FP.dconst0) → post p1) ∧ (¬ (Deq p1 FP.dconst0) → (((fX0_isEndless p1) = 0) → (oX0_exponentOf p1) ∧ (∀ x3 : Int32, x3 = (fX0_exponentOf p1) - 52 → ((((kirem x3 2) = 0) → (oX0_sizeOf p1)) ∧ (¬ ((kirem x3 2) = 0) → (oX0_sizeOf p1))) ∧ (∀ x4 : Int64, x4 = (if (kirem x3 2) = 0 then (fX0_sizeOf p1) else (2 * (fX0_sizeOf p1))) → (∀ x6 : Int32, x6 = (if (kirem x3 2) = 0 then (x3 / 2) else ((x3 - 1) / 2)) → ∃ n, wX0_root_D_73 post n x4 x6 0 9007199254740992)))) ∧ (¬ ((fX0_isEndless p1) = 0) → post p1))
set_option maxHeartbeats 4000000 in
set_option maxRecDepth 100000 in
theorem bX0_root_D_111 {p : Program} {l : Launch} {e : Env} {s : State} {m : MethodId} {below : List Frame} {meth : Method} {c : Code} {D : va_G} {TY : Nat → ClassId} (h0 : Nat) (p1 : UInt64) (post : UInt64 → Prop) (hx : p.tables.exec = Jvm.exec) (hb : c.code = cX0_root) (hr : meth.sig.returnType = (Option.some Jvm.ClassFile.FieldType.double)) (hlocks : meth.locks = false) (hml : c.maxLocals = 11) (hown : s.vm.findClass RX0 = some m.cls) (hts : ∀ w ∈ lw_all, w.before ([.ref h0, .double p1] : List Value).toArray s = true) (hK : va_K D vwCl (tyL TY) s) (hG : gz (fun _ => False) s s.heap) (hS : va_S (fun _ => False) s.heap s.heap []) (hP : va_P D vwCl [(h0, .inr (1, []))] s.heap) (y4 : Int64) (y6 : Int32) (y7 : Int64) (hw : wX0_root_D_111 post y4 y6 y7) : ∀ ls : Array Slot, lv_has ls 11 [(0, .ref h0), (4, .long y4), (6, .int y6), (7, .long y7)] → W p l e (headSpec (ws_ yX0_root cX0_root 11 (Option.some Jvm.ClassFile.FieldType.double)) ({ frames := 5, cells := 0, slots := 0, locals := 119 })).room s m ([.ref h0, .double p1] : List Value).toArray below meth c s.heap ([]) 0 0 (MQ below (vp_Sd post) ([.ref h0, .double p1] : List Value).toArray s 0 0 (fun _ => False)) (F0 m 111 ls []) := by
  intro ls hl
  unfold wX0_root_D_111 at hw
  refine lv_aload_n hx hb dX0_root_111 rfl (lv_at hl 0 rfl) ?_
  refine lv_iconst (v := 0) hx hb dX0_root_112 (by decide) ?_
  refine lv_lload hx hb dX0_root_113 (lv_at hl 3 rfl) ?_
  refine lv_lload hx hb dX0_root_115 (lv_at hl 1 rfl) ?_
  refine cSi (v := fX0_squareTo y7 y4) (W.runS (As := [.long y7, .long y4]) (rest := [.int 0, .ref h0]) ⟨hx, hb, hml, hown, hts⟩ (mX0_squareTo l D TY y7 y4 (fun r => r = fX0_squareTo y7 y4) rfl) (va_cwS 2 hts (lw_S q441 q442 q44 q443) rfl rfl rfl hd_X0_squareTo ⟨Nat.le_of_ble_eq_true rfl, Nat.le_of_ble_eq_true rfl⟩) (PR.S hP [] rfl hK hG hS) rfl rfl hl.1 rfl (lv_room (Nat.le_of_ble_eq_true rfl)) dX0_root_117 ⟨Nat.le_of_ble_eq_true rfl, Nat.le_of_ble_eq_true rfl⟩) ?_
  obtain ⟨PJx1, hPJx1⟩ : ∃ P : Int64 → Prop, ∀ x1 : Int64, P x1 ↔ ∀ ls : Array Slot, lv_has ls 11 [(6, .int y6)] → W p l e (headSpec (ws_ yX0_root cX0_root 11 (Option.some Jvm.ClassFile.FieldType.double)) ({ frames := 5, cells := 0, slots := 0, locals := 119 })).room s m ([.ref h0, .double p1] : List Value).toArray below meth c s.heap ([]) 0 0 (MQ below (vp_Sd post) ([.ref h0, .double p1] : List Value).toArray s 0 0 (fun _ => False)) (F0 m 140 ls [.long x1, .int 0, .ref h0]) := ⟨_, fun _ => Iff.rfl⟩
  have hjx1 : ∀ x1 : Int64, x1 = (if 0 ≤ (fX0_squareTo y7 y4) then (2 * y7) else ((2 * y7) + 1)) → PJx1 x1 := by
    intro x1 ex1
    rw [hPJx1]
    intro ls hl
    replace hw := hw x1 ex1
    refine lv_iload hx hb dX0_root_140 (lv_at hl 0 rfl) ?_
    refine lv_bipush (v := 28) hx hb dX0_root_142 (by decide) ?_
    refine lv_isub hx hb dX0_root_144 ?_
    refine lv_i2l (v := (y6 - 28).toInt64) hx hb dX0_root_145 rfl ?_
    refine cSd (v := fX0_round_D 0 x1 ((y6 - 28).toInt64)) (W.runS (As := [.ref h0, .int 0, .long x1, .long ((y6 - 28).toInt64)]) (rest := []) ⟨hx, hb, hml, hown, hts⟩ (mX0_round_D l D TY h0 0 x1 ((y6 - 28).toInt64) (fun r => r = fX0_round_D 0 x1 ((y6 - 28).toInt64)) rfl hw.1) (va_cwS 4 hts (lw_S q202 q203 q44 q204) rfl rfl rfl hd_X0_round ⟨Nat.le_of_ble_eq_true rfl, Nat.le_of_ble_eq_true rfl⟩) (PR.S hP [0] rfl hK hG hS) rfl rfl hl.1 rfl (lv_room (Nat.le_of_ble_eq_true rfl)) dX0_root_146 ⟨Nat.le_of_ble_eq_true rfl, Nat.le_of_ble_eq_true rfl⟩) ?_
    replace hw := hw.2
    exact W.dret (v := fX0_round_D 0 x1 ((y6 - 28).toInt64)) hx hb hr (fun t ht hW => ⟨_, rfl, hw, ht⟩) (fun q h => nomatch h) dX0_root_149
  replace hjx1 := hjx1 _ rfl
  refine lv_if_ge (tgt := 134) hx hb dX0_root_120 (by decide) (fun c2 => ?_) (fun c2 => ?_)
  · replace hjx1 := pf_t (P := PJx1) c2 hjx1
    refine lv_ldc2 (v := 2) hx hb hown (hts _ q439) dX0_root_134 ?_
    refine lv_lload hx hb dX0_root_137 (lv_at hl 3 rfl) ?_
    refine lv_lmul hx hb dX0_root_139 ?_
    exact (hPJx1 _).1 hjx1 _ (lv_sub hl [2] rfl)
  · replace hjx1 := pf_f (P := PJx1) c2 hjx1
    refine lv_ldc2 (v := 2) hx hb hown (hts _ q439) dX0_root_123 ?_
    refine lv_lload hx hb dX0_root_126 (lv_at hl 3 rfl) ?_
    refine lv_lmul hx hb dX0_root_128 ?_
    refine lv_lconst (v := 1) hx hb dX0_root_129 (by decide) ?_
    refine lv_ladd hx hb dX0_root_130 ?_
    refine lv_goto (tgt := 140) hx hb dX0_root_131 (by decide) ?_
    exact (hPJx1 _).1 hjx1 _ (lv_sub hl [2] rfl)
set_option maxHeartbeats 4000000 in
set_option maxRecDepth 100000 in
theorem bX0_root_D_73 {p : Program} {l : Launch} {e : Env} {s : State} {m : MethodId} {below : List Frame} {meth : Method} {c : Code} {D : va_G} {TY : Nat → ClassId} (h0 : Nat) (p1 : UInt64) (post : UInt64 → Prop) (hx : p.tables.exec = Jvm.exec) (hb : c.code = cX0_root) (hr : meth.sig.returnType = (Option.some Jvm.ClassFile.FieldType.double)) (hlocks : meth.locks = false) (hml : c.maxLocals = 11) (hown : s.vm.findClass RX0 = some m.cls) (hts : ∀ w ∈ lw_all, w.before ([.ref h0, .double p1] : List Value).toArray s = true) (hK : va_K D vwCl (tyL TY) s) (hG : gz (fun _ => False) s s.heap) (hS : va_S (fun _ => False) s.heap s.heap []) (hP : va_P D vwCl [(h0, .inr (1, []))] s.heap) : ∀ (n : Nat) (y4 : Int64) (y6 : Int32) (y7 : Int64) (y9 : Int64), wX0_root_D_73 post n y4 y6 y7 y9 → ∀ ls : Array Slot, lv_has ls 11 [(0, .ref h0), (4, .long y4), (6, .int y6), (7, .long y7), (9, .long y9)] → W p l e (headSpec (ws_ yX0_root cX0_root 11 (Option.some Jvm.ClassFile.FieldType.double)) ({ frames := 5, cells := 0, slots := 0, locals := 119 })).room s m ([.ref h0, .double p1] : List Value).toArray below meth c s.heap ([]) 0 0 (MQ below (vp_Sd post) ([.ref h0, .double p1] : List Value).toArray s 0 0 (fun _ => False)) (F0 m 73 ls []) := by
  intro n
  induction n with
  | zero => intro _ _ _ _ h; exact h.elim
  | succ n ih =>
    intro y4 y6 y7 y9 hw
    unfold wX0_root_D_73 at hw
    intro ls hl
    refine lv_lload hx hb dX0_root_73 (lv_at hl 4 rfl) ?_
    refine lv_lconst (v := 0) hx hb dX0_root_75 (by decide) ?_
    refine lx_lle (tgt := 111) hx hb dX0_root_76 dX0_root_77 (by decide) (fun c1 => ?_) (fun c1 => ?_)
    · replace hw := hw.2 c1
      exact bX0_root_D_111 h0 p1 post  hx hb hr hlocks hml hown hts hK hG hS hP y4 y6 y7 hw _ (lv_sub hl [0, 1, 2, 3] rfl)
    · replace hw := hw.1 c1
      refine lv_lload hx hb dX0_root_80 (lv_at hl 3 rfl) ?_
      refine lv_lload hx hb dX0_root_82 (lv_at hl 4 rfl) ?_
      refine lv_ladd hx hb dX0_root_84 ?_
      refine lv_lload hx hb dX0_root_85 (lv_at hl 1 rfl) ?_
      refine cSi (v := fX0_squareTo (y7 + y9) y4) (W.runS (As := [.long (y7 + y9), .long y4]) (rest := []) ⟨hx, hb, hml, hown, hts⟩ (mX0_squareTo l D TY (y7 + y9) y4 (fun r => r = fX0_squareTo (y7 + y9) y4) rfl) (va_cwS 2 hts (lw_S q441 q442 q44 q443) rfl rfl rfl hd_X0_squareTo ⟨Nat.le_of_ble_eq_true rfl, Nat.le_of_ble_eq_true rfl⟩) (PR.S hP [] rfl hK hG hS) rfl rfl hl.1 rfl (lv_room (Nat.le_of_ble_eq_true rfl)) dX0_root_87 ⟨Nat.le_of_ble_eq_true rfl, Nat.le_of_ble_eq_true rfl⟩) ?_
      obtain ⟨PJx2, hPJx2⟩ : ∃ P : Int64 → Prop, ∀ x2 : Int64, P x2 ↔ ∀ ls : Array Slot, lv_has ls 11 [(0, .ref h0), (4, .long y4), (6, .int y6), (7, .long x2), (9, .long y9)] → W p l e (headSpec (ws_ yX0_root cX0_root 11 (Option.some Jvm.ClassFile.FieldType.double)) ({ frames := 5, cells := 0, slots := 0, locals := 119 })).room s m ([.ref h0, .double p1] : List Value).toArray below meth c s.heap ([]) 0 0 (MQ below (vp_Sd post) ([.ref h0, .double p1] : List Value).toArray s 0 0 (fun _ => False)) (F0 m 100 ls []) := ⟨_, fun _ => Iff.rfl⟩
      have hjx2 : ∀ x2 : Int64, x2 = (if 0 < (fX0_squareTo (y7 + y9) y4) then y7 else (lt_ (y7 + y9) (fun x4 : Int64 => x4))) → PJx2 x2 := by
        intro x2 ex2
        rw [hPJx2]
        intro ls hl
        replace hw := hw x2 ex2
        refine lv_lload hx hb dX0_root_100 (lv_at hl 4 rfl) ?_
        refine lv_ldc2 (v := 2) hx hb hown (hts _ q439) dX0_root_102 ?_
        refine lv_ldiv hx hb dX0_root_105 (by decide) ?_
        refine lv_topl (fun x5 ex5 => ?_)
        replace hw := hw x5 ex5
        refine lv_lstore (lv' := [(9, .long x5), (0, .ref h0), (4, .long y4), (6, .int y6), (7, .long x2)]) hx hb dX0_root_106 hl (by decide) rfl (fun ls hl => ?_)
        refine lv_goto (tgt := 73) hx hb dX0_root_108 (by decide) ?_
        exact ih y4 y6 x2 x5 hw _ (lv_sub hl [1, 2, 3, 4, 0] rfl)
      replace hjx2 := hjx2 _ rfl
      refine lv_if_gt (tgt := 100) hx hb dX0_root_90 (by decide) (fun c3 => ?_) (fun c3 => ?_)
      · replace hjx2 := pf_t (P := PJx2) c3 hjx2
        exact (hPJx2 _).1 hjx2 _ (lv_sub hl [0, 1, 2, 3, 4] rfl)
      · replace hjx2 := pf_f (P := PJx2) c3 hjx2
        refine lv_lload hx hb dX0_root_93 (lv_at hl 3 rfl) ?_
        refine lv_lload hx hb dX0_root_95 (lv_at hl 4 rfl) ?_
        refine lv_ladd hx hb dX0_root_97 ?_
        refine lv_topl (fun x4 ex4 => ?_)
        replace hjx2 := pf_let (P := PJx2) hjx2 x4 ex4
        refine lv_lstore (lv' := [(7, .long x4), (0, .ref h0), (4, .long y4), (6, .int y6), (9, .long y9)]) hx hb dX0_root_98 hl (by decide) rfl (fun ls hl => ?_)
        exact (hPJx2 _).1 hjx2 _ (lv_sub hl [1, 2, 3, 0, 4] rfl)
set_option maxHeartbeats 4000000 in
set_option maxRecDepth 100000 in
theorem mX0_root_D (l : Launch) (D : va_G) (TY : Nat → ClassId) (h0 : Nat) (p1 : UInt64) (post : UInt64 → Prop) (hw : wX0_root_D p1 post) : Met l yX0_root (ws_ yX0_root cX0_root 11 (Option.some Jvm.ClassFile.FieldType.double)) ({ frames := 5, cells := 0, slots := 0, locals := 119 }) (PR D TY [.ref h0, .double p1] [(h0, .inr (1, []))]) (vp_Sd post) 0 0 (fun _ => False) := by
  refine ofWF (cc := cX0_root) (maxL := 11) (ret := (Option.some Jvm.ClassFile.FieldType.double)) (plainFor_of_name (by decide)) rfl ?_
  intro p e s m args below meth c s₁ B hml hv
  obtain ⟨rfl, hP, hK, hG⟩ := hv
  have hx := B.exec
  have hb := B.bytes
  have hr := B.returns
  have hts0 := atoms_spec (ws := ws_ yX0_root cX0_root 11 (Option.some Jvm.ClassFile.FieldType.double)) B.pre
  have hts : ∀ w ∈ lw_all, w.before _ s = true := fun w h => hts0 w (List.mem_cons_of_mem _ h)
  have hown : s.vm.findClass RX0 = some m.cls := findClass_of_methodNamed B.named
  have hlocks := B.notSynchronized
  have hS : va_S (fun _ => False) s.heap s.heap [] := va_S.rf
  have hl := lv_entry ([.ref h0, .double p1]) (n := 11) (Nat.le_of_ble_eq_true rfl)
  rw [lg_entry_eq]
  generalize (lg_sl ([.ref h0, .double p1]) ++ List.replicate (11 - (lg_sl ([.ref h0, .double p1])).length) Slot.unset).toArray = ls at hl ⊢
  have hl : lv_has ls 11 [(0, .ref h0), (1, .double p1)] := hl
  unfold wX0_root_D at hw
  refine lv_dload_n hx hb dX0_root_0 rfl (lv_at hl 1 rfl) ?_
  refine lv_dconst0 hx hb dX0_root_1 ?_
  refine lx_dleq (tgt := 13) hx hb dX0_root_2 dX0_root_3 (by decide) (fun c1 => ?_) (fun c1 => ?_)
  · replace hw := hw.1 c1
    refine lv_dload_n hx hb dX0_root_13 rfl (lv_at hl 1 rfl) ?_
    exact W.dret (v := p1) hx hb hr (fun t ht hW => ⟨_, rfl, hw, ht⟩) (fun q h => nomatch h) dX0_root_14
  · replace hw := hw.2 c1
    refine lv_dload_n hx hb dX0_root_6 rfl (lv_at hl 1 rfl) ?_
    refine cSi (v := fX0_isEndless p1) (W.runS (As := [.double p1]) (rest := []) ⟨hx, hb, hml, hown, hts⟩ (mX0_isEndless l D TY p1 (fun r => r = fX0_isEndless p1) rfl) (va_cwS 1 hts (lw_S q434 q136 q44 q137) rfl rfl rfl hd_X0_isEndless ⟨Nat.le_of_ble_eq_true rfl, Nat.le_of_ble_eq_true rfl⟩) (PR.S hP [] rfl hK hG hS) rfl rfl hl.1 rfl (lv_room (Nat.le_of_ble_eq_true rfl)) dX0_root_7 ⟨Nat.le_of_ble_eq_true rfl, Nat.le_of_ble_eq_true rfl⟩) ?_
    refine lv_if_eq (tgt := 15) hx hb dX0_root_10 (by decide) (fun c2 => ?_) (fun c2 => ?_)
    · replace hw := hw.1 c2
      refine lv_dload_n hx hb dX0_root_15 rfl (lv_at hl 1 rfl) ?_
      refine cSi (v := fX0_exponentOf p1) (W.runS (As := [.double p1]) (rest := []) ⟨hx, hb, hml, hown, hts⟩ (mX0_exponentOf l D TY p1 (fun r => r = fX0_exponentOf p1) rfl hw.1) (va_cwS 1 hts (lw_S q303 q150 q44 q151) rfl rfl rfl hd_X0_exponentOf ⟨Nat.le_of_ble_eq_true rfl, Nat.le_of_ble_eq_true rfl⟩) (PR.S hP [] rfl hK hG hS) rfl rfl hl.1 rfl (lv_room (Nat.le_of_ble_eq_true rfl)) dX0_root_16 ⟨Nat.le_of_ble_eq_true rfl, Nat.le_of_ble_eq_true rfl⟩) ?_
      replace hw := hw.2
      refine lv_bipush (v := 52) hx hb dX0_root_19 (by decide) ?_
      refine lv_isub hx hb dX0_root_21 ?_
      refine lv_topi (fun x3 ex3 => ?_)
      replace hw := hw x3 ex3
      refine lv_istore_n (lv' := [(3, .int x3), (0, .ref h0), (1, .double p1)]) hx hb dX0_root_22 rfl hl (by decide) rfl (fun ls hl => ?_)
      refine lv_iload_n hx hb dX0_root_23 rfl (lv_at hl 0 rfl) ?_
      refine lv_iconst (v := 2) hx hb dX0_root_24 (by decide) ?_
      refine lv_irem hx hb dX0_root_25 (by decide) ?_
      obtain ⟨PJx4, hPJx4⟩ : ∃ P : Int64 → Prop, ∀ x4 : Int64, P x4 ↔ ∀ ls : Array Slot, lv_has ls 11 [(0, .ref h0), (3, .int x3)] → W p l e (headSpec (ws_ yX0_root cX0_root 11 (Option.some Jvm.ClassFile.FieldType.double)) ({ frames := 5, cells := 0, slots := 0, locals := 119 })).room s m ([.ref h0, .double p1] : List Value).toArray below meth c s.heap ([]) 0 0 (MQ below (vp_Sd post) ([.ref h0, .double p1] : List Value).toArray s 0 0 (fun _ => False)) (F0 m 44 ls [.long x4]) := ⟨_, fun _ => Iff.rfl⟩
      have hox4 := hw.1
      have hjx4 : ∀ x4 : Int64, x4 = (if (kirem x3 2) = 0 then (fX0_sizeOf p1) else (2 * (fX0_sizeOf p1))) → PJx4 x4 := by
        intro x4 ex4
        rw [hPJx4]
        intro ls hl
        replace hw := hw.2 x4 ex4
        refine lv_lstore (lv' := [(4, .long x4), (0, .ref h0), (3, .int x3)]) hx hb dX0_root_44 hl (by decide) rfl (fun ls hl => ?_)
        refine lv_iload_n hx hb dX0_root_46 rfl (lv_at hl 2 rfl) ?_
        refine lv_iconst (v := 2) hx hb dX0_root_47 (by decide) ?_
        refine lv_irem hx hb dX0_root_48 (by decide) ?_
        obtain ⟨PJx6, hPJx6⟩ : ∃ P : Int32 → Prop, ∀ x6 : Int32, P x6 ↔ ∀ ls : Array Slot, lv_has ls 11 [(0, .ref h0), (4, .long x4)] → W p l e (headSpec (ws_ yX0_root cX0_root 11 (Option.some Jvm.ClassFile.FieldType.double)) ({ frames := 5, cells := 0, slots := 0, locals := 119 })).room s m ([.ref h0, .double p1] : List Value).toArray below meth c s.heap ([]) 0 0 (MQ below (vp_Sd post) ([.ref h0, .double p1] : List Value).toArray s 0 0 (fun _ => False)) (F0 m 63 ls [.int x6]) := ⟨_, fun _ => Iff.rfl⟩
        have hjx6 : ∀ x6 : Int32, x6 = (if (kirem x3 2) = 0 then (x3 / 2) else ((x3 - 1) / 2)) → PJx6 x6 := by
          intro x6 ex6
          rw [hPJx6]
          intro ls hl
          replace hw := hw x6 ex6
          refine lv_istore (lv' := [(6, .int x6), (0, .ref h0), (4, .long x4)]) hx hb dX0_root_63 hl (by decide) rfl (fun ls hl => ?_)
          refine lv_lconst (v := 0) hx hb dX0_root_65 (by decide) ?_
          refine lv_lstore (lv' := [(7, .long 0), (6, .int x6), (0, .ref h0), (4, .long x4)]) hx hb dX0_root_66 hl (by decide) rfl (fun ls hl => ?_)
          refine lv_ldc2 (v := 9007199254740992) hx hb hown (hts _ q440) dX0_root_68 ?_
          refine lv_lstore (lv' := [(9, .long 9007199254740992), (7, .long 0), (6, .int x6), (0, .ref h0), (4, .long x4)]) hx hb dX0_root_71 hl (by decide) rfl (fun ls hl => ?_)
          obtain ⟨n8, hw⟩ := hw
          exact bX0_root_D_73 h0 p1 post  hx hb hr hlocks hml hown hts hK hG hS hP n8 x4 x6 0 9007199254740992 hw _ (lv_sub hl [3, 4, 2, 1, 0] rfl)
        replace hjx6 := hjx6 _ rfl
        refine lv_if_ne (tgt := 58) hx hb dX0_root_49 (by decide) (fun c7 => ?_) (fun c7 => ?_)
        · replace hjx6 := pf_f (P := PJx6) c7 hjx6
          refine lv_iload_n hx hb dX0_root_58 rfl (lv_at hl 2 rfl) ?_
          refine lv_iconst (v := 1) hx hb dX0_root_59 (by decide) ?_
          refine lv_isub hx hb dX0_root_60 ?_
          refine lv_iconst (v := 2) hx hb dX0_root_61 (by decide) ?_
          refine lv_idiv hx hb dX0_root_62 (by decide) ?_
          exact (hPJx6 _).1 hjx6 _ (lv_sub hl [1, 0] rfl)
        · replace hjx6 := pf_t (P := PJx6) c7 hjx6
          refine lv_iload_n hx hb dX0_root_52 rfl (lv_at hl 2 rfl) ?_
          refine lv_iconst (v := 2) hx hb dX0_root_53 (by decide) ?_
          refine lv_idiv hx hb dX0_root_54 (by decide) ?_
          refine lv_goto (tgt := 63) hx hb dX0_root_55 (by decide) ?_
          exact (hPJx6 _).1 hjx6 _ (lv_sub hl [1, 0] rfl)
      replace hjx4 := hjx4 _ rfl
      refine lv_if_ne (tgt := 36) hx hb dX0_root_26 (by decide) (fun c5 => ?_) (fun c5 => ?_)
      · replace hjx4 := pf_f (P := PJx4) c5 hjx4
        replace hox4 := hox4.2 c5
        refine lv_ldc2 (v := 2) hx hb hown (hts _ q439) dX0_root_36 ?_
        refine lv_dload_n hx hb dX0_root_39 rfl (lv_at hl 2 rfl) ?_
        refine cSl (v := fX0_sizeOf p1) (W.runS (As := [.double p1]) (rest := [.long 2]) ⟨hx, hb, hml, hown, hts⟩ (mX0_sizeOf l D TY p1 (fun r => r = fX0_sizeOf p1) rfl hox4) (va_cwS 1 hts (lw_S q435 q436 q44 q437) rfl rfl rfl hd_X0_sizeOf ⟨Nat.le_of_ble_eq_true rfl, Nat.le_of_ble_eq_true rfl⟩) (PR.S hP [] rfl hK hG hS) rfl rfl hl.1 rfl (lv_room (Nat.le_of_ble_eq_true rfl)) dX0_root_40 ⟨Nat.le_of_ble_eq_true rfl, Nat.le_of_ble_eq_true rfl⟩) ?_
        refine lv_lmul hx hb dX0_root_43 ?_
        exact (hPJx4 _).1 hjx4 _ (lv_sub hl [1, 0] rfl)
      · replace hjx4 := pf_t (P := PJx4) c5 hjx4
        replace hox4 := hox4.1 c5
        refine lv_dload_n hx hb dX0_root_29 rfl (lv_at hl 2 rfl) ?_
        refine cSl (v := fX0_sizeOf p1) (W.runS (As := [.double p1]) (rest := []) ⟨hx, hb, hml, hown, hts⟩ (mX0_sizeOf l D TY p1 (fun r => r = fX0_sizeOf p1) rfl hox4) (va_cwS 1 hts (lw_S q435 q436 q44 q437) rfl rfl rfl hd_X0_sizeOf ⟨Nat.le_of_ble_eq_true rfl, Nat.le_of_ble_eq_true rfl⟩) (PR.S hP [] rfl hK hG hS) rfl rfl hl.1 rfl (lv_room (Nat.le_of_ble_eq_true rfl)) dX0_root_30 ⟨Nat.le_of_ble_eq_true rfl, Nat.le_of_ble_eq_true rfl⟩) ?_
        refine lv_goto (tgt := 44) hx hb dX0_root_33 (by decide) ?_
        exact (hPJx4 _).1 hjx4 _ (lv_sub hl [1, 0] rfl)
    · replace hw := hw.2 c2
      refine lv_dload_n hx hb dX0_root_13 rfl (lv_at hl 1 rfl) ?_
      exact W.dret (v := p1) hx hb hr (fun t ht hW => ⟨_, rfl, hw, ht⟩) (fun q h => nomatch h) dX0_root_14

def wX0_root_F_111   (post : UInt64 → Prop) (y4 : Int64) (y6 : Int32) (y7 : Int64) : Prop := (∀ x1 : Int64, x1 = (if 0 ≤ (fX0_squareTo y7 y4) then (2 * y7) else ((2 * y7) + 1)) → (oX0_round_F x1 ((y6 - 28).toInt64)) ∧ (post (fX0_round_F 0 x1 ((y6 - 28).toInt64))))
def wX0_root_F_73   (post : UInt64 → Prop) : Nat → Int64 → Int32 → Int64 → Int64 → Prop
  | 0, _, _, _, _ => False
  | n + 1, y4, y6, y7, y9 => ((0 < y9) → (∀ x2 : Int64, x2 = (if 0 < (fX0_squareTo (y7 + y9) y4) then y7 else (lt_ (y7 + y9) (fun x4 : Int64 => x4))) → ∀ x5 : Int64, x5 = y9 / 2 → ((wX0_root_F_73 post n) y4 y6 x2 x5))) ∧ (¬ (0 < y9) → wX0_root_F_111 post y4 y6 y7)
def wX0_root_F (p1 : UInt64) (post : UInt64 → Prop) : Prop := ((Deq p1 FP.dconst0) → post p1) ∧ (¬ (Deq p1 FP.dconst0) → (((fX0_isEndless p1) = 0) → (oX0_exponentOf p1) ∧ (∀ x3 : Int32, x3 = (fX0_exponentOf p1) - 52 → ((((kirem x3 2) = 0) → (oX0_sizeOf p1)) ∧ (¬ ((kirem x3 2) = 0) → (oX0_sizeOf p1))) ∧ (∀ x4 : Int64, x4 = (if (kirem x3 2) = 0 then (fX0_sizeOf p1) else (2 * (fX0_sizeOf p1))) → (∀ x6 : Int32, x6 = (if (kirem x3 2) = 0 then (x3 / 2) else ((x3 - 1) / 2)) → ∃ n, wX0_root_F_73 post n x4 x6 0 9007199254740992)))) ∧ (¬ ((fX0_isEndless p1) = 0) → post p1))
set_option maxHeartbeats 4000000 in
set_option maxRecDepth 100000 in
theorem bX0_root_F_111 {p : Program} {l : Launch} {e : Env} {s : State} {m : MethodId} {below : List Frame} {meth : Method} {c : Code} {D : va_G} {TY : Nat → ClassId} (h0 : Nat) (p1 : UInt64) (post : UInt64 → Prop) (hx : p.tables.exec = Jvm.exec) (hb : c.code = cX0_root) (hr : meth.sig.returnType = (Option.some Jvm.ClassFile.FieldType.double)) (hlocks : meth.locks = false) (hml : c.maxLocals = 11) (hown : s.vm.findClass RX0 = some m.cls) (hts : ∀ w ∈ lw_all, w.before ([.ref h0, .double p1] : List Value).toArray s = true) (hK : va_K D vwCl (tyL TY) s) (hG : gz (fun _ => False) s s.heap) (hS : va_S (fun _ => False) s.heap s.heap []) (hP : va_P D vwCl [(h0, .inr (2, []))] s.heap) (y4 : Int64) (y6 : Int32) (y7 : Int64) (hw : wX0_root_F_111 post y4 y6 y7) : ∀ ls : Array Slot, lv_has ls 11 [(0, .ref h0), (4, .long y4), (6, .int y6), (7, .long y7)] → W p l e (headSpec (ws_ yX0_root cX0_root 11 (Option.some Jvm.ClassFile.FieldType.double)) ({ frames := 6, cells := 0, slots := 0, locals := 142 })).room s m ([.ref h0, .double p1] : List Value).toArray below meth c s.heap ([]) 0 0 (MQ below (vp_Sd post) ([.ref h0, .double p1] : List Value).toArray s 0 0 (fun _ => False)) (F0 m 111 ls []) := by
  intro ls hl
  unfold wX0_root_F_111 at hw
  refine lv_aload_n hx hb dX0_root_111 rfl (lv_at hl 0 rfl) ?_
  refine lv_iconst (v := 0) hx hb dX0_root_112 (by decide) ?_
  refine lv_lload hx hb dX0_root_113 (lv_at hl 3 rfl) ?_
  refine lv_lload hx hb dX0_root_115 (lv_at hl 1 rfl) ?_
  refine cSi (v := fX0_squareTo y7 y4) (W.runS (As := [.long y7, .long y4]) (rest := [.int 0, .ref h0]) ⟨hx, hb, hml, hown, hts⟩ (mX0_squareTo l D TY y7 y4 (fun r => r = fX0_squareTo y7 y4) rfl) (va_cwS 2 hts (lw_S q441 q442 q44 q443) rfl rfl rfl hd_X0_squareTo ⟨Nat.le_of_ble_eq_true rfl, Nat.le_of_ble_eq_true rfl⟩) (PR.S hP [] rfl hK hG hS) rfl rfl hl.1 rfl (lv_room (Nat.le_of_ble_eq_true rfl)) dX0_root_117 ⟨Nat.le_of_ble_eq_true rfl, Nat.le_of_ble_eq_true rfl⟩) ?_
  obtain ⟨PJx1, hPJx1⟩ : ∃ P : Int64 → Prop, ∀ x1 : Int64, P x1 ↔ ∀ ls : Array Slot, lv_has ls 11 [(6, .int y6)] → W p l e (headSpec (ws_ yX0_root cX0_root 11 (Option.some Jvm.ClassFile.FieldType.double)) ({ frames := 6, cells := 0, slots := 0, locals := 142 })).room s m ([.ref h0, .double p1] : List Value).toArray below meth c s.heap ([]) 0 0 (MQ below (vp_Sd post) ([.ref h0, .double p1] : List Value).toArray s 0 0 (fun _ => False)) (F0 m 140 ls [.long x1, .int 0, .ref h0]) := ⟨_, fun _ => Iff.rfl⟩
  have hjx1 : ∀ x1 : Int64, x1 = (if 0 ≤ (fX0_squareTo y7 y4) then (2 * y7) else ((2 * y7) + 1)) → PJx1 x1 := by
    intro x1 ex1
    rw [hPJx1]
    intro ls hl
    replace hw := hw x1 ex1
    refine lv_iload hx hb dX0_root_140 (lv_at hl 0 rfl) ?_
    refine lv_bipush (v := 28) hx hb dX0_root_142 (by decide) ?_
    refine lv_isub hx hb dX0_root_144 ?_
    refine lv_i2l (v := (y6 - 28).toInt64) hx hb dX0_root_145 rfl ?_
    refine cSd (v := fX0_round_F 0 x1 ((y6 - 28).toInt64)) (W.runS (As := [.ref h0, .int 0, .long x1, .long ((y6 - 28).toInt64)]) (rest := []) ⟨hx, hb, hml, hown, hts⟩ (mX0_round_F l D TY h0 0 x1 ((y6 - 28).toInt64) (fun r => r = fX0_round_F 0 x1 ((y6 - 28).toInt64)) rfl hw.1) (va_cwS 4 hts (lw_S q202 q203 q44 q204) rfl rfl rfl hd_X0_round ⟨Nat.le_of_ble_eq_true rfl, Nat.le_of_ble_eq_true rfl⟩) (PR.S hP [0] rfl hK hG hS) rfl rfl hl.1 rfl (lv_room (Nat.le_of_ble_eq_true rfl)) dX0_root_146 ⟨Nat.le_of_ble_eq_true rfl, Nat.le_of_ble_eq_true rfl⟩) ?_
    replace hw := hw.2
    exact W.dret (v := fX0_round_F 0 x1 ((y6 - 28).toInt64)) hx hb hr (fun t ht hW => ⟨_, rfl, hw, ht⟩) (fun q h => nomatch h) dX0_root_149
  replace hjx1 := hjx1 _ rfl
  refine lv_if_ge (tgt := 134) hx hb dX0_root_120 (by decide) (fun c2 => ?_) (fun c2 => ?_)
  · replace hjx1 := pf_t (P := PJx1) c2 hjx1
    refine lv_ldc2 (v := 2) hx hb hown (hts _ q439) dX0_root_134 ?_
    refine lv_lload hx hb dX0_root_137 (lv_at hl 3 rfl) ?_
    refine lv_lmul hx hb dX0_root_139 ?_
    exact (hPJx1 _).1 hjx1 _ (lv_sub hl [2] rfl)
  · replace hjx1 := pf_f (P := PJx1) c2 hjx1
    refine lv_ldc2 (v := 2) hx hb hown (hts _ q439) dX0_root_123 ?_
    refine lv_lload hx hb dX0_root_126 (lv_at hl 3 rfl) ?_
    refine lv_lmul hx hb dX0_root_128 ?_
    refine lv_lconst (v := 1) hx hb dX0_root_129 (by decide) ?_
    refine lv_ladd hx hb dX0_root_130 ?_
    refine lv_goto (tgt := 140) hx hb dX0_root_131 (by decide) ?_
    exact (hPJx1 _).1 hjx1 _ (lv_sub hl [2] rfl)
set_option maxHeartbeats 4000000 in
set_option maxRecDepth 100000 in
theorem bX0_root_F_73 {p : Program} {l : Launch} {e : Env} {s : State} {m : MethodId} {below : List Frame} {meth : Method} {c : Code} {D : va_G} {TY : Nat → ClassId} (h0 : Nat) (p1 : UInt64) (post : UInt64 → Prop) (hx : p.tables.exec = Jvm.exec) (hb : c.code = cX0_root) (hr : meth.sig.returnType = (Option.some Jvm.ClassFile.FieldType.double)) (hlocks : meth.locks = false) (hml : c.maxLocals = 11) (hown : s.vm.findClass RX0 = some m.cls) (hts : ∀ w ∈ lw_all, w.before ([.ref h0, .double p1] : List Value).toArray s = true) (hK : va_K D vwCl (tyL TY) s) (hG : gz (fun _ => False) s s.heap) (hS : va_S (fun _ => False) s.heap s.heap []) (hP : va_P D vwCl [(h0, .inr (2, []))] s.heap) : ∀ (n : Nat) (y4 : Int64) (y6 : Int32) (y7 : Int64) (y9 : Int64), wX0_root_F_73 post n y4 y6 y7 y9 → ∀ ls : Array Slot, lv_has ls 11 [(0, .ref h0), (4, .long y4), (6, .int y6), (7, .long y7), (9, .long y9)] → W p l e (headSpec (ws_ yX0_root cX0_root 11 (Option.some Jvm.ClassFile.FieldType.double)) ({ frames := 6, cells := 0, slots := 0, locals := 142 })).room s m ([.ref h0, .double p1] : List Value).toArray below meth c s.heap ([]) 0 0 (MQ below (vp_Sd post) ([.ref h0, .double p1] : List Value).toArray s 0 0 (fun _ => False)) (F0 m 73 ls []) := by
  intro n
  induction n with
  | zero => intro _ _ _ _ h; exact h.elim
  | succ n ih =>
    intro y4 y6 y7 y9 hw
    unfold wX0_root_F_73 at hw
    intro ls hl
    refine lv_lload hx hb dX0_root_73 (lv_at hl 4 rfl) ?_
    refine lv_lconst (v := 0) hx hb dX0_root_75 (by decide) ?_
    refine lx_lle (tgt := 111) hx hb dX0_root_76 dX0_root_77 (by decide) (fun c1 => ?_) (fun c1 => ?_)
    · replace hw := hw.2 c1
      exact bX0_root_F_111 h0 p1 post  hx hb hr hlocks hml hown hts hK hG hS hP y4 y6 y7 hw _ (lv_sub hl [0, 1, 2, 3] rfl)
    · replace hw := hw.1 c1
      refine lv_lload hx hb dX0_root_80 (lv_at hl 3 rfl) ?_
      refine lv_lload hx hb dX0_root_82 (lv_at hl 4 rfl) ?_
      refine lv_ladd hx hb dX0_root_84 ?_
      refine lv_lload hx hb dX0_root_85 (lv_at hl 1 rfl) ?_
      refine cSi (v := fX0_squareTo (y7 + y9) y4) (W.runS (As := [.long (y7 + y9), .long y4]) (rest := []) ⟨hx, hb, hml, hown, hts⟩ (mX0_squareTo l D TY (y7 + y9) y4 (fun r => r = fX0_squareTo (y7 + y9) y4) rfl) (va_cwS 2 hts (lw_S q441 q442 q44 q443) rfl rfl rfl hd_X0_squareTo ⟨Nat.le_of_ble_eq_true rfl, Nat.le_of_ble_eq_true rfl⟩) (PR.S hP [] rfl hK hG hS) rfl rfl hl.1 rfl (lv_room (Nat.le_of_ble_eq_true rfl)) dX0_root_87 ⟨Nat.le_of_ble_eq_true rfl, Nat.le_of_ble_eq_true rfl⟩) ?_
      obtain ⟨PJx2, hPJx2⟩ : ∃ P : Int64 → Prop, ∀ x2 : Int64, P x2 ↔ ∀ ls : Array Slot, lv_has ls 11 [(0, .ref h0), (4, .long y4), (6, .int y6), (7, .long x2), (9, .long y9)] → W p l e (headSpec (ws_ yX0_root cX0_root 11 (Option.some Jvm.ClassFile.FieldType.double)) ({ frames := 6, cells := 0, slots := 0, locals := 142 })).room s m ([.ref h0, .double p1] : List Value).toArray below meth c s.heap ([]) 0 0 (MQ below (vp_Sd post) ([.ref h0, .double p1] : List Value).toArray s 0 0 (fun _ => False)) (F0 m 100 ls []) := ⟨_, fun _ => Iff.rfl⟩
      have hjx2 : ∀ x2 : Int64, x2 = (if 0 < (fX0_squareTo (y7 + y9) y4) then y7 else (lt_ (y7 + y9) (fun x4 : Int64 => x4))) → PJx2 x2 := by
        intro x2 ex2
        rw [hPJx2]
        intro ls hl
        replace hw := hw x2 ex2
        refine lv_lload hx hb dX0_root_100 (lv_at hl 4 rfl) ?_
        refine lv_ldc2 (v := 2) hx hb hown (hts _ q439) dX0_root_102 ?_
        refine lv_ldiv hx hb dX0_root_105 (by decide) ?_
        refine lv_topl (fun x5 ex5 => ?_)
        replace hw := hw x5 ex5
        refine lv_lstore (lv' := [(9, .long x5), (0, .ref h0), (4, .long y4), (6, .int y6), (7, .long x2)]) hx hb dX0_root_106 hl (by decide) rfl (fun ls hl => ?_)
        refine lv_goto (tgt := 73) hx hb dX0_root_108 (by decide) ?_
        exact ih y4 y6 x2 x5 hw _ (lv_sub hl [1, 2, 3, 4, 0] rfl)
      replace hjx2 := hjx2 _ rfl
      refine lv_if_gt (tgt := 100) hx hb dX0_root_90 (by decide) (fun c3 => ?_) (fun c3 => ?_)
      · replace hjx2 := pf_t (P := PJx2) c3 hjx2
        exact (hPJx2 _).1 hjx2 _ (lv_sub hl [0, 1, 2, 3, 4] rfl)
      · replace hjx2 := pf_f (P := PJx2) c3 hjx2
        refine lv_lload hx hb dX0_root_93 (lv_at hl 3 rfl) ?_
        refine lv_lload hx hb dX0_root_95 (lv_at hl 4 rfl) ?_
        refine lv_ladd hx hb dX0_root_97 ?_
        refine lv_topl (fun x4 ex4 => ?_)
        replace hjx2 := pf_let (P := PJx2) hjx2 x4 ex4
        refine lv_lstore (lv' := [(7, .long x4), (0, .ref h0), (4, .long y4), (6, .int y6), (9, .long y9)]) hx hb dX0_root_98 hl (by decide) rfl (fun ls hl => ?_)
        exact (hPJx2 _).1 hjx2 _ (lv_sub hl [1, 2, 3, 0, 4] rfl)
set_option maxHeartbeats 4000000 in
set_option maxRecDepth 100000 in
theorem mX0_root_F (l : Launch) (D : va_G) (TY : Nat → ClassId) (h0 : Nat) (p1 : UInt64) (post : UInt64 → Prop) (hw : wX0_root_F p1 post) : Met l yX0_root (ws_ yX0_root cX0_root 11 (Option.some Jvm.ClassFile.FieldType.double)) ({ frames := 6, cells := 0, slots := 0, locals := 142 }) (PR D TY [.ref h0, .double p1] [(h0, .inr (2, []))]) (vp_Sd post) 0 0 (fun _ => False) := by
  refine ofWF (cc := cX0_root) (maxL := 11) (ret := (Option.some Jvm.ClassFile.FieldType.double)) (plainFor_of_name (by decide)) rfl ?_
  intro p e s m args below meth c s₁ B hml hv
  obtain ⟨rfl, hP, hK, hG⟩ := hv
  have hx := B.exec
  have hb := B.bytes
  have hr := B.returns
  have hts0 := atoms_spec (ws := ws_ yX0_root cX0_root 11 (Option.some Jvm.ClassFile.FieldType.double)) B.pre
  have hts : ∀ w ∈ lw_all, w.before _ s = true := fun w h => hts0 w (List.mem_cons_of_mem _ h)
  have hown : s.vm.findClass RX0 = some m.cls := findClass_of_methodNamed B.named
  have hlocks := B.notSynchronized
  have hS : va_S (fun _ => False) s.heap s.heap [] := va_S.rf
  have hl := lv_entry ([.ref h0, .double p1]) (n := 11) (Nat.le_of_ble_eq_true rfl)
  rw [lg_entry_eq]
  generalize (lg_sl ([.ref h0, .double p1]) ++ List.replicate (11 - (lg_sl ([.ref h0, .double p1])).length) Slot.unset).toArray = ls at hl ⊢
  have hl : lv_has ls 11 [(0, .ref h0), (1, .double p1)] := hl
  unfold wX0_root_F at hw
  refine lv_dload_n hx hb dX0_root_0 rfl (lv_at hl 1 rfl) ?_
  refine lv_dconst0 hx hb dX0_root_1 ?_
  refine lx_dleq (tgt := 13) hx hb dX0_root_2 dX0_root_3 (by decide) (fun c1 => ?_) (fun c1 => ?_)
  · replace hw := hw.1 c1
    refine lv_dload_n hx hb dX0_root_13 rfl (lv_at hl 1 rfl) ?_
    exact W.dret (v := p1) hx hb hr (fun t ht hW => ⟨_, rfl, hw, ht⟩) (fun q h => nomatch h) dX0_root_14
  · replace hw := hw.2 c1
    refine lv_dload_n hx hb dX0_root_6 rfl (lv_at hl 1 rfl) ?_
    refine cSi (v := fX0_isEndless p1) (W.runS (As := [.double p1]) (rest := []) ⟨hx, hb, hml, hown, hts⟩ (mX0_isEndless l D TY p1 (fun r => r = fX0_isEndless p1) rfl) (va_cwS 1 hts (lw_S q434 q136 q44 q137) rfl rfl rfl hd_X0_isEndless ⟨Nat.le_of_ble_eq_true rfl, Nat.le_of_ble_eq_true rfl⟩) (PR.S hP [] rfl hK hG hS) rfl rfl hl.1 rfl (lv_room (Nat.le_of_ble_eq_true rfl)) dX0_root_7 ⟨Nat.le_of_ble_eq_true rfl, Nat.le_of_ble_eq_true rfl⟩) ?_
    refine lv_if_eq (tgt := 15) hx hb dX0_root_10 (by decide) (fun c2 => ?_) (fun c2 => ?_)
    · replace hw := hw.1 c2
      refine lv_dload_n hx hb dX0_root_15 rfl (lv_at hl 1 rfl) ?_
      refine cSi (v := fX0_exponentOf p1) (W.runS (As := [.double p1]) (rest := []) ⟨hx, hb, hml, hown, hts⟩ (mX0_exponentOf l D TY p1 (fun r => r = fX0_exponentOf p1) rfl hw.1) (va_cwS 1 hts (lw_S q303 q150 q44 q151) rfl rfl rfl hd_X0_exponentOf ⟨Nat.le_of_ble_eq_true rfl, Nat.le_of_ble_eq_true rfl⟩) (PR.S hP [] rfl hK hG hS) rfl rfl hl.1 rfl (lv_room (Nat.le_of_ble_eq_true rfl)) dX0_root_16 ⟨Nat.le_of_ble_eq_true rfl, Nat.le_of_ble_eq_true rfl⟩) ?_
      replace hw := hw.2
      refine lv_bipush (v := 52) hx hb dX0_root_19 (by decide) ?_
      refine lv_isub hx hb dX0_root_21 ?_
      refine lv_topi (fun x3 ex3 => ?_)
      replace hw := hw x3 ex3
      refine lv_istore_n (lv' := [(3, .int x3), (0, .ref h0), (1, .double p1)]) hx hb dX0_root_22 rfl hl (by decide) rfl (fun ls hl => ?_)
      refine lv_iload_n hx hb dX0_root_23 rfl (lv_at hl 0 rfl) ?_
      refine lv_iconst (v := 2) hx hb dX0_root_24 (by decide) ?_
      refine lv_irem hx hb dX0_root_25 (by decide) ?_
      obtain ⟨PJx4, hPJx4⟩ : ∃ P : Int64 → Prop, ∀ x4 : Int64, P x4 ↔ ∀ ls : Array Slot, lv_has ls 11 [(0, .ref h0), (3, .int x3)] → W p l e (headSpec (ws_ yX0_root cX0_root 11 (Option.some Jvm.ClassFile.FieldType.double)) ({ frames := 6, cells := 0, slots := 0, locals := 142 })).room s m ([.ref h0, .double p1] : List Value).toArray below meth c s.heap ([]) 0 0 (MQ below (vp_Sd post) ([.ref h0, .double p1] : List Value).toArray s 0 0 (fun _ => False)) (F0 m 44 ls [.long x4]) := ⟨_, fun _ => Iff.rfl⟩
      have hox4 := hw.1
      have hjx4 : ∀ x4 : Int64, x4 = (if (kirem x3 2) = 0 then (fX0_sizeOf p1) else (2 * (fX0_sizeOf p1))) → PJx4 x4 := by
        intro x4 ex4
        rw [hPJx4]
        intro ls hl
        replace hw := hw.2 x4 ex4
        refine lv_lstore (lv' := [(4, .long x4), (0, .ref h0), (3, .int x3)]) hx hb dX0_root_44 hl (by decide) rfl (fun ls hl => ?_)
        refine lv_iload_n hx hb dX0_root_46 rfl (lv_at hl 2 rfl) ?_
        refine lv_iconst (v := 2) hx hb dX0_root_47 (by decide) ?_
        refine lv_irem hx hb dX0_root_48 (by decide) ?_
        obtain ⟨PJx6, hPJx6⟩ : ∃ P : Int32 → Prop, ∀ x6 : Int32, P x6 ↔ ∀ ls : Array Slot, lv_has ls 11 [(0, .ref h0), (4, .long x4)] → W p l e (headSpec (ws_ yX0_root cX0_root 11 (Option.some Jvm.ClassFile.FieldType.double)) ({ frames := 6, cells := 0, slots := 0, locals := 142 })).room s m ([.ref h0, .double p1] : List Value).toArray below meth c s.heap ([]) 0 0 (MQ below (vp_Sd post) ([.ref h0, .double p1] : List Value).toArray s 0 0 (fun _ => False)) (F0 m 63 ls [.int x6]) := ⟨_, fun _ => Iff.rfl⟩
        have hjx6 : ∀ x6 : Int32, x6 = (if (kirem x3 2) = 0 then (x3 / 2) else ((x3 - 1) / 2)) → PJx6 x6 := by
          intro x6 ex6
          rw [hPJx6]
          intro ls hl
          replace hw := hw x6 ex6
          refine lv_istore (lv' := [(6, .int x6), (0, .ref h0), (4, .long x4)]) hx hb dX0_root_63 hl (by decide) rfl (fun ls hl => ?_)
          refine lv_lconst (v := 0) hx hb dX0_root_65 (by decide) ?_
          refine lv_lstore (lv' := [(7, .long 0), (6, .int x6), (0, .ref h0), (4, .long x4)]) hx hb dX0_root_66 hl (by decide) rfl (fun ls hl => ?_)
          refine lv_ldc2 (v := 9007199254740992) hx hb hown (hts _ q440) dX0_root_68 ?_
          refine lv_lstore (lv' := [(9, .long 9007199254740992), (7, .long 0), (6, .int x6), (0, .ref h0), (4, .long x4)]) hx hb dX0_root_71 hl (by decide) rfl (fun ls hl => ?_)
          obtain ⟨n8, hw⟩ := hw
          exact bX0_root_F_73 h0 p1 post  hx hb hr hlocks hml hown hts hK hG hS hP n8 x4 x6 0 9007199254740992 hw _ (lv_sub hl [3, 4, 2, 1, 0] rfl)
        replace hjx6 := hjx6 _ rfl
        refine lv_if_ne (tgt := 58) hx hb dX0_root_49 (by decide) (fun c7 => ?_) (fun c7 => ?_)
        · replace hjx6 := pf_f (P := PJx6) c7 hjx6
          refine lv_iload_n hx hb dX0_root_58 rfl (lv_at hl 2 rfl) ?_
          refine lv_iconst (v := 1) hx hb dX0_root_59 (by decide) ?_
          refine lv_isub hx hb dX0_root_60 ?_
          refine lv_iconst (v := 2) hx hb dX0_root_61 (by decide) ?_
          refine lv_idiv hx hb dX0_root_62 (by decide) ?_
          exact (hPJx6 _).1 hjx6 _ (lv_sub hl [1, 0] rfl)
        · replace hjx6 := pf_t (P := PJx6) c7 hjx6
          refine lv_iload_n hx hb dX0_root_52 rfl (lv_at hl 2 rfl) ?_
          refine lv_iconst (v := 2) hx hb dX0_root_53 (by decide) ?_
          refine lv_idiv hx hb dX0_root_54 (by decide) ?_
          refine lv_goto (tgt := 63) hx hb dX0_root_55 (by decide) ?_
          exact (hPJx6 _).1 hjx6 _ (lv_sub hl [1, 0] rfl)
      replace hjx4 := hjx4 _ rfl
      refine lv_if_ne (tgt := 36) hx hb dX0_root_26 (by decide) (fun c5 => ?_) (fun c5 => ?_)
      · replace hjx4 := pf_f (P := PJx4) c5 hjx4
        replace hox4 := hox4.2 c5
        refine lv_ldc2 (v := 2) hx hb hown (hts _ q439) dX0_root_36 ?_
        refine lv_dload_n hx hb dX0_root_39 rfl (lv_at hl 2 rfl) ?_
        refine cSl (v := fX0_sizeOf p1) (W.runS (As := [.double p1]) (rest := [.long 2]) ⟨hx, hb, hml, hown, hts⟩ (mX0_sizeOf l D TY p1 (fun r => r = fX0_sizeOf p1) rfl hox4) (va_cwS 1 hts (lw_S q435 q436 q44 q437) rfl rfl rfl hd_X0_sizeOf ⟨Nat.le_of_ble_eq_true rfl, Nat.le_of_ble_eq_true rfl⟩) (PR.S hP [] rfl hK hG hS) rfl rfl hl.1 rfl (lv_room (Nat.le_of_ble_eq_true rfl)) dX0_root_40 ⟨Nat.le_of_ble_eq_true rfl, Nat.le_of_ble_eq_true rfl⟩) ?_
        refine lv_lmul hx hb dX0_root_43 ?_
        exact (hPJx4 _).1 hjx4 _ (lv_sub hl [1, 0] rfl)
      · replace hjx4 := pf_t (P := PJx4) c5 hjx4
        replace hox4 := hox4.1 c5
        refine lv_dload_n hx hb dX0_root_29 rfl (lv_at hl 2 rfl) ?_
        refine cSl (v := fX0_sizeOf p1) (W.runS (As := [.double p1]) (rest := []) ⟨hx, hb, hml, hown, hts⟩ (mX0_sizeOf l D TY p1 (fun r => r = fX0_sizeOf p1) rfl hox4) (va_cwS 1 hts (lw_S q435 q436 q44 q437) rfl rfl rfl hd_X0_sizeOf ⟨Nat.le_of_ble_eq_true rfl, Nat.le_of_ble_eq_true rfl⟩) (PR.S hP [] rfl hK hG hS) rfl rfl hl.1 rfl (lv_room (Nat.le_of_ble_eq_true rfl)) dX0_root_30 ⟨Nat.le_of_ble_eq_true rfl, Nat.le_of_ble_eq_true rfl⟩) ?_
        refine lv_goto (tgt := 44) hx hb dX0_root_33 (by decide) ?_
        exact (hPJx4 _).1 hjx4 _ (lv_sub hl [1, 0] rfl)
    · replace hw := hw.2 c2
      refine lv_dload_n hx hb dX0_root_13 rfl (lv_at hl 1 rfl) ?_
      exact W.dret (v := p1) hx hb hr (fun t ht hW => ⟨_, rfl, hw, ht⟩) (fun q h => nomatch h) dX0_root_14

theorem hd_X0_lowered : yX0_lowered.cls ≠ "java/lang/invoke/MethodHandle" ∧ yX0_lowered.cls ≠ "java/lang/invoke/VarHandle" ∧ (parseMethodDescriptor yX0_lowered.desc).map (fun d => d.parameters.length) = some 3 := by decide +kernel
def fX0_sum_D (p1 : UInt64) (p3 : UInt64) (p5 : UInt64) : UInt64 := lt_ (if Dlt p1 FP.dconst0 then 1 else 0) (fun x1 : Int32 => lt_ (if Dlt p3 FP.dconst0 then 1 else 0) (fun x3 : Int32 => lt_ (if x1 = x3 then 0 else 1) (fun x5 : Int32 => lt_ ((fX0_sizeOf p1) * (fX0_sizeOf p3)) (fun x7 : Int64 => lt_ ((jshl (fJ2_multiplyHigh (fX0_sizeOf p1) (fX0_sizeOf p3)) 20) ||| (jushr x7 44)) (fun x8 : Int64 => lt_ (jshl x7 20) (fun x9 : Int64 => lt_ (((fX0_exponentOf p1) + (fX0_exponentOf p3)) - 124) (fun x10 : Int32 => lt_ (((fX0_exponentOf p5) - 52) - x10) (fun x11 : Int32 => lt_ (if x11 ≤ 73 then (x9, x8, x10, x11) else (lt_ (fX0_lowered x8 x9 (x11 - 73)) (fun x14 : Int64 => lt_ (if 64 ≤ (x11 - 73) then 0 else (jushr x8 (x11 - 73))) (fun x15 : Int64 => lt_ (x10 + (x11 - 73)) (fun x17 : Int32 => (x14, x15, x17, 73)))))) (fun x12 : Int64 × Int64 × Int32 × Int32 => lt_ (fX0_sizeOf p5) (fun x18 : Int64 => lt_ (if 0 < x12.2.2.2 then (if 64 ≤ x12.2.2.2 then (jshl x18 (x12.2.2.2 - 64)) else (jushr x18 (64 - x12.2.2.2))) else 0) (fun x19 : Int64 => lt_ (if x12.2.2.2 < 64 then (if x12.2.2.2 < 0 then (fX0_lowered 0 x18 (-x12.2.2.2)) else (jshl x18 x12.2.2.2)) else 0) (fun x22 : Int64 => lt_ (if Dlt p5 FP.dconst0 then 1 else 0) (fun x25 : Int32 => lt_ (if x5 = x25 then 1 else 0) (fun x27 : Int32 => lt_ (if x27 = 0 then x12.1 else (x12.1 ^^^ (-1))) (fun x29 : Int64 => lt_ (if 0 ≤ (fJ3_compareUnsigned x29 x22) then 0 else 1) (fun x31 : Int64 => lt_ (if x27 = 0 then (x12.1 - x22) else (x12.1 + x22)) (fun x33 : Int64 => lt_ (if x27 = 0 then ((x12.2.1 - x19) - x31) else ((x12.2.1 + x19) + x31)) (fun x35 : Int64 => lt_ (if x35 < 0 then (lt_ (if x5 = 0 then 1 else 0) (fun x39 : Int32 => lt_ (-x33) (fun x41 : Int64 => lt_ (if x41 = 0 then (-x35) else (x35 ^^^ (-1))) (fun x42 : Int64 => (x39, x41, x42))))) else (x5, x33, x35)) (fun x37 : Int32 × Int64 × Int64 => if x37.2.2 = 0 then (if x37.2.1 = 0 then FP.dconst0 else (lt_ (64 - (fJ3_numberOfLeadingZeros x37.2.2)) (fun x47 : Int32 => fX0_round_D x37.1 (fX0_lowered x37.2.2 x37.2.1 x47) ((x12.2.2.1 + x47).toInt64)))) else (lt_ (64 - (fJ3_numberOfLeadingZeros x37.2.2)) (fun x45 : Int32 => fX0_round_D x37.1 (fX0_lowered x37.2.2 x37.2.1 x45) ((x12.2.2.1 + x45).toInt64))))))))))))))))))))))
def oX0_sum_D (p1 : UInt64) (p3 : UInt64) (p5 : UInt64) : Prop := (∀ x1 : Int32, x1 = (if Dlt p1 FP.dconst0 then 1 else 0) → (∀ x3 : Int32, x3 = (if Dlt p3 FP.dconst0 then 1 else 0) → (∀ x5 : Int32, x5 = (if x1 = x3 then 0 else 1) → (oX0_sizeOf p1) ∧ ((oX0_sizeOf p3) ∧ (∀ x7 : Int64, x7 = (fX0_sizeOf p1) * (fX0_sizeOf p3) → (oX0_sizeOf p1) ∧ ((oX0_sizeOf p3) ∧ (∀ x8 : Int64, x8 = (jshl (fJ2_multiplyHigh (fX0_sizeOf p1) (fX0_sizeOf p3)) 20) ||| (jushr x7 44) → ∀ x9 : Int64, x9 = jshl x7 20 → (oX0_exponentOf p1) ∧ ((oX0_exponentOf p3) ∧ (∀ x10 : Int32, x10 = ((fX0_exponentOf p1) + (fX0_exponentOf p3)) - 124 → (oX0_exponentOf p5) ∧ (∀ x11 : Int32, x11 = ((fX0_exponentOf p5) - 52) - x10 → (∀ x12 : Int64 × Int64 × Int32 × Int32, x12 = (if x11 ≤ 73 then (x9, x8, x10, x11) else (lt_ (fX0_lowered x8 x9 (x11 - 73)) (fun x14 : Int64 => lt_ (if 64 ≤ (x11 - 73) then 0 else (jushr x8 (x11 - 73))) (fun x15 : Int64 => lt_ (x10 + (x11 - 73)) (fun x17 : Int32 => (x14, x15, x17, 73)))))) → (oX0_sizeOf p5) ∧ (∀ x18 : Int64, x18 = fX0_sizeOf p5 → (∀ x19 : Int64, x19 = (if 0 < x12.2.2.2 then (if 64 ≤ x12.2.2.2 then (jshl x18 (x12.2.2.2 - 64)) else (jushr x18 (64 - x12.2.2.2))) else 0) → (∀ x22 : Int64, x22 = (if x12.2.2.2 < 64 then (if x12.2.2.2 < 0 then (fX0_lowered 0 x18 (-x12.2.2.2)) else (jshl x18 x12.2.2.2)) else 0) → (∀ x25 : Int32, x25 = (if Dlt p5 FP.dconst0 then 1 else 0) → (∀ x27 : Int32, x27 = (if x5 = x25 then 1 else 0) → (∀ x29 : Int64, x29 = (if x27 = 0 then x12.1 else (x12.1 ^^^ (-1))) → (∀ x31 : Int64, x31 = (if 0 ≤ (fJ3_compareUnsigned x29 x22) then 0 else 1) → (∀ x33 : Int64, x33 = (if x27 = 0 then (x12.1 - x22) else (x12.1 + x22)) → (∀ x35 : Int64, x35 = (if x27 = 0 then ((x12.2.1 - x19) - x31) else ((x12.2.1 + x19) + x31)) → (∀ x37 : Int32 × Int64 × Int64, x37 = (if x35 < 0 then (lt_ (if x5 = 0 then 1 else 0) (fun x39 : Int32 => lt_ (-x33) (fun x41 : Int64 => lt_ (if x41 = 0 then (-x35) else (x35 ^^^ (-1))) (fun x42 : Int64 => (x39, x41, x42))))) else (x5, x33, x35)) → ((x37.2.2 = 0) → ((x37.2.1 = 0) → True) ∧ (¬ (x37.2.1 = 0) → ∀ x47 : Int32, x47 = 64 - (fJ3_numberOfLeadingZeros x37.2.2) → (oX0_round_D (fX0_lowered x37.2.2 x37.2.1 x47) ((x12.2.2.1 + x47).toInt64)))) ∧ (¬ (x37.2.2 = 0) → ∀ x45 : Int32, x45 = 64 - (fJ3_numberOfLeadingZeros x37.2.2) → (oX0_round_D (fX0_lowered x37.2.2 x37.2.1 x45) ((x12.2.2.1 + x45).toInt64))))))))))))))))))))))))
set_option maxHeartbeats 4000000 in
set_option maxRecDepth 100000 in
theorem mX0_sum_D (l : Launch) (D : va_G) (TY : Nat → ClassId) (h0 : Nat) (p1 : UInt64) (p3 : UInt64) (p5 : UInt64) (post : UInt64 → Prop) (hw : post (fX0_sum_D p1 p3 p5)) (hok : oX0_sum_D p1 p3 p5) : Met l yX0_sum (ws_ yX0_sum cX0_sum 24 (Option.some Jvm.ClassFile.FieldType.double)) ({ frames := 5, cells := 0, slots := 0, locals := 119 }) (PR D TY [.ref h0, .double p1, .double p3, .double p5] [(h0, .inr (1, []))]) (vp_Sd post) 0 0 (fun _ => False) := by
  refine ofWF (cc := cX0_sum) (maxL := 24) (ret := (Option.some Jvm.ClassFile.FieldType.double)) (plainFor_of_name (by decide)) rfl ?_
  intro p e s m args below meth c s₁ B hml hv
  obtain ⟨rfl, hP, hK, hG⟩ := hv
  have hx := B.exec
  have hb := B.bytes
  have hr := B.returns
  have hts0 := atoms_spec (ws := ws_ yX0_sum cX0_sum 24 (Option.some Jvm.ClassFile.FieldType.double)) B.pre
  have hts : ∀ w ∈ lw_all, w.before _ s = true := fun w h => hts0 w (List.mem_cons_of_mem _ h)
  have hown : s.vm.findClass RX0 = some m.cls := findClass_of_methodNamed B.named
  have hlocks := B.notSynchronized
  have hS : va_S (fun _ => False) s.heap s.heap [] := va_S.rf
  have hl := lv_entry ([.ref h0, .double p1, .double p3, .double p5]) (n := 24) (Nat.le_of_ble_eq_true rfl)
  rw [lg_entry_eq]
  generalize (lg_sl ([.ref h0, .double p1, .double p3, .double p5]) ++ List.replicate (24 - (lg_sl ([.ref h0, .double p1, .double p3, .double p5])).length) Slot.unset).toArray = ls at hl ⊢
  have hl : lv_has ls 24 [(0, .ref h0), (1, .double p1), (3, .double p3), (5, .double p5)] := hl
  unfold fX0_sum_D at hw
  unfold oX0_sum_D at hok
  refine lv_dload_n hx hb dX0_sum_0 rfl (lv_at hl 1 rfl) ?_
  refine lv_dconst0 hx hb dX0_sum_1 ?_
  obtain ⟨PJx1, hPJx1⟩ : ∃ P : Int32 → Prop, ∀ x1 : Int32, P x1 ↔ ∀ ls : Array Slot, lv_has ls 24 [(0, .ref h0), (1, .double p1), (3, .double p3), (5, .double p5)] → W p l e (headSpec (ws_ yX0_sum cX0_sum 24 (Option.some Jvm.ClassFile.FieldType.double)) ({ frames := 5, cells := 0, slots := 0, locals := 119 })).room s m ([.ref h0, .double p1, .double p3, .double p5] : List Value).toArray below meth c s.heap ([]) 0 0 (MQ below (vp_Sd post) ([.ref h0, .double p1, .double p3, .double p5] : List Value).toArray s 0 0 (fun _ => False)) (F0 m 11 ls [.int x1]) := ⟨_, fun _ => Iff.rfl⟩
  have hjx1 : ∀ x1 : Int32, x1 = (if Dlt p1 FP.dconst0 then 1 else 0) → PJx1 x1 := by
    intro x1 ex1
    rw [hPJx1]
    intro ls hl
    replace hw := pf_let (P := post) hw x1 ex1
    replace hok := hok x1 ex1
    refine lv_dload_n hx hb dX0_sum_11 rfl (lv_at hl 2 rfl) ?_
    refine lv_dconst0 hx hb dX0_sum_12 ?_
    obtain ⟨PJx3, hPJx3⟩ : ∃ P : Int32 → Prop, ∀ x3 : Int32, P x3 ↔ ∀ ls : Array Slot, lv_has ls 24 [(0, .ref h0), (1, .double p1), (3, .double p3), (5, .double p5)] → W p l e (headSpec (ws_ yX0_sum cX0_sum 24 (Option.some Jvm.ClassFile.FieldType.double)) ({ frames := 5, cells := 0, slots := 0, locals := 119 })).room s m ([.ref h0, .double p1, .double p3, .double p5] : List Value).toArray below meth c s.heap ([]) 0 0 (MQ below (vp_Sd post) ([.ref h0, .double p1, .double p3, .double p5] : List Value).toArray s 0 0 (fun _ => False)) (F0 m 22 ls [.int x3, .int x1]) := ⟨_, fun _ => Iff.rfl⟩
    have hjx3 : ∀ x3 : Int32, x3 = (if Dlt p3 FP.dconst0 then 1 else 0) → PJx3 x3 := by
      intro x3 ex3
      rw [hPJx3]
      intro ls hl
      replace hw := pf_let (P := post) hw x3 ex3
      replace hok := hok x3 ex3
      obtain ⟨PJx5, hPJx5⟩ : ∃ P : Int32 → Prop, ∀ x5 : Int32, P x5 ↔ ∀ ls : Array Slot, lv_has ls 24 [(0, .ref h0), (1, .double p1), (3, .double p3), (5, .double p5)] → W p l e (headSpec (ws_ yX0_sum cX0_sum 24 (Option.some Jvm.ClassFile.FieldType.double)) ({ frames := 5, cells := 0, slots := 0, locals := 119 })).room s m ([.ref h0, .double p1, .double p3, .double p5] : List Value).toArray below meth c s.heap ([]) 0 0 (MQ below (vp_Sd post) ([.ref h0, .double p1, .double p3, .double p5] : List Value).toArray s 0 0 (fun _ => False)) (F0 m 30 ls [.int x5]) := ⟨_, fun _ => Iff.rfl⟩
      have hjx5 : ∀ x5 : Int32, x5 = (if x1 = x3 then 0 else 1) → PJx5 x5 := by
        intro x5 ex5
        rw [hPJx5]
        intro ls hl
        replace hw := pf_let (P := post) hw x5 ex5
        replace hok := hok x5 ex5
        refine lv_istore (lv' := [(7, .int x5), (0, .ref h0), (1, .double p1), (3, .double p3), (5, .double p5)]) hx hb dX0_sum_30 hl (by decide) rfl (fun ls hl => ?_)
        refine lv_dload_n hx hb dX0_sum_32 rfl (lv_at hl 2 rfl) ?_
        refine cSl (v := fX0_sizeOf p1) (W.runS (As := [.double p1]) (rest := []) ⟨hx, hb, hml, hown, hts⟩ (mX0_sizeOf l D TY p1 (fun r => r = fX0_sizeOf p1) rfl hok.1) (va_cwS 1 hts (lw_S q435 q436 q44 q437) rfl rfl rfl hd_X0_sizeOf ⟨Nat.le_of_ble_eq_true rfl, Nat.le_of_ble_eq_true rfl⟩) (PR.S hP [] rfl hK hG hS) rfl rfl hl.1 rfl (lv_room (Nat.le_of_ble_eq_true rfl)) dX0_sum_33 ⟨Nat.le_of_ble_eq_true rfl, Nat.le_of_ble_eq_true rfl⟩) ?_
        replace hok := hok.2
        refine lv_dload_n hx hb dX0_sum_36 rfl (lv_at hl 3 rfl) ?_
        refine cSl (v := fX0_sizeOf p3) (W.runS (As := [.double p3]) (rest := [.long (fX0_sizeOf p1)]) ⟨hx, hb, hml, hown, hts⟩ (mX0_sizeOf l D TY p3 (fun r => r = fX0_sizeOf p3) rfl hok.1) (va_cwS 1 hts (lw_S q435 q436 q44 q437) rfl rfl rfl hd_X0_sizeOf ⟨Nat.le_of_ble_eq_true rfl, Nat.le_of_ble_eq_true rfl⟩) (PR.S hP [] rfl hK hG hS) rfl rfl hl.1 rfl (lv_room (Nat.le_of_ble_eq_true rfl)) dX0_sum_37 ⟨Nat.le_of_ble_eq_true rfl, Nat.le_of_ble_eq_true rfl⟩) ?_
        replace hok := hok.2
        refine lv_lmul hx hb dX0_sum_40 ?_
        refine lv_topl (fun x7 ex7 => ?_)
        replace hw := pf_let (P := post) hw x7 ex7
        replace hok := hok x7 ex7
        refine lv_lstore (lv' := [(8, .long x7), (7, .int x5), (0, .ref h0), (1, .double p1), (3, .double p3), (5, .double p5)]) hx hb dX0_sum_41 hl (by decide) rfl (fun ls hl => ?_)
        refine lv_dload_n hx hb dX0_sum_43 rfl (lv_at hl 3 rfl) ?_
        refine cSl (v := fX0_sizeOf p1) (W.runS (As := [.double p1]) (rest := []) ⟨hx, hb, hml, hown, hts⟩ (mX0_sizeOf l D TY p1 (fun r => r = fX0_sizeOf p1) rfl hok.1) (va_cwS 1 hts (lw_S q435 q436 q44 q437) rfl rfl rfl hd_X0_sizeOf ⟨Nat.le_of_ble_eq_true rfl, Nat.le_of_ble_eq_true rfl⟩) (PR.S hP [] rfl hK hG hS) rfl rfl hl.1 rfl (lv_room (Nat.le_of_ble_eq_true rfl)) dX0_sum_44 ⟨Nat.le_of_ble_eq_true rfl, Nat.le_of_ble_eq_true rfl⟩) ?_
        replace hok := hok.2
        refine lv_dload_n hx hb dX0_sum_47 rfl (lv_at hl 4 rfl) ?_
        refine cSl (v := fX0_sizeOf p3) (W.runS (As := [.double p3]) (rest := [.long (fX0_sizeOf p1)]) ⟨hx, hb, hml, hown, hts⟩ (mX0_sizeOf l D TY p3 (fun r => r = fX0_sizeOf p3) rfl hok.1) (va_cwS 1 hts (lw_S q435 q436 q44 q437) rfl rfl rfl hd_X0_sizeOf ⟨Nat.le_of_ble_eq_true rfl, Nat.le_of_ble_eq_true rfl⟩) (PR.S hP [] rfl hK hG hS) rfl rfl hl.1 rfl (lv_room (Nat.le_of_ble_eq_true rfl)) dX0_sum_48 ⟨Nat.le_of_ble_eq_true rfl, Nat.le_of_ble_eq_true rfl⟩) ?_
        replace hok := hok.2
        refine cSl (v := fJ2_multiplyHigh (fX0_sizeOf p1) (fX0_sizeOf p3)) (W.runS (As := [.long (fX0_sizeOf p1), .long (fX0_sizeOf p3)]) (rest := []) ⟨hx, hb, hml, hown, hts⟩ (mJ2_multiplyHigh l D TY (fX0_sizeOf p1) (fX0_sizeOf p3) (fun r => r = fJ2_multiplyHigh (fX0_sizeOf p1) (fX0_sizeOf p3)) rfl) (va_cwS 2 hts (lw_S q444 q445 q54 q446) rfl rfl rfl hd_J2_multiplyHigh ⟨Nat.le_of_ble_eq_true rfl, Nat.le_of_ble_eq_true rfl⟩) (PR.S hP [] rfl hK hG hS) rfl rfl hl.1 rfl (lv_room (Nat.le_of_ble_eq_true rfl)) dX0_sum_51 ⟨Nat.le_of_ble_eq_true rfl, Nat.le_of_ble_eq_true rfl⟩) ?_
        refine lv_bipush (v := 20) hx hb dX0_sum_54 (by decide) ?_
        refine lv_lshl (v := jshl (fJ2_multiplyHigh (fX0_sizeOf p1) (fX0_sizeOf p3)) 20) hx hb dX0_sum_56 rfl ?_
        refine lv_lload hx hb dX0_sum_57 (lv_at hl 0 rfl) ?_
        refine lv_bipush (v := 44) hx hb dX0_sum_59 (by decide) ?_
        refine lv_lushr (v := jushr x7 44) hx hb dX0_sum_61 rfl ?_
        refine lv_lor hx hb dX0_sum_62 ?_
        refine lv_topl (fun x8 ex8 => ?_)
        replace hw := pf_let (P := post) hw x8 ex8
        replace hok := hok x8 ex8
        refine lv_lstore (lv' := [(10, .long x8), (8, .long x7), (7, .int x5), (0, .ref h0), (1, .double p1), (3, .double p3), (5, .double p5)]) hx hb dX0_sum_63 hl (by decide) rfl (fun ls hl => ?_)
        refine lv_lload hx hb dX0_sum_65 (lv_at hl 1 rfl) ?_
        refine lv_bipush (v := 20) hx hb dX0_sum_67 (by decide) ?_
        refine lv_lshl (v := jshl x7 20) hx hb dX0_sum_69 rfl ?_
        refine lv_topl (fun x9 ex9 => ?_)
        replace hw := pf_let (P := post) hw x9 ex9
        replace hok := hok x9 ex9
        refine lv_lstore (lv' := [(8, .long x9), (10, .long x8), (7, .int x5), (0, .ref h0), (1, .double p1), (3, .double p3), (5, .double p5)]) hx hb dX0_sum_70 hl (by decide) rfl (fun ls hl => ?_)
        refine lv_dload_n hx hb dX0_sum_72 rfl (lv_at hl 4 rfl) ?_
        refine cSi (v := fX0_exponentOf p1) (W.runS (As := [.double p1]) (rest := []) ⟨hx, hb, hml, hown, hts⟩ (mX0_exponentOf l D TY p1 (fun r => r = fX0_exponentOf p1) rfl hok.1) (va_cwS 1 hts (lw_S q303 q150 q44 q151) rfl rfl rfl hd_X0_exponentOf ⟨Nat.le_of_ble_eq_true rfl, Nat.le_of_ble_eq_true rfl⟩) (PR.S hP [] rfl hK hG hS) rfl rfl hl.1 rfl (lv_room (Nat.le_of_ble_eq_true rfl)) dX0_sum_73 ⟨Nat.le_of_ble_eq_true rfl, Nat.le_of_ble_eq_true rfl⟩) ?_
        replace hok := hok.2
        refine lv_dload_n hx hb dX0_sum_76 rfl (lv_at hl 5 rfl) ?_
        refine cSi (v := fX0_exponentOf p3) (W.runS (As := [.double p3]) (rest := [.int (fX0_exponentOf p1)]) ⟨hx, hb, hml, hown, hts⟩ (mX0_exponentOf l D TY p3 (fun r => r = fX0_exponentOf p3) rfl hok.1) (va_cwS 1 hts (lw_S q303 q150 q44 q151) rfl rfl rfl hd_X0_exponentOf ⟨Nat.le_of_ble_eq_true rfl, Nat.le_of_ble_eq_true rfl⟩) (PR.S hP [] rfl hK hG hS) rfl rfl hl.1 rfl (lv_room (Nat.le_of_ble_eq_true rfl)) dX0_sum_77 ⟨Nat.le_of_ble_eq_true rfl, Nat.le_of_ble_eq_true rfl⟩) ?_
        replace hok := hok.2
        refine lv_iadd hx hb dX0_sum_80 ?_
        refine lv_bipush (v := 124) hx hb dX0_sum_81 (by decide) ?_
        refine lv_isub hx hb dX0_sum_83 ?_
        refine lv_topi (fun x10 ex10 => ?_)
        replace hw := pf_let (P := post) hw x10 ex10
        replace hok := hok x10 ex10
        refine lv_istore (lv' := [(12, .int x10), (8, .long x9), (10, .long x8), (7, .int x5), (0, .ref h0), (1, .double p1), (3, .double p3), (5, .double p5)]) hx hb dX0_sum_84 hl (by decide) rfl (fun ls hl => ?_)
        refine lv_dload hx hb dX0_sum_86 (lv_at hl 7 rfl) ?_
        refine cSi (v := fX0_exponentOf p5) (W.runS (As := [.double p5]) (rest := []) ⟨hx, hb, hml, hown, hts⟩ (mX0_exponentOf l D TY p5 (fun r => r = fX0_exponentOf p5) rfl hok.1) (va_cwS 1 hts (lw_S q303 q150 q44 q151) rfl rfl rfl hd_X0_exponentOf ⟨Nat.le_of_ble_eq_true rfl, Nat.le_of_ble_eq_true rfl⟩) (PR.S hP [] rfl hK hG hS) rfl rfl hl.1 rfl (lv_room (Nat.le_of_ble_eq_true rfl)) dX0_sum_88 ⟨Nat.le_of_ble_eq_true rfl, Nat.le_of_ble_eq_true rfl⟩) ?_
        replace hok := hok.2
        refine lv_bipush (v := 52) hx hb dX0_sum_91 (by decide) ?_
        refine lv_isub hx hb dX0_sum_93 ?_
        refine lv_iload hx hb dX0_sum_94 (lv_at hl 0 rfl) ?_
        refine lv_isub hx hb dX0_sum_96 ?_
        refine lv_topi (fun x11 ex11 => ?_)
        replace hw := pf_let (P := post) hw x11 ex11
        replace hok := hok x11 ex11
        refine lv_istore (lv' := [(13, .int x11), (12, .int x10), (8, .long x9), (10, .long x8), (7, .int x5), (0, .ref h0), (1, .double p1), (3, .double p3), (5, .double p5)]) hx hb dX0_sum_97 hl (by decide) rfl (fun ls hl => ?_)
        refine lv_iload hx hb dX0_sum_99 (lv_at hl 0 rfl) ?_
        refine lv_bipush (v := 73) hx hb dX0_sum_101 (by decide) ?_
        obtain ⟨PJx12, hPJx12⟩ : ∃ P : Int64 × Int64 × Int32 × Int32 → Prop, ∀ x12 : Int64 × Int64 × Int32 × Int32, P x12 ↔ ∀ ls : Array Slot, lv_has ls 24 [(0, .ref h0), (5, .double p5), (7, .int x5), (8, .long x12.1), (10, .long x12.2.1), (12, .int x12.2.2.1), (13, .int x12.2.2.2)] → W p l e (headSpec (ws_ yX0_sum cX0_sum 24 (Option.some Jvm.ClassFile.FieldType.double)) ({ frames := 5, cells := 0, slots := 0, locals := 119 })).room s m ([.ref h0, .double p1, .double p3, .double p5] : List Value).toArray below meth c s.heap ([]) 0 0 (MQ below (vp_Sd post) ([.ref h0, .double p1, .double p3, .double p5] : List Value).toArray s 0 0 (fun _ => False)) (F0 m 158 ls []) := ⟨_, fun _ => Iff.rfl⟩
        have hjx12 : ∀ x12 : Int64 × Int64 × Int32 × Int32, x12 = (if x11 ≤ 73 then (x9, x8, x10, x11) else (lt_ (fX0_lowered x8 x9 (x11 - 73)) (fun x14 : Int64 => lt_ (if 64 ≤ (x11 - 73) then 0 else (jushr x8 (x11 - 73))) (fun x15 : Int64 => lt_ (x10 + (x11 - 73)) (fun x17 : Int32 => (x14, x15, x17, 73)))))) → PJx12 x12 := by
          intro x12 ex12
          rw [hPJx12]
          intro ls hl
          replace hw := pf_let (P := post) hw x12 ex12
          replace hok := hok x12 ex12
          refine lv_dload hx hb dX0_sum_158 (lv_at hl 1 rfl) ?_
          refine cSl (v := fX0_sizeOf p5) (W.runS (As := [.double p5]) (rest := []) ⟨hx, hb, hml, hown, hts⟩ (mX0_sizeOf l D TY p5 (fun r => r = fX0_sizeOf p5) rfl hok.1) (va_cwS 1 hts (lw_S q435 q436 q44 q437) rfl rfl rfl hd_X0_sizeOf ⟨Nat.le_of_ble_eq_true rfl, Nat.le_of_ble_eq_true rfl⟩) (PR.S hP [] rfl hK hG hS) rfl rfl hl.1 rfl (lv_room (Nat.le_of_ble_eq_true rfl)) dX0_sum_160 ⟨Nat.le_of_ble_eq_true rfl, Nat.le_of_ble_eq_true rfl⟩) ?_
          replace hok := hok.2
          refine lv_topl (fun x18 ex18 => ?_)
          replace hw := pf_let (P := post) hw x18 ex18
          replace hok := hok x18 ex18
          refine lv_lstore (lv' := [(14, .long x18), (0, .ref h0), (5, .double p5), (7, .int x5), (8, .long x12.1), (10, .long x12.2.1), (12, .int x12.2.2.1), (13, .int x12.2.2.2)]) hx hb dX0_sum_163 hl (by decide) rfl (fun ls hl => ?_)
          refine lv_iload hx hb dX0_sum_165 (lv_at hl 7 rfl) ?_
          obtain ⟨PJx19, hPJx19⟩ : ∃ P : Int64 → Prop, ∀ x19 : Int64, P x19 ↔ ∀ ls : Array Slot, lv_has ls 24 [(0, .ref h0), (5, .double p5), (7, .int x5), (8, .long x12.1), (10, .long x12.2.1), (12, .int x12.2.2.1), (13, .int x12.2.2.2), (14, .long x18)] → W p l e (headSpec (ws_ yX0_sum cX0_sum 24 (Option.some Jvm.ClassFile.FieldType.double)) ({ frames := 5, cells := 0, slots := 0, locals := 119 })).room s m ([.ref h0, .double p1, .double p3, .double p5] : List Value).toArray below meth c s.heap ([]) 0 0 (MQ below (vp_Sd post) ([.ref h0, .double p1, .double p3, .double p5] : List Value).toArray s 0 0 (fun _ => False)) (F0 m 200 ls [.long x19]) := ⟨_, fun _ => Iff.rfl⟩
          have hjx19 : ∀ x19 : Int64, x19 = (if 0 < x12.2.2.2 then (if 64 ≤ x12.2.2.2 then (jshl x18 (x12.2.2.2 - 64)) else (jushr x18 (64 - x12.2.2.2))) else 0) → PJx19 x19 := by
            intro x19 ex19
            rw [hPJx19]
            intro ls hl
            replace hw := pf_let (P := post) hw x19 ex19
            replace hok := hok x19 ex19
            refine lv_lstore (lv' := [(16, .long x19), (0, .ref h0), (5, .double p5), (7, .int x5), (8, .long x12.1), (10, .long x12.2.1), (12, .int x12.2.2.1), (13, .int x12.2.2.2), (14, .long x18)]) hx hb dX0_sum_200 hl (by decide) rfl (fun ls hl => ?_)
            refine lv_iload hx hb dX0_sum_202 (lv_at hl 7 rfl) ?_
            refine lv_bipush (v := 64) hx hb dX0_sum_204 (by decide) ?_
            obtain ⟨PJx22, hPJx22⟩ : ∃ P : Int64 → Prop, ∀ x22 : Int64, P x22 ↔ ∀ ls : Array Slot, lv_has ls 24 [(0, .ref h0), (5, .double p5), (7, .int x5), (8, .long x12.1), (10, .long x12.2.1), (12, .int x12.2.2.1), (16, .long x19)] → W p l e (headSpec (ws_ yX0_sum cX0_sum 24 (Option.some Jvm.ClassFile.FieldType.double)) ({ frames := 5, cells := 0, slots := 0, locals := 119 })).room s m ([.ref h0, .double p1, .double p3, .double p5] : List Value).toArray below meth c s.heap ([]) 0 0 (MQ below (vp_Sd post) ([.ref h0, .double p1, .double p3, .double p5] : List Value).toArray s 0 0 (fun _ => False)) (F0 m 235 ls [.long x22]) := ⟨_, fun _ => Iff.rfl⟩
            have hjx22 : ∀ x22 : Int64, x22 = (if x12.2.2.2 < 64 then (if x12.2.2.2 < 0 then (fX0_lowered 0 x18 (-x12.2.2.2)) else (jshl x18 x12.2.2.2)) else 0) → PJx22 x22 := by
              intro x22 ex22
              rw [hPJx22]
              intro ls hl
              replace hw := pf_let (P := post) hw x22 ex22
              replace hok := hok x22 ex22
              refine lv_lstore (lv' := [(18, .long x22), (0, .ref h0), (5, .double p5), (7, .int x5), (8, .long x12.1), (10, .long x12.2.1), (12, .int x12.2.2.1), (16, .long x19)]) hx hb dX0_sum_235 hl (by decide) rfl (fun ls hl => ?_)
              refine lv_iload hx hb dX0_sum_237 (lv_at hl 3 rfl) ?_
              refine lv_dload hx hb dX0_sum_239 (lv_at hl 2 rfl) ?_
              refine lv_dconst0 hx hb dX0_sum_241 ?_
              obtain ⟨PJx25, hPJx25⟩ : ∃ P : Int32 → Prop, ∀ x25 : Int32, P x25 ↔ ∀ ls : Array Slot, lv_has ls 24 [(0, .ref h0), (7, .int x5), (8, .long x12.1), (10, .long x12.2.1), (12, .int x12.2.2.1), (16, .long x19), (18, .long x22)] → W p l e (headSpec (ws_ yX0_sum cX0_sum 24 (Option.some Jvm.ClassFile.FieldType.double)) ({ frames := 5, cells := 0, slots := 0, locals := 119 })).room s m ([.ref h0, .double p1, .double p3, .double p5] : List Value).toArray below meth c s.heap ([]) 0 0 (MQ below (vp_Sd post) ([.ref h0, .double p1, .double p3, .double p5] : List Value).toArray s 0 0 (fun _ => False)) (F0 m 251 ls [.int x25, .int x5]) := ⟨_, fun _ => Iff.rfl⟩
              have hjx25 : ∀ x25 : Int32, x25 = (if Dlt p5 FP.dconst0 then 1 else 0) → PJx25 x25 := by
                intro x25 ex25
                rw [hPJx25]
                intro ls hl
                replace hw := pf_let (P := post) hw x25 ex25
                replace hok := hok x25 ex25
                obtain ⟨PJx27, hPJx27⟩ : ∃ P : Int32 → Prop, ∀ x27 : Int32, P x27 ↔ ∀ ls : Array Slot, lv_has ls 24 [(0, .ref h0), (7, .int x5), (8, .long x12.1), (10, .long x12.2.1), (12, .int x12.2.2.1), (16, .long x19), (18, .long x22)] → W p l e (headSpec (ws_ yX0_sum cX0_sum 24 (Option.some Jvm.ClassFile.FieldType.double)) ({ frames := 5, cells := 0, slots := 0, locals := 119 })).room s m ([.ref h0, .double p1, .double p3, .double p5] : List Value).toArray below meth c s.heap ([]) 0 0 (MQ below (vp_Sd post) ([.ref h0, .double p1, .double p3, .double p5] : List Value).toArray s 0 0 (fun _ => False)) (F0 m 259 ls [.int x27]) := ⟨_, fun _ => Iff.rfl⟩
                have hjx27 : ∀ x27 : Int32, x27 = (if x5 = x25 then 1 else 0) → PJx27 x27 := by
                  intro x27 ex27
                  rw [hPJx27]
                  intro ls hl
                  replace hw := pf_let (P := post) hw x27 ex27
                  replace hok := hok x27 ex27
                  refine lv_istore (lv' := [(20, .int x27), (0, .ref h0), (7, .int x5), (8, .long x12.1), (10, .long x12.2.1), (12, .int x12.2.2.1), (16, .long x19), (18, .long x22)]) hx hb dX0_sum_259 hl (by decide) rfl (fun ls hl => ?_)
                  refine lv_iload hx hb dX0_sum_261 (lv_at hl 0 rfl) ?_
                  obtain ⟨PJx29, hPJx29⟩ : ∃ P : Int64 → Prop, ∀ x29 : Int64, P x29 ↔ ∀ ls : Array Slot, lv_has ls 24 [(0, .ref h0), (7, .int x5), (8, .long x12.1), (10, .long x12.2.1), (12, .int x12.2.2.1), (16, .long x19), (18, .long x22), (20, .int x27)] → W p l e (headSpec (ws_ yX0_sum cX0_sum 24 (Option.some Jvm.ClassFile.FieldType.double)) ({ frames := 5, cells := 0, slots := 0, locals := 119 })).room s m ([.ref h0, .double p1, .double p3, .double p5] : List Value).toArray below meth c s.heap ([]) 0 0 (MQ below (vp_Sd post) ([.ref h0, .double p1, .double p3, .double p5] : List Value).toArray s 0 0 (fun _ => False)) (F0 m 277 ls [.long x29]) := ⟨_, fun _ => Iff.rfl⟩
                  have hjx29 : ∀ x29 : Int64, x29 = (if x27 = 0 then x12.1 else (x12.1 ^^^ (-1))) → PJx29 x29 := by
                    intro x29 ex29
                    rw [hPJx29]
                    intro ls hl
                    replace hw := pf_let (P := post) hw x29 ex29
                    replace hok := hok x29 ex29
                    refine lv_lload hx hb dX0_sum_277 (lv_at hl 6 rfl) ?_
                    refine cSi (v := fJ3_compareUnsigned x29 x22) (W.runS (As := [.long x29, .long x22]) (rest := []) ⟨hx, hb, hml, hown, hts⟩ (mJ3_compareUnsigned l D TY x29 x22 (fun r => r = fJ3_compareUnsigned x29 x22) rfl) (va_cwS 2 hts (lw_S q259 q260 q55 q261) rfl rfl rfl hd_J3_compareUnsigned ⟨Nat.le_of_ble_eq_true rfl, Nat.le_of_ble_eq_true rfl⟩) (PR.S hP [] rfl hK hG hS) rfl rfl hl.1 rfl (lv_room (Nat.le_of_ble_eq_true rfl)) dX0_sum_279 ⟨Nat.le_of_ble_eq_true rfl, Nat.le_of_ble_eq_true rfl⟩) ?_
                    obtain ⟨PJx31, hPJx31⟩ : ∃ P : Int64 → Prop, ∀ x31 : Int64, P x31 ↔ ∀ ls : Array Slot, lv_has ls 24 [(0, .ref h0), (7, .int x5), (8, .long x12.1), (10, .long x12.2.1), (12, .int x12.2.2.1), (16, .long x19), (18, .long x22), (20, .int x27)] → W p l e (headSpec (ws_ yX0_sum cX0_sum 24 (Option.some Jvm.ClassFile.FieldType.double)) ({ frames := 5, cells := 0, slots := 0, locals := 119 })).room s m ([.ref h0, .double p1, .double p3, .double p5] : List Value).toArray below meth c s.heap ([]) 0 0 (MQ below (vp_Sd post) ([.ref h0, .double p1, .double p3, .double p5] : List Value).toArray s 0 0 (fun _ => False)) (F0 m 290 ls [.long x31]) := ⟨_, fun _ => Iff.rfl⟩
                    have hjx31 : ∀ x31 : Int64, x31 = (if 0 ≤ (fJ3_compareUnsigned x29 x22) then 0 else 1) → PJx31 x31 := by
                      intro x31 ex31
                      rw [hPJx31]
                      intro ls hl
                      replace hw := pf_let (P := post) hw x31 ex31
                      replace hok := hok x31 ex31
                      refine lv_lstore (lv' := [(21, .long x31), (0, .ref h0), (7, .int x5), (8, .long x12.1), (10, .long x12.2.1), (12, .int x12.2.2.1), (16, .long x19), (18, .long x22), (20, .int x27)]) hx hb dX0_sum_290 hl (by decide) rfl (fun ls hl => ?_)
                      refine lv_iload hx hb dX0_sum_292 (lv_at hl 8 rfl) ?_
                      obtain ⟨PJx33, hPJx33⟩ : ∃ P : Int64 → Prop, ∀ x33 : Int64, P x33 ↔ ∀ ls : Array Slot, lv_has ls 24 [(0, .ref h0), (7, .int x5), (10, .long x12.2.1), (12, .int x12.2.2.1), (16, .long x19), (20, .int x27), (21, .long x31)] → W p l e (headSpec (ws_ yX0_sum cX0_sum 24 (Option.some Jvm.ClassFile.FieldType.double)) ({ frames := 5, cells := 0, slots := 0, locals := 119 })).room s m ([.ref h0, .double p1, .double p3, .double p5] : List Value).toArray below meth c s.heap ([]) 0 0 (MQ below (vp_Sd post) ([.ref h0, .double p1, .double p3, .double p5] : List Value).toArray s 0 0 (fun _ => False)) (F0 m 310 ls [.long x33]) := ⟨_, fun _ => Iff.rfl⟩
                      have hjx33 : ∀ x33 : Int64, x33 = (if x27 = 0 then (x12.1 - x22) else (x12.1 + x22)) → PJx33 x33 := by
                        intro x33 ex33
                        rw [hPJx33]
                        intro ls hl
                        replace hw := pf_let (P := post) hw x33 ex33
                        replace hok := hok x33 ex33
                        refine lv_lstore (lv' := [(8, .long x33), (0, .ref h0), (7, .int x5), (10, .long x12.2.1), (12, .int x12.2.2.1), (16, .long x19), (20, .int x27), (21, .long x31)]) hx hb dX0_sum_310 hl (by decide) rfl (fun ls hl => ?_)
                        refine lv_iload hx hb dX0_sum_312 (lv_at hl 6 rfl) ?_
                        obtain ⟨PJx35, hPJx35⟩ : ∃ P : Int64 → Prop, ∀ x35 : Int64, P x35 ↔ ∀ ls : Array Slot, lv_has ls 24 [(0, .ref h0), (7, .int x5), (8, .long x33), (12, .int x12.2.2.1)] → W p l e (headSpec (ws_ yX0_sum cX0_sum 24 (Option.some Jvm.ClassFile.FieldType.double)) ({ frames := 5, cells := 0, slots := 0, locals := 119 })).room s m ([.ref h0, .double p1, .double p3, .double p5] : List Value).toArray below meth c s.heap ([]) 0 0 (MQ below (vp_Sd post) ([.ref h0, .double p1, .double p3, .double p5] : List Value).toArray s 0 0 (fun _ => False)) (F0 m 336 ls [.long x35]) := ⟨_, fun _ => Iff.rfl⟩
                        have hjx35 : ∀ x35 : Int64, x35 = (if x27 = 0 then ((x12.2.1 - x19) - x31) else ((x12.2.1 + x19) + x31)) → PJx35 x35 := by
                          intro x35 ex35
                          rw [hPJx35]
                          intro ls hl
                          replace hw := pf_let (P := post) hw x35 ex35
                          replace hok := hok x35 ex35
                          refine lv_lstore (lv' := [(10, .long x35), (0, .ref h0), (7, .int x5), (8, .long x33), (12, .int x12.2.2.1)]) hx hb dX0_sum_336 hl (by decide) rfl (fun ls hl => ?_)
                          refine lv_lload hx hb dX0_sum_338 (lv_at hl 0 rfl) ?_
                          refine lv_lconst (v := 0) hx hb dX0_sum_340 (by decide) ?_
                          obtain ⟨PJx37, hPJx37⟩ : ∃ P : Int32 × Int64 × Int64 → Prop, ∀ x37 : Int32 × Int64 × Int64, P x37 ↔ ∀ ls : Array Slot, lv_has ls 24 [(0, .ref h0), (7, .int x37.1), (8, .long x37.2.1), (10, .long x37.2.2), (12, .int x12.2.2.1)] → W p l e (headSpec (ws_ yX0_sum cX0_sum 24 (Option.some Jvm.ClassFile.FieldType.double)) ({ frames := 5, cells := 0, slots := 0, locals := 119 })).room s m ([.ref h0, .double p1, .double p3, .double p5] : List Value).toArray below meth c s.heap ([]) 0 0 (MQ below (vp_Sd post) ([.ref h0, .double p1, .double p3, .double p5] : List Value).toArray s 0 0 (fun _ => False)) (F0 m 383 ls []) := ⟨_, fun _ => Iff.rfl⟩
                          have hjx37 : ∀ x37 : Int32 × Int64 × Int64, x37 = (if x35 < 0 then (lt_ (if x5 = 0 then 1 else 0) (fun x39 : Int32 => lt_ (-x33) (fun x41 : Int64 => lt_ (if x41 = 0 then (-x35) else (x35 ^^^ (-1))) (fun x42 : Int64 => (x39, x41, x42))))) else (x5, x33, x35)) → PJx37 x37 := by
                            intro x37 ex37
                            rw [hPJx37]
                            intro ls hl
                            replace hw := pf_let (P := post) hw x37 ex37
                            replace hok := hok x37 ex37
                            refine lv_lload hx hb dX0_sum_383 (lv_at hl 3 rfl) ?_
                            refine lv_lconst (v := 0) hx hb dX0_sum_385 (by decide) ?_
                            refine lx_lne (tgt := 399) hx hb dX0_sum_386 dX0_sum_387 (by decide) (fun c44 => ?_) (fun c44 => ?_)
                            · replace hw := pf_f (P := post) c44 hw
                              replace hok := hok.2 c44
                              refine lv_bipush (v := 64) hx hb dX0_sum_399 (by decide) ?_
                              refine lv_lload hx hb dX0_sum_401 (lv_at hl 3 rfl) ?_
                              refine cSi (v := fJ3_numberOfLeadingZeros x37.2.2) (W.runS (As := [.long x37.2.2]) (rest := [.int 64]) ⟨hx, hb, hml, hown, hts⟩ (mJ3_numberOfLeadingZeros l D TY x37.2.2 (fun r => r = fJ3_numberOfLeadingZeros x37.2.2) rfl) (va_cwS 1 hts (lw_S q206 q207 q55 q208) rfl rfl rfl hd_J3_numberOfLeadingZeros ⟨Nat.le_of_ble_eq_true rfl, Nat.le_of_ble_eq_true rfl⟩) (PR.S hP [] rfl hK hG hS) rfl rfl hl.1 rfl (lv_room (Nat.le_of_ble_eq_true rfl)) dX0_sum_403 ⟨Nat.le_of_ble_eq_true rfl, Nat.le_of_ble_eq_true rfl⟩) ?_
                              refine lv_isub hx hb dX0_sum_406 ?_
                              refine lv_topi (fun x45 ex45 => ?_)
                              replace hw := pf_let (P := post) hw x45 ex45
                              replace hok := hok x45 ex45
                              refine lv_istore (lv' := [(23, .int x45), (0, .ref h0), (7, .int x37.1), (8, .long x37.2.1), (10, .long x37.2.2), (12, .int x12.2.2.1)]) hx hb dX0_sum_407 hl (by decide) rfl (fun ls hl => ?_)
                              refine lv_aload_n hx hb dX0_sum_409 rfl (lv_at hl 1 rfl) ?_
                              refine lv_iload hx hb dX0_sum_410 (lv_at hl 2 rfl) ?_
                              refine lv_lload hx hb dX0_sum_412 (lv_at hl 4 rfl) ?_
                              refine lv_lload hx hb dX0_sum_414 (lv_at hl 3 rfl) ?_
                              refine lv_iload hx hb dX0_sum_416 (lv_at hl 0 rfl) ?_
                              refine cSl (v := fX0_lowered x37.2.2 x37.2.1 x45) (W.runS (As := [.long x37.2.2, .long x37.2.1, .int x45]) (rest := [.int x37.1, .ref h0]) ⟨hx, hb, hml, hown, hts⟩ (mX0_lowered l D TY x37.2.2 x37.2.1 x45 (fun r => r = fX0_lowered x37.2.2 x37.2.1 x45) rfl) (va_cwS 3 hts (lw_S q544 q545 q44 q546) rfl rfl rfl hd_X0_lowered ⟨Nat.le_of_ble_eq_true rfl, Nat.le_of_ble_eq_true rfl⟩) (PR.S hP [] rfl hK hG hS) rfl rfl hl.1 rfl (lv_room (Nat.le_of_ble_eq_true rfl)) dX0_sum_418 ⟨Nat.le_of_ble_eq_true rfl, Nat.le_of_ble_eq_true rfl⟩) ?_
                              refine lv_iload hx hb dX0_sum_421 (lv_at hl 5 rfl) ?_
                              refine lv_iload hx hb dX0_sum_423 (lv_at hl 0 rfl) ?_
                              refine lv_iadd hx hb dX0_sum_425 ?_
                              refine lv_i2l (v := (x12.2.2.1 + x45).toInt64) hx hb dX0_sum_426 rfl ?_
                              refine cSd (v := fX0_round_D x37.1 (fX0_lowered x37.2.2 x37.2.1 x45) ((x12.2.2.1 + x45).toInt64)) (W.runS (As := [.ref h0, .int x37.1, .long (fX0_lowered x37.2.2 x37.2.1 x45), .long ((x12.2.2.1 + x45).toInt64)]) (rest := []) ⟨hx, hb, hml, hown, hts⟩ (mX0_round_D l D TY h0 x37.1 (fX0_lowered x37.2.2 x37.2.1 x45) ((x12.2.2.1 + x45).toInt64) (fun r => r = fX0_round_D x37.1 (fX0_lowered x37.2.2 x37.2.1 x45) ((x12.2.2.1 + x45).toInt64)) rfl hok) (va_cwS 4 hts (lw_S q202 q203 q44 q204) rfl rfl rfl hd_X0_round ⟨Nat.le_of_ble_eq_true rfl, Nat.le_of_ble_eq_true rfl⟩) (PR.S hP [0] rfl hK hG hS) rfl rfl hl.1 rfl (lv_room (Nat.le_of_ble_eq_true rfl)) dX0_sum_427 ⟨Nat.le_of_ble_eq_true rfl, Nat.le_of_ble_eq_true rfl⟩) ?_
                              exact W.dret (v := fX0_round_D x37.1 (fX0_lowered x37.2.2 x37.2.1 x45) ((x12.2.2.1 + x45).toInt64)) hx hb hr (fun t ht hW => ⟨_, rfl, hw, ht⟩) (fun q h => nomatch h) dX0_sum_430
                            · replace hw := pf_t (P := post) c44 hw
                              replace hok := hok.1 c44
                              refine lv_lload hx hb dX0_sum_390 (lv_at hl 2 rfl) ?_
                              refine lv_lconst (v := 0) hx hb dX0_sum_392 (by decide) ?_
                              refine lx_lne (tgt := 399) hx hb dX0_sum_393 dX0_sum_394 (by decide) (fun c46 => ?_) (fun c46 => ?_)
                              · replace hw := pf_f (P := post) c46 hw
                                replace hok := hok.2 c46
                                refine lv_bipush (v := 64) hx hb dX0_sum_399 (by decide) ?_
                                refine lv_lload hx hb dX0_sum_401 (lv_at hl 3 rfl) ?_
                                refine cSi (v := fJ3_numberOfLeadingZeros x37.2.2) (W.runS (As := [.long x37.2.2]) (rest := [.int 64]) ⟨hx, hb, hml, hown, hts⟩ (mJ3_numberOfLeadingZeros l D TY x37.2.2 (fun r => r = fJ3_numberOfLeadingZeros x37.2.2) rfl) (va_cwS 1 hts (lw_S q206 q207 q55 q208) rfl rfl rfl hd_J3_numberOfLeadingZeros ⟨Nat.le_of_ble_eq_true rfl, Nat.le_of_ble_eq_true rfl⟩) (PR.S hP [] rfl hK hG hS) rfl rfl hl.1 rfl (lv_room (Nat.le_of_ble_eq_true rfl)) dX0_sum_403 ⟨Nat.le_of_ble_eq_true rfl, Nat.le_of_ble_eq_true rfl⟩) ?_
                                refine lv_isub hx hb dX0_sum_406 ?_
                                refine lv_topi (fun x47 ex47 => ?_)
                                replace hw := pf_let (P := post) hw x47 ex47
                                replace hok := hok x47 ex47
                                refine lv_istore (lv' := [(23, .int x47), (0, .ref h0), (7, .int x37.1), (8, .long x37.2.1), (10, .long x37.2.2), (12, .int x12.2.2.1)]) hx hb dX0_sum_407 hl (by decide) rfl (fun ls hl => ?_)
                                refine lv_aload_n hx hb dX0_sum_409 rfl (lv_at hl 1 rfl) ?_
                                refine lv_iload hx hb dX0_sum_410 (lv_at hl 2 rfl) ?_
                                refine lv_lload hx hb dX0_sum_412 (lv_at hl 4 rfl) ?_
                                refine lv_lload hx hb dX0_sum_414 (lv_at hl 3 rfl) ?_
                                refine lv_iload hx hb dX0_sum_416 (lv_at hl 0 rfl) ?_
                                refine cSl (v := fX0_lowered x37.2.2 x37.2.1 x47) (W.runS (As := [.long x37.2.2, .long x37.2.1, .int x47]) (rest := [.int x37.1, .ref h0]) ⟨hx, hb, hml, hown, hts⟩ (mX0_lowered l D TY x37.2.2 x37.2.1 x47 (fun r => r = fX0_lowered x37.2.2 x37.2.1 x47) rfl) (va_cwS 3 hts (lw_S q544 q545 q44 q546) rfl rfl rfl hd_X0_lowered ⟨Nat.le_of_ble_eq_true rfl, Nat.le_of_ble_eq_true rfl⟩) (PR.S hP [] rfl hK hG hS) rfl rfl hl.1 rfl (lv_room (Nat.le_of_ble_eq_true rfl)) dX0_sum_418 ⟨Nat.le_of_ble_eq_true rfl, Nat.le_of_ble_eq_true rfl⟩) ?_
                                refine lv_iload hx hb dX0_sum_421 (lv_at hl 5 rfl) ?_
                                refine lv_iload hx hb dX0_sum_423 (lv_at hl 0 rfl) ?_
                                refine lv_iadd hx hb dX0_sum_425 ?_
                                refine lv_i2l (v := (x12.2.2.1 + x47).toInt64) hx hb dX0_sum_426 rfl ?_
                                refine cSd (v := fX0_round_D x37.1 (fX0_lowered x37.2.2 x37.2.1 x47) ((x12.2.2.1 + x47).toInt64)) (W.runS (As := [.ref h0, .int x37.1, .long (fX0_lowered x37.2.2 x37.2.1 x47), .long ((x12.2.2.1 + x47).toInt64)]) (rest := []) ⟨hx, hb, hml, hown, hts⟩ (mX0_round_D l D TY h0 x37.1 (fX0_lowered x37.2.2 x37.2.1 x47) ((x12.2.2.1 + x47).toInt64) (fun r => r = fX0_round_D x37.1 (fX0_lowered x37.2.2 x37.2.1 x47) ((x12.2.2.1 + x47).toInt64)) rfl hok) (va_cwS 4 hts (lw_S q202 q203 q44 q204) rfl rfl rfl hd_X0_round ⟨Nat.le_of_ble_eq_true rfl, Nat.le_of_ble_eq_true rfl⟩) (PR.S hP [0] rfl hK hG hS) rfl rfl hl.1 rfl (lv_room (Nat.le_of_ble_eq_true rfl)) dX0_sum_427 ⟨Nat.le_of_ble_eq_true rfl, Nat.le_of_ble_eq_true rfl⟩) ?_
                                exact W.dret (v := fX0_round_D x37.1 (fX0_lowered x37.2.2 x37.2.1 x47) ((x12.2.2.1 + x47).toInt64)) hx hb hr (fun t ht hW => ⟨_, rfl, hw, ht⟩) (fun q h => nomatch h) dX0_sum_430
                              · replace hw := pf_t (P := post) c46 hw
                                refine lv_dconst0 hx hb dX0_sum_397 ?_
                                exact W.dret (v := FP.dconst0) hx hb hr (fun t ht hW => ⟨_, rfl, hw, ht⟩) (fun q h => nomatch h) dX0_sum_398
                          replace hjx37 := hjx37 _ rfl
                          refine lx_lge (tgt := 383) hx hb dX0_sum_341 dX0_sum_342 (by decide) (fun c38 => ?_) (fun c38 => ?_)
                          · replace hjx37 := pf_f (P := PJx37) c38 hjx37
                            exact (hPJx37 _).1 hjx37 _ (lv_sub hl [1, 2, 3, 0, 4] rfl)
                          · replace hjx37 := pf_t (P := PJx37) c38 hjx37
                            refine lv_iload hx hb dX0_sum_345 (lv_at hl 2 rfl) ?_
                            obtain ⟨PJx39, hPJx39⟩ : ∃ P : Int32 → Prop, ∀ x39 : Int32, P x39 ↔ ∀ ls : Array Slot, lv_has ls 24 [(0, .ref h0), (8, .long x33), (10, .long x35), (12, .int x12.2.2.1)] → W p l e (headSpec (ws_ yX0_sum cX0_sum 24 (Option.some Jvm.ClassFile.FieldType.double)) ({ frames := 5, cells := 0, slots := 0, locals := 119 })).room s m ([.ref h0, .double p1, .double p3, .double p5] : List Value).toArray below meth c s.heap ([]) 0 0 (MQ below (vp_Sd post) ([.ref h0, .double p1, .double p3, .double p5] : List Value).toArray s 0 0 (fun _ => False)) (F0 m 355 ls [.int x39]) := ⟨_, fun _ => Iff.rfl⟩
                            have hjx39 : ∀ x39 : Int32, x39 = (if x5 = 0 then 1 else 0) → PJx39 x39 := by
                              intro x39 ex39
                              rw [hPJx39]
                              intro ls hl
                              replace hjx37 := pf_let (P := PJx37) hjx37 x39 ex39
                              refine lv_istore (lv' := [(7, .int x39), (0, .ref h0), (8, .long x33), (10, .long x35), (12, .int x12.2.2.1)]) hx hb dX0_sum_355 hl (by decide) rfl (fun ls hl => ?_)
                              refine lv_lload hx hb dX0_sum_357 (lv_at hl 2 rfl) ?_
                              refine lv_lneg hx hb dX0_sum_359 ?_
                              refine lv_topl (fun x41 ex41 => ?_)
                              replace hjx37 := pf_let (P := PJx37) hjx37 x41 ex41
                              refine lv_lstore (lv' := [(8, .long x41), (7, .int x39), (0, .ref h0), (10, .long x35), (12, .int x12.2.2.1)]) hx hb dX0_sum_360 hl (by decide) rfl (fun ls hl => ?_)
                              refine lv_lload hx hb dX0_sum_362 (lv_at hl 0 rfl) ?_
                              refine lv_lconst (v := 0) hx hb dX0_sum_364 (by decide) ?_
                              obtain ⟨PJx42, hPJx42⟩ : ∃ P : Int64 → Prop, ∀ x42 : Int64, P x42 ↔ ∀ ls : Array Slot, lv_has ls 24 [(0, .ref h0), (7, .int x39), (8, .long x41), (12, .int x12.2.2.1)] → W p l e (headSpec (ws_ yX0_sum cX0_sum 24 (Option.some Jvm.ClassFile.FieldType.double)) ({ frames := 5, cells := 0, slots := 0, locals := 119 })).room s m ([.ref h0, .double p1, .double p3, .double p5] : List Value).toArray below meth c s.heap ([]) 0 0 (MQ below (vp_Sd post) ([.ref h0, .double p1, .double p3, .double p5] : List Value).toArray s 0 0 (fun _ => False)) (F0 m 381 ls [.long x42]) := ⟨_, fun _ => Iff.rfl⟩
                              have hjx42 : ∀ x42 : Int64, x42 = (if x41 = 0 then (-x35) else (x35 ^^^ (-1))) → PJx42 x42 := by
                                intro x42 ex42
                                rw [hPJx42]
                                intro ls hl
                                replace hjx37 := pf_let (P := PJx37) hjx37 x42 ex42
                                refine lv_lstore (lv' := [(10, .long x42), (0, .ref h0), (7, .int x39), (8, .long x41), (12, .int x12.2.2.1)]) hx hb dX0_sum_381 hl (by decide) rfl (fun ls hl => ?_)
                                exact (hPJx37 _).1 hjx37 _ (lv_sub hl [1, 2, 3, 0, 4] rfl)
                              replace hjx42 := hjx42 _ rfl
                              refine lx_lne (tgt := 375) hx hb dX0_sum_365 dX0_sum_366 (by decide) (fun c43 => ?_) (fun c43 => ?_)
                              · replace hjx42 := pf_f (P := PJx42) c43 hjx42
                                refine lv_lload hx hb dX0_sum_375 (lv_at hl 3 rfl) ?_
                                refine lv_ldc2 (v := (-1)) hx hb hown (hts _ q547) dX0_sum_377 ?_
                                refine lv_lxor hx hb dX0_sum_380 ?_
                                exact (hPJx42 _).1 hjx42 _ (lv_sub hl [2, 1, 0, 4] rfl)
                              · replace hjx42 := pf_t (P := PJx42) c43 hjx42
                                refine lv_lload hx hb dX0_sum_369 (lv_at hl 3 rfl) ?_
                                refine lv_lneg hx hb dX0_sum_371 ?_
                                refine lv_goto (tgt := 381) hx hb dX0_sum_372 (by decide) ?_
                                exact (hPJx42 _).1 hjx42 _ (lv_sub hl [2, 1, 0, 4] rfl)
                            replace hjx39 := hjx39 _ rfl
                            refine lv_if_ne (tgt := 354) hx hb dX0_sum_347 (by decide) (fun c40 => ?_) (fun c40 => ?_)
                            · replace hjx39 := pf_f (P := PJx39) c40 hjx39
                              refine lv_iconst (v := 0) hx hb dX0_sum_354 (by decide) ?_
                              exact (hPJx39 _).1 hjx39 _ (lv_sub hl [1, 3, 0, 4] rfl)
                            · replace hjx39 := pf_t (P := PJx39) c40 hjx39
                              refine lv_iconst (v := 1) hx hb dX0_sum_350 (by decide) ?_
                              refine lv_goto (tgt := 355) hx hb dX0_sum_351 (by decide) ?_
                              exact (hPJx39 _).1 hjx39 _ (lv_sub hl [1, 3, 0, 4] rfl)
                        replace hjx35 := hjx35 _ rfl
                        refine lv_if_eq (tgt := 328) hx hb dX0_sum_314 (by decide) (fun c36 => ?_) (fun c36 => ?_)
                        · replace hjx35 := pf_t (P := PJx35) c36 hjx35
                          refine lv_lload hx hb dX0_sum_328 (lv_at hl 3 rfl) ?_
                          refine lv_lload hx hb dX0_sum_330 (lv_at hl 5 rfl) ?_
                          refine lv_lsub hx hb dX0_sum_332 ?_
                          refine lv_lload hx hb dX0_sum_333 (lv_at hl 7 rfl) ?_
                          refine lv_lsub hx hb dX0_sum_335 ?_
                          exact (hPJx35 _).1 hjx35 _ (lv_sub hl [1, 2, 0, 4] rfl)
                        · replace hjx35 := pf_f (P := PJx35) c36 hjx35
                          refine lv_lload hx hb dX0_sum_317 (lv_at hl 3 rfl) ?_
                          refine lv_lload hx hb dX0_sum_319 (lv_at hl 5 rfl) ?_
                          refine lv_ladd hx hb dX0_sum_321 ?_
                          refine lv_lload hx hb dX0_sum_322 (lv_at hl 7 rfl) ?_
                          refine lv_ladd hx hb dX0_sum_324 ?_
                          refine lv_goto (tgt := 336) hx hb dX0_sum_325 (by decide) ?_
                          exact (hPJx35 _).1 hjx35 _ (lv_sub hl [1, 2, 0, 4] rfl)
                      replace hjx33 := hjx33 _ rfl
                      refine lv_if_eq (tgt := 305) hx hb dX0_sum_294 (by decide) (fun c34 => ?_) (fun c34 => ?_)
                      · replace hjx33 := pf_t (P := PJx33) c34 hjx33
                        refine lv_lload hx hb dX0_sum_305 (lv_at hl 3 rfl) ?_
                        refine lv_lload hx hb dX0_sum_307 (lv_at hl 7 rfl) ?_
                        refine lv_lsub hx hb dX0_sum_309 ?_
                        exact (hPJx33 _).1 hjx33 _ (lv_sub hl [1, 2, 4, 5, 6, 8, 0] rfl)
                      · replace hjx33 := pf_f (P := PJx33) c34 hjx33
                        refine lv_lload hx hb dX0_sum_297 (lv_at hl 3 rfl) ?_
                        refine lv_lload hx hb dX0_sum_299 (lv_at hl 7 rfl) ?_
                        refine lv_ladd hx hb dX0_sum_301 ?_
                        refine lv_goto (tgt := 310) hx hb dX0_sum_302 (by decide) ?_
                        exact (hPJx33 _).1 hjx33 _ (lv_sub hl [1, 2, 4, 5, 6, 8, 0] rfl)
                    replace hjx31 := hjx31 _ rfl
                    refine lv_if_ge (tgt := 289) hx hb dX0_sum_282 (by decide) (fun c32 => ?_) (fun c32 => ?_)
                    · replace hjx31 := pf_t (P := PJx31) c32 hjx31
                      refine lv_lconst (v := 0) hx hb dX0_sum_289 (by decide) ?_
                      exact (hPJx31 _).1 hjx31 _ (lv_sub hl [0, 1, 2, 3, 4, 5, 6, 7] rfl)
                    · replace hjx31 := pf_f (P := PJx31) c32 hjx31
                      refine lv_lconst (v := 1) hx hb dX0_sum_285 (by decide) ?_
                      refine lv_goto (tgt := 290) hx hb dX0_sum_286 (by decide) ?_
                      exact (hPJx31 _).1 hjx31 _ (lv_sub hl [0, 1, 2, 3, 4, 5, 6, 7] rfl)
                  replace hjx29 := hjx29 _ rfl
                  refine lv_if_eq (tgt := 275) hx hb dX0_sum_263 (by decide) (fun c30 => ?_) (fun c30 => ?_)
                  · replace hjx29 := pf_t (P := PJx29) c30 hjx29
                    refine lv_lload hx hb dX0_sum_275 (lv_at hl 3 rfl) ?_
                    exact (hPJx29 _).1 hjx29 _ (lv_sub hl [1, 2, 3, 4, 5, 6, 7, 0] rfl)
                  · replace hjx29 := pf_f (P := PJx29) c30 hjx29
                    refine lv_lload hx hb dX0_sum_266 (lv_at hl 3 rfl) ?_
                    refine lv_ldc2 (v := (-1)) hx hb hown (hts _ q547) dX0_sum_268 ?_
                    refine lv_lxor hx hb dX0_sum_271 ?_
                    refine lv_goto (tgt := 277) hx hb dX0_sum_272 (by decide) ?_
                    exact (hPJx29 _).1 hjx29 _ (lv_sub hl [1, 2, 3, 4, 5, 6, 7, 0] rfl)
                replace hjx27 := hjx27 _ rfl
                refine lv_icmp_ne (tgt := 258) hx hb dX0_sum_251 (by decide) (fun c28 => ?_) (fun c28 => ?_)
                · replace hjx27 := pf_f (P := PJx27) c28 hjx27
                  refine lv_iconst (v := 0) hx hb dX0_sum_258 (by decide) ?_
                  exact (hPJx27 _).1 hjx27 _ (lv_sub hl [0, 1, 2, 3, 4, 5, 6] rfl)
                · replace hjx27 := pf_t (P := PJx27) c28 hjx27
                  refine lv_iconst (v := 1) hx hb dX0_sum_254 (by decide) ?_
                  refine lv_goto (tgt := 259) hx hb dX0_sum_255 (by decide) ?_
                  exact (hPJx27 _).1 hjx27 _ (lv_sub hl [0, 1, 2, 3, 4, 5, 6] rfl)
              replace hjx25 := hjx25 _ rfl
              refine lx_dgge (tgt := 250) hx hb dX0_sum_242 dX0_sum_243 (by decide) (fun c26 => ?_) (fun c26 => ?_)
              · replace hjx25 := pf_f (P := PJx25) c26 hjx25
                refine lv_iconst (v := 0) hx hb dX0_sum_250 (by decide) ?_
                exact (hPJx25 _).1 hjx25 _ (lv_sub hl [1, 3, 4, 5, 6, 7, 0] rfl)
              · replace hjx25 := pf_t (P := PJx25) c26 hjx25
                refine lv_iconst (v := 1) hx hb dX0_sum_246 (by decide) ?_
                refine lv_goto (tgt := 251) hx hb dX0_sum_247 (by decide) ?_
                exact (hPJx25 _).1 hjx25 _ (lv_sub hl [1, 3, 4, 5, 6, 7, 0] rfl)
            replace hjx22 := hjx22 _ rfl
            refine lv_icmp_lt (tgt := 213) hx hb dX0_sum_206 (by decide) (fun c23 => ?_) (fun c23 => ?_)
            · replace hjx22 := pf_t (P := PJx22) c23 hjx22
              refine lv_iload hx hb dX0_sum_213 (lv_at hl 7 rfl) ?_
              refine lv_if_lt (tgt := 226) hx hb dX0_sum_215 (by decide) (fun c24 => ?_) (fun c24 => ?_)
              · replace hjx22 := pf_t (P := PJx22) c24 hjx22
                refine lv_lconst (v := 0) hx hb dX0_sum_226 (by decide) ?_
                refine lv_lload hx hb dX0_sum_227 (lv_at hl 8 rfl) ?_
                refine lv_iload hx hb dX0_sum_229 (lv_at hl 7 rfl) ?_
                refine lv_ineg hx hb dX0_sum_231 ?_
                refine cSl (v := fX0_lowered 0 x18 (-x12.2.2.2)) (W.runS (As := [.long 0, .long x18, .int (-x12.2.2.2)]) (rest := []) ⟨hx, hb, hml, hown, hts⟩ (mX0_lowered l D TY 0 x18 (-x12.2.2.2) (fun r => r = fX0_lowered 0 x18 (-x12.2.2.2)) rfl) (va_cwS 3 hts (lw_S q544 q545 q44 q546) rfl rfl rfl hd_X0_lowered ⟨Nat.le_of_ble_eq_true rfl, Nat.le_of_ble_eq_true rfl⟩) (PR.S hP [] rfl hK hG hS) rfl rfl hl.1 rfl (lv_room (Nat.le_of_ble_eq_true rfl)) dX0_sum_232 ⟨Nat.le_of_ble_eq_true rfl, Nat.le_of_ble_eq_true rfl⟩) ?_
                exact (hPJx22 _).1 hjx22 _ (lv_sub hl [1, 2, 3, 4, 5, 6, 0] rfl)
              · replace hjx22 := pf_f (P := PJx22) c24 hjx22
                refine lv_lload hx hb dX0_sum_218 (lv_at hl 8 rfl) ?_
                refine lv_iload hx hb dX0_sum_220 (lv_at hl 7 rfl) ?_
                refine lv_lshl (v := jshl x18 x12.2.2.2) hx hb dX0_sum_222 rfl ?_
                refine lv_goto (tgt := 235) hx hb dX0_sum_223 (by decide) ?_
                exact (hPJx22 _).1 hjx22 _ (lv_sub hl [1, 2, 3, 4, 5, 6, 0] rfl)
            · replace hjx22 := pf_f (P := PJx22) c23 hjx22
              refine lv_lconst (v := 0) hx hb dX0_sum_209 (by decide) ?_
              refine lv_goto (tgt := 235) hx hb dX0_sum_210 (by decide) ?_
              exact (hPJx22 _).1 hjx22 _ (lv_sub hl [1, 2, 3, 4, 5, 6, 0] rfl)
          replace hjx19 := hjx19 _ rfl
          refine lv_if_gt (tgt := 174) hx hb dX0_sum_167 (by decide) (fun c20 => ?_) (fun c20 => ?_)
          · replace hjx19 := pf_t (P := PJx19) c20 hjx19
            refine lv_iload hx hb dX0_sum_174 (lv_at hl 7 rfl) ?_
            refine lv_bipush (v := 64) hx hb dX0_sum_176 (by decide) ?_
            refine lv_icmp_ge (tgt := 192) hx hb dX0_sum_178 (by decide) (fun c21 => ?_) (fun c21 => ?_)
            · replace hjx19 := pf_t (P := PJx19) c21 hjx19
              refine lv_lload hx hb dX0_sum_192 (lv_at hl 0 rfl) ?_
              refine lv_iload hx hb dX0_sum_194 (lv_at hl 7 rfl) ?_
              refine lv_bipush (v := 64) hx hb dX0_sum_196 (by decide) ?_
              refine lv_isub hx hb dX0_sum_198 ?_
              refine lv_lshl (v := jshl x18 (x12.2.2.2 - 64)) hx hb dX0_sum_199 rfl ?_
              exact (hPJx19 _).1 hjx19 _ (lv_sub hl [1, 2, 3, 4, 5, 6, 7, 0] rfl)
            · replace hjx19 := pf_f (P := PJx19) c21 hjx19
              refine lv_lload hx hb dX0_sum_181 (lv_at hl 0 rfl) ?_
              refine lv_bipush (v := 64) hx hb dX0_sum_183 (by decide) ?_
              refine lv_iload hx hb dX0_sum_185 (lv_at hl 7 rfl) ?_
              refine lv_isub hx hb dX0_sum_187 ?_
              refine lv_lushr (v := jushr x18 (64 - x12.2.2.2)) hx hb dX0_sum_188 rfl ?_
              refine lv_goto (tgt := 200) hx hb dX0_sum_189 (by decide) ?_
              exact (hPJx19 _).1 hjx19 _ (lv_sub hl [1, 2, 3, 4, 5, 6, 7, 0] rfl)
          · replace hjx19 := pf_f (P := PJx19) c20 hjx19
            refine lv_lconst (v := 0) hx hb dX0_sum_170 (by decide) ?_
            refine lv_goto (tgt := 200) hx hb dX0_sum_171 (by decide) ?_
            exact (hPJx19 _).1 hjx19 _ (lv_sub hl [1, 2, 3, 4, 5, 6, 7, 0] rfl)
        replace hjx12 := hjx12 _ rfl
        refine lv_icmp_le (tgt := 158) hx hb dX0_sum_103 (by decide) (fun c13 => ?_) (fun c13 => ?_)
        · replace hjx12 := pf_t (P := PJx12) c13 hjx12
          exact (hPJx12 _).1 hjx12 _ (lv_sub hl [5, 8, 4, 2, 3, 1, 0] rfl)
        · replace hjx12 := pf_f (P := PJx12) c13 hjx12
          refine lv_lload hx hb dX0_sum_106 (lv_at hl 3 rfl) ?_
          refine lv_lload hx hb dX0_sum_108 (lv_at hl 2 rfl) ?_
          refine lv_iload hx hb dX0_sum_110 (lv_at hl 0 rfl) ?_
          refine lv_bipush (v := 73) hx hb dX0_sum_112 (by decide) ?_
          refine lv_isub hx hb dX0_sum_114 ?_
          refine cSl (v := fX0_lowered x8 x9 (x11 - 73)) (W.runS (As := [.long x8, .long x9, .int (x11 - 73)]) (rest := []) ⟨hx, hb, hml, hown, hts⟩ (mX0_lowered l D TY x8 x9 (x11 - 73) (fun r => r = fX0_lowered x8 x9 (x11 - 73)) rfl) (va_cwS 3 hts (lw_S q544 q545 q44 q546) rfl rfl rfl hd_X0_lowered ⟨Nat.le_of_ble_eq_true rfl, Nat.le_of_ble_eq_true rfl⟩) (PR.S hP [] rfl hK hG hS) rfl rfl hl.1 rfl (lv_room (Nat.le_of_ble_eq_true rfl)) dX0_sum_115 ⟨Nat.le_of_ble_eq_true rfl, Nat.le_of_ble_eq_true rfl⟩) ?_
          refine lv_topl (fun x14 ex14 => ?_)
          replace hjx12 := pf_let (P := PJx12) hjx12 x14 ex14
          refine lv_lstore (lv' := [(8, .long x14), (13, .int x11), (12, .int x10), (10, .long x8), (7, .int x5), (0, .ref h0), (1, .double p1), (3, .double p3), (5, .double p5)]) hx hb dX0_sum_118 hl (by decide) rfl (fun ls hl => ?_)
          refine lv_iload hx hb dX0_sum_120 (lv_at hl 1 rfl) ?_
          refine lv_bipush (v := 73) hx hb dX0_sum_122 (by decide) ?_
          refine lv_isub hx hb dX0_sum_124 ?_
          refine lv_bipush (v := 64) hx hb dX0_sum_125 (by decide) ?_
          obtain ⟨PJx15, hPJx15⟩ : ∃ P : Int64 → Prop, ∀ x15 : Int64, P x15 ↔ ∀ ls : Array Slot, lv_has ls 24 [(0, .ref h0), (5, .double p5), (7, .int x5), (8, .long x14), (12, .int x10), (13, .int x11)] → W p l e (headSpec (ws_ yX0_sum cX0_sum 24 (Option.some Jvm.ClassFile.FieldType.double)) ({ frames := 5, cells := 0, slots := 0, locals := 119 })).room s m ([.ref h0, .double p1, .double p3, .double p5] : List Value).toArray below meth c s.heap ([]) 0 0 (MQ below (vp_Sd post) ([.ref h0, .double p1, .double p3, .double p5] : List Value).toArray s 0 0 (fun _ => False)) (F0 m 142 ls [.long x15]) := ⟨_, fun _ => Iff.rfl⟩
          have hjx15 : ∀ x15 : Int64, x15 = (if 64 ≤ (x11 - 73) then 0 else (jushr x8 (x11 - 73))) → PJx15 x15 := by
            intro x15 ex15
            rw [hPJx15]
            intro ls hl
            replace hjx12 := pf_let (P := PJx12) hjx12 x15 ex15
            refine lv_lstore (lv' := [(10, .long x15), (0, .ref h0), (5, .double p5), (7, .int x5), (8, .long x14), (12, .int x10), (13, .int x11)]) hx hb dX0_sum_142 hl (by decide) rfl (fun ls hl => ?_)
            refine lv_iload hx hb dX0_sum_144 (lv_at hl 5 rfl) ?_
            refine lv_iload hx hb dX0_sum_146 (lv_at hl 6 rfl) ?_
            refine lv_bipush (v := 73) hx hb dX0_sum_148 (by decide) ?_
            refine lv_isub hx hb dX0_sum_150 ?_
            refine lv_iadd hx hb dX0_sum_151 ?_
            refine lv_topi (fun x17 ex17 => ?_)
            replace hjx12 := pf_let (P := PJx12) hjx12 x17 ex17
            refine lv_istore (lv' := [(12, .int x17), (10, .long x15), (0, .ref h0), (5, .double p5), (7, .int x5), (8, .long x14), (13, .int x11)]) hx hb dX0_sum_152 hl (by decide) rfl (fun ls hl => ?_)
            refine lv_bipush (v := 73) hx hb dX0_sum_154 (by decide) ?_
            refine lv_istore (lv' := [(13, .int 73), (12, .int x17), (10, .long x15), (0, .ref h0), (5, .double p5), (7, .int x5), (8, .long x14)]) hx hb dX0_sum_156 hl (by decide) rfl (fun ls hl => ?_)
            exact (hPJx12 _).1 hjx12 _ (lv_sub hl [3, 4, 5, 6, 2, 1, 0] rfl)
          replace hjx15 := hjx15 _ rfl
          refine lv_icmp_ge (tgt := 141) hx hb dX0_sum_127 (by decide) (fun c16 => ?_) (fun c16 => ?_)
          · replace hjx15 := pf_t (P := PJx15) c16 hjx15
            refine lv_lconst (v := 0) hx hb dX0_sum_141 (by decide) ?_
            exact (hPJx15 _).1 hjx15 _ (lv_sub hl [5, 8, 4, 0, 2, 1] rfl)
          · replace hjx15 := pf_f (P := PJx15) c16 hjx15
            refine lv_lload hx hb dX0_sum_130 (lv_at hl 3 rfl) ?_
            refine lv_iload hx hb dX0_sum_132 (lv_at hl 1 rfl) ?_
            refine lv_bipush (v := 73) hx hb dX0_sum_134 (by decide) ?_
            refine lv_isub hx hb dX0_sum_136 ?_
            refine lv_lushr (v := jushr x8 (x11 - 73)) hx hb dX0_sum_137 rfl ?_
            refine lv_goto (tgt := 142) hx hb dX0_sum_138 (by decide) ?_
            exact (hPJx15 _).1 hjx15 _ (lv_sub hl [5, 8, 4, 0, 2, 1] rfl)
      replace hjx5 := hjx5 _ rfl
      refine lv_icmp_eq (tgt := 29) hx hb dX0_sum_22 (by decide) (fun c6 => ?_) (fun c6 => ?_)
      · replace hjx5 := pf_t (P := PJx5) c6 hjx5
        refine lv_iconst (v := 0) hx hb dX0_sum_29 (by decide) ?_
        exact (hPJx5 _).1 hjx5 _ (lv_sub hl [0, 1, 2, 3] rfl)
      · replace hjx5 := pf_f (P := PJx5) c6 hjx5
        refine lv_iconst (v := 1) hx hb dX0_sum_25 (by decide) ?_
        refine lv_goto (tgt := 30) hx hb dX0_sum_26 (by decide) ?_
        exact (hPJx5 _).1 hjx5 _ (lv_sub hl [0, 1, 2, 3] rfl)
    replace hjx3 := hjx3 _ rfl
    refine lx_dgge (tgt := 21) hx hb dX0_sum_13 dX0_sum_14 (by decide) (fun c4 => ?_) (fun c4 => ?_)
    · replace hjx3 := pf_f (P := PJx3) c4 hjx3
      refine lv_iconst (v := 0) hx hb dX0_sum_21 (by decide) ?_
      exact (hPJx3 _).1 hjx3 _ (lv_sub hl [0, 1, 2, 3] rfl)
    · replace hjx3 := pf_t (P := PJx3) c4 hjx3
      refine lv_iconst (v := 1) hx hb dX0_sum_17 (by decide) ?_
      refine lv_goto (tgt := 22) hx hb dX0_sum_18 (by decide) ?_
      exact (hPJx3 _).1 hjx3 _ (lv_sub hl [0, 1, 2, 3] rfl)
  replace hjx1 := hjx1 _ rfl
  refine lx_dgge (tgt := 10) hx hb dX0_sum_2 dX0_sum_3 (by decide) (fun c2 => ?_) (fun c2 => ?_)
  · replace hjx1 := pf_f (P := PJx1) c2 hjx1
    refine lv_iconst (v := 0) hx hb dX0_sum_10 (by decide) ?_
    exact (hPJx1 _).1 hjx1 _ (lv_sub hl [0, 1, 2, 3] rfl)
  · replace hjx1 := pf_t (P := PJx1) c2 hjx1
    refine lv_iconst (v := 1) hx hb dX0_sum_6 (by decide) ?_
    refine lv_goto (tgt := 11) hx hb dX0_sum_7 (by decide) ?_
    exact (hPJx1 _).1 hjx1 _ (lv_sub hl [0, 1, 2, 3] rfl)

def fX0_sum_F (p1 : UInt64) (p3 : UInt64) (p5 : UInt64) : UInt64 := lt_ (if Dlt p1 FP.dconst0 then 1 else 0) (fun x1 : Int32 => lt_ (if Dlt p3 FP.dconst0 then 1 else 0) (fun x3 : Int32 => lt_ (if x1 = x3 then 0 else 1) (fun x5 : Int32 => lt_ ((fX0_sizeOf p1) * (fX0_sizeOf p3)) (fun x7 : Int64 => lt_ ((jshl (fJ2_multiplyHigh (fX0_sizeOf p1) (fX0_sizeOf p3)) 20) ||| (jushr x7 44)) (fun x8 : Int64 => lt_ (jshl x7 20) (fun x9 : Int64 => lt_ (((fX0_exponentOf p1) + (fX0_exponentOf p3)) - 124) (fun x10 : Int32 => lt_ (((fX0_exponentOf p5) - 52) - x10) (fun x11 : Int32 => lt_ (if x11 ≤ 73 then (x9, x8, x10, x11) else (lt_ (fX0_lowered x8 x9 (x11 - 73)) (fun x14 : Int64 => lt_ (if 64 ≤ (x11 - 73) then 0 else (jushr x8 (x11 - 73))) (fun x15 : Int64 => lt_ (x10 + (x11 - 73)) (fun x17 : Int32 => (x14, x15, x17, 73)))))) (fun x12 : Int64 × Int64 × Int32 × Int32 => lt_ (fX0_sizeOf p5) (fun x18 : Int64 => lt_ (if 0 < x12.2.2.2 then (if 64 ≤ x12.2.2.2 then (jshl x18 (x12.2.2.2 - 64)) else (jushr x18 (64 - x12.2.2.2))) else 0) (fun x19 : Int64 => lt_ (if x12.2.2.2 < 64 then (if x12.2.2.2 < 0 then (fX0_lowered 0 x18 (-x12.2.2.2)) else (jshl x18 x12.2.2.2)) else 0) (fun x22 : Int64 => lt_ (if Dlt p5 FP.dconst0 then 1 else 0) (fun x25 : Int32 => lt_ (if x5 = x25 then 1 else 0) (fun x27 : Int32 => lt_ (if x27 = 0 then x12.1 else (x12.1 ^^^ (-1))) (fun x29 : Int64 => lt_ (if 0 ≤ (fJ3_compareUnsigned x29 x22) then 0 else 1) (fun x31 : Int64 => lt_ (if x27 = 0 then (x12.1 - x22) else (x12.1 + x22)) (fun x33 : Int64 => lt_ (if x27 = 0 then ((x12.2.1 - x19) - x31) else ((x12.2.1 + x19) + x31)) (fun x35 : Int64 => lt_ (if x35 < 0 then (lt_ (if x5 = 0 then 1 else 0) (fun x39 : Int32 => lt_ (-x33) (fun x41 : Int64 => lt_ (if x41 = 0 then (-x35) else (x35 ^^^ (-1))) (fun x42 : Int64 => (x39, x41, x42))))) else (x5, x33, x35)) (fun x37 : Int32 × Int64 × Int64 => if x37.2.2 = 0 then (if x37.2.1 = 0 then FP.dconst0 else (lt_ (64 - (fJ3_numberOfLeadingZeros x37.2.2)) (fun x47 : Int32 => fX0_round_F x37.1 (fX0_lowered x37.2.2 x37.2.1 x47) ((x12.2.2.1 + x47).toInt64)))) else (lt_ (64 - (fJ3_numberOfLeadingZeros x37.2.2)) (fun x45 : Int32 => fX0_round_F x37.1 (fX0_lowered x37.2.2 x37.2.1 x45) ((x12.2.2.1 + x45).toInt64))))))))))))))))))))))
def oX0_sum_F (p1 : UInt64) (p3 : UInt64) (p5 : UInt64) : Prop := (∀ x1 : Int32, x1 = (if Dlt p1 FP.dconst0 then 1 else 0) → (∀ x3 : Int32, x3 = (if Dlt p3 FP.dconst0 then 1 else 0) → (∀ x5 : Int32, x5 = (if x1 = x3 then 0 else 1) → (oX0_sizeOf p1) ∧ ((oX0_sizeOf p3) ∧ (∀ x7 : Int64, x7 = (fX0_sizeOf p1) * (fX0_sizeOf p3) → (oX0_sizeOf p1) ∧ ((oX0_sizeOf p3) ∧ (∀ x8 : Int64, x8 = (jshl (fJ2_multiplyHigh (fX0_sizeOf p1) (fX0_sizeOf p3)) 20) ||| (jushr x7 44) → ∀ x9 : Int64, x9 = jshl x7 20 → (oX0_exponentOf p1) ∧ ((oX0_exponentOf p3) ∧ (∀ x10 : Int32, x10 = ((fX0_exponentOf p1) + (fX0_exponentOf p3)) - 124 → (oX0_exponentOf p5) ∧ (∀ x11 : Int32, x11 = ((fX0_exponentOf p5) - 52) - x10 → (∀ x12 : Int64 × Int64 × Int32 × Int32, x12 = (if x11 ≤ 73 then (x9, x8, x10, x11) else (lt_ (fX0_lowered x8 x9 (x11 - 73)) (fun x14 : Int64 => lt_ (if 64 ≤ (x11 - 73) then 0 else (jushr x8 (x11 - 73))) (fun x15 : Int64 => lt_ (x10 + (x11 - 73)) (fun x17 : Int32 => (x14, x15, x17, 73)))))) → (oX0_sizeOf p5) ∧ (∀ x18 : Int64, x18 = fX0_sizeOf p5 → (∀ x19 : Int64, x19 = (if 0 < x12.2.2.2 then (if 64 ≤ x12.2.2.2 then (jshl x18 (x12.2.2.2 - 64)) else (jushr x18 (64 - x12.2.2.2))) else 0) → (∀ x22 : Int64, x22 = (if x12.2.2.2 < 64 then (if x12.2.2.2 < 0 then (fX0_lowered 0 x18 (-x12.2.2.2)) else (jshl x18 x12.2.2.2)) else 0) → (∀ x25 : Int32, x25 = (if Dlt p5 FP.dconst0 then 1 else 0) → (∀ x27 : Int32, x27 = (if x5 = x25 then 1 else 0) → (∀ x29 : Int64, x29 = (if x27 = 0 then x12.1 else (x12.1 ^^^ (-1))) → (∀ x31 : Int64, x31 = (if 0 ≤ (fJ3_compareUnsigned x29 x22) then 0 else 1) → (∀ x33 : Int64, x33 = (if x27 = 0 then (x12.1 - x22) else (x12.1 + x22)) → (∀ x35 : Int64, x35 = (if x27 = 0 then ((x12.2.1 - x19) - x31) else ((x12.2.1 + x19) + x31)) → (∀ x37 : Int32 × Int64 × Int64, x37 = (if x35 < 0 then (lt_ (if x5 = 0 then 1 else 0) (fun x39 : Int32 => lt_ (-x33) (fun x41 : Int64 => lt_ (if x41 = 0 then (-x35) else (x35 ^^^ (-1))) (fun x42 : Int64 => (x39, x41, x42))))) else (x5, x33, x35)) → ((x37.2.2 = 0) → ((x37.2.1 = 0) → True) ∧ (¬ (x37.2.1 = 0) → ∀ x47 : Int32, x47 = 64 - (fJ3_numberOfLeadingZeros x37.2.2) → (oX0_round_F (fX0_lowered x37.2.2 x37.2.1 x47) ((x12.2.2.1 + x47).toInt64)))) ∧ (¬ (x37.2.2 = 0) → ∀ x45 : Int32, x45 = 64 - (fJ3_numberOfLeadingZeros x37.2.2) → (oX0_round_F (fX0_lowered x37.2.2 x37.2.1 x45) ((x12.2.2.1 + x45).toInt64))))))))))))))))))))))))
set_option maxHeartbeats 4000000 in
set_option maxRecDepth 100000 in
theorem mX0_sum_F (l : Launch) (D : va_G) (TY : Nat → ClassId) (h0 : Nat) (p1 : UInt64) (p3 : UInt64) (p5 : UInt64) (post : UInt64 → Prop) (hw : post (fX0_sum_F p1 p3 p5)) (hok : oX0_sum_F p1 p3 p5) : Met l yX0_sum (ws_ yX0_sum cX0_sum 24 (Option.some Jvm.ClassFile.FieldType.double)) ({ frames := 6, cells := 0, slots := 0, locals := 142 }) (PR D TY [.ref h0, .double p1, .double p3, .double p5] [(h0, .inr (2, []))]) (vp_Sd post) 0 0 (fun _ => False) := by
  refine ofWF (cc := cX0_sum) (maxL := 24) (ret := (Option.some Jvm.ClassFile.FieldType.double)) (plainFor_of_name (by decide)) rfl ?_
  intro p e s m args below meth c s₁ B hml hv
  obtain ⟨rfl, hP, hK, hG⟩ := hv
  have hx := B.exec
  have hb := B.bytes
  have hr := B.returns
  have hts0 := atoms_spec (ws := ws_ yX0_sum cX0_sum 24 (Option.some Jvm.ClassFile.FieldType.double)) B.pre
  have hts : ∀ w ∈ lw_all, w.before _ s = true := fun w h => hts0 w (List.mem_cons_of_mem _ h)
  have hown : s.vm.findClass RX0 = some m.cls := findClass_of_methodNamed B.named
  have hlocks := B.notSynchronized
  have hS : va_S (fun _ => False) s.heap s.heap [] := va_S.rf
  have hl := lv_entry ([.ref h0, .double p1, .double p3, .double p5]) (n := 24) (Nat.le_of_ble_eq_true rfl)
  rw [lg_entry_eq]
  generalize (lg_sl ([.ref h0, .double p1, .double p3, .double p5]) ++ List.replicate (24 - (lg_sl ([.ref h0, .double p1, .double p3, .double p5])).length) Slot.unset).toArray = ls at hl ⊢
  have hl : lv_has ls 24 [(0, .ref h0), (1, .double p1), (3, .double p3), (5, .double p5)] := hl
  unfold fX0_sum_F at hw
  unfold oX0_sum_F at hok
  refine lv_dload_n hx hb dX0_sum_0 rfl (lv_at hl 1 rfl) ?_
  refine lv_dconst0 hx hb dX0_sum_1 ?_
  obtain ⟨PJx1, hPJx1⟩ : ∃ P : Int32 → Prop, ∀ x1 : Int32, P x1 ↔ ∀ ls : Array Slot, lv_has ls 24 [(0, .ref h0), (1, .double p1), (3, .double p3), (5, .double p5)] → W p l e (headSpec (ws_ yX0_sum cX0_sum 24 (Option.some Jvm.ClassFile.FieldType.double)) ({ frames := 6, cells := 0, slots := 0, locals := 142 })).room s m ([.ref h0, .double p1, .double p3, .double p5] : List Value).toArray below meth c s.heap ([]) 0 0 (MQ below (vp_Sd post) ([.ref h0, .double p1, .double p3, .double p5] : List Value).toArray s 0 0 (fun _ => False)) (F0 m 11 ls [.int x1]) := ⟨_, fun _ => Iff.rfl⟩
  have hjx1 : ∀ x1 : Int32, x1 = (if Dlt p1 FP.dconst0 then 1 else 0) → PJx1 x1 := by
    intro x1 ex1
    rw [hPJx1]
    intro ls hl
    replace hw := pf_let (P := post) hw x1 ex1
    replace hok := hok x1 ex1
    refine lv_dload_n hx hb dX0_sum_11 rfl (lv_at hl 2 rfl) ?_
    refine lv_dconst0 hx hb dX0_sum_12 ?_
    obtain ⟨PJx3, hPJx3⟩ : ∃ P : Int32 → Prop, ∀ x3 : Int32, P x3 ↔ ∀ ls : Array Slot, lv_has ls 24 [(0, .ref h0), (1, .double p1), (3, .double p3), (5, .double p5)] → W p l e (headSpec (ws_ yX0_sum cX0_sum 24 (Option.some Jvm.ClassFile.FieldType.double)) ({ frames := 6, cells := 0, slots := 0, locals := 142 })).room s m ([.ref h0, .double p1, .double p3, .double p5] : List Value).toArray below meth c s.heap ([]) 0 0 (MQ below (vp_Sd post) ([.ref h0, .double p1, .double p3, .double p5] : List Value).toArray s 0 0 (fun _ => False)) (F0 m 22 ls [.int x3, .int x1]) := ⟨_, fun _ => Iff.rfl⟩
    have hjx3 : ∀ x3 : Int32, x3 = (if Dlt p3 FP.dconst0 then 1 else 0) → PJx3 x3 := by
      intro x3 ex3
      rw [hPJx3]
      intro ls hl
      replace hw := pf_let (P := post) hw x3 ex3
      replace hok := hok x3 ex3
      obtain ⟨PJx5, hPJx5⟩ : ∃ P : Int32 → Prop, ∀ x5 : Int32, P x5 ↔ ∀ ls : Array Slot, lv_has ls 24 [(0, .ref h0), (1, .double p1), (3, .double p3), (5, .double p5)] → W p l e (headSpec (ws_ yX0_sum cX0_sum 24 (Option.some Jvm.ClassFile.FieldType.double)) ({ frames := 6, cells := 0, slots := 0, locals := 142 })).room s m ([.ref h0, .double p1, .double p3, .double p5] : List Value).toArray below meth c s.heap ([]) 0 0 (MQ below (vp_Sd post) ([.ref h0, .double p1, .double p3, .double p5] : List Value).toArray s 0 0 (fun _ => False)) (F0 m 30 ls [.int x5]) := ⟨_, fun _ => Iff.rfl⟩
      have hjx5 : ∀ x5 : Int32, x5 = (if x1 = x3 then 0 else 1) → PJx5 x5 := by
        intro x5 ex5
        rw [hPJx5]
        intro ls hl
        replace hw := pf_let (P := post) hw x5 ex5
        replace hok := hok x5 ex5
        refine lv_istore (lv' := [(7, .int x5), (0, .ref h0), (1, .double p1), (3, .double p3), (5, .double p5)]) hx hb dX0_sum_30 hl (by decide) rfl (fun ls hl => ?_)
        refine lv_dload_n hx hb dX0_sum_32 rfl (lv_at hl 2 rfl) ?_
        refine cSl (v := fX0_sizeOf p1) (W.runS (As := [.double p1]) (rest := []) ⟨hx, hb, hml, hown, hts⟩ (mX0_sizeOf l D TY p1 (fun r => r = fX0_sizeOf p1) rfl hok.1) (va_cwS 1 hts (lw_S q435 q436 q44 q437) rfl rfl rfl hd_X0_sizeOf ⟨Nat.le_of_ble_eq_true rfl, Nat.le_of_ble_eq_true rfl⟩) (PR.S hP [] rfl hK hG hS) rfl rfl hl.1 rfl (lv_room (Nat.le_of_ble_eq_true rfl)) dX0_sum_33 ⟨Nat.le_of_ble_eq_true rfl, Nat.le_of_ble_eq_true rfl⟩) ?_
        replace hok := hok.2
        refine lv_dload_n hx hb dX0_sum_36 rfl (lv_at hl 3 rfl) ?_
        refine cSl (v := fX0_sizeOf p3) (W.runS (As := [.double p3]) (rest := [.long (fX0_sizeOf p1)]) ⟨hx, hb, hml, hown, hts⟩ (mX0_sizeOf l D TY p3 (fun r => r = fX0_sizeOf p3) rfl hok.1) (va_cwS 1 hts (lw_S q435 q436 q44 q437) rfl rfl rfl hd_X0_sizeOf ⟨Nat.le_of_ble_eq_true rfl, Nat.le_of_ble_eq_true rfl⟩) (PR.S hP [] rfl hK hG hS) rfl rfl hl.1 rfl (lv_room (Nat.le_of_ble_eq_true rfl)) dX0_sum_37 ⟨Nat.le_of_ble_eq_true rfl, Nat.le_of_ble_eq_true rfl⟩) ?_
        replace hok := hok.2
        refine lv_lmul hx hb dX0_sum_40 ?_
        refine lv_topl (fun x7 ex7 => ?_)
        replace hw := pf_let (P := post) hw x7 ex7
        replace hok := hok x7 ex7
        refine lv_lstore (lv' := [(8, .long x7), (7, .int x5), (0, .ref h0), (1, .double p1), (3, .double p3), (5, .double p5)]) hx hb dX0_sum_41 hl (by decide) rfl (fun ls hl => ?_)
        refine lv_dload_n hx hb dX0_sum_43 rfl (lv_at hl 3 rfl) ?_
        refine cSl (v := fX0_sizeOf p1) (W.runS (As := [.double p1]) (rest := []) ⟨hx, hb, hml, hown, hts⟩ (mX0_sizeOf l D TY p1 (fun r => r = fX0_sizeOf p1) rfl hok.1) (va_cwS 1 hts (lw_S q435 q436 q44 q437) rfl rfl rfl hd_X0_sizeOf ⟨Nat.le_of_ble_eq_true rfl, Nat.le_of_ble_eq_true rfl⟩) (PR.S hP [] rfl hK hG hS) rfl rfl hl.1 rfl (lv_room (Nat.le_of_ble_eq_true rfl)) dX0_sum_44 ⟨Nat.le_of_ble_eq_true rfl, Nat.le_of_ble_eq_true rfl⟩) ?_
        replace hok := hok.2
        refine lv_dload_n hx hb dX0_sum_47 rfl (lv_at hl 4 rfl) ?_
        refine cSl (v := fX0_sizeOf p3) (W.runS (As := [.double p3]) (rest := [.long (fX0_sizeOf p1)]) ⟨hx, hb, hml, hown, hts⟩ (mX0_sizeOf l D TY p3 (fun r => r = fX0_sizeOf p3) rfl hok.1) (va_cwS 1 hts (lw_S q435 q436 q44 q437) rfl rfl rfl hd_X0_sizeOf ⟨Nat.le_of_ble_eq_true rfl, Nat.le_of_ble_eq_true rfl⟩) (PR.S hP [] rfl hK hG hS) rfl rfl hl.1 rfl (lv_room (Nat.le_of_ble_eq_true rfl)) dX0_sum_48 ⟨Nat.le_of_ble_eq_true rfl, Nat.le_of_ble_eq_true rfl⟩) ?_
        replace hok := hok.2
        refine cSl (v := fJ2_multiplyHigh (fX0_sizeOf p1) (fX0_sizeOf p3)) (W.runS (As := [.long (fX0_sizeOf p1), .long (fX0_sizeOf p3)]) (rest := []) ⟨hx, hb, hml, hown, hts⟩ (mJ2_multiplyHigh l D TY (fX0_sizeOf p1) (fX0_sizeOf p3) (fun r => r = fJ2_multiplyHigh (fX0_sizeOf p1) (fX0_sizeOf p3)) rfl) (va_cwS 2 hts (lw_S q444 q445 q54 q446) rfl rfl rfl hd_J2_multiplyHigh ⟨Nat.le_of_ble_eq_true rfl, Nat.le_of_ble_eq_true rfl⟩) (PR.S hP [] rfl hK hG hS) rfl rfl hl.1 rfl (lv_room (Nat.le_of_ble_eq_true rfl)) dX0_sum_51 ⟨Nat.le_of_ble_eq_true rfl, Nat.le_of_ble_eq_true rfl⟩) ?_
        refine lv_bipush (v := 20) hx hb dX0_sum_54 (by decide) ?_
        refine lv_lshl (v := jshl (fJ2_multiplyHigh (fX0_sizeOf p1) (fX0_sizeOf p3)) 20) hx hb dX0_sum_56 rfl ?_
        refine lv_lload hx hb dX0_sum_57 (lv_at hl 0 rfl) ?_
        refine lv_bipush (v := 44) hx hb dX0_sum_59 (by decide) ?_
        refine lv_lushr (v := jushr x7 44) hx hb dX0_sum_61 rfl ?_
        refine lv_lor hx hb dX0_sum_62 ?_
        refine lv_topl (fun x8 ex8 => ?_)
        replace hw := pf_let (P := post) hw x8 ex8
        replace hok := hok x8 ex8
        refine lv_lstore (lv' := [(10, .long x8), (8, .long x7), (7, .int x5), (0, .ref h0), (1, .double p1), (3, .double p3), (5, .double p5)]) hx hb dX0_sum_63 hl (by decide) rfl (fun ls hl => ?_)
        refine lv_lload hx hb dX0_sum_65 (lv_at hl 1 rfl) ?_
        refine lv_bipush (v := 20) hx hb dX0_sum_67 (by decide) ?_
        refine lv_lshl (v := jshl x7 20) hx hb dX0_sum_69 rfl ?_
        refine lv_topl (fun x9 ex9 => ?_)
        replace hw := pf_let (P := post) hw x9 ex9
        replace hok := hok x9 ex9
        refine lv_lstore (lv' := [(8, .long x9), (10, .long x8), (7, .int x5), (0, .ref h0), (1, .double p1), (3, .double p3), (5, .double p5)]) hx hb dX0_sum_70 hl (by decide) rfl (fun ls hl => ?_)
        refine lv_dload_n hx hb dX0_sum_72 rfl (lv_at hl 4 rfl) ?_
        refine cSi (v := fX0_exponentOf p1) (W.runS (As := [.double p1]) (rest := []) ⟨hx, hb, hml, hown, hts⟩ (mX0_exponentOf l D TY p1 (fun r => r = fX0_exponentOf p1) rfl hok.1) (va_cwS 1 hts (lw_S q303 q150 q44 q151) rfl rfl rfl hd_X0_exponentOf ⟨Nat.le_of_ble_eq_true rfl, Nat.le_of_ble_eq_true rfl⟩) (PR.S hP [] rfl hK hG hS) rfl rfl hl.1 rfl (lv_room (Nat.le_of_ble_eq_true rfl)) dX0_sum_73 ⟨Nat.le_of_ble_eq_true rfl, Nat.le_of_ble_eq_true rfl⟩) ?_
        replace hok := hok.2
        refine lv_dload_n hx hb dX0_sum_76 rfl (lv_at hl 5 rfl) ?_
        refine cSi (v := fX0_exponentOf p3) (W.runS (As := [.double p3]) (rest := [.int (fX0_exponentOf p1)]) ⟨hx, hb, hml, hown, hts⟩ (mX0_exponentOf l D TY p3 (fun r => r = fX0_exponentOf p3) rfl hok.1) (va_cwS 1 hts (lw_S q303 q150 q44 q151) rfl rfl rfl hd_X0_exponentOf ⟨Nat.le_of_ble_eq_true rfl, Nat.le_of_ble_eq_true rfl⟩) (PR.S hP [] rfl hK hG hS) rfl rfl hl.1 rfl (lv_room (Nat.le_of_ble_eq_true rfl)) dX0_sum_77 ⟨Nat.le_of_ble_eq_true rfl, Nat.le_of_ble_eq_true rfl⟩) ?_
        replace hok := hok.2
        refine lv_iadd hx hb dX0_sum_80 ?_
        refine lv_bipush (v := 124) hx hb dX0_sum_81 (by decide) ?_
        refine lv_isub hx hb dX0_sum_83 ?_
        refine lv_topi (fun x10 ex10 => ?_)
        replace hw := pf_let (P := post) hw x10 ex10
        replace hok := hok x10 ex10
        refine lv_istore (lv' := [(12, .int x10), (8, .long x9), (10, .long x8), (7, .int x5), (0, .ref h0), (1, .double p1), (3, .double p3), (5, .double p5)]) hx hb dX0_sum_84 hl (by decide) rfl (fun ls hl => ?_)
        refine lv_dload hx hb dX0_sum_86 (lv_at hl 7 rfl) ?_
        refine cSi (v := fX0_exponentOf p5) (W.runS (As := [.double p5]) (rest := []) ⟨hx, hb, hml, hown, hts⟩ (mX0_exponentOf l D TY p5 (fun r => r = fX0_exponentOf p5) rfl hok.1) (va_cwS 1 hts (lw_S q303 q150 q44 q151) rfl rfl rfl hd_X0_exponentOf ⟨Nat.le_of_ble_eq_true rfl, Nat.le_of_ble_eq_true rfl⟩) (PR.S hP [] rfl hK hG hS) rfl rfl hl.1 rfl (lv_room (Nat.le_of_ble_eq_true rfl)) dX0_sum_88 ⟨Nat.le_of_ble_eq_true rfl, Nat.le_of_ble_eq_true rfl⟩) ?_
        replace hok := hok.2
        refine lv_bipush (v := 52) hx hb dX0_sum_91 (by decide) ?_
        refine lv_isub hx hb dX0_sum_93 ?_
        refine lv_iload hx hb dX0_sum_94 (lv_at hl 0 rfl) ?_
        refine lv_isub hx hb dX0_sum_96 ?_
        refine lv_topi (fun x11 ex11 => ?_)
        replace hw := pf_let (P := post) hw x11 ex11
        replace hok := hok x11 ex11
        refine lv_istore (lv' := [(13, .int x11), (12, .int x10), (8, .long x9), (10, .long x8), (7, .int x5), (0, .ref h0), (1, .double p1), (3, .double p3), (5, .double p5)]) hx hb dX0_sum_97 hl (by decide) rfl (fun ls hl => ?_)
        refine lv_iload hx hb dX0_sum_99 (lv_at hl 0 rfl) ?_
        refine lv_bipush (v := 73) hx hb dX0_sum_101 (by decide) ?_
        obtain ⟨PJx12, hPJx12⟩ : ∃ P : Int64 × Int64 × Int32 × Int32 → Prop, ∀ x12 : Int64 × Int64 × Int32 × Int32, P x12 ↔ ∀ ls : Array Slot, lv_has ls 24 [(0, .ref h0), (5, .double p5), (7, .int x5), (8, .long x12.1), (10, .long x12.2.1), (12, .int x12.2.2.1), (13, .int x12.2.2.2)] → W p l e (headSpec (ws_ yX0_sum cX0_sum 24 (Option.some Jvm.ClassFile.FieldType.double)) ({ frames := 6, cells := 0, slots := 0, locals := 142 })).room s m ([.ref h0, .double p1, .double p3, .double p5] : List Value).toArray below meth c s.heap ([]) 0 0 (MQ below (vp_Sd post) ([.ref h0, .double p1, .double p3, .double p5] : List Value).toArray s 0 0 (fun _ => False)) (F0 m 158 ls []) := ⟨_, fun _ => Iff.rfl⟩
        have hjx12 : ∀ x12 : Int64 × Int64 × Int32 × Int32, x12 = (if x11 ≤ 73 then (x9, x8, x10, x11) else (lt_ (fX0_lowered x8 x9 (x11 - 73)) (fun x14 : Int64 => lt_ (if 64 ≤ (x11 - 73) then 0 else (jushr x8 (x11 - 73))) (fun x15 : Int64 => lt_ (x10 + (x11 - 73)) (fun x17 : Int32 => (x14, x15, x17, 73)))))) → PJx12 x12 := by
          intro x12 ex12
          rw [hPJx12]
          intro ls hl
          replace hw := pf_let (P := post) hw x12 ex12
          replace hok := hok x12 ex12
          refine lv_dload hx hb dX0_sum_158 (lv_at hl 1 rfl) ?_
          refine cSl (v := fX0_sizeOf p5) (W.runS (As := [.double p5]) (rest := []) ⟨hx, hb, hml, hown, hts⟩ (mX0_sizeOf l D TY p5 (fun r => r = fX0_sizeOf p5) rfl hok.1) (va_cwS 1 hts (lw_S q435 q436 q44 q437) rfl rfl rfl hd_X0_sizeOf ⟨Nat.le_of_ble_eq_true rfl, Nat.le_of_ble_eq_true rfl⟩) (PR.S hP [] rfl hK hG hS) rfl rfl hl.1 rfl (lv_room (Nat.le_of_ble_eq_true rfl)) dX0_sum_160 ⟨Nat.le_of_ble_eq_true rfl, Nat.le_of_ble_eq_true rfl⟩) ?_
          replace hok := hok.2
          refine lv_topl (fun x18 ex18 => ?_)
          replace hw := pf_let (P := post) hw x18 ex18
          replace hok := hok x18 ex18
          refine lv_lstore (lv' := [(14, .long x18), (0, .ref h0), (5, .double p5), (7, .int x5), (8, .long x12.1), (10, .long x12.2.1), (12, .int x12.2.2.1), (13, .int x12.2.2.2)]) hx hb dX0_sum_163 hl (by decide) rfl (fun ls hl => ?_)
          refine lv_iload hx hb dX0_sum_165 (lv_at hl 7 rfl) ?_
          obtain ⟨PJx19, hPJx19⟩ : ∃ P : Int64 → Prop, ∀ x19 : Int64, P x19 ↔ ∀ ls : Array Slot, lv_has ls 24 [(0, .ref h0), (5, .double p5), (7, .int x5), (8, .long x12.1), (10, .long x12.2.1), (12, .int x12.2.2.1), (13, .int x12.2.2.2), (14, .long x18)] → W p l e (headSpec (ws_ yX0_sum cX0_sum 24 (Option.some Jvm.ClassFile.FieldType.double)) ({ frames := 6, cells := 0, slots := 0, locals := 142 })).room s m ([.ref h0, .double p1, .double p3, .double p5] : List Value).toArray below meth c s.heap ([]) 0 0 (MQ below (vp_Sd post) ([.ref h0, .double p1, .double p3, .double p5] : List Value).toArray s 0 0 (fun _ => False)) (F0 m 200 ls [.long x19]) := ⟨_, fun _ => Iff.rfl⟩
          have hjx19 : ∀ x19 : Int64, x19 = (if 0 < x12.2.2.2 then (if 64 ≤ x12.2.2.2 then (jshl x18 (x12.2.2.2 - 64)) else (jushr x18 (64 - x12.2.2.2))) else 0) → PJx19 x19 := by
            intro x19 ex19
            rw [hPJx19]
            intro ls hl
            replace hw := pf_let (P := post) hw x19 ex19
            replace hok := hok x19 ex19
            refine lv_lstore (lv' := [(16, .long x19), (0, .ref h0), (5, .double p5), (7, .int x5), (8, .long x12.1), (10, .long x12.2.1), (12, .int x12.2.2.1), (13, .int x12.2.2.2), (14, .long x18)]) hx hb dX0_sum_200 hl (by decide) rfl (fun ls hl => ?_)
            refine lv_iload hx hb dX0_sum_202 (lv_at hl 7 rfl) ?_
            refine lv_bipush (v := 64) hx hb dX0_sum_204 (by decide) ?_
            obtain ⟨PJx22, hPJx22⟩ : ∃ P : Int64 → Prop, ∀ x22 : Int64, P x22 ↔ ∀ ls : Array Slot, lv_has ls 24 [(0, .ref h0), (5, .double p5), (7, .int x5), (8, .long x12.1), (10, .long x12.2.1), (12, .int x12.2.2.1), (16, .long x19)] → W p l e (headSpec (ws_ yX0_sum cX0_sum 24 (Option.some Jvm.ClassFile.FieldType.double)) ({ frames := 6, cells := 0, slots := 0, locals := 142 })).room s m ([.ref h0, .double p1, .double p3, .double p5] : List Value).toArray below meth c s.heap ([]) 0 0 (MQ below (vp_Sd post) ([.ref h0, .double p1, .double p3, .double p5] : List Value).toArray s 0 0 (fun _ => False)) (F0 m 235 ls [.long x22]) := ⟨_, fun _ => Iff.rfl⟩
            have hjx22 : ∀ x22 : Int64, x22 = (if x12.2.2.2 < 64 then (if x12.2.2.2 < 0 then (fX0_lowered 0 x18 (-x12.2.2.2)) else (jshl x18 x12.2.2.2)) else 0) → PJx22 x22 := by
              intro x22 ex22
              rw [hPJx22]
              intro ls hl
              replace hw := pf_let (P := post) hw x22 ex22
              replace hok := hok x22 ex22
              refine lv_lstore (lv' := [(18, .long x22), (0, .ref h0), (5, .double p5), (7, .int x5), (8, .long x12.1), (10, .long x12.2.1), (12, .int x12.2.2.1), (16, .long x19)]) hx hb dX0_sum_235 hl (by decide) rfl (fun ls hl => ?_)
              refine lv_iload hx hb dX0_sum_237 (lv_at hl 3 rfl) ?_
              refine lv_dload hx hb dX0_sum_239 (lv_at hl 2 rfl) ?_
              refine lv_dconst0 hx hb dX0_sum_241 ?_
              obtain ⟨PJx25, hPJx25⟩ : ∃ P : Int32 → Prop, ∀ x25 : Int32, P x25 ↔ ∀ ls : Array Slot, lv_has ls 24 [(0, .ref h0), (7, .int x5), (8, .long x12.1), (10, .long x12.2.1), (12, .int x12.2.2.1), (16, .long x19), (18, .long x22)] → W p l e (headSpec (ws_ yX0_sum cX0_sum 24 (Option.some Jvm.ClassFile.FieldType.double)) ({ frames := 6, cells := 0, slots := 0, locals := 142 })).room s m ([.ref h0, .double p1, .double p3, .double p5] : List Value).toArray below meth c s.heap ([]) 0 0 (MQ below (vp_Sd post) ([.ref h0, .double p1, .double p3, .double p5] : List Value).toArray s 0 0 (fun _ => False)) (F0 m 251 ls [.int x25, .int x5]) := ⟨_, fun _ => Iff.rfl⟩
              have hjx25 : ∀ x25 : Int32, x25 = (if Dlt p5 FP.dconst0 then 1 else 0) → PJx25 x25 := by
                intro x25 ex25
                rw [hPJx25]
                intro ls hl
                replace hw := pf_let (P := post) hw x25 ex25
                replace hok := hok x25 ex25
                obtain ⟨PJx27, hPJx27⟩ : ∃ P : Int32 → Prop, ∀ x27 : Int32, P x27 ↔ ∀ ls : Array Slot, lv_has ls 24 [(0, .ref h0), (7, .int x5), (8, .long x12.1), (10, .long x12.2.1), (12, .int x12.2.2.1), (16, .long x19), (18, .long x22)] → W p l e (headSpec (ws_ yX0_sum cX0_sum 24 (Option.some Jvm.ClassFile.FieldType.double)) ({ frames := 6, cells := 0, slots := 0, locals := 142 })).room s m ([.ref h0, .double p1, .double p3, .double p5] : List Value).toArray below meth c s.heap ([]) 0 0 (MQ below (vp_Sd post) ([.ref h0, .double p1, .double p3, .double p5] : List Value).toArray s 0 0 (fun _ => False)) (F0 m 259 ls [.int x27]) := ⟨_, fun _ => Iff.rfl⟩
                have hjx27 : ∀ x27 : Int32, x27 = (if x5 = x25 then 1 else 0) → PJx27 x27 := by
                  intro x27 ex27
                  rw [hPJx27]
                  intro ls hl
                  replace hw := pf_let (P := post) hw x27 ex27
                  replace hok := hok x27 ex27
                  refine lv_istore (lv' := [(20, .int x27), (0, .ref h0), (7, .int x5), (8, .long x12.1), (10, .long x12.2.1), (12, .int x12.2.2.1), (16, .long x19), (18, .long x22)]) hx hb dX0_sum_259 hl (by decide) rfl (fun ls hl => ?_)
                  refine lv_iload hx hb dX0_sum_261 (lv_at hl 0 rfl) ?_
                  obtain ⟨PJx29, hPJx29⟩ : ∃ P : Int64 → Prop, ∀ x29 : Int64, P x29 ↔ ∀ ls : Array Slot, lv_has ls 24 [(0, .ref h0), (7, .int x5), (8, .long x12.1), (10, .long x12.2.1), (12, .int x12.2.2.1), (16, .long x19), (18, .long x22), (20, .int x27)] → W p l e (headSpec (ws_ yX0_sum cX0_sum 24 (Option.some Jvm.ClassFile.FieldType.double)) ({ frames := 6, cells := 0, slots := 0, locals := 142 })).room s m ([.ref h0, .double p1, .double p3, .double p5] : List Value).toArray below meth c s.heap ([]) 0 0 (MQ below (vp_Sd post) ([.ref h0, .double p1, .double p3, .double p5] : List Value).toArray s 0 0 (fun _ => False)) (F0 m 277 ls [.long x29]) := ⟨_, fun _ => Iff.rfl⟩
                  have hjx29 : ∀ x29 : Int64, x29 = (if x27 = 0 then x12.1 else (x12.1 ^^^ (-1))) → PJx29 x29 := by
                    intro x29 ex29
                    rw [hPJx29]
                    intro ls hl
                    replace hw := pf_let (P := post) hw x29 ex29
                    replace hok := hok x29 ex29
                    refine lv_lload hx hb dX0_sum_277 (lv_at hl 6 rfl) ?_
                    refine cSi (v := fJ3_compareUnsigned x29 x22) (W.runS (As := [.long x29, .long x22]) (rest := []) ⟨hx, hb, hml, hown, hts⟩ (mJ3_compareUnsigned l D TY x29 x22 (fun r => r = fJ3_compareUnsigned x29 x22) rfl) (va_cwS 2 hts (lw_S q259 q260 q55 q261) rfl rfl rfl hd_J3_compareUnsigned ⟨Nat.le_of_ble_eq_true rfl, Nat.le_of_ble_eq_true rfl⟩) (PR.S hP [] rfl hK hG hS) rfl rfl hl.1 rfl (lv_room (Nat.le_of_ble_eq_true rfl)) dX0_sum_279 ⟨Nat.le_of_ble_eq_true rfl, Nat.le_of_ble_eq_true rfl⟩) ?_
                    obtain ⟨PJx31, hPJx31⟩ : ∃ P : Int64 → Prop, ∀ x31 : Int64, P x31 ↔ ∀ ls : Array Slot, lv_has ls 24 [(0, .ref h0), (7, .int x5), (8, .long x12.1), (10, .long x12.2.1), (12, .int x12.2.2.1), (16, .long x19), (18, .long x22), (20, .int x27)] → W p l e (headSpec (ws_ yX0_sum cX0_sum 24 (Option.some Jvm.ClassFile.FieldType.double)) ({ frames := 6, cells := 0, slots := 0, locals := 142 })).room s m ([.ref h0, .double p1, .double p3, .double p5] : List Value).toArray below meth c s.heap ([]) 0 0 (MQ below (vp_Sd post) ([.ref h0, .double p1, .double p3, .double p5] : List Value).toArray s 0 0 (fun _ => False)) (F0 m 290 ls [.long x31]) := ⟨_, fun _ => Iff.rfl⟩
                    have hjx31 : ∀ x31 : Int64, x31 = (if 0 ≤ (fJ3_compareUnsigned x29 x22) then 0 else 1) → PJx31 x31 := by
                      intro x31 ex31
                      rw [hPJx31]
                      intro ls hl
                      replace hw := pf_let (P := post) hw x31 ex31
                      replace hok := hok x31 ex31
                      refine lv_lstore (lv' := [(21, .long x31), (0, .ref h0), (7, .int x5), (8, .long x12.1), (10, .long x12.2.1), (12, .int x12.2.2.1), (16, .long x19), (18, .long x22), (20, .int x27)]) hx hb dX0_sum_290 hl (by decide) rfl (fun ls hl => ?_)
                      refine lv_iload hx hb dX0_sum_292 (lv_at hl 8 rfl) ?_
                      obtain ⟨PJx33, hPJx33⟩ : ∃ P : Int64 → Prop, ∀ x33 : Int64, P x33 ↔ ∀ ls : Array Slot, lv_has ls 24 [(0, .ref h0), (7, .int x5), (10, .long x12.2.1), (12, .int x12.2.2.1), (16, .long x19), (20, .int x27), (21, .long x31)] → W p l e (headSpec (ws_ yX0_sum cX0_sum 24 (Option.some Jvm.ClassFile.FieldType.double)) ({ frames := 6, cells := 0, slots := 0, locals := 142 })).room s m ([.ref h0, .double p1, .double p3, .double p5] : List Value).toArray below meth c s.heap ([]) 0 0 (MQ below (vp_Sd post) ([.ref h0, .double p1, .double p3, .double p5] : List Value).toArray s 0 0 (fun _ => False)) (F0 m 310 ls [.long x33]) := ⟨_, fun _ => Iff.rfl⟩
                      have hjx33 : ∀ x33 : Int64, x33 = (if x27 = 0 then (x12.1 - x22) else (x12.1 + x22)) → PJx33 x33 := by
                        intro x33 ex33
                        rw [hPJx33]
                        intro ls hl
                        replace hw := pf_let (P := post) hw x33 ex33
                        replace hok := hok x33 ex33
                        refine lv_lstore (lv' := [(8, .long x33), (0, .ref h0), (7, .int x5), (10, .long x12.2.1), (12, .int x12.2.2.1), (16, .long x19), (20, .int x27), (21, .long x31)]) hx hb dX0_sum_310 hl (by decide) rfl (fun ls hl => ?_)
                        refine lv_iload hx hb dX0_sum_312 (lv_at hl 6 rfl) ?_
                        obtain ⟨PJx35, hPJx35⟩ : ∃ P : Int64 → Prop, ∀ x35 : Int64, P x35 ↔ ∀ ls : Array Slot, lv_has ls 24 [(0, .ref h0), (7, .int x5), (8, .long x33), (12, .int x12.2.2.1)] → W p l e (headSpec (ws_ yX0_sum cX0_sum 24 (Option.some Jvm.ClassFile.FieldType.double)) ({ frames := 6, cells := 0, slots := 0, locals := 142 })).room s m ([.ref h0, .double p1, .double p3, .double p5] : List Value).toArray below meth c s.heap ([]) 0 0 (MQ below (vp_Sd post) ([.ref h0, .double p1, .double p3, .double p5] : List Value).toArray s 0 0 (fun _ => False)) (F0 m 336 ls [.long x35]) := ⟨_, fun _ => Iff.rfl⟩
                        have hjx35 : ∀ x35 : Int64, x35 = (if x27 = 0 then ((x12.2.1 - x19) - x31) else ((x12.2.1 + x19) + x31)) → PJx35 x35 := by
                          intro x35 ex35
                          rw [hPJx35]
                          intro ls hl
                          replace hw := pf_let (P := post) hw x35 ex35
                          replace hok := hok x35 ex35
                          refine lv_lstore (lv' := [(10, .long x35), (0, .ref h0), (7, .int x5), (8, .long x33), (12, .int x12.2.2.1)]) hx hb dX0_sum_336 hl (by decide) rfl (fun ls hl => ?_)
                          refine lv_lload hx hb dX0_sum_338 (lv_at hl 0 rfl) ?_
                          refine lv_lconst (v := 0) hx hb dX0_sum_340 (by decide) ?_
                          obtain ⟨PJx37, hPJx37⟩ : ∃ P : Int32 × Int64 × Int64 → Prop, ∀ x37 : Int32 × Int64 × Int64, P x37 ↔ ∀ ls : Array Slot, lv_has ls 24 [(0, .ref h0), (7, .int x37.1), (8, .long x37.2.1), (10, .long x37.2.2), (12, .int x12.2.2.1)] → W p l e (headSpec (ws_ yX0_sum cX0_sum 24 (Option.some Jvm.ClassFile.FieldType.double)) ({ frames := 6, cells := 0, slots := 0, locals := 142 })).room s m ([.ref h0, .double p1, .double p3, .double p5] : List Value).toArray below meth c s.heap ([]) 0 0 (MQ below (vp_Sd post) ([.ref h0, .double p1, .double p3, .double p5] : List Value).toArray s 0 0 (fun _ => False)) (F0 m 383 ls []) := ⟨_, fun _ => Iff.rfl⟩
                          have hjx37 : ∀ x37 : Int32 × Int64 × Int64, x37 = (if x35 < 0 then (lt_ (if x5 = 0 then 1 else 0) (fun x39 : Int32 => lt_ (-x33) (fun x41 : Int64 => lt_ (if x41 = 0 then (-x35) else (x35 ^^^ (-1))) (fun x42 : Int64 => (x39, x41, x42))))) else (x5, x33, x35)) → PJx37 x37 := by
                            intro x37 ex37
                            rw [hPJx37]
                            intro ls hl
                            replace hw := pf_let (P := post) hw x37 ex37
                            replace hok := hok x37 ex37
                            refine lv_lload hx hb dX0_sum_383 (lv_at hl 3 rfl) ?_
                            refine lv_lconst (v := 0) hx hb dX0_sum_385 (by decide) ?_
                            refine lx_lne (tgt := 399) hx hb dX0_sum_386 dX0_sum_387 (by decide) (fun c44 => ?_) (fun c44 => ?_)
                            · replace hw := pf_f (P := post) c44 hw
                              replace hok := hok.2 c44
                              refine lv_bipush (v := 64) hx hb dX0_sum_399 (by decide) ?_
                              refine lv_lload hx hb dX0_sum_401 (lv_at hl 3 rfl) ?_
                              refine cSi (v := fJ3_numberOfLeadingZeros x37.2.2) (W.runS (As := [.long x37.2.2]) (rest := [.int 64]) ⟨hx, hb, hml, hown, hts⟩ (mJ3_numberOfLeadingZeros l D TY x37.2.2 (fun r => r = fJ3_numberOfLeadingZeros x37.2.2) rfl) (va_cwS 1 hts (lw_S q206 q207 q55 q208) rfl rfl rfl hd_J3_numberOfLeadingZeros ⟨Nat.le_of_ble_eq_true rfl, Nat.le_of_ble_eq_true rfl⟩) (PR.S hP [] rfl hK hG hS) rfl rfl hl.1 rfl (lv_room (Nat.le_of_ble_eq_true rfl)) dX0_sum_403 ⟨Nat.le_of_ble_eq_true rfl, Nat.le_of_ble_eq_true rfl⟩) ?_
                              refine lv_isub hx hb dX0_sum_406 ?_
                              refine lv_topi (fun x45 ex45 => ?_)
                              replace hw := pf_let (P := post) hw x45 ex45
                              replace hok := hok x45 ex45
                              refine lv_istore (lv' := [(23, .int x45), (0, .ref h0), (7, .int x37.1), (8, .long x37.2.1), (10, .long x37.2.2), (12, .int x12.2.2.1)]) hx hb dX0_sum_407 hl (by decide) rfl (fun ls hl => ?_)
                              refine lv_aload_n hx hb dX0_sum_409 rfl (lv_at hl 1 rfl) ?_
                              refine lv_iload hx hb dX0_sum_410 (lv_at hl 2 rfl) ?_
                              refine lv_lload hx hb dX0_sum_412 (lv_at hl 4 rfl) ?_
                              refine lv_lload hx hb dX0_sum_414 (lv_at hl 3 rfl) ?_
                              refine lv_iload hx hb dX0_sum_416 (lv_at hl 0 rfl) ?_
                              refine cSl (v := fX0_lowered x37.2.2 x37.2.1 x45) (W.runS (As := [.long x37.2.2, .long x37.2.1, .int x45]) (rest := [.int x37.1, .ref h0]) ⟨hx, hb, hml, hown, hts⟩ (mX0_lowered l D TY x37.2.2 x37.2.1 x45 (fun r => r = fX0_lowered x37.2.2 x37.2.1 x45) rfl) (va_cwS 3 hts (lw_S q544 q545 q44 q546) rfl rfl rfl hd_X0_lowered ⟨Nat.le_of_ble_eq_true rfl, Nat.le_of_ble_eq_true rfl⟩) (PR.S hP [] rfl hK hG hS) rfl rfl hl.1 rfl (lv_room (Nat.le_of_ble_eq_true rfl)) dX0_sum_418 ⟨Nat.le_of_ble_eq_true rfl, Nat.le_of_ble_eq_true rfl⟩) ?_
                              refine lv_iload hx hb dX0_sum_421 (lv_at hl 5 rfl) ?_
                              refine lv_iload hx hb dX0_sum_423 (lv_at hl 0 rfl) ?_
                              refine lv_iadd hx hb dX0_sum_425 ?_
                              refine lv_i2l (v := (x12.2.2.1 + x45).toInt64) hx hb dX0_sum_426 rfl ?_
                              refine cSd (v := fX0_round_F x37.1 (fX0_lowered x37.2.2 x37.2.1 x45) ((x12.2.2.1 + x45).toInt64)) (W.runS (As := [.ref h0, .int x37.1, .long (fX0_lowered x37.2.2 x37.2.1 x45), .long ((x12.2.2.1 + x45).toInt64)]) (rest := []) ⟨hx, hb, hml, hown, hts⟩ (mX0_round_F l D TY h0 x37.1 (fX0_lowered x37.2.2 x37.2.1 x45) ((x12.2.2.1 + x45).toInt64) (fun r => r = fX0_round_F x37.1 (fX0_lowered x37.2.2 x37.2.1 x45) ((x12.2.2.1 + x45).toInt64)) rfl hok) (va_cwS 4 hts (lw_S q202 q203 q44 q204) rfl rfl rfl hd_X0_round ⟨Nat.le_of_ble_eq_true rfl, Nat.le_of_ble_eq_true rfl⟩) (PR.S hP [0] rfl hK hG hS) rfl rfl hl.1 rfl (lv_room (Nat.le_of_ble_eq_true rfl)) dX0_sum_427 ⟨Nat.le_of_ble_eq_true rfl, Nat.le_of_ble_eq_true rfl⟩) ?_
                              exact W.dret (v := fX0_round_F x37.1 (fX0_lowered x37.2.2 x37.2.1 x45) ((x12.2.2.1 + x45).toInt64)) hx hb hr (fun t ht hW => ⟨_, rfl, hw, ht⟩) (fun q h => nomatch h) dX0_sum_430
                            · replace hw := pf_t (P := post) c44 hw
                              replace hok := hok.1 c44
                              refine lv_lload hx hb dX0_sum_390 (lv_at hl 2 rfl) ?_
                              refine lv_lconst (v := 0) hx hb dX0_sum_392 (by decide) ?_
                              refine lx_lne (tgt := 399) hx hb dX0_sum_393 dX0_sum_394 (by decide) (fun c46 => ?_) (fun c46 => ?_)
                              · replace hw := pf_f (P := post) c46 hw
                                replace hok := hok.2 c46
                                refine lv_bipush (v := 64) hx hb dX0_sum_399 (by decide) ?_
                                refine lv_lload hx hb dX0_sum_401 (lv_at hl 3 rfl) ?_
                                refine cSi (v := fJ3_numberOfLeadingZeros x37.2.2) (W.runS (As := [.long x37.2.2]) (rest := [.int 64]) ⟨hx, hb, hml, hown, hts⟩ (mJ3_numberOfLeadingZeros l D TY x37.2.2 (fun r => r = fJ3_numberOfLeadingZeros x37.2.2) rfl) (va_cwS 1 hts (lw_S q206 q207 q55 q208) rfl rfl rfl hd_J3_numberOfLeadingZeros ⟨Nat.le_of_ble_eq_true rfl, Nat.le_of_ble_eq_true rfl⟩) (PR.S hP [] rfl hK hG hS) rfl rfl hl.1 rfl (lv_room (Nat.le_of_ble_eq_true rfl)) dX0_sum_403 ⟨Nat.le_of_ble_eq_true rfl, Nat.le_of_ble_eq_true rfl⟩) ?_
                                refine lv_isub hx hb dX0_sum_406 ?_
                                refine lv_topi (fun x47 ex47 => ?_)
                                replace hw := pf_let (P := post) hw x47 ex47
                                replace hok := hok x47 ex47
                                refine lv_istore (lv' := [(23, .int x47), (0, .ref h0), (7, .int x37.1), (8, .long x37.2.1), (10, .long x37.2.2), (12, .int x12.2.2.1)]) hx hb dX0_sum_407 hl (by decide) rfl (fun ls hl => ?_)
                                refine lv_aload_n hx hb dX0_sum_409 rfl (lv_at hl 1 rfl) ?_
                                refine lv_iload hx hb dX0_sum_410 (lv_at hl 2 rfl) ?_
                                refine lv_lload hx hb dX0_sum_412 (lv_at hl 4 rfl) ?_
                                refine lv_lload hx hb dX0_sum_414 (lv_at hl 3 rfl) ?_
                                refine lv_iload hx hb dX0_sum_416 (lv_at hl 0 rfl) ?_
                                refine cSl (v := fX0_lowered x37.2.2 x37.2.1 x47) (W.runS (As := [.long x37.2.2, .long x37.2.1, .int x47]) (rest := [.int x37.1, .ref h0]) ⟨hx, hb, hml, hown, hts⟩ (mX0_lowered l D TY x37.2.2 x37.2.1 x47 (fun r => r = fX0_lowered x37.2.2 x37.2.1 x47) rfl) (va_cwS 3 hts (lw_S q544 q545 q44 q546) rfl rfl rfl hd_X0_lowered ⟨Nat.le_of_ble_eq_true rfl, Nat.le_of_ble_eq_true rfl⟩) (PR.S hP [] rfl hK hG hS) rfl rfl hl.1 rfl (lv_room (Nat.le_of_ble_eq_true rfl)) dX0_sum_418 ⟨Nat.le_of_ble_eq_true rfl, Nat.le_of_ble_eq_true rfl⟩) ?_
                                refine lv_iload hx hb dX0_sum_421 (lv_at hl 5 rfl) ?_
                                refine lv_iload hx hb dX0_sum_423 (lv_at hl 0 rfl) ?_
                                refine lv_iadd hx hb dX0_sum_425 ?_
                                refine lv_i2l (v := (x12.2.2.1 + x47).toInt64) hx hb dX0_sum_426 rfl ?_
                                refine cSd (v := fX0_round_F x37.1 (fX0_lowered x37.2.2 x37.2.1 x47) ((x12.2.2.1 + x47).toInt64)) (W.runS (As := [.ref h0, .int x37.1, .long (fX0_lowered x37.2.2 x37.2.1 x47), .long ((x12.2.2.1 + x47).toInt64)]) (rest := []) ⟨hx, hb, hml, hown, hts⟩ (mX0_round_F l D TY h0 x37.1 (fX0_lowered x37.2.2 x37.2.1 x47) ((x12.2.2.1 + x47).toInt64) (fun r => r = fX0_round_F x37.1 (fX0_lowered x37.2.2 x37.2.1 x47) ((x12.2.2.1 + x47).toInt64)) rfl hok) (va_cwS 4 hts (lw_S q202 q203 q44 q204) rfl rfl rfl hd_X0_round ⟨Nat.le_of_ble_eq_true rfl, Nat.le_of_ble_eq_true rfl⟩) (PR.S hP [0] rfl hK hG hS) rfl rfl hl.1 rfl (lv_room (Nat.le_of_ble_eq_true rfl)) dX0_sum_427 ⟨Nat.le_of_ble_eq_true rfl, Nat.le_of_ble_eq_true rfl⟩) ?_
                                exact W.dret (v := fX0_round_F x37.1 (fX0_lowered x37.2.2 x37.2.1 x47) ((x12.2.2.1 + x47).toInt64)) hx hb hr (fun t ht hW => ⟨_, rfl, hw, ht⟩) (fun q h => nomatch h) dX0_sum_430
                              · replace hw := pf_t (P := post) c46 hw
                                refine lv_dconst0 hx hb dX0_sum_397 ?_
                                exact W.dret (v := FP.dconst0) hx hb hr (fun t ht hW => ⟨_, rfl, hw, ht⟩) (fun q h => nomatch h) dX0_sum_398
                          replace hjx37 := hjx37 _ rfl
                          refine lx_lge (tgt := 383) hx hb dX0_sum_341 dX0_sum_342 (by decide) (fun c38 => ?_) (fun c38 => ?_)
                          · replace hjx37 := pf_f (P := PJx37) c38 hjx37
                            exact (hPJx37 _).1 hjx37 _ (lv_sub hl [1, 2, 3, 0, 4] rfl)
                          · replace hjx37 := pf_t (P := PJx37) c38 hjx37
                            refine lv_iload hx hb dX0_sum_345 (lv_at hl 2 rfl) ?_
                            obtain ⟨PJx39, hPJx39⟩ : ∃ P : Int32 → Prop, ∀ x39 : Int32, P x39 ↔ ∀ ls : Array Slot, lv_has ls 24 [(0, .ref h0), (8, .long x33), (10, .long x35), (12, .int x12.2.2.1)] → W p l e (headSpec (ws_ yX0_sum cX0_sum 24 (Option.some Jvm.ClassFile.FieldType.double)) ({ frames := 6, cells := 0, slots := 0, locals := 142 })).room s m ([.ref h0, .double p1, .double p3, .double p5] : List Value).toArray below meth c s.heap ([]) 0 0 (MQ below (vp_Sd post) ([.ref h0, .double p1, .double p3, .double p5] : List Value).toArray s 0 0 (fun _ => False)) (F0 m 355 ls [.int x39]) := ⟨_, fun _ => Iff.rfl⟩
                            have hjx39 : ∀ x39 : Int32, x39 = (if x5 = 0 then 1 else 0) → PJx39 x39 := by
                              intro x39 ex39
                              rw [hPJx39]
                              intro ls hl
                              replace hjx37 := pf_let (P := PJx37) hjx37 x39 ex39
                              refine lv_istore (lv' := [(7, .int x39), (0, .ref h0), (8, .long x33), (10, .long x35), (12, .int x12.2.2.1)]) hx hb dX0_sum_355 hl (by decide) rfl (fun ls hl => ?_)
                              refine lv_lload hx hb dX0_sum_357 (lv_at hl 2 rfl) ?_
                              refine lv_lneg hx hb dX0_sum_359 ?_
                              refine lv_topl (fun x41 ex41 => ?_)
                              replace hjx37 := pf_let (P := PJx37) hjx37 x41 ex41
                              refine lv_lstore (lv' := [(8, .long x41), (7, .int x39), (0, .ref h0), (10, .long x35), (12, .int x12.2.2.1)]) hx hb dX0_sum_360 hl (by decide) rfl (fun ls hl => ?_)
                              refine lv_lload hx hb dX0_sum_362 (lv_at hl 0 rfl) ?_
                              refine lv_lconst (v := 0) hx hb dX0_sum_364 (by decide) ?_
                              obtain ⟨PJx42, hPJx42⟩ : ∃ P : Int64 → Prop, ∀ x42 : Int64, P x42 ↔ ∀ ls : Array Slot, lv_has ls 24 [(0, .ref h0), (7, .int x39), (8, .long x41), (12, .int x12.2.2.1)] → W p l e (headSpec (ws_ yX0_sum cX0_sum 24 (Option.some Jvm.ClassFile.FieldType.double)) ({ frames := 6, cells := 0, slots := 0, locals := 142 })).room s m ([.ref h0, .double p1, .double p3, .double p5] : List Value).toArray below meth c s.heap ([]) 0 0 (MQ below (vp_Sd post) ([.ref h0, .double p1, .double p3, .double p5] : List Value).toArray s 0 0 (fun _ => False)) (F0 m 381 ls [.long x42]) := ⟨_, fun _ => Iff.rfl⟩
                              have hjx42 : ∀ x42 : Int64, x42 = (if x41 = 0 then (-x35) else (x35 ^^^ (-1))) → PJx42 x42 := by
                                intro x42 ex42
                                rw [hPJx42]
                                intro ls hl
                                replace hjx37 := pf_let (P := PJx37) hjx37 x42 ex42
                                refine lv_lstore (lv' := [(10, .long x42), (0, .ref h0), (7, .int x39), (8, .long x41), (12, .int x12.2.2.1)]) hx hb dX0_sum_381 hl (by decide) rfl (fun ls hl => ?_)
                                exact (hPJx37 _).1 hjx37 _ (lv_sub hl [1, 2, 3, 0, 4] rfl)
                              replace hjx42 := hjx42 _ rfl
                              refine lx_lne (tgt := 375) hx hb dX0_sum_365 dX0_sum_366 (by decide) (fun c43 => ?_) (fun c43 => ?_)
                              · replace hjx42 := pf_f (P := PJx42) c43 hjx42
                                refine lv_lload hx hb dX0_sum_375 (lv_at hl 3 rfl) ?_
                                refine lv_ldc2 (v := (-1)) hx hb hown (hts _ q547) dX0_sum_377 ?_
                                refine lv_lxor hx hb dX0_sum_380 ?_
                                exact (hPJx42 _).1 hjx42 _ (lv_sub hl [2, 1, 0, 4] rfl)
                              · replace hjx42 := pf_t (P := PJx42) c43 hjx42
                                refine lv_lload hx hb dX0_sum_369 (lv_at hl 3 rfl) ?_
                                refine lv_lneg hx hb dX0_sum_371 ?_
                                refine lv_goto (tgt := 381) hx hb dX0_sum_372 (by decide) ?_
                                exact (hPJx42 _).1 hjx42 _ (lv_sub hl [2, 1, 0, 4] rfl)
                            replace hjx39 := hjx39 _ rfl
                            refine lv_if_ne (tgt := 354) hx hb dX0_sum_347 (by decide) (fun c40 => ?_) (fun c40 => ?_)
                            · replace hjx39 := pf_f (P := PJx39) c40 hjx39
                              refine lv_iconst (v := 0) hx hb dX0_sum_354 (by decide) ?_
                              exact (hPJx39 _).1 hjx39 _ (lv_sub hl [1, 3, 0, 4] rfl)
                            · replace hjx39 := pf_t (P := PJx39) c40 hjx39
                              refine lv_iconst (v := 1) hx hb dX0_sum_350 (by decide) ?_
                              refine lv_goto (tgt := 355) hx hb dX0_sum_351 (by decide) ?_
                              exact (hPJx39 _).1 hjx39 _ (lv_sub hl [1, 3, 0, 4] rfl)
                        replace hjx35 := hjx35 _ rfl
                        refine lv_if_eq (tgt := 328) hx hb dX0_sum_314 (by decide) (fun c36 => ?_) (fun c36 => ?_)
                        · replace hjx35 := pf_t (P := PJx35) c36 hjx35
                          refine lv_lload hx hb dX0_sum_328 (lv_at hl 3 rfl) ?_
                          refine lv_lload hx hb dX0_sum_330 (lv_at hl 5 rfl) ?_
                          refine lv_lsub hx hb dX0_sum_332 ?_
                          refine lv_lload hx hb dX0_sum_333 (lv_at hl 7 rfl) ?_
                          refine lv_lsub hx hb dX0_sum_335 ?_
                          exact (hPJx35 _).1 hjx35 _ (lv_sub hl [1, 2, 0, 4] rfl)
                        · replace hjx35 := pf_f (P := PJx35) c36 hjx35
                          refine lv_lload hx hb dX0_sum_317 (lv_at hl 3 rfl) ?_
                          refine lv_lload hx hb dX0_sum_319 (lv_at hl 5 rfl) ?_
                          refine lv_ladd hx hb dX0_sum_321 ?_
                          refine lv_lload hx hb dX0_sum_322 (lv_at hl 7 rfl) ?_
                          refine lv_ladd hx hb dX0_sum_324 ?_
                          refine lv_goto (tgt := 336) hx hb dX0_sum_325 (by decide) ?_
                          exact (hPJx35 _).1 hjx35 _ (lv_sub hl [1, 2, 0, 4] rfl)
                      replace hjx33 := hjx33 _ rfl
                      refine lv_if_eq (tgt := 305) hx hb dX0_sum_294 (by decide) (fun c34 => ?_) (fun c34 => ?_)
                      · replace hjx33 := pf_t (P := PJx33) c34 hjx33
                        refine lv_lload hx hb dX0_sum_305 (lv_at hl 3 rfl) ?_
                        refine lv_lload hx hb dX0_sum_307 (lv_at hl 7 rfl) ?_
                        refine lv_lsub hx hb dX0_sum_309 ?_
                        exact (hPJx33 _).1 hjx33 _ (lv_sub hl [1, 2, 4, 5, 6, 8, 0] rfl)
                      · replace hjx33 := pf_f (P := PJx33) c34 hjx33
                        refine lv_lload hx hb dX0_sum_297 (lv_at hl 3 rfl) ?_
                        refine lv_lload hx hb dX0_sum_299 (lv_at hl 7 rfl) ?_
                        refine lv_ladd hx hb dX0_sum_301 ?_
                        refine lv_goto (tgt := 310) hx hb dX0_sum_302 (by decide) ?_
                        exact (hPJx33 _).1 hjx33 _ (lv_sub hl [1, 2, 4, 5, 6, 8, 0] rfl)
                    replace hjx31 := hjx31 _ rfl
                    refine lv_if_ge (tgt := 289) hx hb dX0_sum_282 (by decide) (fun c32 => ?_) (fun c32 => ?_)
                    · replace hjx31 := pf_t (P := PJx31) c32 hjx31
                      refine lv_lconst (v := 0) hx hb dX0_sum_289 (by decide) ?_
                      exact (hPJx31 _).1 hjx31 _ (lv_sub hl [0, 1, 2, 3, 4, 5, 6, 7] rfl)
                    · replace hjx31 := pf_f (P := PJx31) c32 hjx31
                      refine lv_lconst (v := 1) hx hb dX0_sum_285 (by decide) ?_
                      refine lv_goto (tgt := 290) hx hb dX0_sum_286 (by decide) ?_
                      exact (hPJx31 _).1 hjx31 _ (lv_sub hl [0, 1, 2, 3, 4, 5, 6, 7] rfl)
                  replace hjx29 := hjx29 _ rfl
                  refine lv_if_eq (tgt := 275) hx hb dX0_sum_263 (by decide) (fun c30 => ?_) (fun c30 => ?_)
                  · replace hjx29 := pf_t (P := PJx29) c30 hjx29
                    refine lv_lload hx hb dX0_sum_275 (lv_at hl 3 rfl) ?_
                    exact (hPJx29 _).1 hjx29 _ (lv_sub hl [1, 2, 3, 4, 5, 6, 7, 0] rfl)
                  · replace hjx29 := pf_f (P := PJx29) c30 hjx29
                    refine lv_lload hx hb dX0_sum_266 (lv_at hl 3 rfl) ?_
                    refine lv_ldc2 (v := (-1)) hx hb hown (hts _ q547) dX0_sum_268 ?_
                    refine lv_lxor hx hb dX0_sum_271 ?_
                    refine lv_goto (tgt := 277) hx hb dX0_sum_272 (by decide) ?_
                    exact (hPJx29 _).1 hjx29 _ (lv_sub hl [1, 2, 3, 4, 5, 6, 7, 0] rfl)
                replace hjx27 := hjx27 _ rfl
                refine lv_icmp_ne (tgt := 258) hx hb dX0_sum_251 (by decide) (fun c28 => ?_) (fun c28 => ?_)
                · replace hjx27 := pf_f (P := PJx27) c28 hjx27
                  refine lv_iconst (v := 0) hx hb dX0_sum_258 (by decide) ?_
                  exact (hPJx27 _).1 hjx27 _ (lv_sub hl [0, 1, 2, 3, 4, 5, 6] rfl)
                · replace hjx27 := pf_t (P := PJx27) c28 hjx27
                  refine lv_iconst (v := 1) hx hb dX0_sum_254 (by decide) ?_
                  refine lv_goto (tgt := 259) hx hb dX0_sum_255 (by decide) ?_
                  exact (hPJx27 _).1 hjx27 _ (lv_sub hl [0, 1, 2, 3, 4, 5, 6] rfl)
              replace hjx25 := hjx25 _ rfl
              refine lx_dgge (tgt := 250) hx hb dX0_sum_242 dX0_sum_243 (by decide) (fun c26 => ?_) (fun c26 => ?_)
              · replace hjx25 := pf_f (P := PJx25) c26 hjx25
                refine lv_iconst (v := 0) hx hb dX0_sum_250 (by decide) ?_
                exact (hPJx25 _).1 hjx25 _ (lv_sub hl [1, 3, 4, 5, 6, 7, 0] rfl)
              · replace hjx25 := pf_t (P := PJx25) c26 hjx25
                refine lv_iconst (v := 1) hx hb dX0_sum_246 (by decide) ?_
                refine lv_goto (tgt := 251) hx hb dX0_sum_247 (by decide) ?_
                exact (hPJx25 _).1 hjx25 _ (lv_sub hl [1, 3, 4, 5, 6, 7, 0] rfl)
            replace hjx22 := hjx22 _ rfl
            refine lv_icmp_lt (tgt := 213) hx hb dX0_sum_206 (by decide) (fun c23 => ?_) (fun c23 => ?_)
            · replace hjx22 := pf_t (P := PJx22) c23 hjx22
              refine lv_iload hx hb dX0_sum_213 (lv_at hl 7 rfl) ?_
              refine lv_if_lt (tgt := 226) hx hb dX0_sum_215 (by decide) (fun c24 => ?_) (fun c24 => ?_)
              · replace hjx22 := pf_t (P := PJx22) c24 hjx22
                refine lv_lconst (v := 0) hx hb dX0_sum_226 (by decide) ?_
                refine lv_lload hx hb dX0_sum_227 (lv_at hl 8 rfl) ?_
                refine lv_iload hx hb dX0_sum_229 (lv_at hl 7 rfl) ?_
                refine lv_ineg hx hb dX0_sum_231 ?_
                refine cSl (v := fX0_lowered 0 x18 (-x12.2.2.2)) (W.runS (As := [.long 0, .long x18, .int (-x12.2.2.2)]) (rest := []) ⟨hx, hb, hml, hown, hts⟩ (mX0_lowered l D TY 0 x18 (-x12.2.2.2) (fun r => r = fX0_lowered 0 x18 (-x12.2.2.2)) rfl) (va_cwS 3 hts (lw_S q544 q545 q44 q546) rfl rfl rfl hd_X0_lowered ⟨Nat.le_of_ble_eq_true rfl, Nat.le_of_ble_eq_true rfl⟩) (PR.S hP [] rfl hK hG hS) rfl rfl hl.1 rfl (lv_room (Nat.le_of_ble_eq_true rfl)) dX0_sum_232 ⟨Nat.le_of_ble_eq_true rfl, Nat.le_of_ble_eq_true rfl⟩) ?_
                exact (hPJx22 _).1 hjx22 _ (lv_sub hl [1, 2, 3, 4, 5, 6, 0] rfl)
              · replace hjx22 := pf_f (P := PJx22) c24 hjx22
                refine lv_lload hx hb dX0_sum_218 (lv_at hl 8 rfl) ?_
                refine lv_iload hx hb dX0_sum_220 (lv_at hl 7 rfl) ?_
                refine lv_lshl (v := jshl x18 x12.2.2.2) hx hb dX0_sum_222 rfl ?_
                refine lv_goto (tgt := 235) hx hb dX0_sum_223 (by decide) ?_
                exact (hPJx22 _).1 hjx22 _ (lv_sub hl [1, 2, 3, 4, 5, 6, 0] rfl)
            · replace hjx22 := pf_f (P := PJx22) c23 hjx22
              refine lv_lconst (v := 0) hx hb dX0_sum_209 (by decide) ?_
              refine lv_goto (tgt := 235) hx hb dX0_sum_210 (by decide) ?_
              exact (hPJx22 _).1 hjx22 _ (lv_sub hl [1, 2, 3, 4, 5, 6, 0] rfl)
          replace hjx19 := hjx19 _ rfl
          refine lv_if_gt (tgt := 174) hx hb dX0_sum_167 (by decide) (fun c20 => ?_) (fun c20 => ?_)
          · replace hjx19 := pf_t (P := PJx19) c20 hjx19
            refine lv_iload hx hb dX0_sum_174 (lv_at hl 7 rfl) ?_
            refine lv_bipush (v := 64) hx hb dX0_sum_176 (by decide) ?_
            refine lv_icmp_ge (tgt := 192) hx hb dX0_sum_178 (by decide) (fun c21 => ?_) (fun c21 => ?_)
            · replace hjx19 := pf_t (P := PJx19) c21 hjx19
              refine lv_lload hx hb dX0_sum_192 (lv_at hl 0 rfl) ?_
              refine lv_iload hx hb dX0_sum_194 (lv_at hl 7 rfl) ?_
              refine lv_bipush (v := 64) hx hb dX0_sum_196 (by decide) ?_
              refine lv_isub hx hb dX0_sum_198 ?_
              refine lv_lshl (v := jshl x18 (x12.2.2.2 - 64)) hx hb dX0_sum_199 rfl ?_
              exact (hPJx19 _).1 hjx19 _ (lv_sub hl [1, 2, 3, 4, 5, 6, 7, 0] rfl)
            · replace hjx19 := pf_f (P := PJx19) c21 hjx19
              refine lv_lload hx hb dX0_sum_181 (lv_at hl 0 rfl) ?_
              refine lv_bipush (v := 64) hx hb dX0_sum_183 (by decide) ?_
              refine lv_iload hx hb dX0_sum_185 (lv_at hl 7 rfl) ?_
              refine lv_isub hx hb dX0_sum_187 ?_
              refine lv_lushr (v := jushr x18 (64 - x12.2.2.2)) hx hb dX0_sum_188 rfl ?_
              refine lv_goto (tgt := 200) hx hb dX0_sum_189 (by decide) ?_
              exact (hPJx19 _).1 hjx19 _ (lv_sub hl [1, 2, 3, 4, 5, 6, 7, 0] rfl)
          · replace hjx19 := pf_f (P := PJx19) c20 hjx19
            refine lv_lconst (v := 0) hx hb dX0_sum_170 (by decide) ?_
            refine lv_goto (tgt := 200) hx hb dX0_sum_171 (by decide) ?_
            exact (hPJx19 _).1 hjx19 _ (lv_sub hl [1, 2, 3, 4, 5, 6, 7, 0] rfl)
        replace hjx12 := hjx12 _ rfl
        refine lv_icmp_le (tgt := 158) hx hb dX0_sum_103 (by decide) (fun c13 => ?_) (fun c13 => ?_)
        · replace hjx12 := pf_t (P := PJx12) c13 hjx12
          exact (hPJx12 _).1 hjx12 _ (lv_sub hl [5, 8, 4, 2, 3, 1, 0] rfl)
        · replace hjx12 := pf_f (P := PJx12) c13 hjx12
          refine lv_lload hx hb dX0_sum_106 (lv_at hl 3 rfl) ?_
          refine lv_lload hx hb dX0_sum_108 (lv_at hl 2 rfl) ?_
          refine lv_iload hx hb dX0_sum_110 (lv_at hl 0 rfl) ?_
          refine lv_bipush (v := 73) hx hb dX0_sum_112 (by decide) ?_
          refine lv_isub hx hb dX0_sum_114 ?_
          refine cSl (v := fX0_lowered x8 x9 (x11 - 73)) (W.runS (As := [.long x8, .long x9, .int (x11 - 73)]) (rest := []) ⟨hx, hb, hml, hown, hts⟩ (mX0_lowered l D TY x8 x9 (x11 - 73) (fun r => r = fX0_lowered x8 x9 (x11 - 73)) rfl) (va_cwS 3 hts (lw_S q544 q545 q44 q546) rfl rfl rfl hd_X0_lowered ⟨Nat.le_of_ble_eq_true rfl, Nat.le_of_ble_eq_true rfl⟩) (PR.S hP [] rfl hK hG hS) rfl rfl hl.1 rfl (lv_room (Nat.le_of_ble_eq_true rfl)) dX0_sum_115 ⟨Nat.le_of_ble_eq_true rfl, Nat.le_of_ble_eq_true rfl⟩) ?_
          refine lv_topl (fun x14 ex14 => ?_)
          replace hjx12 := pf_let (P := PJx12) hjx12 x14 ex14
          refine lv_lstore (lv' := [(8, .long x14), (13, .int x11), (12, .int x10), (10, .long x8), (7, .int x5), (0, .ref h0), (1, .double p1), (3, .double p3), (5, .double p5)]) hx hb dX0_sum_118 hl (by decide) rfl (fun ls hl => ?_)
          refine lv_iload hx hb dX0_sum_120 (lv_at hl 1 rfl) ?_
          refine lv_bipush (v := 73) hx hb dX0_sum_122 (by decide) ?_
          refine lv_isub hx hb dX0_sum_124 ?_
          refine lv_bipush (v := 64) hx hb dX0_sum_125 (by decide) ?_
          obtain ⟨PJx15, hPJx15⟩ : ∃ P : Int64 → Prop, ∀ x15 : Int64, P x15 ↔ ∀ ls : Array Slot, lv_has ls 24 [(0, .ref h0), (5, .double p5), (7, .int x5), (8, .long x14), (12, .int x10), (13, .int x11)] → W p l e (headSpec (ws_ yX0_sum cX0_sum 24 (Option.some Jvm.ClassFile.FieldType.double)) ({ frames := 6, cells := 0, slots := 0, locals := 142 })).room s m ([.ref h0, .double p1, .double p3, .double p5] : List Value).toArray below meth c s.heap ([]) 0 0 (MQ below (vp_Sd post) ([.ref h0, .double p1, .double p3, .double p5] : List Value).toArray s 0 0 (fun _ => False)) (F0 m 142 ls [.long x15]) := ⟨_, fun _ => Iff.rfl⟩
          have hjx15 : ∀ x15 : Int64, x15 = (if 64 ≤ (x11 - 73) then 0 else (jushr x8 (x11 - 73))) → PJx15 x15 := by
            intro x15 ex15
            rw [hPJx15]
            intro ls hl
            replace hjx12 := pf_let (P := PJx12) hjx12 x15 ex15
            refine lv_lstore (lv' := [(10, .long x15), (0, .ref h0), (5, .double p5), (7, .int x5), (8, .long x14), (12, .int x10), (13, .int x11)]) hx hb dX0_sum_142 hl (by decide) rfl (fun ls hl => ?_)
            refine lv_iload hx hb dX0_sum_144 (lv_at hl 5 rfl) ?_
            refine lv_iload hx hb dX0_sum_146 (lv_at hl 6 rfl) ?_
            refine lv_bipush (v := 73) hx hb dX0_sum_148 (by decide) ?_
            refine lv_isub hx hb dX0_sum_150 ?_
            refine lv_iadd hx hb dX0_sum_151 ?_
            refine lv_topi (fun x17 ex17 => ?_)
            replace hjx12 := pf_let (P := PJx12) hjx12 x17 ex17
            refine lv_istore (lv' := [(12, .int x17), (10, .long x15), (0, .ref h0), (5, .double p5), (7, .int x5), (8, .long x14), (13, .int x11)]) hx hb dX0_sum_152 hl (by decide) rfl (fun ls hl => ?_)
            refine lv_bipush (v := 73) hx hb dX0_sum_154 (by decide) ?_
            refine lv_istore (lv' := [(13, .int 73), (12, .int x17), (10, .long x15), (0, .ref h0), (5, .double p5), (7, .int x5), (8, .long x14)]) hx hb dX0_sum_156 hl (by decide) rfl (fun ls hl => ?_)
            exact (hPJx12 _).1 hjx12 _ (lv_sub hl [3, 4, 5, 6, 2, 1, 0] rfl)
          replace hjx15 := hjx15 _ rfl
          refine lv_icmp_ge (tgt := 141) hx hb dX0_sum_127 (by decide) (fun c16 => ?_) (fun c16 => ?_)
          · replace hjx15 := pf_t (P := PJx15) c16 hjx15
            refine lv_lconst (v := 0) hx hb dX0_sum_141 (by decide) ?_
            exact (hPJx15 _).1 hjx15 _ (lv_sub hl [5, 8, 4, 0, 2, 1] rfl)
          · replace hjx15 := pf_f (P := PJx15) c16 hjx15
            refine lv_lload hx hb dX0_sum_130 (lv_at hl 3 rfl) ?_
            refine lv_iload hx hb dX0_sum_132 (lv_at hl 1 rfl) ?_
            refine lv_bipush (v := 73) hx hb dX0_sum_134 (by decide) ?_
            refine lv_isub hx hb dX0_sum_136 ?_
            refine lv_lushr (v := jushr x8 (x11 - 73)) hx hb dX0_sum_137 rfl ?_
            refine lv_goto (tgt := 142) hx hb dX0_sum_138 (by decide) ?_
            exact (hPJx15 _).1 hjx15 _ (lv_sub hl [5, 8, 4, 0, 2, 1] rfl)
      replace hjx5 := hjx5 _ rfl
      refine lv_icmp_eq (tgt := 29) hx hb dX0_sum_22 (by decide) (fun c6 => ?_) (fun c6 => ?_)
      · replace hjx5 := pf_t (P := PJx5) c6 hjx5
        refine lv_iconst (v := 0) hx hb dX0_sum_29 (by decide) ?_
        exact (hPJx5 _).1 hjx5 _ (lv_sub hl [0, 1, 2, 3] rfl)
      · replace hjx5 := pf_f (P := PJx5) c6 hjx5
        refine lv_iconst (v := 1) hx hb dX0_sum_25 (by decide) ?_
        refine lv_goto (tgt := 30) hx hb dX0_sum_26 (by decide) ?_
        exact (hPJx5 _).1 hjx5 _ (lv_sub hl [0, 1, 2, 3] rfl)
    replace hjx3 := hjx3 _ rfl
    refine lx_dgge (tgt := 21) hx hb dX0_sum_13 dX0_sum_14 (by decide) (fun c4 => ?_) (fun c4 => ?_)
    · replace hjx3 := pf_f (P := PJx3) c4 hjx3
      refine lv_iconst (v := 0) hx hb dX0_sum_21 (by decide) ?_
      exact (hPJx3 _).1 hjx3 _ (lv_sub hl [0, 1, 2, 3] rfl)
    · replace hjx3 := pf_t (P := PJx3) c4 hjx3
      refine lv_iconst (v := 1) hx hb dX0_sum_17 (by decide) ?_
      refine lv_goto (tgt := 22) hx hb dX0_sum_18 (by decide) ?_
      exact (hPJx3 _).1 hjx3 _ (lv_sub hl [0, 1, 2, 3] rfl)
  replace hjx1 := hjx1 _ rfl
  refine lx_dgge (tgt := 10) hx hb dX0_sum_2 dX0_sum_3 (by decide) (fun c2 => ?_) (fun c2 => ?_)
  · replace hjx1 := pf_f (P := PJx1) c2 hjx1
    refine lv_iconst (v := 0) hx hb dX0_sum_10 (by decide) ?_
    exact (hPJx1 _).1 hjx1 _ (lv_sub hl [0, 1, 2, 3] rfl)
  · replace hjx1 := pf_t (P := PJx1) c2 hjx1
    refine lv_iconst (v := 1) hx hb dX0_sum_6 (by decide) ?_
    refine lv_goto (tgt := 11) hx hb dX0_sum_7 (by decide) ?_
    exact (hPJx1 _).1 hjx1 _ (lv_sub hl [0, 1, 2, 3] rfl)

theorem hd_X0_sum : yX0_sum.cls ≠ "java/lang/invoke/MethodHandle" ∧ yX0_sum.cls ≠ "java/lang/invoke/VarHandle" ∧ (parseMethodDescriptor yX0_sum.desc).map (fun d => d.parameters.length) = some 4 := by decide +kernel
def fX0_together_D (p1 : UInt64) (p3 : UInt64) (p5 : UInt64) : UInt64 := if (fX0_isEndless p1) = 0 then (if (fX0_isEndless p3) = 0 then (if (fX0_isEndless p5) = 0 then (if Deq p1 FP.dconst0 then (FP.dadd (FP.dmul p1 p3) p5) else (if Deq p3 FP.dconst0 then (FP.dadd (FP.dmul p1 p3) p5) else (lt_ (if Deq p5 FP.dconst0 then (fX1_fit (FP.dmul p1 p3)) else (fX0_sum_D p1 p3 p5)) (fun x6 : UInt64 => x6)))) else p5) else (FP.dmul p1 p3)) else (FP.dmul p1 p3)
def oX0_together_D (p1 : UInt64) (p3 : UInt64) (p5 : UInt64) : Prop := (((fX0_isEndless p1) = 0) → (((fX0_isEndless p3) = 0) → (((fX0_isEndless p5) = 0) → ((Deq p1 FP.dconst0) → (vf_n64 (FP.dmul p1 p3)) ∧ (vf_n64 (FP.dadd (FP.dmul p1 p3) p5))) ∧ (¬ (Deq p1 FP.dconst0) → ((Deq p3 FP.dconst0) → (vf_n64 (FP.dmul p1 p3)) ∧ (vf_n64 (FP.dadd (FP.dmul p1 p3) p5))) ∧ (¬ (Deq p3 FP.dconst0) → ((Deq p5 FP.dconst0) → (vf_n64 (FP.dmul p1 p3))) ∧ (¬ (Deq p5 FP.dconst0) → (oX0_sum_D p1 p3 p5))))) ∧ (¬ ((fX0_isEndless p5) = 0) → True)) ∧ (¬ ((fX0_isEndless p3) = 0) → (vf_n64 (FP.dmul p1 p3)))) ∧ (¬ ((fX0_isEndless p1) = 0) → (vf_n64 (FP.dmul p1 p3)))
set_option maxHeartbeats 4000000 in
set_option maxRecDepth 100000 in
theorem mX0_together_D (l : Launch) (D : va_G) (TY : Nat → ClassId) (h0 : Nat) (p1 : UInt64) (p3 : UInt64) (p5 : UInt64) (post : UInt64 → Prop) (hw : post (fX0_together_D p1 p3 p5)) (hok : oX0_together_D p1 p3 p5) : Met l yX0_together (ws_ yX0_together cX0_together 7 (Option.some Jvm.ClassFile.FieldType.double)) ({ frames := 6, cells := 0, slots := 0, locals := 162 }) (PR D TY [.ref h0, .double p1, .double p3, .double p5] [(h0, .inr (1, []))]) (vp_Sd post) 0 0 (fun _ => False) := by
  refine ofWF (cc := cX0_together) (maxL := 7) (ret := (Option.some Jvm.ClassFile.FieldType.double)) (plainFor_of_name (by decide)) rfl ?_
  intro p e s m args below meth c s₁ B hml hv
  obtain ⟨rfl, hP, hK, hG⟩ := hv
  have hx := B.exec
  have hb := B.bytes
  have hr := B.returns
  have hts0 := atoms_spec (ws := ws_ yX0_together cX0_together 7 (Option.some Jvm.ClassFile.FieldType.double)) B.pre
  have hts : ∀ w ∈ lw_all, w.before _ s = true := fun w h => hts0 w (List.mem_cons_of_mem _ h)
  have hown : s.vm.findClass RX0 = some m.cls := findClass_of_methodNamed B.named
  have hlocks := B.notSynchronized
  have hS : va_S (fun _ => False) s.heap s.heap [] := va_S.rf
  have hl := lv_entry ([.ref h0, .double p1, .double p3, .double p5]) (n := 7) (Nat.le_of_ble_eq_true rfl)
  rw [lg_entry_eq]
  generalize (lg_sl ([.ref h0, .double p1, .double p3, .double p5]) ++ List.replicate (7 - (lg_sl ([.ref h0, .double p1, .double p3, .double p5])).length) Slot.unset).toArray = ls at hl ⊢
  have hl : lv_has ls 7 [(0, .ref h0), (1, .double p1), (3, .double p3), (5, .double p5)] := hl
  unfold fX0_together_D at hw
  unfold oX0_together_D at hok
  refine lv_dload_n hx hb dX0_together_0 rfl (lv_at hl 1 rfl) ?_
  refine cSi (v := fX0_isEndless p1) (W.runS (As := [.double p1]) (rest := []) ⟨hx, hb, hml, hown, hts⟩ (mX0_isEndless l D TY p1 (fun r => r = fX0_isEndless p1) rfl) (va_cwS 1 hts (lw_S q434 q136 q44 q137) rfl rfl rfl hd_X0_isEndless ⟨Nat.le_of_ble_eq_true rfl, Nat.le_of_ble_eq_true rfl⟩) (PR.S hP [] rfl hK hG hS) rfl rfl hl.1 rfl (lv_room (Nat.le_of_ble_eq_true rfl)) dX0_together_1 ⟨Nat.le_of_ble_eq_true rfl, Nat.le_of_ble_eq_true rfl⟩) ?_
  refine lv_if_ne (tgt := 14) hx hb dX0_together_4 (by decide) (fun c1 => ?_) (fun c1 => ?_)
  · replace hw := pf_f (P := post) c1 hw
    replace hok := hok.2 c1
    refine lv_dload_n hx hb dX0_together_14 rfl (lv_at hl 1 rfl) ?_
    refine lv_dload_n hx hb dX0_together_15 rfl (lv_at hl 2 rfl) ?_
    refine lv_dmul hx hb dX0_together_16 hok ?_
    exact W.dret (v := FP.dmul p1 p3) hx hb hr (fun t ht hW => ⟨_, rfl, hw, ht⟩) (fun q h => nomatch h) dX0_together_17
  · replace hw := pf_t (P := post) c1 hw
    replace hok := hok.1 c1
    refine lv_dload_n hx hb dX0_together_7 rfl (lv_at hl 2 rfl) ?_
    refine cSi (v := fX0_isEndless p3) (W.runS (As := [.double p3]) (rest := []) ⟨hx, hb, hml, hown, hts⟩ (mX0_isEndless l D TY p3 (fun r => r = fX0_isEndless p3) rfl) (va_cwS 1 hts (lw_S q434 q136 q44 q137) rfl rfl rfl hd_X0_isEndless ⟨Nat.le_of_ble_eq_true rfl, Nat.le_of_ble_eq_true rfl⟩) (PR.S hP [] rfl hK hG hS) rfl rfl hl.1 rfl (lv_room (Nat.le_of_ble_eq_true rfl)) dX0_together_8 ⟨Nat.le_of_ble_eq_true rfl, Nat.le_of_ble_eq_true rfl⟩) ?_
    refine lv_if_eq (tgt := 18) hx hb dX0_together_11 (by decide) (fun c2 => ?_) (fun c2 => ?_)
    · replace hw := pf_t (P := post) c2 hw
      replace hok := hok.1 c2
      refine lv_dload hx hb dX0_together_18 (lv_at hl 3 rfl) ?_
      refine cSi (v := fX0_isEndless p5) (W.runS (As := [.double p5]) (rest := []) ⟨hx, hb, hml, hown, hts⟩ (mX0_isEndless l D TY p5 (fun r => r = fX0_isEndless p5) rfl) (va_cwS 1 hts (lw_S q434 q136 q44 q137) rfl rfl rfl hd_X0_isEndless ⟨Nat.le_of_ble_eq_true rfl, Nat.le_of_ble_eq_true rfl⟩) (PR.S hP [] rfl hK hG hS) rfl rfl hl.1 rfl (lv_room (Nat.le_of_ble_eq_true rfl)) dX0_together_20 ⟨Nat.le_of_ble_eq_true rfl, Nat.le_of_ble_eq_true rfl⟩) ?_
      refine lv_if_eq (tgt := 29) hx hb dX0_together_23 (by decide) (fun c3 => ?_) (fun c3 => ?_)
      · replace hw := pf_t (P := post) c3 hw
        replace hok := hok.1 c3
        refine lv_dload_n hx hb dX0_together_29 rfl (lv_at hl 1 rfl) ?_
        refine lv_dconst0 hx hb dX0_together_30 ?_
        refine lx_dleq (tgt := 41) hx hb dX0_together_31 dX0_together_32 (by decide) (fun c4 => ?_) (fun c4 => ?_)
        · replace hw := pf_t (P := post) c4 hw
          replace hok := hok.1 c4
          refine lv_dload_n hx hb dX0_together_41 rfl (lv_at hl 1 rfl) ?_
          refine lv_dload_n hx hb dX0_together_42 rfl (lv_at hl 2 rfl) ?_
          refine lv_dmul hx hb dX0_together_43 hok.1 ?_
          replace hok := hok.2
          refine lv_dload hx hb dX0_together_44 (lv_at hl 3 rfl) ?_
          refine lv_dadd hx hb dX0_together_46 hok ?_
          exact W.dret (v := FP.dadd (FP.dmul p1 p3) p5) hx hb hr (fun t ht hW => ⟨_, rfl, hw, ht⟩) (fun q h => nomatch h) dX0_together_47
        · replace hw := pf_f (P := post) c4 hw
          replace hok := hok.2 c4
          refine lv_dload_n hx hb dX0_together_35 rfl (lv_at hl 2 rfl) ?_
          refine lv_dconst0 hx hb dX0_together_36 ?_
          refine lx_dlne (tgt := 48) hx hb dX0_together_37 dX0_together_38 (by decide) (fun c5 => ?_) (fun c5 => ?_)
          · replace hw := pf_f (P := post) c5 hw
            replace hok := hok.2 c5
            refine lv_dload hx hb dX0_together_48 (lv_at hl 3 rfl) ?_
            refine lv_dconst0 hx hb dX0_together_50 ?_
            obtain ⟨PJx6, hPJx6⟩ : ∃ P : UInt64 → Prop, ∀ x6 : UInt64, P x6 ↔ ∀ ls : Array Slot, lv_has ls 7 [] → W p l e (headSpec (ws_ yX0_together cX0_together 7 (Option.some Jvm.ClassFile.FieldType.double)) ({ frames := 6, cells := 0, slots := 0, locals := 162 })).room s m ([.ref h0, .double p1, .double p3, .double p5] : List Value).toArray below meth c s.heap ([]) 0 0 (MQ below (vp_Sd post) ([.ref h0, .double p1, .double p3, .double p5] : List Value).toArray s 0 0 (fun _ => False)) (F0 m 75 ls [.double x6]) := ⟨_, fun _ => Iff.rfl⟩
            have hox6 := hok
            have hjx6 : ∀ x6 : UInt64, x6 = (if Deq p5 FP.dconst0 then (fX1_fit (FP.dmul p1 p3)) else (fX0_sum_D p1 p3 p5)) → PJx6 x6 := by
              intro x6 ex6
              rw [hPJx6]
              intro ls hl
              replace hw := pf_let (P := post) hw x6 ex6
              exact W.dret (v := x6) hx hb hr (fun t ht hW => ⟨_, rfl, hw, ht⟩) (fun q h => nomatch h) dX0_together_75
            replace hjx6 := hjx6 _ rfl
            refine lx_dlne (tgt := 67) hx hb dX0_together_51 dX0_together_52 (by decide) (fun c7 => ?_) (fun c7 => ?_)
            · replace hjx6 := pf_f (P := PJx6) c7 hjx6
              replace hox6 := hox6.2 c7
              refine lv_aload_n hx hb dX0_together_67 rfl (lv_at hl 0 rfl) ?_
              refine lv_dload_n hx hb dX0_together_68 rfl (lv_at hl 1 rfl) ?_
              refine lv_dload_n hx hb dX0_together_69 rfl (lv_at hl 2 rfl) ?_
              refine lv_dload hx hb dX0_together_70 (lv_at hl 3 rfl) ?_
              refine cSd (v := fX0_sum_D p1 p3 p5) (W.runS (As := [.ref h0, .double p1, .double p3, .double p5]) (rest := []) ⟨hx, hb, hml, hown, hts⟩ (mX0_sum_D l D TY h0 p1 p3 p5 (fun r => r = fX0_sum_D p1 p3 p5) rfl hox6) (va_cwS 4 hts (lw_S q541 q542 q44 q543) rfl rfl rfl hd_X0_sum ⟨Nat.le_of_ble_eq_true rfl, Nat.le_of_ble_eq_true rfl⟩) (PR.S hP [0] rfl hK hG hS) rfl rfl hl.1 rfl (lv_room (Nat.le_of_ble_eq_true rfl)) dX0_together_72 ⟨Nat.le_of_ble_eq_true rfl, Nat.le_of_ble_eq_true rfl⟩) ?_
              exact (hPJx6 _).1 hjx6 _ (lv_sub hl [] rfl)
            · replace hjx6 := pf_t (P := PJx6) c7 hjx6
              replace hox6 := hox6.1 c7
              refine lv_aload_n hx hb dX0_together_55 rfl (lv_at hl 0 rfl) ?_
              refine lv_dload_n hx hb dX0_together_56 rfl (lv_at hl 1 rfl) ?_
              refine lv_dload_n hx hb dX0_together_57 rfl (lv_at hl 2 rfl) ?_
              refine lv_dmul hx hb dX0_together_58 hox6 ?_
              refine cFSd (v := fX1_fit (FP.dmul p1 p3)) (va_runF (As := [.double (FP.dmul p1 p3)]) (rest := []) (hK.1 1 _ rfl).2 ⟨hx, hb, hml, hown, hts⟩ (mX1_fit l D TY h0 (FP.dmul p1 p3) (fun r => r = fX1_fit (FP.dmul p1 p3)) rfl) (va_cwF 1 hts (lw_F q540 q464 q466 q45 q468) rfl rfl rfl (gz_fw13 hG) hdF_fit ⟨Nat.le_of_ble_eq_true rfl, Nat.le_of_ble_eq_true rfl⟩) (PR.V (q0 := 0) (ci := 1) hP [0] rfl hK hG hS rfl rfl) rfl rfl hl.1 rfl (lv_room (Nat.le_of_ble_eq_true rfl)) dX0_together_59 ⟨Nat.le_of_ble_eq_true rfl, Nat.le_of_ble_eq_true rfl⟩) ?_
              refine lv_goto (tgt := 75) hx hb dX0_together_64 (by decide) ?_
              exact (hPJx6 _).1 hjx6 _ (lv_sub hl [] rfl)
          · replace hw := pf_t (P := post) c5 hw
            replace hok := hok.1 c5
            refine lv_dload_n hx hb dX0_together_41 rfl (lv_at hl 1 rfl) ?_
            refine lv_dload_n hx hb dX0_together_42 rfl (lv_at hl 2 rfl) ?_
            refine lv_dmul hx hb dX0_together_43 hok.1 ?_
            replace hok := hok.2
            refine lv_dload hx hb dX0_together_44 (lv_at hl 3 rfl) ?_
            refine lv_dadd hx hb dX0_together_46 hok ?_
            exact W.dret (v := FP.dadd (FP.dmul p1 p3) p5) hx hb hr (fun t ht hW => ⟨_, rfl, hw, ht⟩) (fun q h => nomatch h) dX0_together_47
      · replace hw := pf_f (P := post) c3 hw
        refine lv_dload hx hb dX0_together_26 (lv_at hl 3 rfl) ?_
        exact W.dret (v := p5) hx hb hr (fun t ht hW => ⟨_, rfl, hw, ht⟩) (fun q h => nomatch h) dX0_together_28
    · replace hw := pf_f (P := post) c2 hw
      replace hok := hok.2 c2
      refine lv_dload_n hx hb dX0_together_14 rfl (lv_at hl 1 rfl) ?_
      refine lv_dload_n hx hb dX0_together_15 rfl (lv_at hl 2 rfl) ?_
      refine lv_dmul hx hb dX0_together_16 hok ?_
      exact W.dret (v := FP.dmul p1 p3) hx hb hr (fun t ht hW => ⟨_, rfl, hw, ht⟩) (fun q h => nomatch h) dX0_together_17

def fX0_together_F (p1 : UInt64) (p3 : UInt64) (p5 : UInt64) : UInt64 := if (fX0_isEndless p1) = 0 then (if (fX0_isEndless p3) = 0 then (if (fX0_isEndless p5) = 0 then (if Deq p1 FP.dconst0 then (FP.dadd (FP.dmul p1 p3) p5) else (if Deq p3 FP.dconst0 then (FP.dadd (FP.dmul p1 p3) p5) else (lt_ (if Deq p5 FP.dconst0 then (fX2_fit (FP.dmul p1 p3)) else (fX0_sum_F p1 p3 p5)) (fun x6 : UInt64 => x6)))) else p5) else (FP.dmul p1 p3)) else (FP.dmul p1 p3)
def oX0_together_F (p1 : UInt64) (p3 : UInt64) (p5 : UInt64) : Prop := (((fX0_isEndless p1) = 0) → (((fX0_isEndless p3) = 0) → (((fX0_isEndless p5) = 0) → ((Deq p1 FP.dconst0) → (vf_n64 (FP.dmul p1 p3)) ∧ (vf_n64 (FP.dadd (FP.dmul p1 p3) p5))) ∧ (¬ (Deq p1 FP.dconst0) → ((Deq p3 FP.dconst0) → (vf_n64 (FP.dmul p1 p3)) ∧ (vf_n64 (FP.dadd (FP.dmul p1 p3) p5))) ∧ (¬ (Deq p3 FP.dconst0) → ((Deq p5 FP.dconst0) → (vf_n64 (FP.dmul p1 p3)) ∧ (oX2_fit (FP.dmul p1 p3))) ∧ (¬ (Deq p5 FP.dconst0) → (oX0_sum_F p1 p3 p5))))) ∧ (¬ ((fX0_isEndless p5) = 0) → True)) ∧ (¬ ((fX0_isEndless p3) = 0) → (vf_n64 (FP.dmul p1 p3)))) ∧ (¬ ((fX0_isEndless p1) = 0) → (vf_n64 (FP.dmul p1 p3)))
set_option maxHeartbeats 4000000 in
set_option maxRecDepth 100000 in
theorem mX0_together_F (l : Launch) (D : va_G) (TY : Nat → ClassId) (h0 : Nat) (p1 : UInt64) (p3 : UInt64) (p5 : UInt64) (post : UInt64 → Prop) (hw : post (fX0_together_F p1 p3 p5)) (hok : oX0_together_F p1 p3 p5) : Met l yX0_together (ws_ yX0_together cX0_together 7 (Option.some Jvm.ClassFile.FieldType.double)) ({ frames := 7, cells := 0, slots := 0, locals := 185 }) (PR D TY [.ref h0, .double p1, .double p3, .double p5] [(h0, .inr (2, []))]) (vp_Sd post) 0 0 (fun _ => False) := by
  refine ofWF (cc := cX0_together) (maxL := 7) (ret := (Option.some Jvm.ClassFile.FieldType.double)) (plainFor_of_name (by decide)) rfl ?_
  intro p e s m args below meth c s₁ B hml hv
  obtain ⟨rfl, hP, hK, hG⟩ := hv
  have hx := B.exec
  have hb := B.bytes
  have hr := B.returns
  have hts0 := atoms_spec (ws := ws_ yX0_together cX0_together 7 (Option.some Jvm.ClassFile.FieldType.double)) B.pre
  have hts : ∀ w ∈ lw_all, w.before _ s = true := fun w h => hts0 w (List.mem_cons_of_mem _ h)
  have hown : s.vm.findClass RX0 = some m.cls := findClass_of_methodNamed B.named
  have hlocks := B.notSynchronized
  have hS : va_S (fun _ => False) s.heap s.heap [] := va_S.rf
  have hl := lv_entry ([.ref h0, .double p1, .double p3, .double p5]) (n := 7) (Nat.le_of_ble_eq_true rfl)
  rw [lg_entry_eq]
  generalize (lg_sl ([.ref h0, .double p1, .double p3, .double p5]) ++ List.replicate (7 - (lg_sl ([.ref h0, .double p1, .double p3, .double p5])).length) Slot.unset).toArray = ls at hl ⊢
  have hl : lv_has ls 7 [(0, .ref h0), (1, .double p1), (3, .double p3), (5, .double p5)] := hl
  unfold fX0_together_F at hw
  unfold oX0_together_F at hok
  refine lv_dload_n hx hb dX0_together_0 rfl (lv_at hl 1 rfl) ?_
  refine cSi (v := fX0_isEndless p1) (W.runS (As := [.double p1]) (rest := []) ⟨hx, hb, hml, hown, hts⟩ (mX0_isEndless l D TY p1 (fun r => r = fX0_isEndless p1) rfl) (va_cwS 1 hts (lw_S q434 q136 q44 q137) rfl rfl rfl hd_X0_isEndless ⟨Nat.le_of_ble_eq_true rfl, Nat.le_of_ble_eq_true rfl⟩) (PR.S hP [] rfl hK hG hS) rfl rfl hl.1 rfl (lv_room (Nat.le_of_ble_eq_true rfl)) dX0_together_1 ⟨Nat.le_of_ble_eq_true rfl, Nat.le_of_ble_eq_true rfl⟩) ?_
  refine lv_if_ne (tgt := 14) hx hb dX0_together_4 (by decide) (fun c1 => ?_) (fun c1 => ?_)
  · replace hw := pf_f (P := post) c1 hw
    replace hok := hok.2 c1
    refine lv_dload_n hx hb dX0_together_14 rfl (lv_at hl 1 rfl) ?_
    refine lv_dload_n hx hb dX0_together_15 rfl (lv_at hl 2 rfl) ?_
    refine lv_dmul hx hb dX0_together_16 hok ?_
    exact W.dret (v := FP.dmul p1 p3) hx hb hr (fun t ht hW => ⟨_, rfl, hw, ht⟩) (fun q h => nomatch h) dX0_together_17
  · replace hw := pf_t (P := post) c1 hw
    replace hok := hok.1 c1
    refine lv_dload_n hx hb dX0_together_7 rfl (lv_at hl 2 rfl) ?_
    refine cSi (v := fX0_isEndless p3) (W.runS (As := [.double p3]) (rest := []) ⟨hx, hb, hml, hown, hts⟩ (mX0_isEndless l D TY p3 (fun r => r = fX0_isEndless p3) rfl) (va_cwS 1 hts (lw_S q434 q136 q44 q137) rfl rfl rfl hd_X0_isEndless ⟨Nat.le_of_ble_eq_true rfl, Nat.le_of_ble_eq_true rfl⟩) (PR.S hP [] rfl hK hG hS) rfl rfl hl.1 rfl (lv_room (Nat.le_of_ble_eq_true rfl)) dX0_together_8 ⟨Nat.le_of_ble_eq_true rfl, Nat.le_of_ble_eq_true rfl⟩) ?_
    refine lv_if_eq (tgt := 18) hx hb dX0_together_11 (by decide) (fun c2 => ?_) (fun c2 => ?_)
    · replace hw := pf_t (P := post) c2 hw
      replace hok := hok.1 c2
      refine lv_dload hx hb dX0_together_18 (lv_at hl 3 rfl) ?_
      refine cSi (v := fX0_isEndless p5) (W.runS (As := [.double p5]) (rest := []) ⟨hx, hb, hml, hown, hts⟩ (mX0_isEndless l D TY p5 (fun r => r = fX0_isEndless p5) rfl) (va_cwS 1 hts (lw_S q434 q136 q44 q137) rfl rfl rfl hd_X0_isEndless ⟨Nat.le_of_ble_eq_true rfl, Nat.le_of_ble_eq_true rfl⟩) (PR.S hP [] rfl hK hG hS) rfl rfl hl.1 rfl (lv_room (Nat.le_of_ble_eq_true rfl)) dX0_together_20 ⟨Nat.le_of_ble_eq_true rfl, Nat.le_of_ble_eq_true rfl⟩) ?_
      refine lv_if_eq (tgt := 29) hx hb dX0_together_23 (by decide) (fun c3 => ?_) (fun c3 => ?_)
      · replace hw := pf_t (P := post) c3 hw
        replace hok := hok.1 c3
        refine lv_dload_n hx hb dX0_together_29 rfl (lv_at hl 1 rfl) ?_
        refine lv_dconst0 hx hb dX0_together_30 ?_
        refine lx_dleq (tgt := 41) hx hb dX0_together_31 dX0_together_32 (by decide) (fun c4 => ?_) (fun c4 => ?_)
        · replace hw := pf_t (P := post) c4 hw
          replace hok := hok.1 c4
          refine lv_dload_n hx hb dX0_together_41 rfl (lv_at hl 1 rfl) ?_
          refine lv_dload_n hx hb dX0_together_42 rfl (lv_at hl 2 rfl) ?_
          refine lv_dmul hx hb dX0_together_43 hok.1 ?_
          replace hok := hok.2
          refine lv_dload hx hb dX0_together_44 (lv_at hl 3 rfl) ?_
          refine lv_dadd hx hb dX0_together_46 hok ?_
          exact W.dret (v := FP.dadd (FP.dmul p1 p3) p5) hx hb hr (fun t ht hW => ⟨_, rfl, hw, ht⟩) (fun q h => nomatch h) dX0_together_47
        · replace hw := pf_f (P := post) c4 hw
          replace hok := hok.2 c4
          refine lv_dload_n hx hb dX0_together_35 rfl (lv_at hl 2 rfl) ?_
          refine lv_dconst0 hx hb dX0_together_36 ?_
          refine lx_dlne (tgt := 48) hx hb dX0_together_37 dX0_together_38 (by decide) (fun c5 => ?_) (fun c5 => ?_)
          · replace hw := pf_f (P := post) c5 hw
            replace hok := hok.2 c5
            refine lv_dload hx hb dX0_together_48 (lv_at hl 3 rfl) ?_
            refine lv_dconst0 hx hb dX0_together_50 ?_
            obtain ⟨PJx6, hPJx6⟩ : ∃ P : UInt64 → Prop, ∀ x6 : UInt64, P x6 ↔ ∀ ls : Array Slot, lv_has ls 7 [] → W p l e (headSpec (ws_ yX0_together cX0_together 7 (Option.some Jvm.ClassFile.FieldType.double)) ({ frames := 7, cells := 0, slots := 0, locals := 185 })).room s m ([.ref h0, .double p1, .double p3, .double p5] : List Value).toArray below meth c s.heap ([]) 0 0 (MQ below (vp_Sd post) ([.ref h0, .double p1, .double p3, .double p5] : List Value).toArray s 0 0 (fun _ => False)) (F0 m 75 ls [.double x6]) := ⟨_, fun _ => Iff.rfl⟩
            have hox6 := hok
            have hjx6 : ∀ x6 : UInt64, x6 = (if Deq p5 FP.dconst0 then (fX2_fit (FP.dmul p1 p3)) else (fX0_sum_F p1 p3 p5)) → PJx6 x6 := by
              intro x6 ex6
              rw [hPJx6]
              intro ls hl
              replace hw := pf_let (P := post) hw x6 ex6
              exact W.dret (v := x6) hx hb hr (fun t ht hW => ⟨_, rfl, hw, ht⟩) (fun q h => nomatch h) dX0_together_75
            replace hjx6 := hjx6 _ rfl
            refine lx_dlne (tgt := 67) hx hb dX0_together_51 dX0_together_52 (by decide) (fun c7 => ?_) (fun c7 => ?_)
            · replace hjx6 := pf_f (P := PJx6) c7 hjx6
              replace hox6 := hox6.2 c7
              refine lv_aload_n hx hb dX0_together_67 rfl (lv_at hl 0 rfl) ?_
              refine lv_dload_n hx hb dX0_together_68 rfl (lv_at hl 1 rfl) ?_
              refine lv_dload_n hx hb dX0_together_69 rfl (lv_at hl 2 rfl) ?_
              refine lv_dload hx hb dX0_together_70 (lv_at hl 3 rfl) ?_
              refine cSd (v := fX0_sum_F p1 p3 p5) (W.runS (As := [.ref h0, .double p1, .double p3, .double p5]) (rest := []) ⟨hx, hb, hml, hown, hts⟩ (mX0_sum_F l D TY h0 p1 p3 p5 (fun r => r = fX0_sum_F p1 p3 p5) rfl hox6) (va_cwS 4 hts (lw_S q541 q542 q44 q543) rfl rfl rfl hd_X0_sum ⟨Nat.le_of_ble_eq_true rfl, Nat.le_of_ble_eq_true rfl⟩) (PR.S hP [0] rfl hK hG hS) rfl rfl hl.1 rfl (lv_room (Nat.le_of_ble_eq_true rfl)) dX0_together_72 ⟨Nat.le_of_ble_eq_true rfl, Nat.le_of_ble_eq_true rfl⟩) ?_
              exact (hPJx6 _).1 hjx6 _ (lv_sub hl [] rfl)
            · replace hjx6 := pf_t (P := PJx6) c7 hjx6
              replace hox6 := hox6.1 c7
              refine lv_aload_n hx hb dX0_together_55 rfl (lv_at hl 0 rfl) ?_
              refine lv_dload_n hx hb dX0_together_56 rfl (lv_at hl 1 rfl) ?_
              refine lv_dload_n hx hb dX0_together_57 rfl (lv_at hl 2 rfl) ?_
              refine lv_dmul hx hb dX0_together_58 hox6.1 ?_
              replace hox6 := hox6.2
              refine cFSd (v := fX2_fit (FP.dmul p1 p3)) (va_runF (As := [.double (FP.dmul p1 p3)]) (rest := []) (hK.1 2 _ rfl).2 ⟨hx, hb, hml, hown, hts⟩ (mX2_fit l D TY h0 (FP.dmul p1 p3) (fun r => r = fX2_fit (FP.dmul p1 p3)) rfl hox6) (va_cwF 1 hts (lw_F q540 q469 q252 q46 q254) rfl rfl rfl (gz_fw34 hG) hdF_fit ⟨Nat.le_of_ble_eq_true rfl, Nat.le_of_ble_eq_true rfl⟩) (PR.V (q0 := 0) (ci := 2) hP [0] rfl hK hG hS rfl rfl) rfl rfl hl.1 rfl (lv_room (Nat.le_of_ble_eq_true rfl)) dX0_together_59 ⟨Nat.le_of_ble_eq_true rfl, Nat.le_of_ble_eq_true rfl⟩) ?_
              refine lv_goto (tgt := 75) hx hb dX0_together_64 (by decide) ?_
              exact (hPJx6 _).1 hjx6 _ (lv_sub hl [] rfl)
          · replace hw := pf_t (P := post) c5 hw
            replace hok := hok.1 c5
            refine lv_dload_n hx hb dX0_together_41 rfl (lv_at hl 1 rfl) ?_
            refine lv_dload_n hx hb dX0_together_42 rfl (lv_at hl 2 rfl) ?_
            refine lv_dmul hx hb dX0_together_43 hok.1 ?_
            replace hok := hok.2
            refine lv_dload hx hb dX0_together_44 (lv_at hl 3 rfl) ?_
            refine lv_dadd hx hb dX0_together_46 hok ?_
            exact W.dret (v := FP.dadd (FP.dmul p1 p3) p5) hx hb hr (fun t ht hW => ⟨_, rfl, hw, ht⟩) (fun q h => nomatch h) dX0_together_47
      · replace hw := pf_f (P := post) c3 hw
        refine lv_dload hx hb dX0_together_26 (lv_at hl 3 rfl) ?_
        exact W.dret (v := p5) hx hb hr (fun t ht hW => ⟨_, rfl, hw, ht⟩) (fun q h => nomatch h) dX0_together_28
    · replace hw := pf_f (P := post) c2 hw
      replace hok := hok.2 c2
      refine lv_dload_n hx hb dX0_together_14 rfl (lv_at hl 1 rfl) ?_
      refine lv_dload_n hx hb dX0_together_15 rfl (lv_at hl 2 rfl) ?_
      refine lv_dmul hx hb dX0_together_16 hok ?_
      exact W.dret (v := FP.dmul p1 p3) hx hb hr (fun t ht hW => ⟨_, rfl, hw, ht⟩) (fun q h => nomatch h) dX0_together_17

theorem hd_X0_together : yX0_together.cls ≠ "java/lang/invoke/MethodHandle" ∧ yX0_together.cls ≠ "java/lang/invoke/VarHandle" ∧ (parseMethodDescriptor yX0_together.desc).map (fun d => d.parameters.length) = some 4 := by decide +kernel
def fX8_joined_D (p1 : UInt64) (p3 : UInt64) (p5 : UInt64) : UInt64 := lt_ (if (fX0_isEndless p1) = 0 then (if (fX0_isEndless p3) = 0 then 0 else 1) else 1) (fun x1 : Int32 => lt_ (if (fX0_isNumber p1 p3) = 0 then 1 else (if Deq p5 p5 then (if x1 = 0 then 0 else (if Deq p1 FP.dconst0 then 1 else (if Deq p3 FP.dconst0 then 1 else (if (fX0_isEndless p5) = 0 then 0 else (lt_ (if Dlt p1 FP.dconst0 then 1 else 0) (fun x12 : Int32 => lt_ (if Dlt p3 FP.dconst0 then 1 else 0) (fun x14 : Int32 => lt_ (if x12 = x14 then 1 else 0) (fun x16 : Int32 => lt_ (if Dgt p5 FP.dconst0 then 1 else 0) (fun x18 : Int32 => if x16 = x18 then 0 else 1))))))))) else 1)) (fun x4 : Int32 => lt_ (if x4 = 0 then (fX0_together_D p1 p3 p5) else 9221120237041090560) (fun x22 : UInt64 => x22)))
def oX8_joined_D (p1 : UInt64) (p3 : UInt64) (p5 : UInt64) : Prop := (∀ x1 : Int32, x1 = (if (fX0_isEndless p1) = 0 then (if (fX0_isEndless p3) = 0 then 0 else 1) else 1) → (∀ x4 : Int32, x4 = (if (fX0_isNumber p1 p3) = 0 then 1 else (if Deq p5 p5 then (if x1 = 0 then 0 else (if Deq p1 FP.dconst0 then 1 else (if Deq p3 FP.dconst0 then 1 else (if (fX0_isEndless p5) = 0 then 0 else (lt_ (if Dlt p1 FP.dconst0 then 1 else 0) (fun x12 : Int32 => lt_ (if Dlt p3 FP.dconst0 then 1 else 0) (fun x14 : Int32 => lt_ (if x12 = x14 then 1 else 0) (fun x16 : Int32 => lt_ (if Dgt p5 FP.dconst0 then 1 else 0) (fun x18 : Int32 => if x16 = x18 then 0 else 1))))))))) else 1)) → ((x4 = 0) → (oX0_together_D p1 p3 p5)) ∧ (¬ (x4 = 0) → True)))
set_option maxHeartbeats 4000000 in
set_option maxRecDepth 100000 in
theorem mX8_joined_D (l : Launch) (D : va_G) (TY : Nat → ClassId) (h0 : Nat) (p1 : UInt64) (p3 : UInt64) (p5 : UInt64) (post : UInt64 → Prop) (hw : post (fX8_joined_D p1 p3 p5)) (hok : oX8_joined_D p1 p3 p5) : Met l yX8_joined (ws_ yX8_joined cX8_joined 9 (Option.some Jvm.ClassFile.FieldType.double)) ({ frames := 7, cells := 0, slots := 0, locals := 188 }) (PR D TY [.ref h0, .double p1, .double p3, .double p5] [(h0, .inr (1, []))]) (vp_Sd post) 0 0 (fun _ => False) := by
  refine ofWF (cc := cX8_joined) (maxL := 9) (ret := (Option.some Jvm.ClassFile.FieldType.double)) (plainFor_of_name (by decide)) rfl ?_
  intro p e s m args below meth c s₁ B hml hv
  obtain ⟨rfl, hP, hK, hG⟩ := hv
  have hx := B.exec
  have hb := B.bytes
  have hr := B.returns
  have hts0 := atoms_spec (ws := ws_ yX8_joined cX8_joined 9 (Option.some Jvm.ClassFile.FieldType.double)) B.pre
  have hts : ∀ w ∈ lw_all, w.before _ s = true := fun w h => hts0 w (List.mem_cons_of_mem _ h)
  have hown : s.vm.findClass RX8 = some m.cls := findClass_of_methodNamed B.named
  have hlocks := B.notSynchronized
  have hS : va_S (fun _ => False) s.heap s.heap [] := va_S.rf
  have hl := lv_entry ([.ref h0, .double p1, .double p3, .double p5]) (n := 9) (Nat.le_of_ble_eq_true rfl)
  rw [lg_entry_eq]
  generalize (lg_sl ([.ref h0, .double p1, .double p3, .double p5]) ++ List.replicate (9 - (lg_sl ([.ref h0, .double p1, .double p3, .double p5])).length) Slot.unset).toArray = ls at hl ⊢
  have hl : lv_has ls 9 [(0, .ref h0), (1, .double p1), (3, .double p3), (5, .double p5)] := hl
  unfold fX8_joined_D at hw
  unfold oX8_joined_D at hok
  refine lv_dload_n hx hb dX8_joined_0 rfl (lv_at hl 1 rfl) ?_
  refine cSi (v := fX0_isEndless p1) (run_weak (va_runSN (As := [.double p1]) (rest := []) ⟨hx, hb, hml, hown, hts⟩ (mX0_isEndless l D TY p1 (fun r => r = fX0_isEndless p1) rfl) ⟨va_cnB 1 hts (lw_meth q137) rfl rfl rfl (gz_mn6 hG) (hts _ q44) hd_X0_isEndless ⟨Nat.le_of_ble_eq_true rfl, Nat.le_of_ble_eq_true rfl⟩, (hts _ q136), trivial⟩ (PR.S hP [] rfl hK hG hS) rfl rfl hl.1 rfl (lv_room (Nat.le_of_ble_eq_true rfl)) dX8_joined_1 ⟨Nat.le_of_ble_eq_true rfl, Nat.le_of_ble_eq_true rfl⟩)) ?_
  obtain ⟨PJx1, hPJx1⟩ : ∃ P : Int32 → Prop, ∀ x1 : Int32, P x1 ↔ ∀ ls : Array Slot, lv_has ls 9 [(0, .ref h0), (1, .double p1), (3, .double p3), (5, .double p5)] → W p l e (headSpec (ws_ yX8_joined cX8_joined 9 (Option.some Jvm.ClassFile.FieldType.double)) ({ frames := 7, cells := 0, slots := 0, locals := 188 })).room s m ([.ref h0, .double p1, .double p3, .double p5] : List Value).toArray below meth c s.heap ([]) 0 0 (MQ below (vp_Sd post) ([.ref h0, .double p1, .double p3, .double p5] : List Value).toArray s 0 0 (fun _ => False)) (F0 m 19 ls [.int x1]) := ⟨_, fun _ => Iff.rfl⟩
  have hjx1 : ∀ x1 : Int32, x1 = (if (fX0_isEndless p1) = 0 then (if (fX0_isEndless p3) = 0 then 0 else 1) else 1) → PJx1 x1 := by
    intro x1 ex1
    rw [hPJx1]
    intro ls hl
    replace hw := pf_let (P := post) hw x1 ex1
    replace hok := hok x1 ex1
    refine lv_istore (lv' := [(7, .int x1), (0, .ref h0), (1, .double p1), (3, .double p3), (5, .double p5)]) hx hb dX8_joined_19 hl (by decide) rfl (fun ls hl => ?_)
    refine lv_dload_n hx hb dX8_joined_21 rfl (lv_at hl 2 rfl) ?_
    refine lv_dload_n hx hb dX8_joined_22 rfl (lv_at hl 3 rfl) ?_
    refine cSi (v := fX0_isNumber p1 p3) (run_weak (va_runSN (As := [.double p1, .double p3]) (rest := []) ⟨hx, hb, hml, hown, hts⟩ (mX0_isNumber l D TY p1 p3 (fun r => r = fX0_isNumber p1 p3) rfl) ⟨va_cnB 2 hts (lw_meth q459) rfl rfl rfl (gz_mn9 hG) (hts _ q44) hd_X0_isNumber ⟨Nat.le_of_ble_eq_true rfl, Nat.le_of_ble_eq_true rfl⟩, (hts _ q458), trivial⟩ (PR.S hP [] rfl hK hG hS) rfl rfl hl.1 rfl (lv_room (Nat.le_of_ble_eq_true rfl)) dX8_joined_23 ⟨Nat.le_of_ble_eq_true rfl, Nat.le_of_ble_eq_true rfl⟩)) ?_
    obtain ⟨PJx4, hPJx4⟩ : ∃ P : Int32 → Prop, ∀ x4 : Int32, P x4 ↔ ∀ ls : Array Slot, lv_has ls 9 [(0, .ref h0), (1, .double p1), (3, .double p3), (5, .double p5)] → W p l e (headSpec (ws_ yX8_joined cX8_joined 9 (Option.some Jvm.ClassFile.FieldType.double)) ({ frames := 7, cells := 0, slots := 0, locals := 188 })).room s m ([.ref h0, .double p1, .double p3, .double p5] : List Value).toArray below meth c s.heap ([]) 0 0 (MQ below (vp_Sd post) ([.ref h0, .double p1, .double p3, .double p5] : List Value).toArray s 0 0 (fun _ => False)) (F0 m 117 ls [.int x4]) := ⟨_, fun _ => Iff.rfl⟩
    have hjx4 : ∀ x4 : Int32, x4 = (if (fX0_isNumber p1 p3) = 0 then 1 else (if Deq p5 p5 then (if x1 = 0 then 0 else (if Deq p1 FP.dconst0 then 1 else (if Deq p3 FP.dconst0 then 1 else (if (fX0_isEndless p5) = 0 then 0 else (lt_ (if Dlt p1 FP.dconst0 then 1 else 0) (fun x12 : Int32 => lt_ (if Dlt p3 FP.dconst0 then 1 else 0) (fun x14 : Int32 => lt_ (if x12 = x14 then 1 else 0) (fun x16 : Int32 => lt_ (if Dgt p5 FP.dconst0 then 1 else 0) (fun x18 : Int32 => if x16 = x18 then 0 else 1))))))))) else 1)) → PJx4 x4 := by
      intro x4 ex4
      rw [hPJx4]
      intro ls hl
      replace hw := pf_let (P := post) hw x4 ex4
      replace hok := hok x4 ex4
      refine lv_istore (lv' := [(8, .int x4), (0, .ref h0), (1, .double p1), (3, .double p3), (5, .double p5)]) hx hb dX8_joined_117 hl (by decide) rfl (fun ls hl => ?_)
      refine lv_iload hx hb dX8_joined_119 (lv_at hl 0 rfl) ?_
      obtain ⟨PJx22, hPJx22⟩ : ∃ P : UInt64 → Prop, ∀ x22 : UInt64, P x22 ↔ ∀ ls : Array Slot, lv_has ls 9 [] → W p l e (headSpec (ws_ yX8_joined cX8_joined 9 (Option.some Jvm.ClassFile.FieldType.double)) ({ frames := 7, cells := 0, slots := 0, locals := 188 })).room s m ([.ref h0, .double p1, .double p3, .double p5] : List Value).toArray below meth c s.heap ([]) 0 0 (MQ below (vp_Sd post) ([.ref h0, .double p1, .double p3, .double p5] : List Value).toArray s 0 0 (fun _ => False)) (F0 m 138 ls [.double x22]) := ⟨_, fun _ => Iff.rfl⟩
      have hox22 := hok
      have hjx22 : ∀ x22 : UInt64, x22 = (if x4 = 0 then (fX0_together_D p1 p3 p5) else 9221120237041090560) → PJx22 x22 := by
        intro x22 ex22
        rw [hPJx22]
        intro ls hl
        replace hw := pf_let (P := post) hw x22 ex22
        exact W.dret (v := x22) hx hb hr (fun t ht hW => ⟨_, rfl, hw, ht⟩) (fun q h => nomatch h) dX8_joined_138
      replace hjx22 := hjx22 _ rfl
      refine lv_if_eq (tgt := 130) hx hb dX8_joined_121 (by decide) (fun c23 => ?_) (fun c23 => ?_)
      · replace hjx22 := pf_t (P := PJx22) c23 hjx22
        replace hox22 := hox22.1 c23
        refine lv_aload_n hx hb dX8_joined_130 rfl (lv_at hl 1 rfl) ?_
        refine lv_dload_n hx hb dX8_joined_131 rfl (lv_at hl 2 rfl) ?_
        refine lv_dload_n hx hb dX8_joined_132 rfl (lv_at hl 3 rfl) ?_
        refine lv_dload hx hb dX8_joined_133 (lv_at hl 4 rfl) ?_
        refine cSd (v := fX0_together_D p1 p3 p5) (run_weak (va_runSN (As := [.ref h0, .double p1, .double p3, .double p5]) (rest := []) ⟨hx, hb, hml, hown, hts⟩ (mX0_together_D l D TY h0 p1 p3 p5 (fun r => r = fX0_together_D p1 p3 p5) rfl hox22) ⟨va_cnB 4 hts (lw_meth q538) rfl rfl rfl (gz_mn10 hG) (hts _ q44) hd_X0_together ⟨Nat.le_of_ble_eq_true rfl, Nat.le_of_ble_eq_true rfl⟩, (hts _ q537), trivial⟩ (PR.S hP [0] rfl hK hG hS) rfl rfl hl.1 rfl (lv_room (Nat.le_of_ble_eq_true rfl)) dX8_joined_135 ⟨Nat.le_of_ble_eq_true rfl, Nat.le_of_ble_eq_true rfl⟩)) ?_
        exact (hPJx22 _).1 hjx22 _ (lv_sub hl [] rfl)
      · replace hjx22 := pf_f (P := PJx22) c23 hjx22
        refine va_getsN hx hb hG.nn hS hown (gz_fn8 hG _) (fun _ h => h) dX8_joined_124 ?_
        refine lv_goto (tgt := 138) hx hb dX8_joined_127 (by decide) ?_
        exact (hPJx22 _).1 hjx22 _ (lv_sub hl [] rfl)
    replace hjx4 := hjx4 _ rfl
    refine lv_if_eq (tgt := 112) hx hb dX8_joined_26 (by decide) (fun c5 => ?_) (fun c5 => ?_)
    · replace hjx4 := pf_t (P := PJx4) c5 hjx4
      refine lv_iconst (v := 1) hx hb dX8_joined_112 (by decide) ?_
      refine lv_goto (tgt := 117) hx hb dX8_joined_113 (by decide) ?_
      exact (hPJx4 _).1 hjx4 _ (lv_sub hl [1, 2, 3, 4] rfl)
    · replace hjx4 := pf_f (P := PJx4) c5 hjx4
      refine lv_dload hx hb dX8_joined_29 (lv_at hl 4 rfl) ?_
      refine lv_dload hx hb dX8_joined_31 (lv_at hl 4 rfl) ?_
      refine lx_dlne (tgt := 112) hx hb dX8_joined_33 dX8_joined_34 (by decide) (fun c6 => ?_) (fun c6 => ?_)
      · replace hjx4 := pf_f (P := PJx4) c6 hjx4
        refine lv_iconst (v := 1) hx hb dX8_joined_112 (by decide) ?_
        refine lv_goto (tgt := 117) hx hb dX8_joined_113 (by decide) ?_
        exact (hPJx4 _).1 hjx4 _ (lv_sub hl [1, 2, 3, 4] rfl)
      · replace hjx4 := pf_t (P := PJx4) c6 hjx4
        refine lv_iload hx hb dX8_joined_37 (lv_at hl 0 rfl) ?_
        refine lv_if_eq (tgt := 54) hx hb dX8_joined_39 (by decide) (fun c7 => ?_) (fun c7 => ?_)
        · replace hjx4 := pf_t (P := PJx4) c7 hjx4
          refine lv_iload hx hb dX8_joined_54 (lv_at hl 0 rfl) ?_
          refine lv_if_eq (tgt := 116) hx hb dX8_joined_56 (by decide) (fun _ => ?_) (fun c8 => absurd c7 c8)
          refine lv_iconst (v := 0) hx hb dX8_joined_116 (by decide) ?_
          exact (hPJx4 _).1 hjx4 _ (lv_sub hl [1, 2, 3, 4] rfl)
        · replace hjx4 := pf_f (P := PJx4) c7 hjx4
          refine lv_dload_n hx hb dX8_joined_42 rfl (lv_at hl 2 rfl) ?_
          refine lv_dconst0 hx hb dX8_joined_43 ?_
          refine lx_dleq (tgt := 112) hx hb dX8_joined_44 dX8_joined_45 (by decide) (fun c9 => ?_) (fun c9 => ?_)
          · replace hjx4 := pf_t (P := PJx4) c9 hjx4
            refine lv_iconst (v := 1) hx hb dX8_joined_112 (by decide) ?_
            refine lv_goto (tgt := 117) hx hb dX8_joined_113 (by decide) ?_
            exact (hPJx4 _).1 hjx4 _ (lv_sub hl [1, 2, 3, 4] rfl)
          · replace hjx4 := pf_f (P := PJx4) c9 hjx4
            refine lv_dload_n hx hb dX8_joined_48 rfl (lv_at hl 3 rfl) ?_
            refine lv_dconst0 hx hb dX8_joined_49 ?_
            refine lx_dleq (tgt := 112) hx hb dX8_joined_50 dX8_joined_51 (by decide) (fun c10 => ?_) (fun c10 => ?_)
            · replace hjx4 := pf_t (P := PJx4) c10 hjx4
              refine lv_iconst (v := 1) hx hb dX8_joined_112 (by decide) ?_
              refine lv_goto (tgt := 117) hx hb dX8_joined_113 (by decide) ?_
              exact (hPJx4 _).1 hjx4 _ (lv_sub hl [1, 2, 3, 4] rfl)
            · replace hjx4 := pf_f (P := PJx4) c10 hjx4
              refine lv_iload hx hb dX8_joined_54 (lv_at hl 0 rfl) ?_
              refine lv_if_eq (tgt := 116) hx hb dX8_joined_56 (by decide) (fun c21 => absurd c21 c7) (fun _ => ?_)
              refine lv_dload hx hb dX8_joined_59 (lv_at hl 4 rfl) ?_
              refine cSi (v := fX0_isEndless p5) (run_weak (va_runSN (As := [.double p5]) (rest := []) ⟨hx, hb, hml, hown, hts⟩ (mX0_isEndless l D TY p5 (fun r => r = fX0_isEndless p5) rfl) ⟨va_cnB 1 hts (lw_meth q137) rfl rfl rfl (gz_mn6 hG) (hts _ q44) hd_X0_isEndless ⟨Nat.le_of_ble_eq_true rfl, Nat.le_of_ble_eq_true rfl⟩, (hts _ q136), trivial⟩ (PR.S hP [] rfl hK hG hS) rfl rfl hl.1 rfl (lv_room (Nat.le_of_ble_eq_true rfl)) dX8_joined_61 ⟨Nat.le_of_ble_eq_true rfl, Nat.le_of_ble_eq_true rfl⟩)) ?_
              refine lv_if_eq (tgt := 116) hx hb dX8_joined_64 (by decide) (fun c11 => ?_) (fun c11 => ?_)
              · replace hjx4 := pf_t (P := PJx4) c11 hjx4
                refine lv_iconst (v := 0) hx hb dX8_joined_116 (by decide) ?_
                exact (hPJx4 _).1 hjx4 _ (lv_sub hl [1, 2, 3, 4] rfl)
              · replace hjx4 := pf_f (P := PJx4) c11 hjx4
                refine lv_dload_n hx hb dX8_joined_67 rfl (lv_at hl 2 rfl) ?_
                refine lv_dconst0 hx hb dX8_joined_68 ?_
                obtain ⟨PJx12, hPJx12⟩ : ∃ P : Int32 → Prop, ∀ x12 : Int32, P x12 ↔ ∀ ls : Array Slot, lv_has ls 9 [(0, .ref h0), (1, .double p1), (3, .double p3), (5, .double p5)] → W p l e (headSpec (ws_ yX8_joined cX8_joined 9 (Option.some Jvm.ClassFile.FieldType.double)) ({ frames := 7, cells := 0, slots := 0, locals := 188 })).room s m ([.ref h0, .double p1, .double p3, .double p5] : List Value).toArray below meth c s.heap ([]) 0 0 (MQ below (vp_Sd post) ([.ref h0, .double p1, .double p3, .double p5] : List Value).toArray s 0 0 (fun _ => False)) (F0 m 78 ls [.int x12]) := ⟨_, fun _ => Iff.rfl⟩
                have hjx12 : ∀ x12 : Int32, x12 = (if Dlt p1 FP.dconst0 then 1 else 0) → PJx12 x12 := by
                  intro x12 ex12
                  rw [hPJx12]
                  intro ls hl
                  replace hjx4 := pf_let (P := PJx4) hjx4 x12 ex12
                  refine lv_dload_n hx hb dX8_joined_78 rfl (lv_at hl 2 rfl) ?_
                  refine lv_dconst0 hx hb dX8_joined_79 ?_
                  obtain ⟨PJx14, hPJx14⟩ : ∃ P : Int32 → Prop, ∀ x14 : Int32, P x14 ↔ ∀ ls : Array Slot, lv_has ls 9 [(0, .ref h0), (1, .double p1), (3, .double p3), (5, .double p5)] → W p l e (headSpec (ws_ yX8_joined cX8_joined 9 (Option.some Jvm.ClassFile.FieldType.double)) ({ frames := 7, cells := 0, slots := 0, locals := 188 })).room s m ([.ref h0, .double p1, .double p3, .double p5] : List Value).toArray below meth c s.heap ([]) 0 0 (MQ below (vp_Sd post) ([.ref h0, .double p1, .double p3, .double p5] : List Value).toArray s 0 0 (fun _ => False)) (F0 m 89 ls [.int x14, .int x12]) := ⟨_, fun _ => Iff.rfl⟩
                  have hjx14 : ∀ x14 : Int32, x14 = (if Dlt p3 FP.dconst0 then 1 else 0) → PJx14 x14 := by
                    intro x14 ex14
                    rw [hPJx14]
                    intro ls hl
                    replace hjx4 := pf_let (P := PJx4) hjx4 x14 ex14
                    obtain ⟨PJx16, hPJx16⟩ : ∃ P : Int32 → Prop, ∀ x16 : Int32, P x16 ↔ ∀ ls : Array Slot, lv_has ls 9 [(0, .ref h0), (1, .double p1), (3, .double p3), (5, .double p5)] → W p l e (headSpec (ws_ yX8_joined cX8_joined 9 (Option.some Jvm.ClassFile.FieldType.double)) ({ frames := 7, cells := 0, slots := 0, locals := 188 })).room s m ([.ref h0, .double p1, .double p3, .double p5] : List Value).toArray below meth c s.heap ([]) 0 0 (MQ below (vp_Sd post) ([.ref h0, .double p1, .double p3, .double p5] : List Value).toArray s 0 0 (fun _ => False)) (F0 m 97 ls [.int x16]) := ⟨_, fun _ => Iff.rfl⟩
                    have hjx16 : ∀ x16 : Int32, x16 = (if x12 = x14 then 1 else 0) → PJx16 x16 := by
                      intro x16 ex16
                      rw [hPJx16]
                      intro ls hl
                      replace hjx4 := pf_let (P := PJx4) hjx4 x16 ex16
                      refine lv_dload hx hb dX8_joined_97 (lv_at hl 3 rfl) ?_
                      refine lv_dconst0 hx hb dX8_joined_99 ?_
                      obtain ⟨PJx18, hPJx18⟩ : ∃ P : Int32 → Prop, ∀ x18 : Int32, P x18 ↔ ∀ ls : Array Slot, lv_has ls 9 [(0, .ref h0), (1, .double p1), (3, .double p3), (5, .double p5)] → W p l e (headSpec (ws_ yX8_joined cX8_joined 9 (Option.some Jvm.ClassFile.FieldType.double)) ({ frames := 7, cells := 0, slots := 0, locals := 188 })).room s m ([.ref h0, .double p1, .double p3, .double p5] : List Value).toArray below meth c s.heap ([]) 0 0 (MQ below (vp_Sd post) ([.ref h0, .double p1, .double p3, .double p5] : List Value).toArray s 0 0 (fun _ => False)) (F0 m 109 ls [.int x18, .int x16]) := ⟨_, fun _ => Iff.rfl⟩
                      have hjx18 : ∀ x18 : Int32, x18 = (if Dgt p5 FP.dconst0 then 1 else 0) → PJx18 x18 := by
                        intro x18 ex18
                        rw [hPJx18]
                        intro ls hl
                        replace hjx4 := pf_let (P := PJx4) hjx4 x18 ex18
                        refine lv_icmp_eq (tgt := 116) hx hb dX8_joined_109 (by decide) (fun c20 => ?_) (fun c20 => ?_)
                        · replace hjx4 := pf_t (P := PJx4) c20 hjx4
                          refine lv_iconst (v := 0) hx hb dX8_joined_116 (by decide) ?_
                          exact (hPJx4 _).1 hjx4 _ (lv_sub hl [0, 1, 2, 3] rfl)
                        · replace hjx4 := pf_f (P := PJx4) c20 hjx4
                          refine lv_iconst (v := 1) hx hb dX8_joined_112 (by decide) ?_
                          refine lv_goto (tgt := 117) hx hb dX8_joined_113 (by decide) ?_
                          exact (hPJx4 _).1 hjx4 _ (lv_sub hl [0, 1, 2, 3] rfl)
                      replace hjx18 := hjx18 _ rfl
                      refine lx_dlle (tgt := 108) hx hb dX8_joined_100 dX8_joined_101 (by decide) (fun c19 => ?_) (fun c19 => ?_)
                      · replace hjx18 := pf_f (P := PJx18) c19 hjx18
                        refine lv_iconst (v := 0) hx hb dX8_joined_108 (by decide) ?_
                        exact (hPJx18 _).1 hjx18 _ (lv_sub hl [0, 1, 2, 3] rfl)
                      · replace hjx18 := pf_t (P := PJx18) c19 hjx18
                        refine lv_iconst (v := 1) hx hb dX8_joined_104 (by decide) ?_
                        refine lv_goto (tgt := 109) hx hb dX8_joined_105 (by decide) ?_
                        exact (hPJx18 _).1 hjx18 _ (lv_sub hl [0, 1, 2, 3] rfl)
                    replace hjx16 := hjx16 _ rfl
                    refine lv_icmp_ne (tgt := 96) hx hb dX8_joined_89 (by decide) (fun c17 => ?_) (fun c17 => ?_)
                    · replace hjx16 := pf_f (P := PJx16) c17 hjx16
                      refine lv_iconst (v := 0) hx hb dX8_joined_96 (by decide) ?_
                      exact (hPJx16 _).1 hjx16 _ (lv_sub hl [0, 1, 2, 3] rfl)
                    · replace hjx16 := pf_t (P := PJx16) c17 hjx16
                      refine lv_iconst (v := 1) hx hb dX8_joined_92 (by decide) ?_
                      refine lv_goto (tgt := 97) hx hb dX8_joined_93 (by decide) ?_
                      exact (hPJx16 _).1 hjx16 _ (lv_sub hl [0, 1, 2, 3] rfl)
                  replace hjx14 := hjx14 _ rfl
                  refine lx_dgge (tgt := 88) hx hb dX8_joined_80 dX8_joined_81 (by decide) (fun c15 => ?_) (fun c15 => ?_)
                  · replace hjx14 := pf_f (P := PJx14) c15 hjx14
                    refine lv_iconst (v := 0) hx hb dX8_joined_88 (by decide) ?_
                    exact (hPJx14 _).1 hjx14 _ (lv_sub hl [0, 1, 2, 3] rfl)
                  · replace hjx14 := pf_t (P := PJx14) c15 hjx14
                    refine lv_iconst (v := 1) hx hb dX8_joined_84 (by decide) ?_
                    refine lv_goto (tgt := 89) hx hb dX8_joined_85 (by decide) ?_
                    exact (hPJx14 _).1 hjx14 _ (lv_sub hl [0, 1, 2, 3] rfl)
                replace hjx12 := hjx12 _ rfl
                refine lx_dgge (tgt := 77) hx hb dX8_joined_69 dX8_joined_70 (by decide) (fun c13 => ?_) (fun c13 => ?_)
                · replace hjx12 := pf_f (P := PJx12) c13 hjx12
                  refine lv_iconst (v := 0) hx hb dX8_joined_77 (by decide) ?_
                  exact (hPJx12 _).1 hjx12 _ (lv_sub hl [1, 2, 3, 4] rfl)
                · replace hjx12 := pf_t (P := PJx12) c13 hjx12
                  refine lv_iconst (v := 1) hx hb dX8_joined_73 (by decide) ?_
                  refine lv_goto (tgt := 78) hx hb dX8_joined_74 (by decide) ?_
                  exact (hPJx12 _).1 hjx12 _ (lv_sub hl [1, 2, 3, 4] rfl)
  replace hjx1 := hjx1 _ rfl
  refine lv_if_ne (tgt := 14) hx hb dX8_joined_4 (by decide) (fun c2 => ?_) (fun c2 => ?_)
  · replace hjx1 := pf_f (P := PJx1) c2 hjx1
    refine lv_iconst (v := 1) hx hb dX8_joined_14 (by decide) ?_
    refine lv_goto (tgt := 19) hx hb dX8_joined_15 (by decide) ?_
    exact (hPJx1 _).1 hjx1 _ (lv_sub hl [0, 1, 2, 3] rfl)
  · replace hjx1 := pf_t (P := PJx1) c2 hjx1
    refine lv_dload_n hx hb dX8_joined_7 rfl (lv_at hl 2 rfl) ?_
    refine cSi (v := fX0_isEndless p3) (run_weak (va_runSN (As := [.double p3]) (rest := []) ⟨hx, hb, hml, hown, hts⟩ (mX0_isEndless l D TY p3 (fun r => r = fX0_isEndless p3) rfl) ⟨va_cnB 1 hts (lw_meth q137) rfl rfl rfl (gz_mn6 hG) (hts _ q44) hd_X0_isEndless ⟨Nat.le_of_ble_eq_true rfl, Nat.le_of_ble_eq_true rfl⟩, (hts _ q136), trivial⟩ (PR.S hP [] rfl hK hG hS) rfl rfl hl.1 rfl (lv_room (Nat.le_of_ble_eq_true rfl)) dX8_joined_8 ⟨Nat.le_of_ble_eq_true rfl, Nat.le_of_ble_eq_true rfl⟩)) ?_
    refine lv_if_eq (tgt := 18) hx hb dX8_joined_11 (by decide) (fun c3 => ?_) (fun c3 => ?_)
    · replace hjx1 := pf_t (P := PJx1) c3 hjx1
      refine lv_iconst (v := 0) hx hb dX8_joined_18 (by decide) ?_
      exact (hPJx1 _).1 hjx1 _ (lv_sub hl [0, 1, 2, 3] rfl)
    · replace hjx1 := pf_f (P := PJx1) c3 hjx1
      refine lv_iconst (v := 1) hx hb dX8_joined_14 (by decide) ?_
      refine lv_goto (tgt := 19) hx hb dX8_joined_15 (by decide) ?_
      exact (hPJx1 _).1 hjx1 _ (lv_sub hl [0, 1, 2, 3] rfl)

def fX8_joined_F (p1 : UInt64) (p3 : UInt64) (p5 : UInt64) : UInt64 := lt_ (if (fX0_isEndless p1) = 0 then (if (fX0_isEndless p3) = 0 then 0 else 1) else 1) (fun x1 : Int32 => lt_ (if (fX0_isNumber p1 p3) = 0 then 1 else (if Deq p5 p5 then (if x1 = 0 then 0 else (if Deq p1 FP.dconst0 then 1 else (if Deq p3 FP.dconst0 then 1 else (if (fX0_isEndless p5) = 0 then 0 else (lt_ (if Dlt p1 FP.dconst0 then 1 else 0) (fun x12 : Int32 => lt_ (if Dlt p3 FP.dconst0 then 1 else 0) (fun x14 : Int32 => lt_ (if x12 = x14 then 1 else 0) (fun x16 : Int32 => lt_ (if Dgt p5 FP.dconst0 then 1 else 0) (fun x18 : Int32 => if x16 = x18 then 0 else 1))))))))) else 1)) (fun x4 : Int32 => lt_ (if x4 = 0 then (fX0_together_F p1 p3 p5) else 9221120237041090560) (fun x22 : UInt64 => x22)))
def oX8_joined_F (p1 : UInt64) (p3 : UInt64) (p5 : UInt64) : Prop := (∀ x1 : Int32, x1 = (if (fX0_isEndless p1) = 0 then (if (fX0_isEndless p3) = 0 then 0 else 1) else 1) → (∀ x4 : Int32, x4 = (if (fX0_isNumber p1 p3) = 0 then 1 else (if Deq p5 p5 then (if x1 = 0 then 0 else (if Deq p1 FP.dconst0 then 1 else (if Deq p3 FP.dconst0 then 1 else (if (fX0_isEndless p5) = 0 then 0 else (lt_ (if Dlt p1 FP.dconst0 then 1 else 0) (fun x12 : Int32 => lt_ (if Dlt p3 FP.dconst0 then 1 else 0) (fun x14 : Int32 => lt_ (if x12 = x14 then 1 else 0) (fun x16 : Int32 => lt_ (if Dgt p5 FP.dconst0 then 1 else 0) (fun x18 : Int32 => if x16 = x18 then 0 else 1))))))))) else 1)) → ((x4 = 0) → (oX0_together_F p1 p3 p5)) ∧ (¬ (x4 = 0) → True)))
set_option maxHeartbeats 4000000 in
set_option maxRecDepth 100000 in
theorem mX8_joined_F (l : Launch) (D : va_G) (TY : Nat → ClassId) (h0 : Nat) (p1 : UInt64) (p3 : UInt64) (p5 : UInt64) (post : UInt64 → Prop) (hw : post (fX8_joined_F p1 p3 p5)) (hok : oX8_joined_F p1 p3 p5) : Met l yX8_joined (ws_ yX8_joined cX8_joined 9 (Option.some Jvm.ClassFile.FieldType.double)) ({ frames := 8, cells := 0, slots := 0, locals := 211 }) (PR D TY [.ref h0, .double p1, .double p3, .double p5] [(h0, .inr (2, []))]) (vp_Sd post) 0 0 (fun _ => False) := by
  refine ofWF (cc := cX8_joined) (maxL := 9) (ret := (Option.some Jvm.ClassFile.FieldType.double)) (plainFor_of_name (by decide)) rfl ?_
  intro p e s m args below meth c s₁ B hml hv
  obtain ⟨rfl, hP, hK, hG⟩ := hv
  have hx := B.exec
  have hb := B.bytes
  have hr := B.returns
  have hts0 := atoms_spec (ws := ws_ yX8_joined cX8_joined 9 (Option.some Jvm.ClassFile.FieldType.double)) B.pre
  have hts : ∀ w ∈ lw_all, w.before _ s = true := fun w h => hts0 w (List.mem_cons_of_mem _ h)
  have hown : s.vm.findClass RX8 = some m.cls := findClass_of_methodNamed B.named
  have hlocks := B.notSynchronized
  have hS : va_S (fun _ => False) s.heap s.heap [] := va_S.rf
  have hl := lv_entry ([.ref h0, .double p1, .double p3, .double p5]) (n := 9) (Nat.le_of_ble_eq_true rfl)
  rw [lg_entry_eq]
  generalize (lg_sl ([.ref h0, .double p1, .double p3, .double p5]) ++ List.replicate (9 - (lg_sl ([.ref h0, .double p1, .double p3, .double p5])).length) Slot.unset).toArray = ls at hl ⊢
  have hl : lv_has ls 9 [(0, .ref h0), (1, .double p1), (3, .double p3), (5, .double p5)] := hl
  unfold fX8_joined_F at hw
  unfold oX8_joined_F at hok
  refine lv_dload_n hx hb dX8_joined_0 rfl (lv_at hl 1 rfl) ?_
  refine cSi (v := fX0_isEndless p1) (run_weak (va_runSN (As := [.double p1]) (rest := []) ⟨hx, hb, hml, hown, hts⟩ (mX0_isEndless l D TY p1 (fun r => r = fX0_isEndless p1) rfl) ⟨va_cnB 1 hts (lw_meth q137) rfl rfl rfl (gz_mn6 hG) (hts _ q44) hd_X0_isEndless ⟨Nat.le_of_ble_eq_true rfl, Nat.le_of_ble_eq_true rfl⟩, (hts _ q136), trivial⟩ (PR.S hP [] rfl hK hG hS) rfl rfl hl.1 rfl (lv_room (Nat.le_of_ble_eq_true rfl)) dX8_joined_1 ⟨Nat.le_of_ble_eq_true rfl, Nat.le_of_ble_eq_true rfl⟩)) ?_
  obtain ⟨PJx1, hPJx1⟩ : ∃ P : Int32 → Prop, ∀ x1 : Int32, P x1 ↔ ∀ ls : Array Slot, lv_has ls 9 [(0, .ref h0), (1, .double p1), (3, .double p3), (5, .double p5)] → W p l e (headSpec (ws_ yX8_joined cX8_joined 9 (Option.some Jvm.ClassFile.FieldType.double)) ({ frames := 8, cells := 0, slots := 0, locals := 211 })).room s m ([.ref h0, .double p1, .double p3, .double p5] : List Value).toArray below meth c s.heap ([]) 0 0 (MQ below (vp_Sd post) ([.ref h0, .double p1, .double p3, .double p5] : List Value).toArray s 0 0 (fun _ => False)) (F0 m 19 ls [.int x1]) := ⟨_, fun _ => Iff.rfl⟩
  have hjx1 : ∀ x1 : Int32, x1 = (if (fX0_isEndless p1) = 0 then (if (fX0_isEndless p3) = 0 then 0 else 1) else 1) → PJx1 x1 := by
    intro x1 ex1
    rw [hPJx1]
    intro ls hl
    replace hw := pf_let (P := post) hw x1 ex1
    replace hok := hok x1 ex1
    refine lv_istore (lv' := [(7, .int x1), (0, .ref h0), (1, .double p1), (3, .double p3), (5, .double p5)]) hx hb dX8_joined_19 hl (by decide) rfl (fun ls hl => ?_)
    refine lv_dload_n hx hb dX8_joined_21 rfl (lv_at hl 2 rfl) ?_
    refine lv_dload_n hx hb dX8_joined_22 rfl (lv_at hl 3 rfl) ?_
    refine cSi (v := fX0_isNumber p1 p3) (run_weak (va_runSN (As := [.double p1, .double p3]) (rest := []) ⟨hx, hb, hml, hown, hts⟩ (mX0_isNumber l D TY p1 p3 (fun r => r = fX0_isNumber p1 p3) rfl) ⟨va_cnB 2 hts (lw_meth q459) rfl rfl rfl (gz_mn9 hG) (hts _ q44) hd_X0_isNumber ⟨Nat.le_of_ble_eq_true rfl, Nat.le_of_ble_eq_true rfl⟩, (hts _ q458), trivial⟩ (PR.S hP [] rfl hK hG hS) rfl rfl hl.1 rfl (lv_room (Nat.le_of_ble_eq_true rfl)) dX8_joined_23 ⟨Nat.le_of_ble_eq_true rfl, Nat.le_of_ble_eq_true rfl⟩)) ?_
    obtain ⟨PJx4, hPJx4⟩ : ∃ P : Int32 → Prop, ∀ x4 : Int32, P x4 ↔ ∀ ls : Array Slot, lv_has ls 9 [(0, .ref h0), (1, .double p1), (3, .double p3), (5, .double p5)] → W p l e (headSpec (ws_ yX8_joined cX8_joined 9 (Option.some Jvm.ClassFile.FieldType.double)) ({ frames := 8, cells := 0, slots := 0, locals := 211 })).room s m ([.ref h0, .double p1, .double p3, .double p5] : List Value).toArray below meth c s.heap ([]) 0 0 (MQ below (vp_Sd post) ([.ref h0, .double p1, .double p3, .double p5] : List Value).toArray s 0 0 (fun _ => False)) (F0 m 117 ls [.int x4]) := ⟨_, fun _ => Iff.rfl⟩
    have hjx4 : ∀ x4 : Int32, x4 = (if (fX0_isNumber p1 p3) = 0 then 1 else (if Deq p5 p5 then (if x1 = 0 then 0 else (if Deq p1 FP.dconst0 then 1 else (if Deq p3 FP.dconst0 then 1 else (if (fX0_isEndless p5) = 0 then 0 else (lt_ (if Dlt p1 FP.dconst0 then 1 else 0) (fun x12 : Int32 => lt_ (if Dlt p3 FP.dconst0 then 1 else 0) (fun x14 : Int32 => lt_ (if x12 = x14 then 1 else 0) (fun x16 : Int32 => lt_ (if Dgt p5 FP.dconst0 then 1 else 0) (fun x18 : Int32 => if x16 = x18 then 0 else 1))))))))) else 1)) → PJx4 x4 := by
      intro x4 ex4
      rw [hPJx4]
      intro ls hl
      replace hw := pf_let (P := post) hw x4 ex4
      replace hok := hok x4 ex4
      refine lv_istore (lv' := [(8, .int x4), (0, .ref h0), (1, .double p1), (3, .double p3), (5, .double p5)]) hx hb dX8_joined_117 hl (by decide) rfl (fun ls hl => ?_)
      refine lv_iload hx hb dX8_joined_119 (lv_at hl 0 rfl) ?_
      obtain ⟨PJx22, hPJx22⟩ : ∃ P : UInt64 → Prop, ∀ x22 : UInt64, P x22 ↔ ∀ ls : Array Slot, lv_has ls 9 [] → W p l e (headSpec (ws_ yX8_joined cX8_joined 9 (Option.some Jvm.ClassFile.FieldType.double)) ({ frames := 8, cells := 0, slots := 0, locals := 211 })).room s m ([.ref h0, .double p1, .double p3, .double p5] : List Value).toArray below meth c s.heap ([]) 0 0 (MQ below (vp_Sd post) ([.ref h0, .double p1, .double p3, .double p5] : List Value).toArray s 0 0 (fun _ => False)) (F0 m 138 ls [.double x22]) := ⟨_, fun _ => Iff.rfl⟩
      have hox22 := hok
      have hjx22 : ∀ x22 : UInt64, x22 = (if x4 = 0 then (fX0_together_F p1 p3 p5) else 9221120237041090560) → PJx22 x22 := by
        intro x22 ex22
        rw [hPJx22]
        intro ls hl
        replace hw := pf_let (P := post) hw x22 ex22
        exact W.dret (v := x22) hx hb hr (fun t ht hW => ⟨_, rfl, hw, ht⟩) (fun q h => nomatch h) dX8_joined_138
      replace hjx22 := hjx22 _ rfl
      refine lv_if_eq (tgt := 130) hx hb dX8_joined_121 (by decide) (fun c23 => ?_) (fun c23 => ?_)
      · replace hjx22 := pf_t (P := PJx22) c23 hjx22
        replace hox22 := hox22.1 c23
        refine lv_aload_n hx hb dX8_joined_130 rfl (lv_at hl 1 rfl) ?_
        refine lv_dload_n hx hb dX8_joined_131 rfl (lv_at hl 2 rfl) ?_
        refine lv_dload_n hx hb dX8_joined_132 rfl (lv_at hl 3 rfl) ?_
        refine lv_dload hx hb dX8_joined_133 (lv_at hl 4 rfl) ?_
        refine cSd (v := fX0_together_F p1 p3 p5) (run_weak (va_runSN (As := [.ref h0, .double p1, .double p3, .double p5]) (rest := []) ⟨hx, hb, hml, hown, hts⟩ (mX0_together_F l D TY h0 p1 p3 p5 (fun r => r = fX0_together_F p1 p3 p5) rfl hox22) ⟨va_cnB 4 hts (lw_meth q538) rfl rfl rfl (gz_mn10 hG) (hts _ q44) hd_X0_together ⟨Nat.le_of_ble_eq_true rfl, Nat.le_of_ble_eq_true rfl⟩, (hts _ q537), trivial⟩ (PR.S hP [0] rfl hK hG hS) rfl rfl hl.1 rfl (lv_room (Nat.le_of_ble_eq_true rfl)) dX8_joined_135 ⟨Nat.le_of_ble_eq_true rfl, Nat.le_of_ble_eq_true rfl⟩)) ?_
        exact (hPJx22 _).1 hjx22 _ (lv_sub hl [] rfl)
      · replace hjx22 := pf_f (P := PJx22) c23 hjx22
        refine va_getsN hx hb hG.nn hS hown (gz_fn8 hG _) (fun _ h => h) dX8_joined_124 ?_
        refine lv_goto (tgt := 138) hx hb dX8_joined_127 (by decide) ?_
        exact (hPJx22 _).1 hjx22 _ (lv_sub hl [] rfl)
    replace hjx4 := hjx4 _ rfl
    refine lv_if_eq (tgt := 112) hx hb dX8_joined_26 (by decide) (fun c5 => ?_) (fun c5 => ?_)
    · replace hjx4 := pf_t (P := PJx4) c5 hjx4
      refine lv_iconst (v := 1) hx hb dX8_joined_112 (by decide) ?_
      refine lv_goto (tgt := 117) hx hb dX8_joined_113 (by decide) ?_
      exact (hPJx4 _).1 hjx4 _ (lv_sub hl [1, 2, 3, 4] rfl)
    · replace hjx4 := pf_f (P := PJx4) c5 hjx4
      refine lv_dload hx hb dX8_joined_29 (lv_at hl 4 rfl) ?_
      refine lv_dload hx hb dX8_joined_31 (lv_at hl 4 rfl) ?_
      refine lx_dlne (tgt := 112) hx hb dX8_joined_33 dX8_joined_34 (by decide) (fun c6 => ?_) (fun c6 => ?_)
      · replace hjx4 := pf_f (P := PJx4) c6 hjx4
        refine lv_iconst (v := 1) hx hb dX8_joined_112 (by decide) ?_
        refine lv_goto (tgt := 117) hx hb dX8_joined_113 (by decide) ?_
        exact (hPJx4 _).1 hjx4 _ (lv_sub hl [1, 2, 3, 4] rfl)
      · replace hjx4 := pf_t (P := PJx4) c6 hjx4
        refine lv_iload hx hb dX8_joined_37 (lv_at hl 0 rfl) ?_
        refine lv_if_eq (tgt := 54) hx hb dX8_joined_39 (by decide) (fun c7 => ?_) (fun c7 => ?_)
        · replace hjx4 := pf_t (P := PJx4) c7 hjx4
          refine lv_iload hx hb dX8_joined_54 (lv_at hl 0 rfl) ?_
          refine lv_if_eq (tgt := 116) hx hb dX8_joined_56 (by decide) (fun _ => ?_) (fun c8 => absurd c7 c8)
          refine lv_iconst (v := 0) hx hb dX8_joined_116 (by decide) ?_
          exact (hPJx4 _).1 hjx4 _ (lv_sub hl [1, 2, 3, 4] rfl)
        · replace hjx4 := pf_f (P := PJx4) c7 hjx4
          refine lv_dload_n hx hb dX8_joined_42 rfl (lv_at hl 2 rfl) ?_
          refine lv_dconst0 hx hb dX8_joined_43 ?_
          refine lx_dleq (tgt := 112) hx hb dX8_joined_44 dX8_joined_45 (by decide) (fun c9 => ?_) (fun c9 => ?_)
          · replace hjx4 := pf_t (P := PJx4) c9 hjx4
            refine lv_iconst (v := 1) hx hb dX8_joined_112 (by decide) ?_
            refine lv_goto (tgt := 117) hx hb dX8_joined_113 (by decide) ?_
            exact (hPJx4 _).1 hjx4 _ (lv_sub hl [1, 2, 3, 4] rfl)
          · replace hjx4 := pf_f (P := PJx4) c9 hjx4
            refine lv_dload_n hx hb dX8_joined_48 rfl (lv_at hl 3 rfl) ?_
            refine lv_dconst0 hx hb dX8_joined_49 ?_
            refine lx_dleq (tgt := 112) hx hb dX8_joined_50 dX8_joined_51 (by decide) (fun c10 => ?_) (fun c10 => ?_)
            · replace hjx4 := pf_t (P := PJx4) c10 hjx4
              refine lv_iconst (v := 1) hx hb dX8_joined_112 (by decide) ?_
              refine lv_goto (tgt := 117) hx hb dX8_joined_113 (by decide) ?_
              exact (hPJx4 _).1 hjx4 _ (lv_sub hl [1, 2, 3, 4] rfl)
            · replace hjx4 := pf_f (P := PJx4) c10 hjx4
              refine lv_iload hx hb dX8_joined_54 (lv_at hl 0 rfl) ?_
              refine lv_if_eq (tgt := 116) hx hb dX8_joined_56 (by decide) (fun c21 => absurd c21 c7) (fun _ => ?_)
              refine lv_dload hx hb dX8_joined_59 (lv_at hl 4 rfl) ?_
              refine cSi (v := fX0_isEndless p5) (run_weak (va_runSN (As := [.double p5]) (rest := []) ⟨hx, hb, hml, hown, hts⟩ (mX0_isEndless l D TY p5 (fun r => r = fX0_isEndless p5) rfl) ⟨va_cnB 1 hts (lw_meth q137) rfl rfl rfl (gz_mn6 hG) (hts _ q44) hd_X0_isEndless ⟨Nat.le_of_ble_eq_true rfl, Nat.le_of_ble_eq_true rfl⟩, (hts _ q136), trivial⟩ (PR.S hP [] rfl hK hG hS) rfl rfl hl.1 rfl (lv_room (Nat.le_of_ble_eq_true rfl)) dX8_joined_61 ⟨Nat.le_of_ble_eq_true rfl, Nat.le_of_ble_eq_true rfl⟩)) ?_
              refine lv_if_eq (tgt := 116) hx hb dX8_joined_64 (by decide) (fun c11 => ?_) (fun c11 => ?_)
              · replace hjx4 := pf_t (P := PJx4) c11 hjx4
                refine lv_iconst (v := 0) hx hb dX8_joined_116 (by decide) ?_
                exact (hPJx4 _).1 hjx4 _ (lv_sub hl [1, 2, 3, 4] rfl)
              · replace hjx4 := pf_f (P := PJx4) c11 hjx4
                refine lv_dload_n hx hb dX8_joined_67 rfl (lv_at hl 2 rfl) ?_
                refine lv_dconst0 hx hb dX8_joined_68 ?_
                obtain ⟨PJx12, hPJx12⟩ : ∃ P : Int32 → Prop, ∀ x12 : Int32, P x12 ↔ ∀ ls : Array Slot, lv_has ls 9 [(0, .ref h0), (1, .double p1), (3, .double p3), (5, .double p5)] → W p l e (headSpec (ws_ yX8_joined cX8_joined 9 (Option.some Jvm.ClassFile.FieldType.double)) ({ frames := 8, cells := 0, slots := 0, locals := 211 })).room s m ([.ref h0, .double p1, .double p3, .double p5] : List Value).toArray below meth c s.heap ([]) 0 0 (MQ below (vp_Sd post) ([.ref h0, .double p1, .double p3, .double p5] : List Value).toArray s 0 0 (fun _ => False)) (F0 m 78 ls [.int x12]) := ⟨_, fun _ => Iff.rfl⟩
                have hjx12 : ∀ x12 : Int32, x12 = (if Dlt p1 FP.dconst0 then 1 else 0) → PJx12 x12 := by
                  intro x12 ex12
                  rw [hPJx12]
                  intro ls hl
                  replace hjx4 := pf_let (P := PJx4) hjx4 x12 ex12
                  refine lv_dload_n hx hb dX8_joined_78 rfl (lv_at hl 2 rfl) ?_
                  refine lv_dconst0 hx hb dX8_joined_79 ?_
                  obtain ⟨PJx14, hPJx14⟩ : ∃ P : Int32 → Prop, ∀ x14 : Int32, P x14 ↔ ∀ ls : Array Slot, lv_has ls 9 [(0, .ref h0), (1, .double p1), (3, .double p3), (5, .double p5)] → W p l e (headSpec (ws_ yX8_joined cX8_joined 9 (Option.some Jvm.ClassFile.FieldType.double)) ({ frames := 8, cells := 0, slots := 0, locals := 211 })).room s m ([.ref h0, .double p1, .double p3, .double p5] : List Value).toArray below meth c s.heap ([]) 0 0 (MQ below (vp_Sd post) ([.ref h0, .double p1, .double p3, .double p5] : List Value).toArray s 0 0 (fun _ => False)) (F0 m 89 ls [.int x14, .int x12]) := ⟨_, fun _ => Iff.rfl⟩
                  have hjx14 : ∀ x14 : Int32, x14 = (if Dlt p3 FP.dconst0 then 1 else 0) → PJx14 x14 := by
                    intro x14 ex14
                    rw [hPJx14]
                    intro ls hl
                    replace hjx4 := pf_let (P := PJx4) hjx4 x14 ex14
                    obtain ⟨PJx16, hPJx16⟩ : ∃ P : Int32 → Prop, ∀ x16 : Int32, P x16 ↔ ∀ ls : Array Slot, lv_has ls 9 [(0, .ref h0), (1, .double p1), (3, .double p3), (5, .double p5)] → W p l e (headSpec (ws_ yX8_joined cX8_joined 9 (Option.some Jvm.ClassFile.FieldType.double)) ({ frames := 8, cells := 0, slots := 0, locals := 211 })).room s m ([.ref h0, .double p1, .double p3, .double p5] : List Value).toArray below meth c s.heap ([]) 0 0 (MQ below (vp_Sd post) ([.ref h0, .double p1, .double p3, .double p5] : List Value).toArray s 0 0 (fun _ => False)) (F0 m 97 ls [.int x16]) := ⟨_, fun _ => Iff.rfl⟩
                    have hjx16 : ∀ x16 : Int32, x16 = (if x12 = x14 then 1 else 0) → PJx16 x16 := by
                      intro x16 ex16
                      rw [hPJx16]
                      intro ls hl
                      replace hjx4 := pf_let (P := PJx4) hjx4 x16 ex16
                      refine lv_dload hx hb dX8_joined_97 (lv_at hl 3 rfl) ?_
                      refine lv_dconst0 hx hb dX8_joined_99 ?_
                      obtain ⟨PJx18, hPJx18⟩ : ∃ P : Int32 → Prop, ∀ x18 : Int32, P x18 ↔ ∀ ls : Array Slot, lv_has ls 9 [(0, .ref h0), (1, .double p1), (3, .double p3), (5, .double p5)] → W p l e (headSpec (ws_ yX8_joined cX8_joined 9 (Option.some Jvm.ClassFile.FieldType.double)) ({ frames := 8, cells := 0, slots := 0, locals := 211 })).room s m ([.ref h0, .double p1, .double p3, .double p5] : List Value).toArray below meth c s.heap ([]) 0 0 (MQ below (vp_Sd post) ([.ref h0, .double p1, .double p3, .double p5] : List Value).toArray s 0 0 (fun _ => False)) (F0 m 109 ls [.int x18, .int x16]) := ⟨_, fun _ => Iff.rfl⟩
                      have hjx18 : ∀ x18 : Int32, x18 = (if Dgt p5 FP.dconst0 then 1 else 0) → PJx18 x18 := by
                        intro x18 ex18
                        rw [hPJx18]
                        intro ls hl
                        replace hjx4 := pf_let (P := PJx4) hjx4 x18 ex18
                        refine lv_icmp_eq (tgt := 116) hx hb dX8_joined_109 (by decide) (fun c20 => ?_) (fun c20 => ?_)
                        · replace hjx4 := pf_t (P := PJx4) c20 hjx4
                          refine lv_iconst (v := 0) hx hb dX8_joined_116 (by decide) ?_
                          exact (hPJx4 _).1 hjx4 _ (lv_sub hl [0, 1, 2, 3] rfl)
                        · replace hjx4 := pf_f (P := PJx4) c20 hjx4
                          refine lv_iconst (v := 1) hx hb dX8_joined_112 (by decide) ?_
                          refine lv_goto (tgt := 117) hx hb dX8_joined_113 (by decide) ?_
                          exact (hPJx4 _).1 hjx4 _ (lv_sub hl [0, 1, 2, 3] rfl)
                      replace hjx18 := hjx18 _ rfl
                      refine lx_dlle (tgt := 108) hx hb dX8_joined_100 dX8_joined_101 (by decide) (fun c19 => ?_) (fun c19 => ?_)
                      · replace hjx18 := pf_f (P := PJx18) c19 hjx18
                        refine lv_iconst (v := 0) hx hb dX8_joined_108 (by decide) ?_
                        exact (hPJx18 _).1 hjx18 _ (lv_sub hl [0, 1, 2, 3] rfl)
                      · replace hjx18 := pf_t (P := PJx18) c19 hjx18
                        refine lv_iconst (v := 1) hx hb dX8_joined_104 (by decide) ?_
                        refine lv_goto (tgt := 109) hx hb dX8_joined_105 (by decide) ?_
                        exact (hPJx18 _).1 hjx18 _ (lv_sub hl [0, 1, 2, 3] rfl)
                    replace hjx16 := hjx16 _ rfl
                    refine lv_icmp_ne (tgt := 96) hx hb dX8_joined_89 (by decide) (fun c17 => ?_) (fun c17 => ?_)
                    · replace hjx16 := pf_f (P := PJx16) c17 hjx16
                      refine lv_iconst (v := 0) hx hb dX8_joined_96 (by decide) ?_
                      exact (hPJx16 _).1 hjx16 _ (lv_sub hl [0, 1, 2, 3] rfl)
                    · replace hjx16 := pf_t (P := PJx16) c17 hjx16
                      refine lv_iconst (v := 1) hx hb dX8_joined_92 (by decide) ?_
                      refine lv_goto (tgt := 97) hx hb dX8_joined_93 (by decide) ?_
                      exact (hPJx16 _).1 hjx16 _ (lv_sub hl [0, 1, 2, 3] rfl)
                  replace hjx14 := hjx14 _ rfl
                  refine lx_dgge (tgt := 88) hx hb dX8_joined_80 dX8_joined_81 (by decide) (fun c15 => ?_) (fun c15 => ?_)
                  · replace hjx14 := pf_f (P := PJx14) c15 hjx14
                    refine lv_iconst (v := 0) hx hb dX8_joined_88 (by decide) ?_
                    exact (hPJx14 _).1 hjx14 _ (lv_sub hl [0, 1, 2, 3] rfl)
                  · replace hjx14 := pf_t (P := PJx14) c15 hjx14
                    refine lv_iconst (v := 1) hx hb dX8_joined_84 (by decide) ?_
                    refine lv_goto (tgt := 89) hx hb dX8_joined_85 (by decide) ?_
                    exact (hPJx14 _).1 hjx14 _ (lv_sub hl [0, 1, 2, 3] rfl)
                replace hjx12 := hjx12 _ rfl
                refine lx_dgge (tgt := 77) hx hb dX8_joined_69 dX8_joined_70 (by decide) (fun c13 => ?_) (fun c13 => ?_)
                · replace hjx12 := pf_f (P := PJx12) c13 hjx12
                  refine lv_iconst (v := 0) hx hb dX8_joined_77 (by decide) ?_
                  exact (hPJx12 _).1 hjx12 _ (lv_sub hl [1, 2, 3, 4] rfl)
                · replace hjx12 := pf_t (P := PJx12) c13 hjx12
                  refine lv_iconst (v := 1) hx hb dX8_joined_73 (by decide) ?_
                  refine lv_goto (tgt := 78) hx hb dX8_joined_74 (by decide) ?_
                  exact (hPJx12 _).1 hjx12 _ (lv_sub hl [1, 2, 3, 4] rfl)
  replace hjx1 := hjx1 _ rfl
  refine lv_if_ne (tgt := 14) hx hb dX8_joined_4 (by decide) (fun c2 => ?_) (fun c2 => ?_)
  · replace hjx1 := pf_f (P := PJx1) c2 hjx1
    refine lv_iconst (v := 1) hx hb dX8_joined_14 (by decide) ?_
    refine lv_goto (tgt := 19) hx hb dX8_joined_15 (by decide) ?_
    exact (hPJx1 _).1 hjx1 _ (lv_sub hl [0, 1, 2, 3] rfl)
  · replace hjx1 := pf_t (P := PJx1) c2 hjx1
    refine lv_dload_n hx hb dX8_joined_7 rfl (lv_at hl 2 rfl) ?_
    refine cSi (v := fX0_isEndless p3) (run_weak (va_runSN (As := [.double p3]) (rest := []) ⟨hx, hb, hml, hown, hts⟩ (mX0_isEndless l D TY p3 (fun r => r = fX0_isEndless p3) rfl) ⟨va_cnB 1 hts (lw_meth q137) rfl rfl rfl (gz_mn6 hG) (hts _ q44) hd_X0_isEndless ⟨Nat.le_of_ble_eq_true rfl, Nat.le_of_ble_eq_true rfl⟩, (hts _ q136), trivial⟩ (PR.S hP [] rfl hK hG hS) rfl rfl hl.1 rfl (lv_room (Nat.le_of_ble_eq_true rfl)) dX8_joined_8 ⟨Nat.le_of_ble_eq_true rfl, Nat.le_of_ble_eq_true rfl⟩)) ?_
    refine lv_if_eq (tgt := 18) hx hb dX8_joined_11 (by decide) (fun c3 => ?_) (fun c3 => ?_)
    · replace hjx1 := pf_t (P := PJx1) c3 hjx1
      refine lv_iconst (v := 0) hx hb dX8_joined_18 (by decide) ?_
      exact (hPJx1 _).1 hjx1 _ (lv_sub hl [0, 1, 2, 3] rfl)
    · replace hjx1 := pf_f (P := PJx1) c3 hjx1
      refine lv_iconst (v := 1) hx hb dX8_joined_14 (by decide) ?_
      refine lv_goto (tgt := 19) hx hb dX8_joined_15 (by decide) ?_
      exact (hPJx1 _).1 hjx1 _ (lv_sub hl [0, 1, 2, 3] rfl)

theorem hd_X0_root : yX0_root.cls ≠ "java/lang/invoke/MethodHandle" ∧ yX0_root.cls ≠ "java/lang/invoke/VarHandle" ∧ (parseMethodDescriptor yX0_root.desc).map (fun d => d.parameters.length) = some 2 := by decide +kernel
theorem hd_X1_gap : yX1_gap.cls ≠ "java/lang/invoke/MethodHandle" ∧ yX1_gap.cls ≠ "java/lang/invoke/VarHandle" ∧ (parseMethodDescriptor yX1_gap.desc).map (fun d => d.parameters.length) = some 1 := by decide +kernel
theorem hd_X8_down : yX8_down.cls ≠ "java/lang/invoke/MethodHandle" ∧ yX8_down.cls ≠ "java/lang/invoke/VarHandle" ∧ (parseMethodDescriptor yX8_down.desc).map (fun d => d.parameters.length) = some 1 := by decide +kernel
theorem hdF_gap : (⟨"FloatClasses$Reals", "gap", "(D)D"⟩ : MethodName).cls ≠ "java/lang/invoke/MethodHandle" ∧ (⟨"FloatClasses$Reals", "gap", "(D)D"⟩ : MethodName).cls ≠ "java/lang/invoke/VarHandle" ∧ (parseMethodDescriptor (⟨"FloatClasses$Reals", "gap", "(D)D"⟩ : MethodName).desc).map (fun d => d.parameters.length) = some 1 := by decide +kernel
def wX8_one_D (p1 : Int32) (p2 : UInt64) (post : UInt64 → Prop) : Prop := ((Deq p2 p2) → ((p1 = 0) → post (FP.dneg p2)) ∧ (¬ (p1 = 0) → ((p1 = 1) → ((vf_n64 p2)) ∧ (post (absD p2))) ∧ (¬ (p1 = 1) → ((p1 = 2) → ((vf_n64 p2)) ∧ (post (signumD p2))) ∧ (¬ (p1 = 2) → ((p1 = 3) → (oX1_up p2) ∧ (post (fX1_up p2))) ∧ (¬ (p1 = 3) → ((p1 = 4) → (oX8_down_D p2) ∧ (post (fX8_down_D p2))) ∧ (¬ (p1 = 4) → ((p1 = 5) → (oX1_gap p2) ∧ (post (fX1_gap p2))) ∧ (¬ (p1 = 5) → ((p1 = 6) → ((Dlt p2 FP.dconst0) → post 9221120237041090560) ∧ (¬ (Dlt p2 FP.dconst0) → wX0_root_D p2 (fun r10 => post r10))) ∧ (¬ (p1 = 6) → (oX8_over_D FP.dconst1 p2) ∧ (post (fX8_over_D FP.dconst1 p2)))))))))) ∧ (¬ (Deq p2 p2) → post 9221120237041090560)
set_option maxHeartbeats 4000000 in
set_option maxRecDepth 100000 in
theorem mX8_one_D (l : Launch) (D : va_G) (TY : Nat → ClassId) (h0 : Nat) (p1 : Int32) (p2 : UInt64) (post : UInt64 → Prop) (hw : wX8_one_D p1 p2 post) : Met l yX8_one (ws_ yX8_one cX8_one 4 (Option.some Jvm.ClassFile.FieldType.double)) ({ frames := 6, cells := 0, slots := 0, locals := 149 }) (PR D TY [.ref h0, .int p1, .double p2] [(h0, .inr (1, []))]) (vp_Sd post) 0 0 (fun _ => False) := by
  refine ofWF (cc := cX8_one) (maxL := 4) (ret := (Option.some Jvm.ClassFile.FieldType.double)) (plainFor_of_name (by decide)) rfl ?_
  intro p e s m args below meth c s₁ B hml hv
  obtain ⟨rfl, hP, hK, hG⟩ := hv
  have hx := B.exec
  have hb := B.bytes
  have hr := B.returns
  have hts0 := atoms_spec (ws := ws_ yX8_one cX8_one 4 (Option.some Jvm.ClassFile.FieldType.double)) B.pre
  have hts : ∀ w ∈ lw_all, w.before _ s = true := fun w h => hts0 w (List.mem_cons_of_mem _ h)
  have hown : s.vm.findClass RX8 = some m.cls := findClass_of_methodNamed B.named
  have hlocks := B.notSynchronized
  have hS : va_S (fun _ => False) s.heap s.heap [] := va_S.rf
  have hl := lv_entry ([.ref h0, .int p1, .double p2]) (n := 4) (Nat.le_of_ble_eq_true rfl)
  rw [lg_entry_eq]
  generalize (lg_sl ([.ref h0, .int p1, .double p2]) ++ List.replicate (4 - (lg_sl ([.ref h0, .int p1, .double p2])).length) Slot.unset).toArray = ls at hl ⊢
  have hl : lv_has ls 4 [(0, .ref h0), (1, .int p1), (2, .double p2)] := hl
  unfold wX8_one_D at hw
  refine lv_dload_n hx hb dX8_one_0 rfl (lv_at hl 2 rfl) ?_
  refine lv_dload_n hx hb dX8_one_1 rfl (lv_at hl 2 rfl) ?_
  refine lx_dleq (tgt := 10) hx hb dX8_one_2 dX8_one_3 (by decide) (fun c1 => ?_) (fun c1 => ?_)
  · replace hw := hw.1 c1
    refine lv_iload_n hx hb dX8_one_10 rfl (lv_at hl 1 rfl) ?_
    by_cases c2 : p1 = 0
    · replace hw := hw.1 c2
      refine lv_tableIn (tgt := 52) (off := 41) hx hb dX8_one_11 (by rw [c2]; decide) (by rw [c2]; decide) (by rw [c2]; rfl) (by decide) ?_
      refine lv_dload_n hx hb dX8_one_52 rfl (lv_at hl 2 rfl) ?_
      refine lv_dneg hx hb dX8_one_53 ?_
      exact W.dret (v := FP.dneg p2) hx hb hr (fun t ht hW => ⟨_, rfl, hw, ht⟩) (fun q h => nomatch h) dX8_one_54
    · replace hw := hw.2 c2
      by_cases c3 : p1 = 1
      · replace hw := hw.1 c3
        refine lv_tableIn (tgt := 55) (off := 44) hx hb dX8_one_11 (by rw [c3]; decide) (by rw [c3]; decide) (by rw [c3]; rfl) (by decide) ?_
        refine lv_dload_n hx hb dX8_one_55 rfl (lv_at hl 2 rfl) ?_
        refine nv_absD hx hb (hml.trans hl.1.symm) hown (hts _ q333) (hts _ q334) (hts _ q335) (hts _ q54) hw.1 (Nat.le_of_ble_eq_true rfl) (Nat.le_of_ble_eq_true rfl) (Nat.le_of_ble_eq_true rfl) (Nat.le_of_ble_eq_true rfl) dX8_one_56 ?_
        replace hw := hw.2
        exact W.dret (v := absD p2) hx hb hr (fun t ht hW => ⟨_, rfl, hw, ht⟩) (fun q h => nomatch h) dX8_one_59
      · replace hw := hw.2 c3
        by_cases c4 : p1 = 2
        · replace hw := hw.1 c4
          refine lv_tableIn (tgt := 60) (off := 49) hx hb dX8_one_11 (by rw [c4]; decide) (by rw [c4]; decide) (by rw [c4]; rfl) (by decide) ?_
          refine lv_dload_n hx hb dX8_one_60 rfl (lv_at hl 2 rfl) ?_
          refine nv_signum hx hb (hml.trans hl.1.symm) hown (hts _ q357) (hts _ q358) (hts _ q359) (hts _ q54) hw.1 (Nat.le_of_ble_eq_true rfl) (Nat.le_of_ble_eq_true rfl) (Nat.le_of_ble_eq_true rfl) (Nat.le_of_ble_eq_true rfl) dX8_one_61 ?_
          replace hw := hw.2
          exact W.dret (v := signumD p2) hx hb hr (fun t ht hW => ⟨_, rfl, hw, ht⟩) (fun q h => nomatch h) dX8_one_64
        · replace hw := hw.2 c4
          by_cases c5 : p1 = 3
          · replace hw := hw.1 c5
            refine lv_tableIn (tgt := 65) (off := 54) hx hb dX8_one_11 (by rw [c5]; decide) (by rw [c5]; decide) (by rw [c5]; rfl) (by decide) ?_
            refine lv_aload_n hx hb dX8_one_65 rfl (lv_at hl 0 rfl) ?_
            refine lv_dload_n hx hb dX8_one_66 rfl (lv_at hl 2 rfl) ?_
            refine cFSd (v := fX1_up p2) (va_runF (As := [.double p2]) (rest := []) (hK.1 1 _ rfl).2 ⟨hx, hb, hml, hown, hts⟩ (mX1_up l D TY h0 p2 (fun r => r = fX1_up p2) rfl hw.1) (va_cwF 1 hts (lw_F q363 q366 q368 q45 q370) rfl rfl rfl (gz_fw9 hG) hdF_up ⟨Nat.le_of_ble_eq_true rfl, Nat.le_of_ble_eq_true rfl⟩) (PR.V (q0 := 0) (ci := 1) hP [0] rfl hK hG hS rfl rfl) rfl rfl hl.1 rfl (lv_room (Nat.le_of_ble_eq_true rfl)) dX8_one_67 ⟨Nat.le_of_ble_eq_true rfl, Nat.le_of_ble_eq_true rfl⟩) ?_
            replace hw := hw.2
            exact W.dret (v := fX1_up p2) hx hb hr (fun t ht hW => ⟨_, rfl, hw, ht⟩) (fun q h => nomatch h) dX8_one_72
          · replace hw := hw.2 c5
            by_cases c6 : p1 = 4
            · replace hw := hw.1 c6
              refine lv_tableIn (tgt := 73) (off := 62) hx hb dX8_one_11 (by rw [c6]; decide) (by rw [c6]; decide) (by rw [c6]; rfl) (by decide) ?_
              refine lv_aload_n hx hb dX8_one_73 rfl (lv_at hl 0 rfl) ?_
              refine lv_dload_n hx hb dX8_one_74 rfl (lv_at hl 2 rfl) ?_
              refine cFSd (v := fX8_down_D p2) (runFD (As := [.double p2]) (rest := []) (hK.1 1 _ rfl).2 ⟨hx, hb, hml, hown, hts⟩ (mX8_down_D l D TY h0 p2 (fun r => r = fX8_down_D p2) rfl hw.1) (lw_meth q394) rfl rfl rfl q388 q392 q1587 (gz_fw10 hG) (gz_df4 hG) hd_X8_down ⟨Nat.le_of_ble_eq_true rfl, Nat.le_of_ble_eq_true rfl⟩ (PR.V (q0 := 0) (ci := 1) hP [0] rfl hK hG hS rfl rfl) rfl rfl hl.1 rfl (lv_room (Nat.le_of_ble_eq_true rfl)) dX8_one_75 ⟨Nat.le_of_ble_eq_true rfl, Nat.le_of_ble_eq_true rfl⟩) ?_
              replace hw := hw.2
              exact W.dret (v := fX8_down_D p2) hx hb hr (fun t ht hW => ⟨_, rfl, hw, ht⟩) (fun q h => nomatch h) dX8_one_80
            · replace hw := hw.2 c6
              by_cases c7 : p1 = 5
              · replace hw := hw.1 c7
                refine lv_tableIn (tgt := 81) (off := 70) hx hb dX8_one_11 (by rw [c7]; decide) (by rw [c7]; decide) (by rw [c7]; rfl) (by decide) ?_
                refine lv_aload_n hx hb dX8_one_81 rfl (lv_at hl 0 rfl) ?_
                refine lv_dload_n hx hb dX8_one_82 rfl (lv_at hl 2 rfl) ?_
                refine cFSd (v := fX1_gap p2) (va_runF (As := [.double p2]) (rest := []) (hK.1 1 _ rfl).2 ⟨hx, hb, hml, hown, hts⟩ (mX1_gap l D TY h0 p2 (fun r => r = fX1_gap p2) rfl hw.1) (va_cwF 1 hts (lw_F q397 q400 q402 q45 q404) rfl rfl rfl (gz_fw11 hG) hdF_gap ⟨Nat.le_of_ble_eq_true rfl, Nat.le_of_ble_eq_true rfl⟩) (PR.V (q0 := 0) (ci := 1) hP [0] rfl hK hG hS rfl rfl) rfl rfl hl.1 rfl (lv_room (Nat.le_of_ble_eq_true rfl)) dX8_one_83 ⟨Nat.le_of_ble_eq_true rfl, Nat.le_of_ble_eq_true rfl⟩) ?_
                replace hw := hw.2
                exact W.dret (v := fX1_gap p2) hx hb hr (fun t ht hW => ⟨_, rfl, hw, ht⟩) (fun q h => nomatch h) dX8_one_88
              · replace hw := hw.2 c7
                by_cases c8 : p1 = 6
                · replace hw := hw.1 c8
                  refine lv_tableIn (tgt := 89) (off := 78) hx hb dX8_one_11 (by rw [c8]; decide) (by rw [c8]; decide) (by rw [c8]; rfl) (by decide) ?_
                  refine lv_dload_n hx hb dX8_one_89 rfl (lv_at hl 2 rfl) ?_
                  refine lv_dconst0 hx hb dX8_one_90 ?_
                  refine lx_dgge (tgt := 101) hx hb dX8_one_91 dX8_one_92 (by decide) (fun c9 => ?_) (fun c9 => ?_)
                  · replace hw := hw.2 c9
                    refine lv_aload_n hx hb dX8_one_101 rfl (lv_at hl 0 rfl) ?_
                    refine lv_dload_n hx hb dX8_one_102 rfl (lv_at hl 2 rfl) ?_
                    refine vp_callSd (run_weak (va_runSN (As := [.ref h0, .double p2]) (rest := []) ⟨hx, hb, hml, hown, hts⟩ (mX0_root_D l D TY h0 p2 _ hw) ⟨va_cnB 2 hts (lw_meth q433) rfl rfl rfl (gz_mn8 hG) (hts _ q44) hd_X0_root ⟨Nat.le_of_ble_eq_true rfl, Nat.le_of_ble_eq_true rfl⟩, (hts _ q432), trivial⟩ (PR.S hP [0] rfl hK hG hS) rfl rfl hl.1 rfl (lv_room (Nat.le_of_ble_eq_true rfl)) dX8_one_103 ⟨Nat.le_of_ble_eq_true rfl, Nat.le_of_ble_eq_true rfl⟩)) (fun r10 hw => ?_)
                    exact W.dret (v := r10) hx hb hr (fun t ht hW => ⟨_, rfl, hw, ht⟩) (fun q h => nomatch h) dX8_one_106
                  · replace hw := hw.1 c9
                    refine va_getsN hx hb hG.nn hS hown (gz_fn8 hG _) (fun _ h => h) dX8_one_95 ?_
                    refine lv_goto (tgt := 106) hx hb dX8_one_98 (by decide) ?_
                    exact W.dret (v := 9221120237041090560) hx hb hr (fun t ht hW => ⟨_, rfl, hw, ht⟩) (fun q h => nomatch h) dX8_one_106
                · replace hw := hw.2 c8
                  refine lv_tableOut (tgt := 107) hx hb dX8_one_11 (by have q0 := lv_neT c2 (show (0 : Int32).toInt = 0 by decide); have q1 := lv_neT c3 (show (1 : Int32).toInt = 1 by decide); have q2 := lv_neT c4 (show (2 : Int32).toInt = 2 by decide); have q3 := lv_neT c5 (show (3 : Int32).toInt = 3 by decide); have q4 := lv_neT c6 (show (4 : Int32).toInt = 4 by decide); have q5 := lv_neT c7 (show (5 : Int32).toInt = 5 by decide); have q6 := lv_neT c8 (show (6 : Int32).toInt = 6 by decide); omega) (by decide) ?_
                  refine lv_aload_n hx hb dX8_one_107 rfl (lv_at hl 0 rfl) ?_
                  refine lv_dconst1 hx hb dX8_one_108 ?_
                  refine lv_dload_n hx hb dX8_one_109 rfl (lv_at hl 2 rfl) ?_
                  refine cFSd (v := fX8_over_D FP.dconst1 p2) (runFD (As := [.double FP.dconst1, .double p2]) (rest := []) (hK.1 1 _ rfl).2 ⟨hx, hb, hml, hown, hts⟩ (mX8_over_D l D TY h0 FP.dconst1 p2 (fun r => r = fX8_over_D FP.dconst1 p2) rfl hw.1) (lw_meth q456) rfl rfl rfl q450 q454 q1587 (gz_fw12 hG) (gz_df5 hG) hd_X8_over ⟨Nat.le_of_ble_eq_true rfl, Nat.le_of_ble_eq_true rfl⟩ (PR.V (q0 := 0) (ci := 1) hP [0] rfl hK hG hS rfl rfl) rfl rfl hl.1 rfl (lv_room (Nat.le_of_ble_eq_true rfl)) dX8_one_110 ⟨Nat.le_of_ble_eq_true rfl, Nat.le_of_ble_eq_true rfl⟩) ?_
                  replace hw := hw.2
                  exact W.dret (v := fX8_over_D FP.dconst1 p2) hx hb hr (fun t ht hW => ⟨_, rfl, hw, ht⟩) (fun q h => nomatch h) dX8_one_115
  · replace hw := hw.2 c1
    refine va_getsN hx hb hG.nn hS hown (gz_fn8 hG _) (fun _ h => h) dX8_one_6 ?_
    exact W.dret (v := 9221120237041090560) hx hb hr (fun t ht hW => ⟨_, rfl, hw, ht⟩) (fun q h => nomatch h) dX8_one_9

theorem hd_X2_gap : yX2_gap.cls ≠ "java/lang/invoke/MethodHandle" ∧ yX2_gap.cls ≠ "java/lang/invoke/VarHandle" ∧ (parseMethodDescriptor yX2_gap.desc).map (fun d => d.parameters.length) = some 1 := by decide +kernel
def wX8_one_F (p1 : Int32) (p2 : UInt64) (post : UInt64 → Prop) : Prop := ((Deq p2 p2) → ((p1 = 0) → post (FP.dneg p2)) ∧ (¬ (p1 = 0) → ((p1 = 1) → ((vf_n64 p2)) ∧ (post (absD p2))) ∧ (¬ (p1 = 1) → ((p1 = 2) → ((vf_n64 p2)) ∧ (post (signumD p2))) ∧ (¬ (p1 = 2) → ((p1 = 3) → (oX2_up p2) ∧ (post (fX2_up p2))) ∧ (¬ (p1 = 3) → ((p1 = 4) → (oX8_down_F p2) ∧ (post (fX8_down_F p2))) ∧ (¬ (p1 = 4) → ((p1 = 5) → (oX2_gap p2) ∧ (post (fX2_gap p2))) ∧ (¬ (p1 = 5) → ((p1 = 6) → ((Dlt p2 FP.dconst0) → post 9221120237041090560) ∧ (¬ (Dlt p2 FP.dconst0) → wX0_root_F p2 (fun r10 => post r10))) ∧ (¬ (p1 = 6) → (oX8_over_F FP.dconst1 p2) ∧ (post (fX8_over_F FP.dconst1 p2)))))))))) ∧ (¬ (Deq p2 p2) → post 9221120237041090560)
set_option maxHeartbeats 4000000 in
set_option maxRecDepth 100000 in
theorem mX8_one_F (l : Launch) (D : va_G) (TY : Nat → ClassId) (h0 : Nat) (p1 : Int32) (p2 : UInt64) (post : UInt64 → Prop) (hw : wX8_one_F p1 p2 post) : Met l yX8_one (ws_ yX8_one cX8_one 4 (Option.some Jvm.ClassFile.FieldType.double)) ({ frames := 7, cells := 0, slots := 0, locals := 172 }) (PR D TY [.ref h0, .int p1, .double p2] [(h0, .inr (2, []))]) (vp_Sd post) 0 0 (fun _ => False) := by
  refine ofWF (cc := cX8_one) (maxL := 4) (ret := (Option.some Jvm.ClassFile.FieldType.double)) (plainFor_of_name (by decide)) rfl ?_
  intro p e s m args below meth c s₁ B hml hv
  obtain ⟨rfl, hP, hK, hG⟩ := hv
  have hx := B.exec
  have hb := B.bytes
  have hr := B.returns
  have hts0 := atoms_spec (ws := ws_ yX8_one cX8_one 4 (Option.some Jvm.ClassFile.FieldType.double)) B.pre
  have hts : ∀ w ∈ lw_all, w.before _ s = true := fun w h => hts0 w (List.mem_cons_of_mem _ h)
  have hown : s.vm.findClass RX8 = some m.cls := findClass_of_methodNamed B.named
  have hlocks := B.notSynchronized
  have hS : va_S (fun _ => False) s.heap s.heap [] := va_S.rf
  have hl := lv_entry ([.ref h0, .int p1, .double p2]) (n := 4) (Nat.le_of_ble_eq_true rfl)
  rw [lg_entry_eq]
  generalize (lg_sl ([.ref h0, .int p1, .double p2]) ++ List.replicate (4 - (lg_sl ([.ref h0, .int p1, .double p2])).length) Slot.unset).toArray = ls at hl ⊢
  have hl : lv_has ls 4 [(0, .ref h0), (1, .int p1), (2, .double p2)] := hl
  unfold wX8_one_F at hw
  refine lv_dload_n hx hb dX8_one_0 rfl (lv_at hl 2 rfl) ?_
  refine lv_dload_n hx hb dX8_one_1 rfl (lv_at hl 2 rfl) ?_
  refine lx_dleq (tgt := 10) hx hb dX8_one_2 dX8_one_3 (by decide) (fun c1 => ?_) (fun c1 => ?_)
  · replace hw := hw.1 c1
    refine lv_iload_n hx hb dX8_one_10 rfl (lv_at hl 1 rfl) ?_
    by_cases c2 : p1 = 0
    · replace hw := hw.1 c2
      refine lv_tableIn (tgt := 52) (off := 41) hx hb dX8_one_11 (by rw [c2]; decide) (by rw [c2]; decide) (by rw [c2]; rfl) (by decide) ?_
      refine lv_dload_n hx hb dX8_one_52 rfl (lv_at hl 2 rfl) ?_
      refine lv_dneg hx hb dX8_one_53 ?_
      exact W.dret (v := FP.dneg p2) hx hb hr (fun t ht hW => ⟨_, rfl, hw, ht⟩) (fun q h => nomatch h) dX8_one_54
    · replace hw := hw.2 c2
      by_cases c3 : p1 = 1
      · replace hw := hw.1 c3
        refine lv_tableIn (tgt := 55) (off := 44) hx hb dX8_one_11 (by rw [c3]; decide) (by rw [c3]; decide) (by rw [c3]; rfl) (by decide) ?_
        refine lv_dload_n hx hb dX8_one_55 rfl (lv_at hl 2 rfl) ?_
        refine nv_absD hx hb (hml.trans hl.1.symm) hown (hts _ q333) (hts _ q334) (hts _ q335) (hts _ q54) hw.1 (Nat.le_of_ble_eq_true rfl) (Nat.le_of_ble_eq_true rfl) (Nat.le_of_ble_eq_true rfl) (Nat.le_of_ble_eq_true rfl) dX8_one_56 ?_
        replace hw := hw.2
        exact W.dret (v := absD p2) hx hb hr (fun t ht hW => ⟨_, rfl, hw, ht⟩) (fun q h => nomatch h) dX8_one_59
      · replace hw := hw.2 c3
        by_cases c4 : p1 = 2
        · replace hw := hw.1 c4
          refine lv_tableIn (tgt := 60) (off := 49) hx hb dX8_one_11 (by rw [c4]; decide) (by rw [c4]; decide) (by rw [c4]; rfl) (by decide) ?_
          refine lv_dload_n hx hb dX8_one_60 rfl (lv_at hl 2 rfl) ?_
          refine nv_signum hx hb (hml.trans hl.1.symm) hown (hts _ q357) (hts _ q358) (hts _ q359) (hts _ q54) hw.1 (Nat.le_of_ble_eq_true rfl) (Nat.le_of_ble_eq_true rfl) (Nat.le_of_ble_eq_true rfl) (Nat.le_of_ble_eq_true rfl) dX8_one_61 ?_
          replace hw := hw.2
          exact W.dret (v := signumD p2) hx hb hr (fun t ht hW => ⟨_, rfl, hw, ht⟩) (fun q h => nomatch h) dX8_one_64
        · replace hw := hw.2 c4
          by_cases c5 : p1 = 3
          · replace hw := hw.1 c5
            refine lv_tableIn (tgt := 65) (off := 54) hx hb dX8_one_11 (by rw [c5]; decide) (by rw [c5]; decide) (by rw [c5]; rfl) (by decide) ?_
            refine lv_aload_n hx hb dX8_one_65 rfl (lv_at hl 0 rfl) ?_
            refine lv_dload_n hx hb dX8_one_66 rfl (lv_at hl 2 rfl) ?_
            refine cFSd (v := fX2_up p2) (va_runF (As := [.double p2]) (rest := []) (hK.1 2 _ rfl).2 ⟨hx, hb, hml, hown, hts⟩ (mX2_up l D TY h0 p2 (fun r => r = fX2_up p2) rfl hw.1) (va_cwF 1 hts (lw_F q363 q376 q378 q46 q380) rfl rfl rfl (gz_fw30 hG) hdF_up ⟨Nat.le_of_ble_eq_true rfl, Nat.le_of_ble_eq_true rfl⟩) (PR.V (q0 := 0) (ci := 2) hP [0] rfl hK hG hS rfl rfl) rfl rfl hl.1 rfl (lv_room (Nat.le_of_ble_eq_true rfl)) dX8_one_67 ⟨Nat.le_of_ble_eq_true rfl, Nat.le_of_ble_eq_true rfl⟩) ?_
            replace hw := hw.2
            exact W.dret (v := fX2_up p2) hx hb hr (fun t ht hW => ⟨_, rfl, hw, ht⟩) (fun q h => nomatch h) dX8_one_72
          · replace hw := hw.2 c5
            by_cases c6 : p1 = 4
            · replace hw := hw.1 c6
              refine lv_tableIn (tgt := 73) (off := 62) hx hb dX8_one_11 (by rw [c6]; decide) (by rw [c6]; decide) (by rw [c6]; rfl) (by decide) ?_
              refine lv_aload_n hx hb dX8_one_73 rfl (lv_at hl 0 rfl) ?_
              refine lv_dload_n hx hb dX8_one_74 rfl (lv_at hl 2 rfl) ?_
              refine cFSd (v := fX8_down_F p2) (runFD (As := [.double p2]) (rest := []) (hK.1 2 _ rfl).2 ⟨hx, hb, hml, hown, hts⟩ (mX8_down_F l D TY h0 p2 (fun r => r = fX8_down_F p2) rfl hw.1) (lw_meth q394) rfl rfl rfl q388 q392 q1587 (gz_fw31 hG) (gz_df17 hG) hd_X8_down ⟨Nat.le_of_ble_eq_true rfl, Nat.le_of_ble_eq_true rfl⟩ (PR.V (q0 := 0) (ci := 2) hP [0] rfl hK hG hS rfl rfl) rfl rfl hl.1 rfl (lv_room (Nat.le_of_ble_eq_true rfl)) dX8_one_75 ⟨Nat.le_of_ble_eq_true rfl, Nat.le_of_ble_eq_true rfl⟩) ?_
              replace hw := hw.2
              exact W.dret (v := fX8_down_F p2) hx hb hr (fun t ht hW => ⟨_, rfl, hw, ht⟩) (fun q h => nomatch h) dX8_one_80
            · replace hw := hw.2 c6
              by_cases c7 : p1 = 5
              · replace hw := hw.1 c7
                refine lv_tableIn (tgt := 81) (off := 70) hx hb dX8_one_11 (by rw [c7]; decide) (by rw [c7]; decide) (by rw [c7]; rfl) (by decide) ?_
                refine lv_aload_n hx hb dX8_one_81 rfl (lv_at hl 0 rfl) ?_
                refine lv_dload_n hx hb dX8_one_82 rfl (lv_at hl 2 rfl) ?_
                refine cFSd (v := fX2_gap p2) (va_runF (As := [.double p2]) (rest := []) (hK.1 2 _ rfl).2 ⟨hx, hb, hml, hown, hts⟩ (mX2_gap l D TY h0 p2 (fun r => r = fX2_gap p2) rfl hw.1) (va_cwF 1 hts (lw_F q397 q411 q413 q46 q415) rfl rfl rfl (gz_fw32 hG) hdF_gap ⟨Nat.le_of_ble_eq_true rfl, Nat.le_of_ble_eq_true rfl⟩) (PR.V (q0 := 0) (ci := 2) hP [0] rfl hK hG hS rfl rfl) rfl rfl hl.1 rfl (lv_room (Nat.le_of_ble_eq_true rfl)) dX8_one_83 ⟨Nat.le_of_ble_eq_true rfl, Nat.le_of_ble_eq_true rfl⟩) ?_
                replace hw := hw.2
                exact W.dret (v := fX2_gap p2) hx hb hr (fun t ht hW => ⟨_, rfl, hw, ht⟩) (fun q h => nomatch h) dX8_one_88
              · replace hw := hw.2 c7
                by_cases c8 : p1 = 6
                · replace hw := hw.1 c8
                  refine lv_tableIn (tgt := 89) (off := 78) hx hb dX8_one_11 (by rw [c8]; decide) (by rw [c8]; decide) (by rw [c8]; rfl) (by decide) ?_
                  refine lv_dload_n hx hb dX8_one_89 rfl (lv_at hl 2 rfl) ?_
                  refine lv_dconst0 hx hb dX8_one_90 ?_
                  refine lx_dgge (tgt := 101) hx hb dX8_one_91 dX8_one_92 (by decide) (fun c9 => ?_) (fun c9 => ?_)
                  · replace hw := hw.2 c9
                    refine lv_aload_n hx hb dX8_one_101 rfl (lv_at hl 0 rfl) ?_
                    refine lv_dload_n hx hb dX8_one_102 rfl (lv_at hl 2 rfl) ?_
                    refine vp_callSd (run_weak (va_runSN (As := [.ref h0, .double p2]) (rest := []) ⟨hx, hb, hml, hown, hts⟩ (mX0_root_F l D TY h0 p2 _ hw) ⟨va_cnB 2 hts (lw_meth q433) rfl rfl rfl (gz_mn8 hG) (hts _ q44) hd_X0_root ⟨Nat.le_of_ble_eq_true rfl, Nat.le_of_ble_eq_true rfl⟩, (hts _ q432), trivial⟩ (PR.S hP [0] rfl hK hG hS) rfl rfl hl.1 rfl (lv_room (Nat.le_of_ble_eq_true rfl)) dX8_one_103 ⟨Nat.le_of_ble_eq_true rfl, Nat.le_of_ble_eq_true rfl⟩)) (fun r10 hw => ?_)
                    exact W.dret (v := r10) hx hb hr (fun t ht hW => ⟨_, rfl, hw, ht⟩) (fun q h => nomatch h) dX8_one_106
                  · replace hw := hw.1 c9
                    refine va_getsN hx hb hG.nn hS hown (gz_fn8 hG _) (fun _ h => h) dX8_one_95 ?_
                    refine lv_goto (tgt := 106) hx hb dX8_one_98 (by decide) ?_
                    exact W.dret (v := 9221120237041090560) hx hb hr (fun t ht hW => ⟨_, rfl, hw, ht⟩) (fun q h => nomatch h) dX8_one_106
                · replace hw := hw.2 c8
                  refine lv_tableOut (tgt := 107) hx hb dX8_one_11 (by have q0 := lv_neT c2 (show (0 : Int32).toInt = 0 by decide); have q1 := lv_neT c3 (show (1 : Int32).toInt = 1 by decide); have q2 := lv_neT c4 (show (2 : Int32).toInt = 2 by decide); have q3 := lv_neT c5 (show (3 : Int32).toInt = 3 by decide); have q4 := lv_neT c6 (show (4 : Int32).toInt = 4 by decide); have q5 := lv_neT c7 (show (5 : Int32).toInt = 5 by decide); have q6 := lv_neT c8 (show (6 : Int32).toInt = 6 by decide); omega) (by decide) ?_
                  refine lv_aload_n hx hb dX8_one_107 rfl (lv_at hl 0 rfl) ?_
                  refine lv_dconst1 hx hb dX8_one_108 ?_
                  refine lv_dload_n hx hb dX8_one_109 rfl (lv_at hl 2 rfl) ?_
                  refine cFSd (v := fX8_over_F FP.dconst1 p2) (runFD (As := [.double FP.dconst1, .double p2]) (rest := []) (hK.1 2 _ rfl).2 ⟨hx, hb, hml, hown, hts⟩ (mX8_over_F l D TY h0 FP.dconst1 p2 (fun r => r = fX8_over_F FP.dconst1 p2) rfl hw.1) (lw_meth q456) rfl rfl rfl q450 q454 q1587 (gz_fw33 hG) (gz_df18 hG) hd_X8_over ⟨Nat.le_of_ble_eq_true rfl, Nat.le_of_ble_eq_true rfl⟩ (PR.V (q0 := 0) (ci := 2) hP [0] rfl hK hG hS rfl rfl) rfl rfl hl.1 rfl (lv_room (Nat.le_of_ble_eq_true rfl)) dX8_one_110 ⟨Nat.le_of_ble_eq_true rfl, Nat.le_of_ble_eq_true rfl⟩) ?_
                  replace hw := hw.2
                  exact W.dret (v := fX8_over_F FP.dconst1 p2) hx hb hr (fun t ht hW => ⟨_, rfl, hw, ht⟩) (fun q h => nomatch h) dX8_one_115
  · replace hw := hw.2 c1
    refine va_getsN hx hb hG.nn hS hown (gz_fn8 hG _) (fun _ h => h) dX8_one_6 ?_
    exact W.dret (v := 9221120237041090560) hx hb hr (fun t ht hW => ⟨_, rfl, hw, ht⟩) (fun q h => nomatch h) dX8_one_9

def fX0_step_D (p1 : UInt64) (p3 : UInt64) (p5 : Int32) : UInt64 := fX8_plus_D p1 (fX8_times_D (FP.i2d p5) (fX8_minus_D p3 p1))
def oX0_step_D (p1 : UInt64) (p3 : UInt64) (p5 : Int32) : Prop := (oX8_minus_D p3 p1) ∧ ((oX8_times_D (FP.i2d p5) (fX8_minus_D p3 p1)) ∧ (oX8_plus_D p1 (fX8_times_D (FP.i2d p5) (fX8_minus_D p3 p1))))
set_option maxHeartbeats 4000000 in
set_option maxRecDepth 100000 in
theorem mX0_step_D (l : Launch) (D : va_G) (TY : Nat → ClassId) (h0 : Nat) (p1 : UInt64) (p3 : UInt64) (p5 : Int32) (post : UInt64 → Prop) (hw : post (fX0_step_D p1 p3 p5)) (hok : oX0_step_D p1 p3 p5) : Met l yX0_step (ws_ yX0_step cX0_step 6 (Option.some Jvm.ClassFile.FieldType.double)) ({ frames := 2, cells := 0, slots := 0, locals := 47 }) (PR D TY [.ref h0, .double p1, .double p3, .int p5] [(h0, .inr (1, []))]) (vp_Sd post) 0 0 (fun _ => False) := by
  refine ofWF (cc := cX0_step) (maxL := 6) (ret := (Option.some Jvm.ClassFile.FieldType.double)) (plainFor_of_name (by decide)) rfl ?_
  intro p e s m args below meth c s₁ B hml hv
  obtain ⟨rfl, hP, hK, hG⟩ := hv
  have hx := B.exec
  have hb := B.bytes
  have hr := B.returns
  have hts0 := atoms_spec (ws := ws_ yX0_step cX0_step 6 (Option.some Jvm.ClassFile.FieldType.double)) B.pre
  have hts : ∀ w ∈ lw_all, w.before _ s = true := fun w h => hts0 w (List.mem_cons_of_mem _ h)
  have hown : s.vm.findClass RX0 = some m.cls := findClass_of_methodNamed B.named
  have hlocks := B.notSynchronized
  have hS : va_S (fun _ => False) s.heap s.heap [] := va_S.rf
  have hl := lv_entry ([.ref h0, .double p1, .double p3, .int p5]) (n := 6) (Nat.le_of_ble_eq_true rfl)
  rw [lg_entry_eq]
  generalize (lg_sl ([.ref h0, .double p1, .double p3, .int p5]) ++ List.replicate (6 - (lg_sl ([.ref h0, .double p1, .double p3, .int p5])).length) Slot.unset).toArray = ls at hl ⊢
  have hl : lv_has ls 6 [(0, .ref h0), (1, .double p1), (3, .double p3), (5, .int p5)] := hl
  unfold fX0_step_D at hw
  unfold oX0_step_D at hok
  refine lv_aload_n hx hb dX0_step_0 rfl (lv_at hl 0 rfl) ?_
  refine lv_dload_n hx hb dX0_step_1 rfl (lv_at hl 1 rfl) ?_
  refine lv_aload_n hx hb dX0_step_2 rfl (lv_at hl 0 rfl) ?_
  refine lv_iload hx hb dX0_step_3 (lv_at hl 3 rfl) ?_
  refine lv_i2d hx hb dX0_step_5 ?_
  refine lv_aload_n hx hb dX0_step_6 rfl (lv_at hl 0 rfl) ?_
  refine lv_dload_n hx hb dX0_step_7 rfl (lv_at hl 2 rfl) ?_
  refine lv_dload_n hx hb dX0_step_8 rfl (lv_at hl 1 rfl) ?_
  refine cFSd (v := fX8_minus_D p3 p1) (runFD (As := [.double p3, .double p1]) (rest := [.double (FP.i2d p5), .ref h0, .double p1, .ref h0]) (hK.1 1 _ rfl).2 ⟨hx, hb, hml, hown, hts⟩ (mX8_minus_D l D TY h0 p3 p1 (fun r => r = fX8_minus_D p3 p1) rfl hok.1) (lw_meth q503) rfl rfl rfl q796 q501 q1587 (gz_fw16 hG) (gz_df8 hG) hd_X8_minus ⟨Nat.le_of_ble_eq_true rfl, Nat.le_of_ble_eq_true rfl⟩ (PR.V (q0 := 0) (ci := 1) hP [0] rfl hK hG hS rfl rfl) rfl rfl hl.1 rfl (lv_room (Nat.le_of_ble_eq_true rfl)) dX0_step_9 ⟨Nat.le_of_ble_eq_true rfl, Nat.le_of_ble_eq_true rfl⟩) ?_
  replace hok := hok.2
  refine cFSd (v := fX8_times_D (FP.i2d p5) (fX8_minus_D p3 p1)) (runFD (As := [.double (FP.i2d p5), .double (fX8_minus_D p3 p1)]) (rest := [.double p1, .ref h0]) (hK.1 1 _ rfl).2 ⟨hx, hb, hml, hown, hts⟩ (mX8_times_D l D TY h0 (FP.i2d p5) (fX8_minus_D p3 p1) (fun r => r = fX8_times_D (FP.i2d p5) (fX8_minus_D p3 p1)) rfl hok.1) (lw_meth q512) rfl rfl rfl q806 q510 q1587 (gz_fw17 hG) (gz_df9 hG) hd_X8_times ⟨Nat.le_of_ble_eq_true rfl, Nat.le_of_ble_eq_true rfl⟩ (PR.V (q0 := 0) (ci := 1) hP [0] rfl hK hG hS rfl rfl) rfl rfl hl.1 rfl (lv_room (Nat.le_of_ble_eq_true rfl)) dX0_step_14 ⟨Nat.le_of_ble_eq_true rfl, Nat.le_of_ble_eq_true rfl⟩) ?_
  replace hok := hok.2
  refine cFSd (v := fX8_plus_D p1 (fX8_times_D (FP.i2d p5) (fX8_minus_D p3 p1))) (runFD (As := [.double p1, .double (fX8_times_D (FP.i2d p5) (fX8_minus_D p3 p1))]) (rest := []) (hK.1 1 _ rfl).2 ⟨hx, hb, hml, hown, hts⟩ (mX8_plus_D l D TY h0 p1 (fX8_times_D (FP.i2d p5) (fX8_minus_D p3 p1)) (fun r => r = fX8_plus_D p1 (fX8_times_D (FP.i2d p5) (fX8_minus_D p3 p1))) rfl hok) (lw_meth q494) rfl rfl rfl q801 q492 q1587 (gz_fw15 hG) (gz_df7 hG) hd_X8_plus ⟨Nat.le_of_ble_eq_true rfl, Nat.le_of_ble_eq_true rfl⟩ (PR.V (q0 := 0) (ci := 1) hP [0] rfl hK hG hS rfl rfl) rfl rfl hl.1 rfl (lv_room (Nat.le_of_ble_eq_true rfl)) dX0_step_19 ⟨Nat.le_of_ble_eq_true rfl, Nat.le_of_ble_eq_true rfl⟩) ?_
  exact W.dret (v := fX8_plus_D p1 (fX8_times_D (FP.i2d p5) (fX8_minus_D p3 p1))) hx hb hr (fun t ht hW => ⟨_, rfl, hw, ht⟩) (fun q h => nomatch h) dX0_step_24

def fX0_step_F (p1 : UInt64) (p3 : UInt64) (p5 : Int32) : UInt64 := fX8_plus_F p1 (fX8_times_F (FP.i2d p5) (fX8_minus_F p3 p1))
def oX0_step_F (p1 : UInt64) (p3 : UInt64) (p5 : Int32) : Prop := (oX8_minus_F p3 p1) ∧ ((oX8_times_F (FP.i2d p5) (fX8_minus_F p3 p1)) ∧ (oX8_plus_F p1 (fX8_times_F (FP.i2d p5) (fX8_minus_F p3 p1))))
set_option maxHeartbeats 4000000 in
set_option maxRecDepth 100000 in
theorem mX0_step_F (l : Launch) (D : va_G) (TY : Nat → ClassId) (h0 : Nat) (p1 : UInt64) (p3 : UInt64) (p5 : Int32) (post : UInt64 → Prop) (hw : post (fX0_step_F p1 p3 p5)) (hok : oX0_step_F p1 p3 p5) : Met l yX0_step (ws_ yX0_step cX0_step 6 (Option.some Jvm.ClassFile.FieldType.double)) ({ frames := 2, cells := 0, slots := 0, locals := 47 }) (PR D TY [.ref h0, .double p1, .double p3, .int p5] [(h0, .inr (2, []))]) (vp_Sd post) 0 0 (fun _ => False) := by
  refine ofWF (cc := cX0_step) (maxL := 6) (ret := (Option.some Jvm.ClassFile.FieldType.double)) (plainFor_of_name (by decide)) rfl ?_
  intro p e s m args below meth c s₁ B hml hv
  obtain ⟨rfl, hP, hK, hG⟩ := hv
  have hx := B.exec
  have hb := B.bytes
  have hr := B.returns
  have hts0 := atoms_spec (ws := ws_ yX0_step cX0_step 6 (Option.some Jvm.ClassFile.FieldType.double)) B.pre
  have hts : ∀ w ∈ lw_all, w.before _ s = true := fun w h => hts0 w (List.mem_cons_of_mem _ h)
  have hown : s.vm.findClass RX0 = some m.cls := findClass_of_methodNamed B.named
  have hlocks := B.notSynchronized
  have hS : va_S (fun _ => False) s.heap s.heap [] := va_S.rf
  have hl := lv_entry ([.ref h0, .double p1, .double p3, .int p5]) (n := 6) (Nat.le_of_ble_eq_true rfl)
  rw [lg_entry_eq]
  generalize (lg_sl ([.ref h0, .double p1, .double p3, .int p5]) ++ List.replicate (6 - (lg_sl ([.ref h0, .double p1, .double p3, .int p5])).length) Slot.unset).toArray = ls at hl ⊢
  have hl : lv_has ls 6 [(0, .ref h0), (1, .double p1), (3, .double p3), (5, .int p5)] := hl
  unfold fX0_step_F at hw
  unfold oX0_step_F at hok
  refine lv_aload_n hx hb dX0_step_0 rfl (lv_at hl 0 rfl) ?_
  refine lv_dload_n hx hb dX0_step_1 rfl (lv_at hl 1 rfl) ?_
  refine lv_aload_n hx hb dX0_step_2 rfl (lv_at hl 0 rfl) ?_
  refine lv_iload hx hb dX0_step_3 (lv_at hl 3 rfl) ?_
  refine lv_i2d hx hb dX0_step_5 ?_
  refine lv_aload_n hx hb dX0_step_6 rfl (lv_at hl 0 rfl) ?_
  refine lv_dload_n hx hb dX0_step_7 rfl (lv_at hl 2 rfl) ?_
  refine lv_dload_n hx hb dX0_step_8 rfl (lv_at hl 1 rfl) ?_
  refine cFSd (v := fX8_minus_F p3 p1) (runFD (As := [.double p3, .double p1]) (rest := [.double (FP.i2d p5), .ref h0, .double p1, .ref h0]) (hK.1 2 _ rfl).2 ⟨hx, hb, hml, hown, hts⟩ (mX8_minus_F l D TY h0 p3 p1 (fun r => r = fX8_minus_F p3 p1) rfl hok.1) (lw_meth q503) rfl rfl rfl q796 q501 q1587 (gz_fw37 hG) (gz_df21 hG) hd_X8_minus ⟨Nat.le_of_ble_eq_true rfl, Nat.le_of_ble_eq_true rfl⟩ (PR.V (q0 := 0) (ci := 2) hP [0] rfl hK hG hS rfl rfl) rfl rfl hl.1 rfl (lv_room (Nat.le_of_ble_eq_true rfl)) dX0_step_9 ⟨Nat.le_of_ble_eq_true rfl, Nat.le_of_ble_eq_true rfl⟩) ?_
  replace hok := hok.2
  refine cFSd (v := fX8_times_F (FP.i2d p5) (fX8_minus_F p3 p1)) (runFD (As := [.double (FP.i2d p5), .double (fX8_minus_F p3 p1)]) (rest := [.double p1, .ref h0]) (hK.1 2 _ rfl).2 ⟨hx, hb, hml, hown, hts⟩ (mX8_times_F l D TY h0 (FP.i2d p5) (fX8_minus_F p3 p1) (fun r => r = fX8_times_F (FP.i2d p5) (fX8_minus_F p3 p1)) rfl hok.1) (lw_meth q512) rfl rfl rfl q806 q510 q1587 (gz_fw38 hG) (gz_df22 hG) hd_X8_times ⟨Nat.le_of_ble_eq_true rfl, Nat.le_of_ble_eq_true rfl⟩ (PR.V (q0 := 0) (ci := 2) hP [0] rfl hK hG hS rfl rfl) rfl rfl hl.1 rfl (lv_room (Nat.le_of_ble_eq_true rfl)) dX0_step_14 ⟨Nat.le_of_ble_eq_true rfl, Nat.le_of_ble_eq_true rfl⟩) ?_
  replace hok := hok.2
  refine cFSd (v := fX8_plus_F p1 (fX8_times_F (FP.i2d p5) (fX8_minus_F p3 p1))) (runFD (As := [.double p1, .double (fX8_times_F (FP.i2d p5) (fX8_minus_F p3 p1))]) (rest := []) (hK.1 2 _ rfl).2 ⟨hx, hb, hml, hown, hts⟩ (mX8_plus_F l D TY h0 p1 (fX8_times_F (FP.i2d p5) (fX8_minus_F p3 p1)) (fun r => r = fX8_plus_F p1 (fX8_times_F (FP.i2d p5) (fX8_minus_F p3 p1))) rfl hok) (lw_meth q494) rfl rfl rfl q801 q492 q1587 (gz_fw36 hG) (gz_df20 hG) hd_X8_plus ⟨Nat.le_of_ble_eq_true rfl, Nat.le_of_ble_eq_true rfl⟩ (PR.V (q0 := 0) (ci := 2) hP [0] rfl hK hG hS rfl rfl) rfl rfl hl.1 rfl (lv_room (Nat.le_of_ble_eq_true rfl)) dX0_step_19 ⟨Nat.le_of_ble_eq_true rfl, Nat.le_of_ble_eq_true rfl⟩) ?_
  exact W.dret (v := fX8_plus_F p1 (fX8_times_F (FP.i2d p5) (fX8_minus_F p3 p1))) hx hb hr (fun t ht hW => ⟨_, rfl, hw, ht⟩) (fun q h => nomatch h) dX0_step_24

theorem hd_X0_step : yX0_step.cls ≠ "java/lang/invoke/MethodHandle" ∧ yX0_step.cls ≠ "java/lang/invoke/VarHandle" ∧ (parseMethodDescriptor yX0_step.desc).map (fun d => d.parameters.length) = some 4 := by decide +kernel
def wX0_countOf_D_46 (p1 : UInt64) (p3 : UInt64)  (post : Int32 → Prop) : Nat → UInt64 → Int32 → Int32 → Int32 → Prop
  | 0, _, _, _, _ => False
  | n + 1, y7, y9, y10, y11 => ((y11 = 0) → post y10) ∧ (¬ (y11 = 0) → (oX0_step_D p1 p3 y10) ∧ (∀ x2 : UInt64, x2 = fX0_step_D p1 p3 y10 → (∀ x3 : Int32, x3 = (if 1000 < y10 then 0 else (if y9 = 0 then (if Dge x2 y7 then 1 else 0) else (if Dle x2 y7 then 1 else 0))) → (∀ x8 : Int32, x8 = (if x3 = 0 then 0 else 1) → ∀ x10 : Int32, x10 = y10 + x8 → ((wX0_countOf_D_46 p1 p3 post n) y7 y9 x10 x3)))))
def wX0_countOf_D (p1 : UInt64) (p3 : UInt64) (p5 : UInt64) (post : Int32 → Prop) : Prop := (oX8_minus_D p3 p1) ∧ ((oX8_over_D (fX8_minus_D p3 p1) 4611686018427387904) ∧ ((oX8_plus_D p5 (fX8_over_D (fX8_minus_D p3 p1) 4611686018427387904)) ∧ (∀ x1 : UInt64, x1 = fX8_plus_D p5 (fX8_over_D (fX8_minus_D p3 p1) 4611686018427387904) → (∀ x2 : Int32, x2 = (if Dge p3 p1 then 1 else 0) → ∃ n, wX0_countOf_D_46 p1 p3 post n x1 x2 0 1))))
set_option maxHeartbeats 4000000 in
set_option maxRecDepth 100000 in
theorem bX0_countOf_D_46 {p : Program} {l : Launch} {e : Env} {s : State} {m : MethodId} {below : List Frame} {meth : Method} {c : Code} {D : va_G} {TY : Nat → ClassId} (h0 : Nat) (p1 : UInt64) (p3 : UInt64) (p5 : UInt64) (post : Int32 → Prop) (hx : p.tables.exec = Jvm.exec) (hb : c.code = cX0_countOf) (hr : meth.sig.returnType = (Option.some Jvm.ClassFile.FieldType.int)) (hlocks : meth.locks = false) (hml : c.maxLocals = 14) (hown : s.vm.findClass RX0 = some m.cls) (hts : ∀ w ∈ lw_all, w.before ([.ref h0, .double p1, .double p3, .double p5] : List Value).toArray s = true) (hK : va_K D vwCl (tyL TY) s) (hG : gz (fun _ => False) s s.heap) (hS : va_S (fun _ => False) s.heap s.heap []) (hP : va_P D vwCl [(h0, .inr (1, []))] s.heap) : ∀ (n : Nat) (y7 : UInt64) (y9 : Int32) (y10 : Int32) (y11 : Int32), wX0_countOf_D_46 p1 p3 post n y7 y9 y10 y11 → ∀ ls : Array Slot, lv_has ls 14 [(0, .ref h0), (1, .double p1), (3, .double p3), (7, .double y7), (9, .int y9), (10, .int y10), (11, .int y11)] → W p l e (headSpec (ws_ yX0_countOf cX0_countOf 14 (Option.some Jvm.ClassFile.FieldType.int)) ({ frames := 3, cells := 0, slots := 0, locals := 72 })).room s m ([.ref h0, .double p1, .double p3, .double p5] : List Value).toArray below meth c s.heap ([]) 0 0 (MQ below (vp_Si post) ([.ref h0, .double p1, .double p3, .double p5] : List Value).toArray s 0 0 (fun _ => False)) (F0 m 46 ls []) := by
  intro n
  induction n with
  | zero => intro _ _ _ _ h; exact h.elim
  | succ n ih =>
    intro y7 y9 y10 y11 hw
    unfold wX0_countOf_D_46 at hw
    intro ls hl
    refine lv_iload hx hb dX0_countOf_46 (lv_at hl 6 rfl) ?_
    refine lv_if_eq (tgt := 118) hx hb dX0_countOf_48 (by decide) (fun c1 => ?_) (fun c1 => ?_)
    · replace hw := hw.1 c1
      refine lv_iload hx hb dX0_countOf_118 (lv_at hl 5 rfl) ?_
      exact W.iret (v := y10) hx hb hr (fun t ht hW => ⟨_, rfl, hw, ht⟩) (fun q h => nomatch h) dX0_countOf_120
    · replace hw := hw.2 c1
      refine lv_aload_n hx hb dX0_countOf_51 rfl (lv_at hl 0 rfl) ?_
      refine lv_dload_n hx hb dX0_countOf_52 rfl (lv_at hl 1 rfl) ?_
      refine lv_dload_n hx hb dX0_countOf_53 rfl (lv_at hl 2 rfl) ?_
      refine lv_iload hx hb dX0_countOf_54 (lv_at hl 5 rfl) ?_
      refine cSd (v := fX0_step_D p1 p3 y10) (W.runS (As := [.ref h0, .double p1, .double p3, .int y10]) (rest := []) ⟨hx, hb, hml, hown, hts⟩ (mX0_step_D l D TY h0 p1 p3 y10 (fun r => r = fX0_step_D p1 p3 y10) rfl hw.1) (va_cwS 4 hts (lw_S q802 q803 q44 q804) rfl rfl rfl hd_X0_step ⟨Nat.le_of_ble_eq_true rfl, Nat.le_of_ble_eq_true rfl⟩) (PR.S hP [0] rfl hK hG hS) rfl rfl hl.1 rfl (lv_room (Nat.le_of_ble_eq_true rfl)) dX0_countOf_56 ⟨Nat.le_of_ble_eq_true rfl, Nat.le_of_ble_eq_true rfl⟩) ?_
      replace hw := hw.2
      refine lv_topd (fun x2 ex2 => ?_)
      replace hw := hw x2 ex2
      refine lv_dstore (lv' := [(12, .double x2), (0, .ref h0), (1, .double p1), (3, .double p3), (7, .double y7), (9, .int y9), (10, .int y10), (11, .int y11)]) hx hb dX0_countOf_59 hl (by decide) rfl (fun ls hl => ?_)
      refine lv_iload hx hb dX0_countOf_61 (lv_at hl 6 rfl) ?_
      refine lv_sipush (v := 1000) hx hb dX0_countOf_63 (by decide) ?_
      obtain ⟨PJx3, hPJx3⟩ : ∃ P : Int32 → Prop, ∀ x3 : Int32, P x3 ↔ ∀ ls : Array Slot, lv_has ls 14 [(0, .ref h0), (1, .double p1), (3, .double p3), (7, .double y7), (9, .int y9), (10, .int y10)] → W p l e (headSpec (ws_ yX0_countOf cX0_countOf 14 (Option.some Jvm.ClassFile.FieldType.int)) ({ frames := 3, cells := 0, slots := 0, locals := 72 })).room s m ([.ref h0, .double p1, .double p3, .double p5] : List Value).toArray below meth c s.heap ([]) 0 0 (MQ below (vp_Si post) ([.ref h0, .double p1, .double p3, .double p5] : List Value).toArray s 0 0 (fun _ => False)) (F0 m 98 ls [.int x3]) := ⟨_, fun _ => Iff.rfl⟩
      have hjx3 : ∀ x3 : Int32, x3 = (if 1000 < y10 then 0 else (if y9 = 0 then (if Dge x2 y7 then 1 else 0) else (if Dle x2 y7 then 1 else 0))) → PJx3 x3 := by
        intro x3 ex3
        rw [hPJx3]
        intro ls hl
        replace hw := hw x3 ex3
        refine lv_istore (lv' := [(11, .int x3), (0, .ref h0), (1, .double p1), (3, .double p3), (7, .double y7), (9, .int y9), (10, .int y10)]) hx hb dX0_countOf_98 hl (by decide) rfl (fun ls hl => ?_)
        refine lv_iload hx hb dX0_countOf_100 (lv_at hl 6 rfl) ?_
        refine lv_iload hx hb dX0_countOf_102 (lv_at hl 0 rfl) ?_
        obtain ⟨PJx8, hPJx8⟩ : ∃ P : Int32 → Prop, ∀ x8 : Int32, P x8 ↔ ∀ ls : Array Slot, lv_has ls 14 [(0, .ref h0), (1, .double p1), (3, .double p3), (7, .double y7), (9, .int y9), (11, .int x3)] → W p l e (headSpec (ws_ yX0_countOf cX0_countOf 14 (Option.some Jvm.ClassFile.FieldType.int)) ({ frames := 3, cells := 0, slots := 0, locals := 72 })).room s m ([.ref h0, .double p1, .double p3, .double p5] : List Value).toArray below meth c s.heap ([]) 0 0 (MQ below (vp_Si post) ([.ref h0, .double p1, .double p3, .double p5] : List Value).toArray s 0 0 (fun _ => False)) (F0 m 112 ls [.int x8, .int y10]) := ⟨_, fun _ => Iff.rfl⟩
        have hjx8 : ∀ x8 : Int32, x8 = (if x3 = 0 then 0 else 1) → PJx8 x8 := by
          intro x8 ex8
          rw [hPJx8]
          intro ls hl
          replace hw := hw x8 ex8
          refine lv_iadd hx hb dX0_countOf_112 ?_
          refine lv_topi (fun x10 ex10 => ?_)
          replace hw := hw x10 ex10
          refine lv_istore (lv' := [(10, .int x10), (0, .ref h0), (1, .double p1), (3, .double p3), (7, .double y7), (9, .int y9), (11, .int x3)]) hx hb dX0_countOf_113 hl (by decide) rfl (fun ls hl => ?_)
          refine lv_goto (tgt := 46) hx hb dX0_countOf_115 (by decide) ?_
          exact ih y7 y9 x10 x3 hw _ (lv_sub hl [1, 2, 3, 4, 5, 0, 6] rfl)
        replace hjx8 := hjx8 _ rfl
        refine lv_if_eq (tgt := 111) hx hb dX0_countOf_104 (by decide) (fun c9 => ?_) (fun c9 => ?_)
        · replace hjx8 := pf_t (P := PJx8) c9 hjx8
          refine lv_iconst (v := 0) hx hb dX0_countOf_111 (by decide) ?_
          exact (hPJx8 _).1 hjx8 _ (lv_sub hl [1, 2, 3, 4, 5, 0] rfl)
        · replace hjx8 := pf_f (P := PJx8) c9 hjx8
          refine lv_iconst (v := 1) hx hb dX0_countOf_107 (by decide) ?_
          refine lv_goto (tgt := 112) hx hb dX0_countOf_108 (by decide) ?_
          exact (hPJx8 _).1 hjx8 _ (lv_sub hl [1, 2, 3, 4, 5, 0] rfl)
      replace hjx3 := hjx3 _ rfl
      refine lv_icmp_gt (tgt := 97) hx hb dX0_countOf_66 (by decide) (fun c4 => ?_) (fun c4 => ?_)
      · replace hjx3 := pf_t (P := PJx3) c4 hjx3
        refine lv_iconst (v := 0) hx hb dX0_countOf_97 (by decide) ?_
        exact (hPJx3 _).1 hjx3 _ (lv_sub hl [1, 2, 3, 4, 5, 6] rfl)
      · replace hjx3 := pf_f (P := PJx3) c4 hjx3
        refine lv_iload hx hb dX0_countOf_69 (lv_at hl 5 rfl) ?_
        refine lv_if_eq (tgt := 85) hx hb dX0_countOf_71 (by decide) (fun c5 => ?_) (fun c5 => ?_)
        · replace hjx3 := pf_t (P := PJx3) c5 hjx3
          refine lv_dload hx hb dX0_countOf_85 (lv_at hl 0 rfl) ?_
          refine lv_dload hx hb dX0_countOf_87 (lv_at hl 4 rfl) ?_
          refine lx_dllt (tgt := 97) hx hb dX0_countOf_89 dX0_countOf_90 (by decide) (fun c6 => ?_) (fun c6 => ?_)
          · replace hjx3 := pf_f (P := PJx3) c6 hjx3
            refine lv_iconst (v := 0) hx hb dX0_countOf_97 (by decide) ?_
            exact (hPJx3 _).1 hjx3 _ (lv_sub hl [1, 2, 3, 4, 5, 6] rfl)
          · replace hjx3 := pf_t (P := PJx3) c6 hjx3
            refine lv_iconst (v := 1) hx hb dX0_countOf_93 (by decide) ?_
            refine lv_goto (tgt := 98) hx hb dX0_countOf_94 (by decide) ?_
            exact (hPJx3 _).1 hjx3 _ (lv_sub hl [1, 2, 3, 4, 5, 6] rfl)
        · replace hjx3 := pf_f (P := PJx3) c5 hjx3
          refine lv_dload hx hb dX0_countOf_74 (lv_at hl 0 rfl) ?_
          refine lv_dload hx hb dX0_countOf_76 (lv_at hl 4 rfl) ?_
          refine lx_dggt (tgt := 97) hx hb dX0_countOf_78 dX0_countOf_79 (by decide) (fun c7 => ?_) (fun c7 => ?_)
          · replace hjx3 := pf_f (P := PJx3) c7 hjx3
            refine lv_iconst (v := 0) hx hb dX0_countOf_97 (by decide) ?_
            exact (hPJx3 _).1 hjx3 _ (lv_sub hl [1, 2, 3, 4, 5, 6] rfl)
          · replace hjx3 := pf_t (P := PJx3) c7 hjx3
            refine lv_goto (tgt := 93) hx hb dX0_countOf_82 (by decide) ?_
            refine lv_iconst (v := 1) hx hb dX0_countOf_93 (by decide) ?_
            refine lv_goto (tgt := 98) hx hb dX0_countOf_94 (by decide) ?_
            exact (hPJx3 _).1 hjx3 _ (lv_sub hl [1, 2, 3, 4, 5, 6] rfl)
set_option maxHeartbeats 4000000 in
set_option maxRecDepth 100000 in
theorem mX0_countOf_D (l : Launch) (D : va_G) (TY : Nat → ClassId) (h0 : Nat) (p1 : UInt64) (p3 : UInt64) (p5 : UInt64) (post : Int32 → Prop) (hw : wX0_countOf_D p1 p3 p5 post) : Met l yX0_countOf (ws_ yX0_countOf cX0_countOf 14 (Option.some Jvm.ClassFile.FieldType.int)) ({ frames := 3, cells := 0, slots := 0, locals := 72 }) (PR D TY [.ref h0, .double p1, .double p3, .double p5] [(h0, .inr (1, []))]) (vp_Si post) 0 0 (fun _ => False) := by
  refine ofWF (cc := cX0_countOf) (maxL := 14) (ret := (Option.some Jvm.ClassFile.FieldType.int)) (plainFor_of_name (by decide)) rfl ?_
  intro p e s m args below meth c s₁ B hml hv
  obtain ⟨rfl, hP, hK, hG⟩ := hv
  have hx := B.exec
  have hb := B.bytes
  have hr := B.returns
  have hts0 := atoms_spec (ws := ws_ yX0_countOf cX0_countOf 14 (Option.some Jvm.ClassFile.FieldType.int)) B.pre
  have hts : ∀ w ∈ lw_all, w.before _ s = true := fun w h => hts0 w (List.mem_cons_of_mem _ h)
  have hown : s.vm.findClass RX0 = some m.cls := findClass_of_methodNamed B.named
  have hlocks := B.notSynchronized
  have hS : va_S (fun _ => False) s.heap s.heap [] := va_S.rf
  have hl := lv_entry ([.ref h0, .double p1, .double p3, .double p5]) (n := 14) (Nat.le_of_ble_eq_true rfl)
  rw [lg_entry_eq]
  generalize (lg_sl ([.ref h0, .double p1, .double p3, .double p5]) ++ List.replicate (14 - (lg_sl ([.ref h0, .double p1, .double p3, .double p5])).length) Slot.unset).toArray = ls at hl ⊢
  have hl : lv_has ls 14 [(0, .ref h0), (1, .double p1), (3, .double p3), (5, .double p5)] := hl
  unfold wX0_countOf_D at hw
  refine lv_aload_n hx hb dX0_countOf_0 rfl (lv_at hl 0 rfl) ?_
  refine lv_dload hx hb dX0_countOf_1 (lv_at hl 3 rfl) ?_
  refine lv_aload_n hx hb dX0_countOf_3 rfl (lv_at hl 0 rfl) ?_
  refine lv_aload_n hx hb dX0_countOf_4 rfl (lv_at hl 0 rfl) ?_
  refine lv_dload_n hx hb dX0_countOf_5 rfl (lv_at hl 2 rfl) ?_
  refine lv_dload_n hx hb dX0_countOf_6 rfl (lv_at hl 1 rfl) ?_
  refine cFSd (v := fX8_minus_D p3 p1) (runFD (As := [.double p3, .double p1]) (rest := [.ref h0, .double p5, .ref h0]) (hK.1 1 _ rfl).2 ⟨hx, hb, hml, hown, hts⟩ (mX8_minus_D l D TY h0 p3 p1 (fun r => r = fX8_minus_D p3 p1) rfl hw.1) (lw_meth q503) rfl rfl rfl q796 q501 q1587 (gz_fw16 hG) (gz_df8 hG) hd_X8_minus ⟨Nat.le_of_ble_eq_true rfl, Nat.le_of_ble_eq_true rfl⟩ (PR.V (q0 := 0) (ci := 1) hP [0] rfl hK hG hS rfl rfl) rfl rfl hl.1 rfl (lv_room (Nat.le_of_ble_eq_true rfl)) dX0_countOf_7 ⟨Nat.le_of_ble_eq_true rfl, Nat.le_of_ble_eq_true rfl⟩) ?_
  replace hw := hw.2
  refine lv_ldc2d (v := 4611686018427387904) hx hb hown (hts _ q797) dX0_countOf_12 ?_
  refine cFSd (v := fX8_over_D (fX8_minus_D p3 p1) 4611686018427387904) (runFD (As := [.double (fX8_minus_D p3 p1), .double 4611686018427387904]) (rest := [.double p5, .ref h0]) (hK.1 1 _ rfl).2 ⟨hx, hb, hml, hown, hts⟩ (mX8_over_D l D TY h0 (fX8_minus_D p3 p1) 4611686018427387904 (fun r => r = fX8_over_D (fX8_minus_D p3 p1) 4611686018427387904) rfl hw.1) (lw_meth q456) rfl rfl rfl q799 q454 q1587 (gz_fw12 hG) (gz_df5 hG) hd_X8_over ⟨Nat.le_of_ble_eq_true rfl, Nat.le_of_ble_eq_true rfl⟩ (PR.V (q0 := 0) (ci := 1) hP [0] rfl hK hG hS rfl rfl) rfl rfl hl.1 rfl (lv_room (Nat.le_of_ble_eq_true rfl)) dX0_countOf_15 ⟨Nat.le_of_ble_eq_true rfl, Nat.le_of_ble_eq_true rfl⟩) ?_
  replace hw := hw.2
  refine cFSd (v := fX8_plus_D p5 (fX8_over_D (fX8_minus_D p3 p1) 4611686018427387904)) (runFD (As := [.double p5, .double (fX8_over_D (fX8_minus_D p3 p1) 4611686018427387904)]) (rest := []) (hK.1 1 _ rfl).2 ⟨hx, hb, hml, hown, hts⟩ (mX8_plus_D l D TY h0 p5 (fX8_over_D (fX8_minus_D p3 p1) 4611686018427387904) (fun r => r = fX8_plus_D p5 (fX8_over_D (fX8_minus_D p3 p1) 4611686018427387904)) rfl hw.1) (lw_meth q494) rfl rfl rfl q801 q492 q1587 (gz_fw15 hG) (gz_df7 hG) hd_X8_plus ⟨Nat.le_of_ble_eq_true rfl, Nat.le_of_ble_eq_true rfl⟩ (PR.V (q0 := 0) (ci := 1) hP [0] rfl hK hG hS rfl rfl) rfl rfl hl.1 rfl (lv_room (Nat.le_of_ble_eq_true rfl)) dX0_countOf_20 ⟨Nat.le_of_ble_eq_true rfl, Nat.le_of_ble_eq_true rfl⟩) ?_
  replace hw := hw.2
  refine lv_topd (fun x1 ex1 => ?_)
  replace hw := hw x1 ex1
  refine lv_dstore (lv' := [(7, .double x1), (0, .ref h0), (1, .double p1), (3, .double p3), (5, .double p5)]) hx hb dX0_countOf_25 hl (by decide) rfl (fun ls hl => ?_)
  refine lv_dload_n hx hb dX0_countOf_27 rfl (lv_at hl 3 rfl) ?_
  refine lv_dload_n hx hb dX0_countOf_28 rfl (lv_at hl 2 rfl) ?_
  obtain ⟨PJx2, hPJx2⟩ : ∃ P : Int32 → Prop, ∀ x2 : Int32, P x2 ↔ ∀ ls : Array Slot, lv_has ls 14 [(0, .ref h0), (1, .double p1), (3, .double p3), (7, .double x1)] → W p l e (headSpec (ws_ yX0_countOf cX0_countOf 14 (Option.some Jvm.ClassFile.FieldType.int)) ({ frames := 3, cells := 0, slots := 0, locals := 72 })).room s m ([.ref h0, .double p1, .double p3, .double p5] : List Value).toArray below meth c s.heap ([]) 0 0 (MQ below (vp_Si post) ([.ref h0, .double p1, .double p3, .double p5] : List Value).toArray s 0 0 (fun _ => False)) (F0 m 38 ls [.int x2]) := ⟨_, fun _ => Iff.rfl⟩
  have hjx2 : ∀ x2 : Int32, x2 = (if Dge p3 p1 then 1 else 0) → PJx2 x2 := by
    intro x2 ex2
    rw [hPJx2]
    intro ls hl
    replace hw := hw x2 ex2
    refine lv_istore (lv' := [(9, .int x2), (0, .ref h0), (1, .double p1), (3, .double p3), (7, .double x1)]) hx hb dX0_countOf_38 hl (by decide) rfl (fun ls hl => ?_)
    refine lv_iconst (v := 0) hx hb dX0_countOf_40 (by decide) ?_
    refine lv_istore (lv' := [(10, .int 0), (9, .int x2), (0, .ref h0), (1, .double p1), (3, .double p3), (7, .double x1)]) hx hb dX0_countOf_41 hl (by decide) rfl (fun ls hl => ?_)
    refine lv_iconst (v := 1) hx hb dX0_countOf_43 (by decide) ?_
    refine lv_istore (lv' := [(11, .int 1), (10, .int 0), (9, .int x2), (0, .ref h0), (1, .double p1), (3, .double p3), (7, .double x1)]) hx hb dX0_countOf_44 hl (by decide) rfl (fun ls hl => ?_)
    obtain ⟨n4, hw⟩ := hw
    exact bX0_countOf_D_46 h0 p1 p3 p5 post  hx hb hr hlocks hml hown hts hK hG hS hP n4 x1 x2 0 1 hw _ (lv_sub hl [3, 4, 5, 6, 2, 1, 0] rfl)
  replace hjx2 := hjx2 _ rfl
  refine lx_dllt (tgt := 37) hx hb dX0_countOf_29 dX0_countOf_30 (by decide) (fun c3 => ?_) (fun c3 => ?_)
  · replace hjx2 := pf_f (P := PJx2) c3 hjx2
    refine lv_iconst (v := 0) hx hb dX0_countOf_37 (by decide) ?_
    exact (hPJx2 _).1 hjx2 _ (lv_sub hl [1, 2, 3, 0] rfl)
  · replace hjx2 := pf_t (P := PJx2) c3 hjx2
    refine lv_iconst (v := 1) hx hb dX0_countOf_33 (by decide) ?_
    refine lv_goto (tgt := 38) hx hb dX0_countOf_34 (by decide) ?_
    exact (hPJx2 _).1 hjx2 _ (lv_sub hl [1, 2, 3, 0] rfl)

def wX0_countOf_F_46 (p1 : UInt64) (p3 : UInt64)  (post : Int32 → Prop) : Nat → UInt64 → Int32 → Int32 → Int32 → Prop
  | 0, _, _, _, _ => False
  | n + 1, y7, y9, y10, y11 => ((y11 = 0) → post y10) ∧ (¬ (y11 = 0) → (oX0_step_F p1 p3 y10) ∧ (∀ x2 : UInt64, x2 = fX0_step_F p1 p3 y10 → (∀ x3 : Int32, x3 = (if 1000 < y10 then 0 else (if y9 = 0 then (if Dge x2 y7 then 1 else 0) else (if Dle x2 y7 then 1 else 0))) → (∀ x8 : Int32, x8 = (if x3 = 0 then 0 else 1) → ∀ x10 : Int32, x10 = y10 + x8 → ((wX0_countOf_F_46 p1 p3 post n) y7 y9 x10 x3)))))
def wX0_countOf_F (p1 : UInt64) (p3 : UInt64) (p5 : UInt64) (post : Int32 → Prop) : Prop := (oX8_minus_F p3 p1) ∧ ((oX8_over_F (fX8_minus_F p3 p1) 4611686018427387904) ∧ ((oX8_plus_F p5 (fX8_over_F (fX8_minus_F p3 p1) 4611686018427387904)) ∧ (∀ x1 : UInt64, x1 = fX8_plus_F p5 (fX8_over_F (fX8_minus_F p3 p1) 4611686018427387904) → (∀ x2 : Int32, x2 = (if Dge p3 p1 then 1 else 0) → ∃ n, wX0_countOf_F_46 p1 p3 post n x1 x2 0 1))))
set_option maxHeartbeats 4000000 in
set_option maxRecDepth 100000 in
theorem bX0_countOf_F_46 {p : Program} {l : Launch} {e : Env} {s : State} {m : MethodId} {below : List Frame} {meth : Method} {c : Code} {D : va_G} {TY : Nat → ClassId} (h0 : Nat) (p1 : UInt64) (p3 : UInt64) (p5 : UInt64) (post : Int32 → Prop) (hx : p.tables.exec = Jvm.exec) (hb : c.code = cX0_countOf) (hr : meth.sig.returnType = (Option.some Jvm.ClassFile.FieldType.int)) (hlocks : meth.locks = false) (hml : c.maxLocals = 14) (hown : s.vm.findClass RX0 = some m.cls) (hts : ∀ w ∈ lw_all, w.before ([.ref h0, .double p1, .double p3, .double p5] : List Value).toArray s = true) (hK : va_K D vwCl (tyL TY) s) (hG : gz (fun _ => False) s s.heap) (hS : va_S (fun _ => False) s.heap s.heap []) (hP : va_P D vwCl [(h0, .inr (2, []))] s.heap) : ∀ (n : Nat) (y7 : UInt64) (y9 : Int32) (y10 : Int32) (y11 : Int32), wX0_countOf_F_46 p1 p3 post n y7 y9 y10 y11 → ∀ ls : Array Slot, lv_has ls 14 [(0, .ref h0), (1, .double p1), (3, .double p3), (7, .double y7), (9, .int y9), (10, .int y10), (11, .int y11)] → W p l e (headSpec (ws_ yX0_countOf cX0_countOf 14 (Option.some Jvm.ClassFile.FieldType.int)) ({ frames := 3, cells := 0, slots := 0, locals := 72 })).room s m ([.ref h0, .double p1, .double p3, .double p5] : List Value).toArray below meth c s.heap ([]) 0 0 (MQ below (vp_Si post) ([.ref h0, .double p1, .double p3, .double p5] : List Value).toArray s 0 0 (fun _ => False)) (F0 m 46 ls []) := by
  intro n
  induction n with
  | zero => intro _ _ _ _ h; exact h.elim
  | succ n ih =>
    intro y7 y9 y10 y11 hw
    unfold wX0_countOf_F_46 at hw
    intro ls hl
    refine lv_iload hx hb dX0_countOf_46 (lv_at hl 6 rfl) ?_
    refine lv_if_eq (tgt := 118) hx hb dX0_countOf_48 (by decide) (fun c1 => ?_) (fun c1 => ?_)
    · replace hw := hw.1 c1
      refine lv_iload hx hb dX0_countOf_118 (lv_at hl 5 rfl) ?_
      exact W.iret (v := y10) hx hb hr (fun t ht hW => ⟨_, rfl, hw, ht⟩) (fun q h => nomatch h) dX0_countOf_120
    · replace hw := hw.2 c1
      refine lv_aload_n hx hb dX0_countOf_51 rfl (lv_at hl 0 rfl) ?_
      refine lv_dload_n hx hb dX0_countOf_52 rfl (lv_at hl 1 rfl) ?_
      refine lv_dload_n hx hb dX0_countOf_53 rfl (lv_at hl 2 rfl) ?_
      refine lv_iload hx hb dX0_countOf_54 (lv_at hl 5 rfl) ?_
      refine cSd (v := fX0_step_F p1 p3 y10) (W.runS (As := [.ref h0, .double p1, .double p3, .int y10]) (rest := []) ⟨hx, hb, hml, hown, hts⟩ (mX0_step_F l D TY h0 p1 p3 y10 (fun r => r = fX0_step_F p1 p3 y10) rfl hw.1) (va_cwS 4 hts (lw_S q802 q803 q44 q804) rfl rfl rfl hd_X0_step ⟨Nat.le_of_ble_eq_true rfl, Nat.le_of_ble_eq_true rfl⟩) (PR.S hP [0] rfl hK hG hS) rfl rfl hl.1 rfl (lv_room (Nat.le_of_ble_eq_true rfl)) dX0_countOf_56 ⟨Nat.le_of_ble_eq_true rfl, Nat.le_of_ble_eq_true rfl⟩) ?_
      replace hw := hw.2
      refine lv_topd (fun x2 ex2 => ?_)
      replace hw := hw x2 ex2
      refine lv_dstore (lv' := [(12, .double x2), (0, .ref h0), (1, .double p1), (3, .double p3), (7, .double y7), (9, .int y9), (10, .int y10), (11, .int y11)]) hx hb dX0_countOf_59 hl (by decide) rfl (fun ls hl => ?_)
      refine lv_iload hx hb dX0_countOf_61 (lv_at hl 6 rfl) ?_
      refine lv_sipush (v := 1000) hx hb dX0_countOf_63 (by decide) ?_
      obtain ⟨PJx3, hPJx3⟩ : ∃ P : Int32 → Prop, ∀ x3 : Int32, P x3 ↔ ∀ ls : Array Slot, lv_has ls 14 [(0, .ref h0), (1, .double p1), (3, .double p3), (7, .double y7), (9, .int y9), (10, .int y10)] → W p l e (headSpec (ws_ yX0_countOf cX0_countOf 14 (Option.some Jvm.ClassFile.FieldType.int)) ({ frames := 3, cells := 0, slots := 0, locals := 72 })).room s m ([.ref h0, .double p1, .double p3, .double p5] : List Value).toArray below meth c s.heap ([]) 0 0 (MQ below (vp_Si post) ([.ref h0, .double p1, .double p3, .double p5] : List Value).toArray s 0 0 (fun _ => False)) (F0 m 98 ls [.int x3]) := ⟨_, fun _ => Iff.rfl⟩
      have hjx3 : ∀ x3 : Int32, x3 = (if 1000 < y10 then 0 else (if y9 = 0 then (if Dge x2 y7 then 1 else 0) else (if Dle x2 y7 then 1 else 0))) → PJx3 x3 := by
        intro x3 ex3
        rw [hPJx3]
        intro ls hl
        replace hw := hw x3 ex3
        refine lv_istore (lv' := [(11, .int x3), (0, .ref h0), (1, .double p1), (3, .double p3), (7, .double y7), (9, .int y9), (10, .int y10)]) hx hb dX0_countOf_98 hl (by decide) rfl (fun ls hl => ?_)
        refine lv_iload hx hb dX0_countOf_100 (lv_at hl 6 rfl) ?_
        refine lv_iload hx hb dX0_countOf_102 (lv_at hl 0 rfl) ?_
        obtain ⟨PJx8, hPJx8⟩ : ∃ P : Int32 → Prop, ∀ x8 : Int32, P x8 ↔ ∀ ls : Array Slot, lv_has ls 14 [(0, .ref h0), (1, .double p1), (3, .double p3), (7, .double y7), (9, .int y9), (11, .int x3)] → W p l e (headSpec (ws_ yX0_countOf cX0_countOf 14 (Option.some Jvm.ClassFile.FieldType.int)) ({ frames := 3, cells := 0, slots := 0, locals := 72 })).room s m ([.ref h0, .double p1, .double p3, .double p5] : List Value).toArray below meth c s.heap ([]) 0 0 (MQ below (vp_Si post) ([.ref h0, .double p1, .double p3, .double p5] : List Value).toArray s 0 0 (fun _ => False)) (F0 m 112 ls [.int x8, .int y10]) := ⟨_, fun _ => Iff.rfl⟩
        have hjx8 : ∀ x8 : Int32, x8 = (if x3 = 0 then 0 else 1) → PJx8 x8 := by
          intro x8 ex8
          rw [hPJx8]
          intro ls hl
          replace hw := hw x8 ex8
          refine lv_iadd hx hb dX0_countOf_112 ?_
          refine lv_topi (fun x10 ex10 => ?_)
          replace hw := hw x10 ex10
          refine lv_istore (lv' := [(10, .int x10), (0, .ref h0), (1, .double p1), (3, .double p3), (7, .double y7), (9, .int y9), (11, .int x3)]) hx hb dX0_countOf_113 hl (by decide) rfl (fun ls hl => ?_)
          refine lv_goto (tgt := 46) hx hb dX0_countOf_115 (by decide) ?_
          exact ih y7 y9 x10 x3 hw _ (lv_sub hl [1, 2, 3, 4, 5, 0, 6] rfl)
        replace hjx8 := hjx8 _ rfl
        refine lv_if_eq (tgt := 111) hx hb dX0_countOf_104 (by decide) (fun c9 => ?_) (fun c9 => ?_)
        · replace hjx8 := pf_t (P := PJx8) c9 hjx8
          refine lv_iconst (v := 0) hx hb dX0_countOf_111 (by decide) ?_
          exact (hPJx8 _).1 hjx8 _ (lv_sub hl [1, 2, 3, 4, 5, 0] rfl)
        · replace hjx8 := pf_f (P := PJx8) c9 hjx8
          refine lv_iconst (v := 1) hx hb dX0_countOf_107 (by decide) ?_
          refine lv_goto (tgt := 112) hx hb dX0_countOf_108 (by decide) ?_
          exact (hPJx8 _).1 hjx8 _ (lv_sub hl [1, 2, 3, 4, 5, 0] rfl)
      replace hjx3 := hjx3 _ rfl
      refine lv_icmp_gt (tgt := 97) hx hb dX0_countOf_66 (by decide) (fun c4 => ?_) (fun c4 => ?_)
      · replace hjx3 := pf_t (P := PJx3) c4 hjx3
        refine lv_iconst (v := 0) hx hb dX0_countOf_97 (by decide) ?_
        exact (hPJx3 _).1 hjx3 _ (lv_sub hl [1, 2, 3, 4, 5, 6] rfl)
      · replace hjx3 := pf_f (P := PJx3) c4 hjx3
        refine lv_iload hx hb dX0_countOf_69 (lv_at hl 5 rfl) ?_
        refine lv_if_eq (tgt := 85) hx hb dX0_countOf_71 (by decide) (fun c5 => ?_) (fun c5 => ?_)
        · replace hjx3 := pf_t (P := PJx3) c5 hjx3
          refine lv_dload hx hb dX0_countOf_85 (lv_at hl 0 rfl) ?_
          refine lv_dload hx hb dX0_countOf_87 (lv_at hl 4 rfl) ?_
          refine lx_dllt (tgt := 97) hx hb dX0_countOf_89 dX0_countOf_90 (by decide) (fun c6 => ?_) (fun c6 => ?_)
          · replace hjx3 := pf_f (P := PJx3) c6 hjx3
            refine lv_iconst (v := 0) hx hb dX0_countOf_97 (by decide) ?_
            exact (hPJx3 _).1 hjx3 _ (lv_sub hl [1, 2, 3, 4, 5, 6] rfl)
          · replace hjx3 := pf_t (P := PJx3) c6 hjx3
            refine lv_iconst (v := 1) hx hb dX0_countOf_93 (by decide) ?_
            refine lv_goto (tgt := 98) hx hb dX0_countOf_94 (by decide) ?_
            exact (hPJx3 _).1 hjx3 _ (lv_sub hl [1, 2, 3, 4, 5, 6] rfl)
        · replace hjx3 := pf_f (P := PJx3) c5 hjx3
          refine lv_dload hx hb dX0_countOf_74 (lv_at hl 0 rfl) ?_
          refine lv_dload hx hb dX0_countOf_76 (lv_at hl 4 rfl) ?_
          refine lx_dggt (tgt := 97) hx hb dX0_countOf_78 dX0_countOf_79 (by decide) (fun c7 => ?_) (fun c7 => ?_)
          · replace hjx3 := pf_f (P := PJx3) c7 hjx3
            refine lv_iconst (v := 0) hx hb dX0_countOf_97 (by decide) ?_
            exact (hPJx3 _).1 hjx3 _ (lv_sub hl [1, 2, 3, 4, 5, 6] rfl)
          · replace hjx3 := pf_t (P := PJx3) c7 hjx3
            refine lv_goto (tgt := 93) hx hb dX0_countOf_82 (by decide) ?_
            refine lv_iconst (v := 1) hx hb dX0_countOf_93 (by decide) ?_
            refine lv_goto (tgt := 98) hx hb dX0_countOf_94 (by decide) ?_
            exact (hPJx3 _).1 hjx3 _ (lv_sub hl [1, 2, 3, 4, 5, 6] rfl)
set_option maxHeartbeats 4000000 in
set_option maxRecDepth 100000 in
theorem mX0_countOf_F (l : Launch) (D : va_G) (TY : Nat → ClassId) (h0 : Nat) (p1 : UInt64) (p3 : UInt64) (p5 : UInt64) (post : Int32 → Prop) (hw : wX0_countOf_F p1 p3 p5 post) : Met l yX0_countOf (ws_ yX0_countOf cX0_countOf 14 (Option.some Jvm.ClassFile.FieldType.int)) ({ frames := 3, cells := 0, slots := 0, locals := 72 }) (PR D TY [.ref h0, .double p1, .double p3, .double p5] [(h0, .inr (2, []))]) (vp_Si post) 0 0 (fun _ => False) := by
  refine ofWF (cc := cX0_countOf) (maxL := 14) (ret := (Option.some Jvm.ClassFile.FieldType.int)) (plainFor_of_name (by decide)) rfl ?_
  intro p e s m args below meth c s₁ B hml hv
  obtain ⟨rfl, hP, hK, hG⟩ := hv
  have hx := B.exec
  have hb := B.bytes
  have hr := B.returns
  have hts0 := atoms_spec (ws := ws_ yX0_countOf cX0_countOf 14 (Option.some Jvm.ClassFile.FieldType.int)) B.pre
  have hts : ∀ w ∈ lw_all, w.before _ s = true := fun w h => hts0 w (List.mem_cons_of_mem _ h)
  have hown : s.vm.findClass RX0 = some m.cls := findClass_of_methodNamed B.named
  have hlocks := B.notSynchronized
  have hS : va_S (fun _ => False) s.heap s.heap [] := va_S.rf
  have hl := lv_entry ([.ref h0, .double p1, .double p3, .double p5]) (n := 14) (Nat.le_of_ble_eq_true rfl)
  rw [lg_entry_eq]
  generalize (lg_sl ([.ref h0, .double p1, .double p3, .double p5]) ++ List.replicate (14 - (lg_sl ([.ref h0, .double p1, .double p3, .double p5])).length) Slot.unset).toArray = ls at hl ⊢
  have hl : lv_has ls 14 [(0, .ref h0), (1, .double p1), (3, .double p3), (5, .double p5)] := hl
  unfold wX0_countOf_F at hw
  refine lv_aload_n hx hb dX0_countOf_0 rfl (lv_at hl 0 rfl) ?_
  refine lv_dload hx hb dX0_countOf_1 (lv_at hl 3 rfl) ?_
  refine lv_aload_n hx hb dX0_countOf_3 rfl (lv_at hl 0 rfl) ?_
  refine lv_aload_n hx hb dX0_countOf_4 rfl (lv_at hl 0 rfl) ?_
  refine lv_dload_n hx hb dX0_countOf_5 rfl (lv_at hl 2 rfl) ?_
  refine lv_dload_n hx hb dX0_countOf_6 rfl (lv_at hl 1 rfl) ?_
  refine cFSd (v := fX8_minus_F p3 p1) (runFD (As := [.double p3, .double p1]) (rest := [.ref h0, .double p5, .ref h0]) (hK.1 2 _ rfl).2 ⟨hx, hb, hml, hown, hts⟩ (mX8_minus_F l D TY h0 p3 p1 (fun r => r = fX8_minus_F p3 p1) rfl hw.1) (lw_meth q503) rfl rfl rfl q796 q501 q1587 (gz_fw37 hG) (gz_df21 hG) hd_X8_minus ⟨Nat.le_of_ble_eq_true rfl, Nat.le_of_ble_eq_true rfl⟩ (PR.V (q0 := 0) (ci := 2) hP [0] rfl hK hG hS rfl rfl) rfl rfl hl.1 rfl (lv_room (Nat.le_of_ble_eq_true rfl)) dX0_countOf_7 ⟨Nat.le_of_ble_eq_true rfl, Nat.le_of_ble_eq_true rfl⟩) ?_
  replace hw := hw.2
  refine lv_ldc2d (v := 4611686018427387904) hx hb hown (hts _ q797) dX0_countOf_12 ?_
  refine cFSd (v := fX8_over_F (fX8_minus_F p3 p1) 4611686018427387904) (runFD (As := [.double (fX8_minus_F p3 p1), .double 4611686018427387904]) (rest := [.double p5, .ref h0]) (hK.1 2 _ rfl).2 ⟨hx, hb, hml, hown, hts⟩ (mX8_over_F l D TY h0 (fX8_minus_F p3 p1) 4611686018427387904 (fun r => r = fX8_over_F (fX8_minus_F p3 p1) 4611686018427387904) rfl hw.1) (lw_meth q456) rfl rfl rfl q799 q454 q1587 (gz_fw33 hG) (gz_df18 hG) hd_X8_over ⟨Nat.le_of_ble_eq_true rfl, Nat.le_of_ble_eq_true rfl⟩ (PR.V (q0 := 0) (ci := 2) hP [0] rfl hK hG hS rfl rfl) rfl rfl hl.1 rfl (lv_room (Nat.le_of_ble_eq_true rfl)) dX0_countOf_15 ⟨Nat.le_of_ble_eq_true rfl, Nat.le_of_ble_eq_true rfl⟩) ?_
  replace hw := hw.2
  refine cFSd (v := fX8_plus_F p5 (fX8_over_F (fX8_minus_F p3 p1) 4611686018427387904)) (runFD (As := [.double p5, .double (fX8_over_F (fX8_minus_F p3 p1) 4611686018427387904)]) (rest := []) (hK.1 2 _ rfl).2 ⟨hx, hb, hml, hown, hts⟩ (mX8_plus_F l D TY h0 p5 (fX8_over_F (fX8_minus_F p3 p1) 4611686018427387904) (fun r => r = fX8_plus_F p5 (fX8_over_F (fX8_minus_F p3 p1) 4611686018427387904)) rfl hw.1) (lw_meth q494) rfl rfl rfl q801 q492 q1587 (gz_fw36 hG) (gz_df20 hG) hd_X8_plus ⟨Nat.le_of_ble_eq_true rfl, Nat.le_of_ble_eq_true rfl⟩ (PR.V (q0 := 0) (ci := 2) hP [0] rfl hK hG hS rfl rfl) rfl rfl hl.1 rfl (lv_room (Nat.le_of_ble_eq_true rfl)) dX0_countOf_20 ⟨Nat.le_of_ble_eq_true rfl, Nat.le_of_ble_eq_true rfl⟩) ?_
  replace hw := hw.2
  refine lv_topd (fun x1 ex1 => ?_)
  replace hw := hw x1 ex1
  refine lv_dstore (lv' := [(7, .double x1), (0, .ref h0), (1, .double p1), (3, .double p3), (5, .double p5)]) hx hb dX0_countOf_25 hl (by decide) rfl (fun ls hl => ?_)
  refine lv_dload_n hx hb dX0_countOf_27 rfl (lv_at hl 3 rfl) ?_
  refine lv_dload_n hx hb dX0_countOf_28 rfl (lv_at hl 2 rfl) ?_
  obtain ⟨PJx2, hPJx2⟩ : ∃ P : Int32 → Prop, ∀ x2 : Int32, P x2 ↔ ∀ ls : Array Slot, lv_has ls 14 [(0, .ref h0), (1, .double p1), (3, .double p3), (7, .double x1)] → W p l e (headSpec (ws_ yX0_countOf cX0_countOf 14 (Option.some Jvm.ClassFile.FieldType.int)) ({ frames := 3, cells := 0, slots := 0, locals := 72 })).room s m ([.ref h0, .double p1, .double p3, .double p5] : List Value).toArray below meth c s.heap ([]) 0 0 (MQ below (vp_Si post) ([.ref h0, .double p1, .double p3, .double p5] : List Value).toArray s 0 0 (fun _ => False)) (F0 m 38 ls [.int x2]) := ⟨_, fun _ => Iff.rfl⟩
  have hjx2 : ∀ x2 : Int32, x2 = (if Dge p3 p1 then 1 else 0) → PJx2 x2 := by
    intro x2 ex2
    rw [hPJx2]
    intro ls hl
    replace hw := hw x2 ex2
    refine lv_istore (lv' := [(9, .int x2), (0, .ref h0), (1, .double p1), (3, .double p3), (7, .double x1)]) hx hb dX0_countOf_38 hl (by decide) rfl (fun ls hl => ?_)
    refine lv_iconst (v := 0) hx hb dX0_countOf_40 (by decide) ?_
    refine lv_istore (lv' := [(10, .int 0), (9, .int x2), (0, .ref h0), (1, .double p1), (3, .double p3), (7, .double x1)]) hx hb dX0_countOf_41 hl (by decide) rfl (fun ls hl => ?_)
    refine lv_iconst (v := 1) hx hb dX0_countOf_43 (by decide) ?_
    refine lv_istore (lv' := [(11, .int 1), (10, .int 0), (9, .int x2), (0, .ref h0), (1, .double p1), (3, .double p3), (7, .double x1)]) hx hb dX0_countOf_44 hl (by decide) rfl (fun ls hl => ?_)
    obtain ⟨n4, hw⟩ := hw
    exact bX0_countOf_F_46 h0 p1 p3 p5 post  hx hb hr hlocks hml hown hts hK hG hS hP n4 x1 x2 0 1 hw _ (lv_sub hl [3, 4, 5, 6, 2, 1, 0] rfl)
  replace hjx2 := hjx2 _ rfl
  refine lx_dllt (tgt := 37) hx hb dX0_countOf_29 dX0_countOf_30 (by decide) (fun c3 => ?_) (fun c3 => ?_)
  · replace hjx2 := pf_f (P := PJx2) c3 hjx2
    refine lv_iconst (v := 0) hx hb dX0_countOf_37 (by decide) ?_
    exact (hPJx2 _).1 hjx2 _ (lv_sub hl [1, 2, 3, 0] rfl)
  · replace hjx2 := pf_t (P := PJx2) c3 hjx2
    refine lv_iconst (v := 1) hx hb dX0_countOf_33 (by decide) ?_
    refine lv_goto (tgt := 38) hx hb dX0_countOf_34 (by decide) ?_
    exact (hPJx2 _).1 hjx2 _ (lv_sub hl [1, 2, 3, 0] rfl)
