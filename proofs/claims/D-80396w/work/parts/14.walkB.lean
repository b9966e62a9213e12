def fJ2_ulp (p0 : UInt64) : UInt64 := lt_ (fJ2_getExponent p0) (fun x1 : Int32 => if x1 = (-1023) then 1 else (if x1 = 1024 then (absD p0) else (lt_ (x1 - 52) (fun x4 : Int32 => lt_ (if x4 < (-1022) then ((jshl 1 (x4 - (-1074))).toUInt64) else (fJ2_powerOfTwoD x4)) (fun x5 : UInt64 => x5)))))
def oJ2_ulp (p0 : UInt64) : Prop := ∀ x1 : Int32, x1 = fJ2_getExponent p0 → ((x1 = (-1023)) → True) ∧ (¬ (x1 = (-1023)) → ((x1 = 1024) → ((vf_n64 p0))) ∧ (¬ (x1 = 1024) → ∀ x4 : Int32, x4 = x1 - 52 → ((x4 < (-1022)) → (vn_snl2d (jshl 1 (x4 - (-1074))) = false)) ∧ (¬ (x4 < (-1022)) → (oJ2_powerOfTwoD x4))))
set_option maxHeartbeats 4000000 in
set_option maxRecDepth 100000 in
theorem mJ2_ulp (l : Launch) (D : va_G) (TY : Nat → ClassId) (p0 : UInt64) (post : UInt64 → Prop) (hw : post (fJ2_ulp p0)) (hok : oJ2_ulp p0) : Met l yJ2_ulp (ws_ yJ2_ulp cJ2_ulp 3 (Option.some Jvm.ClassFile.FieldType.double)) ({ frames := 2, cells := 0, slots := 0, locals := 36 }) (PR D TY [.double p0] []) (vp_Sd post) 0 0 (fun _ => False) := by
  refine ofWF (cc := cJ2_ulp) (maxL := 3) (ret := (Option.some Jvm.ClassFile.FieldType.double)) (by decide +kernel) rfl ?_
  intro p e s m args below meth c s₁ B hml hv
  obtain ⟨rfl, hP, hK, hG⟩ := hv
  have hx := B.exec
  have hb := B.bytes
  have hr := B.returns
  have hts0 := atoms_spec (ws := ws_ yJ2_ulp cJ2_ulp 3 (Option.some Jvm.ClassFile.FieldType.double)) B.pre
  have hts : ∀ w ∈ lw_all, w.before _ s = true := fun w h => hts0 w (List.mem_cons_of_mem _ h)
  have hown : s.vm.findClass RJ2 = some m.cls := findClass_of_methodNamed B.named
  have hlocks := B.notSynchronized
  have hS : va_S (fun _ => False) s.heap s.heap [] := va_S.rf
  have hl := lv_entry ([.double p0]) (n := 3) (Nat.le_of_ble_eq_true rfl)
  rw [lg_entry_eq]
  generalize (lg_sl ([.double p0]) ++ List.replicate (3 - (lg_sl ([.double p0])).length) Slot.unset).toArray = ls at hl ⊢
  have hl : lv_has ls 3 [(0, .double p0)] := hl
  unfold fJ2_ulp at hw
  unfold oJ2_ulp at hok
  refine lv_dload_n hx hb dJ2_ulp_0 rfl (lv_at hl 0 rfl) ?_
  refine cSi (v := fJ2_getExponent p0) (W.runS (As := [.double p0]) (rest := []) ⟨hx, hb, hml, hown, hts⟩ (mJ2_getExponent l D TY p0 (fun r => r = fJ2_getExponent p0) rfl) (va_cwS 1 hts (lw_S q408 q153 q54 q154) rfl rfl rfl hd_J2_getExponent ⟨Nat.le_of_ble_eq_true rfl, Nat.le_of_ble_eq_true rfl⟩) (PR.S hP [] rfl hK hG hS) rfl rfl hl.1 rfl (lv_room (Nat.le_of_ble_eq_true rfl)) dJ2_ulp_1 ⟨Nat.le_of_ble_eq_true rfl, Nat.le_of_ble_eq_true rfl⟩) ?_
  refine lv_topi (fun x1 ex1 => ?_)
  replace hw := pf_let (P := post) hw x1 ex1
  replace hok := hok x1 ex1
  refine lv_istore_n (lv' := [(2, .int x1), (0, .double p0)]) hx hb dJ2_ulp_4 rfl hl (by decide) rfl (fun ls hl => ?_)
  refine lv_iload_n hx hb dJ2_ulp_5 rfl (lv_at hl 0 rfl) ?_
  by_cases c2 : x1 = (-1023)
  · replace hw := pf_t (P := post) c2 hw
    refine lv_lookup (tgt := 39) (off := 33) hx hb dJ2_ulp_6 (by decide) (by rw [c2]; rfl) (by decide) ?_
    refine lv_ldc2d (v := 1) hx hb hown (hts _ q410) dJ2_ulp_39 ?_
    refine lv_goto (tgt := 102) hx hb dJ2_ulp_42 (by decide) ?_
    exact W.dret (v := 1) hx hb hr (fun t ht hW => ⟨_, rfl, hw, ht⟩) (fun q h => nomatch h) dJ2_ulp_102
  · replace hw := pf_f (P := post) c2 hw
    replace hok := hok.2 c2
    by_cases c3 : x1 = 1024
    · replace hw := pf_t (P := post) c3 hw
      replace hok := hok.1 c3
      refine lv_lookup (tgt := 32) (off := 26) hx hb dJ2_ulp_6 (by decide) (by rw [c3]; rfl) (by decide) ?_
      refine lv_dload_n hx hb dJ2_ulp_32 rfl (lv_at hl 1 rfl) ?_
      refine nv_absD hx hb (hml.trans hl.1.symm) hown (hts _ q409) (hts _ q334) (hts _ q335) (hts _ q54) hok (Nat.le_of_ble_eq_true rfl) (Nat.le_of_ble_eq_true rfl) (Nat.le_of_ble_eq_true rfl) (Nat.le_of_ble_eq_true rfl) dJ2_ulp_33 ?_
      refine lv_goto (tgt := 102) hx hb dJ2_ulp_36 (by decide) ?_
      exact W.dret (v := absD p0) hx hb hr (fun t ht hW => ⟨_, rfl, hw, ht⟩) (fun q h => nomatch h) dJ2_ulp_102
    · replace hw := pf_f (P := post) c3 hw
      replace hok := hok.2 c3
      refine lv_lookup (tgt := 45) (off := 39) hx hb dJ2_ulp_6 (by decide) (by rw [lv_osw c2 (show ((-1023) : Int32).toInt = -1023 by decide), lv_osw c3 (show (1024 : Int32).toInt = 1024 by decide)]; rfl) (by decide) ?_
      refine va_gets hx hb hG.ad hS hown (hts _ q177) (fun _ h => h) dJ2_ulp_45 ?_
      refine lv_if_ne (tgt := 73) hx hb dJ2_ulp_48 (by decide) (fun _ => ?_) (fun c7 => absurd c7 (by decide))
      refine lv_iload_n hx hb dJ2_ulp_73 rfl (lv_at hl 0 rfl) ?_
      refine lv_bipush (v := 52) hx hb dJ2_ulp_74 (by decide) ?_
      refine lv_isub hx hb dJ2_ulp_76 ?_
      refine lv_topi (fun x4 ex4 => ?_)
      replace hw := pf_let (P := post) hw x4 ex4
      replace hok := hok x4 ex4
      refine lv_istore_n (lv' := [(2, .int x4), (0, .double p0)]) hx hb dJ2_ulp_77 rfl hl (by decide) rfl (fun ls hl => ?_)
      refine lv_iload_n hx hb dJ2_ulp_78 rfl (lv_at hl 0 rfl) ?_
      refine lv_sipush (v := (-1022)) hx hb dJ2_ulp_79 (by decide) ?_
      obtain ⟨PJx5, hPJx5⟩ : ∃ P : UInt64 → Prop, ∀ x5 : UInt64, P x5 ↔ ∀ ls : Array Slot, lv_has ls 3 [] → W p l e (headSpec (ws_ yJ2_ulp cJ2_ulp 3 (Option.some Jvm.ClassFile.FieldType.double)) ({ frames := 2, cells := 0, slots := 0, locals := 36 })).room s m ([.double p0] : List Value).toArray below meth c s.heap ([]) 0 0 (MQ below (vp_Sd post) ([.double p0] : List Value).toArray s 0 0 (fun _ => False)) (F0 m 102 ls [.double x5]) := ⟨_, fun _ => Iff.rfl⟩
      have hox5 := hok
      have hjx5 : ∀ x5 : UInt64, x5 = (if x4 < (-1022) then ((jshl 1 (x4 - (-1074))).toUInt64) else (fJ2_powerOfTwoD x4)) → PJx5 x5 := by
        intro x5 ex5
        rw [hPJx5]
        intro ls hl
        replace hw := pf_let (P := post) hw x5 ex5
        exact W.dret (v := x5) hx hb hr (fun t ht hW => ⟨_, rfl, hw, ht⟩) (fun q h => nomatch h) dJ2_ulp_102
      replace hjx5 := hjx5 _ rfl
      refine lv_icmp_lt (tgt := 92) hx hb dJ2_ulp_82 (by decide) (fun c6 => ?_) (fun c6 => ?_)
      · replace hjx5 := pf_t (P := PJx5) c6 hjx5
        replace hox5 := hox5.1 c6
        refine lv_lconst (v := 1) hx hb dJ2_ulp_92 (by decide) ?_
        refine lv_iload_n hx hb dJ2_ulp_93 rfl (lv_at hl 0 rfl) ?_
        refine lv_sipush (v := (-1074)) hx hb dJ2_ulp_94 (by decide) ?_
        refine lv_isub hx hb dJ2_ulp_97 ?_
        refine lv_lshl (v := jshl 1 (x4 - (-1074))) hx hb dJ2_ulp_98 rfl ?_
        refine vn_l2d hx hb (hml.trans hl.1.symm) hown (hts _ q179) (hts _ q114) (hts _ q113) (hts _ q52) hox5 (Nat.le_of_ble_eq_true rfl) (Nat.le_of_ble_eq_true rfl) dJ2_ulp_99 ?_
        exact (hPJx5 _).1 hjx5 _ (lv_sub hl [] rfl)
      · replace hjx5 := pf_f (P := PJx5) c6 hjx5
        replace hox5 := hox5.2 c6
        refine lv_iload_n hx hb dJ2_ulp_85 rfl (lv_at hl 0 rfl) ?_
        refine cSd (v := fJ2_powerOfTwoD x4) (W.runS (As := [.int x4]) (rest := []) ⟨hx, hb, hml, hown, hts⟩ (mJ2_powerOfTwoD l D TY x4 (fun r => r = fJ2_powerOfTwoD x4) rfl hox5) (va_cwS 1 hts (lw_S q174 q175 q54 q176) rfl rfl rfl hd_J2_powerOfTwoD ⟨Nat.le_of_ble_eq_true rfl, Nat.le_of_ble_eq_true rfl⟩) (PR.S hP [] rfl hK hG hS) rfl rfl hl.1 rfl (lv_room (Nat.le_of_ble_eq_true rfl)) dJ2_ulp_86 ⟨Nat.le_of_ble_eq_true rfl, Nat.le_of_ble_eq_true rfl⟩) ?_
        refine lv_goto (tgt := 102) hx hb dJ2_ulp_89 (by decide) ?_
        exact (hPJx5 _).1 hjx5 _ (lv_sub hl [] rfl)

theorem hd_J2_getExponent_2 : yJ2_getExponent_2.cls ≠ "java/lang/invoke/MethodHandle" ∧ yJ2_getExponent_2.cls ≠ "java/lang/invoke/VarHandle" ∧ (parseMethodDescriptor yJ2_getExponent_2.desc).map (fun d => d.parameters.length) = some 1 := by decide +kernel
theorem hd_J2_powerOfTwoF : yJ2_powerOfTwoF.cls ≠ "java/lang/invoke/MethodHandle" ∧ yJ2_powerOfTwoF.cls ≠ "java/lang/invoke/VarHandle" ∧ (parseMethodDescriptor yJ2_powerOfTwoF.desc).map (fun d => d.parameters.length) = some 1 := by decide +kernel
def fJ2_ulp_2 (p0 : UInt32) : UInt32 := lt_ (fJ2_getExponent_2 p0) (fun x1 : Int32 => if x1 = (-127) then 1 else (if x1 = 128 then (absF p0) else (lt_ (x1 - 23) (fun x4 : Int32 => lt_ (if x4 < (-126) then ((kshl 1 (x4 - (-149))).toUInt32) else (fJ2_powerOfTwoF x4)) (fun x5 : UInt32 => x5)))))
def oJ2_ulp_2 (p0 : UInt32) : Prop := ∀ x1 : Int32, x1 = fJ2_getExponent_2 p0 → ((x1 = (-127)) → True) ∧ (¬ (x1 = (-127)) → ((x1 = 128) → ((vf_n32 p0))) ∧ (¬ (x1 = 128) → ∀ x4 : Int32, x4 = x1 - 23 → ((x4 < (-126)) → (vn_sni2f (kshl 1 (x4 - (-149))) = false)) ∧ (¬ (x4 < (-126)) → (oJ2_powerOfTwoF x4))))
set_option maxHeartbeats 4000000 in
set_option maxRecDepth 100000 in
theorem mJ2_ulp_2 (l : Launch) (D : va_G) (TY : Nat → ClassId) (p0 : UInt32) (post : UInt32 → Prop) (hw : post (fJ2_ulp_2 p0)) (hok : oJ2_ulp_2 p0) : Met l yJ2_ulp_2 (ws_ yJ2_ulp_2 cJ2_ulp_2 2 (Option.some Jvm.ClassFile.FieldType.float)) ({ frames := 2, cells := 0, slots := 0, locals := 35 }) (PR D TY [.float p0] []) (vp_Sf post) 0 0 (fun _ => False) := by
  refine ofWF (cc := cJ2_ulp_2) (maxL := 2) (ret := (Option.some Jvm.ClassFile.FieldType.float)) (by decide +kernel) rfl ?_
  intro p e s m args below meth c s₁ B hml hv
  obtain ⟨rfl, hP, hK, hG⟩ := hv
  have hx := B.exec
  have hb := B.bytes
  have hr := B.returns
  have hts0 := atoms_spec (ws := ws_ yJ2_ulp_2 cJ2_ulp_2 2 (Option.some Jvm.ClassFile.FieldType.float)) B.pre
  have hts : ∀ w ∈ lw_all, w.before _ s = true := fun w h => hts0 w (List.mem_cons_of_mem _ h)
  have hown : s.vm.findClass RJ2 = some m.cls := findClass_of_methodNamed B.named
  have hlocks := B.notSynchronized
  have hS : va_S (fun _ => False) s.heap s.heap [] := va_S.rf
  have hl := lv_entry ([.float p0]) (n := 2) (Nat.le_of_ble_eq_true rfl)
  rw [lg_entry_eq]
  generalize (lg_sl ([.float p0]) ++ List.replicate (2 - (lg_sl ([.float p0])).length) Slot.unset).toArray = ls at hl ⊢
  have hl : lv_has ls 2 [(0, .float p0)] := hl
  unfold fJ2_ulp_2 at hw
  unfold oJ2_ulp_2 at hok
  refine lv_fload_n hx hb dJ2_ulp_2_0 rfl (lv_at hl 0 rfl) ?_
  refine cSi (v := fJ2_getExponent_2 p0) (W.runS (As := [.float p0]) (rest := []) ⟨hx, hb, hml, hown, hts⟩ (mJ2_getExponent_2 l D TY p0 (fun r => r = fJ2_getExponent_2 p0) rfl) (va_cwS 1 hts (lw_S q419 q420 q54 q421) rfl rfl rfl hd_J2_getExponent_2 ⟨Nat.le_of_ble_eq_true rfl, Nat.le_of_ble_eq_true rfl⟩) (PR.S hP [] rfl hK hG hS) rfl rfl hl.1 rfl (lv_room (Nat.le_of_ble_eq_true rfl)) dJ2_ulp_2_1 ⟨Nat.le_of_ble_eq_true rfl, Nat.le_of_ble_eq_true rfl⟩) ?_
  refine lv_topi (fun x1 ex1 => ?_)
  replace hw := pf_let (P := post) hw x1 ex1
  replace hok := hok x1 ex1
  refine lv_istore_n (lv' := [(1, .int x1), (0, .float p0)]) hx hb dJ2_ulp_2_4 rfl hl (by decide) rfl (fun ls hl => ?_)
  refine lv_iload_n hx hb dJ2_ulp_2_5 rfl (lv_at hl 0 rfl) ?_
  by_cases c2 : x1 = (-127)
  · replace hw := pf_t (P := post) c2 hw
    refine lv_lookup (tgt := 39) (off := 33) hx hb dJ2_ulp_2_6 (by decide) (by rw [c2]; rfl) (by decide) ?_
    refine lv_ldcwf (v := 1) hx hb hown (hts _ q427) dJ2_ulp_2_39 ?_
    refine lv_goto (tgt := 99) hx hb dJ2_ulp_2_42 (by decide) ?_
    exact W.fret (v := 1) hx hb hr (fun t ht hW => ⟨_, rfl, hw, ht⟩) (fun q h => nomatch h) dJ2_ulp_2_99
  · replace hw := pf_f (P := post) c2 hw
    replace hok := hok.2 c2
    by_cases c3 : x1 = 128
    · replace hw := pf_t (P := post) c3 hw
      replace hok := hok.1 c3
      refine lv_lookup (tgt := 32) (off := 26) hx hb dJ2_ulp_2_6 (by decide) (by rw [c3]; rfl) (by decide) ?_
      refine lv_fload_n hx hb dJ2_ulp_2_32 rfl (lv_at hl 1 rfl) ?_
      refine nv_absF hx hb (hml.trans hl.1.symm) hown (hts _ q423) (hts _ q424) (hts _ q425) (hts _ q54) hok (Nat.le_of_ble_eq_true rfl) (Nat.le_of_ble_eq_true rfl) (Nat.le_of_ble_eq_true rfl) (Nat.le_of_ble_eq_true rfl) dJ2_ulp_2_33 ?_
      refine lv_goto (tgt := 99) hx hb dJ2_ulp_2_36 (by decide) ?_
      exact W.fret (v := absF p0) hx hb hr (fun t ht hW => ⟨_, rfl, hw, ht⟩) (fun q h => nomatch h) dJ2_ulp_2_99
    · replace hw := pf_f (P := post) c3 hw
      replace hok := hok.2 c3
      refine lv_lookup (tgt := 45) (off := 39) hx hb dJ2_ulp_2_6 (by decide) (by rw [lv_osw c2 (show ((-127) : Int32).toInt = -127 by decide), lv_osw c3 (show (128 : Int32).toInt = 128 by decide)]; rfl) (by decide) ?_
      refine va_gets hx hb hG.ad hS hown (hts _ q177) (fun _ h => h) dJ2_ulp_2_45 ?_
      refine lv_if_ne (tgt := 71) hx hb dJ2_ulp_2_48 (by decide) (fun _ => ?_) (fun c7 => absurd c7 (by decide))
      refine lv_iload_n hx hb dJ2_ulp_2_71 rfl (lv_at hl 0 rfl) ?_
      refine lv_bipush (v := 23) hx hb dJ2_ulp_2_72 (by decide) ?_
      refine lv_isub hx hb dJ2_ulp_2_74 ?_
      refine lv_topi (fun x4 ex4 => ?_)
      replace hw := pf_let (P := post) hw x4 ex4
      replace hok := hok x4 ex4
      refine lv_istore_n (lv' := [(1, .int x4), (0, .float p0)]) hx hb dJ2_ulp_2_75 rfl hl (by decide) rfl (fun ls hl => ?_)
      refine lv_iload_n hx hb dJ2_ulp_2_76 rfl (lv_at hl 0 rfl) ?_
      refine lv_bipush (v := (-126)) hx hb dJ2_ulp_2_77 (by decide) ?_
      obtain ⟨PJx5, hPJx5⟩ : ∃ P : UInt32 → Prop, ∀ x5 : UInt32, P x5 ↔ ∀ ls : Array Slot, lv_has ls 2 [] → W p l e (headSpec (ws_ yJ2_ulp_2 cJ2_ulp_2 2 (Option.some Jvm.ClassFile.FieldType.float)) ({ frames := 2, cells := 0, slots := 0, locals := 35 })).room s m ([.float p0] : List Value).toArray below meth c s.heap ([]) 0 0 (MQ below (vp_Sf post) ([.float p0] : List Value).toArray s 0 0 (fun _ => False)) (F0 m 99 ls [.float x5]) := ⟨_, fun _ => Iff.rfl⟩
      have hox5 := hok
      have hjx5 : ∀ x5 : UInt32, x5 = (if x4 < (-126) then ((kshl 1 (x4 - (-149))).toUInt32) else (fJ2_powerOfTwoF x4)) → PJx5 x5 := by
        intro x5 ex5
        rw [hPJx5]
        intro ls hl
        replace hw := pf_let (P := post) hw x5 ex5
        exact W.fret (v := x5) hx hb hr (fun t ht hW => ⟨_, rfl, hw, ht⟩) (fun q h => nomatch h) dJ2_ulp_2_99
      replace hjx5 := hjx5 _ rfl
      refine lv_icmp_lt (tgt := 89) hx hb dJ2_ulp_2_79 (by decide) (fun c6 => ?_) (fun c6 => ?_)
      · replace hjx5 := pf_t (P := PJx5) c6 hjx5
        replace hox5 := hox5.1 c6
        refine lv_iconst (v := 1) hx hb dJ2_ulp_2_89 (by decide) ?_
        refine lv_iload_n hx hb dJ2_ulp_2_90 rfl (lv_at hl 0 rfl) ?_
        refine lv_sipush (v := (-149)) hx hb dJ2_ulp_2_91 (by decide) ?_
        refine lv_isub hx hb dJ2_ulp_2_94 ?_
        refine lv_ishl hx hb dJ2_ulp_2_95 ?_
        refine vn_i2f hx hb (hml.trans hl.1.symm) hown (hts _ q386) (hts _ q126) (hts _ q125) (hts _ q53) hox5 (Nat.le_of_ble_eq_true rfl) (Nat.le_of_ble_eq_true rfl) dJ2_ulp_2_96 ?_
        exact (hPJx5 _).1 hjx5 _ (lv_sub hl [] rfl)
      · replace hjx5 := pf_f (P := PJx5) c6 hjx5
        replace hox5 := hox5.2 c6
        refine lv_iload_n hx hb dJ2_ulp_2_82 rfl (lv_at hl 0 rfl) ?_
        refine cSf (v := fJ2_powerOfTwoF x4) (W.runS (As := [.int x4]) (rest := []) ⟨hx, hb, hml, hown, hts⟩ (mJ2_powerOfTwoF l D TY x4 (fun r => r = fJ2_powerOfTwoF x4) rfl hox5) (va_cwS 1 hts (lw_S q428 q429 q54 q430) rfl rfl rfl hd_J2_powerOfTwoF ⟨Nat.le_of_ble_eq_true rfl, Nat.le_of_ble_eq_true rfl⟩) (PR.S hP [] rfl hK hG hS) rfl rfl hl.1 rfl (lv_room (Nat.le_of_ble_eq_true rfl)) dJ2_ulp_2_83 ⟨Nat.le_of_ble_eq_true rfl, Nat.le_of_ble_eq_true rfl⟩) ?_
        refine lv_goto (tgt := 99) hx hb dJ2_ulp_2_86 (by decide) ?_
        exact (hPJx5 _).1 hjx5 _ (lv_sub hl [] rfl)

def fJ5_rint (p0 : UInt64) : UInt64 := lt_ (csignD FP.dconst1 p0) (fun x1 : UInt64 => lt_ (absD p0) (fun x2 : UInt64 => lt_ (if Dlt x2 4841369599423283200 then (lt_ (FP.dsub (FP.dadd 4841369599423283200 x2) 4841369599423283200) (fun x5 : UInt64 => x5)) else x2) (fun x3 : UInt64 => FP.dmul x1 x3)))
def oJ5_rint (p0 : UInt64) : Prop := ((vf_n64 p0)) ∧ (∀ x1 : UInt64, x1 = csignD FP.dconst1 p0 → ((vf_n64 p0)) ∧ (∀ x2 : UInt64, x2 = absD p0 → (((Dlt x2 4841369599423283200) → (vf_n64 (FP.dadd 4841369599423283200 x2)) ∧ (vf_n64 (FP.dsub (FP.dadd 4841369599423283200 x2) 4841369599423283200))) ∧ (¬ (Dlt x2 4841369599423283200) → True)) ∧ (∀ x3 : UInt64, x3 = (if Dlt x2 4841369599423283200 then (lt_ (FP.dsub (FP.dadd 4841369599423283200 x2) 4841369599423283200) (fun x5 : UInt64 => x5)) else x2) → (vf_n64 (FP.dmul x1 x3)))))
set_option maxHeartbeats 4000000 in
set_option maxRecDepth 100000 in
theorem mJ5_rint (l : Launch) (D : va_G) (TY : Nat → ClassId) (p0 : UInt64) (post : UInt64 → Prop) (hw : post (fJ5_rint p0)) (hok : oJ5_rint p0) : Met l yJ5_rint (ws_ yJ5_rint cJ5_rint 6 (Option.some Jvm.ClassFile.FieldType.double)) ({ frames := 1, cells := 0, slots := 0, locals := 23 }) (PR D TY [.double p0] []) (vp_Sd post) 0 0 (fun _ => False) := by
  refine ofWF (cc := cJ5_rint) (maxL := 6) (ret := (Option.some Jvm.ClassFile.FieldType.double)) (by decide +kernel) rfl ?_
  intro p e s m args below meth c s₁ B hml hv
  obtain ⟨rfl, hP, hK, hG⟩ := hv
  have hx := B.exec
  have hb := B.bytes
  have hr := B.returns
  have hts0 := atoms_spec (ws := ws_ yJ5_rint cJ5_rint 6 (Option.some Jvm.ClassFile.FieldType.double)) B.pre
  have hts : ∀ w ∈ lw_all, w.before _ s = true := fun w h => hts0 w (List.mem_cons_of_mem _ h)
  have hown : s.vm.findClass RJ5 = some m.cls := findClass_of_methodNamed B.named
  have hlocks := B.notSynchronized
  have hS : va_S (fun _ => False) s.heap s.heap [] := va_S.rf
  have hl := lv_entry ([.double p0]) (n := 6) (Nat.le_of_ble_eq_true rfl)
  rw [lg_entry_eq]
  generalize (lg_sl ([.double p0]) ++ List.replicate (6 - (lg_sl ([.double p0])).length) Slot.unset).toArray = ls at hl ⊢
  have hl : lv_has ls 6 [(0, .double p0)] := hl
  unfold fJ5_rint at hw
  unfold oJ5_rint at hok
  refine lv_ldc2d (v := 4841369599423283200) hx hb hown (hts _ q609) dJ5_rint_0 ?_
  refine lv_dstore_n (lv' := [(2, .double 4841369599423283200), (0, .double p0)]) hx hb dJ5_rint_3 rfl hl (by decide) rfl (fun ls hl => ?_)
  refine lv_dconst1 hx hb dJ5_rint_4 ?_
  refine lv_dload_n hx hb dJ5_rint_5 rfl (lv_at hl 1 rfl) ?_
  refine nv_csign hx hb (hml.trans hl.1.symm) hown (hts _ q610) (hts _ q329) (hts _ q330) (hts _ q54) hok.1 (Nat.le_of_ble_eq_true rfl) (Nat.le_of_ble_eq_true rfl) (Nat.le_of_ble_eq_true rfl) (Nat.le_of_ble_eq_true rfl) dJ5_rint_6 ?_
  replace hok := hok.2
  refine lv_topd (fun x1 ex1 => ?_)
  replace hw := pf_let (P := post) hw x1 ex1
  replace hok := hok x1 ex1
  refine lv_dstore (lv' := [(4, .double x1), (2, .double 4841369599423283200), (0, .double p0)]) hx hb dJ5_rint_9 hl (by decide) rfl (fun ls hl => ?_)
  refine lv_dload_n hx hb dJ5_rint_11 rfl (lv_at hl 2 rfl) ?_
  refine nv_absD hx hb (hml.trans hl.1.symm) hown (hts _ q611) (hts _ q334) (hts _ q335) (hts _ q54) hok.1 (Nat.le_of_ble_eq_true rfl) (Nat.le_of_ble_eq_true rfl) (Nat.le_of_ble_eq_true rfl) (Nat.le_of_ble_eq_true rfl) dJ5_rint_12 ?_
  replace hok := hok.2
  refine lv_topd (fun x2 ex2 => ?_)
  replace hw := pf_let (P := post) hw x2 ex2
  replace hok := hok x2 ex2
  refine lv_dstore_n (lv' := [(0, .double x2), (4, .double x1), (2, .double 4841369599423283200)]) hx hb dJ5_rint_15 rfl hl (by decide) rfl (fun ls hl => ?_)
  refine lv_dload_n hx hb dJ5_rint_16 rfl (lv_at hl 0 rfl) ?_
  refine lv_dload_n hx hb dJ5_rint_17 rfl (lv_at hl 2 rfl) ?_
  obtain ⟨PJx3, hPJx3⟩ : ∃ P : UInt64 → Prop, ∀ x3 : UInt64, P x3 ↔ ∀ ls : Array Slot, lv_has ls 6 [(0, .double x3), (4, .double x1)] → W p l e (headSpec (ws_ yJ5_rint cJ5_rint 6 (Option.some Jvm.ClassFile.FieldType.double)) ({ frames := 1, cells := 0, slots := 0, locals := 23 })).room s m ([.double p0] : List Value).toArray below meth c s.heap ([]) 0 0 (MQ below (vp_Sd post) ([.double p0] : List Value).toArray s 0 0 (fun _ => False)) (F0 m 28 ls []) := ⟨_, fun _ => Iff.rfl⟩
  have hox3 := hok.1
  have hjx3 : ∀ x3 : UInt64, x3 = (if Dlt x2 4841369599423283200 then (lt_ (FP.dsub (FP.dadd 4841369599423283200 x2) 4841369599423283200) (fun x5 : UInt64 => x5)) else x2) → PJx3 x3 := by
    intro x3 ex3
    rw [hPJx3]
    intro ls hl
    replace hw := pf_let (P := post) hw x3 ex3
    replace hok := hok.2 x3 ex3
    refine lv_dload hx hb dJ5_rint_28 (lv_at hl 1 rfl) ?_
    refine lv_dload_n hx hb dJ5_rint_30 rfl (lv_at hl 0 rfl) ?_
    refine lv_dmul hx hb dJ5_rint_31 hok ?_
    exact W.dret (v := FP.dmul x1 x3) hx hb hr (fun t ht hW => ⟨_, rfl, hw, ht⟩) (fun q h => nomatch h) dJ5_rint_32
  replace hjx3 := hjx3 _ rfl
  refine lx_dgge (tgt := 28) hx hb dJ5_rint_18 dJ5_rint_19 (by decide) (fun c4 => ?_) (fun c4 => ?_)
  · replace hjx3 := pf_f (P := PJx3) c4 hjx3
    exact (hPJx3 _).1 hjx3 _ (lv_sub hl [0, 1] rfl)
  · replace hjx3 := pf_t (P := PJx3) c4 hjx3
    replace hox3 := hox3.1 c4
    refine lv_dload_n hx hb dJ5_rint_22 rfl (lv_at hl 2 rfl) ?_
    refine lv_dload_n hx hb dJ5_rint_23 rfl (lv_at hl 0 rfl) ?_
    refine lv_dadd hx hb dJ5_rint_24 hox3.1 ?_
    replace hox3 := hox3.2
    refine lv_dload_n hx hb dJ5_rint_25 rfl (lv_at hl 2 rfl) ?_
    refine lv_dsub hx hb dJ5_rint_26 hox3 ?_
    refine lv_topd (fun x5 ex5 => ?_)
    replace hjx3 := pf_let (P := PJx3) hjx3 x5 ex5
    refine lv_dstore_n (lv' := [(0, .double x5), (4, .double x1), (2, .double 4841369599423283200)]) hx hb dJ5_rint_27 rfl hl (by decide) rfl (fun ls hl => ?_)
    exact (hPJx3 _).1 hjx3 _ (lv_sub hl [0, 1] rfl)
