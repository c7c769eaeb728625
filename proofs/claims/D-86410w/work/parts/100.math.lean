/-! the JDK's Math. Printed by gen/exact.py -/
theorem cdJ13_max : yJ13_max.cls ≠ "java/lang/invoke/MethodHandle" ∧ yJ13_max.cls ≠ "java/lang/invoke/VarHandle" ∧ (parseMethodDescriptor yJ13_max.desc).map (fun d => d.parameters.length) = some 2 := by decide +kernel
def wJ13_max (p0 : Int32) (p1 : Int32) (K : Int32 → Prop) : Prop := ((p0 < p1 → K p1) ∧ (¬ p0 < p1 → K p0))
set_option maxRecDepth 20000 in
theorem tJ13_max {l : Launch} {D : va_G} {ta : Nat → ClassId} {p0 : Int32} {p1 : Int32} {K : Int32 → Prop} (hlt : l.stackTraces = false) (h : wJ13_max p0 p1 K) : SMi0 l D ta yJ13_max cJ13_max 2 FieldType.int 1 [.int p0, .int p1] [] [] 0 0 K := by
  refine x_sti0 hlt (by decide +kernel) (Nat.le_of_ble_eq_true rfl) (fun g G hl hD hT Q => ?_)
  subst hl; subst hD; subst hT
  unfold wJ13_max at h
  show X g 2 0 [(0, .int p0), (1, .int p1)] [] [] 0 0
  refine x_iload_n G rfl dJ13_max_0 0 rfl ?_
  refine x_iload_n G rfl dJ13_max_1 1 rfl ?_
  refine x_icmp_lt (tgt := 9) G dJ13_max_2 rfl (fun c => ?_) (fun c => ?_)
  · replace h := h.1 c
    refine x_iload_n G rfl dJ13_max_9 1 rfl ?_
    exact x_reti0 G Q dJ13_max_10 rfl  h XSub.rf (Nat.le_refl _) (Nat.le_refl _)
  · replace h := h.2 c
    refine x_iload_n G rfl dJ13_max_5 0 rfl ?_
    refine x_goto (tgt := 10) G dJ13_max_6 rfl ?_
    exact x_reti0 G Q dJ13_max_10 rfl  h XSub.rf (Nat.le_refl _) (Nat.le_refl _)
theorem cdJ13_getExponent : yJ13_getExponent.cls ≠ "java/lang/invoke/MethodHandle" ∧ yJ13_getExponent.cls ≠ "java/lang/invoke/VarHandle" ∧ (parseMethodDescriptor yJ13_getExponent.desc).map (fun d => d.parameters.length) = some 1 := by decide +kernel
def wJ13_getExponent (p0 : UInt64) (K : Int32 → Prop) : Prop := K (((jlshr (p0.toInt64 &&& (9218868437227405312 : Int64)) (52 : Int32)) - (1023 : Int64)).toInt32)
set_option maxRecDepth 20000 in
theorem tJ13_getExponent {l : Launch} {D : va_G} {ta : Nat → ClassId} {p0 : UInt64} {K : Int32 → Prop} (hlt : l.stackTraces = false) (h : wJ13_getExponent p0 K) : SMi0 l D ta yJ13_getExponent cJ13_getExponent 2 FieldType.int 1 [.double p0] [] [] 0 0 K := by
  refine x_sti0 hlt (by decide +kernel) (Nat.le_of_ble_eq_true rfl) (fun g G hl hD hT Q => ?_)
  subst hl; subst hD; subst hT
  unfold wJ13_getExponent at h
  show X g 2 0 [(0, .double p0)] [] [] 0 0
  refine x_dload_n G rfl dJ13_getExponent_0 0 rfl ?_
  refine x_nd2l G q324 q234 q233 q84 (by decide) (Nat.le_of_ble_eq_true rfl) dJ13_getExponent_1 ?_
  refine x_ldc2 G q804 dJ13_getExponent_4 ?_
  refine x_land G dJ13_getExponent_7 ?_
  refine x_bipush (v := (52 : Int32)) G dJ13_getExponent_8 (by decide) ?_
  refine x_lshr G dJ13_getExponent_10 ?_
  refine x_ldc2 G q805 dJ13_getExponent_11 ?_
  refine x_lsub G dJ13_getExponent_14 ?_
  refine x_l2i G dJ13_getExponent_15 ?_
  exact x_reti0 G Q dJ13_getExponent_16 rfl  h XSub.rf (Nat.le_refl _) (Nat.le_refl _)
theorem cdJ13_min_3 : yJ13_min_3.cls ≠ "java/lang/invoke/MethodHandle" ∧ yJ13_min_3.cls ≠ "java/lang/invoke/VarHandle" ∧ (parseMethodDescriptor yJ13_min_3.desc).map (fun d => d.parameters.length) = some 2 := by decide +kernel
def wJ13_min_3 (p0 : Int32) (p1 : Int32) (K : Int32 → Prop) : Prop := ((p1 < p0 → K p1) ∧ (¬ p1 < p0 → K p0))
set_option maxRecDepth 20000 in
theorem tJ13_min_3 {l : Launch} {D : va_G} {ta : Nat → ClassId} {p0 : Int32} {p1 : Int32} {K : Int32 → Prop} (hlt : l.stackTraces = false) (h : wJ13_min_3 p0 p1 K) : SMi0 l D ta yJ13_min_3 cJ13_min_3 2 FieldType.int 1 [.int p0, .int p1] [] [] 0 0 K := by
  refine x_sti0 hlt (by decide +kernel) (Nat.le_of_ble_eq_true rfl) (fun g G hl hD hT Q => ?_)
  subst hl; subst hD; subst hT
  unfold wJ13_min_3 at h
  show X g 2 0 [(0, .int p0), (1, .int p1)] [] [] 0 0
  refine x_iload_n G rfl dJ13_min_3_0 0 rfl ?_
  refine x_iload_n G rfl dJ13_min_3_1 1 rfl ?_
  refine x_icmp_gt (tgt := 9) G dJ13_min_3_2 rfl (fun c => ?_) (fun c => ?_)
  · replace h := h.1 c
    refine x_iload_n G rfl dJ13_min_3_9 1 rfl ?_
    exact x_reti0 G Q dJ13_min_3_10 rfl  h XSub.rf (Nat.le_refl _) (Nat.le_refl _)
  · replace h := h.2 c
    refine x_iload_n G rfl dJ13_min_3_5 0 rfl ?_
    refine x_goto (tgt := 10) G dJ13_min_3_6 rfl ?_
    exact x_reti0 G Q dJ13_min_3_10 rfl  h XSub.rf (Nat.le_refl _) (Nat.le_refl _)
theorem cdJ14_rint : yJ14_rint.cls ≠ "java/lang/invoke/MethodHandle" ∧ yJ14_rint.cls ≠ "java/lang/invoke/VarHandle" ∧ (parseMethodDescriptor yJ14_rint.desc).map (fun d => d.parameters.length) = some 1 := by decide +kernel
def wJ14_rint (p0 : UInt64) (K : UInt64 → Prop) : Prop := (FP.dIsNaN p0 = false ∧ (∀ r_1 : UInt64, r_1 = (mCps FP.dconst1 p0) → (vf_n64 p0 ∧ (∀ r_2 : UInt64, r_2 = (mAbs p0) → ((¬ dlt r_2 (4841369599423283200 : UInt64) → (vf_n64 (FP.dmul r_1 r_2) ∧ K (FP.dmul r_1 r_2))) ∧ (dlt r_2 (4841369599423283200 : UInt64) → (vf_n64 (FP.dadd (4841369599423283200 : UInt64) r_2) ∧ (vf_n64 (FP.dsub (FP.dadd (4841369599423283200 : UInt64) r_2) (4841369599423283200 : UInt64)) ∧ (∀ r_3 : UInt64, r_3 = (FP.dsub (FP.dadd (4841369599423283200 : UInt64) r_2) (4841369599423283200 : UInt64)) → (vf_n64 (FP.dmul r_1 r_3) ∧ K (FP.dmul r_1 r_3)))))))))))
set_option maxRecDepth 20000 in
theorem tJ14_rint {l : Launch} {D : va_G} {ta : Nat → ClassId} {p0 : UInt64} {K : UInt64 → Prop} (hlt : l.stackTraces = false) (h : wJ14_rint p0 K) : SMd0 l D ta yJ14_rint cJ14_rint 6 FieldType.double 1 [.double p0] [] [] 0 0 K := by
  refine x_std0 hlt (by decide +kernel) (Nat.le_of_ble_eq_true rfl) (fun g G hl hD hT Q => ?_)
  subst hl; subst hD; subst hT
  unfold wJ14_rint at h
  show X g 6 0 [(0, .double p0)] [] [] 0 0
  refine x_ldc2d G q689 dJ14_rint_0 ?_
  refine x_dstore_n (lv' := [(2, .double (4841369599423283200 : UInt64)), (0, .double p0)]) G rfl dJ14_rint_3 (by decide) rfl ?_
  refine x_dconst1 G dJ14_rint_4 ?_
  refine x_dload_n G rfl dJ14_rint_5 1 rfl ?_
  obtain ⟨hz0, h⟩ := h
  refine x_ovD2 G q690 q680 q85 q681 rfl rfl rmCps_row (rmCps_run hz0) (by decide) (Nat.le_of_ble_eq_true rfl) dJ14_rint_6 ?_
  refine x_topd (fun r_1 er_1 => ?_)
  replace h := h r_1 er_1
  refine x_dstore (lv' := [(4, .double r_1), (2, .double (4841369599423283200 : UInt64)), (0, .double p0)]) G dJ14_rint_9 (by decide) rfl ?_
  refine x_dload_n G rfl dJ14_rint_11 2 rfl ?_
  obtain ⟨hz0, h⟩ := h
  refine x_ovD1 G q691 q322 q85 q323 rfl rfl rmAbs_row (rmAbs_run hz0) (by decide) (Nat.le_of_ble_eq_true rfl) dJ14_rint_12 ?_
  refine x_topd (fun r_2 er_2 => ?_)
  replace h := h r_2 er_2
  refine x_dstore_n (lv' := [(0, .double r_2), (4, .double r_1), (2, .double (4841369599423283200 : UInt64))]) G rfl dJ14_rint_15 (by decide) rfl ?_
  refine x_dload_n G rfl dJ14_rint_16 0 rfl ?_
  refine x_dload_n G rfl dJ14_rint_17 2 rfl ?_
  refine x_dcmpg_ge (tgt := 28) G dJ14_rint_18 dJ14_rint_19 rfl (fun c => ?_) (fun c => ?_)
  · replace h := h.1 c
    refine x_dload G dJ14_rint_28 1 rfl ?_
    refine x_dload_n G rfl dJ14_rint_30 0 rfl ?_
    obtain ⟨hz, h⟩ := h
    refine x_dmul G dJ14_rint_31 hz ?_
    exact x_retd0 G Q dJ14_rint_32  h XSub.rf (Nat.le_refl _) (Nat.le_refl _)
  · replace h := h.2 c
    refine x_dload_n G rfl dJ14_rint_22 2 rfl ?_
    refine x_dload_n G rfl dJ14_rint_23 0 rfl ?_
    obtain ⟨hz, h⟩ := h
    refine x_dadd G dJ14_rint_24 hz ?_
    refine x_dload_n G rfl dJ14_rint_25 2 rfl ?_
    obtain ⟨hz, h⟩ := h
    refine x_dsub G dJ14_rint_26 hz ?_
    refine x_topd (fun r_3 er_3 => ?_)
    replace h := h r_3 er_3
    refine x_dstore_n (lv' := [(0, .double r_3), (4, .double r_1), (2, .double (4841369599423283200 : UInt64))]) G rfl dJ14_rint_27 (by decide) rfl ?_
    refine x_dload G dJ14_rint_28 1 rfl ?_
    refine x_dload_n G rfl dJ14_rint_30 0 rfl ?_
    obtain ⟨hz, h⟩ := h
    refine x_dmul G dJ14_rint_31 hz ?_
    exact x_retd0 G Q dJ14_rint_32  h XSub.rf (Nat.le_refl _) (Nat.le_refl _)
theorem cdJ14_floorOrCeil : yJ14_floorOrCeil.cls ≠ "java/lang/invoke/MethodHandle" ∧ yJ14_floorOrCeil.cls ≠ "java/lang/invoke/VarHandle" ∧ (parseMethodDescriptor yJ14_floorOrCeil.desc).map (fun d => d.parameters.length) = some 4 := by decide +kernel
def wJ14_floorOrCeil_J69 (p0 : UInt64) (p3 : UInt64) (K : UInt64 → Prop) : Int32 → Prop := fun (v8_2 : Int32) => (∀ y_3 : Int64, y_3 = p0.toInt64 → (∀ y_4 : Int64, y_4 = (jlshr (4503599627370495 : Int64) v8_2) → ((¬ (y_4 &&& y_3) = (0 : Int64) → (vn_snl2d (y_3 &&& (y_4 ^^^ (-1 : Int64))) = false ∧ (∀ r_5 : UInt64, r_5 = (y_3 &&& (y_4 ^^^ (-1 : Int64))).toUInt64 → (vf_n64 (FP.dmul p3 p0) ∧ ((¬ dgt (FP.dmul p3 p0) FP.dconst0 → K r_5) ∧ (dgt (FP.dmul p3 p0) FP.dconst0 → (vf_n64 (FP.dadd r_5 p3) ∧ (∀ r_6 : UInt64, r_6 = (FP.dadd r_5 p3) → K r_6)))))))) ∧ ((y_4 &&& y_3) = (0 : Int64) → K p0))))
def wJ14_floorOrCeil (p0 : UInt64) (p1 : UInt64) (p2 : UInt64) (p3 : UInt64) (K : UInt64 → Prop) : Prop := (wJ13_getExponent p0 (fun (r_1 : Int32) => (((0 : Int32) ≤ r_1 → ((r_1 < (52 : Int32) → (wJ14_floorOrCeil_J69 p0 p3 K r_1)) ∧ (¬ r_1 < (52 : Int32) → K p0))) ∧ (¬ (0 : Int32) ≤ r_1 → ((¬ deq p0 FP.dconst0 → ((¬ dlt p0 FP.dconst0 → K p2) ∧ (dlt p0 FP.dconst0 → K p1))) ∧ (deq p0 FP.dconst0 → K p0))))))
set_option maxRecDepth 20000 in
theorem kJ14_floorOrCeil_J69 {g : XG} {p0 : UInt64} {p3 : UInt64} {K : UInt64 → Prop} (G : XO g RJ14 cJ14_floorOrCeil 15 2 0 0) (Q : XQd0 g FieldType.double 0 0 [] K) : ∀ (v8_2 : Int32), wJ14_floorOrCeil_J69 p0 p3 K v8_2 → X g 15 69 [(0, .double p0), (6, .double p3), (8, .int v8_2)] [] [] 0 0 := by
  intro v8_2 h
  unfold wJ14_floorOrCeil_J69 at h
  refine x_dload_n G rfl dJ14_floorOrCeil_69 0 rfl ?_
  refine x_nd2l G q808 q234 q233 q84 (by decide) (Nat.le_of_ble_eq_true rfl) dJ14_floorOrCeil_70 ?_
  refine x_topl (fun y_3 ey_3 => ?_)
  replace h := h y_3 ey_3
  refine x_lstore (lv' := [(9, .long y_3), (0, .double p0), (6, .double p3), (8, .int v8_2)]) G dJ14_floorOrCeil_73 (by decide) rfl ?_
  refine x_ldc2 G q809 dJ14_floorOrCeil_75 ?_
  refine x_iload G dJ14_floorOrCeil_78 3 rfl ?_
  refine x_lshr G dJ14_floorOrCeil_80 ?_
  refine x_topl (fun y_4 ey_4 => ?_)
  replace h := h y_4 ey_4
  refine x_lstore (lv' := [(11, .long y_4), (9, .long y_3), (0, .double p0), (6, .double p3), (8, .int v8_2)]) G dJ14_floorOrCeil_81 (by decide) rfl ?_
  refine x_lload G dJ14_floorOrCeil_83 0 rfl ?_
  refine x_lload G dJ14_floorOrCeil_85 1 rfl ?_
  refine x_land G dJ14_floorOrCeil_87 ?_
  refine x_lconst (v := (0 : Int64)) G dJ14_floorOrCeil_88 (by decide) ?_
  refine x_lcmp_ne (tgt := 95) G dJ14_floorOrCeil_89 dJ14_floorOrCeil_90 rfl (fun c => ?_) (fun c => ?_)
  · replace h := h.1 c
    refine x_lload G dJ14_floorOrCeil_95 1 rfl ?_
    refine x_lload G dJ14_floorOrCeil_97 0 rfl ?_
    refine x_ldc2 G q810 dJ14_floorOrCeil_99 ?_
    refine x_lxor G dJ14_floorOrCeil_102 ?_
    refine x_land G dJ14_floorOrCeil_103 ?_
    obtain ⟨hz, h⟩ := h
    refine x_nl2d G q811 q314 q313 q84 hz (by decide) (Nat.le_of_ble_eq_true rfl) dJ14_floorOrCeil_104 ?_
    refine x_topd (fun r_5 er_5 => ?_)
    replace h := h r_5 er_5
    refine x_dstore (lv' := [(13, .double r_5), (11, .long y_4), (9, .long y_3), (0, .double p0), (6, .double p3), (8, .int v8_2)]) G dJ14_floorOrCeil_107 (by decide) rfl ?_
    refine x_dload G dJ14_floorOrCeil_109 4 rfl ?_
    refine x_dload_n G rfl dJ14_floorOrCeil_111 3 rfl ?_
    obtain ⟨hz, h⟩ := h
    refine x_dmul G dJ14_floorOrCeil_112 hz ?_
    refine x_dconst0 G dJ14_floorOrCeil_113 ?_
    refine x_dcmpl_le (tgt := 125) G dJ14_floorOrCeil_114 dJ14_floorOrCeil_115 rfl (fun c => ?_) (fun c => ?_)
    · replace h := h.1 c
      refine x_dload G dJ14_floorOrCeil_125 0 rfl ?_
      exact x_retd0 G Q dJ14_floorOrCeil_127  h XSub.rf (Nat.le_refl _) (Nat.le_refl _)
    · replace h := h.2 c
      refine x_dload G dJ14_floorOrCeil_118 0 rfl ?_
      refine x_dload G dJ14_floorOrCeil_120 4 rfl ?_
      obtain ⟨hz, h⟩ := h
      refine x_dadd G dJ14_floorOrCeil_122 hz ?_
      refine x_topd (fun r_6 er_6 => ?_)
      replace h := h r_6 er_6
      refine x_dstore (lv' := [(13, .double r_6), (11, .long y_4), (9, .long y_3), (0, .double p0), (6, .double p3), (8, .int v8_2)]) G dJ14_floorOrCeil_123 (by decide) rfl ?_
      refine x_dload G dJ14_floorOrCeil_125 0 rfl ?_
      exact x_retd0 G Q dJ14_floorOrCeil_127  h XSub.rf (Nat.le_refl _) (Nat.le_refl _)
  · replace h := h.2 c
    refine x_dload_n G rfl dJ14_floorOrCeil_93 2 rfl ?_
    exact x_retd0 G Q dJ14_floorOrCeil_94  h XSub.rf (Nat.le_refl _) (Nat.le_refl _)
set_option maxRecDepth 20000 in
theorem tJ14_floorOrCeil {l : Launch} {D : va_G} {ta : Nat → ClassId} {p0 : UInt64} {p1 : UInt64} {p2 : UInt64} {p3 : UInt64} {K : UInt64 → Prop} (hlt : l.stackTraces = false) (h : wJ14_floorOrCeil p0 p1 p2 p3 K) : SMd0 l D ta yJ14_floorOrCeil cJ14_floorOrCeil 15 FieldType.double 2 [.double p0, .double p1, .double p2, .double p3] [] [] 0 0 K := by
  refine x_std0 hlt (by decide +kernel) (Nat.le_of_ble_eq_true rfl) (fun g G hl hD hT Q => ?_)
  subst hl; subst hD; subst hT
  unfold wJ14_floorOrCeil at h
  show X g 15 0 [(0, .double p0), (2, .double p1), (4, .double p2), (6, .double p3)] [] [] 0 0
  refine x_dload_n G rfl dJ14_floorOrCeil_0 0 rfl ?_
  refine x_cPi (As := [.double p0]) (rest := []) G (tJ13_getExponent G.noTraces h) (lw_S q801 q802 q85 q803) cdJ13_getExponent (by decide) (by decide) rfl (Nat.le_of_ble_eq_true rfl) (Nat.zero_le _) (Nat.zero_le _) dJ14_floorOrCeil_1 (fun r_1 h => ?_)
  refine x_istore (lv' := [(8, .int r_1), (0, .double p0), (2, .double p1), (4, .double p2), (6, .double p3)]) G dJ14_floorOrCeil_4 (by decide) rfl ?_
  refine x_iload G dJ14_floorOrCeil_6 0 rfl ?_
  refine x_if_ge (tgt := 34) G dJ14_floorOrCeil_8 rfl (fun c => ?_) (fun c => ?_)
  · replace h := h.1 c
    refine x_iload G dJ14_floorOrCeil_34 0 rfl ?_
    refine x_bipush (v := (52 : Int32)) G dJ14_floorOrCeil_36 (by decide) ?_
    refine x_icmp_lt (tgt := 43) G dJ14_floorOrCeil_38 rfl (fun c => ?_) (fun c => ?_)
    · replace h := h.1 c
      refine x_gets_asrt G q806 dJ14_floorOrCeil_43 ?_
      refine x_if_ne (tgt := 69) G dJ14_floorOrCeil_46 rfl (fun c => ?_) (fun c => absurd c (by decide))
      refine x_lv (lv' := [(0, .double p0), (6, .double p3), (8, .int r_1)]) [1, 4, 0] rfl ?_
      refine kJ14_floorOrCeil_J69 G Q  _ h
    · replace h := h.2 c
      refine x_dload_n G rfl dJ14_floorOrCeil_41 1 rfl ?_
      exact x_retd0 G Q dJ14_floorOrCeil_42  h XSub.rf (Nat.le_refl _) (Nat.le_refl _)
  · replace h := h.2 c
    refine x_dload_n G rfl dJ14_floorOrCeil_11 1 rfl ?_
    refine x_dconst0 G dJ14_floorOrCeil_12 ?_
    refine x_dcmpl_ne (tgt := 21) G dJ14_floorOrCeil_13 dJ14_floorOrCeil_14 rfl (fun c => ?_) (fun c => ?_)
    · replace h := h.1 c
      refine x_dload_n G rfl dJ14_floorOrCeil_21 1 rfl ?_
      refine x_dconst0 G dJ14_floorOrCeil_22 ?_
      refine x_dcmpg_ge (tgt := 31) G dJ14_floorOrCeil_23 dJ14_floorOrCeil_24 rfl (fun c => ?_) (fun c => ?_)
      · replace h := h.1 c
        refine x_dload G dJ14_floorOrCeil_31 3 rfl ?_
        exact x_retd0 G Q dJ14_floorOrCeil_33  h XSub.rf (Nat.le_refl _) (Nat.le_refl _)
      · replace h := h.2 c
        refine x_dload_n G rfl dJ14_floorOrCeil_27 2 rfl ?_
        refine x_goto (tgt := 33) G dJ14_floorOrCeil_28 rfl ?_
        exact x_retd0 G Q dJ14_floorOrCeil_33  h XSub.rf (Nat.le_refl _) (Nat.le_refl _)
    · replace h := h.2 c
      refine x_dload_n G rfl dJ14_floorOrCeil_17 1 rfl ?_
      refine x_goto (tgt := 33) G dJ14_floorOrCeil_18 rfl ?_
      exact x_retd0 G Q dJ14_floorOrCeil_33  h XSub.rf (Nat.le_refl _) (Nat.le_refl _)
theorem cdJ14_floor : yJ14_floor.cls ≠ "java/lang/invoke/MethodHandle" ∧ yJ14_floor.cls ≠ "java/lang/invoke/VarHandle" ∧ (parseMethodDescriptor yJ14_floor.desc).map (fun d => d.parameters.length) = some 1 := by decide +kernel
def wJ14_floor (p0 : UInt64) (K : UInt64 → Prop) : Prop := (wJ14_floorOrCeil p0 (13830554455654793216 : UInt64) FP.dconst0 (13830554455654793216 : UInt64) (fun (r_1 : UInt64) => K r_1))
set_option maxRecDepth 20000 in
theorem tJ14_floor {l : Launch} {D : va_G} {ta : Nat → ClassId} {p0 : UInt64} {K : UInt64 → Prop} (hlt : l.stackTraces = false) (h : wJ14_floor p0 K) : SMd0 l D ta yJ14_floor cJ14_floor 2 FieldType.double 3 [.double p0] [] [] 0 0 K := by
  refine x_std0 hlt (by decide +kernel) (Nat.le_of_ble_eq_true rfl) (fun g G hl hD hT Q => ?_)
  subst hl; subst hD; subst hT
  unfold wJ14_floor at h
  show X g 2 0 [(0, .double p0)] [] [] 0 0
  refine x_dload_n G rfl dJ14_floor_0 0 rfl ?_
  refine x_ldc2d G q797 dJ14_floor_1 ?_
  refine x_dconst0 G dJ14_floor_4 ?_
  refine x_ldc2d G q797 dJ14_floor_5 ?_
  refine x_cPd (As := [.double p0, .double (13830554455654793216 : UInt64), .double FP.dconst0, .double (13830554455654793216 : UInt64)]) (rest := []) G (tJ14_floorOrCeil G.noTraces h) (lw_S q798 q799 q86 q800) cdJ14_floorOrCeil (by decide) (by decide) rfl (Nat.le_of_ble_eq_true rfl) (Nat.zero_le _) (Nat.zero_le _) dJ14_floor_8 (fun r_1 h => ?_)
  exact x_retd0 G Q dJ14_floor_11  h XSub.rf (Nat.le_refl _) (Nat.le_refl _)
theorem cdJ14_ceil : yJ14_ceil.cls ≠ "java/lang/invoke/MethodHandle" ∧ yJ14_ceil.cls ≠ "java/lang/invoke/VarHandle" ∧ (parseMethodDescriptor yJ14_ceil.desc).map (fun d => d.parameters.length) = some 1 := by decide +kernel
def wJ14_ceil (p0 : UInt64) (K : UInt64 → Prop) : Prop := (wJ14_floorOrCeil p0 (9223372036854775808 : UInt64) FP.dconst1 FP.dconst1 (fun (r_1 : UInt64) => K r_1))
set_option maxRecDepth 20000 in
theorem tJ14_ceil {l : Launch} {D : va_G} {ta : Nat → ClassId} {p0 : UInt64} {K : UInt64 → Prop} (hlt : l.stackTraces = false) (h : wJ14_ceil p0 K) : SMd0 l D ta yJ14_ceil cJ14_ceil 2 FieldType.double 3 [.double p0] [] [] 0 0 K := by
  refine x_std0 hlt (by decide +kernel) (Nat.le_of_ble_eq_true rfl) (fun g G hl hD hT Q => ?_)
  subst hl; subst hD; subst hT
  unfold wJ14_ceil at h
  show X g 2 0 [(0, .double p0)] [] [] 0 0
  refine x_dload_n G rfl dJ14_ceil_0 0 rfl ?_
  refine x_ldc2d G q818 dJ14_ceil_1 ?_
  refine x_dconst1 G dJ14_ceil_4 ?_
  refine x_dconst1 G dJ14_ceil_5 ?_
  refine x_cPd (As := [.double p0, .double (9223372036854775808 : UInt64), .double FP.dconst1, .double FP.dconst1]) (rest := []) G (tJ14_floorOrCeil G.noTraces h) (lw_S q798 q799 q86 q800) cdJ14_floorOrCeil (by decide) (by decide) rfl (Nat.le_of_ble_eq_true rfl) (Nat.zero_le _) (Nat.zero_le _) dJ14_ceil_6 (fun r_1 h => ?_)
  exact x_retd0 G Q dJ14_ceil_9  h XSub.rf (Nat.le_refl _) (Nat.le_refl _)
