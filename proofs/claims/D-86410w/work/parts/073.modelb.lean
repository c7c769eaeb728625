/-! the model's methods. Printed by gen/model_parts.py -/
theorem cdX3_roundedBy : yX3_roundedBy.cls ≠ "java/lang/invoke/MethodHandle" ∧ yX3_roundedBy.cls ≠ "java/lang/invoke/VarHandle" ∧ (parseMethodDescriptor yX3_roundedBy.desc).map (fun d => d.parameters.length) = some 2 := by decide +kernel
def wX3_roundedBy_J90 (K : UInt64 → Prop) : Int32 → UInt64 → Prop := fun (v3_5 : Int32) (v6_6 : UInt64) => (wX3_signed v6_6 v3_5 (fun (r_7 : UInt64) => K r_7))
def wX3_roundedBy_J83 (K : UInt64 → Prop) : Int32 → UInt64 → Int32 → Int32 → Prop := fun (v3_8 : Int32) (v6_9 : UInt64) (s_10 : Int32) (s_11 : Int32) => ((¬ s_10 = s_11 → (wX3_roundedBy_J90 K v3_8 v6_9)) ∧ (s_10 = s_11 → (vf_n64 (FP.dadd v6_9 FP.dconst1) ∧ (wX3_signed (FP.dadd v6_9 FP.dconst1) v3_8 (fun (r_12 : UInt64) => K r_12)))))
def wX3_roundedBy_J58 (K : UInt64 → Prop) : Int32 → UInt64 → Prop := fun (v3_13 : Int32) (v6_14 : UInt64) => (vf_n64 (FP.dadd v6_14 FP.dconst1) ∧ (wX3_signed (FP.dadd v6_14 FP.dconst1) v3_13 (fun (r_15 : UInt64) => K r_15)))
def wX3_roundedBy_J62 (K : UInt64 → Prop) : Int32 → UInt64 → Prop := fun (v3_16 : Int32) (v6_17 : UInt64) => (wX3_signed v6_17 v3_16 (fun (r_18 : UInt64) => K r_18))
def wX3_roundedBy (p0 : UInt64) (p1 : Int32) (K : UInt64 → Prop) : Prop := (wX3_isMinus p0 (fun (r_1 : Int32) => (wX3_sizeOf p0 (fun (r_2 : UInt64) => (wX3_cut r_2 (fun (r_3 : UInt64) => (vf_n64 (FP.dsub r_2 r_3) ∧ (∀ r_4 : UInt64, r_4 = (FP.dsub r_2 r_3) → ((¬ p1 = (2 : Int32) → ((¬ dgt r_4 FP.dconst0 → (wX3_roundedBy_J90 K r_1 r_3)) ∧ (dgt r_4 FP.dconst0 → ((r_1 = (0 : Int32) → (wX3_roundedBy_J83 K r_1 r_3 p1 (1 : Int32))) ∧ (¬ r_1 = (0 : Int32) → (wX3_roundedBy_J83 K r_1 r_3 p1 (0 : Int32))))))) ∧ (p1 = (2 : Int32) → ((dgt r_4 (4602678819172646912 : UInt64) → (wX3_roundedBy_J58 K r_1 r_3)) ∧ (¬ dgt r_4 (4602678819172646912 : UInt64) → ((¬ deq r_4 (4602678819172646912 : UInt64) → (wX3_roundedBy_J62 K r_1 r_3)) ∧ (deq r_4 (4602678819172646912 : UInt64) → ((¬ ((FP.d2l r_3) &&& (1 : Int64)) = (1 : Int64) → (wX3_roundedBy_J62 K r_1 r_3)) ∧ (((FP.d2l r_3) &&& (1 : Int64)) = (1 : Int64) → (wX3_roundedBy_J58 K r_1 r_3)))))))))))))))))
set_option maxRecDepth 20000 in
theorem kX3_roundedBy_J90 {g : XG} {K : UInt64 → Prop} (G : XO g RX3 cX3_roundedBy 11 4 0 0) (Q : XQd0 g FieldType.double 0 0 [] K) : ∀ (v3_5 : Int32) (v6_6 : UInt64), wX3_roundedBy_J90 K v3_5 v6_6 → X g 11 90 [(3, .int v3_5), (6, .double v6_6)] [] [] 0 0 := by
  intro v3_5 v6_6 h
  unfold wX3_roundedBy_J90 at h
  refine x_iconst (v := (0 : Int32)) G dX3_roundedBy_90 (by decide) ?_
  refine x_istore (lv' := [(10, .int (0 : Int32)), (3, .int v3_5), (6, .double v6_6)]) G dX3_roundedBy_91 (by decide) rfl ?_
  refine x_iload G dX3_roundedBy_93 0 rfl ?_
  refine x_if_eq (tgt := 105) G dX3_roundedBy_95 rfl (fun c => ?_) (fun c => absurd c (by decide))
  refine x_dload G dX3_roundedBy_105 2 rfl ?_
  refine x_iload_n G rfl dX3_roundedBy_107 1 rfl ?_
  refine x_cPd (As := [.double v6_6, .int v3_5]) (rest := []) G (tX3_signed G.noTraces h) (lw_S q1757 q1758 q70 q1759) cdX3_signed (by decide) (by decide) rfl (Nat.le_of_ble_eq_true rfl) (Nat.zero_le _) (Nat.zero_le _) dX3_roundedBy_108 (fun r_7 h => ?_)
  exact x_retd0 G Q dX3_roundedBy_111  h XSub.rf (Nat.le_refl _) (Nat.le_refl _)
set_option maxRecDepth 20000 in
theorem kX3_roundedBy_J83 {g : XG} {K : UInt64 → Prop} (G : XO g RX3 cX3_roundedBy 11 4 0 0) (Q : XQd0 g FieldType.double 0 0 [] K) : ∀ (v3_8 : Int32) (v6_9 : UInt64) (s_10 : Int32) (s_11 : Int32), wX3_roundedBy_J83 K v3_8 v6_9 s_10 s_11 → X g 11 83 [(3, .int v3_8), (6, .double v6_9)] [.int s_11, .int s_10] [] 0 0 := by
  intro v3_8 v6_9 s_10 s_11 h
  unfold wX3_roundedBy_J83 at h
  refine x_icmp_ne (tgt := 90) G dX3_roundedBy_83 rfl (fun c => ?_) (fun c => ?_)
  · replace h := h.1 c
    refine kX3_roundedBy_J90 G Q  _ _ h
  · replace h := h.2 c
    refine x_iconst (v := (1 : Int32)) G dX3_roundedBy_86 (by decide) ?_
    refine x_goto (tgt := 91) G dX3_roundedBy_87 rfl ?_
    refine x_istore (lv' := [(10, .int (1 : Int32)), (3, .int v3_8), (6, .double v6_9)]) G dX3_roundedBy_91 (by decide) rfl ?_
    refine x_iload G dX3_roundedBy_93 0 rfl ?_
    refine x_if_eq (tgt := 105) G dX3_roundedBy_95 rfl (fun c => absurd c (by decide)) (fun c => ?_)
    refine x_dload G dX3_roundedBy_98 2 rfl ?_
    refine x_dconst1 G dX3_roundedBy_100 ?_
    obtain ⟨hz, h⟩ := h
    refine x_dadd G dX3_roundedBy_101 hz ?_
    refine x_goto (tgt := 107) G dX3_roundedBy_102 rfl ?_
    refine x_iload_n G rfl dX3_roundedBy_107 1 rfl ?_
    refine x_cPd (As := [.double (FP.dadd v6_9 FP.dconst1), .int v3_8]) (rest := []) G (tX3_signed G.noTraces h) (lw_S q1757 q1758 q70 q1759) cdX3_signed (by decide) (by decide) rfl (Nat.le_of_ble_eq_true rfl) (Nat.zero_le _) (Nat.zero_le _) dX3_roundedBy_108 (fun r_12 h => ?_)
    exact x_retd0 G Q dX3_roundedBy_111  h XSub.rf (Nat.le_refl _) (Nat.le_refl _)
set_option maxRecDepth 20000 in
theorem kX3_roundedBy_J58 {g : XG} {K : UInt64 → Prop} (G : XO g RX3 cX3_roundedBy 11 4 0 0) (Q : XQd0 g FieldType.double 0 0 [] K) : ∀ (v3_13 : Int32) (v6_14 : UInt64), wX3_roundedBy_J58 K v3_13 v6_14 → X g 11 58 [(3, .int v3_13), (6, .double v6_14)] [] [] 0 0 := by
  intro v3_13 v6_14 h
  unfold wX3_roundedBy_J58 at h
  refine x_iconst (v := (1 : Int32)) G dX3_roundedBy_58 (by decide) ?_
  refine x_goto (tgt := 91) G dX3_roundedBy_59 rfl ?_
  refine x_istore (lv' := [(10, .int (1 : Int32)), (3, .int v3_13), (6, .double v6_14)]) G dX3_roundedBy_91 (by decide) rfl ?_
  refine x_iload G dX3_roundedBy_93 0 rfl ?_
  refine x_if_eq (tgt := 105) G dX3_roundedBy_95 rfl (fun c => absurd c (by decide)) (fun c => ?_)
  refine x_dload G dX3_roundedBy_98 2 rfl ?_
  refine x_dconst1 G dX3_roundedBy_100 ?_
  obtain ⟨hz, h⟩ := h
  refine x_dadd G dX3_roundedBy_101 hz ?_
  refine x_goto (tgt := 107) G dX3_roundedBy_102 rfl ?_
  refine x_iload_n G rfl dX3_roundedBy_107 1 rfl ?_
  refine x_cPd (As := [.double (FP.dadd v6_14 FP.dconst1), .int v3_13]) (rest := []) G (tX3_signed G.noTraces h) (lw_S q1757 q1758 q70 q1759) cdX3_signed (by decide) (by decide) rfl (Nat.le_of_ble_eq_true rfl) (Nat.zero_le _) (Nat.zero_le _) dX3_roundedBy_108 (fun r_15 h => ?_)
  exact x_retd0 G Q dX3_roundedBy_111  h XSub.rf (Nat.le_refl _) (Nat.le_refl _)
set_option maxRecDepth 20000 in
theorem kX3_roundedBy_J62 {g : XG} {K : UInt64 → Prop} (G : XO g RX3 cX3_roundedBy 11 4 0 0) (Q : XQd0 g FieldType.double 0 0 [] K) : ∀ (v3_16 : Int32) (v6_17 : UInt64), wX3_roundedBy_J62 K v3_16 v6_17 → X g 11 62 [(3, .int v3_16), (6, .double v6_17)] [] [] 0 0 := by
  intro v3_16 v6_17 h
  unfold wX3_roundedBy_J62 at h
  refine x_iconst (v := (0 : Int32)) G dX3_roundedBy_62 (by decide) ?_
  refine x_goto (tgt := 91) G dX3_roundedBy_63 rfl ?_
  refine x_istore (lv' := [(10, .int (0 : Int32)), (3, .int v3_16), (6, .double v6_17)]) G dX3_roundedBy_91 (by decide) rfl ?_
  refine x_iload G dX3_roundedBy_93 0 rfl ?_
  refine x_if_eq (tgt := 105) G dX3_roundedBy_95 rfl (fun c => ?_) (fun c => absurd c (by decide))
  refine x_dload G dX3_roundedBy_105 2 rfl ?_
  refine x_iload_n G rfl dX3_roundedBy_107 1 rfl ?_
  refine x_cPd (As := [.double v6_17, .int v3_16]) (rest := []) G (tX3_signed G.noTraces h) (lw_S q1757 q1758 q70 q1759) cdX3_signed (by decide) (by decide) rfl (Nat.le_of_ble_eq_true rfl) (Nat.zero_le _) (Nat.zero_le _) dX3_roundedBy_108 (fun r_18 h => ?_)
  exact x_retd0 G Q dX3_roundedBy_111  h XSub.rf (Nat.le_refl _) (Nat.le_refl _)
set_option maxRecDepth 20000 in
theorem tX3_roundedBy {l : Launch} {D : va_G} {ta : Nat → ClassId} {p0 : UInt64} {p1 : Int32} {K : UInt64 → Prop} (hlt : l.stackTraces = false) (h : wX3_roundedBy p0 p1 K) : SMd0 l D ta yX3_roundedBy cX3_roundedBy 11 FieldType.double 4 [.double p0, .int p1] [] [] 0 0 K := by
  refine x_std0 hlt (plainFor_of_name (by decide +kernel)) (Nat.le_of_ble_eq_true rfl) (fun g G hl hD hT Q => ?_)
  subst hl; subst hD; subst hT
  unfold wX3_roundedBy at h
  show X g 11 0 [(0, .double p0), (2, .int p1)] [] [] 0 0
  refine x_dload_n G rfl dX3_roundedBy_0 0 rfl ?_
  refine x_cPi (As := [.double p0]) (rest := []) G (tX3_isMinus G.noTraces h) (lw_S q1706 q1707 q70 q1708) cdX3_isMinus (by decide) (by decide) rfl (Nat.le_of_ble_eq_true rfl) (Nat.zero_le _) (Nat.zero_le _) dX3_roundedBy_1 (fun r_1 h => ?_)
  refine x_istore_n (lv' := [(3, .int r_1), (0, .double p0), (2, .int p1)]) G rfl dX3_roundedBy_4 (by decide) rfl ?_
  refine x_dload_n G rfl dX3_roundedBy_5 1 rfl ?_
  refine x_cPd (As := [.double p0]) (rest := []) G (tX3_sizeOf G.noTraces h) (lw_S q1714 q1715 q70 q1716) cdX3_sizeOf (by decide) (by decide) rfl (Nat.le_of_ble_eq_true rfl) (Nat.zero_le _) (Nat.zero_le _) dX3_roundedBy_6 (fun r_2 h => ?_)
  refine x_dstore (lv' := [(4, .double r_2), (3, .int r_1), (0, .double p0), (2, .int p1)]) G dX3_roundedBy_9 (by decide) rfl ?_
  refine x_dload G dX3_roundedBy_11 0 rfl ?_
  refine x_cPd (As := [.double r_2]) (rest := []) G (tX3_cut G.noTraces h) (lw_S q1753 q1754 q70 q1755) cdX3_cut (by decide) (by decide) rfl (Nat.le_of_ble_eq_true rfl) (Nat.zero_le _) (Nat.zero_le _) dX3_roundedBy_13 (fun r_3 h => ?_)
  refine x_dstore (lv' := [(6, .double r_3), (4, .double r_2), (3, .int r_1), (0, .double p0), (2, .int p1)]) G dX3_roundedBy_16 (by decide) rfl ?_
  refine x_dload G dX3_roundedBy_18 1 rfl ?_
  refine x_dload G dX3_roundedBy_20 0 rfl ?_
  obtain ⟨hz, h⟩ := h
  refine x_dsub G dX3_roundedBy_22 hz ?_
  refine x_topd (fun r_4 er_4 => ?_)
  replace h := h r_4 er_4
  refine x_dstore (lv' := [(8, .double r_4), (6, .double r_3), (4, .double r_2), (3, .int r_1), (0, .double p0), (2, .int p1)]) G dX3_roundedBy_23 (by decide) rfl ?_
  refine x_iload_n G rfl dX3_roundedBy_25 5 rfl ?_
  refine x_iconst (v := (2 : Int32)) G dX3_roundedBy_26 (by decide) ?_
  refine x_icmp_ne (tgt := 66) G dX3_roundedBy_27 rfl (fun c => ?_) (fun c => ?_)
  · replace h := h.1 c
    refine x_dload G dX3_roundedBy_66 0 rfl ?_
    refine x_dconst0 G dX3_roundedBy_68 ?_
    refine x_dcmpl_le (tgt := 90) G dX3_roundedBy_69 dX3_roundedBy_70 rfl (fun c => ?_) (fun c => ?_)
    · replace h := h.1 c
      refine x_lv (lv' := [(3, .int r_1), (6, .double r_3)]) [3, 1] rfl ?_
      refine kX3_roundedBy_J90 G Q  _ _ h
    · replace h := h.2 c
      refine x_iload_n G rfl dX3_roundedBy_73 5 rfl ?_
      refine x_iload_n G rfl dX3_roundedBy_74 3 rfl ?_
      refine x_if_eq (tgt := 82) G dX3_roundedBy_75 rfl (fun c => ?_) (fun c => ?_)
      · replace h := h.1 c
        refine x_iconst (v := (1 : Int32)) G dX3_roundedBy_82 (by decide) ?_
        refine x_lv (lv' := [(3, .int r_1), (6, .double r_3)]) [3, 1] rfl ?_
        refine kX3_roundedBy_J83 G Q  _ _ _ _ h
      · replace h := h.2 c
        refine x_iconst (v := (0 : Int32)) G dX3_roundedBy_78 (by decide) ?_
        refine x_goto (tgt := 83) G dX3_roundedBy_79 rfl ?_
        refine x_lv (lv' := [(3, .int r_1), (6, .double r_3)]) [3, 1] rfl ?_
        refine kX3_roundedBy_J83 G Q  _ _ _ _ h
  · replace h := h.2 c
    refine x_dload G dX3_roundedBy_30 0 rfl ?_
    refine x_ldc2d G q1756 dX3_roundedBy_32 ?_
    refine x_dcmpl_gt (tgt := 58) G dX3_roundedBy_35 dX3_roundedBy_36 rfl (fun c => ?_) (fun c => ?_)
    · replace h := h.1 c
      refine x_lv (lv' := [(3, .int r_1), (6, .double r_3)]) [3, 1] rfl ?_
      refine kX3_roundedBy_J58 G Q  _ _ h
    · replace h := h.2 c
      refine x_dload G dX3_roundedBy_39 0 rfl ?_
      refine x_ldc2d G q1756 dX3_roundedBy_41 ?_
      refine x_dcmpl_ne (tgt := 62) G dX3_roundedBy_44 dX3_roundedBy_45 rfl (fun c => ?_) (fun c => ?_)
      · replace h := h.1 c
        refine x_lv (lv' := [(3, .int r_1), (6, .double r_3)]) [3, 1] rfl ?_
        refine kX3_roundedBy_J62 G Q  _ _ h
      · replace h := h.2 c
        refine x_dload G dX3_roundedBy_48 1 rfl ?_
        refine x_d2l G dX3_roundedBy_50 ?_
        refine x_lconst (v := (1 : Int64)) G dX3_roundedBy_51 (by decide) ?_
        refine x_land G dX3_roundedBy_52 ?_
        refine x_lconst (v := (1 : Int64)) G dX3_roundedBy_53 (by decide) ?_
        refine x_lcmp_ne (tgt := 62) G dX3_roundedBy_54 dX3_roundedBy_55 rfl (fun c => ?_) (fun c => ?_)
        · replace h := h.1 c
          refine x_lv (lv' := [(3, .int r_1), (6, .double r_3)]) [3, 1] rfl ?_
          refine kX3_roundedBy_J62 G Q  _ _ h
        · replace h := h.2 c
          refine x_lv (lv' := [(3, .int r_1), (6, .double r_3)]) [3, 1] rfl ?_
          refine kX3_roundedBy_J58 G Q  _ _ h
theorem cdX3_lesser : yX3_lesser.cls ≠ "java/lang/invoke/MethodHandle" ∧ yX3_lesser.cls ≠ "java/lang/invoke/VarHandle" ∧ (parseMethodDescriptor yX3_lesser.desc).map (fun d => d.parameters.length) = some 2 := by decide +kernel
def wX3_lesser (p0 : UInt64) (p1 : UInt64) (K : UInt64 → Prop) : Prop := ((dlt p0 p1 → K p0) ∧ (¬ dlt p0 p1 → ((¬ deq p0 p1 → K p1) ∧ (deq p0 p1 → (wX3_isMinus p0 (fun (r_1 : Int32) => ((r_1 = (0 : Int32) → K p1) ∧ (¬ r_1 = (0 : Int32) → K p0))))))))
set_option maxRecDepth 20000 in
theorem tX3_lesser {l : Launch} {D : va_G} {ta : Nat → ClassId} {p0 : UInt64} {p1 : UInt64} {K : UInt64 → Prop} (hlt : l.stackTraces = false) (h : wX3_lesser p0 p1 K) : SMd0 l D ta yX3_lesser cX3_lesser 4 FieldType.double 4 [.double p0, .double p1] [] [] 0 0 K := by
  refine x_std0 hlt (plainFor_of_name (by decide +kernel)) (Nat.le_of_ble_eq_true rfl) (fun g G hl hD hT Q => ?_)
  subst hl; subst hD; subst hT
  unfold wX3_lesser at h
  show X g 4 0 [(0, .double p0), (2, .double p1)] [] [] 0 0
  refine x_dload_n G rfl dX3_lesser_0 0 rfl ?_
  refine x_dload_n G rfl dX3_lesser_1 1 rfl ?_
  refine x_dcmpg_lt (tgt := 19) G dX3_lesser_2 dX3_lesser_3 rfl (fun c => ?_) (fun c => ?_)
  · replace h := h.1 c
    refine x_dload_n G rfl dX3_lesser_19 0 rfl ?_
    refine x_goto (tgt := 24) G dX3_lesser_20 rfl ?_
    exact x_retd0 G Q dX3_lesser_24  h XSub.rf (Nat.le_refl _) (Nat.le_refl _)
  · replace h := h.2 c
    refine x_dload_n G rfl dX3_lesser_6 0 rfl ?_
    refine x_dload_n G rfl dX3_lesser_7 1 rfl ?_
    refine x_dcmpl_ne (tgt := 23) G dX3_lesser_8 dX3_lesser_9 rfl (fun c => ?_) (fun c => ?_)
    · replace h := h.1 c
      refine x_dload_n G rfl dX3_lesser_23 1 rfl ?_
      exact x_retd0 G Q dX3_lesser_24  h XSub.rf (Nat.le_refl _) (Nat.le_refl _)
    · replace h := h.2 c
      refine x_dload_n G rfl dX3_lesser_12 0 rfl ?_
      refine x_cPi (As := [.double p0]) (rest := []) G (tX3_isMinus G.noTraces h) (lw_S q1706 q1707 q70 q1708) cdX3_isMinus (by decide) (by decide) rfl (Nat.le_of_ble_eq_true rfl) (Nat.zero_le _) (Nat.zero_le _) dX3_lesser_13 (fun r_1 h => ?_)
      refine x_if_eq (tgt := 23) G dX3_lesser_16 rfl (fun c => ?_) (fun c => ?_)
      · replace h := h.1 c
        refine x_dload_n G rfl dX3_lesser_23 1 rfl ?_
        exact x_retd0 G Q dX3_lesser_24  h XSub.rf (Nat.le_refl _) (Nat.le_refl _)
      · replace h := h.2 c
        refine x_dload_n G rfl dX3_lesser_19 0 rfl ?_
        refine x_goto (tgt := 24) G dX3_lesser_20 rfl ?_
        exact x_retd0 G Q dX3_lesser_24  h XSub.rf (Nat.le_refl _) (Nat.le_refl _)
theorem cdX3_greater : yX3_greater.cls ≠ "java/lang/invoke/MethodHandle" ∧ yX3_greater.cls ≠ "java/lang/invoke/VarHandle" ∧ (parseMethodDescriptor yX3_greater.desc).map (fun d => d.parameters.length) = some 2 := by decide +kernel
def wX3_greater (p0 : UInt64) (p1 : UInt64) (K : UInt64 → Prop) : Prop := ((dgt p0 p1 → K p0) ∧ (¬ dgt p0 p1 → ((¬ deq p0 p1 → K p1) ∧ (deq p0 p1 → (wX3_isMinus p0 (fun (r_1 : Int32) => ((¬ r_1 = (0 : Int32) → K p1) ∧ (r_1 = (0 : Int32) → K p0))))))))
set_option maxRecDepth 20000 in
theorem tX3_greater {l : Launch} {D : va_G} {ta : Nat → ClassId} {p0 : UInt64} {p1 : UInt64} {K : UInt64 → Prop} (hlt : l.stackTraces = false) (h : wX3_greater p0 p1 K) : SMd0 l D ta yX3_greater cX3_greater 4 FieldType.double 4 [.double p0, .double p1] [] [] 0 0 K := by
  refine x_std0 hlt (plainFor_of_name (by decide +kernel)) (Nat.le_of_ble_eq_true rfl) (fun g G hl hD hT Q => ?_)
  subst hl; subst hD; subst hT
  unfold wX3_greater at h
  show X g 4 0 [(0, .double p0), (2, .double p1)] [] [] 0 0
  refine x_dload_n G rfl dX3_greater_0 0 rfl ?_
  refine x_dload_n G rfl dX3_greater_1 1 rfl ?_
  refine x_dcmpl_gt (tgt := 19) G dX3_greater_2 dX3_greater_3 rfl (fun c => ?_) (fun c => ?_)
  · replace h := h.1 c
    refine x_dload_n G rfl dX3_greater_19 0 rfl ?_
    refine x_goto (tgt := 24) G dX3_greater_20 rfl ?_
    exact x_retd0 G Q dX3_greater_24  h XSub.rf (Nat.le_refl _) (Nat.le_refl _)
  · replace h := h.2 c
    refine x_dload_n G rfl dX3_greater_6 0 rfl ?_
    refine x_dload_n G rfl dX3_greater_7 1 rfl ?_
    refine x_dcmpl_ne (tgt := 23) G dX3_greater_8 dX3_greater_9 rfl (fun c => ?_) (fun c => ?_)
    · replace h := h.1 c
      refine x_dload_n G rfl dX3_greater_23 1 rfl ?_
      exact x_retd0 G Q dX3_greater_24  h XSub.rf (Nat.le_refl _) (Nat.le_refl _)
    · replace h := h.2 c
      refine x_dload_n G rfl dX3_greater_12 0 rfl ?_
      refine x_cPi (As := [.double p0]) (rest := []) G (tX3_isMinus G.noTraces h) (lw_S q1706 q1707 q70 q1708) cdX3_isMinus (by decide) (by decide) rfl (Nat.le_of_ble_eq_true rfl) (Nat.zero_le _) (Nat.zero_le _) dX3_greater_13 (fun r_1 h => ?_)
      refine x_if_ne (tgt := 23) G dX3_greater_16 rfl (fun c => ?_) (fun c => ?_)
      · replace h := h.1 c
        refine x_dload_n G rfl dX3_greater_23 1 rfl ?_
        exact x_retd0 G Q dX3_greater_24  h XSub.rf (Nat.le_refl _) (Nat.le_refl _)
      · replace h := h.2 c
        refine x_dload_n G rfl dX3_greater_19 0 rfl ?_
        refine x_goto (tgt := 24) G dX3_greater_20 rfl ?_
        exact x_retd0 G Q dX3_greater_24  h XSub.rf (Nat.le_refl _) (Nat.le_refl _)
theorem cdX3_workedOf : yX3_workedOf.cls = RX3 ∧ yX3_workedOf.cls ≠ "java/lang/invoke/MethodHandle" ∧ yX3_workedOf.cls ≠ "java/lang/invoke/VarHandle" ∧ (parseMethodDescriptor yX3_workedOf.desc).map (fun d => d.parameters.length) = some 3 := by decide +kernel
def wX3_workedOf (p0 : UInt64) (p1 : UInt64) (p2 : Int32) (K : UInt64 → Prop) : Prop := ((p2 = (0 : Int32) → (wX3_roundedBy p0 p2 (fun (r_1 : UInt64) => K r_1))) ∧ (¬ p2 = (0 : Int32) → ((p2 = (1 : Int32) → (wX3_roundedBy p0 p2 (fun (r_2 : UInt64) => K r_2))) ∧ (¬ p2 = (1 : Int32) → ((p2 = (2 : Int32) → (wX3_roundedBy p0 p2 (fun (r_3 : UInt64) => K r_3))) ∧ (¬ p2 = (2 : Int32) → ((p2 = (3 : Int32) → (wX3_sizeOf p0 (fun (r_4 : UInt64) => K r_4))) ∧ (¬ p2 = (3 : Int32) → ((p2 = (4 : Int32) → ((¬ dgt p0 FP.dconst0 → ((¬ dlt p0 FP.dconst0 → K p0) ∧ (dlt p0 FP.dconst0 → K (13830554455654793216 : UInt64)))) ∧ (dgt p0 FP.dconst0 → K FP.dconst1))) ∧ (¬ p2 = (4 : Int32) → ((p2 = (5 : Int32) → (wX3_sizeOf p0 (fun (r_5 : UInt64) => (wX3_isMinus p1 (fun (r_6 : Int32) => (wX3_signed r_5 r_6 (fun (r_7 : UInt64) => K r_7))))))) ∧ (¬ p2 = (5 : Int32) → ((p2 = (6 : Int32) → (wX3_lesser p0 p1 (fun (r_8 : UInt64) => K r_8))) ∧ (¬ p2 = (6 : Int32) → ((p2 = (7 : Int32) → (wX3_greater p0 p1 (fun (r_9 : UInt64) => K r_9))) ∧ (¬ p2 = (7 : Int32) → (vf_n64 (FP.drem p0 p1) ∧ K (FP.drem p0 p1))))))))))))))))))
set_option maxRecDepth 20000 in
theorem tX3_workedOf {l : Launch} {D : va_G} {ta : Nat → ClassId} {h0 : Nat} {ad : Nat → Nat} {thrown : Int32} {many : Nat → Int32} {isWide : Nat → Int32} {amountOf : Nat → UInt64} {accountOf : Nat → Int32} {dayOf : Nat → Int32} {given : Nat → Int32} {givenOf : Nat → Int32} {runs : Int32} {runWide : Nat → Int32} {runWay : Nat → Int32} {runTotal : Nat → UInt64} {runSteps : Nat → Int32} {lefts : Nat → UInt64} {rights : Nat → UInt64} {results : Nat → UInt64} {wide : Int32} {dn : Int32} {stepsAt : Int32} {keeps : Int32} {order : Nat → Int32} {att : Nat → UInt64} {spareAmount : Nat → UInt64} {spareAccount : Nat → Int32} {spareDay : Nat → Int32} {cured : Int32} {cureOf : Nat → Int32} {shareOf : Nat → Int32} {big : Nat → Int32} {unitsOf : Int64} {spare : Int32} {halfFrom : Nat → Int32} {halfMany : Nat → Int32} {halfDone : Nat → Int32} {halfTotal : Nat → UInt64} {isFar : Int32} {p0 : UInt64} {p1 : UInt64} {p2 : Int32} {K : UInt64 → Prop} (hlt : l.stackTraces = false) (h : wX3_workedOf p0 p1 p2 K) : SMd0 l D ta yX3_workedOf cX3_workedOf 6 FieldType.double 5 [.ref h0, .double p0, .double p1, .int p2] (mW h0 ad ta thrown many isWide amountOf accountOf dayOf given givenOf runs runWide runWay runTotal runSteps lefts rights results wide dn stepsAt keeps order att spareAmount spareAccount spareDay cured cureOf shareOf big unitsOf spare halfFrom halfMany halfDone halfTotal isFar) (mW h0 ad ta thrown many isWide amountOf accountOf dayOf given givenOf runs runWide runWay runTotal runSteps lefts rights results wide dn stepsAt keeps order att spareAmount spareAccount spareDay cured cureOf shareOf big unitsOf spare halfFrom halfMany halfDone halfTotal isFar) 0 0 K := by
  refine x_std0 hlt (plainFor_of_name (by decide +kernel)) (Nat.le_of_ble_eq_true rfl) (fun g G hl hD hT Q => ?_)
  subst hl; subst hD; subst hT
  unfold wX3_workedOf at h
  show X g 6 0 [(0, .ref h0), (1, .double p0), (3, .double p1), (5, .int p2)] [] (mW h0 ad (xT g) thrown many isWide amountOf accountOf dayOf given givenOf runs runWide runWay runTotal runSteps lefts rights results wide dn stepsAt keeps order att spareAmount spareAccount spareDay cured cureOf shareOf big unitsOf spare halfFrom halfMany halfDone halfTotal isFar) 0 0
  refine x_iload G dX3_workedOf_0 3 rfl ?_
  by_cases c0 : p2 = (0 : Int32)
  · replace h := h.1 c0
    refine x_tableAt (off := 46) (tgt := 48) G dX3_workedOf_2 c0 (by decide) rfl ?_
    refine x_dload_n G rfl dX3_workedOf_48 1 rfl ?_
    refine x_iload G dX3_workedOf_49 3 rfl ?_
    refine x_cPd (As := [.double p0, .int p2]) (rest := []) G (tX3_roundedBy G.noTraces h) (lw_S q1750 q1751 q70 q1752) cdX3_roundedBy (by decide) (by decide) rfl (Nat.le_of_ble_eq_true rfl) (Nat.zero_le _) (Nat.zero_le _) dX3_workedOf_51 (fun r_1 h => ?_)
    exact x_retd0 G Q dX3_workedOf_54  h XSub.rf (Nat.le_refl _) (Nat.le_refl _)
  replace h := h.2 c0
  by_cases c1 : p2 = (1 : Int32)
  · replace h := h.1 c1
    refine x_tableAt (off := 46) (tgt := 48) G dX3_workedOf_2 c1 (by decide) rfl ?_
    refine x_dload_n G rfl dX3_workedOf_48 1 rfl ?_
    refine x_iload G dX3_workedOf_49 3 rfl ?_
    refine x_cPd (As := [.double p0, .int p2]) (rest := []) G (tX3_roundedBy G.noTraces h) (lw_S q1750 q1751 q70 q1752) cdX3_roundedBy (by decide) (by decide) rfl (Nat.le_of_ble_eq_true rfl) (Nat.zero_le _) (Nat.zero_le _) dX3_workedOf_51 (fun r_2 h => ?_)
    exact x_retd0 G Q dX3_workedOf_54  h XSub.rf (Nat.le_refl _) (Nat.le_refl _)
  replace h := h.2 c1
  by_cases c2 : p2 = (2 : Int32)
  · replace h := h.1 c2
    refine x_tableAt (off := 46) (tgt := 48) G dX3_workedOf_2 c2 (by decide) rfl ?_
    refine x_dload_n G rfl dX3_workedOf_48 1 rfl ?_
    refine x_iload G dX3_workedOf_49 3 rfl ?_
    refine x_cPd (As := [.double p0, .int p2]) (rest := []) G (tX3_roundedBy G.noTraces h) (lw_S q1750 q1751 q70 q1752) cdX3_roundedBy (by decide) (by decide) rfl (Nat.le_of_ble_eq_true rfl) (Nat.zero_le _) (Nat.zero_le _) dX3_workedOf_51 (fun r_3 h => ?_)
    exact x_retd0 G Q dX3_workedOf_54  h XSub.rf (Nat.le_refl _) (Nat.le_refl _)
  replace h := h.2 c2
  by_cases c3 : p2 = (3 : Int32)
  · replace h := h.1 c3
    refine x_tableAt (off := 53) (tgt := 55) G dX3_workedOf_2 c3 (by decide) rfl ?_
    refine x_dload_n G rfl dX3_workedOf_55 1 rfl ?_
    refine x_cPd (As := [.double p0]) (rest := []) G (tX3_sizeOf G.noTraces h) (lw_S q1714 q1715 q70 q1716) cdX3_sizeOf (by decide) (by decide) rfl (Nat.le_of_ble_eq_true rfl) (Nat.zero_le _) (Nat.zero_le _) dX3_workedOf_56 (fun r_4 h => ?_)
    exact x_retd0 G Q dX3_workedOf_59  h XSub.rf (Nat.le_refl _) (Nat.le_refl _)
  replace h := h.2 c3
  by_cases c4 : p2 = (4 : Int32)
  · replace h := h.1 c4
    refine x_tableAt (off := 58) (tgt := 60) G dX3_workedOf_2 c4 (by decide) rfl ?_
    refine x_dload_n G rfl dX3_workedOf_60 1 rfl ?_
    refine x_dconst0 G dX3_workedOf_61 ?_
    refine x_dcmpl_le (tgt := 70) G dX3_workedOf_62 dX3_workedOf_63 rfl (fun c => ?_) (fun c => ?_)
    · replace h := h.1 c
      refine x_dload_n G rfl dX3_workedOf_70 1 rfl ?_
      refine x_dconst0 G dX3_workedOf_71 ?_
      refine x_dcmpg_ge (tgt := 82) G dX3_workedOf_72 dX3_workedOf_73 rfl (fun c => ?_) (fun c => ?_)
      · replace h := h.1 c
        refine x_dload_n G rfl dX3_workedOf_82 1 rfl ?_
        exact x_retd0 G Q dX3_workedOf_83  h XSub.rf (Nat.le_refl _) (Nat.le_refl _)
      · replace h := h.2 c
        refine x_ldc2d G q1760 dX3_workedOf_76 ?_
        refine x_goto (tgt := 83) G dX3_workedOf_79 rfl ?_
        exact x_retd0 G Q dX3_workedOf_83  h XSub.rf (Nat.le_refl _) (Nat.le_refl _)
    · replace h := h.2 c
      refine x_dconst1 G dX3_workedOf_66 ?_
      refine x_goto (tgt := 83) G dX3_workedOf_67 rfl ?_
      exact x_retd0 G Q dX3_workedOf_83  h XSub.rf (Nat.le_refl _) (Nat.le_refl _)
  replace h := h.2 c4
  by_cases c5 : p2 = (5 : Int32)
  · replace h := h.1 c5
    refine x_tableAt (off := 82) (tgt := 84) G dX3_workedOf_2 c5 (by decide) rfl ?_
    refine x_dload_n G rfl dX3_workedOf_84 1 rfl ?_
    refine x_cPd (As := [.double p0]) (rest := []) G (tX3_sizeOf G.noTraces h) (lw_S q1714 q1715 q70 q1716) cdX3_sizeOf (by decide) (by decide) rfl (Nat.le_of_ble_eq_true rfl) (Nat.zero_le _) (Nat.zero_le _) dX3_workedOf_85 (fun r_5 h => ?_)
    refine x_dload_n G rfl dX3_workedOf_88 2 rfl ?_
    refine x_cPi (As := [.double p1]) (rest := [.double r_5]) G (tX3_isMinus G.noTraces h) (lw_S q1706 q1707 q70 q1708) cdX3_isMinus (by decide) (by decide) rfl (Nat.le_of_ble_eq_true rfl) (Nat.zero_le _) (Nat.zero_le _) dX3_workedOf_89 (fun r_6 h => ?_)
    refine x_cPd (As := [.double r_5, .int r_6]) (rest := []) G (tX3_signed G.noTraces h) (lw_S q1757 q1758 q70 q1759) cdX3_signed (by decide) (by decide) rfl (Nat.le_of_ble_eq_true rfl) (Nat.zero_le _) (Nat.zero_le _) dX3_workedOf_92 (fun r_7 h => ?_)
    exact x_retd0 G Q dX3_workedOf_95  h XSub.rf (Nat.le_refl _) (Nat.le_refl _)
  replace h := h.2 c5
  by_cases c6 : p2 = (6 : Int32)
  · replace h := h.1 c6
    refine x_tableAt (off := 94) (tgt := 96) G dX3_workedOf_2 c6 (by decide) rfl ?_
    refine x_dload_n G rfl dX3_workedOf_96 1 rfl ?_
    refine x_dload_n G rfl dX3_workedOf_97 2 rfl ?_
    refine x_cPd (As := [.double p0, .double p1]) (rest := []) G (tX3_lesser G.noTraces h) (lw_S q1761 q1762 q70 q1763) cdX3_lesser (by decide) (by decide) rfl (Nat.le_of_ble_eq_true rfl) (Nat.zero_le _) (Nat.zero_le _) dX3_workedOf_98 (fun r_8 h => ?_)
    exact x_retd0 G Q dX3_workedOf_101  h XSub.rf (Nat.le_refl _) (Nat.le_refl _)
  replace h := h.2 c6
  by_cases c7 : p2 = (7 : Int32)
  · replace h := h.1 c7
    refine x_tableAt (off := 100) (tgt := 102) G dX3_workedOf_2 c7 (by decide) rfl ?_
    refine x_dload_n G rfl dX3_workedOf_102 1 rfl ?_
    refine x_dload_n G rfl dX3_workedOf_103 2 rfl ?_
    refine x_cPd (As := [.double p0, .double p1]) (rest := []) G (tX3_greater G.noTraces h) (lw_S q1764 q1765 q70 q1766) cdX3_greater (by decide) (by decide) rfl (Nat.le_of_ble_eq_true rfl) (Nat.zero_le _) (Nat.zero_le _) dX3_workedOf_104 (fun r_9 h => ?_)
    exact x_retd0 G Q dX3_workedOf_107  h XSub.rf (Nat.le_refl _) (Nat.le_refl _)
  replace h := h.2 c7
  refine x_tableNo (tgt := 108) G dX3_workedOf_2 [(0 : Int32), (1 : Int32), (2 : Int32), (3 : Int32), (4 : Int32), (5 : Int32), (6 : Int32), (7 : Int32)] (by decide) (by decide) (List.forall_mem_cons.mpr ⟨c0, (List.forall_mem_cons.mpr ⟨c1, (List.forall_mem_cons.mpr ⟨c2, (List.forall_mem_cons.mpr ⟨c3, (List.forall_mem_cons.mpr ⟨c4, (List.forall_mem_cons.mpr ⟨c5, (List.forall_mem_cons.mpr ⟨c6, (List.forall_mem_cons.mpr ⟨c7, (fun _ h => absurd h List.not_mem_nil)⟩)⟩)⟩)⟩)⟩)⟩)⟩)⟩) rfl ?_
  refine x_dload_n G rfl dX3_workedOf_108 1 rfl ?_
  refine x_dload_n G rfl dX3_workedOf_109 2 rfl ?_
  obtain ⟨hz, h⟩ := h
  refine x_drem G dX3_workedOf_110 hz ?_
  exact x_retd0 G Q dX3_workedOf_111  h XSub.rf (Nat.le_refl _) (Nat.le_refl _)
theorem cdX3_worked : yX3_worked.cls = RX3 ∧ yX3_worked.cls ≠ "java/lang/invoke/MethodHandle" ∧ yX3_worked.cls ≠ "java/lang/invoke/VarHandle" ∧ (parseMethodDescriptor yX3_worked.desc).map (fun d => d.parameters.length) = some 4 := by decide +kernel
def wX3_worked_J105 (isWide : Nat → Int32) (p0 : Int32) (p3 : Int32) (K : Int64 → Int32 → Prop) : UInt64 → UInt64 → Int32 → Prop := fun (v5_6 : UInt64) (s_7 : UInt64) (thrown_8 : Int32) => ((¬ p3 = (8 : Int32) → (vp_in p0 12 ∧ (wX3_workedOf v5_6 s_7 p3 (fun (r_9 : UInt64) => (wX3_bitsOf (isWide p0.toNatClampNeg) r_9 (fun (r_10 : Int64) => K r_10 thrown_8)))))) ∧ (p3 = (8 : Int32) → ((¬ deq s_7 FP.dconst0 → (vp_in p0 12 ∧ (wX3_workedOf v5_6 s_7 p3 (fun (r_11 : UInt64) => (wX3_bitsOf (isWide p0.toNatClampNeg) r_11 (fun (r_12 : Int64) => K r_12 thrown_8)))))) ∧ (deq s_7 FP.dconst0 → (wX3_raise (3 : Int32) thrown_8 (fun (r_13 : Int32) (thrown_14 : Int32) => K r_13.toInt64 thrown_14))))))
def wX3_worked_J59 (isWide : Nat → Int32) (amountOf : Nat → UInt64) (p0 : Int32) (p1 : Int32) (p2 : Int32) (p3 : Int32) (K : Int64 → Int32 → Prop) : Int32 → Int32 → Prop := fun (s_3 : Int32) (thrown_4 : Int32) => ((s_3 = (0 : Int32) → (vp_in (((60 : Int32) * p0) + p1) 720 ∧ (∀ r_5 : UInt64, r_5 = (amountOf (((60 : Int32) * p0) + p1).toNatClampNeg) → ((p3 ≤ (4 : Int32) → (wX3_worked_J105 isWide p0 p3 K r_5 FP.dconst0 s_3)) ∧ (¬ p3 ≤ (4 : Int32) → (vp_in (((60 : Int32) * p0) + p2) 720 ∧ (wX3_worked_J105 isWide p0 p3 K r_5 (amountOf (((60 : Int32) * p0) + p2).toNatClampNeg) s_3))))))) ∧ (¬ s_3 = (0 : Int32) → K (0 : Int64) s_3))
def wX3_worked (p0 : Int32) (p1 : Int32) (p2 : Int32) (p3 : Int32) (thrown : Int32) (many : Nat → Int32) (isWide : Nat → Int32) (amountOf : Nat → UInt64) (K : Int64 → Int32 → Prop) : Prop := (wX3_in p3.toInt64 (0 : Int64) (8 : Int64) (fun (r_1 : Int32) => ((¬ r_1 = (0 : Int32) → (wX3_faultAt p0 p1 many (fun (r_2 : Int32) => ((¬ r_2 = (0 : Int32) → (wX3_worked_J59 isWide amountOf p0 p1 p2 p3 K r_2 r_2)) ∧ (r_2 = (0 : Int32) → ((p3 ≤ (4 : Int32) → (wX3_worked_J59 isWide amountOf p0 p1 p2 p3 K r_2 r_2)) ∧ (¬ p3 ≤ (4 : Int32) → (wX3_faultAt p0 p2 many (fun (r_15 : Int32) => (wX3_worked_J59 isWide amountOf p0 p1 p2 p3 K r_15 r_2)))))))))) ∧ (r_1 = (0 : Int32) → K (-102 : Int64) (0 : Int32)))))
set_option maxRecDepth 20000 in
theorem kX3_worked_J105 {g : XG} {h0 : Nat} {ad : Nat → Nat} {many : Nat → Int32} {isWide : Nat → Int32} {amountOf : Nat → UInt64} {accountOf : Nat → Int32} {dayOf : Nat → Int32} {given : Nat → Int32} {givenOf : Nat → Int32} {runs : Int32} {runWide : Nat → Int32} {runWay : Nat → Int32} {runTotal : Nat → UInt64} {runSteps : Nat → Int32} {lefts : Nat → UInt64} {rights : Nat → UInt64} {results : Nat → UInt64} {wide : Int32} {dn : Int32} {stepsAt : Int32} {keeps : Int32} {order : Nat → Int32} {att : Nat → UInt64} {spareAmount : Nat → UInt64} {spareAccount : Nat → Int32} {spareDay : Nat → Int32} {cured : Int32} {cureOf : Nat → Int32} {shareOf : Nat → Int32} {big : Nat → Int32} {unitsOf : Int64} {spare : Int32} {halfFrom : Nat → Int32} {halfMany : Nat → Int32} {halfDone : Nat → Int32} {halfTotal : Nat → UInt64} {isFar : Int32} {p0 : Int32} {p3 : Int32} {K : Int64 → Int32 → Prop} (G : XO g RX3 cX3_worked 9 6 0 0) (Q : XQl1 g FieldType.long 0 0 (fun (thrown' : Int32) => mW h0 ad (xT g) thrown' many isWide amountOf accountOf dayOf given givenOf runs runWide runWay runTotal runSteps lefts rights results wide dn stepsAt keeps order att spareAmount spareAccount spareDay cured cureOf shareOf big unitsOf spare halfFrom halfMany halfDone halfTotal isFar) K) : ∀ (v5_6 : UInt64) (s_7 : UInt64) (thrown_8 : Int32), wX3_worked_J105 isWide p0 p3 K v5_6 s_7 thrown_8 → X g 9 105 [(0, .ref h0), (1, .int p0), (4, .int p3), (5, .double v5_6)] [.double s_7] (mW h0 ad (xT g) thrown_8 many isWide amountOf accountOf dayOf given givenOf runs runWide runWay runTotal runSteps lefts rights results wide dn stepsAt keeps order att spareAmount spareAccount spareDay cured cureOf shareOf big unitsOf spare halfFrom halfMany halfDone halfTotal isFar) 0 0 := by
  intro v5_6 s_7 thrown_8 h
  unfold wX3_worked_J105 at h
  refine x_dstore (lv' := [(7, .double s_7), (0, .ref h0), (1, .int p0), (4, .int p3), (5, .double v5_6)]) G dX3_worked_105 (by decide) rfl ?_
  refine x_iload G dX3_worked_107 3 rfl ?_
  refine x_bipush (v := (8 : Int32)) G dX3_worked_109 (by decide) ?_
  refine x_icmp_ne (tgt := 128) G dX3_worked_111 rfl (fun c => ?_) (fun c => ?_)
  · replace h := h.1 c
    refine x_aload_n G rfl dX3_worked_128 1 rfl ?_
    refine m_get_2 G dX3_worked_129 ?_
    refine x_iload_n G rfl dX3_worked_132 2 rfl ?_
    obtain ⟨hz, h⟩ := h
    refine m_ald_2 G hz dX3_worked_133 ?_
    refine x_aload_n G rfl dX3_worked_134 1 rfl ?_
    refine x_dload G dX3_worked_135 4 rfl ?_
    refine x_dload G dX3_worked_137 0 rfl ?_
    refine x_iload G dX3_worked_139 3 rfl ?_
    refine x_cVd0 (As := [.double v5_6, .double s_7, .int p3]) (rest := [.int (isWide p0.toNatClampNeg)]) G [] XSub.rf (tX3_workedOf G.noTraces h) (lw_V q1746 q1748 qs25 q70 q1749) cdX3_workedOf 3 0 rfl rfl rfl (by decide) (by decide) rfl (Nat.le_of_ble_eq_true rfl) (Nat.zero_le _) (Nat.zero_le _) dX3_worked_141 (fun r_9 h => ?_)
    show X g 9 144 [(7, .double s_7), (0, .ref h0), (1, .int p0), (4, .int p3), (5, .double v5_6)] [.double r_9, .int (isWide p0.toNatClampNeg)] (mW h0 ad (xT g) thrown_8 many isWide amountOf accountOf dayOf given givenOf runs runWide runWay runTotal runSteps lefts rights results wide dn stepsAt keeps order att spareAmount spareAccount spareDay cured cureOf shareOf big unitsOf spare halfFrom halfMany halfDone halfTotal isFar) 0 0
    refine x_cPl (As := [.int (isWide p0.toNatClampNeg), .double r_9]) (rest := []) G (tX3_bitsOf G.noTraces h) (lw_S q1688 q1689 q70 q1690) cdX3_bitsOf (by decide) (by decide) rfl (Nat.le_of_ble_eq_true rfl) (Nat.zero_le _) (Nat.zero_le _) dX3_worked_144 (fun r_10 h => ?_)
    exact x_retl1 G Q dX3_worked_147 thrown_8 h XSub.rf (Nat.le_refl _) (Nat.le_refl _)
  · replace h := h.2 c
    refine x_dload G dX3_worked_114 0 rfl ?_
    refine x_dconst0 G dX3_worked_116 ?_
    refine x_dcmpl_ne (tgt := 128) G dX3_worked_117 dX3_worked_118 rfl (fun c => ?_) (fun c => ?_)
    · replace h := h.1 c
      refine x_aload_n G rfl dX3_worked_128 1 rfl ?_
      refine m_get_2 G dX3_worked_129 ?_
      refine x_iload_n G rfl dX3_worked_132 2 rfl ?_
      obtain ⟨hz, h⟩ := h
      refine m_ald_2 G hz dX3_worked_133 ?_
      refine x_aload_n G rfl dX3_worked_134 1 rfl ?_
      refine x_dload G dX3_worked_135 4 rfl ?_
      refine x_dload G dX3_worked_137 0 rfl ?_
      refine x_iload G dX3_worked_139 3 rfl ?_
      refine x_cVd0 (As := [.double v5_6, .double s_7, .int p3]) (rest := [.int (isWide p0.toNatClampNeg)]) G [] XSub.rf (tX3_workedOf G.noTraces h) (lw_V q1746 q1748 qs25 q70 q1749) cdX3_workedOf 3 0 rfl rfl rfl (by decide) (by decide) rfl (Nat.le_of_ble_eq_true rfl) (Nat.zero_le _) (Nat.zero_le _) dX3_worked_141 (fun r_11 h => ?_)
      show X g 9 144 [(7, .double s_7), (0, .ref h0), (1, .int p0), (4, .int p3), (5, .double v5_6)] [.double r_11, .int (isWide p0.toNatClampNeg)] (mW h0 ad (xT g) thrown_8 many isWide amountOf accountOf dayOf given givenOf runs runWide runWay runTotal runSteps lefts rights results wide dn stepsAt keeps order att spareAmount spareAccount spareDay cured cureOf shareOf big unitsOf spare halfFrom halfMany halfDone halfTotal isFar) 0 0
      refine x_cPl (As := [.int (isWide p0.toNatClampNeg), .double r_11]) (rest := []) G (tX3_bitsOf G.noTraces h) (lw_S q1688 q1689 q70 q1690) cdX3_bitsOf (by decide) (by decide) rfl (Nat.le_of_ble_eq_true rfl) (Nat.zero_le _) (Nat.zero_le _) dX3_worked_144 (fun r_12 h => ?_)
      exact x_retl1 G Q dX3_worked_147 thrown_8 h XSub.rf (Nat.le_refl _) (Nat.le_refl _)
    · replace h := h.2 c
      refine x_aload_n G rfl dX3_worked_121 1 rfl ?_
      refine x_iconst (v := (3 : Int32)) G dX3_worked_122 (by decide) ?_
      refine x_cVi1 (As := [.int (3 : Int32)]) (rest := []) G [] XSub.rf (tX3_raise G.noTraces h) (lw_V q1653 q1655 qs18 q70 q1656) cdX3_raise 3 0 rfl rfl rfl (by decide) (by decide) rfl (Nat.le_of_ble_eq_true rfl) (Nat.zero_le _) (Nat.zero_le _) dX3_worked_123 (fun r_13 thrown_14 h => ?_)
      show X g 9 126 [(7, .double s_7), (0, .ref h0), (1, .int p0), (4, .int p3), (5, .double v5_6)] [.int r_13] (mW h0 ad (xT g) thrown_14 many isWide amountOf accountOf dayOf given givenOf runs runWide runWay runTotal runSteps lefts rights results wide dn stepsAt keeps order att spareAmount spareAccount spareDay cured cureOf shareOf big unitsOf spare halfFrom halfMany halfDone halfTotal isFar) 0 0
      refine x_i2l G dX3_worked_126 ?_
      exact x_retl1 G Q dX3_worked_127 thrown_14 h XSub.rf (Nat.le_refl _) (Nat.le_refl _)
set_option maxRecDepth 20000 in
theorem kX3_worked_J59 {g : XG} {h0 : Nat} {ad : Nat → Nat} {many : Nat → Int32} {isWide : Nat → Int32} {amountOf : Nat → UInt64} {accountOf : Nat → Int32} {dayOf : Nat → Int32} {given : Nat → Int32} {givenOf : Nat → Int32} {runs : Int32} {runWide : Nat → Int32} {runWay : Nat → Int32} {runTotal : Nat → UInt64} {runSteps : Nat → Int32} {lefts : Nat → UInt64} {rights : Nat → UInt64} {results : Nat → UInt64} {wide : Int32} {dn : Int32} {stepsAt : Int32} {keeps : Int32} {order : Nat → Int32} {att : Nat → UInt64} {spareAmount : Nat → UInt64} {spareAccount : Nat → Int32} {spareDay : Nat → Int32} {cured : Int32} {cureOf : Nat → Int32} {shareOf : Nat → Int32} {big : Nat → Int32} {unitsOf : Int64} {spare : Int32} {halfFrom : Nat → Int32} {halfMany : Nat → Int32} {halfDone : Nat → Int32} {halfTotal : Nat → UInt64} {isFar : Int32} {p0 : Int32} {p1 : Int32} {p2 : Int32} {p3 : Int32} {K : Int64 → Int32 → Prop} (G : XO g RX3 cX3_worked 9 6 0 0) (Q : XQl1 g FieldType.long 0 0 (fun (thrown' : Int32) => mW h0 ad (xT g) thrown' many isWide amountOf accountOf dayOf given givenOf runs runWide runWay runTotal runSteps lefts rights results wide dn stepsAt keeps order att spareAmount spareAccount spareDay cured cureOf shareOf big unitsOf spare halfFrom halfMany halfDone halfTotal isFar) K) : ∀ (s_3 : Int32) (thrown_4 : Int32), wX3_worked_J59 isWide amountOf p0 p1 p2 p3 K s_3 thrown_4 → X g 9 59 [(0, .ref h0), (1, .int p0), (2, .int p1), (3, .int p2), (4, .int p3)] [.int s_3, .ref h0] (mW h0 ad (xT g) thrown_4 many isWide amountOf accountOf dayOf given givenOf runs runWide runWay runTotal runSteps lefts rights results wide dn stepsAt keeps order att spareAmount spareAccount spareDay cured cureOf shareOf big unitsOf spare halfFrom halfMany halfDone halfTotal isFar) 0 0 := by
  intro s_3 thrown_4 h
  unfold wX3_worked_J59 at h
  refine m_put_0 G dX3_worked_59 ?_
  refine x_aload_n G rfl dX3_worked_62 0 rfl ?_
  refine m_get_0 G dX3_worked_63 ?_
  refine x_if_eq (tgt := 71) G dX3_worked_66 rfl (fun c => ?_) (fun c => ?_)
  · replace h := h.1 c
    refine x_aload_n G rfl dX3_worked_71 0 rfl ?_
    refine m_get_3 G dX3_worked_72 ?_
    refine x_bipush (v := (60 : Int32)) G dX3_worked_75 (by decide) ?_
    refine x_iload_n G rfl dX3_worked_77 1 rfl ?_
    refine x_imul G dX3_worked_78 ?_
    refine x_iload_n G rfl dX3_worked_79 2 rfl ?_
    refine x_iadd G dX3_worked_80 ?_
    obtain ⟨hz, h⟩ := h
    refine m_ald_3 G hz dX3_worked_81 ?_
    refine x_topd (fun r_5 er_5 => ?_)
    replace h := h r_5 er_5
    refine x_dstore (lv' := [(5, .double r_5), (0, .ref h0), (1, .int p0), (2, .int p1), (3, .int p2), (4, .int p3)]) G dX3_worked_82 (by decide) rfl ?_
    refine x_iload G dX3_worked_84 5 rfl ?_
    refine x_iconst (v := (4 : Int32)) G dX3_worked_86 (by decide) ?_
    refine x_icmp_le (tgt := 104) G dX3_worked_87 rfl (fun c => ?_) (fun c => ?_)
    · replace h := h.1 c
      refine x_dconst0 G dX3_worked_104 ?_
      refine x_lv (lv' := [(0, .ref h0), (1, .int p0), (4, .int p3), (5, .double r_5)]) [1, 2, 5, 0] rfl ?_
      refine kX3_worked_J105 G Q  _ _ _ h
    · replace h := h.2 c
      refine x_aload_n G rfl dX3_worked_90 1 rfl ?_
      refine m_get_3 G dX3_worked_91 ?_
      refine x_bipush (v := (60 : Int32)) G dX3_worked_94 (by decide) ?_
      refine x_iload_n G rfl dX3_worked_96 2 rfl ?_
      refine x_imul G dX3_worked_97 ?_
      refine x_iload_n G rfl dX3_worked_98 4 rfl ?_
      refine x_iadd G dX3_worked_99 ?_
      obtain ⟨hz, h⟩ := h
      refine m_ald_3 G hz dX3_worked_100 ?_
      refine x_goto (tgt := 105) G dX3_worked_101 rfl ?_
      refine x_lv (lv' := [(0, .ref h0), (1, .int p0), (4, .int p3), (5, .double r_5)]) [1, 2, 5, 0] rfl ?_
      refine kX3_worked_J105 G Q  _ _ _ h
  · replace h := h.2 c
    refine x_lconst (v := (0 : Int64)) G dX3_worked_69 (by decide) ?_
    exact x_retl1 G Q dX3_worked_70 s_3 h XSub.rf (Nat.le_refl _) (Nat.le_refl _)
set_option maxRecDepth 20000 in
theorem tX3_worked {l : Launch} {D : va_G} {ta : Nat → ClassId} {h0 : Nat} {ad : Nat → Nat} {thrown : Int32} {many : Nat → Int32} {isWide : Nat → Int32} {amountOf : Nat → UInt64} {accountOf : Nat → Int32} {dayOf : Nat → Int32} {given : Nat → Int32} {givenOf : Nat → Int32} {runs : Int32} {runWide : Nat → Int32} {runWay : Nat → Int32} {runTotal : Nat → UInt64} {runSteps : Nat → Int32} {lefts : Nat → UInt64} {rights : Nat → UInt64} {results : Nat → UInt64} {wide : Int32} {dn : Int32} {stepsAt : Int32} {keeps : Int32} {order : Nat → Int32} {att : Nat → UInt64} {spareAmount : Nat → UInt64} {spareAccount : Nat → Int32} {spareDay : Nat → Int32} {cured : Int32} {cureOf : Nat → Int32} {shareOf : Nat → Int32} {big : Nat → Int32} {unitsOf : Int64} {spare : Int32} {halfFrom : Nat → Int32} {halfMany : Nat → Int32} {halfDone : Nat → Int32} {halfTotal : Nat → UInt64} {isFar : Int32} {p0 : Int32} {p1 : Int32} {p2 : Int32} {p3 : Int32} {K : Int64 → Int32 → Prop} (hlt : l.stackTraces = false) (h : wX3_worked p0 p1 p2 p3 thrown many isWide amountOf K) : SMl1 l D ta yX3_worked cX3_worked 9 FieldType.long 6 [.ref h0, .int p0, .int p1, .int p2, .int p3] (mW h0 ad ta thrown many isWide amountOf accountOf dayOf given givenOf runs runWide runWay runTotal runSteps lefts rights results wide dn stepsAt keeps order att spareAmount spareAccount spareDay cured cureOf shareOf big unitsOf spare halfFrom halfMany halfDone halfTotal isFar) (fun (thrown' : Int32) => mW h0 ad ta thrown' many isWide amountOf accountOf dayOf given givenOf runs runWide runWay runTotal runSteps lefts rights results wide dn stepsAt keeps order att spareAmount spareAccount spareDay cured cureOf shareOf big unitsOf spare halfFrom halfMany halfDone halfTotal isFar) 0 0 K := by
  refine x_stl1 hlt (plainFor_of_name (by decide +kernel)) (Nat.le_of_ble_eq_true rfl) (fun g G hl hD hT Q => ?_)
  subst hl; subst hD; subst hT
  unfold wX3_worked at h
  show X g 9 0 [(0, .ref h0), (1, .int p0), (2, .int p1), (3, .int p2), (4, .int p3)] [] (mW h0 ad (xT g) thrown many isWide amountOf accountOf dayOf given givenOf runs runWide runWay runTotal runSteps lefts rights results wide dn stepsAt keeps order att spareAmount spareAccount spareDay cured cureOf shareOf big unitsOf spare halfFrom halfMany halfDone halfTotal isFar) 0 0
  refine x_aload_n G rfl dX3_worked_0 0 rfl ?_
  refine x_iconst (v := (0 : Int32)) G dX3_worked_1 (by decide) ?_
  refine m_put_0 G dX3_worked_2 ?_
  refine x_iload G dX3_worked_5 4 rfl ?_
  refine x_i2l G dX3_worked_7 ?_
  refine x_lconst (v := (0 : Int64)) G dX3_worked_8 (by decide) ?_
  refine x_ldc2 G q1744 dX3_worked_9 ?_
  refine x_cPi (As := [.long p3.toInt64, .long (0 : Int64), .long (8 : Int64)]) (rest := []) G (tX3_in G.noTraces h) (lw_S q1650 q1651 q70 q1652) cdX3_in (by decide) (by decide) rfl (Nat.le_of_ble_eq_true rfl) (Nat.zero_le _) (Nat.zero_le _) dX3_worked_12 (fun r_1 h => ?_)
  refine x_if_ne (tgt := 22) G dX3_worked_15 rfl (fun c => ?_) (fun c => ?_)
  · replace h := h.1 c
    refine x_aload_n G rfl dX3_worked_22 0 rfl ?_
    refine x_aload_n G rfl dX3_worked_23 0 rfl ?_
    refine x_iload_n G rfl dX3_worked_24 1 rfl ?_
    refine x_iload_n G rfl dX3_worked_25 2 rfl ?_
    refine x_cVi0 (As := [.int p0, .int p1]) (rest := [.ref h0]) G [] XSub.rf (tX3_faultAt G.noTraces h) (lw_V q1665 q1667 qs20 q70 q1668) cdX3_faultAt 3 0 rfl rfl rfl (by decide) (by decide) rfl (Nat.le_of_ble_eq_true rfl) (Nat.zero_le _) (Nat.zero_le _) dX3_worked_26 (fun r_2 h => ?_)
    show X g 9 29 [(0, .ref h0), (1, .int p0), (2, .int p1), (3, .int p2), (4, .int p3)] [.int r_2, .ref h0] (mW h0 ad (xT g) (0 : Int32) many isWide amountOf accountOf dayOf given givenOf runs runWide runWay runTotal runSteps lefts rights results wide dn stepsAt keeps order att spareAmount spareAccount spareDay cured cureOf shareOf big unitsOf spare halfFrom halfMany halfDone halfTotal isFar) 0 0
    refine m_put_0 G dX3_worked_29 ?_
    refine x_aload_n G rfl dX3_worked_32 0 rfl ?_
    refine x_aload_n G rfl dX3_worked_33 0 rfl ?_
    refine m_get_0 G dX3_worked_34 ?_
    refine x_if_ne (tgt := 55) G dX3_worked_37 rfl (fun c => ?_) (fun c => ?_)
    · replace h := h.1 c
      refine x_aload_n G rfl dX3_worked_55 0 rfl ?_
      refine m_get_0 G dX3_worked_56 ?_
      refine kX3_worked_J59 G Q  _ _ h
    · replace h := h.2 c
      refine x_iload G dX3_worked_40 4 rfl ?_
      refine x_iconst (v := (4 : Int32)) G dX3_worked_42 (by decide) ?_
      refine x_icmp_le (tgt := 55) G dX3_worked_43 rfl (fun c => ?_) (fun c => ?_)
      · replace h := h.1 c
        refine x_aload_n G rfl dX3_worked_55 0 rfl ?_
        refine m_get_0 G dX3_worked_56 ?_
        refine kX3_worked_J59 G Q  _ _ h
      · replace h := h.2 c
        refine x_aload_n G rfl dX3_worked_46 0 rfl ?_
        refine x_iload_n G rfl dX3_worked_47 1 rfl ?_
        refine x_iload_n G rfl dX3_worked_48 3 rfl ?_
        refine x_cVi0 (As := [.int p0, .int p2]) (rest := [.ref h0]) G [] XSub.rf (tX3_faultAt G.noTraces h) (lw_V q1665 q1667 qs20 q70 q1668) cdX3_faultAt 3 0 rfl rfl rfl (by decide) (by decide) rfl (Nat.le_of_ble_eq_true rfl) (Nat.zero_le _) (Nat.zero_le _) dX3_worked_49 (fun r_15 h => ?_)
        show X g 9 52 [(0, .ref h0), (1, .int p0), (2, .int p1), (3, .int p2), (4, .int p3)] [.int r_15, .ref h0] (mW h0 ad (xT g) r_2 many isWide amountOf accountOf dayOf given givenOf runs runWide runWay runTotal runSteps lefts rights results wide dn stepsAt keeps order att spareAmount spareAccount spareDay cured cureOf shareOf big unitsOf spare halfFrom halfMany halfDone halfTotal isFar) 0 0
        refine x_goto (tgt := 59) G dX3_worked_52 rfl ?_
        refine kX3_worked_J59 G Q  _ _ h
  · replace h := h.2 c
    refine x_ldc2 G q1745 dX3_worked_18 ?_
    exact x_retl1 G Q dX3_worked_21 (0 : Int32) h XSub.rf (Nat.le_refl _) (Nat.le_refl _)
theorem cdX3_whole : yX3_whole.cls = RX3 ∧ yX3_whole.cls ≠ "java/lang/invoke/MethodHandle" ∧ yX3_whole.cls ≠ "java/lang/invoke/VarHandle" ∧ (parseMethodDescriptor yX3_whole.desc).map (fun d => d.parameters.length) = some 3 := by decide +kernel
def wX3_whole (p0 : Int32) (p1 : Int32) (p2 : Int32) (thrown : Int32) (many : Nat → Int32) (amountOf : Nat → UInt64) (K : Int64 → Int32 → Prop) : Prop := (wX3_in p2.toInt64 (0 : Int64) (3 : Int64) (fun (r_1 : Int32) => ((¬ r_1 = (0 : Int32) → (wX3_faultAt p0 p1 many (fun (r_2 : Int32) => ((r_2 = (0 : Int32) → (vp_in (((60 : Int32) * p0) + p1) 720 ∧ (∀ r_3 : UInt64, r_3 = (amountOf (((60 : Int32) * p0) + p1).toNatClampNeg) → ((¬ p2 = (0 : Int32) → ((¬ p2 = (1 : Int32) → ((¬ p2 = (2 : Int32) → (vf_n32 (FP.d2f r_3) ∧ K (FP.f2l (FP.d2f r_3)) r_2)) ∧ (p2 = (2 : Int32) → K ((FP.d2i r_3).toInt16.toInt32.toInt64) r_2))) ∧ (p2 = (1 : Int32) → K ((FP.d2i r_3).toInt64) r_2))) ∧ (p2 = (0 : Int32) → K (FP.d2l r_3) r_2))))) ∧ (¬ r_2 = (0 : Int32) → K (0 : Int64) r_2))))) ∧ (r_1 = (0 : Int32) → K (-102 : Int64) (0 : Int32)))))
set_option maxRecDepth 20000 in
theorem tX3_whole {l : Launch} {D : va_G} {ta : Nat → ClassId} {h0 : Nat} {ad : Nat → Nat} {thrown : Int32} {many : Nat → Int32} {isWide : Nat → Int32} {amountOf : Nat → UInt64} {accountOf : Nat → Int32} {dayOf : Nat → Int32} {given : Nat → Int32} {givenOf : Nat → Int32} {runs : Int32} {runWide : Nat → Int32} {runWay : Nat → Int32} {runTotal : Nat → UInt64} {runSteps : Nat → Int32} {lefts : Nat → UInt64} {rights : Nat → UInt64} {results : Nat → UInt64} {wide : Int32} {dn : Int32} {stepsAt : Int32} {keeps : Int32} {order : Nat → Int32} {att : Nat → UInt64} {spareAmount : Nat → UInt64} {spareAccount : Nat → Int32} {spareDay : Nat → Int32} {cured : Int32} {cureOf : Nat → Int32} {shareOf : Nat → Int32} {big : Nat → Int32} {unitsOf : Int64} {spare : Int32} {halfFrom : Nat → Int32} {halfMany : Nat → Int32} {halfDone : Nat → Int32} {halfTotal : Nat → UInt64} {isFar : Int32} {p0 : Int32} {p1 : Int32} {p2 : Int32} {K : Int64 → Int32 → Prop} (hlt : l.stackTraces = false) (h : wX3_whole p0 p1 p2 thrown many amountOf K) : SMl1 l D ta yX3_whole cX3_whole 6 FieldType.long 4 [.ref h0, .int p0, .int p1, .int p2] (mW h0 ad ta thrown many isWide amountOf accountOf dayOf given givenOf runs runWide runWay runTotal runSteps lefts rights results wide dn stepsAt keeps order att spareAmount spareAccount spareDay cured cureOf shareOf big unitsOf spare halfFrom halfMany halfDone halfTotal isFar) (fun (thrown' : Int32) => mW h0 ad ta thrown' many isWide amountOf accountOf dayOf given givenOf runs runWide runWay runTotal runSteps lefts rights results wide dn stepsAt keeps order att spareAmount spareAccount spareDay cured cureOf shareOf big unitsOf spare halfFrom halfMany halfDone halfTotal isFar) 0 0 K := by
  refine x_stl1 hlt (plainFor_of_name (by decide +kernel)) (Nat.le_of_ble_eq_true rfl) (fun g G hl hD hT Q => ?_)
  subst hl; subst hD; subst hT
  unfold wX3_whole at h
  show X g 6 0 [(0, .ref h0), (1, .int p0), (2, .int p1), (3, .int p2)] [] (mW h0 ad (xT g) thrown many isWide amountOf accountOf dayOf given givenOf runs runWide runWay runTotal runSteps lefts rights results wide dn stepsAt keeps order att spareAmount spareAccount spareDay cured cureOf shareOf big unitsOf spare halfFrom halfMany halfDone halfTotal isFar) 0 0
  refine x_aload_n G rfl dX3_whole_0 0 rfl ?_
  refine x_iconst (v := (0 : Int32)) G dX3_whole_1 (by decide) ?_
  refine m_put_0 G dX3_whole_2 ?_
  refine x_iload_n G rfl dX3_whole_5 3 rfl ?_
  refine x_i2l G dX3_whole_6 ?_
  refine x_lconst (v := (0 : Int64)) G dX3_whole_7 (by decide) ?_
  refine x_ldc2 G q1771 dX3_whole_8 ?_
  refine x_cPi (As := [.long p2.toInt64, .long (0 : Int64), .long (3 : Int64)]) (rest := []) G (tX3_in G.noTraces h) (lw_S q1650 q1651 q70 q1652) cdX3_in (by decide) (by decide) rfl (Nat.le_of_ble_eq_true rfl) (Nat.zero_le _) (Nat.zero_le _) dX3_whole_11 (fun r_1 h => ?_)
  refine x_if_ne (tgt := 21) G dX3_whole_14 rfl (fun c => ?_) (fun c => ?_)
  · replace h := h.1 c
    refine x_aload_n G rfl dX3_whole_21 0 rfl ?_
    refine x_aload_n G rfl dX3_whole_22 0 rfl ?_
    refine x_iload_n G rfl dX3_whole_23 1 rfl ?_
    refine x_iload_n G rfl dX3_whole_24 2 rfl ?_
    refine x_cVi0 (As := [.int p0, .int p1]) (rest := [.ref h0]) G [] XSub.rf (tX3_faultAt G.noTraces h) (lw_V q1665 q1667 qs20 q70 q1668) cdX3_faultAt 3 0 rfl rfl rfl (by decide) (by decide) rfl (Nat.le_of_ble_eq_true rfl) (Nat.zero_le _) (Nat.zero_le _) dX3_whole_25 (fun r_2 h => ?_)
    show X g 6 28 [(0, .ref h0), (1, .int p0), (2, .int p1), (3, .int p2)] [.int r_2, .ref h0] (mW h0 ad (xT g) (0 : Int32) many isWide amountOf accountOf dayOf given givenOf runs runWide runWay runTotal runSteps lefts rights results wide dn stepsAt keeps order att spareAmount spareAccount spareDay cured cureOf shareOf big unitsOf spare halfFrom halfMany halfDone halfTotal isFar) 0 0
    refine m_put_0 G dX3_whole_28 ?_
    refine x_aload_n G rfl dX3_whole_31 0 rfl ?_
    refine m_get_0 G dX3_whole_32 ?_
    refine x_if_eq (tgt := 40) G dX3_whole_35 rfl (fun c => ?_) (fun c => ?_)
    · replace h := h.1 c
      refine x_aload_n G rfl dX3_whole_40 0 rfl ?_
      refine m_get_3 G dX3_whole_41 ?_
      refine x_bipush (v := (60 : Int32)) G dX3_whole_44 (by decide) ?_
      refine x_iload_n G rfl dX3_whole_46 1 rfl ?_
      refine x_imul G dX3_whole_47 ?_
      refine x_iload_n G rfl dX3_whole_48 2 rfl ?_
      refine x_iadd G dX3_whole_49 ?_
      obtain ⟨hz, h⟩ := h
      refine m_ald_3 G hz dX3_whole_50 ?_
      refine x_topd (fun r_3 er_3 => ?_)
      replace h := h r_3 er_3
      refine x_dstore (lv' := [(4, .double r_3), (0, .ref h0), (1, .int p0), (2, .int p1), (3, .int p2)]) G dX3_whole_51 (by decide) rfl ?_
      refine x_iload_n G rfl dX3_whole_53 4 rfl ?_
      refine x_if_ne (tgt := 63) G dX3_whole_54 rfl (fun c => ?_) (fun c => ?_)
      · replace h := h.1 c
        refine x_iload_n G rfl dX3_whole_63 4 rfl ?_
        refine x_iconst (v := (1 : Int32)) G dX3_whole_64 (by decide) ?_
        refine x_icmp_ne (tgt := 75) G dX3_whole_65 rfl (fun c => ?_) (fun c => ?_)
        · replace h := h.1 c
          refine x_iload_n G rfl dX3_whole_75 4 rfl ?_
          refine x_iconst (v := (2 : Int32)) G dX3_whole_76 (by decide) ?_
          refine x_icmp_ne (tgt := 88) G dX3_whole_77 rfl (fun c => ?_) (fun c => ?_)
          · replace h := h.1 c
            refine x_dload G dX3_whole_88 0 rfl ?_
            obtain ⟨hz, h⟩ := h
            refine x_d2f G dX3_whole_90 hz ?_
            refine x_f2l G dX3_whole_91 ?_
            exact x_retl1 G Q dX3_whole_92 r_2 h XSub.rf (Nat.le_refl _) (Nat.le_refl _)
          · replace h := h.2 c
            refine x_dload G dX3_whole_80 0 rfl ?_
            refine x_d2i G dX3_whole_82 ?_
            refine x_i2s G dX3_whole_83 ?_
            refine x_i2l G dX3_whole_84 ?_
            refine x_goto (tgt := 92) G dX3_whole_85 rfl ?_
            exact x_retl1 G Q dX3_whole_92 r_2 h XSub.rf (Nat.le_refl _) (Nat.le_refl _)
        · replace h := h.2 c
          refine x_dload G dX3_whole_68 0 rfl ?_
          refine x_d2i G dX3_whole_70 ?_
          refine x_i2l G dX3_whole_71 ?_
          refine x_goto (tgt := 92) G dX3_whole_72 rfl ?_
          exact x_retl1 G Q dX3_whole_92 r_2 h XSub.rf (Nat.le_refl _) (Nat.le_refl _)
      · replace h := h.2 c
        refine x_dload G dX3_whole_57 0 rfl ?_
        refine x_d2l G dX3_whole_59 ?_
        refine x_goto (tgt := 92) G dX3_whole_60 rfl ?_
        exact x_retl1 G Q dX3_whole_92 r_2 h XSub.rf (Nat.le_refl _) (Nat.le_refl _)
    · replace h := h.2 c
      refine x_lconst (v := (0 : Int64)) G dX3_whole_38 (by decide) ?_
      exact x_retl1 G Q dX3_whole_39 r_2 h XSub.rf (Nat.le_refl _) (Nat.le_refl _)
  · replace h := h.2 c
    refine x_ldc2 G q1745 dX3_whole_17 ?_
    exact x_retl1 G Q dX3_whole_20 (0 : Int32) h XSub.rf (Nat.le_refl _) (Nat.le_refl _)
theorem cdX3_tens : yX3_tens.cls ≠ "java/lang/invoke/MethodHandle" ∧ yX3_tens.cls ≠ "java/lang/invoke/VarHandle" ∧ (parseMethodDescriptor yX3_tens.desc).map (fun d => d.parameters.length) = some 1 := by decide +kernel
def wX3_tens_L4 (p0 : Int32) (X21 : Int64 → Int32 → Prop) : Nat → Int64 → Int32 → Prop
  | 0, _, _ => False
  | n + 1, v1_1, v3_2 => ((p0 ≤ v3_2 → X21 v1_1 v3_2) ∧ (¬ p0 ≤ v3_2 → (∀ y_3 : Int64, y_3 = (v1_1 * (10 : Int64)) → (∀ x_4 : Int32, x_4 = (v3_2 + (1 : Int32)) → wX3_tens_L4 p0 X21 n y_3 x_4))))
def wX3_tens (p0 : Int32) (K : Int64 → Prop) : Prop := (∃ m4 : Nat, wX3_tens_L4 p0 (fun (v1_7 : Int64) (v3_8 : Int32) => K v1_7) m4 (1 : Int64) (0 : Int32))
set_option maxRecDepth 20000 in
theorem kX3_tens_L4 {g : XG} {p0 : Int32} {X21 : Int64 → Int32 → Prop} (G : XO g RX3 cX3_tens 4 1 0 0) (hX21 : ∀ (v1_5 : Int64) (v3_6 : Int32), X21 v1_5 v3_6 → X g 4 21 [(3, .int v3_6), (1, .long v1_5), (0, .int p0)] [] [] 0 0) : ∀ (n : Nat) (v1_1 : Int64) (v3_2 : Int32), wX3_tens_L4 p0 X21 n v1_1 v3_2 → X g 4 4 [(3, .int v3_2), (1, .long v1_1), (0, .int p0)] [] [] 0 0 := by
  intro n
  induction n with
  | zero => intro _ _ h; exact h.elim
  | succ n ih =>
    intro v1_1 v3_2 h
    unfold wX3_tens_L4 at h
    refine x_iload_n G rfl dX3_tens_4 0 rfl ?_
    refine x_iload_n G rfl dX3_tens_5 2 rfl ?_
    refine x_icmp_ge (tgt := 21) G dX3_tens_6 rfl (fun c => ?_) (fun c => ?_)
    · replace h := h.1 c
      exact hX21 v1_1 v3_2 h
    · replace h := h.2 c
      refine x_lload_n G rfl dX3_tens_9 1 rfl ?_
      refine x_ldc2 G q1783 dX3_tens_10 ?_
      refine x_lmul G dX3_tens_13 ?_
      refine x_topl (fun y_3 ey_3 => ?_)
      replace h := h y_3 ey_3
      refine x_lstore_n (lv' := [(1, .long y_3), (3, .int v3_2), (0, .int p0)]) G rfl dX3_tens_14 (by decide) rfl ?_
      obtain ⟨x_4, ex_4⟩ : ∃ z : Int32, z = (v3_2 + (1 : Int32)) := ⟨_, rfl⟩
      replace h := h x_4 ex_4
      refine x_iinc (v := x_4) (lv' := [(3, .int x_4), (1, .long y_3), (0, .int p0)]) G dX3_tens_15 1 rfl (by rw [ex_4]; rfl) (by decide) rfl ?_
      refine x_goto (tgt := 4) G dX3_tens_18 rfl ?_
      exact ih y_3 x_4 h
set_option maxRecDepth 20000 in
theorem tX3_tens {l : Launch} {D : va_G} {ta : Nat → ClassId} {p0 : Int32} {K : Int64 → Prop} (hlt : l.stackTraces = false) (h : wX3_tens p0 K) : SMl0 l D ta yX3_tens cX3_tens 4 FieldType.long 1 [.int p0] [] [] 0 0 K := by
  refine x_stl0 hlt (plainFor_of_name (by decide +kernel)) (Nat.le_of_ble_eq_true rfl) (fun g G hl hD hT Q => ?_)
  subst hl; subst hD; subst hT
  unfold wX3_tens at h
  show X g 4 0 [(0, .int p0)] [] [] 0 0
  refine x_lconst (v := (1 : Int64)) G dX3_tens_0 (by decide) ?_
  refine x_lstore_n (lv' := [(1, .long (1 : Int64)), (0, .int p0)]) G rfl dX3_tens_1 (by decide) rfl ?_
  refine x_iconst (v := (0 : Int32)) G dX3_tens_2 (by decide) ?_
  refine x_istore_n (lv' := [(3, .int (0 : Int32)), (1, .long (1 : Int64)), (0, .int p0)]) G rfl dX3_tens_3 (by decide) rfl ?_
  obtain ⟨n0, h⟩ := h
  refine kX3_tens_L4 G (fun v1_7 v3_8 h => ?_) n0 _ _ h
  · refine x_lload_n G rfl dX3_tens_21 1 rfl ?_
    exact x_retl0 G Q dX3_tens_22  h XSub.rf (Nat.le_refl _) (Nat.le_refl _)
theorem cdX3_hasUnits : yX3_hasUnits.cls = RX3 ∧ yX3_hasUnits.cls ≠ "java/lang/invoke/MethodHandle" ∧ yX3_hasUnits.cls ≠ "java/lang/invoke/VarHandle" ∧ (parseMethodDescriptor yX3_hasUnits.desc).map (fun d => d.parameters.length) = some 2 := by decide +kernel
def wX3_hasUnits_J352 (p0 : UInt64) (unitsOf_10 : Int64) (K : Int32 → Int64 → Prop) : Int64 → Int64 → Prop := fun (s_27 : Int64) (s_28 : Int64) => (∀ y_29 : Int64, y_29 = (s_27 + s_28) → ((y_29 ≤ (1000000000000000 : Int64) → ((¬ dlt p0 FP.dconst0 → K (1 : Int32) y_29) ∧ (dlt p0 FP.dconst0 → (∀ y_30 : Int64, y_30 = (-y_29) → K (1 : Int32) y_30)))) ∧ (¬ y_29 ≤ (1000000000000000 : Int64) → K (0 : Int32) unitsOf_10)))
def wX3_hasUnits_J324 (p0 : UInt64) (unitsOf_10 : Int64) (K : Int32 → Int64 → Prop) : Int64 → Int32 → Int32 → Prop := fun (v18_24 : Int64) (v20_25 : Int32) (v21_26 : Int32) => ((¬ v20_25 = (0 : Int32) → (wX3_hasUnits_J352 p0 unitsOf_10 K v18_24 (1 : Int64))) ∧ (v20_25 = (0 : Int32) → ((v21_26 = (0 : Int32) → (wX3_hasUnits_J352 p0 unitsOf_10 K v18_24 (0 : Int64))) ∧ (¬ v21_26 = (0 : Int32) → ((¬ (jlrem v18_24 (2 : Int64)) = (1 : Int64) → (wX3_hasUnits_J352 p0 unitsOf_10 K v18_24 (0 : Int64))) ∧ ((jlrem v18_24 (2 : Int64)) = (1 : Int64) → (wX3_hasUnits_J352 p0 unitsOf_10 K v18_24 (1 : Int64))))))))
def wX3_hasUnits_J284 (p0 : UInt64) (unitsOf_10 : Int64) (K : Int32 → Int64 → Prop) : Int64 → Int64 → Int32 → Int64 → Int32 → Prop := fun (v16_19 : Int64) (v18_20 : Int64) (v22_21 : Int32) (v23_22 : Int64) (s_23 : Int32) => (((jlshl (1 : Int64) (v22_21 - (1 : Int32))) < v23_22 → (wX3_hasUnits_J324 p0 unitsOf_10 K v18_20 (1 : Int32) s_23)) ∧ (¬ (jlshl (1 : Int64) (v22_21 - (1 : Int32))) < v23_22 → ((¬ v23_22 = (jlshl (1 : Int64) (v22_21 - (1 : Int32))) → (wX3_hasUnits_J324 p0 unitsOf_10 K v18_20 (0 : Int32) s_23)) ∧ (v23_22 = (jlshl (1 : Int64) (v22_21 - (1 : Int32))) → ((v16_19 ≤ (0 : Int64) → (wX3_hasUnits_J324 p0 unitsOf_10 K v18_20 (0 : Int32) s_23)) ∧ (¬ v16_19 ≤ (0 : Int64) → (wX3_hasUnits_J324 p0 unitsOf_10 K v18_20 (1 : Int32) s_23)))))))
def wX3_hasUnits_J189 (p0 : UInt64) (unitsOf_10 : Int64) (K : Int32 → Int64 → Prop) : Int32 → Int64 → Int64 → Int32 → Prop := fun (v13_33 : Int32) (v18_34 : Int64) (v22_35 : Int64) (s_36 : Int32) => ((v22_35 ≤ (jlshl (1 : Int64) (v13_33 - (1 : Int32))) → (wX3_hasUnits_J324 p0 unitsOf_10 K v18_34 (0 : Int32) s_36)) ∧ (¬ v22_35 ≤ (jlshl (1 : Int64) (v13_33 - (1 : Int32))) → (wX3_hasUnits_J324 p0 unitsOf_10 K v18_34 (1 : Int32) s_36)))
def wX3_hasUnits_J96 (p0 : UInt64) (K : Int32 → Int64 → Prop) : Int64 → Int64 → Int32 → Int32 → Int64 → Prop := fun (v6_6 : Int64) (v11_7 : Int64) (s_8 : Int32) (s_9 : Int32) (unitsOf_10 : Int64) => (∀ x_11 : Int32, x_11 = (s_8 - s_9) → (∀ y_12 : Int64, y_12 = ((jlshr v11_7 (30 : Int32)) * v6_6) → (∀ y_13 : Int64, y_13 = ((v11_7 &&& (1073741823 : Int64)) * v6_6) → (∀ y_14 : Int64, y_14 = (y_12 + (jlshr y_13 (30 : Int32))) → (∀ y_15 : Int64, y_15 = (y_13 &&& (1073741823 : Int64)) → (((30 : Int32) < x_11 → (((x_11 - (30 : Int32)) ≤ (45 : Int32) → (∀ x_16 : Int32, x_16 = (x_11 - (30 : Int32)) → (∀ y_17 : Int64, y_17 = (jlshr y_14 x_16) → (∀ y_18 : Int64, y_18 = (y_14 &&& ((jlshl (1 : Int64) x_16) - (1 : Int64))) → ((¬ y_18 = (jlshl (1 : Int64) (x_16 - (1 : Int32))) → (wX3_hasUnits_J284 p0 unitsOf_10 K y_15 y_17 x_16 y_18 (0 : Int32))) ∧ (y_18 = (jlshl (1 : Int64) (x_16 - (1 : Int32))) → ((¬ y_15 = (0 : Int64) → (wX3_hasUnits_J284 p0 unitsOf_10 K y_15 y_17 x_16 y_18 (0 : Int32))) ∧ (y_15 = (0 : Int64) → (wX3_hasUnits_J284 p0 unitsOf_10 K y_15 y_17 x_16 y_18 (1 : Int32)))))))))) ∧ (¬ (x_11 - (30 : Int32)) ≤ (45 : Int32) → (wX3_hasUnits_J324 p0 unitsOf_10 K (0 : Int64) (0 : Int32) (0 : Int32))))) ∧ (¬ (30 : Int32) < x_11 → (∀ y_31 : Int64, y_31 = ((jlshl y_14 ((30 : Int32) - x_11)) + (jlshr y_15 x_11)) → (∀ y_32 : Int64, y_32 = (y_15 &&& ((jlshl (1 : Int64) x_11) - (1 : Int64))) → ((¬ y_32 = (jlshl (1 : Int64) (x_11 - (1 : Int32))) → (wX3_hasUnits_J189 p0 unitsOf_10 K x_11 y_31 y_32 (0 : Int32))) ∧ (y_32 = (jlshl (1 : Int64) (x_11 - (1 : Int32))) → (wX3_hasUnits_J189 p0 unitsOf_10 K x_11 y_31 y_32 (1 : Int32)))))))))))))
def wX3_hasUnits (p0 : UInt64) (p1 : Int32) (unitsOf : Int64) (K : Int32 → Int64 → Prop) : Prop := (wX3_sizeOf p0 (fun (r_1 : UInt64) => (wX3_tens p1 (fun (r_2 : Int64) => ((¬ dlt r_1 (4831355200913801224 : UInt64) → K (0 : Int32) (0 : Int64)) ∧ (dlt r_1 (4831355200913801224 : UInt64) → (vf_n64 (FP.dmul r_1 (FP.l2d r_2)) ∧ ((¬ dgt (FP.dmul r_1 (FP.l2d r_2)) (4835858800541171712 : UInt64) → (wJ12_doubleToLongBits r_1 (fun (r_3 : Int64) => (∀ x_4 : Int32, x_4 = (jlshr r_3 (52 : Int32)).toInt32 → (∀ y_5 : Int64, y_5 = (r_3 &&& (4503599627370495 : Int64)) → ((x_4 ≤ (0 : Int32) → ((x_4 ≤ (0 : Int32) → (wX3_hasUnits_J96 p0 K r_2 y_5 (1075 : Int32) (1 : Int32) (0 : Int64))) ∧ (¬ x_4 ≤ (0 : Int32) → (wX3_hasUnits_J96 p0 K r_2 y_5 (1075 : Int32) x_4 (0 : Int64))))) ∧ (¬ x_4 ≤ (0 : Int32) → (∀ y_37 : Int64, y_37 = (y_5 + (4503599627370496 : Int64)) → ((x_4 ≤ (0 : Int32) → (wX3_hasUnits_J96 p0 K r_2 y_37 (1075 : Int32) (1 : Int32) (0 : Int64))) ∧ (¬ x_4 ≤ (0 : Int32) → (wX3_hasUnits_J96 p0 K r_2 y_37 (1075 : Int32) x_4 (0 : Int64)))))))))))) ∧ (dgt (FP.dmul r_1 (FP.l2d r_2)) (4835858800541171712 : UInt64) → K (0 : Int32) (0 : Int64))))))))))
set_option maxRecDepth 20000 in
theorem kX3_hasUnits_J352 {g : XG} {h0 : Nat} {ad : Nat → Nat} {thrown : Int32} {many : Nat → Int32} {isWide : Nat → Int32} {amountOf : Nat → UInt64} {accountOf : Nat → Int32} {dayOf : Nat → Int32} {given : Nat → Int32} {givenOf : Nat → Int32} {runs : Int32} {runWide : Nat → Int32} {runWay : Nat → Int32} {runTotal : Nat → UInt64} {runSteps : Nat → Int32} {lefts : Nat → UInt64} {rights : Nat → UInt64} {results : Nat → UInt64} {wide : Int32} {dn : Int32} {stepsAt : Int32} {keeps : Int32} {order : Nat → Int32} {att : Nat → UInt64} {spareAmount : Nat → UInt64} {spareAccount : Nat → Int32} {spareDay : Nat → Int32} {cured : Int32} {cureOf : Nat → Int32} {shareOf : Nat → Int32} {big : Nat → Int32} {spare : Int32} {halfFrom : Nat → Int32} {halfMany : Nat → Int32} {halfDone : Nat → Int32} {halfTotal : Nat → UInt64} {isFar : Int32} {p0 : UInt64} {unitsOf_10 : Int64} {K : Int32 → Int64 → Prop} (G : XO g RX3 cX3_hasUnits 25 3 0 0) (Q : XQi1 g FieldType.boolean 0 0 (fun (unitsOf' : Int64) => mW h0 ad (xT g) thrown many isWide amountOf accountOf dayOf given givenOf runs runWide runWay runTotal runSteps lefts rights results wide dn stepsAt keeps order att spareAmount spareAccount spareDay cured cureOf shareOf big unitsOf' spare halfFrom halfMany halfDone halfTotal isFar) K) : ∀ (s_27 : Int64) (s_28 : Int64), wX3_hasUnits_J352 p0 unitsOf_10 K s_27 s_28 → X g 25 352 [(0, .ref h0), (1, .double p0)] [.long s_28, .long s_27] (mW h0 ad (xT g) thrown many isWide amountOf accountOf dayOf given givenOf runs runWide runWay runTotal runSteps lefts rights results wide dn stepsAt keeps order att spareAmount spareAccount spareDay cured cureOf shareOf big unitsOf_10 spare halfFrom halfMany halfDone halfTotal isFar) 0 0 := by
  intro s_27 s_28 h
  unfold wX3_hasUnits_J352 at h
  refine x_ladd G dX3_hasUnits_352 ?_
  refine x_topl (fun y_29 ey_29 => ?_)
  replace h := h y_29 ey_29
  refine x_lstore (lv' := [(18, .long y_29), (0, .ref h0), (1, .double p0)]) G dX3_hasUnits_353 (by decide) rfl ?_
  refine x_lload G dX3_hasUnits_355 0 rfl ?_
  refine x_ldc2 G q1790 dX3_hasUnits_357 ?_
  refine x_lcmp_le (tgt := 366) G dX3_hasUnits_360 dX3_hasUnits_361 rfl (fun c => ?_) (fun c => ?_)
  · replace h := h.1 c
    refine x_aload_n G rfl dX3_hasUnits_366 1 rfl ?_
    refine x_dload_n G rfl dX3_hasUnits_367 2 rfl ?_
    refine x_dconst0 G dX3_hasUnits_368 ?_
    refine x_dcmpg_ge (tgt := 379) G dX3_hasUnits_369 dX3_hasUnits_370 rfl (fun c => ?_) (fun c => ?_)
    · replace h := h.1 c
      refine x_lload G dX3_hasUnits_379 0 rfl ?_
      refine m_put_29 G dX3_hasUnits_381 ?_
      refine x_iconst (v := (1 : Int32)) G dX3_hasUnits_384 (by decide) ?_
      exact x_reti1 G Q dX3_hasUnits_385 rfl y_29 h XSub.rf (Nat.le_refl _) (Nat.le_refl _)
    · replace h := h.2 c
      refine x_lload G dX3_hasUnits_373 0 rfl ?_
      refine x_lneg G dX3_hasUnits_375 ?_
      refine x_goto (tgt := 381) G dX3_hasUnits_376 rfl ?_
      refine x_topl (fun y_30 ey_30 => ?_)
      replace h := h y_30 ey_30
      refine m_put_29 G dX3_hasUnits_381 ?_
      refine x_iconst (v := (1 : Int32)) G dX3_hasUnits_384 (by decide) ?_
      exact x_reti1 G Q dX3_hasUnits_385 rfl y_30 h XSub.rf (Nat.le_refl _) (Nat.le_refl _)
  · replace h := h.2 c
    refine x_iconst (v := (0 : Int32)) G dX3_hasUnits_364 (by decide) ?_
    exact x_reti1 G Q dX3_hasUnits_365 rfl unitsOf_10 h XSub.rf (Nat.le_refl _) (Nat.le_refl _)
set_option maxRecDepth 20000 in
theorem kX3_hasUnits_J324 {g : XG} {h0 : Nat} {ad : Nat → Nat} {thrown : Int32} {many : Nat → Int32} {isWide : Nat → Int32} {amountOf : Nat → UInt64} {accountOf : Nat → Int32} {dayOf : Nat → Int32} {given : Nat → Int32} {givenOf : Nat → Int32} {runs : Int32} {runWide : Nat → Int32} {runWay : Nat → Int32} {runTotal : Nat → UInt64} {runSteps : Nat → Int32} {lefts : Nat → UInt64} {rights : Nat → UInt64} {results : Nat → UInt64} {wide : Int32} {dn : Int32} {stepsAt : Int32} {keeps : Int32} {order : Nat → Int32} {att : Nat → UInt64} {spareAmount : Nat → UInt64} {spareAccount : Nat → Int32} {spareDay : Nat → Int32} {cured : Int32} {cureOf : Nat → Int32} {shareOf : Nat → Int32} {big : Nat → Int32} {spare : Int32} {halfFrom : Nat → Int32} {halfMany : Nat → Int32} {halfDone : Nat → Int32} {halfTotal : Nat → UInt64} {isFar : Int32} {p0 : UInt64} {unitsOf_10 : Int64} {K : Int32 → Int64 → Prop} (G : XO g RX3 cX3_hasUnits 25 3 0 0) (Q : XQi1 g FieldType.boolean 0 0 (fun (unitsOf' : Int64) => mW h0 ad (xT g) thrown many isWide amountOf accountOf dayOf given givenOf runs runWide runWay runTotal runSteps lefts rights results wide dn stepsAt keeps order att spareAmount spareAccount spareDay cured cureOf shareOf big unitsOf' spare halfFrom halfMany halfDone halfTotal isFar) K) : ∀ (v18_24 : Int64) (v20_25 : Int32) (v21_26 : Int32), wX3_hasUnits_J324 p0 unitsOf_10 K v18_24 v20_25 v21_26 → X g 25 324 [(0, .ref h0), (1, .double p0), (18, .long v18_24), (20, .int v20_25), (21, .int v21_26)] [] (mW h0 ad (xT g) thrown many isWide amountOf accountOf dayOf given givenOf runs runWide runWay runTotal runSteps lefts rights results wide dn stepsAt keeps order att spareAmount spareAccount spareDay cured cureOf shareOf big unitsOf_10 spare halfFrom halfMany halfDone halfTotal isFar) 0 0 := by
  intro v18_24 v20_25 v21_26 h
  unfold wX3_hasUnits_J324 at h
  refine x_lload G dX3_hasUnits_324 2 rfl ?_
  refine x_iload G dX3_hasUnits_326 3 rfl ?_
  refine x_if_ne (tgt := 347) G dX3_hasUnits_328 rfl (fun c => ?_) (fun c => ?_)
  · replace h := h.1 c
    refine x_lconst (v := (1 : Int64)) G dX3_hasUnits_347 (by decide) ?_
    refine x_goto (tgt := 352) G dX3_hasUnits_348 rfl ?_
    refine x_lv (lv' := [(0, .ref h0), (1, .double p0)]) [0, 1] rfl ?_
    refine kX3_hasUnits_J352 G Q  _ _ h
  · replace h := h.2 c
    refine x_iload G dX3_hasUnits_331 4 rfl ?_
    refine x_if_eq (tgt := 351) G dX3_hasUnits_333 rfl (fun c => ?_) (fun c => ?_)
    · replace h := h.1 c
      refine x_lconst (v := (0 : Int64)) G dX3_hasUnits_351 (by decide) ?_
      refine x_lv (lv' := [(0, .ref h0), (1, .double p0)]) [0, 1] rfl ?_
      refine kX3_hasUnits_J352 G Q  _ _ h
    · replace h := h.2 c
      refine x_lload G dX3_hasUnits_336 2 rfl ?_
      refine x_ldc2 G q1789 dX3_hasUnits_338 ?_
      refine x_lrem G dX3_hasUnits_341 (by decide) ?_
      refine x_lconst (v := (1 : Int64)) G dX3_hasUnits_342 (by decide) ?_
      refine x_lcmp_ne (tgt := 351) G dX3_hasUnits_343 dX3_hasUnits_344 rfl (fun c => ?_) (fun c => ?_)
      · replace h := h.1 c
        refine x_lconst (v := (0 : Int64)) G dX3_hasUnits_351 (by decide) ?_
        refine x_lv (lv' := [(0, .ref h0), (1, .double p0)]) [0, 1] rfl ?_
        refine kX3_hasUnits_J352 G Q  _ _ h
      · replace h := h.2 c
        refine x_lconst (v := (1 : Int64)) G dX3_hasUnits_347 (by decide) ?_
        refine x_goto (tgt := 352) G dX3_hasUnits_348 rfl ?_
        refine x_lv (lv' := [(0, .ref h0), (1, .double p0)]) [0, 1] rfl ?_
        refine kX3_hasUnits_J352 G Q  _ _ h
set_option maxRecDepth 20000 in
theorem kX3_hasUnits_J284 {g : XG} {h0 : Nat} {ad : Nat → Nat} {thrown : Int32} {many : Nat → Int32} {isWide : Nat → Int32} {amountOf : Nat → UInt64} {accountOf : Nat → Int32} {dayOf : Nat → Int32} {given : Nat → Int32} {givenOf : Nat → Int32} {runs : Int32} {runWide : Nat → Int32} {runWay : Nat → Int32} {runTotal : Nat → UInt64} {runSteps : Nat → Int32} {lefts : Nat → UInt64} {rights : Nat → UInt64} {results : Nat → UInt64} {wide : Int32} {dn : Int32} {stepsAt : Int32} {keeps : Int32} {order : Nat → Int32} {att : Nat → UInt64} {spareAmount : Nat → UInt64} {spareAccount : Nat → Int32} {spareDay : Nat → Int32} {cured : Int32} {cureOf : Nat → Int32} {shareOf : Nat → Int32} {big : Nat → Int32} {spare : Int32} {halfFrom : Nat → Int32} {halfMany : Nat → Int32} {halfDone : Nat → Int32} {halfTotal : Nat → UInt64} {isFar : Int32} {p0 : UInt64} {unitsOf_10 : Int64} {K : Int32 → Int64 → Prop} (G : XO g RX3 cX3_hasUnits 25 3 0 0) (Q : XQi1 g FieldType.boolean 0 0 (fun (unitsOf' : Int64) => mW h0 ad (xT g) thrown many isWide amountOf accountOf dayOf given givenOf runs runWide runWay runTotal runSteps lefts rights results wide dn stepsAt keeps order att spareAmount spareAccount spareDay cured cureOf shareOf big unitsOf' spare halfFrom halfMany halfDone halfTotal isFar) K) : ∀ (v16_19 : Int64) (v18_20 : Int64) (v22_21 : Int32) (v23_22 : Int64) (s_23 : Int32), wX3_hasUnits_J284 p0 unitsOf_10 K v16_19 v18_20 v22_21 v23_22 s_23 → X g 25 284 [(0, .ref h0), (1, .double p0), (16, .long v16_19), (18, .long v18_20), (22, .int v22_21), (23, .long v23_22)] [.int s_23] (mW h0 ad (xT g) thrown many isWide amountOf accountOf dayOf given givenOf runs runWide runWay runTotal runSteps lefts rights results wide dn stepsAt keeps order att spareAmount spareAccount spareDay cured cureOf shareOf big unitsOf_10 spare halfFrom halfMany halfDone halfTotal isFar) 0 0 := by
  intro v16_19 v18_20 v22_21 v23_22 s_23 h
  unfold wX3_hasUnits_J284 at h
  refine x_istore (lv' := [(21, .int s_23), (0, .ref h0), (1, .double p0), (16, .long v16_19), (18, .long v18_20), (22, .int v22_21), (23, .long v23_22)]) G dX3_hasUnits_284 (by decide) rfl ?_
  refine x_lload G dX3_hasUnits_286 6 rfl ?_
  refine x_lconst (v := (1 : Int64)) G dX3_hasUnits_288 (by decide) ?_
  refine x_iload G dX3_hasUnits_289 5 rfl ?_
  refine x_iconst (v := (1 : Int32)) G dX3_hasUnits_291 (by decide) ?_
  refine x_isub G dX3_hasUnits_292 ?_
  refine x_lshl G dX3_hasUnits_293 ?_
  refine x_lcmp_gt (tgt := 317) G dX3_hasUnits_294 dX3_hasUnits_295 rfl (fun c => ?_) (fun c => ?_)
  · replace h := h.1 c
    refine x_iconst (v := (1 : Int32)) G dX3_hasUnits_317 (by decide) ?_
    refine x_goto (tgt := 322) G dX3_hasUnits_318 rfl ?_
    refine x_istore (lv' := [(20, .int (1 : Int32)), (21, .int s_23), (0, .ref h0), (1, .double p0), (16, .long v16_19), (18, .long v18_20), (22, .int v22_21), (23, .long v23_22)]) G dX3_hasUnits_322 (by decide) rfl ?_
    refine x_lv (lv' := [(0, .ref h0), (1, .double p0), (18, .long v18_20), (20, .int (1 : Int32)), (21, .int s_23)]) [2, 3, 5, 0, 1] rfl ?_
    refine kX3_hasUnits_J324 G Q  _ _ _ h
  · replace h := h.2 c
    refine x_lload G dX3_hasUnits_298 6 rfl ?_
    refine x_lconst (v := (1 : Int64)) G dX3_hasUnits_300 (by decide) ?_
    refine x_iload G dX3_hasUnits_301 5 rfl ?_
    refine x_iconst (v := (1 : Int32)) G dX3_hasUnits_303 (by decide) ?_
    refine x_isub G dX3_hasUnits_304 ?_
    refine x_lshl G dX3_hasUnits_305 ?_
    refine x_lcmp_ne (tgt := 321) G dX3_hasUnits_306 dX3_hasUnits_307 rfl (fun c => ?_) (fun c => ?_)
    · replace h := h.1 c
      refine x_iconst (v := (0 : Int32)) G dX3_hasUnits_321 (by decide) ?_
      refine x_istore (lv' := [(20, .int (0 : Int32)), (21, .int s_23), (0, .ref h0), (1, .double p0), (16, .long v16_19), (18, .long v18_20), (22, .int v22_21), (23, .long v23_22)]) G dX3_hasUnits_322 (by decide) rfl ?_
      refine x_lv (lv' := [(0, .ref h0), (1, .double p0), (18, .long v18_20), (20, .int (0 : Int32)), (21, .int s_23)]) [2, 3, 5, 0, 1] rfl ?_
      refine kX3_hasUnits_J324 G Q  _ _ _ h
    · replace h := h.2 c
      refine x_lload G dX3_hasUnits_310 3 rfl ?_
      refine x_lconst (v := (0 : Int64)) G dX3_hasUnits_312 (by decide) ?_
      refine x_lcmp_le (tgt := 321) G dX3_hasUnits_313 dX3_hasUnits_314 rfl (fun c => ?_) (fun c => ?_)
      · replace h := h.1 c
        refine x_iconst (v := (0 : Int32)) G dX3_hasUnits_321 (by decide) ?_
        refine x_istore (lv' := [(20, .int (0 : Int32)), (21, .int s_23), (0, .ref h0), (1, .double p0), (16, .long v16_19), (18, .long v18_20), (22, .int v22_21), (23, .long v23_22)]) G dX3_hasUnits_322 (by decide) rfl ?_
        refine x_lv (lv' := [(0, .ref h0), (1, .double p0), (18, .long v18_20), (20, .int (0 : Int32)), (21, .int s_23)]) [2, 3, 5, 0, 1] rfl ?_
        refine kX3_hasUnits_J324 G Q  _ _ _ h
      · replace h := h.2 c
        refine x_iconst (v := (1 : Int32)) G dX3_hasUnits_317 (by decide) ?_
        refine x_goto (tgt := 322) G dX3_hasUnits_318 rfl ?_
        refine x_istore (lv' := [(20, .int (1 : Int32)), (21, .int s_23), (0, .ref h0), (1, .double p0), (16, .long v16_19), (18, .long v18_20), (22, .int v22_21), (23, .long v23_22)]) G dX3_hasUnits_322 (by decide) rfl ?_
        refine x_lv (lv' := [(0, .ref h0), (1, .double p0), (18, .long v18_20), (20, .int (1 : Int32)), (21, .int s_23)]) [2, 3, 5, 0, 1] rfl ?_
        refine kX3_hasUnits_J324 G Q  _ _ _ h
set_option maxRecDepth 20000 in
theorem kX3_hasUnits_J189 {g : XG} {h0 : Nat} {ad : Nat → Nat} {thrown : Int32} {many : Nat → Int32} {isWide : Nat → Int32} {amountOf : Nat → UInt64} {accountOf : Nat → Int32} {dayOf : Nat → Int32} {given : Nat → Int32} {givenOf : Nat → Int32} {runs : Int32} {runWide : Nat → Int32} {runWay : Nat → Int32} {runTotal : Nat → UInt64} {runSteps : Nat → Int32} {lefts : Nat → UInt64} {rights : Nat → UInt64} {results : Nat → UInt64} {wide : Int32} {dn : Int32} {stepsAt : Int32} {keeps : Int32} {order : Nat → Int32} {att : Nat → UInt64} {spareAmount : Nat → UInt64} {spareAccount : Nat → Int32} {spareDay : Nat → Int32} {cured : Int32} {cureOf : Nat → Int32} {shareOf : Nat → Int32} {big : Nat → Int32} {spare : Int32} {halfFrom : Nat → Int32} {halfMany : Nat → Int32} {halfDone : Nat → Int32} {halfTotal : Nat → UInt64} {isFar : Int32} {p0 : UInt64} {unitsOf_10 : Int64} {K : Int32 → Int64 → Prop} (G : XO g RX3 cX3_hasUnits 25 3 0 0) (Q : XQi1 g FieldType.boolean 0 0 (fun (unitsOf' : Int64) => mW h0 ad (xT g) thrown many isWide amountOf accountOf dayOf given givenOf runs runWide runWay runTotal runSteps lefts rights results wide dn stepsAt keeps order att spareAmount spareAccount spareDay cured cureOf shareOf big unitsOf' spare halfFrom halfMany halfDone halfTotal isFar) K) : ∀ (v13_33 : Int32) (v18_34 : Int64) (v22_35 : Int64) (s_36 : Int32), wX3_hasUnits_J189 p0 unitsOf_10 K v13_33 v18_34 v22_35 s_36 → X g 25 189 [(0, .ref h0), (1, .double p0), (13, .int v13_33), (18, .long v18_34), (22, .long v22_35)] [.int s_36] (mW h0 ad (xT g) thrown many isWide amountOf accountOf dayOf given givenOf runs runWide runWay runTotal runSteps lefts rights results wide dn stepsAt keeps order att spareAmount spareAccount spareDay cured cureOf shareOf big unitsOf_10 spare halfFrom halfMany halfDone halfTotal isFar) 0 0 := by
  intro v13_33 v18_34 v22_35 s_36 h
  unfold wX3_hasUnits_J189 at h
  refine x_istore (lv' := [(21, .int s_36), (0, .ref h0), (1, .double p0), (13, .int v13_33), (18, .long v18_34), (22, .long v22_35)]) G dX3_hasUnits_189 (by decide) rfl ?_
  refine x_lload G dX3_hasUnits_191 5 rfl ?_
  refine x_lconst (v := (1 : Int64)) G dX3_hasUnits_193 (by decide) ?_
  refine x_iload G dX3_hasUnits_194 3 rfl ?_
  refine x_iconst (v := (1 : Int32)) G dX3_hasUnits_196 (by decide) ?_
  refine x_isub G dX3_hasUnits_197 ?_
  refine x_lshl G dX3_hasUnits_198 ?_
  refine x_lcmp_le (tgt := 207) G dX3_hasUnits_199 dX3_hasUnits_200 rfl (fun c => ?_) (fun c => ?_)
  · replace h := h.1 c
    refine x_iconst (v := (0 : Int32)) G dX3_hasUnits_207 (by decide) ?_
    refine x_istore (lv' := [(20, .int (0 : Int32)), (21, .int s_36), (0, .ref h0), (1, .double p0), (13, .int v13_33), (18, .long v18_34), (22, .long v22_35)]) G dX3_hasUnits_208 (by decide) rfl ?_
    refine x_goto (tgt := 324) G dX3_hasUnits_210 rfl ?_
    refine x_lv (lv' := [(0, .ref h0), (1, .double p0), (18, .long v18_34), (20, .int (0 : Int32)), (21, .int s_36)]) [2, 3, 5, 0, 1] rfl ?_
    refine kX3_hasUnits_J324 G Q  _ _ _ h
  · replace h := h.2 c
    refine x_iconst (v := (1 : Int32)) G dX3_hasUnits_203 (by decide) ?_
    refine x_goto (tgt := 208) G dX3_hasUnits_204 rfl ?_
    refine x_istore (lv' := [(20, .int (1 : Int32)), (21, .int s_36), (0, .ref h0), (1, .double p0), (13, .int v13_33), (18, .long v18_34), (22, .long v22_35)]) G dX3_hasUnits_208 (by decide) rfl ?_
    refine x_goto (tgt := 324) G dX3_hasUnits_210 rfl ?_
    refine x_lv (lv' := [(0, .ref h0), (1, .double p0), (18, .long v18_34), (20, .int (1 : Int32)), (21, .int s_36)]) [2, 3, 5, 0, 1] rfl ?_
    refine kX3_hasUnits_J324 G Q  _ _ _ h
set_option maxRecDepth 20000 in
theorem kX3_hasUnits_J96 {g : XG} {h0 : Nat} {ad : Nat → Nat} {thrown : Int32} {many : Nat → Int32} {isWide : Nat → Int32} {amountOf : Nat → UInt64} {accountOf : Nat → Int32} {dayOf : Nat → Int32} {given : Nat → Int32} {givenOf : Nat → Int32} {runs : Int32} {runWide : Nat → Int32} {runWay : Nat → Int32} {runTotal : Nat → UInt64} {runSteps : Nat → Int32} {lefts : Nat → UInt64} {rights : Nat → UInt64} {results : Nat → UInt64} {wide : Int32} {dn : Int32} {stepsAt : Int32} {keeps : Int32} {order : Nat → Int32} {att : Nat → UInt64} {spareAmount : Nat → UInt64} {spareAccount : Nat → Int32} {spareDay : Nat → Int32} {cured : Int32} {cureOf : Nat → Int32} {shareOf : Nat → Int32} {big : Nat → Int32} {spare : Int32} {halfFrom : Nat → Int32} {halfMany : Nat → Int32} {halfDone : Nat → Int32} {halfTotal : Nat → UInt64} {isFar : Int32} {p0 : UInt64} {K : Int32 → Int64 → Prop} (G : XO g RX3 cX3_hasUnits 25 3 0 0) (Q : XQi1 g FieldType.boolean 0 0 (fun (unitsOf' : Int64) => mW h0 ad (xT g) thrown many isWide amountOf accountOf dayOf given givenOf runs runWide runWay runTotal runSteps lefts rights results wide dn stepsAt keeps order att spareAmount spareAccount spareDay cured cureOf shareOf big unitsOf' spare halfFrom halfMany halfDone halfTotal isFar) K) : ∀ (v6_6 : Int64) (v11_7 : Int64) (s_8 : Int32) (s_9 : Int32) (unitsOf_10 : Int64), wX3_hasUnits_J96 p0 K v6_6 v11_7 s_8 s_9 unitsOf_10 → X g 25 96 [(0, .ref h0), (1, .double p0), (6, .long v6_6), (11, .long v11_7)] [.int s_9, .int s_8] (mW h0 ad (xT g) thrown many isWide amountOf accountOf dayOf given givenOf runs runWide runWay runTotal runSteps lefts rights results wide dn stepsAt keeps order att spareAmount spareAccount spareDay cured cureOf shareOf big unitsOf_10 spare halfFrom halfMany halfDone halfTotal isFar) 0 0 := by
  intro v6_6 v11_7 s_8 s_9 unitsOf_10 h
  unfold wX3_hasUnits_J96 at h
  refine x_isub G dX3_hasUnits_96 ?_
  refine x_topi (fun x_11 ex_11 => ?_)
  replace h := h x_11 ex_11
  refine x_istore (lv' := [(13, .int x_11), (0, .ref h0), (1, .double p0), (6, .long v6_6), (11, .long v11_7)]) G dX3_hasUnits_97 (by decide) rfl ?_
  refine x_lload G dX3_hasUnits_99 4 rfl ?_
  refine x_bipush (v := (30 : Int32)) G dX3_hasUnits_101 (by decide) ?_
  refine x_lshr G dX3_hasUnits_103 ?_
  refine x_lload G dX3_hasUnits_104 3 rfl ?_
  refine x_lmul G dX3_hasUnits_106 ?_
  refine x_topl (fun y_12 ey_12 => ?_)
  replace h := h y_12 ey_12
  refine x_lstore (lv' := [(14, .long y_12), (13, .int x_11), (0, .ref h0), (1, .double p0), (6, .long v6_6), (11, .long v11_7)]) G dX3_hasUnits_107 (by decide) rfl ?_
  refine x_lload G dX3_hasUnits_109 5 rfl ?_
  refine x_ldc2 G q1788 dX3_hasUnits_111 ?_
  refine x_land G dX3_hasUnits_114 ?_
  refine x_lload G dX3_hasUnits_115 4 rfl ?_
  refine x_lmul G dX3_hasUnits_117 ?_
  refine x_topl (fun y_13 ey_13 => ?_)
  replace h := h y_13 ey_13
  refine x_lstore (lv' := [(16, .long y_13), (14, .long y_12), (13, .int x_11), (0, .ref h0), (1, .double p0), (6, .long v6_6), (11, .long v11_7)]) G dX3_hasUnits_118 (by decide) rfl ?_
  refine x_lload G dX3_hasUnits_120 1 rfl ?_
  refine x_lload G dX3_hasUnits_122 0 rfl ?_
  refine x_bipush (v := (30 : Int32)) G dX3_hasUnits_124 (by decide) ?_
  refine x_lshr G dX3_hasUnits_126 ?_
  refine x_ladd G dX3_hasUnits_127 ?_
  refine x_topl (fun y_14 ey_14 => ?_)
  replace h := h y_14 ey_14
  refine x_lstore (lv' := [(14, .long y_14), (16, .long y_13), (13, .int x_11), (0, .ref h0), (1, .double p0), (6, .long v6_6), (11, .long v11_7)]) G dX3_hasUnits_128 (by decide) rfl ?_
  refine x_lload G dX3_hasUnits_130 1 rfl ?_
  refine x_ldc2 G q1788 dX3_hasUnits_132 ?_
  refine x_land G dX3_hasUnits_135 ?_
  refine x_topl (fun y_15 ey_15 => ?_)
  replace h := h y_15 ey_15
  refine x_lstore (lv' := [(16, .long y_15), (14, .long y_14), (13, .int x_11), (0, .ref h0), (1, .double p0), (6, .long v6_6), (11, .long v11_7)]) G dX3_hasUnits_136 (by decide) rfl ?_
  refine x_iload G dX3_hasUnits_138 2 rfl ?_
  refine x_bipush (v := (30 : Int32)) G dX3_hasUnits_140 (by decide) ?_
  refine x_icmp_gt (tgt := 213) G dX3_hasUnits_142 rfl (fun c => ?_) (fun c => ?_)
  · replace h := h.1 c
    refine x_iload G dX3_hasUnits_213 2 rfl ?_
    refine x_bipush (v := (30 : Int32)) G dX3_hasUnits_215 (by decide) ?_
    refine x_isub G dX3_hasUnits_217 ?_
    refine x_bipush (v := (45 : Int32)) G dX3_hasUnits_218 (by decide) ?_
    refine x_icmp_le (tgt := 235) G dX3_hasUnits_220 rfl (fun c => ?_) (fun c => ?_)
    · replace h := h.1 c
      refine x_iload G dX3_hasUnits_235 2 rfl ?_
      refine x_bipush (v := (30 : Int32)) G dX3_hasUnits_237 (by decide) ?_
      refine x_isub G dX3_hasUnits_239 ?_
      refine x_topi (fun x_16 ex_16 => ?_)
      replace h := h x_16 ex_16
      refine x_istore (lv' := [(22, .int x_16), (16, .long y_15), (14, .long y_14), (13, .int x_11), (0, .ref h0), (1, .double p0), (6, .long v6_6), (11, .long v11_7)]) G dX3_hasUnits_240 (by decide) rfl ?_
      refine x_lload G dX3_hasUnits_242 2 rfl ?_
      refine x_iload G dX3_hasUnits_244 0 rfl ?_
      refine x_lshr G dX3_hasUnits_246 ?_
      refine x_topl (fun y_17 ey_17 => ?_)
      replace h := h y_17 ey_17
      refine x_lstore (lv' := [(18, .long y_17), (22, .int x_16), (16, .long y_15), (14, .long y_14), (13, .int x_11), (0, .ref h0), (1, .double p0), (6, .long v6_6), (11, .long v11_7)]) G dX3_hasUnits_247 (by decide) rfl ?_
      refine x_lload G dX3_hasUnits_249 3 rfl ?_
      refine x_lconst (v := (1 : Int64)) G dX3_hasUnits_251 (by decide) ?_
      refine x_iload G dX3_hasUnits_252 1 rfl ?_
      refine x_lshl G dX3_hasUnits_254 ?_
      refine x_lconst (v := (1 : Int64)) G dX3_hasUnits_255 (by decide) ?_
      refine x_lsub G dX3_hasUnits_256 ?_
      refine x_land G dX3_hasUnits_257 ?_
      refine x_topl (fun y_18 ey_18 => ?_)
      replace h := h y_18 ey_18
      refine x_lstore (lv' := [(23, .long y_18), (18, .long y_17), (22, .int x_16), (16, .long y_15), (14, .long y_14), (13, .int x_11), (0, .ref h0), (1, .double p0), (6, .long v6_6), (11, .long v11_7)]) G dX3_hasUnits_258 (by decide) rfl ?_
      refine x_lload G dX3_hasUnits_260 0 rfl ?_
      refine x_lconst (v := (1 : Int64)) G dX3_hasUnits_262 (by decide) ?_
      refine x_iload G dX3_hasUnits_263 2 rfl ?_
      refine x_iconst (v := (1 : Int32)) G dX3_hasUnits_265 (by decide) ?_
      refine x_isub G dX3_hasUnits_266 ?_
      refine x_lshl G dX3_hasUnits_267 ?_
      refine x_lcmp_ne (tgt := 283) G dX3_hasUnits_268 dX3_hasUnits_269 rfl (fun c => ?_) (fun c => ?_)
      · replace h := h.1 c
        refine x_iconst (v := (0 : Int32)) G dX3_hasUnits_283 (by decide) ?_
        refine x_lv (lv' := [(0, .ref h0), (1, .double p0), (16, .long y_15), (18, .long y_17), (22, .int x_16), (23, .long y_18)]) [6, 7, 3, 1, 2, 0] rfl ?_
        refine kX3_hasUnits_J284 G Q  _ _ _ _ _ h
      · replace h := h.2 c
        refine x_lload G dX3_hasUnits_272 3 rfl ?_
        refine x_lconst (v := (0 : Int64)) G dX3_hasUnits_274 (by decide) ?_
        refine x_lcmp_ne (tgt := 283) G dX3_hasUnits_275 dX3_hasUnits_276 rfl (fun c => ?_) (fun c => ?_)
        · replace h := h.1 c
          refine x_iconst (v := (0 : Int32)) G dX3_hasUnits_283 (by decide) ?_
          refine x_lv (lv' := [(0, .ref h0), (1, .double p0), (16, .long y_15), (18, .long y_17), (22, .int x_16), (23, .long y_18)]) [6, 7, 3, 1, 2, 0] rfl ?_
          refine kX3_hasUnits_J284 G Q  _ _ _ _ _ h
        · replace h := h.2 c
          refine x_iconst (v := (1 : Int32)) G dX3_hasUnits_279 (by decide) ?_
          refine x_goto (tgt := 284) G dX3_hasUnits_280 rfl ?_
          refine x_lv (lv' := [(0, .ref h0), (1, .double p0), (16, .long y_15), (18, .long y_17), (22, .int x_16), (23, .long y_18)]) [6, 7, 3, 1, 2, 0] rfl ?_
          refine kX3_hasUnits_J284 G Q  _ _ _ _ _ h
    · replace h := h.2 c
      refine x_lconst (v := (0 : Int64)) G dX3_hasUnits_223 (by decide) ?_
      refine x_lstore (lv' := [(18, .long (0 : Int64)), (16, .long y_15), (14, .long y_14), (13, .int x_11), (0, .ref h0), (1, .double p0), (6, .long v6_6), (11, .long v11_7)]) G dX3_hasUnits_224 (by decide) rfl ?_
      refine x_iconst (v := (0 : Int32)) G dX3_hasUnits_226 (by decide) ?_
      refine x_istore (lv' := [(21, .int (0 : Int32)), (18, .long (0 : Int64)), (16, .long y_15), (14, .long y_14), (13, .int x_11), (0, .ref h0), (1, .double p0), (6, .long v6_6), (11, .long v11_7)]) G dX3_hasUnits_227 (by decide) rfl ?_
      refine x_iconst (v := (0 : Int32)) G dX3_hasUnits_229 (by decide) ?_
      refine x_istore (lv' := [(20, .int (0 : Int32)), (21, .int (0 : Int32)), (18, .long (0 : Int64)), (16, .long y_15), (14, .long y_14), (13, .int x_11), (0, .ref h0), (1, .double p0), (6, .long v6_6), (11, .long v11_7)]) G dX3_hasUnits_230 (by decide) rfl ?_
      refine x_goto (tgt := 324) G dX3_hasUnits_232 rfl ?_
      refine x_lv (lv' := [(0, .ref h0), (1, .double p0), (18, .long (0 : Int64)), (20, .int (0 : Int32)), (21, .int (0 : Int32))]) [6, 7, 2, 0, 1] rfl ?_
      refine kX3_hasUnits_J324 G Q  _ _ _ h
  · replace h := h.2 c
    refine x_lload G dX3_hasUnits_145 1 rfl ?_
    refine x_bipush (v := (30 : Int32)) G dX3_hasUnits_147 (by decide) ?_
    refine x_iload G dX3_hasUnits_149 2 rfl ?_
    refine x_isub G dX3_hasUnits_151 ?_
    refine x_lshl G dX3_hasUnits_152 ?_
    refine x_lload G dX3_hasUnits_153 0 rfl ?_
    refine x_iload G dX3_hasUnits_155 2 rfl ?_
    refine x_lshr G dX3_hasUnits_157 ?_
    refine x_ladd G dX3_hasUnits_158 ?_
    refine x_topl (fun y_31 ey_31 => ?_)
    replace h := h y_31 ey_31
    refine x_lstore (lv' := [(18, .long y_31), (16, .long y_15), (14, .long y_14), (13, .int x_11), (0, .ref h0), (1, .double p0), (6, .long v6_6), (11, .long v11_7)]) G dX3_hasUnits_159 (by decide) rfl ?_
    refine x_lload G dX3_hasUnits_161 1 rfl ?_
    refine x_lconst (v := (1 : Int64)) G dX3_hasUnits_163 (by decide) ?_
    refine x_iload G dX3_hasUnits_164 3 rfl ?_
    refine x_lshl G dX3_hasUnits_166 ?_
    refine x_lconst (v := (1 : Int64)) G dX3_hasUnits_167 (by decide) ?_
    refine x_lsub G dX3_hasUnits_168 ?_
    refine x_land G dX3_hasUnits_169 ?_
    refine x_topl (fun y_32 ey_32 => ?_)
    replace h := h y_32 ey_32
    refine x_lstore (lv' := [(22, .long y_32), (18, .long y_31), (16, .long y_15), (14, .long y_14), (13, .int x_11), (0, .ref h0), (1, .double p0), (6, .long v6_6), (11, .long v11_7)]) G dX3_hasUnits_170 (by decide) rfl ?_
    refine x_lload G dX3_hasUnits_172 0 rfl ?_
    refine x_lconst (v := (1 : Int64)) G dX3_hasUnits_174 (by decide) ?_
    refine x_iload G dX3_hasUnits_175 4 rfl ?_
    refine x_iconst (v := (1 : Int32)) G dX3_hasUnits_177 (by decide) ?_
    refine x_isub G dX3_hasUnits_178 ?_
    refine x_lshl G dX3_hasUnits_179 ?_
    refine x_lcmp_ne (tgt := 188) G dX3_hasUnits_180 dX3_hasUnits_181 rfl (fun c => ?_) (fun c => ?_)
    · replace h := h.1 c
      refine x_iconst (v := (0 : Int32)) G dX3_hasUnits_188 (by decide) ?_
      refine x_lv (lv' := [(0, .ref h0), (1, .double p0), (13, .int x_11), (18, .long y_31), (22, .long y_32)]) [5, 6, 4, 1, 0] rfl ?_
      refine kX3_hasUnits_J189 G Q  _ _ _ _ h
    · replace h := h.2 c
      refine x_iconst (v := (1 : Int32)) G dX3_hasUnits_184 (by decide) ?_
      refine x_goto (tgt := 189) G dX3_hasUnits_185 rfl ?_
      refine x_lv (lv' := [(0, .ref h0), (1, .double p0), (13, .int x_11), (18, .long y_31), (22, .long y_32)]) [5, 6, 4, 1, 0] rfl ?_
      refine kX3_hasUnits_J189 G Q  _ _ _ _ h
set_option maxRecDepth 20000 in
theorem tX3_hasUnits {l : Launch} {D : va_G} {ta : Nat → ClassId} {h0 : Nat} {ad : Nat → Nat} {thrown : Int32} {many : Nat → Int32} {isWide : Nat → Int32} {amountOf : Nat → UInt64} {accountOf : Nat → Int32} {dayOf : Nat → Int32} {given : Nat → Int32} {givenOf : Nat → Int32} {runs : Int32} {runWide : Nat → Int32} {runWay : Nat → Int32} {runTotal : Nat → UInt64} {runSteps : Nat → Int32} {lefts : Nat → UInt64} {rights : Nat → UInt64} {results : Nat → UInt64} {wide : Int32} {dn : Int32} {stepsAt : Int32} {keeps : Int32} {order : Nat → Int32} {att : Nat → UInt64} {spareAmount : Nat → UInt64} {spareAccount : Nat → Int32} {spareDay : Nat → Int32} {cured : Int32} {cureOf : Nat → Int32} {shareOf : Nat → Int32} {big : Nat → Int32} {unitsOf : Int64} {spare : Int32} {halfFrom : Nat → Int32} {halfMany : Nat → Int32} {halfDone : Nat → Int32} {halfTotal : Nat → UInt64} {isFar : Int32} {p0 : UInt64} {p1 : Int32} {K : Int32 → Int64 → Prop} (hlt : l.stackTraces = false) (h : wX3_hasUnits p0 p1 unitsOf K) : SMi1 l D ta yX3_hasUnits cX3_hasUnits 25 FieldType.boolean 3 [.ref h0, .double p0, .int p1] (mW h0 ad ta thrown many isWide amountOf accountOf dayOf given givenOf runs runWide runWay runTotal runSteps lefts rights results wide dn stepsAt keeps order att spareAmount spareAccount spareDay cured cureOf shareOf big unitsOf spare halfFrom halfMany halfDone halfTotal isFar) (fun (unitsOf' : Int64) => mW h0 ad ta thrown many isWide amountOf accountOf dayOf given givenOf runs runWide runWay runTotal runSteps lefts rights results wide dn stepsAt keeps order att spareAmount spareAccount spareDay cured cureOf shareOf big unitsOf' spare halfFrom halfMany halfDone halfTotal isFar) 0 0 K := by
  refine x_sti1 hlt (plainFor_of_name (by decide +kernel)) (Nat.le_of_ble_eq_true rfl) (fun g G hl hD hT Q => ?_)
  subst hl; subst hD; subst hT
  unfold wX3_hasUnits at h
  show X g 25 0 [(0, .ref h0), (1, .double p0), (3, .int p1)] [] (mW h0 ad (xT g) thrown many isWide amountOf accountOf dayOf given givenOf runs runWide runWay runTotal runSteps lefts rights results wide dn stepsAt keeps order att spareAmount spareAccount spareDay cured cureOf shareOf big unitsOf spare halfFrom halfMany halfDone halfTotal isFar) 0 0
  refine x_dload_n G rfl dX3_hasUnits_0 1 rfl ?_
  refine x_cPd (As := [.double p0]) (rest := []) G (tX3_sizeOf G.noTraces h) (lw_S q1714 q1715 q70 q1716) cdX3_sizeOf (by decide) (by decide) rfl (Nat.le_of_ble_eq_true rfl) (Nat.zero_le _) (Nat.zero_le _) dX3_hasUnits_1 (fun r_1 h => ?_)
  refine x_dstore (lv' := [(4, .double r_1), (0, .ref h0), (1, .double p0), (3, .int p1)]) G dX3_hasUnits_4 (by decide) rfl ?_
  refine x_iload_n G rfl dX3_hasUnits_6 3 rfl ?_
  refine x_cPl (As := [.int p1]) (rest := []) G (tX3_tens G.noTraces h) (lw_S q1780 q1781 q70 q1782) cdX3_tens (by decide) (by decide) rfl (Nat.le_of_ble_eq_true rfl) (Nat.zero_le _) (Nat.zero_le _) dX3_hasUnits_7 (fun r_2 h => ?_)
  refine x_lstore (lv' := [(6, .long r_2), (4, .double r_1), (0, .ref h0), (1, .double p0), (3, .int p1)]) G dX3_hasUnits_10 (by decide) rfl ?_
  refine x_aload_n G rfl dX3_hasUnits_12 2 rfl ?_
  refine x_lconst (v := (0 : Int64)) G dX3_hasUnits_13 (by decide) ?_
  refine m_put_29 G dX3_hasUnits_14 ?_
  refine x_dload G dX3_hasUnits_17 1 rfl ?_
  refine x_ldc2d G q1784 dX3_hasUnits_19 ?_
  refine x_dcmpg_ge (tgt := 39) G dX3_hasUnits_22 dX3_hasUnits_23 rfl (fun c => ?_) (fun c => ?_)
  · replace h := h.1 c
    refine x_iconst (v := (0 : Int32)) G dX3_hasUnits_39 (by decide) ?_
    exact x_reti1 G Q dX3_hasUnits_40 rfl (0 : Int64) h XSub.rf (Nat.le_refl _) (Nat.le_refl _)
  · replace h := h.2 c
    refine x_dload G dX3_hasUnits_26 1 rfl ?_
    refine x_lload G dX3_hasUnits_28 0 rfl ?_
    refine x_l2d G dX3_hasUnits_30 ?_
    obtain ⟨hz, h⟩ := h
    refine x_dmul G dX3_hasUnits_31 hz ?_
    refine x_ldc2d G q1785 dX3_hasUnits_32 ?_
    refine x_dcmpl_le (tgt := 41) G dX3_hasUnits_35 dX3_hasUnits_36 rfl (fun c => ?_) (fun c => ?_)
    · replace h := h.1 c
      refine x_dload G dX3_hasUnits_41 1 rfl ?_
      refine x_cPl (As := [.double r_1]) (rest := []) G (tJ12_doubleToLongBits G.noTraces h) (lw_S q1691 q227 q84 q228) cdJ12_doubleToLongBits (by decide) (by decide) rfl (Nat.le_of_ble_eq_true rfl) (Nat.zero_le _) (Nat.zero_le _) dX3_hasUnits_43 (fun r_3 h => ?_)
      refine x_lstore (lv' := [(8, .long r_3), (6, .long r_2), (4, .double r_1), (0, .ref h0), (1, .double p0), (3, .int p1)]) G dX3_hasUnits_46 (by decide) rfl ?_
      refine x_lload G dX3_hasUnits_48 0 rfl ?_
      refine x_bipush (v := (52 : Int32)) G dX3_hasUnits_50 (by decide) ?_
      refine x_lshr G dX3_hasUnits_52 ?_
      refine x_l2i G dX3_hasUnits_53 ?_
      refine x_topi (fun x_4 ex_4 => ?_)
      replace h := h x_4 ex_4
      refine x_istore (lv' := [(10, .int x_4), (8, .long r_3), (6, .long r_2), (4, .double r_1), (0, .ref h0), (1, .double p0), (3, .int p1)]) G dX3_hasUnits_54 (by decide) rfl ?_
      refine x_lload G dX3_hasUnits_56 1 rfl ?_
      refine x_ldc2 G q1786 dX3_hasUnits_58 ?_
      refine x_land G dX3_hasUnits_61 ?_
      refine x_topl (fun y_5 ey_5 => ?_)
      replace h := h y_5 ey_5
      refine x_lstore (lv' := [(11, .long y_5), (10, .int x_4), (8, .long r_3), (6, .long r_2), (4, .double r_1), (0, .ref h0), (1, .double p0), (3, .int p1)]) G dX3_hasUnits_62 (by decide) rfl ?_
      refine x_iload G dX3_hasUnits_64 1 rfl ?_
      refine x_if_le (tgt := 78) G dX3_hasUnits_66 rfl (fun c => ?_) (fun c => ?_)
      · replace h := h.1 c
        refine x_lload G dX3_hasUnits_78 0 rfl ?_
        refine x_lstore (lv' := [(11, .long y_5), (10, .int x_4), (8, .long r_3), (6, .long r_2), (4, .double r_1), (0, .ref h0), (1, .double p0), (3, .int p1)]) G dX3_hasUnits_80 (by decide) rfl ?_
        refine x_sipush (v := (1075 : Int32)) G dX3_hasUnits_82 (by decide) ?_
        refine x_iload G dX3_hasUnits_85 1 rfl ?_
        refine x_if_le (tgt := 95) G dX3_hasUnits_87 rfl (fun c => ?_) (fun c => ?_)
        · replace h := h.1 c
          refine x_iconst (v := (1 : Int32)) G dX3_hasUnits_95 (by decide) ?_
          refine x_lv (lv' := [(0, .ref h0), (1, .double p0), (6, .long r_2), (11, .long y_5)]) [5, 6, 3, 0] rfl ?_
          refine kX3_hasUnits_J96 G Q  _ _ _ _ _ h
        · replace h := h.2 c
          refine x_iload G dX3_hasUnits_90 1 rfl ?_
          refine x_goto (tgt := 96) G dX3_hasUnits_92 rfl ?_
          refine x_lv (lv' := [(0, .ref h0), (1, .double p0), (6, .long r_2), (11, .long y_5)]) [5, 6, 3, 0] rfl ?_
          refine kX3_hasUnits_J96 G Q  _ _ _ _ _ h
      · replace h := h.2 c
        refine x_lload G dX3_hasUnits_69 0 rfl ?_
        refine x_ldc2 G q1787 dX3_hasUnits_71 ?_
        refine x_ladd G dX3_hasUnits_74 ?_
        refine x_goto (tgt := 80) G dX3_hasUnits_75 rfl ?_
        refine x_topl (fun y_37 ey_37 => ?_)
        replace h := h y_37 ey_37
        refine x_lstore (lv' := [(11, .long y_37), (10, .int x_4), (8, .long r_3), (6, .long r_2), (4, .double r_1), (0, .ref h0), (1, .double p0), (3, .int p1)]) G dX3_hasUnits_80 (by decide) rfl ?_
        refine x_sipush (v := (1075 : Int32)) G dX3_hasUnits_82 (by decide) ?_
        refine x_iload G dX3_hasUnits_85 1 rfl ?_
        refine x_if_le (tgt := 95) G dX3_hasUnits_87 rfl (fun c => ?_) (fun c => ?_)
        · replace h := h.1 c
          refine x_iconst (v := (1 : Int32)) G dX3_hasUnits_95 (by decide) ?_
          refine x_lv (lv' := [(0, .ref h0), (1, .double p0), (6, .long r_2), (11, .long y_37)]) [5, 6, 3, 0] rfl ?_
          refine kX3_hasUnits_J96 G Q  _ _ _ _ _ h
        · replace h := h.2 c
          refine x_iload G dX3_hasUnits_90 1 rfl ?_
          refine x_goto (tgt := 96) G dX3_hasUnits_92 rfl ?_
          refine x_lv (lv' := [(0, .ref h0), (1, .double p0), (6, .long r_2), (11, .long y_37)]) [5, 6, 3, 0] rfl ?_
          refine kX3_hasUnits_J96 G Q  _ _ _ _ _ h
    · replace h := h.2 c
      refine x_iconst (v := (0 : Int32)) G dX3_hasUnits_39 (by decide) ?_
      exact x_reti1 G Q dX3_hasUnits_40 rfl (0 : Int64) h XSub.rf (Nat.le_refl _) (Nat.le_refl _)
theorem cdX3_units : yX3_units.cls = RX3 ∧ yX3_units.cls ≠ "java/lang/invoke/MethodHandle" ∧ yX3_units.cls ≠ "java/lang/invoke/VarHandle" ∧ (parseMethodDescriptor yX3_units.desc).map (fun d => d.parameters.length) = some 3 := by decide +kernel
def wX3_units (p0 : Int32) (p1 : Int32) (p2 : Int32) (thrown : Int32) (many : Nat → Int32) (amountOf : Nat → UInt64) (unitsOf : Int64) (K : Int64 → Int32 → Int64 → Prop) : Prop := (wX3_in p2.toInt64 (0 : Int64) (6 : Int64) (fun (r_1 : Int32) => ((¬ r_1 = (0 : Int32) → (wX3_faultAt p0 p1 many (fun (r_2 : Int32) => ((r_2 = (0 : Int32) → (vp_in (((60 : Int32) * p0) + p1) 720 ∧ (wX3_hasUnits (amountOf (((60 : Int32) * p0) + p1).toNatClampNeg) p2 unitsOf (fun (r_3 : Int32) (unitsOf_4 : Int64) => ((r_3 = (0 : Int32) → K (-105 : Int64) r_2 unitsOf_4) ∧ (¬ r_3 = (0 : Int32) → K unitsOf_4 r_2 unitsOf_4)))))) ∧ (¬ r_2 = (0 : Int32) → K (0 : Int64) r_2 unitsOf))))) ∧ (r_1 = (0 : Int32) → K (-102 : Int64) (0 : Int32) unitsOf))))
set_option maxRecDepth 20000 in
theorem tX3_units {l : Launch} {D : va_G} {ta : Nat → ClassId} {h0 : Nat} {ad : Nat → Nat} {thrown : Int32} {many : Nat → Int32} {isWide : Nat → Int32} {amountOf : Nat → UInt64} {accountOf : Nat → Int32} {dayOf : Nat → Int32} {given : Nat → Int32} {givenOf : Nat → Int32} {runs : Int32} {runWide : Nat → Int32} {runWay : Nat → Int32} {runTotal : Nat → UInt64} {runSteps : Nat → Int32} {lefts : Nat → UInt64} {rights : Nat → UInt64} {results : Nat → UInt64} {wide : Int32} {dn : Int32} {stepsAt : Int32} {keeps : Int32} {order : Nat → Int32} {att : Nat → UInt64} {spareAmount : Nat → UInt64} {spareAccount : Nat → Int32} {spareDay : Nat → Int32} {cured : Int32} {cureOf : Nat → Int32} {shareOf : Nat → Int32} {big : Nat → Int32} {unitsOf : Int64} {spare : Int32} {halfFrom : Nat → Int32} {halfMany : Nat → Int32} {halfDone : Nat → Int32} {halfTotal : Nat → UInt64} {isFar : Int32} {p0 : Int32} {p1 : Int32} {p2 : Int32} {K : Int64 → Int32 → Int64 → Prop} (hlt : l.stackTraces = false) (h : wX3_units p0 p1 p2 thrown many amountOf unitsOf K) : SMl2 l D ta yX3_units cX3_units 4 FieldType.long 4 [.ref h0, .int p0, .int p1, .int p2] (mW h0 ad ta thrown many isWide amountOf accountOf dayOf given givenOf runs runWide runWay runTotal runSteps lefts rights results wide dn stepsAt keeps order att spareAmount spareAccount spareDay cured cureOf shareOf big unitsOf spare halfFrom halfMany halfDone halfTotal isFar) (fun (thrown' : Int32) (unitsOf' : Int64) => mW h0 ad ta thrown' many isWide amountOf accountOf dayOf given givenOf runs runWide runWay runTotal runSteps lefts rights results wide dn stepsAt keeps order att spareAmount spareAccount spareDay cured cureOf shareOf big unitsOf' spare halfFrom halfMany halfDone halfTotal isFar) 0 0 K := by
  refine x_stl2 hlt (plainFor_of_name (by decide +kernel)) (Nat.le_of_ble_eq_true rfl) (fun g G hl hD hT Q => ?_)
  subst hl; subst hD; subst hT
  unfold wX3_units at h
  show X g 4 0 [(0, .ref h0), (1, .int p0), (2, .int p1), (3, .int p2)] [] (mW h0 ad (xT g) thrown many isWide amountOf accountOf dayOf given givenOf runs runWide runWay runTotal runSteps lefts rights results wide dn stepsAt keeps order att spareAmount spareAccount spareDay cured cureOf shareOf big unitsOf spare halfFrom halfMany halfDone halfTotal isFar) 0 0
  refine x_aload_n G rfl dX3_units_0 0 rfl ?_
  refine x_iconst (v := (0 : Int32)) G dX3_units_1 (by decide) ?_
  refine m_put_0 G dX3_units_2 ?_
  refine x_iload_n G rfl dX3_units_5 3 rfl ?_
  refine x_i2l G dX3_units_6 ?_
  refine x_lconst (v := (0 : Int64)) G dX3_units_7 (by decide) ?_
  refine x_ldc2 G q1701 dX3_units_8 ?_
  refine x_cPi (As := [.long p2.toInt64, .long (0 : Int64), .long (6 : Int64)]) (rest := []) G (tX3_in G.noTraces h) (lw_S q1650 q1651 q70 q1652) cdX3_in (by decide) (by decide) rfl (Nat.le_of_ble_eq_true rfl) (Nat.zero_le _) (Nat.zero_le _) dX3_units_11 (fun r_1 h => ?_)
  refine x_if_ne (tgt := 21) G dX3_units_14 rfl (fun c => ?_) (fun c => ?_)
  · replace h := h.1 c
    refine x_aload_n G rfl dX3_units_21 0 rfl ?_
    refine x_aload_n G rfl dX3_units_22 0 rfl ?_
    refine x_iload_n G rfl dX3_units_23 1 rfl ?_
    refine x_iload_n G rfl dX3_units_24 2 rfl ?_
    refine x_cVi0 (As := [.int p0, .int p1]) (rest := [.ref h0]) G [] XSub.rf (tX3_faultAt G.noTraces h) (lw_V q1665 q1667 qs20 q70 q1668) cdX3_faultAt 3 0 rfl rfl rfl (by decide) (by decide) rfl (Nat.le_of_ble_eq_true rfl) (Nat.zero_le _) (Nat.zero_le _) dX3_units_25 (fun r_2 h => ?_)
    show X g 4 28 [(0, .ref h0), (1, .int p0), (2, .int p1), (3, .int p2)] [.int r_2, .ref h0] (mW h0 ad (xT g) (0 : Int32) many isWide amountOf accountOf dayOf given givenOf runs runWide runWay runTotal runSteps lefts rights results wide dn stepsAt keeps order att spareAmount spareAccount spareDay cured cureOf shareOf big unitsOf spare halfFrom halfMany halfDone halfTotal isFar) 0 0
    refine m_put_0 G dX3_units_28 ?_
    refine x_aload_n G rfl dX3_units_31 0 rfl ?_
    refine m_get_0 G dX3_units_32 ?_
    refine x_if_eq (tgt := 40) G dX3_units_35 rfl (fun c => ?_) (fun c => ?_)
    · replace h := h.1 c
      refine x_aload_n G rfl dX3_units_40 0 rfl ?_
      refine x_aload_n G rfl dX3_units_41 0 rfl ?_
      refine m_get_3 G dX3_units_42 ?_
      refine x_bipush (v := (60 : Int32)) G dX3_units_45 (by decide) ?_
      refine x_iload_n G rfl dX3_units_47 1 rfl ?_
      refine x_imul G dX3_units_48 ?_
      refine x_iload_n G rfl dX3_units_49 2 rfl ?_
      refine x_iadd G dX3_units_50 ?_
      obtain ⟨hz, h⟩ := h
      refine m_ald_3 G hz dX3_units_51 ?_
      refine x_iload_n G rfl dX3_units_52 3 rfl ?_
      refine x_cVi1 (As := [.double (amountOf (((60 : Int32) * p0) + p1).toNatClampNeg), .int p2]) (rest := []) G [] XSub.rf (tX3_hasUnits G.noTraces h) (lw_V q1776 q1778 qs26 q70 q1779) cdX3_hasUnits 3 0 rfl rfl rfl (by decide) (by decide) rfl (Nat.le_of_ble_eq_true rfl) (Nat.zero_le _) (Nat.zero_le _) dX3_units_53 (fun r_3 unitsOf_4 h => ?_)
      show X g 4 56 [(0, .ref h0), (1, .int p0), (2, .int p1), (3, .int p2)] [.int r_3] (mW h0 ad (xT g) r_2 many isWide amountOf accountOf dayOf given givenOf runs runWide runWay runTotal runSteps lefts rights results wide dn stepsAt keeps order att spareAmount spareAccount spareDay cured cureOf shareOf big unitsOf_4 spare halfFrom halfMany halfDone halfTotal isFar) 0 0
      refine x_if_eq (tgt := 66) G dX3_units_56 rfl (fun c => ?_) (fun c => ?_)
      · replace h := h.1 c
        refine x_ldc2 G q1791 dX3_units_66 ?_
        exact x_retl2 G Q dX3_units_69 r_2 unitsOf_4 h XSub.rf (Nat.le_refl _) (Nat.le_refl _)
      · replace h := h.2 c
        refine x_aload_n G rfl dX3_units_59 0 rfl ?_
        refine m_get_29 G dX3_units_60 ?_
        refine x_goto (tgt := 69) G dX3_units_63 rfl ?_
        exact x_retl2 G Q dX3_units_69 r_2 unitsOf_4 h XSub.rf (Nat.le_refl _) (Nat.le_refl _)
    · replace h := h.2 c
      refine x_lconst (v := (0 : Int64)) G dX3_units_38 (by decide) ?_
      exact x_retl2 G Q dX3_units_39 r_2 unitsOf h XSub.rf (Nat.le_refl _) (Nat.le_refl _)
  · replace h := h.2 c
    refine x_ldc2 G q1745 dX3_units_17 ?_
    exact x_retl2 G Q dX3_units_20 (0 : Int32) unitsOf h XSub.rf (Nat.le_refl _) (Nat.le_refl _)
theorem cdX3_give : yX3_give.cls = RX3 ∧ yX3_give.cls ≠ "java/lang/invoke/MethodHandle" ∧ yX3_give.cls ≠ "java/lang/invoke/VarHandle" ∧ (parseMethodDescriptor yX3_give.desc).map (fun d => d.parameters.length) = some 2 := by decide +kernel
def wX3_give_L21 (given : Nat → Int32) (givenOf : Nat → Int32) (p0 : Int32) (p1 : Int32) (X46 : Int32 → Prop) (X55 : Int32 → Prop) : Nat → Int32 → Prop
  | 0, _ => False
  | n + 1, v3_2 => (vp_in p0 12 ∧ (((given p0.toNatClampNeg) ≤ v3_2 → X55 v3_2) ∧ (¬ (given p0.toNatClampNeg) ≤ v3_2 → (vp_in (((60 : Int32) * p0) + v3_2) 720 ∧ ((¬ (givenOf (((60 : Int32) * p0) + v3_2).toNatClampNeg) = p1 → (∀ x_3 : Int32, x_3 = (v3_2 + (1 : Int32)) → wX3_give_L21 given givenOf p0 p1 X46 X55 n x_3)) ∧ ((givenOf (((60 : Int32) * p0) + v3_2).toNatClampNeg) = p1 → X46 v3_2))))))
def wX3_give (p0 : Int32) (p1 : Int32) (thrown : Int32) (many : Nat → Int32) (given : Nat → Int32) (givenOf : Nat → Int32) (K : Int32 → Int32 → (Nat → Int32) → (Nat → Int32) → Prop) : Prop := (wX3_faultAt p0 p1 many (fun (r_1 : Int32) => ((r_1 = (0 : Int32) → (∃ m21 : Nat, wX3_give_L21 given givenOf p0 p1 (fun (v3_6 : Int32) => K (-104 : Int32) r_1 given givenOf) (fun (v3_7 : Int32) => (vp_in p0 12 ∧ (vp_in (((60 : Int32) * p0) + (given p0.toNatClampNeg)) 720 ∧ (∀ givenOf_8 : Nat → Int32, givenOf_8 = upd givenOf (((60 : Int32) * p0) + (given p0.toNatClampNeg)).toNatClampNeg p1 → (vp_in p0 12 ∧ (∀ x_9 : Int32, x_9 = ((given p0.toNatClampNeg) + (1 : Int32)) → (vp_in p0 12 ∧ (∀ given_10 : Nat → Int32, given_10 = upd given p0.toNatClampNeg x_9 → (vp_in p0 12 ∧ K (given_10 p0.toNatClampNeg) r_1 given_10 givenOf_8))))))))) m21 (0 : Int32))) ∧ (¬ r_1 = (0 : Int32) → K (0 : Int32) r_1 given givenOf))))
set_option maxRecDepth 20000 in
theorem kX3_give_L21 {g : XG} {h0 : Nat} {ad : Nat → Nat} {many : Nat → Int32} {isWide : Nat → Int32} {amountOf : Nat → UInt64} {accountOf : Nat → Int32} {dayOf : Nat → Int32} {given : Nat → Int32} {givenOf : Nat → Int32} {runs : Int32} {runWide : Nat → Int32} {runWay : Nat → Int32} {runTotal : Nat → UInt64} {runSteps : Nat → Int32} {lefts : Nat → UInt64} {rights : Nat → UInt64} {results : Nat → UInt64} {wide : Int32} {dn : Int32} {stepsAt : Int32} {keeps : Int32} {order : Nat → Int32} {att : Nat → UInt64} {spareAmount : Nat → UInt64} {spareAccount : Nat → Int32} {spareDay : Nat → Int32} {cured : Int32} {cureOf : Nat → Int32} {shareOf : Nat → Int32} {big : Nat → Int32} {unitsOf : Int64} {spare : Int32} {halfFrom : Nat → Int32} {halfMany : Nat → Int32} {halfDone : Nat → Int32} {halfTotal : Nat → UInt64} {isFar : Int32} {p0 : Int32} {p1 : Int32} {r_1 : Int32} {X46 : Int32 → Prop} {X55 : Int32 → Prop} (G : XO g RX3 cX3_give 4 4 0 0) (hX46 : ∀ (v3_4 : Int32), X46 v3_4 → X g 4 46 [(3, .int v3_4), (0, .ref h0), (1, .int p0), (2, .int p1)] [] (mW h0 ad (xT g) r_1 many isWide amountOf accountOf dayOf given givenOf runs runWide runWay runTotal runSteps lefts rights results wide dn stepsAt keeps order att spareAmount spareAccount spareDay cured cureOf shareOf big unitsOf spare halfFrom halfMany halfDone halfTotal isFar) 0 0) (hX55 : ∀ (v3_5 : Int32), X55 v3_5 → X g 4 55 [(3, .int v3_5), (0, .ref h0), (1, .int p0), (2, .int p1)] [] (mW h0 ad (xT g) r_1 many isWide amountOf accountOf dayOf given givenOf runs runWide runWay runTotal runSteps lefts rights results wide dn stepsAt keeps order att spareAmount spareAccount spareDay cured cureOf shareOf big unitsOf spare halfFrom halfMany halfDone halfTotal isFar) 0 0) : ∀ (n : Nat) (v3_2 : Int32), wX3_give_L21 given givenOf p0 p1 X46 X55 n v3_2 → X g 4 21 [(3, .int v3_2), (0, .ref h0), (1, .int p0), (2, .int p1)] [] (mW h0 ad (xT g) r_1 many isWide amountOf accountOf dayOf given givenOf runs runWide runWay runTotal runSteps lefts rights results wide dn stepsAt keeps order att spareAmount spareAccount spareDay cured cureOf shareOf big unitsOf spare halfFrom halfMany halfDone halfTotal isFar) 0 0 := by
  intro n
  induction n with
  | zero => intro _ h; exact h.elim
  | succ n ih =>
    intro v3_2 h
    unfold wX3_give_L21 at h
    refine x_iload_n G rfl dX3_give_21 0 rfl ?_
    refine x_aload_n G rfl dX3_give_22 1 rfl ?_
    refine m_get_6 G dX3_give_23 ?_
    refine x_iload_n G rfl dX3_give_26 2 rfl ?_
    obtain ⟨hz, h⟩ := h
    refine m_ald_6 G hz dX3_give_27 ?_
    refine x_icmp_ge (tgt := 55) G dX3_give_28 rfl (fun c => ?_) (fun c => ?_)
    · replace h := h.1 c
      exact hX55 v3_2 h
    · replace h := h.2 c
      refine x_aload_n G rfl dX3_give_31 1 rfl ?_
      refine m_get_7 G dX3_give_32 ?_
      refine x_bipush (v := (60 : Int32)) G dX3_give_35 (by decide) ?_
      refine x_iload_n G rfl dX3_give_37 2 rfl ?_
      refine x_imul G dX3_give_38 ?_
      refine x_iload_n G rfl dX3_give_39 0 rfl ?_
      refine x_iadd G dX3_give_40 ?_
      obtain ⟨hz, h⟩ := h
      refine m_ald_7 G hz dX3_give_41 ?_
      refine x_iload_n G rfl dX3_give_42 3 rfl ?_
      refine x_icmp_ne (tgt := 49) G dX3_give_43 rfl (fun c => ?_) (fun c => ?_)
      · replace h := h.1 c
        obtain ⟨x_3, ex_3⟩ : ∃ z : Int32, z = (v3_2 + (1 : Int32)) := ⟨_, rfl⟩
        replace h := h x_3 ex_3
        refine x_iinc (v := x_3) (lv' := [(3, .int x_3), (0, .ref h0), (1, .int p0), (2, .int p1)]) G dX3_give_49 0 rfl (by rw [ex_3]; rfl) (by decide) rfl ?_
        refine x_goto (tgt := 21) G dX3_give_52 rfl ?_
        exact ih x_3 h
      · replace h := h.2 c
        exact hX46 v3_2 h
set_option maxRecDepth 20000 in
theorem tX3_give {l : Launch} {D : va_G} {ta : Nat → ClassId} {h0 : Nat} {ad : Nat → Nat} {thrown : Int32} {many : Nat → Int32} {isWide : Nat → Int32} {amountOf : Nat → UInt64} {accountOf : Nat → Int32} {dayOf : Nat → Int32} {given : Nat → Int32} {givenOf : Nat → Int32} {runs : Int32} {runWide : Nat → Int32} {runWay : Nat → Int32} {runTotal : Nat → UInt64} {runSteps : Nat → Int32} {lefts : Nat → UInt64} {rights : Nat → UInt64} {results : Nat → UInt64} {wide : Int32} {dn : Int32} {stepsAt : Int32} {keeps : Int32} {order : Nat → Int32} {att : Nat → UInt64} {spareAmount : Nat → UInt64} {spareAccount : Nat → Int32} {spareDay : Nat → Int32} {cured : Int32} {cureOf : Nat → Int32} {shareOf : Nat → Int32} {big : Nat → Int32} {unitsOf : Int64} {spare : Int32} {halfFrom : Nat → Int32} {halfMany : Nat → Int32} {halfDone : Nat → Int32} {halfTotal : Nat → UInt64} {isFar : Int32} {p0 : Int32} {p1 : Int32} {K : Int32 → Int32 → (Nat → Int32) → (Nat → Int32) → Prop} (hlt : l.stackTraces = false) (h : wX3_give p0 p1 thrown many given givenOf K) : SMi3 l D ta yX3_give cX3_give 4 FieldType.int 4 [.ref h0, .int p0, .int p1] (mW h0 ad ta thrown many isWide amountOf accountOf dayOf given givenOf runs runWide runWay runTotal runSteps lefts rights results wide dn stepsAt keeps order att spareAmount spareAccount spareDay cured cureOf shareOf big unitsOf spare halfFrom halfMany halfDone halfTotal isFar) (fun (thrown' : Int32) (given' : Nat → Int32) (givenOf' : Nat → Int32) => mW h0 ad ta thrown' many isWide amountOf accountOf dayOf given' givenOf' runs runWide runWay runTotal runSteps lefts rights results wide dn stepsAt keeps order att spareAmount spareAccount spareDay cured cureOf shareOf big unitsOf spare halfFrom halfMany halfDone halfTotal isFar) 0 0 K := by
  refine x_sti3 hlt (plainFor_of_name (by decide +kernel)) (Nat.le_of_ble_eq_true rfl) (fun g G hl hD hT Q => ?_)
  subst hl; subst hD; subst hT
  unfold wX3_give at h
  show X g 4 0 [(0, .ref h0), (1, .int p0), (2, .int p1)] [] (mW h0 ad (xT g) thrown many isWide amountOf accountOf dayOf given givenOf runs runWide runWay runTotal runSteps lefts rights results wide dn stepsAt keeps order att spareAmount spareAccount spareDay cured cureOf shareOf big unitsOf spare halfFrom halfMany halfDone halfTotal isFar) 0 0
  refine x_aload_n G rfl dX3_give_0 0 rfl ?_
  refine x_aload_n G rfl dX3_give_1 0 rfl ?_
  refine x_iload_n G rfl dX3_give_2 1 rfl ?_
  refine x_iload_n G rfl dX3_give_3 2 rfl ?_
  refine x_cVi0 (As := [.int p0, .int p1]) (rest := [.ref h0]) G [] XSub.rf (tX3_faultAt G.noTraces h) (lw_V q1665 q1667 qs20 q70 q1668) cdX3_faultAt 3 0 rfl rfl rfl (by decide) (by decide) rfl (Nat.le_of_ble_eq_true rfl) (Nat.zero_le _) (Nat.zero_le _) dX3_give_4 (fun r_1 h => ?_)
  show X g 4 7 [(0, .ref h0), (1, .int p0), (2, .int p1)] [.int r_1, .ref h0] (mW h0 ad (xT g) thrown many isWide amountOf accountOf dayOf given givenOf runs runWide runWay runTotal runSteps lefts rights results wide dn stepsAt keeps order att spareAmount spareAccount spareDay cured cureOf shareOf big unitsOf spare halfFrom halfMany halfDone halfTotal isFar) 0 0
  refine m_put_0 G dX3_give_7 ?_
  refine x_aload_n G rfl dX3_give_10 0 rfl ?_
  refine m_get_0 G dX3_give_11 ?_
  refine x_if_eq (tgt := 19) G dX3_give_14 rfl (fun c => ?_) (fun c => ?_)
  · replace h := h.1 c
    refine x_iconst (v := (0 : Int32)) G dX3_give_19 (by decide) ?_
    refine x_istore_n (lv' := [(3, .int (0 : Int32)), (0, .ref h0), (1, .int p0), (2, .int p1)]) G rfl dX3_give_20 (by decide) rfl ?_
    obtain ⟨n0, h⟩ := h
    refine kX3_give_L21 G (fun v3_6 h => ?_) (fun v3_7 h => ?_) n0 _ h
    · refine x_bipush (v := (-104 : Int32)) G dX3_give_46 (by decide) ?_
      exact x_reti3 G Q dX3_give_48 rfl r_1 given givenOf h XSub.rf (Nat.le_refl _) (Nat.le_refl _)
    · refine x_aload_n G rfl dX3_give_55 1 rfl ?_
      refine m_get_7 G dX3_give_56 ?_
      refine x_bipush (v := (60 : Int32)) G dX3_give_59 (by decide) ?_
      refine x_iload_n G rfl dX3_give_61 2 rfl ?_
      refine x_imul G dX3_give_62 ?_
      refine x_aload_n G rfl dX3_give_63 1 rfl ?_
      refine m_get_6 G dX3_give_64 ?_
      refine x_iload_n G rfl dX3_give_67 2 rfl ?_
      obtain ⟨hz, h⟩ := h
      refine m_ald_6 G hz dX3_give_68 ?_
      refine x_iadd G dX3_give_69 ?_
      refine x_iload_n G rfl dX3_give_70 3 rfl ?_
      obtain ⟨hz, h⟩ := h
      refine m_ast_7 G hz dX3_give_71 (fun givenOf_8 egivenOf_8 => ?_)
      replace h := h givenOf_8 egivenOf_8
      refine x_aload_n G rfl dX3_give_72 1 rfl ?_
      refine m_get_6 G dX3_give_73 ?_
      refine x_iload_n G rfl dX3_give_76 2 rfl ?_
      refine x_dup2_11 G dX3_give_77 rfl rfl ?_
      obtain ⟨hz, h⟩ := h
      refine m_ald_6 G hz dX3_give_78 ?_
      refine x_iconst (v := (1 : Int32)) G dX3_give_79 (by decide) ?_
      refine x_iadd G dX3_give_80 ?_
      refine x_topi (fun x_9 ex_9 => ?_)
      replace h := h x_9 ex_9
      obtain ⟨hz, h⟩ := h
      refine m_ast_6 G hz dX3_give_81 (fun given_10 egiven_10 => ?_)
      replace h := h given_10 egiven_10
      refine x_aload_n G rfl dX3_give_82 1 rfl ?_
      refine m_get_6 G dX3_give_83 ?_
      refine x_iload_n G rfl dX3_give_86 2 rfl ?_
      obtain ⟨hz, h⟩ := h
      refine m_ald_6 G hz dX3_give_87 ?_
      exact x_reti3 G Q dX3_give_88 rfl r_1 given_10 givenOf_8 h XSub.rf (Nat.le_refl _) (Nat.le_refl _)
  · replace h := h.2 c
    refine x_iconst (v := (0 : Int32)) G dX3_give_17 (by decide) ?_
    exact x_reti3 G Q dX3_give_18 rfl r_1 given givenOf h XSub.rf (Nat.le_refl _) (Nat.le_refl _)
theorem cdX3_byUnits : yX3_byUnits.cls = RX3 ∧ yX3_byUnits.cls ≠ "java/lang/invoke/MethodHandle" ∧ yX3_byUnits.cls ≠ "java/lang/invoke/VarHandle" ∧ (parseMethodDescriptor yX3_byUnits.desc).map (fun d => d.parameters.length) = some 2 := by decide +kernel
def wX3_byUnits_L5 (many : Nat → Int32) (amountOf : Nat → UInt64) (p0 : Int32) (p1 : Int32) (X65 : Int64 → Int32 → Int64 → Int32 → Prop) : Nat → Int64 → Int32 → Int64 → Int32 → Prop
  | 0, _, _, _, _ => False
  | n + 1, v3_1, v5_2, unitsOf_3, isFar_4 => (vp_in p0 12 ∧ (((many p0.toNatClampNeg) ≤ v5_2 → X65 v3_1 v5_2 unitsOf_3 isFar_4) ∧ (¬ (many p0.toNatClampNeg) ≤ v5_2 → ((¬ isFar_4 = (0 : Int32) → (∀ y_5 : Int64, y_5 = (v3_1 + unitsOf_3) → (∀ x_6 : Int32, x_6 = (v5_2 + (1 : Int32)) → wX3_byUnits_L5 many amountOf p0 p1 X65 n y_5 x_6 unitsOf_3 (1 : Int32)))) ∧ (isFar_4 = (0 : Int32) → (vp_in (((60 : Int32) * p0) + v5_2) 720 ∧ (wX3_hasUnits (amountOf (((60 : Int32) * p0) + v5_2).toNatClampNeg) p1 unitsOf_3 (fun (r_7 : Int32) (unitsOf_8 : Int64) => ((¬ r_7 = (0 : Int32) → (∀ y_9 : Int64, y_9 = (v3_1 + unitsOf_8) → (∀ x_10 : Int32, x_10 = (v5_2 + (1 : Int32)) → wX3_byUnits_L5 many amountOf p0 p1 X65 n y_9 x_10 unitsOf_8 (0 : Int32)))) ∧ (r_7 = (0 : Int32) → (∀ y_11 : Int64, y_11 = (v3_1 + unitsOf_8) → (∀ x_12 : Int32, x_12 = (v5_2 + (1 : Int32)) → wX3_byUnits_L5 many amountOf p0 p1 X65 n y_11 x_12 unitsOf_8 (1 : Int32)))))))))))))
def wX3_byUnits (p0 : Int32) (p1 : Int32) (many : Nat → Int32) (amountOf : Nat → UInt64) (wide : Int32) (unitsOf : Int64) (isFar : Int32) (K : UInt64 → Int64 → Int32 → Prop) : Prop := (∃ m5 : Nat, wX3_byUnits_L5 many amountOf p0 p1 (fun (v3_17 : Int64) (v5_18 : Int32) (unitsOf_19 : Int64) (isFar_20 : Int32) => (wX3_tens p1 (fun (r_21 : Int64) => (vf_n64 (FP.ddiv (FP.l2d v3_17) (FP.l2d r_21)) ∧ (∀ r_22 : UInt64, r_22 = (FP.ddiv (FP.l2d v3_17) (FP.l2d r_21)) → ((wide = (0 : Int32) → (vf_n32 (FP.d2f r_22) ∧ (vf_n64 (FP.f2d (FP.d2f r_22)) ∧ K (FP.f2d (FP.d2f r_22)) unitsOf_19 isFar_20))) ∧ (¬ wide = (0 : Int32) → K r_22 unitsOf_19 isFar_20))))))) m5 (0 : Int64) (0 : Int32) unitsOf isFar)
set_option maxRecDepth 20000 in
theorem kX3_byUnits_L5 {g : XG} {h0 : Nat} {ad : Nat → Nat} {thrown : Int32} {many : Nat → Int32} {isWide : Nat → Int32} {amountOf : Nat → UInt64} {accountOf : Nat → Int32} {dayOf : Nat → Int32} {given : Nat → Int32} {givenOf : Nat → Int32} {runs : Int32} {runWide : Nat → Int32} {runWay : Nat → Int32} {runTotal : Nat → UInt64} {runSteps : Nat → Int32} {lefts : Nat → UInt64} {rights : Nat → UInt64} {results : Nat → UInt64} {wide : Int32} {dn : Int32} {stepsAt : Int32} {keeps : Int32} {order : Nat → Int32} {att : Nat → UInt64} {spareAmount : Nat → UInt64} {spareAccount : Nat → Int32} {spareDay : Nat → Int32} {cured : Int32} {cureOf : Nat → Int32} {shareOf : Nat → Int32} {big : Nat → Int32} {spare : Int32} {halfFrom : Nat → Int32} {halfMany : Nat → Int32} {halfDone : Nat → Int32} {halfTotal : Nat → UInt64} {p0 : Int32} {p1 : Int32} {X65 : Int64 → Int32 → Int64 → Int32 → Prop} (G : XO g RX3 cX3_byUnits 7 4 0 0) (hX65 : ∀ (v3_13 : Int64) (v5_14 : Int32) (unitsOf_15 : Int64) (isFar_16 : Int32), X65 v3_13 v5_14 unitsOf_15 isFar_16 → X g 7 65 [(5, .int v5_14), (3, .long v3_13), (0, .ref h0), (1, .int p0), (2, .int p1)] [] (mW h0 ad (xT g) thrown many isWide amountOf accountOf dayOf given givenOf runs runWide runWay runTotal runSteps lefts rights results wide dn stepsAt keeps order att spareAmount spareAccount spareDay cured cureOf shareOf big unitsOf_15 spare halfFrom halfMany halfDone halfTotal isFar_16) 0 0) : ∀ (n : Nat) (v3_1 : Int64) (v5_2 : Int32) (unitsOf_3 : Int64) (isFar_4 : Int32), wX3_byUnits_L5 many amountOf p0 p1 X65 n v3_1 v5_2 unitsOf_3 isFar_4 → X g 7 5 [(5, .int v5_2), (3, .long v3_1), (0, .ref h0), (1, .int p0), (2, .int p1)] [] (mW h0 ad (xT g) thrown many isWide amountOf accountOf dayOf given givenOf runs runWide runWay runTotal runSteps lefts rights results wide dn stepsAt keeps order att spareAmount spareAccount spareDay cured cureOf shareOf big unitsOf_3 spare halfFrom halfMany halfDone halfTotal isFar_4) 0 0 := by
  intro n
  induction n with
  | zero => intro _ _ _ _ h; exact h.elim
  | succ n ih =>
    intro v3_1 v5_2 unitsOf_3 isFar_4 h
    unfold wX3_byUnits_L5 at h
    refine x_iload G dX3_byUnits_5 0 rfl ?_
    refine x_aload_n G rfl dX3_byUnits_7 2 rfl ?_
    refine m_get_1 G dX3_byUnits_8 ?_
    refine x_iload_n G rfl dX3_byUnits_11 3 rfl ?_
    obtain ⟨hz, h⟩ := h
    refine m_ald_1 G hz dX3_byUnits_12 ?_
    refine x_icmp_ge (tgt := 65) G dX3_byUnits_13 rfl (fun c => ?_) (fun c => ?_)
    · replace h := h.1 c
      exact hX65 v3_1 v5_2 unitsOf_3 isFar_4 h
    · replace h := h.2 c
      refine x_aload_n G rfl dX3_byUnits_16 2 rfl ?_
      refine x_aload_n G rfl dX3_byUnits_17 2 rfl ?_
      refine m_get_35 G dX3_byUnits_18 ?_
      refine x_if_ne (tgt := 44) G dX3_byUnits_21 rfl (fun c => ?_) (fun c => ?_)
      · replace h := h.1 c
        refine x_iconst (v := (1 : Int32)) G dX3_byUnits_44 (by decide) ?_
        refine x_goto (tgt := 49) G dX3_byUnits_45 rfl ?_
        refine m_put_35 G isB_1 dX3_byUnits_49 ?_
        refine x_lload_n G rfl dX3_byUnits_52 1 rfl ?_
        refine x_aload_n G rfl dX3_byUnits_53 2 rfl ?_
        refine m_get_29 G dX3_byUnits_54 ?_
        refine x_ladd G dX3_byUnits_57 ?_
        refine x_topl (fun y_5 ey_5 => ?_)
        replace h := h y_5 ey_5
        refine x_lstore_n (lv' := [(3, .long y_5), (5, .int v5_2), (0, .ref h0), (1, .int p0), (2, .int p1)]) G rfl dX3_byUnits_58 (by decide) rfl ?_
        obtain ⟨x_6, ex_6⟩ : ∃ z : Int32, z = (v5_2 + (1 : Int32)) := ⟨_, rfl⟩
        replace h := h x_6 ex_6
        refine x_iinc (v := x_6) (lv' := [(5, .int x_6), (3, .long y_5), (0, .ref h0), (1, .int p0), (2, .int p1)]) G dX3_byUnits_59 1 rfl (by rw [ex_6]; rfl) (by decide) rfl ?_
        refine x_goto (tgt := 5) G dX3_byUnits_62 rfl ?_
        exact ih y_5 x_6 unitsOf_3 (1 : Int32) h
      · replace h := h.2 c
        refine x_aload_n G rfl dX3_byUnits_24 2 rfl ?_
        refine x_aload_n G rfl dX3_byUnits_25 2 rfl ?_
        refine m_get_3 G dX3_byUnits_26 ?_
        refine x_bipush (v := (60 : Int32)) G dX3_byUnits_29 (by decide) ?_
        refine x_iload_n G rfl dX3_byUnits_31 3 rfl ?_
        refine x_imul G dX3_byUnits_32 ?_
        refine x_iload G dX3_byUnits_33 0 rfl ?_
        refine x_iadd G dX3_byUnits_35 ?_
        obtain ⟨hz, h⟩ := h
        refine m_ald_3 G hz dX3_byUnits_36 ?_
        refine x_iload_n G rfl dX3_byUnits_37 4 rfl ?_
        refine x_cVi1 (As := [.double (amountOf (((60 : Int32) * p0) + v5_2).toNatClampNeg), .int p1]) (rest := [.ref h0]) G [] XSub.rf (tX3_hasUnits G.noTraces h) (lw_V q1776 q1778 qs26 q70 q1779) cdX3_hasUnits 3 0 rfl rfl rfl (by decide) (by decide) rfl (Nat.le_of_ble_eq_true rfl) (Nat.zero_le _) (Nat.zero_le _) dX3_byUnits_38 (fun r_7 unitsOf_8 h => ?_)
        show X g 7 41 [(5, .int v5_2), (3, .long v3_1), (0, .ref h0), (1, .int p0), (2, .int p1)] [.int r_7, .ref h0] (mW h0 ad (xT g) thrown many isWide amountOf accountOf dayOf given givenOf runs runWide runWay runTotal runSteps lefts rights results wide dn stepsAt keeps order att spareAmount spareAccount spareDay cured cureOf shareOf big unitsOf_8 spare halfFrom halfMany halfDone halfTotal isFar_4) 0 0
        refine x_if_ne (tgt := 48) G dX3_byUnits_41 rfl (fun c => ?_) (fun c => ?_)
        · replace h := h.1 c
          refine x_iconst (v := (0 : Int32)) G dX3_byUnits_48 (by decide) ?_
          refine m_put_35 G isB_0 dX3_byUnits_49 ?_
          refine x_lload_n G rfl dX3_byUnits_52 1 rfl ?_
          refine x_aload_n G rfl dX3_byUnits_53 2 rfl ?_
          refine m_get_29 G dX3_byUnits_54 ?_
          refine x_ladd G dX3_byUnits_57 ?_
          refine x_topl (fun y_9 ey_9 => ?_)
          replace h := h y_9 ey_9
          refine x_lstore_n (lv' := [(3, .long y_9), (5, .int v5_2), (0, .ref h0), (1, .int p0), (2, .int p1)]) G rfl dX3_byUnits_58 (by decide) rfl ?_
          obtain ⟨x_10, ex_10⟩ : ∃ z : Int32, z = (v5_2 + (1 : Int32)) := ⟨_, rfl⟩
          replace h := h x_10 ex_10
          refine x_iinc (v := x_10) (lv' := [(5, .int x_10), (3, .long y_9), (0, .ref h0), (1, .int p0), (2, .int p1)]) G dX3_byUnits_59 1 rfl (by rw [ex_10]; rfl) (by decide) rfl ?_
          refine x_goto (tgt := 5) G dX3_byUnits_62 rfl ?_
          exact ih y_9 x_10 unitsOf_8 (0 : Int32) h
        · replace h := h.2 c
          refine x_iconst (v := (1 : Int32)) G dX3_byUnits_44 (by decide) ?_
          refine x_goto (tgt := 49) G dX3_byUnits_45 rfl ?_
          refine m_put_35 G isB_1 dX3_byUnits_49 ?_
          refine x_lload_n G rfl dX3_byUnits_52 1 rfl ?_
          refine x_aload_n G rfl dX3_byUnits_53 2 rfl ?_
          refine m_get_29 G dX3_byUnits_54 ?_
          refine x_ladd G dX3_byUnits_57 ?_
          refine x_topl (fun y_11 ey_11 => ?_)
          replace h := h y_11 ey_11
          refine x_lstore_n (lv' := [(3, .long y_11), (5, .int v5_2), (0, .ref h0), (1, .int p0), (2, .int p1)]) G rfl dX3_byUnits_58 (by decide) rfl ?_
          obtain ⟨x_12, ex_12⟩ : ∃ z : Int32, z = (v5_2 + (1 : Int32)) := ⟨_, rfl⟩
          replace h := h x_12 ex_12
          refine x_iinc (v := x_12) (lv' := [(5, .int x_12), (3, .long y_11), (0, .ref h0), (1, .int p0), (2, .int p1)]) G dX3_byUnits_59 1 rfl (by rw [ex_12]; rfl) (by decide) rfl ?_
          refine x_goto (tgt := 5) G dX3_byUnits_62 rfl ?_
          exact ih y_11 x_12 unitsOf_8 (1 : Int32) h
set_option maxRecDepth 20000 in
theorem tX3_byUnits {l : Launch} {D : va_G} {ta : Nat → ClassId} {h0 : Nat} {ad : Nat → Nat} {thrown : Int32} {many : Nat → Int32} {isWide : Nat → Int32} {amountOf : Nat → UInt64} {accountOf : Nat → Int32} {dayOf : Nat → Int32} {given : Nat → Int32} {givenOf : Nat → Int32} {runs : Int32} {runWide : Nat → Int32} {runWay : Nat → Int32} {runTotal : Nat → UInt64} {runSteps : Nat → Int32} {lefts : Nat → UInt64} {rights : Nat → UInt64} {results : Nat → UInt64} {wide : Int32} {dn : Int32} {stepsAt : Int32} {keeps : Int32} {order : Nat → Int32} {att : Nat → UInt64} {spareAmount : Nat → UInt64} {spareAccount : Nat → Int32} {spareDay : Nat → Int32} {cured : Int32} {cureOf : Nat → Int32} {shareOf : Nat → Int32} {big : Nat → Int32} {unitsOf : Int64} {spare : Int32} {halfFrom : Nat → Int32} {halfMany : Nat → Int32} {halfDone : Nat → Int32} {halfTotal : Nat → UInt64} {isFar : Int32} {p0 : Int32} {p1 : Int32} {K : UInt64 → Int64 → Int32 → Prop} (hlt : l.stackTraces = false) (h : wX3_byUnits p0 p1 many amountOf wide unitsOf isFar K) : SMd2 l D ta yX3_byUnits cX3_byUnits 7 FieldType.double 4 [.ref h0, .int p0, .int p1] (mW h0 ad ta thrown many isWide amountOf accountOf dayOf given givenOf runs runWide runWay runTotal runSteps lefts rights results wide dn stepsAt keeps order att spareAmount spareAccount spareDay cured cureOf shareOf big unitsOf spare halfFrom halfMany halfDone halfTotal isFar) (fun (unitsOf' : Int64) (isFar' : Int32) => mW h0 ad ta thrown many isWide amountOf accountOf dayOf given givenOf runs runWide runWay runTotal runSteps lefts rights results wide dn stepsAt keeps order att spareAmount spareAccount spareDay cured cureOf shareOf big unitsOf' spare halfFrom halfMany halfDone halfTotal isFar') 0 0 K := by
  refine x_std2 hlt (plainFor_of_name (by decide +kernel)) (Nat.le_of_ble_eq_true rfl) (fun g G hl hD hT Q => ?_)
  subst hl; subst hD; subst hT
  unfold wX3_byUnits at h
  show X g 7 0 [(0, .ref h0), (1, .int p0), (2, .int p1)] [] (mW h0 ad (xT g) thrown many isWide amountOf accountOf dayOf given givenOf runs runWide runWay runTotal runSteps lefts rights results wide dn stepsAt keeps order att spareAmount spareAccount spareDay cured cureOf shareOf big unitsOf spare halfFrom halfMany halfDone halfTotal isFar) 0 0
  refine x_lconst (v := (0 : Int64)) G dX3_byUnits_0 (by decide) ?_
  refine x_lstore_n (lv' := [(3, .long (0 : Int64)), (0, .ref h0), (1, .int p0), (2, .int p1)]) G rfl dX3_byUnits_1 (by decide) rfl ?_
  refine x_iconst (v := (0 : Int32)) G dX3_byUnits_2 (by decide) ?_
  refine x_istore (lv' := [(5, .int (0 : Int32)), (3, .long (0 : Int64)), (0, .ref h0), (1, .int p0), (2, .int p1)]) G dX3_byUnits_3 (by decide) rfl ?_
  obtain ⟨n0, h⟩ := h
  refine kX3_byUnits_L5 G (fun v3_17 v5_18 unitsOf_19 isFar_20 h => ?_) n0 _ _ _ _ h
  · refine x_lload_n G rfl dX3_byUnits_65 1 rfl ?_
    refine x_l2d G dX3_byUnits_66 ?_
    refine x_iload_n G rfl dX3_byUnits_67 4 rfl ?_
    refine x_cPl (As := [.int p1]) (rest := [.double (FP.l2d v3_17)]) G (tX3_tens G.noTraces h) (lw_S q1780 q1781 q70 q1782) cdX3_tens (by decide) (by decide) rfl (Nat.le_of_ble_eq_true rfl) (Nat.zero_le _) (Nat.zero_le _) dX3_byUnits_68 (fun r_21 h => ?_)
    refine x_l2d G dX3_byUnits_71 ?_
    obtain ⟨hz, h⟩ := h
    refine x_ddiv G dX3_byUnits_72 hz ?_
    refine x_topd (fun r_22 er_22 => ?_)
    replace h := h r_22 er_22
    refine x_dstore (lv' := [(5, .double r_22), (3, .long v3_17), (0, .ref h0), (1, .int p0), (2, .int p1)]) G dX3_byUnits_73 (by decide) rfl ?_
    refine x_aload_n G rfl dX3_byUnits_75 2 rfl ?_
    refine m_get_16 G dX3_byUnits_76 ?_
    refine x_if_eq (tgt := 87) G dX3_byUnits_79 rfl (fun c => ?_) (fun c => ?_)
    · replace h := h.1 c
      refine x_dload G dX3_byUnits_87 0 rfl ?_
      obtain ⟨hz, h⟩ := h
      refine x_d2f G dX3_byUnits_89 hz ?_
      obtain ⟨hz, h⟩ := h
      refine x_f2d G dX3_byUnits_90 hz ?_
      exact x_retd2 G Q dX3_byUnits_91 unitsOf_19 isFar_20 h XSub.rf (Nat.le_refl _) (Nat.le_refl _)
    · replace h := h.2 c
      refine x_dload G dX3_byUnits_82 0 rfl ?_
      refine x_goto (tgt := 91) G dX3_byUnits_84 rfl ?_
      exact x_retd2 G Q dX3_byUnits_91 unitsOf_19 isFar_20 h XSub.rf (Nat.le_refl _) (Nat.le_refl _)
theorem cdX3_sum : yX3_sum.cls = RX3 ∧ yX3_sum.cls ≠ "java/lang/invoke/MethodHandle" ∧ yX3_sum.cls ≠ "java/lang/invoke/VarHandle" ∧ (parseMethodDescriptor yX3_sum.desc).map (fun d => d.parameters.length) = some 2 := by decide +kernel
def wX3_sum (p0 : UInt64) (p1 : UInt64) (wide : Int32) (K : UInt64 → Prop) : Prop := ((wide = (0 : Int32) → (vf_n32 (FP.d2f p0) ∧ (vf_n32 (FP.d2f p1) ∧ (vf_n32 (FP.fadd (FP.d2f p0) (FP.d2f p1)) ∧ (vf_n64 (FP.f2d (FP.fadd (FP.d2f p0) (FP.d2f p1))) ∧ K (FP.f2d (FP.fadd (FP.d2f p0) (FP.d2f p1)))))))) ∧ (¬ wide = (0 : Int32) → (vf_n64 (FP.dadd p0 p1) ∧ K (FP.dadd p0 p1))))
set_option maxRecDepth 20000 in
theorem tX3_sum {l : Launch} {D : va_G} {ta : Nat → ClassId} {h0 : Nat} {ad : Nat → Nat} {thrown : Int32} {many : Nat → Int32} {isWide : Nat → Int32} {amountOf : Nat → UInt64} {accountOf : Nat → Int32} {dayOf : Nat → Int32} {given : Nat → Int32} {givenOf : Nat → Int32} {runs : Int32} {runWide : Nat → Int32} {runWay : Nat → Int32} {runTotal : Nat → UInt64} {runSteps : Nat → Int32} {lefts : Nat → UInt64} {rights : Nat → UInt64} {results : Nat → UInt64} {wide : Int32} {dn : Int32} {stepsAt : Int32} {keeps : Int32} {order : Nat → Int32} {att : Nat → UInt64} {spareAmount : Nat → UInt64} {spareAccount : Nat → Int32} {spareDay : Nat → Int32} {cured : Int32} {cureOf : Nat → Int32} {shareOf : Nat → Int32} {big : Nat → Int32} {unitsOf : Int64} {spare : Int32} {halfFrom : Nat → Int32} {halfMany : Nat → Int32} {halfDone : Nat → Int32} {halfTotal : Nat → UInt64} {isFar : Int32} {p0 : UInt64} {p1 : UInt64} {K : UInt64 → Prop} (hlt : l.stackTraces = false) (h : wX3_sum p0 p1 wide K) : SMd0 l D ta yX3_sum cX3_sum 5 FieldType.double 1 [.ref h0, .double p0, .double p1] (mW h0 ad ta thrown many isWide amountOf accountOf dayOf given givenOf runs runWide runWay runTotal runSteps lefts rights results wide dn stepsAt keeps order att spareAmount spareAccount spareDay cured cureOf shareOf big unitsOf spare halfFrom halfMany halfDone halfTotal isFar) (mW h0 ad ta thrown many isWide amountOf accountOf dayOf given givenOf runs runWide runWay runTotal runSteps lefts rights results wide dn stepsAt keeps order att spareAmount spareAccount spareDay cured cureOf shareOf big unitsOf spare halfFrom halfMany halfDone halfTotal isFar) 0 0 K := by
  refine x_std0 hlt (plainFor_of_name (by decide +kernel)) (Nat.le_of_ble_eq_true rfl) (fun g G hl hD hT Q => ?_)
  subst hl; subst hD; subst hT
  unfold wX3_sum at h
  show X g 5 0 [(0, .ref h0), (1, .double p0), (3, .double p1)] [] (mW h0 ad (xT g) thrown many isWide amountOf accountOf dayOf given givenOf runs runWide runWay runTotal runSteps lefts rights results wide dn stepsAt keeps order att spareAmount spareAccount spareDay cured cureOf shareOf big unitsOf spare halfFrom halfMany halfDone halfTotal isFar) 0 0
  refine x_aload_n G rfl dX3_sum_0 0 rfl ?_
  refine m_get_16 G dX3_sum_1 ?_
  refine x_if_eq (tgt := 13) G dX3_sum_4 rfl (fun c => ?_) (fun c => ?_)
  · replace h := h.1 c
    refine x_dload_n G rfl dX3_sum_13 1 rfl ?_
    obtain ⟨hz, h⟩ := h
    refine x_d2f G dX3_sum_14 hz ?_
    refine x_dload_n G rfl dX3_sum_15 2 rfl ?_
    obtain ⟨hz, h⟩ := h
    refine x_d2f G dX3_sum_16 hz ?_
    obtain ⟨hz, h⟩ := h
    refine x_fadd G dX3_sum_17 hz ?_
    obtain ⟨hz, h⟩ := h
    refine x_f2d G dX3_sum_18 hz ?_
    exact x_retd0 G Q dX3_sum_19  h XSub.rf (Nat.le_refl _) (Nat.le_refl _)
  · replace h := h.2 c
    refine x_dload_n G rfl dX3_sum_7 1 rfl ?_
    refine x_dload_n G rfl dX3_sum_8 2 rfl ?_
    obtain ⟨hz, h⟩ := h
    refine x_dadd G dX3_sum_9 hz ?_
    refine x_goto (tgt := 19) G dX3_sum_10 rfl ?_
    exact x_retd0 G Q dX3_sum_19  h XSub.rf (Nat.le_refl _) (Nat.le_refl _)
theorem cdX3_stepped : yX3_stepped.cls = RX3 ∧ yX3_stepped.cls ≠ "java/lang/invoke/MethodHandle" ∧ yX3_stepped.cls ≠ "java/lang/invoke/VarHandle" ∧ (parseMethodDescriptor yX3_stepped.desc).map (fun d => d.parameters.length) = some 3 := by decide +kernel
def wX3_stepped (p0 : UInt64) (p1 : UInt64) (p2 : UInt64) (lefts : Nat → UInt64) (rights : Nat → UInt64) (results : Nat → UInt64) (dn : Int32) (stepsAt : Int32) (keeps : Int32) (K : UInt64 → (Nat → UInt64) → (Nat → UInt64) → (Nat → UInt64) → Int32 → Prop) : Prop := ((keeps = (0 : Int32) → (∀ x_1 : Int32, x_1 = (dn + (1 : Int32)) → K p2 lefts rights results x_1)) ∧ (¬ keeps = (0 : Int32) → (vp_in (stepsAt + dn) 3600 ∧ (∀ lefts_2 : Nat → UInt64, lefts_2 = vf_upd lefts (stepsAt + dn).toNatClampNeg p0 → (vp_in (stepsAt + dn) 3600 ∧ (∀ rights_3 : Nat → UInt64, rights_3 = vf_upd rights (stepsAt + dn).toNatClampNeg p1 → (vp_in (stepsAt + dn) 3600 ∧ (∀ results_4 : Nat → UInt64, results_4 = vf_upd results (stepsAt + dn).toNatClampNeg p2 → (∀ x_5 : Int32, x_5 = (dn + (1 : Int32)) → K p2 lefts_2 rights_3 results_4 x_5)))))))))
set_option maxRecDepth 20000 in
theorem tX3_stepped {l : Launch} {D : va_G} {ta : Nat → ClassId} {h0 : Nat} {ad : Nat → Nat} {thrown : Int32} {many : Nat → Int32} {isWide : Nat → Int32} {amountOf : Nat → UInt64} {accountOf : Nat → Int32} {dayOf : Nat → Int32} {given : Nat → Int32} {givenOf : Nat → Int32} {runs : Int32} {runWide : Nat → Int32} {runWay : Nat → Int32} {runTotal : Nat → UInt64} {runSteps : Nat → Int32} {lefts : Nat → UInt64} {rights : Nat → UInt64} {results : Nat → UInt64} {wide : Int32} {dn : Int32} {stepsAt : Int32} {keeps : Int32} {order : Nat → Int32} {att : Nat → UInt64} {spareAmount : Nat → UInt64} {spareAccount : Nat → Int32} {spareDay : Nat → Int32} {cured : Int32} {cureOf : Nat → Int32} {shareOf : Nat → Int32} {big : Nat → Int32} {unitsOf : Int64} {spare : Int32} {halfFrom : Nat → Int32} {halfMany : Nat → Int32} {halfDone : Nat → Int32} {halfTotal : Nat → UInt64} {isFar : Int32} {p0 : UInt64} {p1 : UInt64} {p2 : UInt64} {K : UInt64 → (Nat → UInt64) → (Nat → UInt64) → (Nat → UInt64) → Int32 → Prop} (hlt : l.stackTraces = false) (h : wX3_stepped p0 p1 p2 lefts rights results dn stepsAt keeps K) : SMd4 l D ta yX3_stepped cX3_stepped 7 FieldType.double 1 [.ref h0, .double p0, .double p1, .double p2] (mW h0 ad ta thrown many isWide amountOf accountOf dayOf given givenOf runs runWide runWay runTotal runSteps lefts rights results wide dn stepsAt keeps order att spareAmount spareAccount spareDay cured cureOf shareOf big unitsOf spare halfFrom halfMany halfDone halfTotal isFar) (fun (lefts' : Nat → UInt64) (rights' : Nat → UInt64) (results' : Nat → UInt64) (dn' : Int32) => mW h0 ad ta thrown many isWide amountOf accountOf dayOf given givenOf runs runWide runWay runTotal runSteps lefts' rights' results' wide dn' stepsAt keeps order att spareAmount spareAccount spareDay cured cureOf shareOf big unitsOf spare halfFrom halfMany halfDone halfTotal isFar) 0 0 K := by
  refine x_std4 hlt (plainFor_of_name (by decide +kernel)) (Nat.le_of_ble_eq_true rfl) (fun g G hl hD hT Q => ?_)
  subst hl; subst hD; subst hT
  unfold wX3_stepped at h
  show X g 7 0 [(0, .ref h0), (1, .double p0), (3, .double p1), (5, .double p2)] [] (mW h0 ad (xT g) thrown many isWide amountOf accountOf dayOf given givenOf runs runWide runWay runTotal runSteps lefts rights results wide dn stepsAt keeps order att spareAmount spareAccount spareDay cured cureOf shareOf big unitsOf spare halfFrom halfMany halfDone halfTotal isFar) 0 0
  refine x_aload_n G rfl dX3_stepped_0 0 rfl ?_
  refine m_get_19 G dX3_stepped_1 ?_
  refine x_if_eq (tgt := 53) G dX3_stepped_4 rfl (fun c => ?_) (fun c => ?_)
  · replace h := h.1 c
    refine x_aload_n G rfl dX3_stepped_53 0 rfl ?_
    refine x_dup G dX3_stepped_54 rfl ?_
    refine m_get_17 G dX3_stepped_55 ?_
    refine x_iconst (v := (1 : Int32)) G dX3_stepped_58 (by decide) ?_
    refine x_iadd G dX3_stepped_59 ?_
    refine x_topi (fun x_1 ex_1 => ?_)
    replace h := h x_1 ex_1
    refine m_put_17 G dX3_stepped_60 ?_
    refine x_dload G dX3_stepped_63 3 rfl ?_
    exact x_retd4 G Q dX3_stepped_65 lefts rights results x_1 h XSub.rf (Nat.le_refl _) (Nat.le_refl _)
  · replace h := h.2 c
    refine x_aload_n G rfl dX3_stepped_7 0 rfl ?_
    refine m_get_13 G dX3_stepped_8 ?_
    refine x_aload_n G rfl dX3_stepped_11 0 rfl ?_
    refine m_get_18 G dX3_stepped_12 ?_
    refine x_aload_n G rfl dX3_stepped_15 0 rfl ?_
    refine m_get_17 G dX3_stepped_16 ?_
    refine x_iadd G dX3_stepped_19 ?_
    refine x_dload_n G rfl dX3_stepped_20 1 rfl ?_
    obtain ⟨hz, h⟩ := h
    refine m_ast_13 G hz dX3_stepped_21 (fun lefts_2 elefts_2 => ?_)
    replace h := h lefts_2 elefts_2
    refine x_aload_n G rfl dX3_stepped_22 0 rfl ?_
    refine m_get_14 G dX3_stepped_23 ?_
    refine x_aload_n G rfl dX3_stepped_26 0 rfl ?_
    refine m_get_18 G dX3_stepped_27 ?_
    refine x_aload_n G rfl dX3_stepped_30 0 rfl ?_
    refine m_get_17 G dX3_stepped_31 ?_
    refine x_iadd G dX3_stepped_34 ?_
    refine x_dload_n G rfl dX3_stepped_35 2 rfl ?_
    obtain ⟨hz, h⟩ := h
    refine m_ast_14 G hz dX3_stepped_36 (fun rights_3 erights_3 => ?_)
    replace h := h rights_3 erights_3
    refine x_aload_n G rfl dX3_stepped_37 0 rfl ?_
    refine m_get_15 G dX3_stepped_38 ?_
    refine x_aload_n G rfl dX3_stepped_41 0 rfl ?_
    refine m_get_18 G dX3_stepped_42 ?_
    refine x_aload_n G rfl dX3_stepped_45 0 rfl ?_
    refine m_get_17 G dX3_stepped_46 ?_
    refine x_iadd G dX3_stepped_49 ?_
    refine x_dload G dX3_stepped_50 3 rfl ?_
    obtain ⟨hz, h⟩ := h
    refine m_ast_15 G hz dX3_stepped_52 (fun results_4 eresults_4 => ?_)
    replace h := h results_4 eresults_4
    refine x_aload_n G rfl dX3_stepped_53 0 rfl ?_
    refine x_dup G dX3_stepped_54 rfl ?_
    refine m_get_17 G dX3_stepped_55 ?_
    refine x_iconst (v := (1 : Int32)) G dX3_stepped_58 (by decide) ?_
    refine x_iadd G dX3_stepped_59 ?_
    refine x_topi (fun x_5 ex_5 => ?_)
    replace h := h x_5 ex_5
    refine m_put_17 G dX3_stepped_60 ?_
    refine x_dload G dX3_stepped_63 3 rfl ?_
    exact x_retd4 G Q dX3_stepped_65 lefts_2 rights_3 results_4 x_5 h XSub.rf (Nat.le_refl _) (Nat.le_refl _)
theorem cdX3_adds : yX3_adds.cls = RX3 ∧ yX3_adds.cls ≠ "java/lang/invoke/MethodHandle" ∧ yX3_adds.cls ≠ "java/lang/invoke/VarHandle" ∧ (parseMethodDescriptor yX3_adds.desc).map (fun d => d.parameters.length) = some 2 := by decide +kernel
def wX3_adds (p0 : UInt64) (p1 : UInt64) (lefts : Nat → UInt64) (rights : Nat → UInt64) (results : Nat → UInt64) (wide : Int32) (dn : Int32) (stepsAt : Int32) (keeps : Int32) (K : UInt64 → (Nat → UInt64) → (Nat → UInt64) → (Nat → UInt64) → Int32 → Prop) : Prop := (wX3_sum p0 p1 wide (fun (r_1 : UInt64) => (wX3_stepped p0 p1 r_1 lefts rights results dn stepsAt keeps (fun (r_2 : UInt64) (lefts_3 : Nat → UInt64) (rights_4 : Nat → UInt64) (results_5 : Nat → UInt64) (dn_6 : Int32) => K r_2 lefts_3 rights_4 results_5 dn_6))))
set_option maxRecDepth 20000 in
theorem tX3_adds {l : Launch} {D : va_G} {ta : Nat → ClassId} {h0 : Nat} {ad : Nat → Nat} {thrown : Int32} {many : Nat → Int32} {isWide : Nat → Int32} {amountOf : Nat → UInt64} {accountOf : Nat → Int32} {dayOf : Nat → Int32} {given : Nat → Int32} {givenOf : Nat → Int32} {runs : Int32} {runWide : Nat → Int32} {runWay : Nat → Int32} {runTotal : Nat → UInt64} {runSteps : Nat → Int32} {lefts : Nat → UInt64} {rights : Nat → UInt64} {results : Nat → UInt64} {wide : Int32} {dn : Int32} {stepsAt : Int32} {keeps : Int32} {order : Nat → Int32} {att : Nat → UInt64} {spareAmount : Nat → UInt64} {spareAccount : Nat → Int32} {spareDay : Nat → Int32} {cured : Int32} {cureOf : Nat → Int32} {shareOf : Nat → Int32} {big : Nat → Int32} {unitsOf : Int64} {spare : Int32} {halfFrom : Nat → Int32} {halfMany : Nat → Int32} {halfDone : Nat → Int32} {halfTotal : Nat → UInt64} {isFar : Int32} {p0 : UInt64} {p1 : UInt64} {K : UInt64 → (Nat → UInt64) → (Nat → UInt64) → (Nat → UInt64) → Int32 → Prop} (hlt : l.stackTraces = false) (h : wX3_adds p0 p1 lefts rights results wide dn stepsAt keeps K) : SMd4 l D ta yX3_adds cX3_adds 5 FieldType.double 2 [.ref h0, .double p0, .double p1] (mW h0 ad ta thrown many isWide amountOf accountOf dayOf given givenOf runs runWide runWay runTotal runSteps lefts rights results wide dn stepsAt keeps order att spareAmount spareAccount spareDay cured cureOf shareOf big unitsOf spare halfFrom halfMany halfDone halfTotal isFar) (fun (lefts' : Nat → UInt64) (rights' : Nat → UInt64) (results' : Nat → UInt64) (dn' : Int32) => mW h0 ad ta thrown many isWide amountOf accountOf dayOf given givenOf runs runWide runWay runTotal runSteps lefts' rights' results' wide dn' stepsAt keeps order att spareAmount spareAccount spareDay cured cureOf shareOf big unitsOf spare halfFrom halfMany halfDone halfTotal isFar) 0 0 K := by
  refine x_std4 hlt (plainFor_of_name (by decide +kernel)) (Nat.le_of_ble_eq_true rfl) (fun g G hl hD hT Q => ?_)
  subst hl; subst hD; subst hT
  unfold wX3_adds at h
  show X g 5 0 [(0, .ref h0), (1, .double p0), (3, .double p1)] [] (mW h0 ad (xT g) thrown many isWide amountOf accountOf dayOf given givenOf runs runWide runWay runTotal runSteps lefts rights results wide dn stepsAt keeps order att spareAmount spareAccount spareDay cured cureOf shareOf big unitsOf spare halfFrom halfMany halfDone halfTotal isFar) 0 0
  refine x_aload_n G rfl dX3_adds_0 0 rfl ?_
  refine x_dload_n G rfl dX3_adds_1 1 rfl ?_
  refine x_dload_n G rfl dX3_adds_2 2 rfl ?_
  refine x_aload_n G rfl dX3_adds_3 0 rfl ?_
  refine x_dload_n G rfl dX3_adds_4 1 rfl ?_
  refine x_dload_n G rfl dX3_adds_5 2 rfl ?_
  refine x_cVd0 (As := [.double p0, .double p1]) (rest := [.double p1, .double p0, .ref h0]) G [] XSub.rf (tX3_sum G.noTraces h) (lw_V q1818 q1820 qs31 q70 q1821) cdX3_sum 3 0 rfl rfl rfl (by decide) (by decide) rfl (Nat.le_of_ble_eq_true rfl) (Nat.zero_le _) (Nat.zero_le _) dX3_adds_6 (fun r_1 h => ?_)
  show X g 5 9 [(0, .ref h0), (1, .double p0), (3, .double p1)] [.double r_1, .double p1, .double p0, .ref h0] (mW h0 ad (xT g) thrown many isWide amountOf accountOf dayOf given givenOf runs runWide runWay runTotal runSteps lefts rights results wide dn stepsAt keeps order att spareAmount spareAccount spareDay cured cureOf shareOf big unitsOf spare halfFrom halfMany halfDone halfTotal isFar) 0 0
  refine x_cVd4 (As := [.double p0, .double p1, .double r_1]) (rest := []) G [] XSub.rf (tX3_stepped G.noTraces h) (lw_V q1822 q1824 qs32 q70 q1825) cdX3_stepped 3 0 rfl rfl rfl (by decide) (by decide) rfl (Nat.le_of_ble_eq_true rfl) (Nat.zero_le _) (Nat.zero_le _) dX3_adds_9 (fun r_2 lefts_3 rights_4 results_5 dn_6 h => ?_)
  show X g 5 12 [(0, .ref h0), (1, .double p0), (3, .double p1)] [.double r_2] (mW h0 ad (xT g) thrown many isWide amountOf accountOf dayOf given givenOf runs runWide runWay runTotal runSteps lefts_3 rights_4 results_5 wide dn_6 stepsAt keeps order att spareAmount spareAccount spareDay cured cureOf shareOf big unitsOf spare halfFrom halfMany halfDone halfTotal isFar) 0 0
  exact x_retd4 G Q dX3_adds_12 lefts_3 rights_4 results_5 dn_6 h XSub.rf (Nat.le_refl _) (Nat.le_refl _)
theorem cdX3_halves : yX3_halves.cls = RX3 ∧ yX3_halves.cls ≠ "java/lang/invoke/MethodHandle" ∧ yX3_halves.cls ≠ "java/lang/invoke/VarHandle" ∧ (parseMethodDescriptor yX3_halves.desc).map (fun d => d.parameters.length) = some 1 := by decide +kernel
def wX3_halves_J179 (halfMany_12 : Nat → Int32) (halfDone_13 : Nat → Int32) (v2_23 : Int32) (v3_24 : UInt64) (v5_25 : Int32) (lefts_29 : Nat → UInt64) (rights_30 : Nat → UInt64) (results_31 : Nat → UInt64) (dn_32 : Int32) (halfTotal_37 : Nat → UInt64) (X30 : Int32 → UInt64 → (Nat → UInt64) → (Nat → UInt64) → (Nat → UInt64) → Int32 → (Nat → Int32) → (Nat → Int32) → (Nat → Int32) → (Nat → UInt64) → Prop) : Int32 → Int32 → (Nat → Int32) → Prop := fun (s_40 : Int32) (s_41 : Int32) (halfFrom_42 : Nat → Int32) => (vp_in s_40 12 ∧ (∀ halfMany_43 : Nat → Int32, halfMany_43 = upd halfMany_12 s_40.toNatClampNeg s_41 → (vp_in v2_23 12 ∧ (∀ halfDone_44 : Nat → Int32, halfDone_44 = upd halfDone_13 v2_23.toNatClampNeg (0 : Int32) → (vp_in v5_25 12 ∧ (∀ x_45 : Int32, x_45 = ((halfDone_44 v5_25.toNatClampNeg) + (1 : Int32)) → (vp_in v5_25 12 ∧ (∀ halfDone_46 : Nat → Int32, halfDone_46 = upd halfDone_44 v5_25.toNatClampNeg x_45 → (∀ x_47 : Int32, x_47 = (v2_23 + (1 : Int32)) → X30 x_47 v3_24 lefts_29 rights_30 results_31 dn_32 halfFrom_42 halfMany_43 halfDone_46 halfTotal_37)))))))))
def wX3_halves_J147 (halfFrom_11 : Nat → Int32) (halfMany_12 : Nat → Int32) (halfDone_13 : Nat → Int32) (v2_23 : Int32) (v3_24 : UInt64) (v5_25 : Int32) (v6_26 : Int32) (lefts_29 : Nat → UInt64) (rights_30 : Nat → UInt64) (results_31 : Nat → UInt64) (dn_32 : Int32) (X30 : Int32 → UInt64 → (Nat → UInt64) → (Nat → UInt64) → (Nat → UInt64) → Int32 → (Nat → Int32) → (Nat → Int32) → (Nat → Int32) → (Nat → UInt64) → Prop) : Int32 → Int32 → Int32 → (Nat → UInt64) → Prop := fun (s_34 : Int32) (s_35 : Int32) (s_36 : Int32) (halfTotal_37 : Nat → UInt64) => (∀ x_38 : Int32, x_38 = (s_35 + s_36) → (vp_in s_34 12 ∧ (∀ halfFrom_39 : Nat → Int32, halfFrom_39 = upd halfFrom_11 s_34.toNatClampNeg x_38 → (vp_in v5_25 12 ∧ ((¬ (halfDone_13 v5_25.toNatClampNeg) = (0 : Int32) → (vp_in v5_25 12 ∧ (wX3_halves_J179 halfMany_12 halfDone_13 v2_23 v3_24 v5_25 lefts_29 rights_30 results_31 dn_32 halfTotal_37 (X30) v2_23 ((halfMany_12 v5_25.toNatClampNeg) - v6_26) halfFrom_39))) ∧ ((halfDone_13 v5_25.toNatClampNeg) = (0 : Int32) → (wX3_halves_J179 halfMany_12 halfDone_13 v2_23 v3_24 v5_25 lefts_29 rights_30 results_31 dn_32 halfTotal_37 (X30) v2_23 v6_26 halfFrom_39)))))))
def wX3_halves_J118 (halfFrom_11 : Nat → Int32) (halfMany_12 : Nat → Int32) (halfDone_13 : Nat → Int32) (halfTotal_14 : Nat → UInt64) (X30 : Int32 → UInt64 → (Nat → UInt64) → (Nat → UInt64) → (Nat → UInt64) → Int32 → (Nat → Int32) → (Nat → Int32) → (Nat → Int32) → (Nat → UInt64) → Prop) : Int32 → UInt64 → Int32 → Int32 → Int32 → UInt64 → (Nat → UInt64) → (Nat → UInt64) → (Nat → UInt64) → Int32 → Prop := fun (v2_23 : Int32) (v3_24 : UInt64) (v5_25 : Int32) (v6_26 : Int32) (s_27 : Int32) (s_28 : UInt64) (lefts_29 : Nat → UInt64) (rights_30 : Nat → UInt64) (results_31 : Nat → UInt64) (dn_32 : Int32) => (vp_in s_27 12 ∧ (∀ halfTotal_33 : Nat → UInt64, halfTotal_33 = vf_upd halfTotal_14 s_27.toNatClampNeg s_28 → (vp_in v5_25 12 ∧ (vp_in v5_25 12 ∧ ((¬ (halfDone_13 v5_25.toNatClampNeg) = (0 : Int32) → (wX3_halves_J147 halfFrom_11 halfMany_12 halfDone_13 v2_23 v3_24 v5_25 v6_26 lefts_29 rights_30 results_31 dn_32 (X30) v2_23 (halfFrom_11 v5_25.toNatClampNeg) v6_26 halfTotal_33)) ∧ ((halfDone_13 v5_25.toNatClampNeg) = (0 : Int32) → (wX3_halves_J147 halfFrom_11 halfMany_12 halfDone_13 v2_23 v3_24 v5_25 v6_26 lefts_29 rights_30 results_31 dn_32 (X30) v2_23 (halfFrom_11 v5_25.toNatClampNeg) (0 : Int32) halfTotal_33)))))))
def wX3_halves_L30 (amountOf : Nat → UInt64) (wide : Int32) (stepsAt : Int32) (keeps : Int32) (p0 : Int32) (X223 : Int32 → UInt64 → (Nat → UInt64) → (Nat → UInt64) → (Nat → UInt64) → Int32 → (Nat → Int32) → (Nat → Int32) → (Nat → Int32) → (Nat → UInt64) → Prop) : Nat → Int32 → UInt64 → (Nat → UInt64) → (Nat → UInt64) → (Nat → UInt64) → Int32 → (Nat → Int32) → (Nat → Int32) → (Nat → Int32) → (Nat → UInt64) → Prop
  | 0, _, _, _, _, _, _, _, _, _, _ => False
  | n + 1, v2_5, v3_6, lefts_7, rights_8, results_9, dn_10, halfFrom_11, halfMany_12, halfDone_13, halfTotal_14 => ((v2_5 ≤ (0 : Int32) → X223 v2_5 v3_6 lefts_7 rights_8 results_9 dn_10 halfFrom_11 halfMany_12 halfDone_13 halfTotal_14) ∧ (¬ v2_5 ≤ (0 : Int32) → (∀ x_15 : Int32, x_15 = (v2_5 - (1 : Int32)) → (vp_in x_15 12 ∧ (∀ x_16 : Int32, x_16 = ((halfMany_12 x_15.toNatClampNeg) / (2 : Int32)) → (vp_in x_15 12 ∧ ((¬ (halfMany_12 x_15.toNatClampNeg) = (1 : Int32) → (vp_in x_15 12 ∧ (((2 : Int32) ≤ (halfDone_13 x_15.toNatClampNeg) → (vp_in x_15 12 ∧ (wX3_adds (halfTotal_14 x_15.toNatClampNeg) v3_6 lefts_7 rights_8 results_9 wide dn_10 stepsAt keeps (fun (r_17 : UInt64) (lefts_18 : Nat → UInt64) (rights_19 : Nat → UInt64) (results_20 : Nat → UInt64) (dn_21 : Int32) => (∀ x_22 : Int32, x_22 = (v2_5 + (-1 : Int32)) → wX3_halves_L30 amountOf wide stepsAt keeps p0 X223 n x_22 r_17 lefts_18 rights_19 results_20 dn_21 halfFrom_11 halfMany_12 halfDone_13 halfTotal_14))))) ∧ (¬ (2 : Int32) ≤ (halfDone_13 x_15.toNatClampNeg) → (vp_in x_15 12 ∧ ((¬ (halfDone_13 x_15.toNatClampNeg) = (1 : Int32) → (wX3_halves_J118 halfFrom_11 halfMany_12 halfDone_13 halfTotal_14 (wX3_halves_L30 amountOf wide stepsAt keeps p0 X223 n) v2_5 v3_6 x_15 x_16 x_15 FP.dconst0 lefts_7 rights_8 results_9 dn_10)) ∧ ((halfDone_13 x_15.toNatClampNeg) = (1 : Int32) → (wX3_halves_J118 halfFrom_11 halfMany_12 halfDone_13 halfTotal_14 (wX3_halves_L30 amountOf wide stepsAt keeps p0 X223 n) v2_5 v3_6 x_15 x_16 x_15 v3_6 lefts_7 rights_8 results_9 dn_10)))))))) ∧ ((halfMany_12 x_15.toNatClampNeg) = (1 : Int32) → (vp_in x_15 12 ∧ (vp_in (((60 : Int32) * p0) + (halfFrom_11 x_15.toNatClampNeg)) 720 ∧ (∀ r_78 : UInt64, r_78 = (amountOf (((60 : Int32) * p0) + (halfFrom_11 x_15.toNatClampNeg)).toNatClampNeg) → (∀ x_79 : Int32, x_79 = (v2_5 + (-1 : Int32)) → wX3_halves_L30 amountOf wide stepsAt keeps p0 X223 n x_79 r_78 lefts_7 rights_8 results_9 dn_10 halfFrom_11 halfMany_12 halfDone_13 halfTotal_14))))))))))))
def wX3_halves (p0 : Int32) (many : Nat → Int32) (amountOf : Nat → UInt64) (lefts : Nat → UInt64) (rights : Nat → UInt64) (results : Nat → UInt64) (wide : Int32) (dn : Int32) (stepsAt : Int32) (keeps : Int32) (halfFrom : Nat → Int32) (halfMany : Nat → Int32) (halfDone : Nat → Int32) (halfTotal : Nat → UInt64) (K : UInt64 → (Nat → UInt64) → (Nat → UInt64) → (Nat → UInt64) → Int32 → (Nat → Int32) → (Nat → Int32) → (Nat → Int32) → (Nat → UInt64) → Prop) : Prop := (vp_in (0 : Int32) 12 ∧ (∀ halfFrom_1 : Nat → Int32, halfFrom_1 = upd halfFrom (0 : Int32).toNatClampNeg (0 : Int32) → (vp_in p0 12 ∧ (∀ x_2 : Int32, x_2 = (many p0.toNatClampNeg) → (vp_in (0 : Int32) 12 ∧ (∀ halfMany_3 : Nat → Int32, halfMany_3 = upd halfMany (0 : Int32).toNatClampNeg x_2 → (vp_in (0 : Int32) 12 ∧ (∀ halfDone_4 : Nat → Int32, halfDone_4 = upd halfDone (0 : Int32).toNatClampNeg (0 : Int32) → (∃ m30 : Nat, wX3_halves_L30 amountOf wide stepsAt keeps p0 (fun (v2_90 : Int32) (v3_91 : UInt64) (lefts_92 : Nat → UInt64) (rights_93 : Nat → UInt64) (results_94 : Nat → UInt64) (dn_95 : Int32) (halfFrom_96 : Nat → Int32) (halfMany_97 : Nat → Int32) (halfDone_98 : Nat → Int32) (halfTotal_99 : Nat → UInt64) => K v3_91 lefts_92 rights_93 results_94 dn_95 halfFrom_96 halfMany_97 halfDone_98 halfTotal_99) m30 (1 : Int32) FP.dconst0 lefts rights results dn halfFrom_1 halfMany_3 halfDone_4 halfTotal)))))))))
set_option maxRecDepth 20000 in
theorem kX3_halves_J179 {g : XG} {h0 : Nat} {ad : Nat → Nat} {thrown : Int32} {many : Nat → Int32} {isWide : Nat → Int32} {amountOf : Nat → UInt64} {accountOf : Nat → Int32} {dayOf : Nat → Int32} {given : Nat → Int32} {givenOf : Nat → Int32} {runs : Int32} {runWide : Nat → Int32} {runWay : Nat → Int32} {runTotal : Nat → UInt64} {runSteps : Nat → Int32} {wide : Int32} {stepsAt : Int32} {keeps : Int32} {order : Nat → Int32} {att : Nat → UInt64} {spareAmount : Nat → UInt64} {spareAccount : Nat → Int32} {spareDay : Nat → Int32} {cured : Int32} {cureOf : Nat → Int32} {shareOf : Nat → Int32} {big : Nat → Int32} {unitsOf : Int64} {spare : Int32} {isFar : Int32} {p0 : Int32} {halfMany_12 : Nat → Int32} {halfDone_13 : Nat → Int32} {v2_23 : Int32} {v3_24 : UInt64} {v5_25 : Int32} {lefts_29 : Nat → UInt64} {rights_30 : Nat → UInt64} {results_31 : Nat → UInt64} {dn_32 : Int32} {halfTotal_37 : Nat → UInt64} {X30 : Int32 → UInt64 → (Nat → UInt64) → (Nat → UInt64) → (Nat → UInt64) → Int32 → (Nat → Int32) → (Nat → Int32) → (Nat → Int32) → (Nat → UInt64) → Prop} (G : XO g RX3 cX3_halves 7 3 0 0) (hX30 : ∀ (v2_48 : Int32) (v3_49 : UInt64) (lefts_50 : Nat → UInt64) (rights_51 : Nat → UInt64) (results_52 : Nat → UInt64) (dn_53 : Int32) (halfFrom_54 : Nat → Int32) (halfMany_55 : Nat → Int32) (halfDone_56 : Nat → Int32) (halfTotal_57 : Nat → UInt64), X30 v2_48 v3_49 lefts_50 rights_51 results_52 dn_53 halfFrom_54 halfMany_55 halfDone_56 halfTotal_57 → X g 7 30 [(3, .double v3_49), (2, .int v2_48), (0, .ref h0), (1, .int p0)] [] (mW h0 ad (xT g) thrown many isWide amountOf accountOf dayOf given givenOf runs runWide runWay runTotal runSteps lefts_50 rights_51 results_52 wide dn_53 stepsAt keeps order att spareAmount spareAccount spareDay cured cureOf shareOf big unitsOf spare halfFrom_54 halfMany_55 halfDone_56 halfTotal_57 isFar) 0 0) : ∀ (s_40 : Int32) (s_41 : Int32) (halfFrom_42 : Nat → Int32), wX3_halves_J179 halfMany_12 halfDone_13 v2_23 v3_24 v5_25 lefts_29 rights_30 results_31 dn_32 halfTotal_37 X30 s_40 s_41 halfFrom_42 → X g 7 179 [(0, .ref h0), (1, .int p0), (2, .int v2_23), (3, .double v3_24), (5, .int v5_25)] [.int s_41, .int s_40, .ref (ad 32)] (mW h0 ad (xT g) thrown many isWide amountOf accountOf dayOf given givenOf runs runWide runWay runTotal runSteps lefts_29 rights_30 results_31 wide dn_32 stepsAt keeps order att spareAmount spareAccount spareDay cured cureOf shareOf big unitsOf spare halfFrom_42 halfMany_12 halfDone_13 halfTotal_37 isFar) 0 0 := by
  intro s_40 s_41 halfFrom_42 h
  unfold wX3_halves_J179 at h
  obtain ⟨hz, h⟩ := h
  refine m_ast_32 G hz dX3_halves_179 (fun halfMany_43 ehalfMany_43 => ?_)
  replace h := h halfMany_43 ehalfMany_43
  refine x_aload_n G rfl dX3_halves_180 0 rfl ?_
  refine m_get_33 G dX3_halves_181 ?_
  refine x_iload_n G rfl dX3_halves_184 2 rfl ?_
  refine x_iconst (v := (0 : Int32)) G dX3_halves_185 (by decide) ?_
  obtain ⟨hz, h⟩ := h
  refine m_ast_33 G hz dX3_halves_186 (fun halfDone_44 ehalfDone_44 => ?_)
  replace h := h halfDone_44 ehalfDone_44
  refine x_aload_n G rfl dX3_halves_187 0 rfl ?_
  refine m_get_33 G dX3_halves_188 ?_
  refine x_iload G dX3_halves_191 4 rfl ?_
  refine x_dup2_11 G dX3_halves_193 rfl rfl ?_
  obtain ⟨hz, h⟩ := h
  refine m_ald_33 G hz dX3_halves_194 ?_
  refine x_iconst (v := (1 : Int32)) G dX3_halves_195 (by decide) ?_
  refine x_iadd G dX3_halves_196 ?_
  refine x_topi (fun x_45 ex_45 => ?_)
  replace h := h x_45 ex_45
  obtain ⟨hz, h⟩ := h
  refine m_ast_33 G hz dX3_halves_197 (fun halfDone_46 ehalfDone_46 => ?_)
  replace h := h halfDone_46 ehalfDone_46
  obtain ⟨x_47, ex_47⟩ : ∃ z : Int32, z = (v2_23 + (1 : Int32)) := ⟨_, rfl⟩
  replace h := h x_47 ex_47
  refine x_iinc (v := x_47) (lv' := [(2, .int x_47), (0, .ref h0), (1, .int p0), (3, .double v3_24), (5, .int v5_25)]) G dX3_halves_198 2 rfl (by rw [ex_47]; rfl) (by decide) rfl ?_
  refine x_goto (tgt := 220) G dX3_halves_201 rfl ?_
  refine x_goto (tgt := 30) G dX3_halves_220 rfl ?_
  refine x_lv (lv' := [(3, .double v3_24), (2, .int x_47), (0, .ref h0), (1, .int p0)]) [3, 0, 1, 2] rfl ?_
  exact hX30 x_47 v3_24 lefts_29 rights_30 results_31 dn_32 halfFrom_42 halfMany_43 halfDone_46 halfTotal_37 h
set_option maxRecDepth 20000 in
theorem kX3_halves_J147 {g : XG} {h0 : Nat} {ad : Nat → Nat} {thrown : Int32} {many : Nat → Int32} {isWide : Nat → Int32} {amountOf : Nat → UInt64} {accountOf : Nat → Int32} {dayOf : Nat → Int32} {given : Nat → Int32} {givenOf : Nat → Int32} {runs : Int32} {runWide : Nat → Int32} {runWay : Nat → Int32} {runTotal : Nat → UInt64} {runSteps : Nat → Int32} {wide : Int32} {stepsAt : Int32} {keeps : Int32} {order : Nat → Int32} {att : Nat → UInt64} {spareAmount : Nat → UInt64} {spareAccount : Nat → Int32} {spareDay : Nat → Int32} {cured : Int32} {cureOf : Nat → Int32} {shareOf : Nat → Int32} {big : Nat → Int32} {unitsOf : Int64} {spare : Int32} {isFar : Int32} {p0 : Int32} {halfFrom_11 : Nat → Int32} {halfMany_12 : Nat → Int32} {halfDone_13 : Nat → Int32} {v2_23 : Int32} {v3_24 : UInt64} {v5_25 : Int32} {v6_26 : Int32} {lefts_29 : Nat → UInt64} {rights_30 : Nat → UInt64} {results_31 : Nat → UInt64} {dn_32 : Int32} {X30 : Int32 → UInt64 → (Nat → UInt64) → (Nat → UInt64) → (Nat → UInt64) → Int32 → (Nat → Int32) → (Nat → Int32) → (Nat → Int32) → (Nat → UInt64) → Prop} (G : XO g RX3 cX3_halves 7 3 0 0) (hX30 : ∀ (v2_58 : Int32) (v3_59 : UInt64) (lefts_60 : Nat → UInt64) (rights_61 : Nat → UInt64) (results_62 : Nat → UInt64) (dn_63 : Int32) (halfFrom_64 : Nat → Int32) (halfMany_65 : Nat → Int32) (halfDone_66 : Nat → Int32) (halfTotal_67 : Nat → UInt64), X30 v2_58 v3_59 lefts_60 rights_61 results_62 dn_63 halfFrom_64 halfMany_65 halfDone_66 halfTotal_67 → X g 7 30 [(3, .double v3_59), (2, .int v2_58), (0, .ref h0), (1, .int p0)] [] (mW h0 ad (xT g) thrown many isWide amountOf accountOf dayOf given givenOf runs runWide runWay runTotal runSteps lefts_60 rights_61 results_62 wide dn_63 stepsAt keeps order att spareAmount spareAccount spareDay cured cureOf shareOf big unitsOf spare halfFrom_64 halfMany_65 halfDone_66 halfTotal_67 isFar) 0 0) : ∀ (s_34 : Int32) (s_35 : Int32) (s_36 : Int32) (halfTotal_37 : Nat → UInt64), wX3_halves_J147 halfFrom_11 halfMany_12 halfDone_13 v2_23 v3_24 v5_25 v6_26 lefts_29 rights_30 results_31 dn_32 X30 s_34 s_35 s_36 halfTotal_37 → X g 7 147 [(0, .ref h0), (1, .int p0), (2, .int v2_23), (3, .double v3_24), (5, .int v5_25), (6, .int v6_26)] [.int s_36, .int s_35, .int s_34, .ref (ad 31)] (mW h0 ad (xT g) thrown many isWide amountOf accountOf dayOf given givenOf runs runWide runWay runTotal runSteps lefts_29 rights_30 results_31 wide dn_32 stepsAt keeps order att spareAmount spareAccount spareDay cured cureOf shareOf big unitsOf spare halfFrom_11 halfMany_12 halfDone_13 halfTotal_37 isFar) 0 0 := by
  intro s_34 s_35 s_36 halfTotal_37 h
  unfold wX3_halves_J147 at h
  refine x_iadd G dX3_halves_147 ?_
  refine x_topi (fun x_38 ex_38 => ?_)
  replace h := h x_38 ex_38
  obtain ⟨hz, h⟩ := h
  refine m_ast_31 G hz dX3_halves_148 (fun halfFrom_39 ehalfFrom_39 => ?_)
  replace h := h halfFrom_39 ehalfFrom_39
  refine x_aload_n G rfl dX3_halves_149 0 rfl ?_
  refine m_get_32 G dX3_halves_150 ?_
  refine x_iload_n G rfl dX3_halves_153 2 rfl ?_
  refine x_aload_n G rfl dX3_halves_154 0 rfl ?_
  refine m_get_33 G dX3_halves_155 ?_
  refine x_iload G dX3_halves_158 4 rfl ?_
  obtain ⟨hz, h⟩ := h
  refine m_ald_33 G hz dX3_halves_160 ?_
  refine x_if_ne (tgt := 169) G dX3_halves_161 rfl (fun c => ?_) (fun c => ?_)
  · replace h := h.1 c
    refine x_aload_n G rfl dX3_halves_169 0 rfl ?_
    refine m_get_32 G dX3_halves_170 ?_
    refine x_iload G dX3_halves_173 4 rfl ?_
    obtain ⟨hz, h⟩ := h
    refine m_ald_32 G hz dX3_halves_175 ?_
    refine x_iload G dX3_halves_176 5 rfl ?_
    refine x_isub G dX3_halves_178 ?_
    refine x_lv (lv' := [(0, .ref h0), (1, .int p0), (2, .int v2_23), (3, .double v3_24), (5, .int v5_25)]) [0, 1, 2, 3, 4] rfl ?_
    refine kX3_halves_J179 G hX30 _ _ _ h
  · replace h := h.2 c
    refine x_iload G dX3_halves_164 5 rfl ?_
    refine x_goto (tgt := 179) G dX3_halves_166 rfl ?_
    refine x_lv (lv' := [(0, .ref h0), (1, .int p0), (2, .int v2_23), (3, .double v3_24), (5, .int v5_25)]) [0, 1, 2, 3, 4] rfl ?_
    refine kX3_halves_J179 G hX30 _ _ _ h
set_option maxRecDepth 20000 in
theorem kX3_halves_J118 {g : XG} {h0 : Nat} {ad : Nat → Nat} {thrown : Int32} {many : Nat → Int32} {isWide : Nat → Int32} {amountOf : Nat → UInt64} {accountOf : Nat → Int32} {dayOf : Nat → Int32} {given : Nat → Int32} {givenOf : Nat → Int32} {runs : Int32} {runWide : Nat → Int32} {runWay : Nat → Int32} {runTotal : Nat → UInt64} {runSteps : Nat → Int32} {wide : Int32} {stepsAt : Int32} {keeps : Int32} {order : Nat → Int32} {att : Nat → UInt64} {spareAmount : Nat → UInt64} {spareAccount : Nat → Int32} {spareDay : Nat → Int32} {cured : Int32} {cureOf : Nat → Int32} {shareOf : Nat → Int32} {big : Nat → Int32} {unitsOf : Int64} {spare : Int32} {isFar : Int32} {p0 : Int32} {halfFrom_11 : Nat → Int32} {halfMany_12 : Nat → Int32} {halfDone_13 : Nat → Int32} {halfTotal_14 : Nat → UInt64} {X30 : Int32 → UInt64 → (Nat → UInt64) → (Nat → UInt64) → (Nat → UInt64) → Int32 → (Nat → Int32) → (Nat → Int32) → (Nat → Int32) → (Nat → UInt64) → Prop} (G : XO g RX3 cX3_halves 7 3 0 0) (hX30 : ∀ (v2_68 : Int32) (v3_69 : UInt64) (lefts_70 : Nat → UInt64) (rights_71 : Nat → UInt64) (results_72 : Nat → UInt64) (dn_73 : Int32) (halfFrom_74 : Nat → Int32) (halfMany_75 : Nat → Int32) (halfDone_76 : Nat → Int32) (halfTotal_77 : Nat → UInt64), X30 v2_68 v3_69 lefts_70 rights_71 results_72 dn_73 halfFrom_74 halfMany_75 halfDone_76 halfTotal_77 → X g 7 30 [(3, .double v3_69), (2, .int v2_68), (0, .ref h0), (1, .int p0)] [] (mW h0 ad (xT g) thrown many isWide amountOf accountOf dayOf given givenOf runs runWide runWay runTotal runSteps lefts_70 rights_71 results_72 wide dn_73 stepsAt keeps order att spareAmount spareAccount spareDay cured cureOf shareOf big unitsOf spare halfFrom_74 halfMany_75 halfDone_76 halfTotal_77 isFar) 0 0) : ∀ (v2_23 : Int32) (v3_24 : UInt64) (v5_25 : Int32) (v6_26 : Int32) (s_27 : Int32) (s_28 : UInt64) (lefts_29 : Nat → UInt64) (rights_30 : Nat → UInt64) (results_31 : Nat → UInt64) (dn_32 : Int32), wX3_halves_J118 halfFrom_11 halfMany_12 halfDone_13 halfTotal_14 X30 v2_23 v3_24 v5_25 v6_26 s_27 s_28 lefts_29 rights_30 results_31 dn_32 → X g 7 118 [(0, .ref h0), (1, .int p0), (2, .int v2_23), (3, .double v3_24), (5, .int v5_25), (6, .int v6_26)] [.double s_28, .int s_27, .ref (ad 34)] (mW h0 ad (xT g) thrown many isWide amountOf accountOf dayOf given givenOf runs runWide runWay runTotal runSteps lefts_29 rights_30 results_31 wide dn_32 stepsAt keeps order att spareAmount spareAccount spareDay cured cureOf shareOf big unitsOf spare halfFrom_11 halfMany_12 halfDone_13 halfTotal_14 isFar) 0 0 := by
  intro v2_23 v3_24 v5_25 v6_26 s_27 s_28 lefts_29 rights_30 results_31 dn_32 h
  unfold wX3_halves_J118 at h
  obtain ⟨hz, h⟩ := h
  refine m_ast_34 G hz dX3_halves_118 (fun halfTotal_33 ehalfTotal_33 => ?_)
  replace h := h halfTotal_33 ehalfTotal_33
  refine x_aload_n G rfl dX3_halves_119 0 rfl ?_
  refine m_get_31 G dX3_halves_120 ?_
  refine x_iload_n G rfl dX3_halves_123 2 rfl ?_
  refine x_aload_n G rfl dX3_halves_124 0 rfl ?_
  refine m_get_31 G dX3_halves_125 ?_
  refine x_iload G dX3_halves_128 4 rfl ?_
  obtain ⟨hz, h⟩ := h
  refine m_ald_31 G hz dX3_halves_130 ?_
  refine x_aload_n G rfl dX3_halves_131 0 rfl ?_
  refine m_get_33 G dX3_halves_132 ?_
  refine x_iload G dX3_halves_135 4 rfl ?_
  obtain ⟨hz, h⟩ := h
  refine m_ald_33 G hz dX3_halves_137 ?_
  refine x_if_ne (tgt := 145) G dX3_halves_138 rfl (fun c => ?_) (fun c => ?_)
  · replace h := h.1 c
    refine x_iload G dX3_halves_145 5 rfl ?_
    refine kX3_halves_J147 G hX30 _ _ _ _ h
  · replace h := h.2 c
    refine x_iconst (v := (0 : Int32)) G dX3_halves_141 (by decide) ?_
    refine x_goto (tgt := 147) G dX3_halves_142 rfl ?_
    refine kX3_halves_J147 G hX30 _ _ _ _ h
set_option maxRecDepth 20000 in
theorem kX3_halves_L30 {g : XG} {h0 : Nat} {ad : Nat → Nat} {thrown : Int32} {many : Nat → Int32} {isWide : Nat → Int32} {amountOf : Nat → UInt64} {accountOf : Nat → Int32} {dayOf : Nat → Int32} {given : Nat → Int32} {givenOf : Nat → Int32} {runs : Int32} {runWide : Nat → Int32} {runWay : Nat → Int32} {runTotal : Nat → UInt64} {runSteps : Nat → Int32} {wide : Int32} {stepsAt : Int32} {keeps : Int32} {order : Nat → Int32} {att : Nat → UInt64} {spareAmount : Nat → UInt64} {spareAccount : Nat → Int32} {spareDay : Nat → Int32} {cured : Int32} {cureOf : Nat → Int32} {shareOf : Nat → Int32} {big : Nat → Int32} {unitsOf : Int64} {spare : Int32} {isFar : Int32} {p0 : Int32} {X223 : Int32 → UInt64 → (Nat → UInt64) → (Nat → UInt64) → (Nat → UInt64) → Int32 → (Nat → Int32) → (Nat → Int32) → (Nat → Int32) → (Nat → UInt64) → Prop} (G : XO g RX3 cX3_halves 7 3 0 0) (hX223 : ∀ (v2_80 : Int32) (v3_81 : UInt64) (lefts_82 : Nat → UInt64) (rights_83 : Nat → UInt64) (results_84 : Nat → UInt64) (dn_85 : Int32) (halfFrom_86 : Nat → Int32) (halfMany_87 : Nat → Int32) (halfDone_88 : Nat → Int32) (halfTotal_89 : Nat → UInt64), X223 v2_80 v3_81 lefts_82 rights_83 results_84 dn_85 halfFrom_86 halfMany_87 halfDone_88 halfTotal_89 → X g 7 223 [(3, .double v3_81), (2, .int v2_80), (0, .ref h0), (1, .int p0)] [] (mW h0 ad (xT g) thrown many isWide amountOf accountOf dayOf given givenOf runs runWide runWay runTotal runSteps lefts_82 rights_83 results_84 wide dn_85 stepsAt keeps order att spareAmount spareAccount spareDay cured cureOf shareOf big unitsOf spare halfFrom_86 halfMany_87 halfDone_88 halfTotal_89 isFar) 0 0) : ∀ (n : Nat) (v2_5 : Int32) (v3_6 : UInt64) (lefts_7 : Nat → UInt64) (rights_8 : Nat → UInt64) (results_9 : Nat → UInt64) (dn_10 : Int32) (halfFrom_11 : Nat → Int32) (halfMany_12 : Nat → Int32) (halfDone_13 : Nat → Int32) (halfTotal_14 : Nat → UInt64), wX3_halves_L30 amountOf wide stepsAt keeps p0 X223 n v2_5 v3_6 lefts_7 rights_8 results_9 dn_10 halfFrom_11 halfMany_12 halfDone_13 halfTotal_14 → X g 7 30 [(3, .double v3_6), (2, .int v2_5), (0, .ref h0), (1, .int p0)] [] (mW h0 ad (xT g) thrown many isWide amountOf accountOf dayOf given givenOf runs runWide runWay runTotal runSteps lefts_7 rights_8 results_9 wide dn_10 stepsAt keeps order att spareAmount spareAccount spareDay cured cureOf shareOf big unitsOf spare halfFrom_11 halfMany_12 halfDone_13 halfTotal_14 isFar) 0 0 := by
  intro n
  induction n with
  | zero => intro _ _ _ _ _ _ _ _ _ _ h; exact h.elim
  | succ n ih =>
    intro v2_5 v3_6 lefts_7 rights_8 results_9 dn_10 halfFrom_11 halfMany_12 halfDone_13 halfTotal_14 h
    unfold wX3_halves_L30 at h
    refine x_iload_n G rfl dX3_halves_30 1 rfl ?_
    refine x_if_le (tgt := 223) G dX3_halves_31 rfl (fun c => ?_) (fun c => ?_)
    · replace h := h.1 c
      exact hX223 v2_5 v3_6 lefts_7 rights_8 results_9 dn_10 halfFrom_11 halfMany_12 halfDone_13 halfTotal_14 h
    · replace h := h.2 c
      refine x_iload_n G rfl dX3_halves_34 1 rfl ?_
      refine x_iconst (v := (1 : Int32)) G dX3_halves_35 (by decide) ?_
      refine x_isub G dX3_halves_36 ?_
      refine x_topi (fun x_15 ex_15 => ?_)
      replace h := h x_15 ex_15
      refine x_istore (lv' := [(5, .int x_15), (3, .double v3_6), (2, .int v2_5), (0, .ref h0), (1, .int p0)]) G dX3_halves_37 (by decide) rfl ?_
      refine x_aload_n G rfl dX3_halves_39 3 rfl ?_
      refine m_get_32 G dX3_halves_40 ?_
      refine x_iload G dX3_halves_43 0 rfl ?_
      obtain ⟨hz, h⟩ := h
      refine m_ald_32 G hz dX3_halves_45 ?_
      refine x_iconst (v := (2 : Int32)) G dX3_halves_46 (by decide) ?_
      refine x_idiv G dX3_halves_47 (by decide) ?_
      refine x_topi (fun x_16 ex_16 => ?_)
      replace h := h x_16 ex_16
      refine x_istore (lv' := [(6, .int x_16), (5, .int x_15), (3, .double v3_6), (2, .int v2_5), (0, .ref h0), (1, .int p0)]) G dX3_halves_48 (by decide) rfl ?_
      refine x_aload_n G rfl dX3_halves_50 4 rfl ?_
      refine m_get_32 G dX3_halves_51 ?_
      refine x_iload G dX3_halves_54 1 rfl ?_
      obtain ⟨hz, h⟩ := h
      refine m_ald_32 G hz dX3_halves_56 ?_
      refine x_iconst (v := (1 : Int32)) G dX3_halves_57 (by decide) ?_
      refine x_icmp_ne (tgt := 85) G dX3_halves_58 rfl (fun c => ?_) (fun c => ?_)
      · replace h := h.1 c
        refine x_aload_n G rfl dX3_halves_85 4 rfl ?_
        refine m_get_33 G dX3_halves_86 ?_
        refine x_iload G dX3_halves_89 1 rfl ?_
        obtain ⟨hz, h⟩ := h
        refine m_ald_33 G hz dX3_halves_91 ?_
        refine x_iconst (v := (2 : Int32)) G dX3_halves_92 (by decide) ?_
        refine x_icmp_ge (tgt := 204) G dX3_halves_93 rfl (fun c => ?_) (fun c => ?_)
        · replace h := h.1 c
          refine x_aload_n G rfl dX3_halves_204 4 rfl ?_
          refine x_aload_n G rfl dX3_halves_205 4 rfl ?_
          refine m_get_34 G dX3_halves_206 ?_
          refine x_iload G dX3_halves_209 1 rfl ?_
          obtain ⟨hz, h⟩ := h
          refine m_ald_34 G hz dX3_halves_211 ?_
          refine x_dload_n G rfl dX3_halves_212 2 rfl ?_
          refine x_cVd4 (As := [.double (halfTotal_14 x_15.toNatClampNeg), .double v3_6]) (rest := []) G [] XSub.rf (tX3_adds G.noTraces h) (lw_V q1814 q1816 qs30 q70 q1817) cdX3_adds 3 0 rfl rfl rfl (by decide) (by decide) rfl (Nat.le_of_ble_eq_true rfl) (Nat.zero_le _) (Nat.zero_le _) dX3_halves_213 (fun r_17 lefts_18 rights_19 results_20 dn_21 h => ?_)
          show X g 7 216 [(6, .int x_16), (5, .int x_15), (3, .double v3_6), (2, .int v2_5), (0, .ref h0), (1, .int p0)] [.double r_17] (mW h0 ad (xT g) thrown many isWide amountOf accountOf dayOf given givenOf runs runWide runWay runTotal runSteps lefts_18 rights_19 results_20 wide dn_21 stepsAt keeps order att spareAmount spareAccount spareDay cured cureOf shareOf big unitsOf spare halfFrom_11 halfMany_12 halfDone_13 halfTotal_14 isFar) 0 0
          refine x_dstore_n (lv' := [(3, .double r_17), (6, .int x_16), (5, .int x_15), (2, .int v2_5), (0, .ref h0), (1, .int p0)]) G rfl dX3_halves_216 (by decide) rfl ?_
          obtain ⟨x_22, ex_22⟩ : ∃ z : Int32, z = (v2_5 + (-1 : Int32)) := ⟨_, rfl⟩
          replace h := h x_22 ex_22
          refine x_iinc (v := x_22) (lv' := [(2, .int x_22), (3, .double r_17), (6, .int x_16), (5, .int x_15), (0, .ref h0), (1, .int p0)]) G dX3_halves_217 3 rfl (by rw [ex_22]; rfl) (by decide) rfl ?_
          refine x_goto (tgt := 30) G dX3_halves_220 rfl ?_
          refine x_lv (lv' := [(3, .double r_17), (2, .int x_22), (0, .ref h0), (1, .int p0)]) [1, 0, 4, 5] rfl ?_
          exact ih x_22 r_17 lefts_18 rights_19 results_20 dn_21 halfFrom_11 halfMany_12 halfDone_13 halfTotal_14 h
        · replace h := h.2 c
          refine x_aload_n G rfl dX3_halves_96 4 rfl ?_
          refine m_get_34 G dX3_halves_97 ?_
          refine x_iload G dX3_halves_100 1 rfl ?_
          refine x_aload_n G rfl dX3_halves_102 4 rfl ?_
          refine m_get_33 G dX3_halves_103 ?_
          refine x_iload G dX3_halves_106 1 rfl ?_
          obtain ⟨hz, h⟩ := h
          refine m_ald_33 G hz dX3_halves_108 ?_
          refine x_iconst (v := (1 : Int32)) G dX3_halves_109 (by decide) ?_
          refine x_icmp_ne (tgt := 117) G dX3_halves_110 rfl (fun c => ?_) (fun c => ?_)
          · replace h := h.1 c
            refine x_dconst0 G dX3_halves_117 ?_
            refine x_lv (lv' := [(0, .ref h0), (1, .int p0), (2, .int v2_5), (3, .double v3_6), (5, .int x_15), (6, .int x_16)]) [4, 5, 3, 2, 1, 0] rfl ?_
            refine kX3_halves_J118 G ih _ _ _ _ _ _ _ _ _ _ h
          · replace h := h.2 c
            refine x_dload_n G rfl dX3_halves_113 2 rfl ?_
            refine x_goto (tgt := 118) G dX3_halves_114 rfl ?_
            refine x_lv (lv' := [(0, .ref h0), (1, .int p0), (2, .int v2_5), (3, .double v3_6), (5, .int x_15), (6, .int x_16)]) [4, 5, 3, 2, 1, 0] rfl ?_
            refine kX3_halves_J118 G ih _ _ _ _ _ _ _ _ _ _ h
      · replace h := h.2 c
        refine x_aload_n G rfl dX3_halves_61 4 rfl ?_
        refine m_get_3 G dX3_halves_62 ?_
        refine x_bipush (v := (60 : Int32)) G dX3_halves_65 (by decide) ?_
        refine x_iload_n G rfl dX3_halves_67 5 rfl ?_
        refine x_imul G dX3_halves_68 ?_
        refine x_aload_n G rfl dX3_halves_69 4 rfl ?_
        refine m_get_31 G dX3_halves_70 ?_
        refine x_iload G dX3_halves_73 1 rfl ?_
        obtain ⟨hz, h⟩ := h
        refine m_ald_31 G hz dX3_halves_75 ?_
        refine x_iadd G dX3_halves_76 ?_
        obtain ⟨hz, h⟩ := h
        refine m_ald_3 G hz dX3_halves_77 ?_
        refine x_topd (fun r_78 er_78 => ?_)
        replace h := h r_78 er_78
        refine x_dstore_n (lv' := [(3, .double r_78), (6, .int x_16), (5, .int x_15), (2, .int v2_5), (0, .ref h0), (1, .int p0)]) G rfl dX3_halves_78 (by decide) rfl ?_
        obtain ⟨x_79, ex_79⟩ : ∃ z : Int32, z = (v2_5 + (-1 : Int32)) := ⟨_, rfl⟩
        replace h := h x_79 ex_79
        refine x_iinc (v := x_79) (lv' := [(2, .int x_79), (3, .double r_78), (6, .int x_16), (5, .int x_15), (0, .ref h0), (1, .int p0)]) G dX3_halves_79 3 rfl (by rw [ex_79]; rfl) (by decide) rfl ?_
        refine x_goto (tgt := 220) G dX3_halves_82 rfl ?_
        refine x_goto (tgt := 30) G dX3_halves_220 rfl ?_
        refine x_lv (lv' := [(3, .double r_78), (2, .int x_79), (0, .ref h0), (1, .int p0)]) [1, 0, 4, 5] rfl ?_
        exact ih x_79 r_78 lefts_7 rights_8 results_9 dn_10 halfFrom_11 halfMany_12 halfDone_13 halfTotal_14 h
set_option maxRecDepth 20000 in
theorem tX3_halves {l : Launch} {D : va_G} {ta : Nat → ClassId} {h0 : Nat} {ad : Nat → Nat} {thrown : Int32} {many : Nat → Int32} {isWide : Nat → Int32} {amountOf : Nat → UInt64} {accountOf : Nat → Int32} {dayOf : Nat → Int32} {given : Nat → Int32} {givenOf : Nat → Int32} {runs : Int32} {runWide : Nat → Int32} {runWay : Nat → Int32} {runTotal : Nat → UInt64} {runSteps : Nat → Int32} {lefts : Nat → UInt64} {rights : Nat → UInt64} {results : Nat → UInt64} {wide : Int32} {dn : Int32} {stepsAt : Int32} {keeps : Int32} {order : Nat → Int32} {att : Nat → UInt64} {spareAmount : Nat → UInt64} {spareAccount : Nat → Int32} {spareDay : Nat → Int32} {cured : Int32} {cureOf : Nat → Int32} {shareOf : Nat → Int32} {big : Nat → Int32} {unitsOf : Int64} {spare : Int32} {halfFrom : Nat → Int32} {halfMany : Nat → Int32} {halfDone : Nat → Int32} {halfTotal : Nat → UInt64} {isFar : Int32} {p0 : Int32} {K : UInt64 → (Nat → UInt64) → (Nat → UInt64) → (Nat → UInt64) → Int32 → (Nat → Int32) → (Nat → Int32) → (Nat → Int32) → (Nat → UInt64) → Prop} (hlt : l.stackTraces = false) (h : wX3_halves p0 many amountOf lefts rights results wide dn stepsAt keeps halfFrom halfMany halfDone halfTotal K) : SMd8 l D ta yX3_halves cX3_halves 7 FieldType.double 3 [.ref h0, .int p0] (mW h0 ad ta thrown many isWide amountOf accountOf dayOf given givenOf runs runWide runWay runTotal runSteps lefts rights results wide dn stepsAt keeps order att spareAmount spareAccount spareDay cured cureOf shareOf big unitsOf spare halfFrom halfMany halfDone halfTotal isFar) (fun (lefts' : Nat → UInt64) (rights' : Nat → UInt64) (results' : Nat → UInt64) (dn' : Int32) (halfFrom' : Nat → Int32) (halfMany' : Nat → Int32) (halfDone' : Nat → Int32) (halfTotal' : Nat → UInt64) => mW h0 ad ta thrown many isWide amountOf accountOf dayOf given givenOf runs runWide runWay runTotal runSteps lefts' rights' results' wide dn' stepsAt keeps order att spareAmount spareAccount spareDay cured cureOf shareOf big unitsOf spare halfFrom' halfMany' halfDone' halfTotal' isFar) 0 0 K := by
  refine x_std8 hlt (plainFor_of_name (by decide +kernel)) (Nat.le_of_ble_eq_true rfl) (fun g G hl hD hT Q => ?_)
  subst hl; subst hD; subst hT
  unfold wX3_halves at h
  show X g 7 0 [(0, .ref h0), (1, .int p0)] [] (mW h0 ad (xT g) thrown many isWide amountOf accountOf dayOf given givenOf runs runWide runWay runTotal runSteps lefts rights results wide dn stepsAt keeps order att spareAmount spareAccount spareDay cured cureOf shareOf big unitsOf spare halfFrom halfMany halfDone halfTotal isFar) 0 0
  refine x_iconst (v := (1 : Int32)) G dX3_halves_0 (by decide) ?_
  refine x_istore_n (lv' := [(2, .int (1 : Int32)), (0, .ref h0), (1, .int p0)]) G rfl dX3_halves_1 (by decide) rfl ?_
  refine x_aload_n G rfl dX3_halves_2 1 rfl ?_
  refine m_get_31 G dX3_halves_3 ?_
  refine x_iconst (v := (0 : Int32)) G dX3_halves_6 (by decide) ?_
  refine x_iconst (v := (0 : Int32)) G dX3_halves_7 (by decide) ?_
  obtain ⟨hz, h⟩ := h
  refine m_ast_31 G hz dX3_halves_8 (fun halfFrom_1 ehalfFrom_1 => ?_)
  replace h := h halfFrom_1 ehalfFrom_1
  refine x_aload_n G rfl dX3_halves_9 1 rfl ?_
  refine m_get_32 G dX3_halves_10 ?_
  refine x_iconst (v := (0 : Int32)) G dX3_halves_13 (by decide) ?_
  refine x_aload_n G rfl dX3_halves_14 1 rfl ?_
  refine m_get_1 G dX3_halves_15 ?_
  refine x_iload_n G rfl dX3_halves_18 2 rfl ?_
  obtain ⟨hz, h⟩ := h
  refine m_ald_1 G hz dX3_halves_19 ?_
  refine x_topi (fun x_2 ex_2 => ?_)
  replace h := h x_2 ex_2
  obtain ⟨hz, h⟩ := h
  refine m_ast_32 G hz dX3_halves_20 (fun halfMany_3 ehalfMany_3 => ?_)
  replace h := h halfMany_3 ehalfMany_3
  refine x_aload_n G rfl dX3_halves_21 1 rfl ?_
  refine m_get_33 G dX3_halves_22 ?_
  refine x_iconst (v := (0 : Int32)) G dX3_halves_25 (by decide) ?_
  refine x_iconst (v := (0 : Int32)) G dX3_halves_26 (by decide) ?_
  obtain ⟨hz, h⟩ := h
  refine m_ast_33 G hz dX3_halves_27 (fun halfDone_4 ehalfDone_4 => ?_)
  replace h := h halfDone_4 ehalfDone_4
  refine x_dconst0 G dX3_halves_28 ?_
  refine x_dstore_n (lv' := [(3, .double FP.dconst0), (2, .int (1 : Int32)), (0, .ref h0), (1, .int p0)]) G rfl dX3_halves_29 (by decide) rfl ?_
  obtain ⟨n0, h⟩ := h
  refine kX3_halves_L30 G (fun v2_90 v3_91 lefts_92 rights_93 results_94 dn_95 halfFrom_96 halfMany_97 halfDone_98 halfTotal_99 h => ?_) n0 _ _ _ _ _ _ _ _ _ _ h
  · refine x_dload_n G rfl dX3_halves_223 0 rfl ?_
    exact x_retd8 G Q dX3_halves_224 lefts_92 rights_93 results_94 dn_95 halfFrom_96 halfMany_97 halfDone_98 halfTotal_99 h XSub.rf (Nat.le_refl _) (Nat.le_refl _)
