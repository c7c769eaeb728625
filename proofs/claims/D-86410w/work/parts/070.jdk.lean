/-! JDK: numbers by their bits. Printed by gen/model_parts.py -/
theorem cdJ12_isNaN : yJ12_isNaN.cls ≠ "java/lang/invoke/MethodHandle" ∧ yJ12_isNaN.cls ≠ "java/lang/invoke/VarHandle" ∧ (parseMethodDescriptor yJ12_isNaN.desc).map (fun d => d.parameters.length) = some 1 := by decide +kernel
def wJ12_isNaN (p0 : UInt64) (K : Int32 → Prop) : Prop := ((deq p0 p0 → K (0 : Int32)) ∧ (¬ deq p0 p0 → K (1 : Int32)))
set_option maxRecDepth 20000 in
theorem tJ12_isNaN {l : Launch} {D : va_G} {ta : Nat → ClassId} {p0 : UInt64} {K : Int32 → Prop} (hlt : l.stackTraces = false) (h : wJ12_isNaN p0 K) : SMi0 l D ta yJ12_isNaN cJ12_isNaN 2 FieldType.boolean 1 [.double p0] [] [] 0 0 K := by
  refine x_sti0 hlt (plainFor_of_name (by decide +kernel)) (Nat.le_of_ble_eq_true rfl) (fun g G hl hD hT Q => ?_)
  subst hl; subst hD; subst hT
  unfold wJ12_isNaN at h
  show X g 2 0 [(0, .double p0)] [] [] 0 0
  refine x_dload_n G rfl dJ12_isNaN_0 0 rfl ?_
  refine x_dload_n G rfl dJ12_isNaN_1 0 rfl ?_
  refine x_dcmpl_eq (tgt := 10) G dJ12_isNaN_2 dJ12_isNaN_3 rfl (fun c => ?_) (fun c => ?_)
  · replace h := h.1 c
    refine x_iconst (v := (0 : Int32)) G dJ12_isNaN_10 (by decide) ?_
    exact x_reti0 G Q dJ12_isNaN_11 rfl  h XSub.rf (Nat.le_refl _) (Nat.le_refl _)
  · replace h := h.2 c
    refine x_iconst (v := (1 : Int32)) G dJ12_isNaN_6 (by decide) ?_
    refine x_goto (tgt := 11) G dJ12_isNaN_7 rfl ?_
    exact x_reti0 G Q dJ12_isNaN_11 rfl  h XSub.rf (Nat.le_refl _) (Nat.le_refl _)
theorem cdJ12_doubleToLongBits : yJ12_doubleToLongBits.cls ≠ "java/lang/invoke/MethodHandle" ∧ yJ12_doubleToLongBits.cls ≠ "java/lang/invoke/VarHandle" ∧ (parseMethodDescriptor yJ12_doubleToLongBits.desc).map (fun d => d.parameters.length) = some 1 := by decide +kernel
def wJ12_doubleToLongBits (p0 : UInt64) (K : Int64 → Prop) : Prop := (wJ12_isNaN p0 (fun (r_1 : Int32) => ((¬ r_1 = (0 : Int32) → K (9221120237041090560 : Int64)) ∧ (r_1 = (0 : Int32) → K p0.toInt64))))
set_option maxRecDepth 20000 in
theorem tJ12_doubleToLongBits {l : Launch} {D : va_G} {ta : Nat → ClassId} {p0 : UInt64} {K : Int64 → Prop} (hlt : l.stackTraces = false) (h : wJ12_doubleToLongBits p0 K) : SMl0 l D ta yJ12_doubleToLongBits cJ12_doubleToLongBits 2 FieldType.long 2 [.double p0] [] [] 0 0 K := by
  refine x_stl0 hlt (plainFor_of_name (by decide +kernel)) (Nat.le_of_ble_eq_true rfl) (fun g G hl hD hT Q => ?_)
  subst hl; subst hD; subst hT
  unfold wJ12_doubleToLongBits at h
  show X g 2 0 [(0, .double p0)] [] [] 0 0
  refine x_dload_n G rfl dJ12_doubleToLongBits_0 0 rfl ?_
  refine x_cPi (As := [.double p0]) (rest := []) G (tJ12_isNaN G.noTraces h) (lw_S q229 q230 q84 q231) cdJ12_isNaN (by decide) (by decide) rfl (Nat.le_of_ble_eq_true rfl) (Nat.zero_le _) (Nat.zero_le _) dJ12_doubleToLongBits_1 (fun r_1 h => ?_)
  refine x_if_ne (tgt := 12) G dJ12_doubleToLongBits_4 rfl (fun c => ?_) (fun c => ?_)
  · replace h := h.1 c
    refine x_ldc2 G q235 dJ12_doubleToLongBits_12 ?_
    exact x_retl0 G Q dJ12_doubleToLongBits_15  h XSub.rf (Nat.le_refl _) (Nat.le_refl _)
  · replace h := h.2 c
    refine x_dload_n G rfl dJ12_doubleToLongBits_7 0 rfl ?_
    refine x_nd2l G q232 q234 q233 q84 (by decide) (Nat.le_of_ble_eq_true rfl) dJ12_doubleToLongBits_8 ?_
    exact x_retl0 G Q dJ12_doubleToLongBits_11  h XSub.rf (Nat.le_refl _) (Nat.le_refl _)
theorem cdJ11_isNaN : yJ11_isNaN.cls ≠ "java/lang/invoke/MethodHandle" ∧ yJ11_isNaN.cls ≠ "java/lang/invoke/VarHandle" ∧ (parseMethodDescriptor yJ11_isNaN.desc).map (fun d => d.parameters.length) = some 1 := by decide +kernel
def wJ11_isNaN (p0 : UInt32) (K : Int32 → Prop) : Prop := ((feq p0 p0 → K (0 : Int32)) ∧ (¬ feq p0 p0 → K (1 : Int32)))
set_option maxRecDepth 20000 in
theorem tJ11_isNaN {l : Launch} {D : va_G} {ta : Nat → ClassId} {p0 : UInt32} {K : Int32 → Prop} (hlt : l.stackTraces = false) (h : wJ11_isNaN p0 K) : SMi0 l D ta yJ11_isNaN cJ11_isNaN 1 FieldType.boolean 1 [.float p0] [] [] 0 0 K := by
  refine x_sti0 hlt (by decide +kernel) (Nat.le_of_ble_eq_true rfl) (fun g G hl hD hT Q => ?_)
  subst hl; subst hD; subst hT
  unfold wJ11_isNaN at h
  show X g 1 0 [(0, .float p0)] [] [] 0 0
  refine x_fload_n G rfl dJ11_isNaN_0 0 rfl ?_
  refine x_fload_n G rfl dJ11_isNaN_1 0 rfl ?_
  refine x_fcmpl_eq (tgt := 10) G dJ11_isNaN_2 dJ11_isNaN_3 rfl (fun c => ?_) (fun c => ?_)
  · replace h := h.1 c
    refine x_iconst (v := (0 : Int32)) G dJ11_isNaN_10 (by decide) ?_
    exact x_reti0 G Q dJ11_isNaN_11 rfl  h XSub.rf (Nat.le_refl _) (Nat.le_refl _)
  · replace h := h.2 c
    refine x_iconst (v := (1 : Int32)) G dJ11_isNaN_6 (by decide) ?_
    refine x_goto (tgt := 11) G dJ11_isNaN_7 rfl ?_
    exact x_reti0 G Q dJ11_isNaN_11 rfl  h XSub.rf (Nat.le_refl _) (Nat.le_refl _)
theorem cdJ11_floatToIntBits : yJ11_floatToIntBits.cls ≠ "java/lang/invoke/MethodHandle" ∧ yJ11_floatToIntBits.cls ≠ "java/lang/invoke/VarHandle" ∧ (parseMethodDescriptor yJ11_floatToIntBits.desc).map (fun d => d.parameters.length) = some 1 := by decide +kernel
def wJ11_floatToIntBits (p0 : UInt32) (K : Int32 → Prop) : Prop := (wJ11_isNaN p0 (fun (r_1 : Int32) => ((¬ r_1 = (0 : Int32) → K (2143289344 : Int32)) ∧ (r_1 = (0 : Int32) → K p0.toInt32))))
set_option maxRecDepth 20000 in
theorem tJ11_floatToIntBits {l : Launch} {D : va_G} {ta : Nat → ClassId} {p0 : UInt32} {K : Int32 → Prop} (hlt : l.stackTraces = false) (h : wJ11_floatToIntBits p0 K) : SMi0 l D ta yJ11_floatToIntBits cJ11_floatToIntBits 1 FieldType.int 2 [.float p0] [] [] 0 0 K := by
  refine x_sti0 hlt (by decide +kernel) (Nat.le_of_ble_eq_true rfl) (fun g G hl hD hT Q => ?_)
  subst hl; subst hD; subst hT
  unfold wJ11_floatToIntBits at h
  show X g 1 0 [(0, .float p0)] [] [] 0 0
  refine x_fload_n G rfl dJ11_floatToIntBits_0 0 rfl ?_
  refine x_cPi (As := [.float p0]) (rest := []) G (tJ11_isNaN G.noTraces h) (lw_S q239 q240 q83 q241) cdJ11_isNaN (by decide) (by decide) rfl (Nat.le_of_ble_eq_true rfl) (Nat.zero_le _) (Nat.zero_le _) dJ11_floatToIntBits_1 (fun r_1 h => ?_)
  refine x_if_ne (tgt := 12) G dJ11_floatToIntBits_4 rfl (fun c => ?_) (fun c => ?_)
  · replace h := h.1 c
    refine x_ldc G q245 dJ11_floatToIntBits_12 ?_
    exact x_reti0 G Q dJ11_floatToIntBits_14 rfl  h XSub.rf (Nat.le_refl _) (Nat.le_refl _)
  · replace h := h.2 c
    refine x_fload_n G rfl dJ11_floatToIntBits_7 0 rfl ?_
    refine x_nf2i G q242 q244 q243 q83 (by decide) (Nat.le_of_ble_eq_true rfl) dJ11_floatToIntBits_8 ?_
    exact x_reti0 G Q dJ11_floatToIntBits_11 rfl  h XSub.rf (Nat.le_refl _) (Nat.le_refl _)
