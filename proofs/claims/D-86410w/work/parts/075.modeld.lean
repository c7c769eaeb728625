/-! the model's methods. Printed by gen/model_parts.py -/
theorem cdX3_steps : yX3_steps.cls = RX3 ∧ yX3_steps.cls ≠ "java/lang/invoke/MethodHandle" ∧ yX3_steps.cls ≠ "java/lang/invoke/VarHandle" ∧ (parseMethodDescriptor yX3_steps.desc).map (fun d => d.parameters.length) = some 1 := by decide +kernel
def wX3_steps (p0 : Int32) (thrown : Int32) (runs : Int32) (runSteps : Nat → Int32) (K : Int32 → Int32 → Prop) : Prop := (wX3_noRun p0 runs (fun (r_1 : Int32) => ((r_1 = (0 : Int32) → (vp_in p0 60 ∧ K (runSteps p0.toNatClampNeg) (0 : Int32))) ∧ (¬ r_1 = (0 : Int32) → K (-101 : Int32) (0 : Int32)))))
set_option maxRecDepth 20000 in
theorem tX3_steps {l : Launch} {D : va_G} {ta : Nat → ClassId} {h0 : Nat} {ad : Nat → Nat} {thrown : Int32} {many : Nat → Int32} {isWide : Nat → Int32} {amountOf : Nat → UInt64} {accountOf : Nat → Int32} {dayOf : Nat → Int32} {given : Nat → Int32} {givenOf : Nat → Int32} {runs : Int32} {runWide : Nat → Int32} {runWay : Nat → Int32} {runTotal : Nat → UInt64} {runSteps : Nat → Int32} {lefts : Nat → UInt64} {rights : Nat → UInt64} {results : Nat → UInt64} {wide : Int32} {dn : Int32} {stepsAt : Int32} {keeps : Int32} {order : Nat → Int32} {att : Nat → UInt64} {spareAmount : Nat → UInt64} {spareAccount : Nat → Int32} {spareDay : Nat → Int32} {cured : Int32} {cureOf : Nat → Int32} {shareOf : Nat → Int32} {big : Nat → Int32} {unitsOf : Int64} {spare : Int32} {halfFrom : Nat → Int32} {halfMany : Nat → Int32} {halfDone : Nat → Int32} {halfTotal : Nat → UInt64} {isFar : Int32} {p0 : Int32} {K : Int32 → Int32 → Prop} (hlt : l.stackTraces = false) (h : wX3_steps p0 thrown runs runSteps K) : SMi1 l D ta yX3_steps cX3_steps 2 FieldType.int 3 [.ref h0, .int p0] (mW h0 ad ta thrown many isWide amountOf accountOf dayOf given givenOf runs runWide runWay runTotal runSteps lefts rights results wide dn stepsAt keeps order att spareAmount spareAccount spareDay cured cureOf shareOf big unitsOf spare halfFrom halfMany halfDone halfTotal isFar) (fun (thrown' : Int32) => mW h0 ad ta thrown' many isWide amountOf accountOf dayOf given givenOf runs runWide runWay runTotal runSteps lefts rights results wide dn stepsAt keeps order att spareAmount spareAccount spareDay cured cureOf shareOf big unitsOf spare halfFrom halfMany halfDone halfTotal isFar) 0 0 K := by
  refine x_sti1 hlt (plainFor_of_name (by decide +kernel)) (Nat.le_of_ble_eq_true rfl) (fun g G hl hD hT Q => ?_)
  subst hl; subst hD; subst hT
  unfold wX3_steps at h
  show X g 2 0 [(0, .ref h0), (1, .int p0)] [] (mW h0 ad (xT g) thrown many isWide amountOf accountOf dayOf given givenOf runs runWide runWay runTotal runSteps lefts rights results wide dn stepsAt keeps order att spareAmount spareAccount spareDay cured cureOf shareOf big unitsOf spare halfFrom halfMany halfDone halfTotal isFar) 0 0
  refine x_aload_n G rfl dX3_steps_0 0 rfl ?_
  refine x_iconst (v := (0 : Int32)) G dX3_steps_1 (by decide) ?_
  refine m_put_0 G dX3_steps_2 ?_
  refine x_aload_n G rfl dX3_steps_5 0 rfl ?_
  refine x_iload_n G rfl dX3_steps_6 1 rfl ?_
  refine x_cVi0 (As := [.int p0]) (rest := []) G [] XSub.rf (tX3_noRun G.noTraces h) (lw_V q1867 q1869 qs42 q70 q1870) cdX3_noRun 3 0 rfl rfl rfl (by decide) (by decide) rfl (Nat.le_of_ble_eq_true rfl) (Nat.zero_le _) (Nat.zero_le _) dX3_steps_7 (fun r_1 h => ?_)
  show X g 2 10 [(0, .ref h0), (1, .int p0)] [.int r_1] (mW h0 ad (xT g) (0 : Int32) many isWide amountOf accountOf dayOf given givenOf runs runWide runWay runTotal runSteps lefts rights results wide dn stepsAt keeps order att spareAmount spareAccount spareDay cured cureOf shareOf big unitsOf spare halfFrom halfMany halfDone halfTotal isFar) 0 0
  refine x_if_eq (tgt := 18) G dX3_steps_10 rfl (fun c => ?_) (fun c => ?_)
  · replace h := h.1 c
    refine x_aload_n G rfl dX3_steps_18 0 rfl ?_
    refine m_get_12 G dX3_steps_19 ?_
    refine x_iload_n G rfl dX3_steps_22 1 rfl ?_
    obtain ⟨hz, h⟩ := h
    refine m_ald_12 G hz dX3_steps_23 ?_
    exact x_reti1 G Q dX3_steps_24 rfl (0 : Int32) h XSub.rf (Nat.le_refl _) (Nat.le_refl _)
  · replace h := h.2 c
    refine x_bipush (v := (-101 : Int32)) G dX3_steps_13 (by decide) ?_
    refine x_goto (tgt := 24) G dX3_steps_15 rfl ?_
    exact x_reti1 G Q dX3_steps_24 rfl (0 : Int32) h XSub.rf (Nat.le_refl _) (Nat.le_refl _)
theorem cdX3_noStep : yX3_noStep.cls = RX3 ∧ yX3_noStep.cls ≠ "java/lang/invoke/MethodHandle" ∧ yX3_noStep.cls ≠ "java/lang/invoke/VarHandle" ∧ (parseMethodDescriptor yX3_noStep.desc).map (fun d => d.parameters.length) = some 2 := by decide +kernel
def wX3_noStep (p0 : Int32) (p1 : Int32) (runs : Int32) (runSteps : Nat → Int32) (K : Int32 → Prop) : Prop := (wX3_noRun p0 runs (fun (r_1 : Int32) => ((¬ r_1 = (0 : Int32) → K (1 : Int32)) ∧ (r_1 = (0 : Int32) → (vp_in p0 60 ∧ (wX3_in p1.toInt64 (0 : Int64) (((runSteps p0.toNatClampNeg) - (1 : Int32)).toInt64) (fun (r_2 : Int32) => ((¬ r_2 = (0 : Int32) → K (0 : Int32)) ∧ (r_2 = (0 : Int32) → K (1 : Int32))))))))))
set_option maxRecDepth 20000 in
theorem tX3_noStep {l : Launch} {D : va_G} {ta : Nat → ClassId} {h0 : Nat} {ad : Nat → Nat} {thrown : Int32} {many : Nat → Int32} {isWide : Nat → Int32} {amountOf : Nat → UInt64} {accountOf : Nat → Int32} {dayOf : Nat → Int32} {given : Nat → Int32} {givenOf : Nat → Int32} {runs : Int32} {runWide : Nat → Int32} {runWay : Nat → Int32} {runTotal : Nat → UInt64} {runSteps : Nat → Int32} {lefts : Nat → UInt64} {rights : Nat → UInt64} {results : Nat → UInt64} {wide : Int32} {dn : Int32} {stepsAt : Int32} {keeps : Int32} {order : Nat → Int32} {att : Nat → UInt64} {spareAmount : Nat → UInt64} {spareAccount : Nat → Int32} {spareDay : Nat → Int32} {cured : Int32} {cureOf : Nat → Int32} {shareOf : Nat → Int32} {big : Nat → Int32} {unitsOf : Int64} {spare : Int32} {halfFrom : Nat → Int32} {halfMany : Nat → Int32} {halfDone : Nat → Int32} {halfTotal : Nat → UInt64} {isFar : Int32} {p0 : Int32} {p1 : Int32} {K : Int32 → Prop} (hlt : l.stackTraces = false) (h : wX3_noStep p0 p1 runs runSteps K) : SMi0 l D ta yX3_noStep cX3_noStep 3 FieldType.boolean 3 [.ref h0, .int p0, .int p1] (mW h0 ad ta thrown many isWide amountOf accountOf dayOf given givenOf runs runWide runWay runTotal runSteps lefts rights results wide dn stepsAt keeps order att spareAmount spareAccount spareDay cured cureOf shareOf big unitsOf spare halfFrom halfMany halfDone halfTotal isFar) (mW h0 ad ta thrown many isWide amountOf accountOf dayOf given givenOf runs runWide runWay runTotal runSteps lefts rights results wide dn stepsAt keeps order att spareAmount spareAccount spareDay cured cureOf shareOf big unitsOf spare halfFrom halfMany halfDone halfTotal isFar) 0 0 K := by
  refine x_sti0 hlt (plainFor_of_name (by decide +kernel)) (Nat.le_of_ble_eq_true rfl) (fun g G hl hD hT Q => ?_)
  subst hl; subst hD; subst hT
  unfold wX3_noStep at h
  show X g 3 0 [(0, .ref h0), (1, .int p0), (2, .int p1)] [] (mW h0 ad (xT g) thrown many isWide amountOf accountOf dayOf given givenOf runs runWide runWay runTotal runSteps lefts rights results wide dn stepsAt keeps order att spareAmount spareAccount spareDay cured cureOf shareOf big unitsOf spare halfFrom halfMany halfDone halfTotal isFar) 0 0
  refine x_aload_n G rfl dX3_noStep_0 0 rfl ?_
  refine x_iload_n G rfl dX3_noStep_1 1 rfl ?_
  refine x_cVi0 (As := [.int p0]) (rest := []) G [] XSub.rf (tX3_noRun G.noTraces h) (lw_V q1867 q1869 qs42 q70 q1870) cdX3_noRun 3 0 rfl rfl rfl (by decide) (by decide) rfl (Nat.le_of_ble_eq_true rfl) (Nat.zero_le _) (Nat.zero_le _) dX3_noStep_2 (fun r_1 h => ?_)
  show X g 3 5 [(0, .ref h0), (1, .int p0), (2, .int p1)] [.int r_1] (mW h0 ad (xT g) thrown many isWide amountOf accountOf dayOf given givenOf runs runWide runWay runTotal runSteps lefts rights results wide dn stepsAt keeps order att spareAmount spareAccount spareDay cured cureOf shareOf big unitsOf spare halfFrom halfMany halfDone halfTotal isFar) 0 0
  refine x_if_ne (tgt := 26) G dX3_noStep_5 rfl (fun c => ?_) (fun c => ?_)
  · replace h := h.1 c
    refine x_iconst (v := (1 : Int32)) G dX3_noStep_26 (by decide) ?_
    refine x_goto (tgt := 31) G dX3_noStep_27 rfl ?_
    exact x_reti0 G Q dX3_noStep_31 rfl  h XSub.rf (Nat.le_refl _) (Nat.le_refl _)
  · replace h := h.2 c
    refine x_iload_n G rfl dX3_noStep_8 2 rfl ?_
    refine x_i2l G dX3_noStep_9 ?_
    refine x_lconst (v := (0 : Int64)) G dX3_noStep_10 (by decide) ?_
    refine x_aload_n G rfl dX3_noStep_11 0 rfl ?_
    refine m_get_12 G dX3_noStep_12 ?_
    refine x_iload_n G rfl dX3_noStep_15 1 rfl ?_
    obtain ⟨hz, h⟩ := h
    refine m_ald_12 G hz dX3_noStep_16 ?_
    refine x_iconst (v := (1 : Int32)) G dX3_noStep_17 (by decide) ?_
    refine x_isub G dX3_noStep_18 ?_
    refine x_i2l G dX3_noStep_19 ?_
    refine x_cPi (As := [.long p1.toInt64, .long (0 : Int64), .long ((runSteps p0.toNatClampNeg) - (1 : Int32)).toInt64]) (rest := []) G (tX3_in G.noTraces h) (lw_S q1650 q1651 q70 q1652) cdX3_in (by decide) (by decide) rfl (Nat.le_of_ble_eq_true rfl) (Nat.zero_le _) (Nat.zero_le _) dX3_noStep_20 (fun r_2 h => ?_)
    refine x_if_ne (tgt := 30) G dX3_noStep_23 rfl (fun c => ?_) (fun c => ?_)
    · replace h := h.1 c
      refine x_iconst (v := (0 : Int32)) G dX3_noStep_30 (by decide) ?_
      exact x_reti0 G Q dX3_noStep_31 rfl  h XSub.rf (Nat.le_refl _) (Nat.le_refl _)
    · replace h := h.2 c
      refine x_iconst (v := (1 : Int32)) G dX3_noStep_26 (by decide) ?_
      refine x_goto (tgt := 31) G dX3_noStep_27 rfl ?_
      exact x_reti0 G Q dX3_noStep_31 rfl  h XSub.rf (Nat.le_refl _) (Nat.le_refl _)
theorem cdX3_clearBig : yX3_clearBig.cls = RX3 ∧ yX3_clearBig.cls ≠ "java/lang/invoke/MethodHandle" ∧ yX3_clearBig.cls ≠ "java/lang/invoke/VarHandle" ∧ (parseMethodDescriptor yX3_clearBig.desc).map (fun d => d.parameters.length) = some 1 := by decide +kernel
def wX3_clearBig_L2 (p0 : Int32) (X26 : Int32 → (Nat → Int32) → Prop) : Nat → Int32 → (Nat → Int32) → Prop
  | 0, _, _ => False
  | n + 1, v2_1, big_2 => (((44 : Int32) ≤ v2_1 → X26 v2_1 big_2) ∧ (¬ (44 : Int32) ≤ v2_1 → (vp_in (((44 : Int32) * p0) + v2_1) 1056 ∧ (∀ big_3 : Nat → Int32, big_3 = upd big_2 (((44 : Int32) * p0) + v2_1).toNatClampNeg (0 : Int32) → (∀ x_4 : Int32, x_4 = (v2_1 + (1 : Int32)) → wX3_clearBig_L2 p0 X26 n x_4 big_3)))))
def wX3_clearBig (p0 : Int32) (big : Nat → Int32) (K : (Nat → Int32) → Prop) : Prop := (∃ m2 : Nat, wX3_clearBig_L2 p0 (fun (v2_7 : Int32) (big_8 : Nat → Int32) => K big_8) m2 (0 : Int32) big)
set_option maxRecDepth 20000 in
theorem kX3_clearBig_L2 {g : XG} {h0 : Nat} {ad : Nat → Nat} {thrown : Int32} {many : Nat → Int32} {isWide : Nat → Int32} {amountOf : Nat → UInt64} {accountOf : Nat → Int32} {dayOf : Nat → Int32} {given : Nat → Int32} {givenOf : Nat → Int32} {runs : Int32} {runWide : Nat → Int32} {runWay : Nat → Int32} {runTotal : Nat → UInt64} {runSteps : Nat → Int32} {lefts : Nat → UInt64} {rights : Nat → UInt64} {results : Nat → UInt64} {wide : Int32} {dn : Int32} {stepsAt : Int32} {keeps : Int32} {order : Nat → Int32} {att : Nat → UInt64} {spareAmount : Nat → UInt64} {spareAccount : Nat → Int32} {spareDay : Nat → Int32} {cured : Int32} {cureOf : Nat → Int32} {shareOf : Nat → Int32} {unitsOf : Int64} {spare : Int32} {halfFrom : Nat → Int32} {halfMany : Nat → Int32} {halfDone : Nat → Int32} {halfTotal : Nat → UInt64} {isFar : Int32} {p0 : Int32} {X26 : Int32 → (Nat → Int32) → Prop} (G : XO g RX3 cX3_clearBig 3 1 0 0) (hX26 : ∀ (v2_5 : Int32) (big_6 : Nat → Int32), X26 v2_5 big_6 → X g 3 26 [(2, .int v2_5), (0, .ref h0), (1, .int p0)] [] (mW h0 ad (xT g) thrown many isWide amountOf accountOf dayOf given givenOf runs runWide runWay runTotal runSteps lefts rights results wide dn stepsAt keeps order att spareAmount spareAccount spareDay cured cureOf shareOf big_6 unitsOf spare halfFrom halfMany halfDone halfTotal isFar) 0 0) : ∀ (n : Nat) (v2_1 : Int32) (big_2 : Nat → Int32), wX3_clearBig_L2 p0 X26 n v2_1 big_2 → X g 3 2 [(2, .int v2_1), (0, .ref h0), (1, .int p0)] [] (mW h0 ad (xT g) thrown many isWide amountOf accountOf dayOf given givenOf runs runWide runWay runTotal runSteps lefts rights results wide dn stepsAt keeps order att spareAmount spareAccount spareDay cured cureOf shareOf big_2 unitsOf spare halfFrom halfMany halfDone halfTotal isFar) 0 0 := by
  intro n
  induction n with
  | zero => intro _ _ h; exact h.elim
  | succ n ih =>
    intro v2_1 big_2 h
    unfold wX3_clearBig_L2 at h
    refine x_iload_n G rfl dX3_clearBig_2 0 rfl ?_
    refine x_bipush (v := (44 : Int32)) G dX3_clearBig_3 (by decide) ?_
    refine x_icmp_ge (tgt := 26) G dX3_clearBig_5 rfl (fun c => ?_) (fun c => ?_)
    · replace h := h.1 c
      exact hX26 v2_1 big_2 h
    · replace h := h.2 c
      refine x_aload_n G rfl dX3_clearBig_8 1 rfl ?_
      refine m_get_28 G dX3_clearBig_9 ?_
      refine x_bipush (v := (44 : Int32)) G dX3_clearBig_12 (by decide) ?_
      refine x_iload_n G rfl dX3_clearBig_14 2 rfl ?_
      refine x_imul G dX3_clearBig_15 ?_
      refine x_iload_n G rfl dX3_clearBig_16 0 rfl ?_
      refine x_iadd G dX3_clearBig_17 ?_
      refine x_iconst (v := (0 : Int32)) G dX3_clearBig_18 (by decide) ?_
      obtain ⟨hz, h⟩ := h
      refine m_ast_28 G hz dX3_clearBig_19 (fun big_3 ebig_3 => ?_)
      replace h := h big_3 ebig_3
      obtain ⟨x_4, ex_4⟩ : ∃ z : Int32, z = (v2_1 + (1 : Int32)) := ⟨_, rfl⟩
      replace h := h x_4 ex_4
      refine x_iinc (v := x_4) (lv' := [(2, .int x_4), (0, .ref h0), (1, .int p0)]) G dX3_clearBig_20 0 rfl (by rw [ex_4]; rfl) (by decide) rfl ?_
      refine x_goto (tgt := 2) G dX3_clearBig_23 rfl ?_
      exact ih x_4 big_3 h
set_option maxRecDepth 20000 in
theorem tX3_clearBig {l : Launch} {D : va_G} {ta : Nat → ClassId} {h0 : Nat} {ad : Nat → Nat} {thrown : Int32} {many : Nat → Int32} {isWide : Nat → Int32} {amountOf : Nat → UInt64} {accountOf : Nat → Int32} {dayOf : Nat → Int32} {given : Nat → Int32} {givenOf : Nat → Int32} {runs : Int32} {runWide : Nat → Int32} {runWay : Nat → Int32} {runTotal : Nat → UInt64} {runSteps : Nat → Int32} {lefts : Nat → UInt64} {rights : Nat → UInt64} {results : Nat → UInt64} {wide : Int32} {dn : Int32} {stepsAt : Int32} {keeps : Int32} {order : Nat → Int32} {att : Nat → UInt64} {spareAmount : Nat → UInt64} {spareAccount : Nat → Int32} {spareDay : Nat → Int32} {cured : Int32} {cureOf : Nat → Int32} {shareOf : Nat → Int32} {big : Nat → Int32} {unitsOf : Int64} {spare : Int32} {halfFrom : Nat → Int32} {halfMany : Nat → Int32} {halfDone : Nat → Int32} {halfTotal : Nat → UInt64} {isFar : Int32} {p0 : Int32} {K : (Nat → Int32) → Prop} (hlt : l.stackTraces = false) (h : wX3_clearBig p0 big K) : SMv1 l D ta yX3_clearBig cX3_clearBig 3 1 [.ref h0, .int p0] (mW h0 ad ta thrown many isWide amountOf accountOf dayOf given givenOf runs runWide runWay runTotal runSteps lefts rights results wide dn stepsAt keeps order att spareAmount spareAccount spareDay cured cureOf shareOf big unitsOf spare halfFrom halfMany halfDone halfTotal isFar) (fun (big' : Nat → Int32) => mW h0 ad ta thrown many isWide amountOf accountOf dayOf given givenOf runs runWide runWay runTotal runSteps lefts rights results wide dn stepsAt keeps order att spareAmount spareAccount spareDay cured cureOf shareOf big' unitsOf spare halfFrom halfMany halfDone halfTotal isFar) 0 0 K := by
  refine x_stv1 hlt (plainFor_of_name (by decide +kernel)) (Nat.le_of_ble_eq_true rfl) (fun g G hl hD hT Q => ?_)
  subst hl; subst hD; subst hT
  unfold wX3_clearBig at h
  show X g 3 0 [(0, .ref h0), (1, .int p0)] [] (mW h0 ad (xT g) thrown many isWide amountOf accountOf dayOf given givenOf runs runWide runWay runTotal runSteps lefts rights results wide dn stepsAt keeps order att spareAmount spareAccount spareDay cured cureOf shareOf big unitsOf spare halfFrom halfMany halfDone halfTotal isFar) 0 0
  refine x_iconst (v := (0 : Int32)) G dX3_clearBig_0 (by decide) ?_
  refine x_istore_n (lv' := [(2, .int (0 : Int32)), (0, .ref h0), (1, .int p0)]) G rfl dX3_clearBig_1 (by decide) rfl ?_
  obtain ⟨n0, h⟩ := h
  refine kX3_clearBig_L2 G (fun v2_7 big_8 h => ?_) n0 _ _ h
  · exact x_retv1 G Q dX3_clearBig_26 big_8 h XSub.rf (Nat.le_refl _) (Nat.le_refl _)
theorem cdX3_negate : yX3_negate.cls = RX3 ∧ yX3_negate.cls ≠ "java/lang/invoke/MethodHandle" ∧ yX3_negate.cls ≠ "java/lang/invoke/VarHandle" ∧ (parseMethodDescriptor yX3_negate.desc).map (fun d => d.parameters.length) = some 1 := by decide +kernel
def wX3_negate_L8 (p0 : Int32) (X60 : Int64 → Int32 → (Nat → Int32) → Prop) : Nat → Int64 → Int32 → (Nat → Int32) → Prop
  | 0, _, _, _ => False
  | n + 1, v2_2, v4_3, big_4 => (((((44 : Int32) * p0) + (44 : Int32)) ≤ v4_3 → X60 v2_2 v4_3 big_4) ∧ (¬ (((44 : Int32) * p0) + (44 : Int32)) ≤ v4_3 → (vp_in v4_3 1056 ∧ (∀ y_5 : Int64, y_5 = ((((big_4 v4_3.toNatClampNeg) ^^^ (-1 : Int32)).toInt64 &&& (4294967295 : Int64)) + v2_2) → (∀ x_6 : Int32, x_6 = y_5.toInt32 → (vp_in v4_3 1056 ∧ (∀ big_7 : Nat → Int32, big_7 = upd big_4 v4_3.toNatClampNeg x_6 → (∀ y_8 : Int64, y_8 = (jlushr y_5 (32 : Int32)) → (∀ x_9 : Int32, x_9 = (v4_3 + (1 : Int32)) → wX3_negate_L8 p0 X60 n y_8 x_9 big_7)))))))))
def wX3_negate (p0 : Int32) (big : Nat → Int32) (K : (Nat → Int32) → Prop) : Prop := (∀ x_1 : Int32, x_1 = ((44 : Int32) * p0) → (∃ m8 : Nat, wX3_negate_L8 p0 (fun (v2_13 : Int64) (v4_14 : Int32) (big_15 : Nat → Int32) => K big_15) m8 (1 : Int64) x_1 big))
set_option maxRecDepth 20000 in
theorem kX3_negate_L8 {g : XG} {h0 : Nat} {ad : Nat → Nat} {thrown : Int32} {many : Nat → Int32} {isWide : Nat → Int32} {amountOf : Nat → UInt64} {accountOf : Nat → Int32} {dayOf : Nat → Int32} {given : Nat → Int32} {givenOf : Nat → Int32} {runs : Int32} {runWide : Nat → Int32} {runWay : Nat → Int32} {runTotal : Nat → UInt64} {runSteps : Nat → Int32} {lefts : Nat → UInt64} {rights : Nat → UInt64} {results : Nat → UInt64} {wide : Int32} {dn : Int32} {stepsAt : Int32} {keeps : Int32} {order : Nat → Int32} {att : Nat → UInt64} {spareAmount : Nat → UInt64} {spareAccount : Nat → Int32} {spareDay : Nat → Int32} {cured : Int32} {cureOf : Nat → Int32} {shareOf : Nat → Int32} {unitsOf : Int64} {spare : Int32} {halfFrom : Nat → Int32} {halfMany : Nat → Int32} {halfDone : Nat → Int32} {halfTotal : Nat → UInt64} {isFar : Int32} {p0 : Int32} {X60 : Int64 → Int32 → (Nat → Int32) → Prop} (G : XO g RX3 cX3_negate 7 1 0 0) (hX60 : ∀ (v2_10 : Int64) (v4_11 : Int32) (big_12 : Nat → Int32), X60 v2_10 v4_11 big_12 → X g 7 60 [(4, .int v4_11), (2, .long v2_10), (0, .ref h0), (1, .int p0)] [] (mW h0 ad (xT g) thrown many isWide amountOf accountOf dayOf given givenOf runs runWide runWay runTotal runSteps lefts rights results wide dn stepsAt keeps order att spareAmount spareAccount spareDay cured cureOf shareOf big_12 unitsOf spare halfFrom halfMany halfDone halfTotal isFar) 0 0) : ∀ (n : Nat) (v2_2 : Int64) (v4_3 : Int32) (big_4 : Nat → Int32), wX3_negate_L8 p0 X60 n v2_2 v4_3 big_4 → X g 7 8 [(4, .int v4_3), (2, .long v2_2), (0, .ref h0), (1, .int p0)] [] (mW h0 ad (xT g) thrown many isWide amountOf accountOf dayOf given givenOf runs runWide runWay runTotal runSteps lefts rights results wide dn stepsAt keeps order att spareAmount spareAccount spareDay cured cureOf shareOf big_4 unitsOf spare halfFrom halfMany halfDone halfTotal isFar) 0 0 := by
  intro n
  induction n with
  | zero => intro _ _ _ h; exact h.elim
  | succ n ih =>
    intro v2_2 v4_3 big_4 h
    unfold wX3_negate_L8 at h
    refine x_iload G dX3_negate_8 0 rfl ?_
    refine x_bipush (v := (44 : Int32)) G dX3_negate_10 (by decide) ?_
    refine x_iload_n G rfl dX3_negate_12 3 rfl ?_
    refine x_imul G dX3_negate_13 ?_
    refine x_bipush (v := (44 : Int32)) G dX3_negate_14 (by decide) ?_
    refine x_iadd G dX3_negate_16 ?_
    refine x_icmp_ge (tgt := 60) G dX3_negate_17 rfl (fun c => ?_) (fun c => ?_)
    · replace h := h.1 c
      exact hX60 v2_2 v4_3 big_4 h
    · replace h := h.2 c
      refine x_aload_n G rfl dX3_negate_20 2 rfl ?_
      refine m_get_28 G dX3_negate_21 ?_
      refine x_iload G dX3_negate_24 0 rfl ?_
      obtain ⟨hz, h⟩ := h
      refine m_ald_28 G hz dX3_negate_26 ?_
      refine x_iconst (v := (-1 : Int32)) G dX3_negate_27 (by decide) ?_
      refine x_ixor G dX3_negate_28 ?_
      refine x_i2l G dX3_negate_29 ?_
      refine x_ldc2 G q1905 dX3_negate_30 ?_
      refine x_land G dX3_negate_33 ?_
      refine x_lload_n G rfl dX3_negate_34 1 rfl ?_
      refine x_ladd G dX3_negate_35 ?_
      refine x_topl (fun y_5 ey_5 => ?_)
      replace h := h y_5 ey_5
      refine x_lstore (lv' := [(5, .long y_5), (4, .int v4_3), (2, .long v2_2), (0, .ref h0), (1, .int p0)]) G dX3_negate_36 (by decide) rfl ?_
      refine x_aload_n G rfl dX3_negate_38 3 rfl ?_
      refine m_get_28 G dX3_negate_39 ?_
      refine x_iload G dX3_negate_42 1 rfl ?_
      refine x_lload G dX3_negate_44 0 rfl ?_
      refine x_l2i G dX3_negate_46 ?_
      refine x_topi (fun x_6 ex_6 => ?_)
      replace h := h x_6 ex_6
      obtain ⟨hz, h⟩ := h
      refine m_ast_28 G hz dX3_negate_47 (fun big_7 ebig_7 => ?_)
      replace h := h big_7 ebig_7
      refine x_lload G dX3_negate_48 0 rfl ?_
      refine x_bipush (v := (32 : Int32)) G dX3_negate_50 (by decide) ?_
      refine x_lushr G dX3_negate_52 ?_
      refine x_topl (fun y_8 ey_8 => ?_)
      replace h := h y_8 ey_8
      refine x_lstore_n (lv' := [(2, .long y_8), (5, .long y_5), (4, .int v4_3), (0, .ref h0), (1, .int p0)]) G rfl dX3_negate_53 (by decide) rfl ?_
      obtain ⟨x_9, ex_9⟩ : ∃ z : Int32, z = (v4_3 + (1 : Int32)) := ⟨_, rfl⟩
      replace h := h x_9 ex_9
      refine x_iinc (v := x_9) (lv' := [(4, .int x_9), (2, .long y_8), (5, .long y_5), (0, .ref h0), (1, .int p0)]) G dX3_negate_54 2 rfl (by rw [ex_9]; rfl) (by decide) rfl ?_
      refine x_goto (tgt := 8) G dX3_negate_57 rfl ?_
      refine x_lv (lv' := [(4, .int x_9), (2, .long y_8), (0, .ref h0), (1, .int p0)]) [0, 1, 3, 4] rfl ?_
      exact ih y_8 x_9 big_7 h
set_option maxRecDepth 20000 in
theorem tX3_negate {l : Launch} {D : va_G} {ta : Nat → ClassId} {h0 : Nat} {ad : Nat → Nat} {thrown : Int32} {many : Nat → Int32} {isWide : Nat → Int32} {amountOf : Nat → UInt64} {accountOf : Nat → Int32} {dayOf : Nat → Int32} {given : Nat → Int32} {givenOf : Nat → Int32} {runs : Int32} {runWide : Nat → Int32} {runWay : Nat → Int32} {runTotal : Nat → UInt64} {runSteps : Nat → Int32} {lefts : Nat → UInt64} {rights : Nat → UInt64} {results : Nat → UInt64} {wide : Int32} {dn : Int32} {stepsAt : Int32} {keeps : Int32} {order : Nat → Int32} {att : Nat → UInt64} {spareAmount : Nat → UInt64} {spareAccount : Nat → Int32} {spareDay : Nat → Int32} {cured : Int32} {cureOf : Nat → Int32} {shareOf : Nat → Int32} {big : Nat → Int32} {unitsOf : Int64} {spare : Int32} {halfFrom : Nat → Int32} {halfMany : Nat → Int32} {halfDone : Nat → Int32} {halfTotal : Nat → UInt64} {isFar : Int32} {p0 : Int32} {K : (Nat → Int32) → Prop} (hlt : l.stackTraces = false) (h : wX3_negate p0 big K) : SMv1 l D ta yX3_negate cX3_negate 7 1 [.ref h0, .int p0] (mW h0 ad ta thrown many isWide amountOf accountOf dayOf given givenOf runs runWide runWay runTotal runSteps lefts rights results wide dn stepsAt keeps order att spareAmount spareAccount spareDay cured cureOf shareOf big unitsOf spare halfFrom halfMany halfDone halfTotal isFar) (fun (big' : Nat → Int32) => mW h0 ad ta thrown many isWide amountOf accountOf dayOf given givenOf runs runWide runWay runTotal runSteps lefts rights results wide dn stepsAt keeps order att spareAmount spareAccount spareDay cured cureOf shareOf big' unitsOf spare halfFrom halfMany halfDone halfTotal isFar) 0 0 K := by
  refine x_stv1 hlt (plainFor_of_name (by decide +kernel)) (Nat.le_of_ble_eq_true rfl) (fun g G hl hD hT Q => ?_)
  subst hl; subst hD; subst hT
  unfold wX3_negate at h
  show X g 7 0 [(0, .ref h0), (1, .int p0)] [] (mW h0 ad (xT g) thrown many isWide amountOf accountOf dayOf given givenOf runs runWide runWay runTotal runSteps lefts rights results wide dn stepsAt keeps order att spareAmount spareAccount spareDay cured cureOf shareOf big unitsOf spare halfFrom halfMany halfDone halfTotal isFar) 0 0
  refine x_lconst (v := (1 : Int64)) G dX3_negate_0 (by decide) ?_
  refine x_lstore_n (lv' := [(2, .long (1 : Int64)), (0, .ref h0), (1, .int p0)]) G rfl dX3_negate_1 (by decide) rfl ?_
  refine x_bipush (v := (44 : Int32)) G dX3_negate_2 (by decide) ?_
  refine x_iload_n G rfl dX3_negate_4 2 rfl ?_
  refine x_imul G dX3_negate_5 ?_
  refine x_topi (fun x_1 ex_1 => ?_)
  replace h := h x_1 ex_1
  refine x_istore (lv' := [(4, .int x_1), (2, .long (1 : Int64)), (0, .ref h0), (1, .int p0)]) G dX3_negate_6 (by decide) rfl ?_
  obtain ⟨n0, h⟩ := h
  refine kX3_negate_L8 G (fun v2_13 v4_14 big_15 h => ?_) n0 _ _ _ h
  · exact x_retv1 G Q dX3_negate_60 big_15 h XSub.rf (Nat.le_refl _) (Nat.le_refl _)
theorem cdX3_writeBig : yX3_writeBig.cls = RX3 ∧ yX3_writeBig.cls ≠ "java/lang/invoke/MethodHandle" ∧ yX3_writeBig.cls ≠ "java/lang/invoke/VarHandle" ∧ (parseMethodDescriptor yX3_writeBig.desc).map (fun d => d.parameters.length) = some 2 := by decide +kernel
def wX3_writeBig_J102 (p0 : Int32) (v4_5 : Int64) (big_8 : Nat → Int32) (K : (Nat → Int32) → Prop) : Int32 → Int64 → Int64 → Prop := fun (v10_12 : Int32) (v12_13 : Int64) (s_14 : Int64) => (∀ x_15 : Int32, x_15 = v12_13.toInt32 → (vp_in (((44 : Int32) * p0) + v10_12) 1056 ∧ (∀ big_16 : Nat → Int32, big_16 = upd big_8 (((44 : Int32) * p0) + v10_12).toNatClampNeg x_15 → (∀ x_17 : Int32, x_17 = (jlushr v12_13 (32 : Int32)).toInt32 → (vp_in ((((44 : Int32) * p0) + v10_12) + (1 : Int32)) 1056 ∧ (∀ big_18 : Nat → Int32, big_18 = upd big_16 ((((44 : Int32) * p0) + v10_12) + (1 : Int32)).toNatClampNeg x_17 → (∀ x_19 : Int32, x_19 = s_14.toInt32 → (vp_in ((((44 : Int32) * p0) + v10_12) + (2 : Int32)) 1056 ∧ (∀ big_20 : Nat → Int32, big_20 = upd big_18 ((((44 : Int32) * p0) + v10_12) + (2 : Int32)).toNatClampNeg x_19 → (((0 : Int64) ≤ v4_5 → K big_20) ∧ (¬ (0 : Int64) ≤ v4_5 → (wX3_negate p0 big_20 (fun (big_21 : Nat → Int32) => K big_21)))))))))))))
def wX3_writeBig_J62 (p0 : Int32) (K : (Nat → Int32) → Prop) : Int64 → Int64 → Int32 → (Nat → Int32) → Prop := fun (v4_5 : Int64) (v7_6 : Int64) (s_7 : Int32) (big_8 : Nat → Int32) => (∀ x_9 : Int32, x_9 = (s_7 / (32 : Int32)) → (∀ x_10 : Int32, x_10 = (jirem s_7 (32 : Int32)) → (∀ y_11 : Int64, y_11 = (jlshl v7_6 x_10) → ((¬ x_10 = (0 : Int32) → (wX3_writeBig_J102 p0 v4_5 big_8 K x_9 y_11 (jlushr v7_6 ((64 : Int32) - x_10)))) ∧ (x_10 = (0 : Int32) → (wX3_writeBig_J102 p0 v4_5 big_8 K x_9 y_11 (0 : Int64)))))))
def wX3_writeBig (p0 : Int32) (p1 : UInt64) (big : Nat → Int32) (K : (Nat → Int32) → Prop) : Prop := (wX3_clearBig p0 big (fun (big_1 : Nat → Int32) => (wJ12_doubleToLongBits p1 (fun (r_2 : Int64) => (∀ x_3 : Int32, x_3 = ((jlshr r_2 (52 : Int32)) &&& (2047 : Int64)).toInt32 → (∀ y_4 : Int64, y_4 = (r_2 &&& (4503599627370495 : Int64)) → ((x_3 ≤ (0 : Int32) → ((x_3 ≤ (0 : Int32) → (wX3_writeBig_J62 p0 K r_2 y_4 (0 : Int32) big_1)) ∧ (¬ x_3 ≤ (0 : Int32) → (wX3_writeBig_J62 p0 K r_2 y_4 (x_3 - (1 : Int32)) big_1)))) ∧ (¬ x_3 ≤ (0 : Int32) → (∀ y_22 : Int64, y_22 = (y_4 + (4503599627370496 : Int64)) → ((x_3 ≤ (0 : Int32) → (wX3_writeBig_J62 p0 K r_2 y_22 (0 : Int32) big_1)) ∧ (¬ x_3 ≤ (0 : Int32) → (wX3_writeBig_J62 p0 K r_2 y_22 (x_3 - (1 : Int32)) big_1))))))))))))
set_option maxRecDepth 20000 in
theorem kX3_writeBig_J102 {g : XG} {h0 : Nat} {ad : Nat → Nat} {thrown : Int32} {many : Nat → Int32} {isWide : Nat → Int32} {amountOf : Nat → UInt64} {accountOf : Nat → Int32} {dayOf : Nat → Int32} {given : Nat → Int32} {givenOf : Nat → Int32} {runs : Int32} {runWide : Nat → Int32} {runWay : Nat → Int32} {runTotal : Nat → UInt64} {runSteps : Nat → Int32} {lefts : Nat → UInt64} {rights : Nat → UInt64} {results : Nat → UInt64} {wide : Int32} {dn : Int32} {stepsAt : Int32} {keeps : Int32} {order : Nat → Int32} {att : Nat → UInt64} {spareAmount : Nat → UInt64} {spareAccount : Nat → Int32} {spareDay : Nat → Int32} {cured : Int32} {cureOf : Nat → Int32} {shareOf : Nat → Int32} {unitsOf : Int64} {spare : Int32} {halfFrom : Nat → Int32} {halfMany : Nat → Int32} {halfDone : Nat → Int32} {halfTotal : Nat → UInt64} {isFar : Int32} {p0 : Int32} {v4_5 : Int64} {big_8 : Nat → Int32} {K : (Nat → Int32) → Prop} (G : XO g RX3 cX3_writeBig 16 3 0 0) (Q : XQv1 g 0 0 (fun (big' : Nat → Int32) => mW h0 ad (xT g) thrown many isWide amountOf accountOf dayOf given givenOf runs runWide runWay runTotal runSteps lefts rights results wide dn stepsAt keeps order att spareAmount spareAccount spareDay cured cureOf shareOf big' unitsOf spare halfFrom halfMany halfDone halfTotal isFar) K) : ∀ (v10_12 : Int32) (v12_13 : Int64) (s_14 : Int64), wX3_writeBig_J102 p0 v4_5 big_8 K v10_12 v12_13 s_14 → X g 16 102 [(0, .ref h0), (1, .int p0), (4, .long v4_5), (10, .int v10_12), (12, .long v12_13)] [.long s_14] (mW h0 ad (xT g) thrown many isWide amountOf accountOf dayOf given givenOf runs runWide runWay runTotal runSteps lefts rights results wide dn stepsAt keeps order att spareAmount spareAccount spareDay cured cureOf shareOf big_8 unitsOf spare halfFrom halfMany halfDone halfTotal isFar) 0 0 := by
  intro v10_12 v12_13 s_14 h
  unfold wX3_writeBig_J102 at h
  refine x_lstore (lv' := [(14, .long s_14), (0, .ref h0), (1, .int p0), (4, .long v4_5), (10, .int v10_12), (12, .long v12_13)]) G dX3_writeBig_102 (by decide) rfl ?_
  refine x_aload_n G rfl dX3_writeBig_104 1 rfl ?_
  refine m_get_28 G dX3_writeBig_105 ?_
  refine x_bipush (v := (44 : Int32)) G dX3_writeBig_108 (by decide) ?_
  refine x_iload_n G rfl dX3_writeBig_110 2 rfl ?_
  refine x_imul G dX3_writeBig_111 ?_
  refine x_iload G dX3_writeBig_112 4 rfl ?_
  refine x_iadd G dX3_writeBig_114 ?_
  refine x_lload G dX3_writeBig_115 5 rfl ?_
  refine x_l2i G dX3_writeBig_117 ?_
  refine x_topi (fun x_15 ex_15 => ?_)
  replace h := h x_15 ex_15
  obtain ⟨hz, h⟩ := h
  refine m_ast_28 G hz dX3_writeBig_118 (fun big_16 ebig_16 => ?_)
  replace h := h big_16 ebig_16
  refine x_aload_n G rfl dX3_writeBig_119 1 rfl ?_
  refine m_get_28 G dX3_writeBig_120 ?_
  refine x_bipush (v := (44 : Int32)) G dX3_writeBig_123 (by decide) ?_
  refine x_iload_n G rfl dX3_writeBig_125 2 rfl ?_
  refine x_imul G dX3_writeBig_126 ?_
  refine x_iload G dX3_writeBig_127 4 rfl ?_
  refine x_iadd G dX3_writeBig_129 ?_
  refine x_iconst (v := (1 : Int32)) G dX3_writeBig_130 (by decide) ?_
  refine x_iadd G dX3_writeBig_131 ?_
  refine x_lload G dX3_writeBig_132 5 rfl ?_
  refine x_bipush (v := (32 : Int32)) G dX3_writeBig_134 (by decide) ?_
  refine x_lushr G dX3_writeBig_136 ?_
  refine x_l2i G dX3_writeBig_137 ?_
  refine x_topi (fun x_17 ex_17 => ?_)
  replace h := h x_17 ex_17
  obtain ⟨hz, h⟩ := h
  refine m_ast_28 G hz dX3_writeBig_138 (fun big_18 ebig_18 => ?_)
  replace h := h big_18 ebig_18
  refine x_aload_n G rfl dX3_writeBig_139 1 rfl ?_
  refine m_get_28 G dX3_writeBig_140 ?_
  refine x_bipush (v := (44 : Int32)) G dX3_writeBig_143 (by decide) ?_
  refine x_iload_n G rfl dX3_writeBig_145 2 rfl ?_
  refine x_imul G dX3_writeBig_146 ?_
  refine x_iload G dX3_writeBig_147 4 rfl ?_
  refine x_iadd G dX3_writeBig_149 ?_
  refine x_iconst (v := (2 : Int32)) G dX3_writeBig_150 (by decide) ?_
  refine x_iadd G dX3_writeBig_151 ?_
  refine x_lload G dX3_writeBig_152 0 rfl ?_
  refine x_l2i G dX3_writeBig_154 ?_
  refine x_topi (fun x_19 ex_19 => ?_)
  replace h := h x_19 ex_19
  obtain ⟨hz, h⟩ := h
  refine m_ast_28 G hz dX3_writeBig_155 (fun big_20 ebig_20 => ?_)
  replace h := h big_20 ebig_20
  refine x_lload G dX3_writeBig_156 3 rfl ?_
  refine x_lconst (v := (0 : Int64)) G dX3_writeBig_158 (by decide) ?_
  refine x_lcmp_ge (tgt := 168) G dX3_writeBig_159 dX3_writeBig_160 rfl (fun c => ?_) (fun c => ?_)
  · replace h := h.1 c
    exact x_retv1 G Q dX3_writeBig_168 big_20 h XSub.rf (Nat.le_refl _) (Nat.le_refl _)
  · replace h := h.2 c
    refine x_aload_n G rfl dX3_writeBig_163 1 rfl ?_
    refine x_iload_n G rfl dX3_writeBig_164 2 rfl ?_
    refine x_cVv1 (As := [.int p0]) (rest := []) G [] XSub.rf (tX3_negate G.noTraces h) (lw_V q1901 q1903 qs48 q70 q1904) cdX3_negate 3 0 rfl rfl rfl (by decide) (by decide) rfl (Nat.le_of_ble_eq_true rfl) (Nat.zero_le _) (Nat.zero_le _) dX3_writeBig_165 (fun big_21 h => ?_)
    show X g 16 168 [(14, .long s_14), (0, .ref h0), (1, .int p0), (4, .long v4_5), (10, .int v10_12), (12, .long v12_13)] [] (mW h0 ad (xT g) thrown many isWide amountOf accountOf dayOf given givenOf runs runWide runWay runTotal runSteps lefts rights results wide dn stepsAt keeps order att spareAmount spareAccount spareDay cured cureOf shareOf big_21 unitsOf spare halfFrom halfMany halfDone halfTotal isFar) 0 0
    exact x_retv1 G Q dX3_writeBig_168 big_21 h XSub.rf (Nat.le_refl _) (Nat.le_refl _)
set_option maxRecDepth 20000 in
theorem kX3_writeBig_J62 {g : XG} {h0 : Nat} {ad : Nat → Nat} {thrown : Int32} {many : Nat → Int32} {isWide : Nat → Int32} {amountOf : Nat → UInt64} {accountOf : Nat → Int32} {dayOf : Nat → Int32} {given : Nat → Int32} {givenOf : Nat → Int32} {runs : Int32} {runWide : Nat → Int32} {runWay : Nat → Int32} {runTotal : Nat → UInt64} {runSteps : Nat → Int32} {lefts : Nat → UInt64} {rights : Nat → UInt64} {results : Nat → UInt64} {wide : Int32} {dn : Int32} {stepsAt : Int32} {keeps : Int32} {order : Nat → Int32} {att : Nat → UInt64} {spareAmount : Nat → UInt64} {spareAccount : Nat → Int32} {spareDay : Nat → Int32} {cured : Int32} {cureOf : Nat → Int32} {shareOf : Nat → Int32} {unitsOf : Int64} {spare : Int32} {halfFrom : Nat → Int32} {halfMany : Nat → Int32} {halfDone : Nat → Int32} {halfTotal : Nat → UInt64} {isFar : Int32} {p0 : Int32} {K : (Nat → Int32) → Prop} (G : XO g RX3 cX3_writeBig 16 3 0 0) (Q : XQv1 g 0 0 (fun (big' : Nat → Int32) => mW h0 ad (xT g) thrown many isWide amountOf accountOf dayOf given givenOf runs runWide runWay runTotal runSteps lefts rights results wide dn stepsAt keeps order att spareAmount spareAccount spareDay cured cureOf shareOf big' unitsOf spare halfFrom halfMany halfDone halfTotal isFar) K) : ∀ (v4_5 : Int64) (v7_6 : Int64) (s_7 : Int32) (big_8 : Nat → Int32), wX3_writeBig_J62 p0 K v4_5 v7_6 s_7 big_8 → X g 16 62 [(0, .ref h0), (1, .int p0), (4, .long v4_5), (7, .long v7_6)] [.int s_7] (mW h0 ad (xT g) thrown many isWide amountOf accountOf dayOf given givenOf runs runWide runWay runTotal runSteps lefts rights results wide dn stepsAt keeps order att spareAmount spareAccount spareDay cured cureOf shareOf big_8 unitsOf spare halfFrom halfMany halfDone halfTotal isFar) 0 0 := by
  intro v4_5 v7_6 s_7 big_8 h
  unfold wX3_writeBig_J62 at h
  refine x_istore (lv' := [(9, .int s_7), (0, .ref h0), (1, .int p0), (4, .long v4_5), (7, .long v7_6)]) G dX3_writeBig_62 (by decide) rfl ?_
  refine x_iload G dX3_writeBig_64 0 rfl ?_
  refine x_bipush (v := (32 : Int32)) G dX3_writeBig_66 (by decide) ?_
  refine x_idiv G dX3_writeBig_68 (by decide) ?_
  refine x_topi (fun x_9 ex_9 => ?_)
  replace h := h x_9 ex_9
  refine x_istore (lv' := [(10, .int x_9), (9, .int s_7), (0, .ref h0), (1, .int p0), (4, .long v4_5), (7, .long v7_6)]) G dX3_writeBig_69 (by decide) rfl ?_
  refine x_iload G dX3_writeBig_71 1 rfl ?_
  refine x_bipush (v := (32 : Int32)) G dX3_writeBig_73 (by decide) ?_
  refine x_irem G dX3_writeBig_75 (by decide) ?_
  refine x_topi (fun x_10 ex_10 => ?_)
  replace h := h x_10 ex_10
  refine x_istore (lv' := [(11, .int x_10), (10, .int x_9), (9, .int s_7), (0, .ref h0), (1, .int p0), (4, .long v4_5), (7, .long v7_6)]) G dX3_writeBig_76 (by decide) rfl ?_
  refine x_lload G dX3_writeBig_78 6 rfl ?_
  refine x_iload G dX3_writeBig_80 0 rfl ?_
  refine x_lshl G dX3_writeBig_82 ?_
  refine x_topl (fun y_11 ey_11 => ?_)
  replace h := h y_11 ey_11
  refine x_lstore (lv' := [(12, .long y_11), (11, .int x_10), (10, .int x_9), (9, .int s_7), (0, .ref h0), (1, .int p0), (4, .long v4_5), (7, .long v7_6)]) G dX3_writeBig_83 (by decide) rfl ?_
  refine x_iload G dX3_writeBig_85 1 rfl ?_
  refine x_if_ne (tgt := 94) G dX3_writeBig_87 rfl (fun c => ?_) (fun c => ?_)
  · replace h := h.1 c
    refine x_lload G dX3_writeBig_94 7 rfl ?_
    refine x_bipush (v := (64 : Int32)) G dX3_writeBig_96 (by decide) ?_
    refine x_iload G dX3_writeBig_98 1 rfl ?_
    refine x_isub G dX3_writeBig_100 ?_
    refine x_lushr G dX3_writeBig_101 ?_
    refine x_lv (lv' := [(0, .ref h0), (1, .int p0), (4, .long v4_5), (10, .int x_9), (12, .long y_11)]) [4, 5, 6, 2, 0] rfl ?_
    refine kX3_writeBig_J102 G Q  _ _ _ h
  · replace h := h.2 c
    refine x_lconst (v := (0 : Int64)) G dX3_writeBig_90 (by decide) ?_
    refine x_goto (tgt := 102) G dX3_writeBig_91 rfl ?_
    refine x_lv (lv' := [(0, .ref h0), (1, .int p0), (4, .long v4_5), (10, .int x_9), (12, .long y_11)]) [4, 5, 6, 2, 0] rfl ?_
    refine kX3_writeBig_J102 G Q  _ _ _ h
set_option maxRecDepth 20000 in
theorem tX3_writeBig {l : Launch} {D : va_G} {ta : Nat → ClassId} {h0 : Nat} {ad : Nat → Nat} {thrown : Int32} {many : Nat → Int32} {isWide : Nat → Int32} {amountOf : Nat → UInt64} {accountOf : Nat → Int32} {dayOf : Nat → Int32} {given : Nat → Int32} {givenOf : Nat → Int32} {runs : Int32} {runWide : Nat → Int32} {runWay : Nat → Int32} {runTotal : Nat → UInt64} {runSteps : Nat → Int32} {lefts : Nat → UInt64} {rights : Nat → UInt64} {results : Nat → UInt64} {wide : Int32} {dn : Int32} {stepsAt : Int32} {keeps : Int32} {order : Nat → Int32} {att : Nat → UInt64} {spareAmount : Nat → UInt64} {spareAccount : Nat → Int32} {spareDay : Nat → Int32} {cured : Int32} {cureOf : Nat → Int32} {shareOf : Nat → Int32} {big : Nat → Int32} {unitsOf : Int64} {spare : Int32} {halfFrom : Nat → Int32} {halfMany : Nat → Int32} {halfDone : Nat → Int32} {halfTotal : Nat → UInt64} {isFar : Int32} {p0 : Int32} {p1 : UInt64} {K : (Nat → Int32) → Prop} (hlt : l.stackTraces = false) (h : wX3_writeBig p0 p1 big K) : SMv1 l D ta yX3_writeBig cX3_writeBig 16 3 [.ref h0, .int p0, .double p1] (mW h0 ad ta thrown many isWide amountOf accountOf dayOf given givenOf runs runWide runWay runTotal runSteps lefts rights results wide dn stepsAt keeps order att spareAmount spareAccount spareDay cured cureOf shareOf big unitsOf spare halfFrom halfMany halfDone halfTotal isFar) (fun (big' : Nat → Int32) => mW h0 ad ta thrown many isWide amountOf accountOf dayOf given givenOf runs runWide runWay runTotal runSteps lefts rights results wide dn stepsAt keeps order att spareAmount spareAccount spareDay cured cureOf shareOf big' unitsOf spare halfFrom halfMany halfDone halfTotal isFar) 0 0 K := by
  refine x_stv1 hlt (plainFor_of_name (by decide +kernel)) (Nat.le_of_ble_eq_true rfl) (fun g G hl hD hT Q => ?_)
  subst hl; subst hD; subst hT
  unfold wX3_writeBig at h
  show X g 16 0 [(0, .ref h0), (1, .int p0), (2, .double p1)] [] (mW h0 ad (xT g) thrown many isWide amountOf accountOf dayOf given givenOf runs runWide runWay runTotal runSteps lefts rights results wide dn stepsAt keeps order att spareAmount spareAccount spareDay cured cureOf shareOf big unitsOf spare halfFrom halfMany halfDone halfTotal isFar) 0 0
  refine x_aload_n G rfl dX3_writeBig_0 0 rfl ?_
  refine x_iload_n G rfl dX3_writeBig_1 1 rfl ?_
  refine x_cVv1 (As := [.int p0]) (rest := []) G [] XSub.rf (tX3_clearBig G.noTraces h) (lw_V q1889 q1891 qs45 q70 q1892) cdX3_clearBig 3 0 rfl rfl rfl (by decide) (by decide) rfl (Nat.le_of_ble_eq_true rfl) (Nat.zero_le _) (Nat.zero_le _) dX3_writeBig_2 (fun big_1 h => ?_)
  show X g 16 5 [(0, .ref h0), (1, .int p0), (2, .double p1)] [] (mW h0 ad (xT g) thrown many isWide amountOf accountOf dayOf given givenOf runs runWide runWay runTotal runSteps lefts rights results wide dn stepsAt keeps order att spareAmount spareAccount spareDay cured cureOf shareOf big_1 unitsOf spare halfFrom halfMany halfDone halfTotal isFar) 0 0
  refine x_dload_n G rfl dX3_writeBig_5 2 rfl ?_
  refine x_cPl (As := [.double p1]) (rest := []) G (tJ12_doubleToLongBits G.noTraces h) (lw_S q1691 q227 q84 q228) cdJ12_doubleToLongBits (by decide) (by decide) rfl (Nat.le_of_ble_eq_true rfl) (Nat.zero_le _) (Nat.zero_le _) dX3_writeBig_6 (fun r_2 h => ?_)
  refine x_lstore (lv' := [(4, .long r_2), (0, .ref h0), (1, .int p0), (2, .double p1)]) G dX3_writeBig_9 (by decide) rfl ?_
  refine x_lload G dX3_writeBig_11 0 rfl ?_
  refine x_bipush (v := (52 : Int32)) G dX3_writeBig_13 (by decide) ?_
  refine x_lshr G dX3_writeBig_15 ?_
  refine x_ldc2 G q1673 dX3_writeBig_16 ?_
  refine x_land G dX3_writeBig_19 ?_
  refine x_l2i G dX3_writeBig_20 ?_
  refine x_topi (fun x_3 ex_3 => ?_)
  replace h := h x_3 ex_3
  refine x_istore (lv' := [(6, .int x_3), (4, .long r_2), (0, .ref h0), (1, .int p0), (2, .double p1)]) G dX3_writeBig_21 (by decide) rfl ?_
  refine x_lload G dX3_writeBig_23 1 rfl ?_
  refine x_ldc2 G q1786 dX3_writeBig_25 ?_
  refine x_land G dX3_writeBig_28 ?_
  refine x_topl (fun y_4 ey_4 => ?_)
  replace h := h y_4 ey_4
  refine x_lstore (lv' := [(7, .long y_4), (6, .int x_3), (4, .long r_2), (0, .ref h0), (1, .int p0), (2, .double p1)]) G dX3_writeBig_29 (by decide) rfl ?_
  refine x_iload G dX3_writeBig_31 1 rfl ?_
  refine x_if_le (tgt := 45) G dX3_writeBig_33 rfl (fun c => ?_) (fun c => ?_)
  · replace h := h.1 c
    refine x_lload G dX3_writeBig_45 0 rfl ?_
    refine x_lstore (lv' := [(7, .long y_4), (6, .int x_3), (4, .long r_2), (0, .ref h0), (1, .int p0), (2, .double p1)]) G dX3_writeBig_47 (by decide) rfl ?_
    refine x_iload G dX3_writeBig_49 1 rfl ?_
    refine x_if_le (tgt := 61) G dX3_writeBig_51 rfl (fun c => ?_) (fun c => ?_)
    · replace h := h.1 c
      refine x_iconst (v := (0 : Int32)) G dX3_writeBig_61 (by decide) ?_
      refine x_lv (lv' := [(0, .ref h0), (1, .int p0), (4, .long r_2), (7, .long y_4)]) [3, 4, 2, 0] rfl ?_
      refine kX3_writeBig_J62 G Q  _ _ _ _ h
    · replace h := h.2 c
      refine x_iload G dX3_writeBig_54 1 rfl ?_
      refine x_iconst (v := (1 : Int32)) G dX3_writeBig_56 (by decide) ?_
      refine x_isub G dX3_writeBig_57 ?_
      refine x_goto (tgt := 62) G dX3_writeBig_58 rfl ?_
      refine x_lv (lv' := [(0, .ref h0), (1, .int p0), (4, .long r_2), (7, .long y_4)]) [3, 4, 2, 0] rfl ?_
      refine kX3_writeBig_J62 G Q  _ _ _ _ h
  · replace h := h.2 c
    refine x_lload G dX3_writeBig_36 0 rfl ?_
    refine x_ldc2 G q1787 dX3_writeBig_38 ?_
    refine x_ladd G dX3_writeBig_41 ?_
    refine x_goto (tgt := 47) G dX3_writeBig_42 rfl ?_
    refine x_topl (fun y_22 ey_22 => ?_)
    replace h := h y_22 ey_22
    refine x_lstore (lv' := [(7, .long y_22), (6, .int x_3), (4, .long r_2), (0, .ref h0), (1, .int p0), (2, .double p1)]) G dX3_writeBig_47 (by decide) rfl ?_
    refine x_iload G dX3_writeBig_49 1 rfl ?_
    refine x_if_le (tgt := 61) G dX3_writeBig_51 rfl (fun c => ?_) (fun c => ?_)
    · replace h := h.1 c
      refine x_iconst (v := (0 : Int32)) G dX3_writeBig_61 (by decide) ?_
      refine x_lv (lv' := [(0, .ref h0), (1, .int p0), (4, .long r_2), (7, .long y_22)]) [3, 4, 2, 0] rfl ?_
      refine kX3_writeBig_J62 G Q  _ _ _ _ h
    · replace h := h.2 c
      refine x_iload G dX3_writeBig_54 1 rfl ?_
      refine x_iconst (v := (1 : Int32)) G dX3_writeBig_56 (by decide) ?_
      refine x_isub G dX3_writeBig_57 ?_
      refine x_goto (tgt := 62) G dX3_writeBig_58 rfl ?_
      refine x_lv (lv' := [(0, .ref h0), (1, .int p0), (4, .long r_2), (7, .long y_22)]) [3, 4, 2, 0] rfl ?_
      refine kX3_writeBig_J62 G Q  _ _ _ _ h
theorem cdX3_addBig : yX3_addBig.cls = RX3 ∧ yX3_addBig.cls ≠ "java/lang/invoke/MethodHandle" ∧ yX3_addBig.cls ≠ "java/lang/invoke/VarHandle" ∧ (parseMethodDescriptor yX3_addBig.desc).map (fun d => d.parameters.length) = some 2 := by decide +kernel
def wX3_addBig_L5 (p0 : Int32) (p1 : Int32) (X78 : Int64 → Int32 → (Nat → Int32) → Prop) : Nat → Int64 → Int32 → (Nat → Int32) → Prop
  | 0, _, _, _ => False
  | n + 1, v3_1, v5_2, big_3 => (((44 : Int32) ≤ v5_2 → X78 v3_1 v5_2 big_3) ∧ (¬ (44 : Int32) ≤ v5_2 → (vp_in (((44 : Int32) * p0) + v5_2) 1056 ∧ (vp_in (((44 : Int32) * p1) + v5_2) 1056 ∧ (∀ y_4 : Int64, y_4 = ((((big_3 (((44 : Int32) * p0) + v5_2).toNatClampNeg).toInt64 &&& (4294967295 : Int64)) + ((big_3 (((44 : Int32) * p1) + v5_2).toNatClampNeg).toInt64 &&& (4294967295 : Int64))) + v3_1) → (∀ x_5 : Int32, x_5 = y_4.toInt32 → (vp_in (((44 : Int32) * p0) + v5_2) 1056 ∧ (∀ big_6 : Nat → Int32, big_6 = upd big_3 (((44 : Int32) * p0) + v5_2).toNatClampNeg x_5 → (∀ y_7 : Int64, y_7 = (jlushr y_4 (32 : Int32)) → (∀ x_8 : Int32, x_8 = (v5_2 + (1 : Int32)) → wX3_addBig_L5 p0 p1 X78 n y_7 x_8 big_6))))))))))
def wX3_addBig (p0 : Int32) (p1 : Int32) (big : Nat → Int32) (K : (Nat → Int32) → Prop) : Prop := (∃ m5 : Nat, wX3_addBig_L5 p0 p1 (fun (v3_12 : Int64) (v5_13 : Int32) (big_14 : Nat → Int32) => K big_14) m5 (0 : Int64) (0 : Int32) big)
set_option maxRecDepth 20000 in
theorem kX3_addBig_L5 {g : XG} {h0 : Nat} {ad : Nat → Nat} {thrown : Int32} {many : Nat → Int32} {isWide : Nat → Int32} {amountOf : Nat → UInt64} {accountOf : Nat → Int32} {dayOf : Nat → Int32} {given : Nat → Int32} {givenOf : Nat → Int32} {runs : Int32} {runWide : Nat → Int32} {runWay : Nat → Int32} {runTotal : Nat → UInt64} {runSteps : Nat → Int32} {lefts : Nat → UInt64} {rights : Nat → UInt64} {results : Nat → UInt64} {wide : Int32} {dn : Int32} {stepsAt : Int32} {keeps : Int32} {order : Nat → Int32} {att : Nat → UInt64} {spareAmount : Nat → UInt64} {spareAccount : Nat → Int32} {spareDay : Nat → Int32} {cured : Int32} {cureOf : Nat → Int32} {shareOf : Nat → Int32} {unitsOf : Int64} {spare : Int32} {halfFrom : Nat → Int32} {halfMany : Nat → Int32} {halfDone : Nat → Int32} {halfTotal : Nat → UInt64} {isFar : Int32} {p0 : Int32} {p1 : Int32} {X78 : Int64 → Int32 → (Nat → Int32) → Prop} (G : XO g RX3 cX3_addBig 8 1 0 0) (hX78 : ∀ (v3_9 : Int64) (v5_10 : Int32) (big_11 : Nat → Int32), X78 v3_9 v5_10 big_11 → X g 8 78 [(5, .int v5_10), (3, .long v3_9), (0, .ref h0), (1, .int p0), (2, .int p1)] [] (mW h0 ad (xT g) thrown many isWide amountOf accountOf dayOf given givenOf runs runWide runWay runTotal runSteps lefts rights results wide dn stepsAt keeps order att spareAmount spareAccount spareDay cured cureOf shareOf big_11 unitsOf spare halfFrom halfMany halfDone halfTotal isFar) 0 0) : ∀ (n : Nat) (v3_1 : Int64) (v5_2 : Int32) (big_3 : Nat → Int32), wX3_addBig_L5 p0 p1 X78 n v3_1 v5_2 big_3 → X g 8 5 [(5, .int v5_2), (3, .long v3_1), (0, .ref h0), (1, .int p0), (2, .int p1)] [] (mW h0 ad (xT g) thrown many isWide amountOf accountOf dayOf given givenOf runs runWide runWay runTotal runSteps lefts rights results wide dn stepsAt keeps order att spareAmount spareAccount spareDay cured cureOf shareOf big_3 unitsOf spare halfFrom halfMany halfDone halfTotal isFar) 0 0 := by
  intro n
  induction n with
  | zero => intro _ _ _ h; exact h.elim
  | succ n ih =>
    intro v3_1 v5_2 big_3 h
    unfold wX3_addBig_L5 at h
    refine x_iload G dX3_addBig_5 0 rfl ?_
    refine x_bipush (v := (44 : Int32)) G dX3_addBig_7 (by decide) ?_
    refine x_icmp_ge (tgt := 78) G dX3_addBig_9 rfl (fun c => ?_) (fun c => ?_)
    · replace h := h.1 c
      exact hX78 v3_1 v5_2 big_3 h
    · replace h := h.2 c
      refine x_aload_n G rfl dX3_addBig_12 2 rfl ?_
      refine m_get_28 G dX3_addBig_13 ?_
      refine x_bipush (v := (44 : Int32)) G dX3_addBig_16 (by decide) ?_
      refine x_iload_n G rfl dX3_addBig_18 3 rfl ?_
      refine x_imul G dX3_addBig_19 ?_
      refine x_iload G dX3_addBig_20 0 rfl ?_
      refine x_iadd G dX3_addBig_22 ?_
      obtain ⟨hz, h⟩ := h
      refine m_ald_28 G hz dX3_addBig_23 ?_
      refine x_i2l G dX3_addBig_24 ?_
      refine x_ldc2 G q1905 dX3_addBig_25 ?_
      refine x_land G dX3_addBig_28 ?_
      refine x_aload_n G rfl dX3_addBig_29 2 rfl ?_
      refine m_get_28 G dX3_addBig_30 ?_
      refine x_bipush (v := (44 : Int32)) G dX3_addBig_33 (by decide) ?_
      refine x_iload_n G rfl dX3_addBig_35 4 rfl ?_
      refine x_imul G dX3_addBig_36 ?_
      refine x_iload G dX3_addBig_37 0 rfl ?_
      refine x_iadd G dX3_addBig_39 ?_
      obtain ⟨hz, h⟩ := h
      refine m_ald_28 G hz dX3_addBig_40 ?_
      refine x_i2l G dX3_addBig_41 ?_
      refine x_ldc2 G q1905 dX3_addBig_42 ?_
      refine x_land G dX3_addBig_45 ?_
      refine x_ladd G dX3_addBig_46 ?_
      refine x_lload_n G rfl dX3_addBig_47 1 rfl ?_
      refine x_ladd G dX3_addBig_48 ?_
      refine x_topl (fun y_4 ey_4 => ?_)
      replace h := h y_4 ey_4
      refine x_lstore (lv' := [(6, .long y_4), (5, .int v5_2), (3, .long v3_1), (0, .ref h0), (1, .int p0), (2, .int p1)]) G dX3_addBig_49 (by decide) rfl ?_
      refine x_aload_n G rfl dX3_addBig_51 3 rfl ?_
      refine m_get_28 G dX3_addBig_52 ?_
      refine x_bipush (v := (44 : Int32)) G dX3_addBig_55 (by decide) ?_
      refine x_iload_n G rfl dX3_addBig_57 4 rfl ?_
      refine x_imul G dX3_addBig_58 ?_
      refine x_iload G dX3_addBig_59 1 rfl ?_
      refine x_iadd G dX3_addBig_61 ?_
      refine x_lload G dX3_addBig_62 0 rfl ?_
      refine x_l2i G dX3_addBig_64 ?_
      refine x_topi (fun x_5 ex_5 => ?_)
      replace h := h x_5 ex_5
      obtain ⟨hz, h⟩ := h
      refine m_ast_28 G hz dX3_addBig_65 (fun big_6 ebig_6 => ?_)
      replace h := h big_6 ebig_6
      refine x_lload G dX3_addBig_66 0 rfl ?_
      refine x_bipush (v := (32 : Int32)) G dX3_addBig_68 (by decide) ?_
      refine x_lushr G dX3_addBig_70 ?_
      refine x_topl (fun y_7 ey_7 => ?_)
      replace h := h y_7 ey_7
      refine x_lstore_n (lv' := [(3, .long y_7), (6, .long y_4), (5, .int v5_2), (0, .ref h0), (1, .int p0), (2, .int p1)]) G rfl dX3_addBig_71 (by decide) rfl ?_
      obtain ⟨x_8, ex_8⟩ : ∃ z : Int32, z = (v5_2 + (1 : Int32)) := ⟨_, rfl⟩
      replace h := h x_8 ex_8
      refine x_iinc (v := x_8) (lv' := [(5, .int x_8), (3, .long y_7), (6, .long y_4), (0, .ref h0), (1, .int p0), (2, .int p1)]) G dX3_addBig_72 2 rfl (by rw [ex_8]; rfl) (by decide) rfl ?_
      refine x_goto (tgt := 5) G dX3_addBig_75 rfl ?_
      refine x_lv (lv' := [(5, .int x_8), (3, .long y_7), (0, .ref h0), (1, .int p0), (2, .int p1)]) [0, 1, 3, 4, 5] rfl ?_
      exact ih y_7 x_8 big_6 h
set_option maxRecDepth 20000 in
theorem tX3_addBig {l : Launch} {D : va_G} {ta : Nat → ClassId} {h0 : Nat} {ad : Nat → Nat} {thrown : Int32} {many : Nat → Int32} {isWide : Nat → Int32} {amountOf : Nat → UInt64} {accountOf : Nat → Int32} {dayOf : Nat → Int32} {given : Nat → Int32} {givenOf : Nat → Int32} {runs : Int32} {runWide : Nat → Int32} {runWay : Nat → Int32} {runTotal : Nat → UInt64} {runSteps : Nat → Int32} {lefts : Nat → UInt64} {rights : Nat → UInt64} {results : Nat → UInt64} {wide : Int32} {dn : Int32} {stepsAt : Int32} {keeps : Int32} {order : Nat → Int32} {att : Nat → UInt64} {spareAmount : Nat → UInt64} {spareAccount : Nat → Int32} {spareDay : Nat → Int32} {cured : Int32} {cureOf : Nat → Int32} {shareOf : Nat → Int32} {big : Nat → Int32} {unitsOf : Int64} {spare : Int32} {halfFrom : Nat → Int32} {halfMany : Nat → Int32} {halfDone : Nat → Int32} {halfTotal : Nat → UInt64} {isFar : Int32} {p0 : Int32} {p1 : Int32} {K : (Nat → Int32) → Prop} (hlt : l.stackTraces = false) (h : wX3_addBig p0 p1 big K) : SMv1 l D ta yX3_addBig cX3_addBig 8 1 [.ref h0, .int p0, .int p1] (mW h0 ad ta thrown many isWide amountOf accountOf dayOf given givenOf runs runWide runWay runTotal runSteps lefts rights results wide dn stepsAt keeps order att spareAmount spareAccount spareDay cured cureOf shareOf big unitsOf spare halfFrom halfMany halfDone halfTotal isFar) (fun (big' : Nat → Int32) => mW h0 ad ta thrown many isWide amountOf accountOf dayOf given givenOf runs runWide runWay runTotal runSteps lefts rights results wide dn stepsAt keeps order att spareAmount spareAccount spareDay cured cureOf shareOf big' unitsOf spare halfFrom halfMany halfDone halfTotal isFar) 0 0 K := by
  refine x_stv1 hlt (plainFor_of_name (by decide +kernel)) (Nat.le_of_ble_eq_true rfl) (fun g G hl hD hT Q => ?_)
  subst hl; subst hD; subst hT
  unfold wX3_addBig at h
  show X g 8 0 [(0, .ref h0), (1, .int p0), (2, .int p1)] [] (mW h0 ad (xT g) thrown many isWide amountOf accountOf dayOf given givenOf runs runWide runWay runTotal runSteps lefts rights results wide dn stepsAt keeps order att spareAmount spareAccount spareDay cured cureOf shareOf big unitsOf spare halfFrom halfMany halfDone halfTotal isFar) 0 0
  refine x_lconst (v := (0 : Int64)) G dX3_addBig_0 (by decide) ?_
  refine x_lstore_n (lv' := [(3, .long (0 : Int64)), (0, .ref h0), (1, .int p0), (2, .int p1)]) G rfl dX3_addBig_1 (by decide) rfl ?_
  refine x_iconst (v := (0 : Int32)) G dX3_addBig_2 (by decide) ?_
  refine x_istore (lv' := [(5, .int (0 : Int32)), (3, .long (0 : Int64)), (0, .ref h0), (1, .int p0), (2, .int p1)]) G dX3_addBig_3 (by decide) rfl ?_
  obtain ⟨n0, h⟩ := h
  refine kX3_addBig_L5 G (fun v3_12 v5_13 big_14 h => ?_) n0 _ _ _ h
  · exact x_retv1 G Q dX3_addBig_78 big_14 h XSub.rf (Nat.le_refl _) (Nat.le_refl _)
theorem cdX3_addNumber : yX3_addNumber.cls = RX3 ∧ yX3_addNumber.cls ≠ "java/lang/invoke/MethodHandle" ∧ yX3_addNumber.cls ≠ "java/lang/invoke/VarHandle" ∧ (parseMethodDescriptor yX3_addNumber.desc).map (fun d => d.parameters.length) = some 2 := by decide +kernel
def wX3_addNumber (p0 : Int32) (p1 : UInt64) (big : Nat → Int32) (K : (Nat → Int32) → Prop) : Prop := (wX3_writeBig (23 : Int32) p1 big (fun (big_1 : Nat → Int32) => (wX3_addBig p0 (23 : Int32) big_1 (fun (big_2 : Nat → Int32) => K big_2))))
set_option maxRecDepth 20000 in
theorem tX3_addNumber {l : Launch} {D : va_G} {ta : Nat → ClassId} {h0 : Nat} {ad : Nat → Nat} {thrown : Int32} {many : Nat → Int32} {isWide : Nat → Int32} {amountOf : Nat → UInt64} {accountOf : Nat → Int32} {dayOf : Nat → Int32} {given : Nat → Int32} {givenOf : Nat → Int32} {runs : Int32} {runWide : Nat → Int32} {runWay : Nat → Int32} {runTotal : Nat → UInt64} {runSteps : Nat → Int32} {lefts : Nat → UInt64} {rights : Nat → UInt64} {results : Nat → UInt64} {wide : Int32} {dn : Int32} {stepsAt : Int32} {keeps : Int32} {order : Nat → Int32} {att : Nat → UInt64} {spareAmount : Nat → UInt64} {spareAccount : Nat → Int32} {spareDay : Nat → Int32} {cured : Int32} {cureOf : Nat → Int32} {shareOf : Nat → Int32} {big : Nat → Int32} {unitsOf : Int64} {spare : Int32} {halfFrom : Nat → Int32} {halfMany : Nat → Int32} {halfDone : Nat → Int32} {halfTotal : Nat → UInt64} {isFar : Int32} {p0 : Int32} {p1 : UInt64} {K : (Nat → Int32) → Prop} (hlt : l.stackTraces = false) (h : wX3_addNumber p0 p1 big K) : SMv1 l D ta yX3_addNumber cX3_addNumber 4 4 [.ref h0, .int p0, .double p1] (mW h0 ad ta thrown many isWide amountOf accountOf dayOf given givenOf runs runWide runWay runTotal runSteps lefts rights results wide dn stepsAt keeps order att spareAmount spareAccount spareDay cured cureOf shareOf big unitsOf spare halfFrom halfMany halfDone halfTotal isFar) (fun (big' : Nat → Int32) => mW h0 ad ta thrown many isWide amountOf accountOf dayOf given givenOf runs runWide runWay runTotal runSteps lefts rights results wide dn stepsAt keeps order att spareAmount spareAccount spareDay cured cureOf shareOf big' unitsOf spare halfFrom halfMany halfDone halfTotal isFar) 0 0 K := by
  refine x_stv1 hlt (plainFor_of_name (by decide +kernel)) (Nat.le_of_ble_eq_true rfl) (fun g G hl hD hT Q => ?_)
  subst hl; subst hD; subst hT
  unfold wX3_addNumber at h
  show X g 4 0 [(0, .ref h0), (1, .int p0), (2, .double p1)] [] (mW h0 ad (xT g) thrown many isWide amountOf accountOf dayOf given givenOf runs runWide runWay runTotal runSteps lefts rights results wide dn stepsAt keeps order att spareAmount spareAccount spareDay cured cureOf shareOf big unitsOf spare halfFrom halfMany halfDone halfTotal isFar) 0 0
  refine x_aload_n G rfl dX3_addNumber_0 0 rfl ?_
  refine x_bipush (v := (23 : Int32)) G dX3_addNumber_1 (by decide) ?_
  refine x_dload_n G rfl dX3_addNumber_3 2 rfl ?_
  refine x_cVv1 (As := [.int (23 : Int32), .double p1]) (rest := []) G [] XSub.rf (tX3_writeBig G.noTraces h) (lw_V q1897 q1899 qs47 q70 q1900) cdX3_writeBig 3 0 rfl rfl rfl (by decide) (by decide) rfl (Nat.le_of_ble_eq_true rfl) (Nat.zero_le _) (Nat.zero_le _) dX3_addNumber_4 (fun big_1 h => ?_)
  show X g 4 7 [(0, .ref h0), (1, .int p0), (2, .double p1)] [] (mW h0 ad (xT g) thrown many isWide amountOf accountOf dayOf given givenOf runs runWide runWay runTotal runSteps lefts rights results wide dn stepsAt keeps order att spareAmount spareAccount spareDay cured cureOf shareOf big_1 unitsOf spare halfFrom halfMany halfDone halfTotal isFar) 0 0
  refine x_aload_n G rfl dX3_addNumber_7 0 rfl ?_
  refine x_iload_n G rfl dX3_addNumber_8 1 rfl ?_
  refine x_bipush (v := (23 : Int32)) G dX3_addNumber_9 (by decide) ?_
  refine x_cVv1 (As := [.int p0, .int (23 : Int32)]) (rest := []) G [] XSub.rf (tX3_addBig G.noTraces h) (lw_V q1906 q1908 qs49 q70 q1909) cdX3_addBig 3 0 rfl rfl rfl (by decide) (by decide) rfl (Nat.le_of_ble_eq_true rfl) (Nat.zero_le _) (Nat.zero_le _) dX3_addNumber_11 (fun big_2 h => ?_)
  show X g 4 14 [(0, .ref h0), (1, .int p0), (2, .double p1)] [] (mW h0 ad (xT g) thrown many isWide amountOf accountOf dayOf given givenOf runs runWide runWay runTotal runSteps lefts rights results wide dn stepsAt keeps order att spareAmount spareAccount spareDay cured cureOf shareOf big_2 unitsOf spare halfFrom halfMany halfDone halfTotal isFar) 0 0
  exact x_retv1 G Q dX3_addNumber_14 big_2 h XSub.rf (Nat.le_refl _) (Nat.le_refl _)
theorem cdX3_lossOf : yX3_lossOf.cls = RX3 ∧ yX3_lossOf.cls ≠ "java/lang/invoke/MethodHandle" ∧ yX3_lossOf.cls ≠ "java/lang/invoke/VarHandle" ∧ (parseMethodDescriptor yX3_lossOf.desc).map (fun d => d.parameters.length) = some 3 := by decide +kernel
def wX3_lossOf (p0 : Int32) (p1 : Int32) (p2 : Int32) (lefts : Nat → UInt64) (rights : Nat → UInt64) (results : Nat → UInt64) (big : Nat → Int32) (K : (Nat → Int32) → Prop) : Prop := (wX3_clearBig p0 big (fun (big_1 : Nat → Int32) => (vp_in (((60 : Int32) * p1) + p2) 3600 ∧ (wX3_addNumber p0 (lefts (((60 : Int32) * p1) + p2).toNatClampNeg) big_1 (fun (big_2 : Nat → Int32) => (vp_in (((60 : Int32) * p1) + p2) 3600 ∧ (wX3_addNumber p0 (rights (((60 : Int32) * p1) + p2).toNatClampNeg) big_2 (fun (big_3 : Nat → Int32) => (vp_in (((60 : Int32) * p1) + p2) 3600 ∧ (wX3_addNumber p0 (FP.dneg (results (((60 : Int32) * p1) + p2).toNatClampNeg)) big_3 (fun (big_4 : Nat → Int32) => K big_4)))))))))))
set_option maxRecDepth 20000 in
theorem tX3_lossOf {l : Launch} {D : va_G} {ta : Nat → ClassId} {h0 : Nat} {ad : Nat → Nat} {thrown : Int32} {many : Nat → Int32} {isWide : Nat → Int32} {amountOf : Nat → UInt64} {accountOf : Nat → Int32} {dayOf : Nat → Int32} {given : Nat → Int32} {givenOf : Nat → Int32} {runs : Int32} {runWide : Nat → Int32} {runWay : Nat → Int32} {runTotal : Nat → UInt64} {runSteps : Nat → Int32} {lefts : Nat → UInt64} {rights : Nat → UInt64} {results : Nat → UInt64} {wide : Int32} {dn : Int32} {stepsAt : Int32} {keeps : Int32} {order : Nat → Int32} {att : Nat → UInt64} {spareAmount : Nat → UInt64} {spareAccount : Nat → Int32} {spareDay : Nat → Int32} {cured : Int32} {cureOf : Nat → Int32} {shareOf : Nat → Int32} {big : Nat → Int32} {unitsOf : Int64} {spare : Int32} {halfFrom : Nat → Int32} {halfMany : Nat → Int32} {halfDone : Nat → Int32} {halfTotal : Nat → UInt64} {isFar : Int32} {p0 : Int32} {p1 : Int32} {p2 : Int32} {K : (Nat → Int32) → Prop} (hlt : l.stackTraces = false) (h : wX3_lossOf p0 p1 p2 lefts rights results big K) : SMv1 l D ta yX3_lossOf cX3_lossOf 4 5 [.ref h0, .int p0, .int p1, .int p2] (mW h0 ad ta thrown many isWide amountOf accountOf dayOf given givenOf runs runWide runWay runTotal runSteps lefts rights results wide dn stepsAt keeps order att spareAmount spareAccount spareDay cured cureOf shareOf big unitsOf spare halfFrom halfMany halfDone halfTotal isFar) (fun (big' : Nat → Int32) => mW h0 ad ta thrown many isWide amountOf accountOf dayOf given givenOf runs runWide runWay runTotal runSteps lefts rights results wide dn stepsAt keeps order att spareAmount spareAccount spareDay cured cureOf shareOf big' unitsOf spare halfFrom halfMany halfDone halfTotal isFar) 0 0 K := by
  refine x_stv1 hlt (plainFor_of_name (by decide +kernel)) (Nat.le_of_ble_eq_true rfl) (fun g G hl hD hT Q => ?_)
  subst hl; subst hD; subst hT
  unfold wX3_lossOf at h
  show X g 4 0 [(0, .ref h0), (1, .int p0), (2, .int p1), (3, .int p2)] [] (mW h0 ad (xT g) thrown many isWide amountOf accountOf dayOf given givenOf runs runWide runWay runTotal runSteps lefts rights results wide dn stepsAt keeps order att spareAmount spareAccount spareDay cured cureOf shareOf big unitsOf spare halfFrom halfMany halfDone halfTotal isFar) 0 0
  refine x_aload_n G rfl dX3_lossOf_0 0 rfl ?_
  refine x_iload_n G rfl dX3_lossOf_1 1 rfl ?_
  refine x_cVv1 (As := [.int p0]) (rest := []) G [] XSub.rf (tX3_clearBig G.noTraces h) (lw_V q1889 q1891 qs45 q70 q1892) cdX3_clearBig 3 0 rfl rfl rfl (by decide) (by decide) rfl (Nat.le_of_ble_eq_true rfl) (Nat.zero_le _) (Nat.zero_le _) dX3_lossOf_2 (fun big_1 h => ?_)
  show X g 4 5 [(0, .ref h0), (1, .int p0), (2, .int p1), (3, .int p2)] [] (mW h0 ad (xT g) thrown many isWide amountOf accountOf dayOf given givenOf runs runWide runWay runTotal runSteps lefts rights results wide dn stepsAt keeps order att spareAmount spareAccount spareDay cured cureOf shareOf big_1 unitsOf spare halfFrom halfMany halfDone halfTotal isFar) 0 0
  refine x_aload_n G rfl dX3_lossOf_5 0 rfl ?_
  refine x_iload_n G rfl dX3_lossOf_6 1 rfl ?_
  refine x_aload_n G rfl dX3_lossOf_7 0 rfl ?_
  refine m_get_13 G dX3_lossOf_8 ?_
  refine x_bipush (v := (60 : Int32)) G dX3_lossOf_11 (by decide) ?_
  refine x_iload_n G rfl dX3_lossOf_13 2 rfl ?_
  refine x_imul G dX3_lossOf_14 ?_
  refine x_iload_n G rfl dX3_lossOf_15 3 rfl ?_
  refine x_iadd G dX3_lossOf_16 ?_
  obtain ⟨hz, h⟩ := h
  refine m_ald_13 G hz dX3_lossOf_17 ?_
  refine x_cVv1 (As := [.int p0, .double (lefts (((60 : Int32) * p1) + p2).toNatClampNeg)]) (rest := []) G [] XSub.rf (tX3_addNumber G.noTraces h) (lw_V q1893 q1895 qs46 q70 q1896) cdX3_addNumber 3 0 rfl rfl rfl (by decide) (by decide) rfl (Nat.le_of_ble_eq_true rfl) (Nat.zero_le _) (Nat.zero_le _) dX3_lossOf_18 (fun big_2 h => ?_)
  show X g 4 21 [(0, .ref h0), (1, .int p0), (2, .int p1), (3, .int p2)] [] (mW h0 ad (xT g) thrown many isWide amountOf accountOf dayOf given givenOf runs runWide runWay runTotal runSteps lefts rights results wide dn stepsAt keeps order att spareAmount spareAccount spareDay cured cureOf shareOf big_2 unitsOf spare halfFrom halfMany halfDone halfTotal isFar) 0 0
  refine x_aload_n G rfl dX3_lossOf_21 0 rfl ?_
  refine x_iload_n G rfl dX3_lossOf_22 1 rfl ?_
  refine x_aload_n G rfl dX3_lossOf_23 0 rfl ?_
  refine m_get_14 G dX3_lossOf_24 ?_
  refine x_bipush (v := (60 : Int32)) G dX3_lossOf_27 (by decide) ?_
  refine x_iload_n G rfl dX3_lossOf_29 2 rfl ?_
  refine x_imul G dX3_lossOf_30 ?_
  refine x_iload_n G rfl dX3_lossOf_31 3 rfl ?_
  refine x_iadd G dX3_lossOf_32 ?_
  obtain ⟨hz, h⟩ := h
  refine m_ald_14 G hz dX3_lossOf_33 ?_
  refine x_cVv1 (As := [.int p0, .double (rights (((60 : Int32) * p1) + p2).toNatClampNeg)]) (rest := []) G [] XSub.rf (tX3_addNumber G.noTraces h) (lw_V q1893 q1895 qs46 q70 q1896) cdX3_addNumber 3 0 rfl rfl rfl (by decide) (by decide) rfl (Nat.le_of_ble_eq_true rfl) (Nat.zero_le _) (Nat.zero_le _) dX3_lossOf_34 (fun big_3 h => ?_)
  show X g 4 37 [(0, .ref h0), (1, .int p0), (2, .int p1), (3, .int p2)] [] (mW h0 ad (xT g) thrown many isWide amountOf accountOf dayOf given givenOf runs runWide runWay runTotal runSteps lefts rights results wide dn stepsAt keeps order att spareAmount spareAccount spareDay cured cureOf shareOf big_3 unitsOf spare halfFrom halfMany halfDone halfTotal isFar) 0 0
  refine x_aload_n G rfl dX3_lossOf_37 0 rfl ?_
  refine x_iload_n G rfl dX3_lossOf_38 1 rfl ?_
  refine x_aload_n G rfl dX3_lossOf_39 0 rfl ?_
  refine m_get_15 G dX3_lossOf_40 ?_
  refine x_bipush (v := (60 : Int32)) G dX3_lossOf_43 (by decide) ?_
  refine x_iload_n G rfl dX3_lossOf_45 2 rfl ?_
  refine x_imul G dX3_lossOf_46 ?_
  refine x_iload_n G rfl dX3_lossOf_47 3 rfl ?_
  refine x_iadd G dX3_lossOf_48 ?_
  obtain ⟨hz, h⟩ := h
  refine m_ald_15 G hz dX3_lossOf_49 ?_
  refine x_dneg G dX3_lossOf_50 ?_
  refine x_cVv1 (As := [.int p0, .double (FP.dneg (results (((60 : Int32) * p1) + p2).toNatClampNeg))]) (rest := []) G [] XSub.rf (tX3_addNumber G.noTraces h) (lw_V q1893 q1895 qs46 q70 q1896) cdX3_addNumber 3 0 rfl rfl rfl (by decide) (by decide) rfl (Nat.le_of_ble_eq_true rfl) (Nat.zero_le _) (Nat.zero_le _) dX3_lossOf_51 (fun big_4 h => ?_)
  show X g 4 54 [(0, .ref h0), (1, .int p0), (2, .int p1), (3, .int p2)] [] (mW h0 ad (xT g) thrown many isWide amountOf accountOf dayOf given givenOf runs runWide runWay runTotal runSteps lefts rights results wide dn stepsAt keeps order att spareAmount spareAccount spareDay cured cureOf shareOf big_4 unitsOf spare halfFrom halfMany halfDone halfTotal isFar) 0 0
  exact x_retv1 G Q dX3_lossOf_54 big_4 h XSub.rf (Nat.le_refl _) (Nat.le_refl _)
theorem cdX3_signOf : yX3_signOf.cls = RX3 ∧ yX3_signOf.cls ≠ "java/lang/invoke/MethodHandle" ∧ yX3_signOf.cls ≠ "java/lang/invoke/VarHandle" ∧ (parseMethodDescriptor yX3_signOf.desc).map (fun d => d.parameters.length) = some 1 := by decide +kernel
def wX3_signOf_L21 (big : Nat → Int32) (p0 : Int32) (X41 : Int32 → Prop) (X49 : Int32 → Prop) : Nat → Int32 → Prop
  | 0, _ => False
  | n + 1, v2_1 => (((44 : Int32) ≤ v2_1 → X49 v2_1) ∧ (¬ (44 : Int32) ≤ v2_1 → (vp_in (((44 : Int32) * p0) + v2_1) 1056 ∧ (((big (((44 : Int32) * p0) + v2_1).toNatClampNeg) = (0 : Int32) → (∀ x_2 : Int32, x_2 = (v2_1 + (1 : Int32)) → wX3_signOf_L21 big p0 X41 X49 n x_2)) ∧ (¬ (big (((44 : Int32) * p0) + v2_1).toNatClampNeg) = (0 : Int32) → X41 v2_1)))))
def wX3_signOf (p0 : Int32) (big : Nat → Int32) (K : Int32 → Prop) : Prop := (vp_in ((((44 : Int32) * p0) + (44 : Int32)) - (1 : Int32)) 1056 ∧ (((0 : Int32) ≤ (big ((((44 : Int32) * p0) + (44 : Int32)) - (1 : Int32)).toNatClampNeg) → (∃ m21 : Nat, wX3_signOf_L21 big p0 (fun (v2_5 : Int32) => K (1 : Int32)) (fun (v2_6 : Int32) => K (0 : Int32)) m21 (0 : Int32))) ∧ (¬ (0 : Int32) ≤ (big ((((44 : Int32) * p0) + (44 : Int32)) - (1 : Int32)).toNatClampNeg) → K (-1 : Int32))))
set_option maxRecDepth 20000 in
theorem kX3_signOf_L21 {g : XG} {h0 : Nat} {ad : Nat → Nat} {thrown : Int32} {many : Nat → Int32} {isWide : Nat → Int32} {amountOf : Nat → UInt64} {accountOf : Nat → Int32} {dayOf : Nat → Int32} {given : Nat → Int32} {givenOf : Nat → Int32} {runs : Int32} {runWide : Nat → Int32} {runWay : Nat → Int32} {runTotal : Nat → UInt64} {runSteps : Nat → Int32} {lefts : Nat → UInt64} {rights : Nat → UInt64} {results : Nat → UInt64} {wide : Int32} {dn : Int32} {stepsAt : Int32} {keeps : Int32} {order : Nat → Int32} {att : Nat → UInt64} {spareAmount : Nat → UInt64} {spareAccount : Nat → Int32} {spareDay : Nat → Int32} {cured : Int32} {cureOf : Nat → Int32} {shareOf : Nat → Int32} {big : Nat → Int32} {unitsOf : Int64} {spare : Int32} {halfFrom : Nat → Int32} {halfMany : Nat → Int32} {halfDone : Nat → Int32} {halfTotal : Nat → UInt64} {isFar : Int32} {p0 : Int32} {X41 : Int32 → Prop} {X49 : Int32 → Prop} (G : XO g RX3 cX3_signOf 3 1 0 0) (hX41 : ∀ (v2_3 : Int32), X41 v2_3 → X g 3 41 [(2, .int v2_3), (0, .ref h0), (1, .int p0)] [] (mW h0 ad (xT g) thrown many isWide amountOf accountOf dayOf given givenOf runs runWide runWay runTotal runSteps lefts rights results wide dn stepsAt keeps order att spareAmount spareAccount spareDay cured cureOf shareOf big unitsOf spare halfFrom halfMany halfDone halfTotal isFar) 0 0) (hX49 : ∀ (v2_4 : Int32), X49 v2_4 → X g 3 49 [(2, .int v2_4), (0, .ref h0), (1, .int p0)] [] (mW h0 ad (xT g) thrown many isWide amountOf accountOf dayOf given givenOf runs runWide runWay runTotal runSteps lefts rights results wide dn stepsAt keeps order att spareAmount spareAccount spareDay cured cureOf shareOf big unitsOf spare halfFrom halfMany halfDone halfTotal isFar) 0 0) : ∀ (n : Nat) (v2_1 : Int32), wX3_signOf_L21 big p0 X41 X49 n v2_1 → X g 3 21 [(2, .int v2_1), (0, .ref h0), (1, .int p0)] [] (mW h0 ad (xT g) thrown many isWide amountOf accountOf dayOf given givenOf runs runWide runWay runTotal runSteps lefts rights results wide dn stepsAt keeps order att spareAmount spareAccount spareDay cured cureOf shareOf big unitsOf spare halfFrom halfMany halfDone halfTotal isFar) 0 0 := by
  intro n
  induction n with
  | zero => intro _ h; exact h.elim
  | succ n ih =>
    intro v2_1 h
    unfold wX3_signOf_L21 at h
    refine x_iload_n G rfl dX3_signOf_21 0 rfl ?_
    refine x_bipush (v := (44 : Int32)) G dX3_signOf_22 (by decide) ?_
    refine x_icmp_ge (tgt := 49) G dX3_signOf_24 rfl (fun c => ?_) (fun c => ?_)
    · replace h := h.1 c
      exact hX49 v2_1 h
    · replace h := h.2 c
      refine x_aload_n G rfl dX3_signOf_27 1 rfl ?_
      refine m_get_28 G dX3_signOf_28 ?_
      refine x_bipush (v := (44 : Int32)) G dX3_signOf_31 (by decide) ?_
      refine x_iload_n G rfl dX3_signOf_33 2 rfl ?_
      refine x_imul G dX3_signOf_34 ?_
      refine x_iload_n G rfl dX3_signOf_35 0 rfl ?_
      refine x_iadd G dX3_signOf_36 ?_
      obtain ⟨hz, h⟩ := h
      refine m_ald_28 G hz dX3_signOf_37 ?_
      refine x_if_eq (tgt := 43) G dX3_signOf_38 rfl (fun c => ?_) (fun c => ?_)
      · replace h := h.1 c
        obtain ⟨x_2, ex_2⟩ : ∃ z : Int32, z = (v2_1 + (1 : Int32)) := ⟨_, rfl⟩
        replace h := h x_2 ex_2
        refine x_iinc (v := x_2) (lv' := [(2, .int x_2), (0, .ref h0), (1, .int p0)]) G dX3_signOf_43 0 rfl (by rw [ex_2]; rfl) (by decide) rfl ?_
        refine x_goto (tgt := 21) G dX3_signOf_46 rfl ?_
        exact ih x_2 h
      · replace h := h.2 c
        exact hX41 v2_1 h
set_option maxRecDepth 20000 in
theorem tX3_signOf {l : Launch} {D : va_G} {ta : Nat → ClassId} {h0 : Nat} {ad : Nat → Nat} {thrown : Int32} {many : Nat → Int32} {isWide : Nat → Int32} {amountOf : Nat → UInt64} {accountOf : Nat → Int32} {dayOf : Nat → Int32} {given : Nat → Int32} {givenOf : Nat → Int32} {runs : Int32} {runWide : Nat → Int32} {runWay : Nat → Int32} {runTotal : Nat → UInt64} {runSteps : Nat → Int32} {lefts : Nat → UInt64} {rights : Nat → UInt64} {results : Nat → UInt64} {wide : Int32} {dn : Int32} {stepsAt : Int32} {keeps : Int32} {order : Nat → Int32} {att : Nat → UInt64} {spareAmount : Nat → UInt64} {spareAccount : Nat → Int32} {spareDay : Nat → Int32} {cured : Int32} {cureOf : Nat → Int32} {shareOf : Nat → Int32} {big : Nat → Int32} {unitsOf : Int64} {spare : Int32} {halfFrom : Nat → Int32} {halfMany : Nat → Int32} {halfDone : Nat → Int32} {halfTotal : Nat → UInt64} {isFar : Int32} {p0 : Int32} {K : Int32 → Prop} (hlt : l.stackTraces = false) (h : wX3_signOf p0 big K) : SMi0 l D ta yX3_signOf cX3_signOf 3 FieldType.int 1 [.ref h0, .int p0] (mW h0 ad ta thrown many isWide amountOf accountOf dayOf given givenOf runs runWide runWay runTotal runSteps lefts rights results wide dn stepsAt keeps order att spareAmount spareAccount spareDay cured cureOf shareOf big unitsOf spare halfFrom halfMany halfDone halfTotal isFar) (mW h0 ad ta thrown many isWide amountOf accountOf dayOf given givenOf runs runWide runWay runTotal runSteps lefts rights results wide dn stepsAt keeps order att spareAmount spareAccount spareDay cured cureOf shareOf big unitsOf spare halfFrom halfMany halfDone halfTotal isFar) 0 0 K := by
  refine x_sti0 hlt (plainFor_of_name (by decide +kernel)) (Nat.le_of_ble_eq_true rfl) (fun g G hl hD hT Q => ?_)
  subst hl; subst hD; subst hT
  unfold wX3_signOf at h
  show X g 3 0 [(0, .ref h0), (1, .int p0)] [] (mW h0 ad (xT g) thrown many isWide amountOf accountOf dayOf given givenOf runs runWide runWay runTotal runSteps lefts rights results wide dn stepsAt keeps order att spareAmount spareAccount spareDay cured cureOf shareOf big unitsOf spare halfFrom halfMany halfDone halfTotal isFar) 0 0
  refine x_aload_n G rfl dX3_signOf_0 0 rfl ?_
  refine m_get_28 G dX3_signOf_1 ?_
  refine x_bipush (v := (44 : Int32)) G dX3_signOf_4 (by decide) ?_
  refine x_iload_n G rfl dX3_signOf_6 1 rfl ?_
  refine x_imul G dX3_signOf_7 ?_
  refine x_bipush (v := (44 : Int32)) G dX3_signOf_8 (by decide) ?_
  refine x_iadd G dX3_signOf_10 ?_
  refine x_iconst (v := (1 : Int32)) G dX3_signOf_11 (by decide) ?_
  refine x_isub G dX3_signOf_12 ?_
  obtain ⟨hz, h⟩ := h
  refine m_ald_28 G hz dX3_signOf_13 ?_
  refine x_if_ge (tgt := 19) G dX3_signOf_14 rfl (fun c => ?_) (fun c => ?_)
  · replace h := h.1 c
    refine x_iconst (v := (0 : Int32)) G dX3_signOf_19 (by decide) ?_
    refine x_istore_n (lv' := [(2, .int (0 : Int32)), (0, .ref h0), (1, .int p0)]) G rfl dX3_signOf_20 (by decide) rfl ?_
    obtain ⟨n0, h⟩ := h
    refine kX3_signOf_L21 G (fun v2_5 h => ?_) (fun v2_6 h => ?_) n0 _ h
    · refine x_iconst (v := (1 : Int32)) G dX3_signOf_41 (by decide) ?_
      exact x_reti0 G Q dX3_signOf_42 rfl  h XSub.rf (Nat.le_refl _) (Nat.le_refl _)
    · refine x_iconst (v := (0 : Int32)) G dX3_signOf_49 (by decide) ?_
      exact x_reti0 G Q dX3_signOf_50 rfl  h XSub.rf (Nat.le_refl _) (Nat.le_refl _)
  · replace h := h.2 c
    refine x_iconst (v := (-1 : Int32)) G dX3_signOf_17 (by decide) ?_
    exact x_reti0 G Q dX3_signOf_18 rfl  h XSub.rf (Nat.le_refl _) (Nat.le_refl _)
theorem cdX3_copyBig : yX3_copyBig.cls = RX3 ∧ yX3_copyBig.cls ≠ "java/lang/invoke/MethodHandle" ∧ yX3_copyBig.cls ≠ "java/lang/invoke/VarHandle" ∧ (parseMethodDescriptor yX3_copyBig.desc).map (fun d => d.parameters.length) = some 2 := by decide +kernel
def wX3_copyBig_L2 (p0 : Int32) (p1 : Int32) (X36 : Int32 → (Nat → Int32) → Prop) : Nat → Int32 → (Nat → Int32) → Prop
  | 0, _, _ => False
  | n + 1, v3_1, big_2 => (((44 : Int32) ≤ v3_1 → X36 v3_1 big_2) ∧ (¬ (44 : Int32) ≤ v3_1 → (vp_in (((44 : Int32) * p1) + v3_1) 1056 ∧ (∀ x_3 : Int32, x_3 = (big_2 (((44 : Int32) * p1) + v3_1).toNatClampNeg) → (vp_in (((44 : Int32) * p0) + v3_1) 1056 ∧ (∀ big_4 : Nat → Int32, big_4 = upd big_2 (((44 : Int32) * p0) + v3_1).toNatClampNeg x_3 → (∀ x_5 : Int32, x_5 = (v3_1 + (1 : Int32)) → wX3_copyBig_L2 p0 p1 X36 n x_5 big_4)))))))
def wX3_copyBig (p0 : Int32) (p1 : Int32) (big : Nat → Int32) (K : (Nat → Int32) → Prop) : Prop := (∃ m2 : Nat, wX3_copyBig_L2 p0 p1 (fun (v3_8 : Int32) (big_9 : Nat → Int32) => K big_9) m2 (0 : Int32) big)
set_option maxRecDepth 20000 in
theorem kX3_copyBig_L2 {g : XG} {h0 : Nat} {ad : Nat → Nat} {thrown : Int32} {many : Nat → Int32} {isWide : Nat → Int32} {amountOf : Nat → UInt64} {accountOf : Nat → Int32} {dayOf : Nat → Int32} {given : Nat → Int32} {givenOf : Nat → Int32} {runs : Int32} {runWide : Nat → Int32} {runWay : Nat → Int32} {runTotal : Nat → UInt64} {runSteps : Nat → Int32} {lefts : Nat → UInt64} {rights : Nat → UInt64} {results : Nat → UInt64} {wide : Int32} {dn : Int32} {stepsAt : Int32} {keeps : Int32} {order : Nat → Int32} {att : Nat → UInt64} {spareAmount : Nat → UInt64} {spareAccount : Nat → Int32} {spareDay : Nat → Int32} {cured : Int32} {cureOf : Nat → Int32} {shareOf : Nat → Int32} {unitsOf : Int64} {spare : Int32} {halfFrom : Nat → Int32} {halfMany : Nat → Int32} {halfDone : Nat → Int32} {halfTotal : Nat → UInt64} {isFar : Int32} {p0 : Int32} {p1 : Int32} {X36 : Int32 → (Nat → Int32) → Prop} (G : XO g RX3 cX3_copyBig 4 1 0 0) (hX36 : ∀ (v3_6 : Int32) (big_7 : Nat → Int32), X36 v3_6 big_7 → X g 4 36 [(3, .int v3_6), (0, .ref h0), (1, .int p0), (2, .int p1)] [] (mW h0 ad (xT g) thrown many isWide amountOf accountOf dayOf given givenOf runs runWide runWay runTotal runSteps lefts rights results wide dn stepsAt keeps order att spareAmount spareAccount spareDay cured cureOf shareOf big_7 unitsOf spare halfFrom halfMany halfDone halfTotal isFar) 0 0) : ∀ (n : Nat) (v3_1 : Int32) (big_2 : Nat → Int32), wX3_copyBig_L2 p0 p1 X36 n v3_1 big_2 → X g 4 2 [(3, .int v3_1), (0, .ref h0), (1, .int p0), (2, .int p1)] [] (mW h0 ad (xT g) thrown many isWide amountOf accountOf dayOf given givenOf runs runWide runWay runTotal runSteps lefts rights results wide dn stepsAt keeps order att spareAmount spareAccount spareDay cured cureOf shareOf big_2 unitsOf spare halfFrom halfMany halfDone halfTotal isFar) 0 0 := by
  intro n
  induction n with
  | zero => intro _ _ h; exact h.elim
  | succ n ih =>
    intro v3_1 big_2 h
    unfold wX3_copyBig_L2 at h
    refine x_iload_n G rfl dX3_copyBig_2 0 rfl ?_
    refine x_bipush (v := (44 : Int32)) G dX3_copyBig_3 (by decide) ?_
    refine x_icmp_ge (tgt := 36) G dX3_copyBig_5 rfl (fun c => ?_) (fun c => ?_)
    · replace h := h.1 c
      exact hX36 v3_1 big_2 h
    · replace h := h.2 c
      refine x_aload_n G rfl dX3_copyBig_8 1 rfl ?_
      refine m_get_28 G dX3_copyBig_9 ?_
      refine x_bipush (v := (44 : Int32)) G dX3_copyBig_12 (by decide) ?_
      refine x_iload_n G rfl dX3_copyBig_14 2 rfl ?_
      refine x_imul G dX3_copyBig_15 ?_
      refine x_iload_n G rfl dX3_copyBig_16 0 rfl ?_
      refine x_iadd G dX3_copyBig_17 ?_
      refine x_aload_n G rfl dX3_copyBig_18 1 rfl ?_
      refine m_get_28 G dX3_copyBig_19 ?_
      refine x_bipush (v := (44 : Int32)) G dX3_copyBig_22 (by decide) ?_
      refine x_iload_n G rfl dX3_copyBig_24 3 rfl ?_
      refine x_imul G dX3_copyBig_25 ?_
      refine x_iload_n G rfl dX3_copyBig_26 0 rfl ?_
      refine x_iadd G dX3_copyBig_27 ?_
      obtain ⟨hz, h⟩ := h
      refine m_ald_28 G hz dX3_copyBig_28 ?_
      refine x_topi (fun x_3 ex_3 => ?_)
      replace h := h x_3 ex_3
      obtain ⟨hz, h⟩ := h
      refine m_ast_28 G hz dX3_copyBig_29 (fun big_4 ebig_4 => ?_)
      replace h := h big_4 ebig_4
      obtain ⟨x_5, ex_5⟩ : ∃ z : Int32, z = (v3_1 + (1 : Int32)) := ⟨_, rfl⟩
      replace h := h x_5 ex_5
      refine x_iinc (v := x_5) (lv' := [(3, .int x_5), (0, .ref h0), (1, .int p0), (2, .int p1)]) G dX3_copyBig_30 0 rfl (by rw [ex_5]; rfl) (by decide) rfl ?_
      refine x_goto (tgt := 2) G dX3_copyBig_33 rfl ?_
      exact ih x_5 big_4 h
set_option maxRecDepth 20000 in
theorem tX3_copyBig {l : Launch} {D : va_G} {ta : Nat → ClassId} {h0 : Nat} {ad : Nat → Nat} {thrown : Int32} {many : Nat → Int32} {isWide : Nat → Int32} {amountOf : Nat → UInt64} {accountOf : Nat → Int32} {dayOf : Nat → Int32} {given : Nat → Int32} {givenOf : Nat → Int32} {runs : Int32} {runWide : Nat → Int32} {runWay : Nat → Int32} {runTotal : Nat → UInt64} {runSteps : Nat → Int32} {lefts : Nat → UInt64} {rights : Nat → UInt64} {results : Nat → UInt64} {wide : Int32} {dn : Int32} {stepsAt : Int32} {keeps : Int32} {order : Nat → Int32} {att : Nat → UInt64} {spareAmount : Nat → UInt64} {spareAccount : Nat → Int32} {spareDay : Nat → Int32} {cured : Int32} {cureOf : Nat → Int32} {shareOf : Nat → Int32} {big : Nat → Int32} {unitsOf : Int64} {spare : Int32} {halfFrom : Nat → Int32} {halfMany : Nat → Int32} {halfDone : Nat → Int32} {halfTotal : Nat → UInt64} {isFar : Int32} {p0 : Int32} {p1 : Int32} {K : (Nat → Int32) → Prop} (hlt : l.stackTraces = false) (h : wX3_copyBig p0 p1 big K) : SMv1 l D ta yX3_copyBig cX3_copyBig 4 1 [.ref h0, .int p0, .int p1] (mW h0 ad ta thrown many isWide amountOf accountOf dayOf given givenOf runs runWide runWay runTotal runSteps lefts rights results wide dn stepsAt keeps order att spareAmount spareAccount spareDay cured cureOf shareOf big unitsOf spare halfFrom halfMany halfDone halfTotal isFar) (fun (big' : Nat → Int32) => mW h0 ad ta thrown many isWide amountOf accountOf dayOf given givenOf runs runWide runWay runTotal runSteps lefts rights results wide dn stepsAt keeps order att spareAmount spareAccount spareDay cured cureOf shareOf big' unitsOf spare halfFrom halfMany halfDone halfTotal isFar) 0 0 K := by
  refine x_stv1 hlt (plainFor_of_name (by decide +kernel)) (Nat.le_of_ble_eq_true rfl) (fun g G hl hD hT Q => ?_)
  subst hl; subst hD; subst hT
  unfold wX3_copyBig at h
  show X g 4 0 [(0, .ref h0), (1, .int p0), (2, .int p1)] [] (mW h0 ad (xT g) thrown many isWide amountOf accountOf dayOf given givenOf runs runWide runWay runTotal runSteps lefts rights results wide dn stepsAt keeps order att spareAmount spareAccount spareDay cured cureOf shareOf big unitsOf spare halfFrom halfMany halfDone halfTotal isFar) 0 0
  refine x_iconst (v := (0 : Int32)) G dX3_copyBig_0 (by decide) ?_
  refine x_istore_n (lv' := [(3, .int (0 : Int32)), (0, .ref h0), (1, .int p0), (2, .int p1)]) G rfl dX3_copyBig_1 (by decide) rfl ?_
  obtain ⟨n0, h⟩ := h
  refine kX3_copyBig_L2 G (fun v3_8 big_9 h => ?_) n0 _ _ h
  · exact x_retv1 G Q dX3_copyBig_36 big_9 h XSub.rf (Nat.le_refl _) (Nat.le_refl _)
theorem cdX3_hasBit : yX3_hasBit.cls = RX3 ∧ yX3_hasBit.cls ≠ "java/lang/invoke/MethodHandle" ∧ yX3_hasBit.cls ≠ "java/lang/invoke/VarHandle" ∧ (parseMethodDescriptor yX3_hasBit.desc).map (fun d => d.parameters.length) = some 2 := by decide +kernel
def wX3_hasBit (p0 : Int32) (p1 : Int32) (big : Nat → Int32) (K : Int32 → Prop) : Prop := (vp_in (((44 : Int32) * p0) + (p1 / (32 : Int32))) 1056 ∧ ((¬ ((jishr (big (((44 : Int32) * p0) + (p1 / (32 : Int32))).toNatClampNeg) (jirem p1 (32 : Int32))) &&& (1 : Int32)) = (1 : Int32) → K (0 : Int32)) ∧ (((jishr (big (((44 : Int32) * p0) + (p1 / (32 : Int32))).toNatClampNeg) (jirem p1 (32 : Int32))) &&& (1 : Int32)) = (1 : Int32) → K (1 : Int32))))
set_option maxRecDepth 20000 in
theorem tX3_hasBit {l : Launch} {D : va_G} {ta : Nat → ClassId} {h0 : Nat} {ad : Nat → Nat} {thrown : Int32} {many : Nat → Int32} {isWide : Nat → Int32} {amountOf : Nat → UInt64} {accountOf : Nat → Int32} {dayOf : Nat → Int32} {given : Nat → Int32} {givenOf : Nat → Int32} {runs : Int32} {runWide : Nat → Int32} {runWay : Nat → Int32} {runTotal : Nat → UInt64} {runSteps : Nat → Int32} {lefts : Nat → UInt64} {rights : Nat → UInt64} {results : Nat → UInt64} {wide : Int32} {dn : Int32} {stepsAt : Int32} {keeps : Int32} {order : Nat → Int32} {att : Nat → UInt64} {spareAmount : Nat → UInt64} {spareAccount : Nat → Int32} {spareDay : Nat → Int32} {cured : Int32} {cureOf : Nat → Int32} {shareOf : Nat → Int32} {big : Nat → Int32} {unitsOf : Int64} {spare : Int32} {halfFrom : Nat → Int32} {halfMany : Nat → Int32} {halfDone : Nat → Int32} {halfTotal : Nat → UInt64} {isFar : Int32} {p0 : Int32} {p1 : Int32} {K : Int32 → Prop} (hlt : l.stackTraces = false) (h : wX3_hasBit p0 p1 big K) : SMi0 l D ta yX3_hasBit cX3_hasBit 3 FieldType.boolean 1 [.ref h0, .int p0, .int p1] (mW h0 ad ta thrown many isWide amountOf accountOf dayOf given givenOf runs runWide runWay runTotal runSteps lefts rights results wide dn stepsAt keeps order att spareAmount spareAccount spareDay cured cureOf shareOf big unitsOf spare halfFrom halfMany halfDone halfTotal isFar) (mW h0 ad ta thrown many isWide amountOf accountOf dayOf given givenOf runs runWide runWay runTotal runSteps lefts rights results wide dn stepsAt keeps order att spareAmount spareAccount spareDay cured cureOf shareOf big unitsOf spare halfFrom halfMany halfDone halfTotal isFar) 0 0 K := by
  refine x_sti0 hlt (plainFor_of_name (by decide +kernel)) (Nat.le_of_ble_eq_true rfl) (fun g G hl hD hT Q => ?_)
  subst hl; subst hD; subst hT
  unfold wX3_hasBit at h
  show X g 3 0 [(0, .ref h0), (1, .int p0), (2, .int p1)] [] (mW h0 ad (xT g) thrown many isWide amountOf accountOf dayOf given givenOf runs runWide runWay runTotal runSteps lefts rights results wide dn stepsAt keeps order att spareAmount spareAccount spareDay cured cureOf shareOf big unitsOf spare halfFrom halfMany halfDone halfTotal isFar) 0 0
  refine x_aload_n G rfl dX3_hasBit_0 0 rfl ?_
  refine m_get_28 G dX3_hasBit_1 ?_
  refine x_bipush (v := (44 : Int32)) G dX3_hasBit_4 (by decide) ?_
  refine x_iload_n G rfl dX3_hasBit_6 1 rfl ?_
  refine x_imul G dX3_hasBit_7 ?_
  refine x_iload_n G rfl dX3_hasBit_8 2 rfl ?_
  refine x_bipush (v := (32 : Int32)) G dX3_hasBit_9 (by decide) ?_
  refine x_idiv G dX3_hasBit_11 (by decide) ?_
  refine x_iadd G dX3_hasBit_12 ?_
  obtain ⟨hz, h⟩ := h
  refine m_ald_28 G hz dX3_hasBit_13 ?_
  refine x_iload_n G rfl dX3_hasBit_14 2 rfl ?_
  refine x_bipush (v := (32 : Int32)) G dX3_hasBit_15 (by decide) ?_
  refine x_irem G dX3_hasBit_17 (by decide) ?_
  refine x_ishr G dX3_hasBit_18 ?_
  refine x_iconst (v := (1 : Int32)) G dX3_hasBit_19 (by decide) ?_
  refine x_iand G dX3_hasBit_20 ?_
  refine x_iconst (v := (1 : Int32)) G dX3_hasBit_21 (by decide) ?_
  refine x_icmp_ne (tgt := 29) G dX3_hasBit_22 rfl (fun c => ?_) (fun c => ?_)
  · replace h := h.1 c
    refine x_iconst (v := (0 : Int32)) G dX3_hasBit_29 (by decide) ?_
    exact x_reti0 G Q dX3_hasBit_30 rfl  h XSub.rf (Nat.le_refl _) (Nat.le_refl _)
  · replace h := h.2 c
    refine x_iconst (v := (1 : Int32)) G dX3_hasBit_25 (by decide) ?_
    refine x_goto (tgt := 30) G dX3_hasBit_26 rfl ?_
    exact x_reti0 G Q dX3_hasBit_30 rfl  h XSub.rf (Nat.le_refl _) (Nat.le_refl _)
theorem cdX3_scaled : yX3_scaled.cls ≠ "java/lang/invoke/MethodHandle" ∧ yX3_scaled.cls ≠ "java/lang/invoke/VarHandle" ∧ (parseMethodDescriptor yX3_scaled.desc).map (fun d => d.parameters.length) = some 2 := by decide +kernel
def wX3_scaled_L13 (X33 : Int64 → Int32 → Prop) : Nat → Int64 → Int32 → Prop
  | 0, _, _ => False
  | n + 1, v3_1, v5_2 => ((v3_1 < (9007199254740992 : Int64) → X33 v3_1 v5_2) ∧ (¬ v3_1 < (9007199254740992 : Int64) → (∀ y_3 : Int64, y_3 = (v3_1 / (2 : Int64)) → (∀ x_4 : Int32, x_4 = (v5_2 + (1 : Int32)) → wX3_scaled_L13 X33 n y_3 x_4))))
def wX3_scaled_L33 (X58 : Int64 → Int32 → Prop) : Nat → Int64 → Int32 → Prop
  | 0, _, _ => False
  | n + 1, v3_9, v5_10 => (((4503599627370496 : Int64) ≤ v3_9 → X58 v3_9 v5_10) ∧ (¬ (4503599627370496 : Int64) ≤ v3_9 → ((v5_10 ≤ (0 : Int32) → X58 v3_9 v5_10) ∧ (¬ v5_10 ≤ (0 : Int32) → (∀ y_11 : Int64, y_11 = (v3_9 * (2 : Int64)) → (∀ x_12 : Int32, x_12 = (v5_10 + (-1 : Int32)) → wX3_scaled_L33 X58 n y_11 x_12))))))
def wX3_scaled_J58 (K : UInt64 → Prop) : Int64 → Int32 → Prop := fun (v3_17 : Int64) (v5_18 : Int32) => (((4503599627370496 : Int64) ≤ v3_17 → (vn_snl2d ((jlshl (v5_18.toInt64 + (1 : Int64)) (52 : Int32)) + (v3_17 - (4503599627370496 : Int64))) = false ∧ K (((jlshl (v5_18.toInt64 + (1 : Int64)) (52 : Int32)) + (v3_17 - (4503599627370496 : Int64))).toUInt64))) ∧ (¬ (4503599627370496 : Int64) ≤ v3_17 → (vn_snl2d v3_17 = false ∧ K v3_17.toUInt64)))
def wX3_scaled (p0 : Int64) (p1 : Int32) (K : UInt64 → Prop) : Prop := ((¬ p0 = (0 : Int64) → (∃ m13 : Nat, wX3_scaled_L13 (fun (v3_7 : Int64) (v5_8 : Int32) => (∃ m33 : Nat, wX3_scaled_L33 (fun (v3_15 : Int64) (v5_16 : Int32) => (wX3_scaled_J58 K v3_15 v5_16)) m33 v3_7 v5_8)) m13 p0 p1)) ∧ (p0 = (0 : Int64) → K FP.dconst0))
set_option maxRecDepth 20000 in
theorem kX3_scaled_L13 {g : XG} {p0 : Int64} {p1 : Int32} {X33 : Int64 → Int32 → Prop} (G : XO g RX3 cX3_scaled 6 1 0 0) (hX33 : ∀ (v3_5 : Int64) (v5_6 : Int32), X33 v3_5 v5_6 → X g 6 33 [(5, .int v5_6), (3, .long v3_5), (0, .long p0), (2, .int p1)] [] [] 0 0) : ∀ (n : Nat) (v3_1 : Int64) (v5_2 : Int32), wX3_scaled_L13 X33 n v3_1 v5_2 → X g 6 13 [(5, .int v5_2), (3, .long v3_1), (0, .long p0), (2, .int p1)] [] [] 0 0 := by
  intro n
  induction n with
  | zero => intro _ _ h; exact h.elim
  | succ n ih =>
    intro v3_1 v5_2 h
    unfold wX3_scaled_L13 at h
    refine x_lload_n G rfl dX3_scaled_13 1 rfl ?_
    refine x_ldc2 G q1929 dX3_scaled_14 ?_
    refine x_lcmp_lt (tgt := 33) G dX3_scaled_17 dX3_scaled_18 rfl (fun c => ?_) (fun c => ?_)
    · replace h := h.1 c
      exact hX33 v3_1 v5_2 h
    · replace h := h.2 c
      refine x_lload_n G rfl dX3_scaled_21 1 rfl ?_
      refine x_ldc2 G q1789 dX3_scaled_22 ?_
      refine x_ldiv G dX3_scaled_25 (by decide) ?_
      refine x_topl (fun y_3 ey_3 => ?_)
      replace h := h y_3 ey_3
      refine x_lstore_n (lv' := [(3, .long y_3), (5, .int v5_2), (0, .long p0), (2, .int p1)]) G rfl dX3_scaled_26 (by decide) rfl ?_
      obtain ⟨x_4, ex_4⟩ : ∃ z : Int32, z = (v5_2 + (1 : Int32)) := ⟨_, rfl⟩
      replace h := h x_4 ex_4
      refine x_iinc (v := x_4) (lv' := [(5, .int x_4), (3, .long y_3), (0, .long p0), (2, .int p1)]) G dX3_scaled_27 1 rfl (by rw [ex_4]; rfl) (by decide) rfl ?_
      refine x_goto (tgt := 13) G dX3_scaled_30 rfl ?_
      exact ih y_3 x_4 h
set_option maxRecDepth 20000 in
theorem kX3_scaled_L33 {g : XG} {p0 : Int64} {p1 : Int32} {X58 : Int64 → Int32 → Prop} (G : XO g RX3 cX3_scaled 6 1 0 0) (hX58 : ∀ (v3_13 : Int64) (v5_14 : Int32), X58 v3_13 v5_14 → X g 6 58 [(5, .int v5_14), (3, .long v3_13), (0, .long p0), (2, .int p1)] [] [] 0 0) : ∀ (n : Nat) (v3_9 : Int64) (v5_10 : Int32), wX3_scaled_L33 X58 n v3_9 v5_10 → X g 6 33 [(5, .int v5_10), (3, .long v3_9), (0, .long p0), (2, .int p1)] [] [] 0 0 := by
  intro n
  induction n with
  | zero => intro _ _ h; exact h.elim
  | succ n ih =>
    intro v3_9 v5_10 h
    unfold wX3_scaled_L33 at h
    refine x_lload_n G rfl dX3_scaled_33 1 rfl ?_
    refine x_ldc2 G q1787 dX3_scaled_34 ?_
    refine x_lcmp_ge (tgt := 58) G dX3_scaled_37 dX3_scaled_38 rfl (fun c => ?_) (fun c => ?_)
    · replace h := h.1 c
      exact hX58 v3_9 v5_10 h
    · replace h := h.2 c
      refine x_iload G dX3_scaled_41 0 rfl ?_
      refine x_if_le (tgt := 58) G dX3_scaled_43 rfl (fun c => ?_) (fun c => ?_)
      · replace h := h.1 c
        exact hX58 v3_9 v5_10 h
      · replace h := h.2 c
        refine x_lload_n G rfl dX3_scaled_46 1 rfl ?_
        refine x_ldc2 G q1789 dX3_scaled_47 ?_
        refine x_lmul G dX3_scaled_50 ?_
        refine x_topl (fun y_11 ey_11 => ?_)
        replace h := h y_11 ey_11
        refine x_lstore_n (lv' := [(3, .long y_11), (5, .int v5_10), (0, .long p0), (2, .int p1)]) G rfl dX3_scaled_51 (by decide) rfl ?_
        obtain ⟨x_12, ex_12⟩ : ∃ z : Int32, z = (v5_10 + (-1 : Int32)) := ⟨_, rfl⟩
        replace h := h x_12 ex_12
        refine x_iinc (v := x_12) (lv' := [(5, .int x_12), (3, .long y_11), (0, .long p0), (2, .int p1)]) G dX3_scaled_52 1 rfl (by rw [ex_12]; rfl) (by decide) rfl ?_
        refine x_goto (tgt := 33) G dX3_scaled_55 rfl ?_
        exact ih y_11 x_12 h
set_option maxRecDepth 20000 in
theorem kX3_scaled_J58 {g : XG} {K : UInt64 → Prop} (G : XO g RX3 cX3_scaled 6 1 0 0) (Q : XQd0 g FieldType.double 0 0 [] K) : ∀ (v3_17 : Int64) (v5_18 : Int32), wX3_scaled_J58 K v3_17 v5_18 → X g 6 58 [(3, .long v3_17), (5, .int v5_18)] [] [] 0 0 := by
  intro v3_17 v5_18 h
  unfold wX3_scaled_J58 at h
  refine x_lload_n G rfl dX3_scaled_58 0 rfl ?_
  refine x_ldc2 G q1787 dX3_scaled_59 ?_
  refine x_lcmp_ge (tgt := 73) G dX3_scaled_62 dX3_scaled_63 rfl (fun c => ?_) (fun c => ?_)
  · replace h := h.1 c
    refine x_iload G dX3_scaled_73 1 rfl ?_
    refine x_i2l G dX3_scaled_75 ?_
    refine x_lconst (v := (1 : Int64)) G dX3_scaled_76 (by decide) ?_
    refine x_ladd G dX3_scaled_77 ?_
    refine x_bipush (v := (52 : Int32)) G dX3_scaled_78 (by decide) ?_
    refine x_lshl G dX3_scaled_80 ?_
    refine x_lload_n G rfl dX3_scaled_81 0 rfl ?_
    refine x_ldc2 G q1787 dX3_scaled_82 ?_
    refine x_lsub G dX3_scaled_85 ?_
    refine x_ladd G dX3_scaled_86 ?_
    obtain ⟨hz, h⟩ := h
    refine x_nl2d G q1674 q314 q313 q84 hz (by decide) (Nat.le_of_ble_eq_true rfl) dX3_scaled_87 ?_
    exact x_retd0 G Q dX3_scaled_90  h XSub.rf (Nat.le_refl _) (Nat.le_refl _)
  · replace h := h.2 c
    refine x_lload_n G rfl dX3_scaled_66 0 rfl ?_
    obtain ⟨hz, h⟩ := h
    refine x_nl2d G q1674 q314 q313 q84 hz (by decide) (Nat.le_of_ble_eq_true rfl) dX3_scaled_67 ?_
    refine x_goto (tgt := 90) G dX3_scaled_70 rfl ?_
    exact x_retd0 G Q dX3_scaled_90  h XSub.rf (Nat.le_refl _) (Nat.le_refl _)
set_option maxRecDepth 20000 in
theorem tX3_scaled {l : Launch} {D : va_G} {ta : Nat → ClassId} {p0 : Int64} {p1 : Int32} {K : UInt64 → Prop} (hlt : l.stackTraces = false) (h : wX3_scaled p0 p1 K) : SMd0 l D ta yX3_scaled cX3_scaled 6 FieldType.double 1 [.long p0, .int p1] [] [] 0 0 K := by
  refine x_std0 hlt (plainFor_of_name (by decide +kernel)) (Nat.le_of_ble_eq_true rfl) (fun g G hl hD hT Q => ?_)
  subst hl; subst hD; subst hT
  unfold wX3_scaled at h
  show X g 6 0 [(0, .long p0), (2, .int p1)] [] [] 0 0
  refine x_lload_n G rfl dX3_scaled_0 0 rfl ?_
  refine x_lconst (v := (0 : Int64)) G dX3_scaled_1 (by decide) ?_
  refine x_lcmp_ne (tgt := 8) G dX3_scaled_2 dX3_scaled_3 rfl (fun c => ?_) (fun c => ?_)
  · replace h := h.1 c
    refine x_lload_n G rfl dX3_scaled_8 0 rfl ?_
    refine x_lstore_n (lv' := [(3, .long p0), (0, .long p0), (2, .int p1)]) G rfl dX3_scaled_9 (by decide) rfl ?_
    refine x_iload_n G rfl dX3_scaled_10 2 rfl ?_
    refine x_istore (lv' := [(5, .int p1), (3, .long p0), (0, .long p0), (2, .int p1)]) G dX3_scaled_11 (by decide) rfl ?_
    obtain ⟨n0, h⟩ := h
    refine kX3_scaled_L13 G (fun v3_7 v5_8 h => ?_) n0 _ _ h
    · obtain ⟨n0, h⟩ := h
      refine kX3_scaled_L33 G (fun v3_15 v5_16 h => ?_) n0 _ _ h
      · refine x_lv (lv' := [(3, .long v3_15), (5, .int v5_16)]) [1, 0] rfl ?_
        refine kX3_scaled_J58 G Q  _ _ h
  · replace h := h.2 c
    refine x_dconst0 G dX3_scaled_6 ?_
    exact x_retd0 G Q dX3_scaled_7  h XSub.rf (Nat.le_refl _) (Nat.le_refl _)
theorem cdX3_nearest : yX3_nearest.cls = RX3 ∧ yX3_nearest.cls ≠ "java/lang/invoke/MethodHandle" ∧ yX3_nearest.cls ≠ "java/lang/invoke/VarHandle" ∧ (parseMethodDescriptor yX3_nearest.desc).map (fun d => d.parameters.length) = some 2 := by decide +kernel
def wX3_nearest_L34 (big_4 : Nat → Int32) (X51 : Int32 → Prop) : Nat → Int32 → Prop
  | 0, _ => False
  | n + 1, v4_5 => (wX3_hasBit (23 : Int32) v4_5 big_4 (fun (r_6 : Int32) => ((¬ r_6 = (0 : Int32) → X51 v4_5) ∧ (r_6 = (0 : Int32) → (∀ x_7 : Int32, x_7 = (v4_5 + (-1 : Int32)) → wX3_nearest_L34 big_4 X51 n x_7)))))
def wX3_nearest_L107 (big_4 : Nat → Int32) (s_12 : Int32) (X145 : Int64 → Int32 → Prop) : Nat → Int64 → Int32 → Prop
  | 0, _, _ => False
  | n + 1, v6_13, v8_14 => ((v8_14 < s_12 → X145 v6_13 v8_14) ∧ (¬ v8_14 < s_12 → (wX3_hasBit (23 : Int32) v8_14 big_4 (fun (r_15 : Int32) => ((r_15 = (0 : Int32) → (∀ y_16 : Int64, y_16 = (((2 : Int64) * v6_13) + (0 : Int64)) → (∀ x_17 : Int32, x_17 = (v8_14 + (-1 : Int32)) → wX3_nearest_L107 big_4 s_12 X145 n y_16 x_17))) ∧ (¬ r_15 = (0 : Int32) → (∀ y_18 : Int64, y_18 = (((2 : Int64) * v6_13) + (1 : Int64)) → (∀ x_19 : Int32, x_19 = (v8_14 + (-1 : Int32)) → wX3_nearest_L107 big_4 s_12 X145 n y_18 x_19))))))))
def wX3_nearest_L176 (big_4 : Nat → Int32) (v5_24 : Int32) (X214 : Int32 → Int32 → Prop) : Nat → Int32 → Int32 → Prop
  | 0, _, _ => False
  | n + 1, v9_27, v10_28 => (((v5_24 - (1 : Int32)) ≤ v10_28 → X214 v9_27 v10_28) ∧ (¬ (v5_24 - (1 : Int32)) ≤ v10_28 → ((¬ v9_27 = (0 : Int32) → (∀ x_29 : Int32, x_29 = (v10_28 + (1 : Int32)) → wX3_nearest_L176 big_4 v5_24 X214 n (1 : Int32) x_29)) ∧ (v9_27 = (0 : Int32) → (wX3_hasBit (23 : Int32) v10_28 big_4 (fun (r_30 : Int32) => ((r_30 = (0 : Int32) → (∀ x_31 : Int32, x_31 = (v10_28 + (1 : Int32)) → wX3_nearest_L176 big_4 v5_24 X214 n (0 : Int32) x_31)) ∧ (¬ r_30 = (0 : Int32) → (∀ x_32 : Int32, x_32 = (v10_28 + (1 : Int32)) → wX3_nearest_L176 big_4 v5_24 X214 n (1 : Int32) x_32)))))))))
def wX3_nearest_J168 (v3_3 : Int32) (big_4 : Nat → Int32) (K : UInt64 → (Nat → Int32) → Prop) : Int32 → Int64 → Int32 → Prop := fun (v5_24 : Int32) (v6_25 : Int64) (s_26 : Int32) => (∃ m176 : Nat, wX3_nearest_L176 big_4 v5_24 (fun (v9_35 : Int32) (v10_36 : Int32) => ((s_26 = (0 : Int32) → (wX3_scaled v6_25 v5_24 (fun (r_37 : UInt64) => (vf_n64 (FP.dmul (FP.i2d v3_3) r_37) ∧ K (FP.dmul (FP.i2d v3_3) r_37) big_4)))) ∧ (¬ s_26 = (0 : Int32) → ((¬ v9_35 = (0 : Int32) → (∀ y_38 : Int64, y_38 = (v6_25 + (1 : Int64)) → (wX3_scaled y_38 v5_24 (fun (r_39 : UInt64) => (vf_n64 (FP.dmul (FP.i2d v3_3) r_39) ∧ K (FP.dmul (FP.i2d v3_3) r_39) big_4))))) ∧ (v9_35 = (0 : Int32) → ((¬ (jlrem v6_25 (2 : Int64)) = (1 : Int64) → (wX3_scaled v6_25 v5_24 (fun (r_40 : UInt64) => (vf_n64 (FP.dmul (FP.i2d v3_3) r_40) ∧ K (FP.dmul (FP.i2d v3_3) r_40) big_4)))) ∧ ((jlrem v6_25 (2 : Int64)) = (1 : Int64) → (∀ y_41 : Int64, y_41 = (v6_25 + (1 : Int64)) → (wX3_scaled y_41 v5_24 (fun (r_42 : UInt64) => (vf_n64 (FP.dmul (FP.i2d v3_3) r_42) ∧ K (FP.dmul (FP.i2d v3_3) r_42) big_4))))))))))) m176 (0 : Int32) (0 : Int32))
def wX3_nearest_J98 (v3_3 : Int32) (big_4 : Nat → Int32) (K : UInt64 → (Nat → Int32) → Prop) : Int32 → Int32 → Prop := fun (v4_11 : Int32) (s_12 : Int32) => (∃ m107 : Nat, wX3_nearest_L107 big_4 s_12 (fun (v6_22 : Int64) (v8_23 : Int32) => ((s_12 ≤ (0 : Int32) → (wX3_nearest_J168 v3_3 big_4 K s_12 v6_22 (0 : Int32))) ∧ (¬ s_12 ≤ (0 : Int32) → (wX3_hasBit (23 : Int32) (s_12 - (1 : Int32)) big_4 (fun (r_43 : Int32) => ((r_43 = (0 : Int32) → (wX3_nearest_J168 v3_3 big_4 K s_12 v6_22 (0 : Int32))) ∧ (¬ r_43 = (0 : Int32) → (wX3_nearest_J168 v3_3 big_4 K s_12 v6_22 (1 : Int32))))))))) m107 (0 : Int64) v4_11)
def wX3_nearest_J29 (p1 : Int32) (K : UInt64 → (Nat → Int32) → Prop) : Int32 → (Nat → Int32) → Prop := fun (v3_3 : Int32) (big_4 : Nat → Int32) => (∃ m34 : Nat, wX3_nearest_L34 big_4 (fun (v4_9 : Int32) => ((p1 = (0 : Int32) → (((925 : Int32) ≤ (v4_9 - (23 : Int32)) → (∀ x_10 : Int32, x_10 = (v4_9 - (23 : Int32)) → (((0 : Int32) ≤ x_10 → (wX3_nearest_J98 v3_3 big_4 K v4_9 x_10)) ∧ (¬ (0 : Int32) ≤ x_10 → (wX3_nearest_J98 v3_3 big_4 K v4_9 (0 : Int32)))))) ∧ (¬ (925 : Int32) ≤ (v4_9 - (23 : Int32)) → (wX3_nearest_J98 v3_3 big_4 K v4_9 (925 : Int32))))) ∧ (¬ p1 = (0 : Int32) → (∀ x_44 : Int32, x_44 = (v4_9 - (52 : Int32)) → (((0 : Int32) ≤ x_44 → (wX3_nearest_J98 v3_3 big_4 K v4_9 x_44)) ∧ (¬ (0 : Int32) ≤ x_44 → (wX3_nearest_J98 v3_3 big_4 K v4_9 (0 : Int32)))))))) m34 (1407 : Int32))
def wX3_nearest (p0 : Int32) (p1 : Int32) (big : Nat → Int32) (K : UInt64 → (Nat → Int32) → Prop) : Prop := (wX3_signOf p0 big (fun (r_1 : Int32) => ((¬ r_1 = (0 : Int32) → (wX3_copyBig (23 : Int32) p0 big (fun (big_2 : Nat → Int32) => (((0 : Int32) ≤ r_1 → (wX3_nearest_J29 p1 K r_1 big_2)) ∧ (¬ (0 : Int32) ≤ r_1 → (wX3_negate (23 : Int32) big_2 (fun (big_45 : Nat → Int32) => (wX3_nearest_J29 p1 K r_1 big_45)))))))) ∧ (r_1 = (0 : Int32) → K FP.dconst0 big))))
set_option maxRecDepth 20000 in
theorem kX3_nearest_L34 {g : XG} {h0 : Nat} {ad : Nat → Nat} {thrown : Int32} {many : Nat → Int32} {isWide : Nat → Int32} {amountOf : Nat → UInt64} {accountOf : Nat → Int32} {dayOf : Nat → Int32} {given : Nat → Int32} {givenOf : Nat → Int32} {runs : Int32} {runWide : Nat → Int32} {runWay : Nat → Int32} {runTotal : Nat → UInt64} {runSteps : Nat → Int32} {lefts : Nat → UInt64} {rights : Nat → UInt64} {results : Nat → UInt64} {wide : Int32} {dn : Int32} {stepsAt : Int32} {keeps : Int32} {order : Nat → Int32} {att : Nat → UInt64} {spareAmount : Nat → UInt64} {spareAccount : Nat → Int32} {spareDay : Nat → Int32} {cured : Int32} {cureOf : Nat → Int32} {shareOf : Nat → Int32} {unitsOf : Int64} {spare : Int32} {halfFrom : Nat → Int32} {halfMany : Nat → Int32} {halfDone : Nat → Int32} {halfTotal : Nat → UInt64} {isFar : Int32} {p1 : Int32} {v3_3 : Int32} {big_4 : Nat → Int32} {X51 : Int32 → Prop} (G : XO g RX3 cX3_nearest 11 2 0 0) (hX51 : ∀ (v4_8 : Int32), X51 v4_8 → X g 11 51 [(4, .int v4_8), (0, .ref h0), (2, .int p1), (3, .int v3_3)] [] (mW h0 ad (xT g) thrown many isWide amountOf accountOf dayOf given givenOf runs runWide runWay runTotal runSteps lefts rights results wide dn stepsAt keeps order att spareAmount spareAccount spareDay cured cureOf shareOf big_4 unitsOf spare halfFrom halfMany halfDone halfTotal isFar) 0 0) : ∀ (n : Nat) (v4_5 : Int32), wX3_nearest_L34 big_4 X51 n v4_5 → X g 11 34 [(4, .int v4_5), (0, .ref h0), (2, .int p1), (3, .int v3_3)] [] (mW h0 ad (xT g) thrown many isWide amountOf accountOf dayOf given givenOf runs runWide runWay runTotal runSteps lefts rights results wide dn stepsAt keeps order att spareAmount spareAccount spareDay cured cureOf shareOf big_4 unitsOf spare halfFrom halfMany halfDone halfTotal isFar) 0 0 := by
  intro n
  induction n with
  | zero => intro _ h; exact h.elim
  | succ n ih =>
    intro v4_5 h
    unfold wX3_nearest_L34 at h
    refine x_aload_n G rfl dX3_nearest_34 1 rfl ?_
    refine x_bipush (v := (23 : Int32)) G dX3_nearest_35 (by decide) ?_
    refine x_iload G dX3_nearest_37 0 rfl ?_
    refine x_cVi0 (As := [.int (23 : Int32), .int v4_5]) (rest := []) G [] XSub.rf (tX3_hasBit G.noTraces h) (lw_V q1922 q1924 qs53 q70 q1925) cdX3_hasBit 3 0 rfl rfl rfl (by decide) (by decide) rfl (Nat.le_of_ble_eq_true rfl) (Nat.zero_le _) (Nat.zero_le _) dX3_nearest_39 (fun r_6 h => ?_)
    show X g 11 42 [(4, .int v4_5), (0, .ref h0), (2, .int p1), (3, .int v3_3)] [.int r_6] (mW h0 ad (xT g) thrown many isWide amountOf accountOf dayOf given givenOf runs runWide runWay runTotal runSteps lefts rights results wide dn stepsAt keeps order att spareAmount spareAccount spareDay cured cureOf shareOf big_4 unitsOf spare halfFrom halfMany halfDone halfTotal isFar) 0 0
    refine x_if_ne (tgt := 51) G dX3_nearest_42 rfl (fun c => ?_) (fun c => ?_)
    · replace h := h.1 c
      exact hX51 v4_5 h
    · replace h := h.2 c
      obtain ⟨x_7, ex_7⟩ : ∃ z : Int32, z = (v4_5 + (-1 : Int32)) := ⟨_, rfl⟩
      replace h := h x_7 ex_7
      refine x_iinc (v := x_7) (lv' := [(4, .int x_7), (0, .ref h0), (2, .int p1), (3, .int v3_3)]) G dX3_nearest_45 0 rfl (by rw [ex_7]; rfl) (by decide) rfl ?_
      refine x_goto (tgt := 34) G dX3_nearest_48 rfl ?_
      exact ih x_7 h
set_option maxRecDepth 20000 in
theorem kX3_nearest_L107 {g : XG} {h0 : Nat} {ad : Nat → Nat} {thrown : Int32} {many : Nat → Int32} {isWide : Nat → Int32} {amountOf : Nat → UInt64} {accountOf : Nat → Int32} {dayOf : Nat → Int32} {given : Nat → Int32} {givenOf : Nat → Int32} {runs : Int32} {runWide : Nat → Int32} {runWay : Nat → Int32} {runTotal : Nat → UInt64} {runSteps : Nat → Int32} {lefts : Nat → UInt64} {rights : Nat → UInt64} {results : Nat → UInt64} {wide : Int32} {dn : Int32} {stepsAt : Int32} {keeps : Int32} {order : Nat → Int32} {att : Nat → UInt64} {spareAmount : Nat → UInt64} {spareAccount : Nat → Int32} {spareDay : Nat → Int32} {cured : Int32} {cureOf : Nat → Int32} {shareOf : Nat → Int32} {unitsOf : Int64} {spare : Int32} {halfFrom : Nat → Int32} {halfMany : Nat → Int32} {halfDone : Nat → Int32} {halfTotal : Nat → UInt64} {isFar : Int32} {v3_3 : Int32} {big_4 : Nat → Int32} {v4_11 : Int32} {s_12 : Int32} {X145 : Int64 → Int32 → Prop} (G : XO g RX3 cX3_nearest 11 2 0 0) (hX145 : ∀ (v6_20 : Int64) (v8_21 : Int32), X145 v6_20 v8_21 → X g 11 145 [(8, .int v8_21), (6, .long v6_20), (5, .int s_12), (0, .ref h0), (3, .int v3_3), (4, .int v4_11)] [] (mW h0 ad (xT g) thrown many isWide amountOf accountOf dayOf given givenOf runs runWide runWay runTotal runSteps lefts rights results wide dn stepsAt keeps order att spareAmount spareAccount spareDay cured cureOf shareOf big_4 unitsOf spare halfFrom halfMany halfDone halfTotal isFar) 0 0) : ∀ (n : Nat) (v6_13 : Int64) (v8_14 : Int32), wX3_nearest_L107 big_4 s_12 X145 n v6_13 v8_14 → X g 11 107 [(8, .int v8_14), (6, .long v6_13), (5, .int s_12), (0, .ref h0), (3, .int v3_3), (4, .int v4_11)] [] (mW h0 ad (xT g) thrown many isWide amountOf accountOf dayOf given givenOf runs runWide runWay runTotal runSteps lefts rights results wide dn stepsAt keeps order att spareAmount spareAccount spareDay cured cureOf shareOf big_4 unitsOf spare halfFrom halfMany halfDone halfTotal isFar) 0 0 := by
  intro n
  induction n with
  | zero => intro _ _ h; exact h.elim
  | succ n ih =>
    intro v6_13 v8_14 h
    unfold wX3_nearest_L107 at h
    refine x_iload G dX3_nearest_107 0 rfl ?_
    refine x_iload G dX3_nearest_109 2 rfl ?_
    refine x_icmp_lt (tgt := 145) G dX3_nearest_111 rfl (fun c => ?_) (fun c => ?_)
    · replace h := h.1 c
      exact hX145 v6_13 v8_14 h
    · replace h := h.2 c
      refine x_ldc2 G q1789 dX3_nearest_114 ?_
      refine x_lload G dX3_nearest_117 1 rfl ?_
      refine x_lmul G dX3_nearest_119 ?_
      refine x_aload_n G rfl dX3_nearest_120 3 rfl ?_
      refine x_bipush (v := (23 : Int32)) G dX3_nearest_121 (by decide) ?_
      refine x_iload G dX3_nearest_123 0 rfl ?_
      refine x_cVi0 (As := [.int (23 : Int32), .int v8_14]) (rest := [.long ((2 : Int64) * v6_13)]) G [] XSub.rf (tX3_hasBit G.noTraces h) (lw_V q1922 q1924 qs53 q70 q1925) cdX3_hasBit 3 0 rfl rfl rfl (by decide) (by decide) rfl (Nat.le_of_ble_eq_true rfl) (Nat.zero_le _) (Nat.zero_le _) dX3_nearest_125 (fun r_15 h => ?_)
      show X g 11 128 [(8, .int v8_14), (6, .long v6_13), (5, .int s_12), (0, .ref h0), (3, .int v3_3), (4, .int v4_11)] [.int r_15, .long ((2 : Int64) * v6_13)] (mW h0 ad (xT g) thrown many isWide amountOf accountOf dayOf given givenOf runs runWide runWay runTotal runSteps lefts rights results wide dn stepsAt keeps order att spareAmount spareAccount spareDay cured cureOf shareOf big_4 unitsOf spare halfFrom halfMany halfDone halfTotal isFar) 0 0
      refine x_if_eq (tgt := 135) G dX3_nearest_128 rfl (fun c => ?_) (fun c => ?_)
      · replace h := h.1 c
        refine x_lconst (v := (0 : Int64)) G dX3_nearest_135 (by decide) ?_
        refine x_ladd G dX3_nearest_136 ?_
        refine x_topl (fun y_16 ey_16 => ?_)
        replace h := h y_16 ey_16
        refine x_lstore (lv' := [(6, .long y_16), (8, .int v8_14), (5, .int s_12), (0, .ref h0), (3, .int v3_3), (4, .int v4_11)]) G dX3_nearest_137 (by decide) rfl ?_
        obtain ⟨x_17, ex_17⟩ : ∃ z : Int32, z = (v8_14 + (-1 : Int32)) := ⟨_, rfl⟩
        replace h := h x_17 ex_17
        refine x_iinc (v := x_17) (lv' := [(8, .int x_17), (6, .long y_16), (5, .int s_12), (0, .ref h0), (3, .int v3_3), (4, .int v4_11)]) G dX3_nearest_139 1 rfl (by rw [ex_17]; rfl) (by decide) rfl ?_
        refine x_goto (tgt := 107) G dX3_nearest_142 rfl ?_
        exact ih y_16 x_17 h
      · replace h := h.2 c
        refine x_lconst (v := (1 : Int64)) G dX3_nearest_131 (by decide) ?_
        refine x_goto (tgt := 136) G dX3_nearest_132 rfl ?_
        refine x_ladd G dX3_nearest_136 ?_
        refine x_topl (fun y_18 ey_18 => ?_)
        replace h := h y_18 ey_18
        refine x_lstore (lv' := [(6, .long y_18), (8, .int v8_14), (5, .int s_12), (0, .ref h0), (3, .int v3_3), (4, .int v4_11)]) G dX3_nearest_137 (by decide) rfl ?_
        obtain ⟨x_19, ex_19⟩ : ∃ z : Int32, z = (v8_14 + (-1 : Int32)) := ⟨_, rfl⟩
        replace h := h x_19 ex_19
        refine x_iinc (v := x_19) (lv' := [(8, .int x_19), (6, .long y_18), (5, .int s_12), (0, .ref h0), (3, .int v3_3), (4, .int v4_11)]) G dX3_nearest_139 1 rfl (by rw [ex_19]; rfl) (by decide) rfl ?_
        refine x_goto (tgt := 107) G dX3_nearest_142 rfl ?_
        exact ih y_18 x_19 h
set_option maxRecDepth 20000 in
theorem kX3_nearest_L176 {g : XG} {h0 : Nat} {ad : Nat → Nat} {thrown : Int32} {many : Nat → Int32} {isWide : Nat → Int32} {amountOf : Nat → UInt64} {accountOf : Nat → Int32} {dayOf : Nat → Int32} {given : Nat → Int32} {givenOf : Nat → Int32} {runs : Int32} {runWide : Nat → Int32} {runWay : Nat → Int32} {runTotal : Nat → UInt64} {runSteps : Nat → Int32} {lefts : Nat → UInt64} {rights : Nat → UInt64} {results : Nat → UInt64} {wide : Int32} {dn : Int32} {stepsAt : Int32} {keeps : Int32} {order : Nat → Int32} {att : Nat → UInt64} {spareAmount : Nat → UInt64} {spareAccount : Nat → Int32} {spareDay : Nat → Int32} {cured : Int32} {cureOf : Nat → Int32} {shareOf : Nat → Int32} {unitsOf : Int64} {spare : Int32} {halfFrom : Nat → Int32} {halfMany : Nat → Int32} {halfDone : Nat → Int32} {halfTotal : Nat → UInt64} {isFar : Int32} {v3_3 : Int32} {big_4 : Nat → Int32} {v5_24 : Int32} {v6_25 : Int64} {s_26 : Int32} {X214 : Int32 → Int32 → Prop} (G : XO g RX3 cX3_nearest 11 2 0 0) (hX214 : ∀ (v9_33 : Int32) (v10_34 : Int32), X214 v9_33 v10_34 → X g 11 214 [(10, .int v10_34), (9, .int v9_33), (8, .int s_26), (0, .ref h0), (3, .int v3_3), (5, .int v5_24), (6, .long v6_25)] [] (mW h0 ad (xT g) thrown many isWide amountOf accountOf dayOf given givenOf runs runWide runWay runTotal runSteps lefts rights results wide dn stepsAt keeps order att spareAmount spareAccount spareDay cured cureOf shareOf big_4 unitsOf spare halfFrom halfMany halfDone halfTotal isFar) 0 0) : ∀ (n : Nat) (v9_27 : Int32) (v10_28 : Int32), wX3_nearest_L176 big_4 v5_24 X214 n v9_27 v10_28 → X g 11 176 [(10, .int v10_28), (9, .int v9_27), (8, .int s_26), (0, .ref h0), (3, .int v3_3), (5, .int v5_24), (6, .long v6_25)] [] (mW h0 ad (xT g) thrown many isWide amountOf accountOf dayOf given givenOf runs runWide runWay runTotal runSteps lefts rights results wide dn stepsAt keeps order att spareAmount spareAccount spareDay cured cureOf shareOf big_4 unitsOf spare halfFrom halfMany halfDone halfTotal isFar) 0 0 := by
  intro n
  induction n with
  | zero => intro _ _ h; exact h.elim
  | succ n ih =>
    intro v9_27 v10_28 h
    unfold wX3_nearest_L176 at h
    refine x_iload G dX3_nearest_176 0 rfl ?_
    refine x_iload G dX3_nearest_178 5 rfl ?_
    refine x_iconst (v := (1 : Int32)) G dX3_nearest_180 (by decide) ?_
    refine x_isub G dX3_nearest_181 ?_
    refine x_icmp_ge (tgt := 214) G dX3_nearest_182 rfl (fun c => ?_) (fun c => ?_)
    · replace h := h.1 c
      exact hX214 v9_27 v10_28 h
    · replace h := h.2 c
      refine x_iload G dX3_nearest_185 1 rfl ?_
      refine x_if_ne (tgt := 201) G dX3_nearest_187 rfl (fun c => ?_) (fun c => ?_)
      · replace h := h.1 c
        refine x_iconst (v := (1 : Int32)) G dX3_nearest_201 (by decide) ?_
        refine x_goto (tgt := 206) G dX3_nearest_202 rfl ?_
        refine x_istore (lv' := [(9, .int (1 : Int32)), (10, .int v10_28), (8, .int s_26), (0, .ref h0), (3, .int v3_3), (5, .int v5_24), (6, .long v6_25)]) G dX3_nearest_206 (by decide) rfl ?_
        obtain ⟨x_29, ex_29⟩ : ∃ z : Int32, z = (v10_28 + (1 : Int32)) := ⟨_, rfl⟩
        replace h := h x_29 ex_29
        refine x_iinc (v := x_29) (lv' := [(10, .int x_29), (9, .int (1 : Int32)), (8, .int s_26), (0, .ref h0), (3, .int v3_3), (5, .int v5_24), (6, .long v6_25)]) G dX3_nearest_208 1 rfl (by rw [ex_29]; rfl) (by decide) rfl ?_
        refine x_goto (tgt := 176) G dX3_nearest_211 rfl ?_
        exact ih (1 : Int32) x_29 h
      · replace h := h.2 c
        refine x_aload_n G rfl dX3_nearest_190 3 rfl ?_
        refine x_bipush (v := (23 : Int32)) G dX3_nearest_191 (by decide) ?_
        refine x_iload G dX3_nearest_193 0 rfl ?_
        refine x_cVi0 (As := [.int (23 : Int32), .int v10_28]) (rest := []) G [] XSub.rf (tX3_hasBit G.noTraces h) (lw_V q1922 q1924 qs53 q70 q1925) cdX3_hasBit 3 0 rfl rfl rfl (by decide) (by decide) rfl (Nat.le_of_ble_eq_true rfl) (Nat.zero_le _) (Nat.zero_le _) dX3_nearest_195 (fun r_30 h => ?_)
        show X g 11 198 [(10, .int v10_28), (9, .int v9_27), (8, .int s_26), (0, .ref h0), (3, .int v3_3), (5, .int v5_24), (6, .long v6_25)] [.int r_30] (mW h0 ad (xT g) thrown many isWide amountOf accountOf dayOf given givenOf runs runWide runWay runTotal runSteps lefts rights results wide dn stepsAt keeps order att spareAmount spareAccount spareDay cured cureOf shareOf big_4 unitsOf spare halfFrom halfMany halfDone halfTotal isFar) 0 0
        refine x_if_eq (tgt := 205) G dX3_nearest_198 rfl (fun c => ?_) (fun c => ?_)
        · replace h := h.1 c
          refine x_iconst (v := (0 : Int32)) G dX3_nearest_205 (by decide) ?_
          refine x_istore (lv' := [(9, .int (0 : Int32)), (10, .int v10_28), (8, .int s_26), (0, .ref h0), (3, .int v3_3), (5, .int v5_24), (6, .long v6_25)]) G dX3_nearest_206 (by decide) rfl ?_
          obtain ⟨x_31, ex_31⟩ : ∃ z : Int32, z = (v10_28 + (1 : Int32)) := ⟨_, rfl⟩
          replace h := h x_31 ex_31
          refine x_iinc (v := x_31) (lv' := [(10, .int x_31), (9, .int (0 : Int32)), (8, .int s_26), (0, .ref h0), (3, .int v3_3), (5, .int v5_24), (6, .long v6_25)]) G dX3_nearest_208 1 rfl (by rw [ex_31]; rfl) (by decide) rfl ?_
          refine x_goto (tgt := 176) G dX3_nearest_211 rfl ?_
          exact ih (0 : Int32) x_31 h
        · replace h := h.2 c
          refine x_iconst (v := (1 : Int32)) G dX3_nearest_201 (by decide) ?_
          refine x_goto (tgt := 206) G dX3_nearest_202 rfl ?_
          refine x_istore (lv' := [(9, .int (1 : Int32)), (10, .int v10_28), (8, .int s_26), (0, .ref h0), (3, .int v3_3), (5, .int v5_24), (6, .long v6_25)]) G dX3_nearest_206 (by decide) rfl ?_
          obtain ⟨x_32, ex_32⟩ : ∃ z : Int32, z = (v10_28 + (1 : Int32)) := ⟨_, rfl⟩
          replace h := h x_32 ex_32
          refine x_iinc (v := x_32) (lv' := [(10, .int x_32), (9, .int (1 : Int32)), (8, .int s_26), (0, .ref h0), (3, .int v3_3), (5, .int v5_24), (6, .long v6_25)]) G dX3_nearest_208 1 rfl (by rw [ex_32]; rfl) (by decide) rfl ?_
          refine x_goto (tgt := 176) G dX3_nearest_211 rfl ?_
          exact ih (1 : Int32) x_32 h
set_option maxRecDepth 20000 in
theorem kX3_nearest_J168 {g : XG} {h0 : Nat} {ad : Nat → Nat} {thrown : Int32} {many : Nat → Int32} {isWide : Nat → Int32} {amountOf : Nat → UInt64} {accountOf : Nat → Int32} {dayOf : Nat → Int32} {given : Nat → Int32} {givenOf : Nat → Int32} {runs : Int32} {runWide : Nat → Int32} {runWay : Nat → Int32} {runTotal : Nat → UInt64} {runSteps : Nat → Int32} {lefts : Nat → UInt64} {rights : Nat → UInt64} {results : Nat → UInt64} {wide : Int32} {dn : Int32} {stepsAt : Int32} {keeps : Int32} {order : Nat → Int32} {att : Nat → UInt64} {spareAmount : Nat → UInt64} {spareAccount : Nat → Int32} {spareDay : Nat → Int32} {cured : Int32} {cureOf : Nat → Int32} {shareOf : Nat → Int32} {unitsOf : Int64} {spare : Int32} {halfFrom : Nat → Int32} {halfMany : Nat → Int32} {halfDone : Nat → Int32} {halfTotal : Nat → UInt64} {isFar : Int32} {v3_3 : Int32} {big_4 : Nat → Int32} {K : UInt64 → (Nat → Int32) → Prop} (G : XO g RX3 cX3_nearest 11 2 0 0) (Q : XQd1 g FieldType.double 0 0 (fun (big' : Nat → Int32) => mW h0 ad (xT g) thrown many isWide amountOf accountOf dayOf given givenOf runs runWide runWay runTotal runSteps lefts rights results wide dn stepsAt keeps order att spareAmount spareAccount spareDay cured cureOf shareOf big' unitsOf spare halfFrom halfMany halfDone halfTotal isFar) K) : ∀ (v5_24 : Int32) (v6_25 : Int64) (s_26 : Int32), wX3_nearest_J168 v3_3 big_4 K v5_24 v6_25 s_26 → X g 11 168 [(0, .ref h0), (3, .int v3_3), (5, .int v5_24), (6, .long v6_25)] [.int s_26] (mW h0 ad (xT g) thrown many isWide amountOf accountOf dayOf given givenOf runs runWide runWay runTotal runSteps lefts rights results wide dn stepsAt keeps order att spareAmount spareAccount spareDay cured cureOf shareOf big_4 unitsOf spare halfFrom halfMany halfDone halfTotal isFar) 0 0 := by
  intro v5_24 v6_25 s_26 h
  unfold wX3_nearest_J168 at h
  refine x_istore (lv' := [(8, .int s_26), (0, .ref h0), (3, .int v3_3), (5, .int v5_24), (6, .long v6_25)]) G dX3_nearest_168 (by decide) rfl ?_
  refine x_iconst (v := (0 : Int32)) G dX3_nearest_170 (by decide) ?_
  refine x_istore (lv' := [(9, .int (0 : Int32)), (8, .int s_26), (0, .ref h0), (3, .int v3_3), (5, .int v5_24), (6, .long v6_25)]) G dX3_nearest_171 (by decide) rfl ?_
  refine x_iconst (v := (0 : Int32)) G dX3_nearest_173 (by decide) ?_
  refine x_istore (lv' := [(10, .int (0 : Int32)), (9, .int (0 : Int32)), (8, .int s_26), (0, .ref h0), (3, .int v3_3), (5, .int v5_24), (6, .long v6_25)]) G dX3_nearest_174 (by decide) rfl ?_
  obtain ⟨n0, h⟩ := h
  refine kX3_nearest_L176 G (fun v9_35 v10_36 h => ?_) n0 _ _ h
  · refine x_iload G dX3_nearest_214 2 rfl ?_
    refine x_if_eq (tgt := 241) G dX3_nearest_216 rfl (fun c => ?_) (fun c => ?_)
    · replace h := h.1 c
      refine x_iload_n G rfl dX3_nearest_241 4 rfl ?_
      refine x_i2d G dX3_nearest_242 ?_
      refine x_lload G dX3_nearest_243 6 rfl ?_
      refine x_iload G dX3_nearest_245 5 rfl ?_
      refine x_cPd (As := [.long v6_25, .int v5_24]) (rest := [.double (FP.i2d v3_3)]) G (tX3_scaled G.noTraces h) (lw_S q1926 q1927 q70 q1928) cdX3_scaled (by decide) (by decide) rfl (Nat.le_of_ble_eq_true rfl) (Nat.zero_le _) (Nat.zero_le _) dX3_nearest_247 (fun r_37 h => ?_)
      obtain ⟨hz, h⟩ := h
      refine x_dmul G dX3_nearest_250 hz ?_
      exact x_retd1 G Q dX3_nearest_251 big_4 h XSub.rf (Nat.le_refl _) (Nat.le_refl _)
    · replace h := h.2 c
      refine x_iload G dX3_nearest_219 1 rfl ?_
      refine x_if_ne (tgt := 235) G dX3_nearest_221 rfl (fun c => ?_) (fun c => ?_)
      · replace h := h.1 c
        refine x_lload G dX3_nearest_235 6 rfl ?_
        refine x_lconst (v := (1 : Int64)) G dX3_nearest_237 (by decide) ?_
        refine x_ladd G dX3_nearest_238 ?_
        refine x_topl (fun y_38 ey_38 => ?_)
        replace h := h y_38 ey_38
        refine x_lstore (lv' := [(6, .long y_38), (10, .int v10_36), (9, .int v9_35), (8, .int s_26), (0, .ref h0), (3, .int v3_3), (5, .int v5_24)]) G dX3_nearest_239 (by decide) rfl ?_
        refine x_iload_n G rfl dX3_nearest_241 5 rfl ?_
        refine x_i2d G dX3_nearest_242 ?_
        refine x_lload G dX3_nearest_243 0 rfl ?_
        refine x_iload G dX3_nearest_245 6 rfl ?_
        refine x_cPd (As := [.long y_38, .int v5_24]) (rest := [.double (FP.i2d v3_3)]) G (tX3_scaled G.noTraces h) (lw_S q1926 q1927 q70 q1928) cdX3_scaled (by decide) (by decide) rfl (Nat.le_of_ble_eq_true rfl) (Nat.zero_le _) (Nat.zero_le _) dX3_nearest_247 (fun r_39 h => ?_)
        obtain ⟨hz, h⟩ := h
        refine x_dmul G dX3_nearest_250 hz ?_
        exact x_retd1 G Q dX3_nearest_251 big_4 h XSub.rf (Nat.le_refl _) (Nat.le_refl _)
      · replace h := h.2 c
        refine x_lload G dX3_nearest_224 6 rfl ?_
        refine x_ldc2 G q1789 dX3_nearest_226 ?_
        refine x_lrem G dX3_nearest_229 (by decide) ?_
        refine x_lconst (v := (1 : Int64)) G dX3_nearest_230 (by decide) ?_
        refine x_lcmp_ne (tgt := 241) G dX3_nearest_231 dX3_nearest_232 rfl (fun c => ?_) (fun c => ?_)
        · replace h := h.1 c
          refine x_iload_n G rfl dX3_nearest_241 4 rfl ?_
          refine x_i2d G dX3_nearest_242 ?_
          refine x_lload G dX3_nearest_243 6 rfl ?_
          refine x_iload G dX3_nearest_245 5 rfl ?_
          refine x_cPd (As := [.long v6_25, .int v5_24]) (rest := [.double (FP.i2d v3_3)]) G (tX3_scaled G.noTraces h) (lw_S q1926 q1927 q70 q1928) cdX3_scaled (by decide) (by decide) rfl (Nat.le_of_ble_eq_true rfl) (Nat.zero_le _) (Nat.zero_le _) dX3_nearest_247 (fun r_40 h => ?_)
          obtain ⟨hz, h⟩ := h
          refine x_dmul G dX3_nearest_250 hz ?_
          exact x_retd1 G Q dX3_nearest_251 big_4 h XSub.rf (Nat.le_refl _) (Nat.le_refl _)
        · replace h := h.2 c
          refine x_lload G dX3_nearest_235 6 rfl ?_
          refine x_lconst (v := (1 : Int64)) G dX3_nearest_237 (by decide) ?_
          refine x_ladd G dX3_nearest_238 ?_
          refine x_topl (fun y_41 ey_41 => ?_)
          replace h := h y_41 ey_41
          refine x_lstore (lv' := [(6, .long y_41), (10, .int v10_36), (9, .int v9_35), (8, .int s_26), (0, .ref h0), (3, .int v3_3), (5, .int v5_24)]) G dX3_nearest_239 (by decide) rfl ?_
          refine x_iload_n G rfl dX3_nearest_241 5 rfl ?_
          refine x_i2d G dX3_nearest_242 ?_
          refine x_lload G dX3_nearest_243 0 rfl ?_
          refine x_iload G dX3_nearest_245 6 rfl ?_
          refine x_cPd (As := [.long y_41, .int v5_24]) (rest := [.double (FP.i2d v3_3)]) G (tX3_scaled G.noTraces h) (lw_S q1926 q1927 q70 q1928) cdX3_scaled (by decide) (by decide) rfl (Nat.le_of_ble_eq_true rfl) (Nat.zero_le _) (Nat.zero_le _) dX3_nearest_247 (fun r_42 h => ?_)
          obtain ⟨hz, h⟩ := h
          refine x_dmul G dX3_nearest_250 hz ?_
          exact x_retd1 G Q dX3_nearest_251 big_4 h XSub.rf (Nat.le_refl _) (Nat.le_refl _)
set_option maxRecDepth 20000 in
theorem kX3_nearest_J98 {g : XG} {h0 : Nat} {ad : Nat → Nat} {thrown : Int32} {many : Nat → Int32} {isWide : Nat → Int32} {amountOf : Nat → UInt64} {accountOf : Nat → Int32} {dayOf : Nat → Int32} {given : Nat → Int32} {givenOf : Nat → Int32} {runs : Int32} {runWide : Nat → Int32} {runWay : Nat → Int32} {runTotal : Nat → UInt64} {runSteps : Nat → Int32} {lefts : Nat → UInt64} {rights : Nat → UInt64} {results : Nat → UInt64} {wide : Int32} {dn : Int32} {stepsAt : Int32} {keeps : Int32} {order : Nat → Int32} {att : Nat → UInt64} {spareAmount : Nat → UInt64} {spareAccount : Nat → Int32} {spareDay : Nat → Int32} {cured : Int32} {cureOf : Nat → Int32} {shareOf : Nat → Int32} {unitsOf : Int64} {spare : Int32} {halfFrom : Nat → Int32} {halfMany : Nat → Int32} {halfDone : Nat → Int32} {halfTotal : Nat → UInt64} {isFar : Int32} {v3_3 : Int32} {big_4 : Nat → Int32} {K : UInt64 → (Nat → Int32) → Prop} (G : XO g RX3 cX3_nearest 11 2 0 0) (Q : XQd1 g FieldType.double 0 0 (fun (big' : Nat → Int32) => mW h0 ad (xT g) thrown many isWide amountOf accountOf dayOf given givenOf runs runWide runWay runTotal runSteps lefts rights results wide dn stepsAt keeps order att spareAmount spareAccount spareDay cured cureOf shareOf big' unitsOf spare halfFrom halfMany halfDone halfTotal isFar) K) : ∀ (v4_11 : Int32) (s_12 : Int32), wX3_nearest_J98 v3_3 big_4 K v4_11 s_12 → X g 11 98 [(0, .ref h0), (3, .int v3_3), (4, .int v4_11)] [.int s_12] (mW h0 ad (xT g) thrown many isWide amountOf accountOf dayOf given givenOf runs runWide runWay runTotal runSteps lefts rights results wide dn stepsAt keeps order att spareAmount spareAccount spareDay cured cureOf shareOf big_4 unitsOf spare halfFrom halfMany halfDone halfTotal isFar) 0 0 := by
  intro v4_11 s_12 h
  unfold wX3_nearest_J98 at h
  refine x_istore (lv' := [(5, .int s_12), (0, .ref h0), (3, .int v3_3), (4, .int v4_11)]) G dX3_nearest_98 (by decide) rfl ?_
  refine x_lconst (v := (0 : Int64)) G dX3_nearest_100 (by decide) ?_
  refine x_lstore (lv' := [(6, .long (0 : Int64)), (5, .int s_12), (0, .ref h0), (3, .int v3_3), (4, .int v4_11)]) G dX3_nearest_101 (by decide) rfl ?_
  refine x_iload G dX3_nearest_103 4 rfl ?_
  refine x_istore (lv' := [(8, .int v4_11), (6, .long (0 : Int64)), (5, .int s_12), (0, .ref h0), (3, .int v3_3), (4, .int v4_11)]) G dX3_nearest_105 (by decide) rfl ?_
  obtain ⟨n0, h⟩ := h
  refine kX3_nearest_L107 G (fun v6_22 v8_23 h => ?_) n0 _ _ h
  · refine x_iload G dX3_nearest_145 2 rfl ?_
    refine x_if_le (tgt := 167) G dX3_nearest_147 rfl (fun c => ?_) (fun c => ?_)
    · replace h := h.1 c
      refine x_iconst (v := (0 : Int32)) G dX3_nearest_167 (by decide) ?_
      refine x_lv (lv' := [(0, .ref h0), (3, .int v3_3), (5, .int s_12), (6, .long v6_22)]) [3, 4, 2, 1] rfl ?_
      refine kX3_nearest_J168 G Q  _ _ _ h
    · replace h := h.2 c
      refine x_aload_n G rfl dX3_nearest_150 3 rfl ?_
      refine x_bipush (v := (23 : Int32)) G dX3_nearest_151 (by decide) ?_
      refine x_iload G dX3_nearest_153 2 rfl ?_
      refine x_iconst (v := (1 : Int32)) G dX3_nearest_155 (by decide) ?_
      refine x_isub G dX3_nearest_156 ?_
      refine x_cVi0 (As := [.int (23 : Int32), .int (s_12 - (1 : Int32))]) (rest := []) G [] XSub.rf (tX3_hasBit G.noTraces h) (lw_V q1922 q1924 qs53 q70 q1925) cdX3_hasBit 3 0 rfl rfl rfl (by decide) (by decide) rfl (Nat.le_of_ble_eq_true rfl) (Nat.zero_le _) (Nat.zero_le _) dX3_nearest_157 (fun r_43 h => ?_)
      show X g 11 160 [(8, .int v8_23), (6, .long v6_22), (5, .int s_12), (0, .ref h0), (3, .int v3_3), (4, .int v4_11)] [.int r_43] (mW h0 ad (xT g) thrown many isWide amountOf accountOf dayOf given givenOf runs runWide runWay runTotal runSteps lefts rights results wide dn stepsAt keeps order att spareAmount spareAccount spareDay cured cureOf shareOf big_4 unitsOf spare halfFrom halfMany halfDone halfTotal isFar) 0 0
      refine x_if_eq (tgt := 167) G dX3_nearest_160 rfl (fun c => ?_) (fun c => ?_)
      · replace h := h.1 c
        refine x_iconst (v := (0 : Int32)) G dX3_nearest_167 (by decide) ?_
        refine x_lv (lv' := [(0, .ref h0), (3, .int v3_3), (5, .int s_12), (6, .long v6_22)]) [3, 4, 2, 1] rfl ?_
        refine kX3_nearest_J168 G Q  _ _ _ h
      · replace h := h.2 c
        refine x_iconst (v := (1 : Int32)) G dX3_nearest_163 (by decide) ?_
        refine x_goto (tgt := 168) G dX3_nearest_164 rfl ?_
        refine x_lv (lv' := [(0, .ref h0), (3, .int v3_3), (5, .int s_12), (6, .long v6_22)]) [3, 4, 2, 1] rfl ?_
        refine kX3_nearest_J168 G Q  _ _ _ h
set_option maxRecDepth 20000 in
theorem kX3_nearest_J29 {g : XG} {h0 : Nat} {ad : Nat → Nat} {thrown : Int32} {many : Nat → Int32} {isWide : Nat → Int32} {amountOf : Nat → UInt64} {accountOf : Nat → Int32} {dayOf : Nat → Int32} {given : Nat → Int32} {givenOf : Nat → Int32} {runs : Int32} {runWide : Nat → Int32} {runWay : Nat → Int32} {runTotal : Nat → UInt64} {runSteps : Nat → Int32} {lefts : Nat → UInt64} {rights : Nat → UInt64} {results : Nat → UInt64} {wide : Int32} {dn : Int32} {stepsAt : Int32} {keeps : Int32} {order : Nat → Int32} {att : Nat → UInt64} {spareAmount : Nat → UInt64} {spareAccount : Nat → Int32} {spareDay : Nat → Int32} {cured : Int32} {cureOf : Nat → Int32} {shareOf : Nat → Int32} {unitsOf : Int64} {spare : Int32} {halfFrom : Nat → Int32} {halfMany : Nat → Int32} {halfDone : Nat → Int32} {halfTotal : Nat → UInt64} {isFar : Int32} {p1 : Int32} {K : UInt64 → (Nat → Int32) → Prop} (G : XO g RX3 cX3_nearest 11 2 0 0) (Q : XQd1 g FieldType.double 0 0 (fun (big' : Nat → Int32) => mW h0 ad (xT g) thrown many isWide amountOf accountOf dayOf given givenOf runs runWide runWay runTotal runSteps lefts rights results wide dn stepsAt keeps order att spareAmount spareAccount spareDay cured cureOf shareOf big' unitsOf spare halfFrom halfMany halfDone halfTotal isFar) K) : ∀ (v3_3 : Int32) (big_4 : Nat → Int32), wX3_nearest_J29 p1 K v3_3 big_4 → X g 11 29 [(0, .ref h0), (2, .int p1), (3, .int v3_3)] [] (mW h0 ad (xT g) thrown many isWide amountOf accountOf dayOf given givenOf runs runWide runWay runTotal runSteps lefts rights results wide dn stepsAt keeps order att spareAmount spareAccount spareDay cured cureOf shareOf big_4 unitsOf spare halfFrom halfMany halfDone halfTotal isFar) 0 0 := by
  intro v3_3 big_4 h
  unfold wX3_nearest_J29 at h
  refine x_sipush (v := (1407 : Int32)) G dX3_nearest_29 (by decide) ?_
  refine x_istore (lv' := [(4, .int (1407 : Int32)), (0, .ref h0), (2, .int p1), (3, .int v3_3)]) G dX3_nearest_32 (by decide) rfl ?_
  obtain ⟨n0, h⟩ := h
  refine kX3_nearest_L34 G (fun v4_9 h => ?_) n0 _ h
  · refine x_iload_n G rfl dX3_nearest_51 2 rfl ?_
    refine x_if_eq (tgt := 63) G dX3_nearest_52 rfl (fun c => ?_) (fun c => ?_)
    · replace h := h.1 c
      refine x_iload G dX3_nearest_63 0 rfl ?_
      refine x_bipush (v := (23 : Int32)) G dX3_nearest_65 (by decide) ?_
      refine x_isub G dX3_nearest_67 ?_
      refine x_sipush (v := (925 : Int32)) G dX3_nearest_68 (by decide) ?_
      refine x_icmp_ge (tgt := 80) G dX3_nearest_71 rfl (fun c => ?_) (fun c => ?_)
      · replace h := h.1 c
        refine x_iload G dX3_nearest_80 0 rfl ?_
        refine x_bipush (v := (23 : Int32)) G dX3_nearest_82 (by decide) ?_
        refine x_isub G dX3_nearest_84 ?_
        refine x_topi (fun x_10 ex_10 => ?_)
        replace h := h x_10 ex_10
        refine x_istore (lv' := [(5, .int x_10), (4, .int v4_9), (0, .ref h0), (2, .int p1), (3, .int v3_3)]) G dX3_nearest_85 (by decide) rfl ?_
        refine x_iload G dX3_nearest_87 0 rfl ?_
        refine x_if_ge (tgt := 96) G dX3_nearest_89 rfl (fun c => ?_) (fun c => ?_)
        · replace h := h.1 c
          refine x_iload G dX3_nearest_96 0 rfl ?_
          refine x_lv (lv' := [(0, .ref h0), (3, .int v3_3), (4, .int v4_9)]) [2, 4, 1] rfl ?_
          refine kX3_nearest_J98 G Q  _ _ h
        · replace h := h.2 c
          refine x_iconst (v := (0 : Int32)) G dX3_nearest_92 (by decide) ?_
          refine x_goto (tgt := 98) G dX3_nearest_93 rfl ?_
          refine x_lv (lv' := [(0, .ref h0), (3, .int v3_3), (4, .int v4_9)]) [2, 4, 1] rfl ?_
          refine kX3_nearest_J98 G Q  _ _ h
      · replace h := h.2 c
        refine x_sipush (v := (925 : Int32)) G dX3_nearest_74 (by decide) ?_
        refine x_goto (tgt := 85) G dX3_nearest_77 rfl ?_
        refine x_istore (lv' := [(5, .int (925 : Int32)), (4, .int v4_9), (0, .ref h0), (2, .int p1), (3, .int v3_3)]) G dX3_nearest_85 (by decide) rfl ?_
        refine x_iload G dX3_nearest_87 0 rfl ?_
        refine x_if_ge (tgt := 96) G dX3_nearest_89 rfl (fun c => ?_) (fun c => absurd c (by decide))
        refine x_iload G dX3_nearest_96 0 rfl ?_
        refine x_lv (lv' := [(0, .ref h0), (3, .int v3_3), (4, .int v4_9)]) [2, 4, 1] rfl ?_
        refine kX3_nearest_J98 G Q  _ _ h
    · replace h := h.2 c
      refine x_iload G dX3_nearest_55 0 rfl ?_
      refine x_bipush (v := (52 : Int32)) G dX3_nearest_57 (by decide) ?_
      refine x_isub G dX3_nearest_59 ?_
      refine x_goto (tgt := 85) G dX3_nearest_60 rfl ?_
      refine x_topi (fun x_44 ex_44 => ?_)
      replace h := h x_44 ex_44
      refine x_istore (lv' := [(5, .int x_44), (4, .int v4_9), (0, .ref h0), (2, .int p1), (3, .int v3_3)]) G dX3_nearest_85 (by decide) rfl ?_
      refine x_iload G dX3_nearest_87 0 rfl ?_
      refine x_if_ge (tgt := 96) G dX3_nearest_89 rfl (fun c => ?_) (fun c => ?_)
      · replace h := h.1 c
        refine x_iload G dX3_nearest_96 0 rfl ?_
        refine x_lv (lv' := [(0, .ref h0), (3, .int v3_3), (4, .int v4_9)]) [2, 4, 1] rfl ?_
        refine kX3_nearest_J98 G Q  _ _ h
      · replace h := h.2 c
        refine x_iconst (v := (0 : Int32)) G dX3_nearest_92 (by decide) ?_
        refine x_goto (tgt := 98) G dX3_nearest_93 rfl ?_
        refine x_lv (lv' := [(0, .ref h0), (3, .int v3_3), (4, .int v4_9)]) [2, 4, 1] rfl ?_
        refine kX3_nearest_J98 G Q  _ _ h
set_option maxRecDepth 20000 in
theorem tX3_nearest {l : Launch} {D : va_G} {ta : Nat → ClassId} {h0 : Nat} {ad : Nat → Nat} {thrown : Int32} {many : Nat → Int32} {isWide : Nat → Int32} {amountOf : Nat → UInt64} {accountOf : Nat → Int32} {dayOf : Nat → Int32} {given : Nat → Int32} {givenOf : Nat → Int32} {runs : Int32} {runWide : Nat → Int32} {runWay : Nat → Int32} {runTotal : Nat → UInt64} {runSteps : Nat → Int32} {lefts : Nat → UInt64} {rights : Nat → UInt64} {results : Nat → UInt64} {wide : Int32} {dn : Int32} {stepsAt : Int32} {keeps : Int32} {order : Nat → Int32} {att : Nat → UInt64} {spareAmount : Nat → UInt64} {spareAccount : Nat → Int32} {spareDay : Nat → Int32} {cured : Int32} {cureOf : Nat → Int32} {shareOf : Nat → Int32} {big : Nat → Int32} {unitsOf : Int64} {spare : Int32} {halfFrom : Nat → Int32} {halfMany : Nat → Int32} {halfDone : Nat → Int32} {halfTotal : Nat → UInt64} {isFar : Int32} {p0 : Int32} {p1 : Int32} {K : UInt64 → (Nat → Int32) → Prop} (hlt : l.stackTraces = false) (h : wX3_nearest p0 p1 big K) : SMd1 l D ta yX3_nearest cX3_nearest 11 FieldType.double 2 [.ref h0, .int p0, .int p1] (mW h0 ad ta thrown many isWide amountOf accountOf dayOf given givenOf runs runWide runWay runTotal runSteps lefts rights results wide dn stepsAt keeps order att spareAmount spareAccount spareDay cured cureOf shareOf big unitsOf spare halfFrom halfMany halfDone halfTotal isFar) (fun (big' : Nat → Int32) => mW h0 ad ta thrown many isWide amountOf accountOf dayOf given givenOf runs runWide runWay runTotal runSteps lefts rights results wide dn stepsAt keeps order att spareAmount spareAccount spareDay cured cureOf shareOf big' unitsOf spare halfFrom halfMany halfDone halfTotal isFar) 0 0 K := by
  refine x_std1 hlt (plainFor_of_name (by decide +kernel)) (Nat.le_of_ble_eq_true rfl) (fun g G hl hD hT Q => ?_)
  subst hl; subst hD; subst hT
  unfold wX3_nearest at h
  show X g 11 0 [(0, .ref h0), (1, .int p0), (2, .int p1)] [] (mW h0 ad (xT g) thrown many isWide amountOf accountOf dayOf given givenOf runs runWide runWay runTotal runSteps lefts rights results wide dn stepsAt keeps order att spareAmount spareAccount spareDay cured cureOf shareOf big unitsOf spare halfFrom halfMany halfDone halfTotal isFar) 0 0
  refine x_aload_n G rfl dX3_nearest_0 0 rfl ?_
  refine x_iload_n G rfl dX3_nearest_1 1 rfl ?_
  refine x_cVi0 (As := [.int p0]) (rest := []) G [] XSub.rf (tX3_signOf G.noTraces h) (lw_V q1914 q1916 qs51 q70 q1917) cdX3_signOf 3 0 rfl rfl rfl (by decide) (by decide) rfl (Nat.le_of_ble_eq_true rfl) (Nat.zero_le _) (Nat.zero_le _) dX3_nearest_2 (fun r_1 h => ?_)
  show X g 11 5 [(0, .ref h0), (1, .int p0), (2, .int p1)] [.int r_1] (mW h0 ad (xT g) thrown many isWide amountOf accountOf dayOf given givenOf runs runWide runWay runTotal runSteps lefts rights results wide dn stepsAt keeps order att spareAmount spareAccount spareDay cured cureOf shareOf big unitsOf spare halfFrom halfMany halfDone halfTotal isFar) 0 0
  refine x_istore_n (lv' := [(3, .int r_1), (0, .ref h0), (1, .int p0), (2, .int p1)]) G rfl dX3_nearest_5 (by decide) rfl ?_
  refine x_iload_n G rfl dX3_nearest_6 0 rfl ?_
  refine x_if_ne (tgt := 12) G dX3_nearest_7 rfl (fun c => ?_) (fun c => ?_)
  · replace h := h.1 c
    refine x_aload_n G rfl dX3_nearest_12 1 rfl ?_
    refine x_bipush (v := (23 : Int32)) G dX3_nearest_13 (by decide) ?_
    refine x_iload_n G rfl dX3_nearest_15 2 rfl ?_
    refine x_cVv1 (As := [.int (23 : Int32), .int p0]) (rest := []) G [] XSub.rf (tX3_copyBig G.noTraces h) (lw_V q1918 q1920 qs52 q70 q1921) cdX3_copyBig 3 0 rfl rfl rfl (by decide) (by decide) rfl (Nat.le_of_ble_eq_true rfl) (Nat.zero_le _) (Nat.zero_le _) dX3_nearest_16 (fun big_2 h => ?_)
    show X g 11 19 [(3, .int r_1), (0, .ref h0), (1, .int p0), (2, .int p1)] [] (mW h0 ad (xT g) thrown many isWide amountOf accountOf dayOf given givenOf runs runWide runWay runTotal runSteps lefts rights results wide dn stepsAt keeps order att spareAmount spareAccount spareDay cured cureOf shareOf big_2 unitsOf spare halfFrom halfMany halfDone halfTotal isFar) 0 0
    refine x_iload_n G rfl dX3_nearest_19 0 rfl ?_
    refine x_if_ge (tgt := 29) G dX3_nearest_20 rfl (fun c => ?_) (fun c => ?_)
    · replace h := h.1 c
      refine x_lv (lv' := [(0, .ref h0), (2, .int p1), (3, .int r_1)]) [1, 3, 0] rfl ?_
      refine kX3_nearest_J29 G Q  _ _ h
    · replace h := h.2 c
      refine x_aload_n G rfl dX3_nearest_23 1 rfl ?_
      refine x_bipush (v := (23 : Int32)) G dX3_nearest_24 (by decide) ?_
      refine x_cVv1 (As := [.int (23 : Int32)]) (rest := []) G [] XSub.rf (tX3_negate G.noTraces h) (lw_V q1901 q1903 qs48 q70 q1904) cdX3_negate 3 0 rfl rfl rfl (by decide) (by decide) rfl (Nat.le_of_ble_eq_true rfl) (Nat.zero_le _) (Nat.zero_le _) dX3_nearest_26 (fun big_45 h => ?_)
      show X g 11 29 [(3, .int r_1), (0, .ref h0), (1, .int p0), (2, .int p1)] [] (mW h0 ad (xT g) thrown many isWide amountOf accountOf dayOf given givenOf runs runWide runWay runTotal runSteps lefts rights results wide dn stepsAt keeps order att spareAmount spareAccount spareDay cured cureOf shareOf big_45 unitsOf spare halfFrom halfMany halfDone halfTotal isFar) 0 0
      refine x_lv (lv' := [(0, .ref h0), (2, .int p1), (3, .int r_1)]) [1, 3, 0] rfl ?_
      refine kX3_nearest_J29 G Q  _ _ h
  · replace h := h.2 c
    refine x_dconst0 G dX3_nearest_10 ?_
    exact x_retd1 G Q dX3_nearest_11 big h XSub.rf (Nat.le_refl _) (Nat.le_refl _)
theorem cdX3_step : yX3_step.cls = RX3 ∧ yX3_step.cls ≠ "java/lang/invoke/MethodHandle" ∧ yX3_step.cls ≠ "java/lang/invoke/VarHandle" ∧ (parseMethodDescriptor yX3_step.desc).map (fun d => d.parameters.length) = some 3 := by decide +kernel
def wX3_step (p0 : Int32) (p1 : Int32) (p2 : Int32) (thrown : Int32) (runs : Int32) (runWide : Nat → Int32) (runSteps : Nat → Int32) (lefts : Nat → UInt64) (rights : Nat → UInt64) (results : Nat → UInt64) (big : Nat → Int32) (K : Int64 → Int32 → (Nat → Int32) → Prop) : Prop := (wX3_noStep p0 p1 runs runSteps (fun (r_1 : Int32) => ((r_1 = (0 : Int32) → (wX3_in p2.toInt64 (0 : Int64) (4 : Int64) (fun (r_2 : Int32) => ((¬ r_2 = (0 : Int32) → (∀ x_3 : Int32, x_3 = (((60 : Int32) * p0) + p1) → (((3 : Int32) ≤ p2 → (wX3_lossOf (0 : Int32) p0 p1 lefts rights results big (fun (big_4 : Nat → Int32) => (wX3_nearest (0 : Int32) (1 : Int32) big_4 (fun (r_5 : UInt64) (big_6 : Nat → Int32) => (wX3_addNumber (0 : Int32) (FP.dneg r_5) big_6 (fun (big_7 : Nat → Int32) => ((¬ p2 = (3 : Int32) → (wX3_nearest (0 : Int32) (1 : Int32) big_7 (fun (r_8 : UInt64) (big_9 : Nat → Int32) => (wJ12_doubleToLongBits r_8 (fun (r_10 : Int64) => K r_10 (0 : Int32) big_9))))) ∧ (p2 = (3 : Int32) → (wJ12_doubleToLongBits r_5 (fun (r_11 : Int64) => K r_11 (0 : Int32) big_7))))))))))) ∧ (¬ (3 : Int32) ≤ p2 → (vp_in p0 60 ∧ ((¬ p2 = (0 : Int32) → ((¬ p2 = (1 : Int32) → (vp_in x_3 3600 ∧ (wX3_bitsOf (runWide p0.toNatClampNeg) (results x_3.toNatClampNeg) (fun (r_12 : Int64) => K r_12 (0 : Int32) big)))) ∧ (p2 = (1 : Int32) → (vp_in x_3 3600 ∧ (wX3_bitsOf (runWide p0.toNatClampNeg) (rights x_3.toNatClampNeg) (fun (r_13 : Int64) => K r_13 (0 : Int32) big)))))) ∧ (p2 = (0 : Int32) → (vp_in x_3 3600 ∧ (wX3_bitsOf (runWide p0.toNatClampNeg) (lefts x_3.toNatClampNeg) (fun (r_14 : Int64) => K r_14 (0 : Int32) big)))))))))) ∧ (r_2 = (0 : Int32) → K (-102 : Int64) (0 : Int32) big))))) ∧ (¬ r_1 = (0 : Int32) → K (-101 : Int64) (0 : Int32) big))))
set_option maxRecDepth 20000 in
theorem tX3_step {l : Launch} {D : va_G} {ta : Nat → ClassId} {h0 : Nat} {ad : Nat → Nat} {thrown : Int32} {many : Nat → Int32} {isWide : Nat → Int32} {amountOf : Nat → UInt64} {accountOf : Nat → Int32} {dayOf : Nat → Int32} {given : Nat → Int32} {givenOf : Nat → Int32} {runs : Int32} {runWide : Nat → Int32} {runWay : Nat → Int32} {runTotal : Nat → UInt64} {runSteps : Nat → Int32} {lefts : Nat → UInt64} {rights : Nat → UInt64} {results : Nat → UInt64} {wide : Int32} {dn : Int32} {stepsAt : Int32} {keeps : Int32} {order : Nat → Int32} {att : Nat → UInt64} {spareAmount : Nat → UInt64} {spareAccount : Nat → Int32} {spareDay : Nat → Int32} {cured : Int32} {cureOf : Nat → Int32} {shareOf : Nat → Int32} {big : Nat → Int32} {unitsOf : Int64} {spare : Int32} {halfFrom : Nat → Int32} {halfMany : Nat → Int32} {halfDone : Nat → Int32} {halfTotal : Nat → UInt64} {isFar : Int32} {p0 : Int32} {p1 : Int32} {p2 : Int32} {K : Int64 → Int32 → (Nat → Int32) → Prop} (hlt : l.stackTraces = false) (h : wX3_step p0 p1 p2 thrown runs runWide runSteps lefts rights results big K) : SMl2 l D ta yX3_step cX3_step 7 FieldType.long 6 [.ref h0, .int p0, .int p1, .int p2] (mW h0 ad ta thrown many isWide amountOf accountOf dayOf given givenOf runs runWide runWay runTotal runSteps lefts rights results wide dn stepsAt keeps order att spareAmount spareAccount spareDay cured cureOf shareOf big unitsOf spare halfFrom halfMany halfDone halfTotal isFar) (fun (thrown' : Int32) (big' : Nat → Int32) => mW h0 ad ta thrown' many isWide amountOf accountOf dayOf given givenOf runs runWide runWay runTotal runSteps lefts rights results wide dn stepsAt keeps order att spareAmount spareAccount spareDay cured cureOf shareOf big' unitsOf spare halfFrom halfMany halfDone halfTotal isFar) 0 0 K := by
  refine x_stl2 hlt (plainFor_of_name (by decide +kernel)) (Nat.le_of_ble_eq_true rfl) (fun g G hl hD hT Q => ?_)
  subst hl; subst hD; subst hT
  unfold wX3_step at h
  show X g 7 0 [(0, .ref h0), (1, .int p0), (2, .int p1), (3, .int p2)] [] (mW h0 ad (xT g) thrown many isWide amountOf accountOf dayOf given givenOf runs runWide runWay runTotal runSteps lefts rights results wide dn stepsAt keeps order att spareAmount spareAccount spareDay cured cureOf shareOf big unitsOf spare halfFrom halfMany halfDone halfTotal isFar) 0 0
  refine x_aload_n G rfl dX3_step_0 0 rfl ?_
  refine x_iconst (v := (0 : Int32)) G dX3_step_1 (by decide) ?_
  refine m_put_0 G dX3_step_2 ?_
  refine x_aload_n G rfl dX3_step_5 0 rfl ?_
  refine x_iload_n G rfl dX3_step_6 1 rfl ?_
  refine x_iload_n G rfl dX3_step_7 2 rfl ?_
  refine x_cVi0 (As := [.int p0, .int p1]) (rest := []) G [] XSub.rf (tX3_noStep G.noTraces h) (lw_V q1880 q1882 qs43 q70 q1883) cdX3_noStep 3 0 rfl rfl rfl (by decide) (by decide) rfl (Nat.le_of_ble_eq_true rfl) (Nat.zero_le _) (Nat.zero_le _) dX3_step_8 (fun r_1 h => ?_)
  show X g 7 11 [(0, .ref h0), (1, .int p0), (2, .int p1), (3, .int p2)] [.int r_1] (mW h0 ad (xT g) (0 : Int32) many isWide amountOf accountOf dayOf given givenOf runs runWide runWay runTotal runSteps lefts rights results wide dn stepsAt keeps order att spareAmount spareAccount spareDay cured cureOf shareOf big unitsOf spare halfFrom halfMany halfDone halfTotal isFar) 0 0
  refine x_if_eq (tgt := 18) G dX3_step_11 rfl (fun c => ?_) (fun c => ?_)
  · replace h := h.1 c
    refine x_iload_n G rfl dX3_step_18 3 rfl ?_
    refine x_i2l G dX3_step_19 ?_
    refine x_lconst (v := (0 : Int64)) G dX3_step_20 (by decide) ?_
    refine x_ldc2 G q1884 dX3_step_21 ?_
    refine x_cPi (As := [.long p2.toInt64, .long (0 : Int64), .long (4 : Int64)]) (rest := []) G (tX3_in G.noTraces h) (lw_S q1650 q1651 q70 q1652) cdX3_in (by decide) (by decide) rfl (Nat.le_of_ble_eq_true rfl) (Nat.zero_le _) (Nat.zero_le _) dX3_step_24 (fun r_2 h => ?_)
    refine x_if_ne (tgt := 34) G dX3_step_27 rfl (fun c => ?_) (fun c => ?_)
    · replace h := h.1 c
      refine x_bipush (v := (60 : Int32)) G dX3_step_34 (by decide) ?_
      refine x_iload_n G rfl dX3_step_36 1 rfl ?_
      refine x_imul G dX3_step_37 ?_
      refine x_iload_n G rfl dX3_step_38 2 rfl ?_
      refine x_iadd G dX3_step_39 ?_
      refine x_topi (fun x_3 ex_3 => ?_)
      replace h := h x_3 ex_3
      refine x_istore (lv' := [(4, .int x_3), (0, .ref h0), (1, .int p0), (2, .int p1), (3, .int p2)]) G dX3_step_40 (by decide) rfl ?_
      refine x_iload_n G rfl dX3_step_42 4 rfl ?_
      refine x_iconst (v := (3 : Int32)) G dX3_step_43 (by decide) ?_
      refine x_icmp_ge (tgt := 93) G dX3_step_44 rfl (fun c => ?_) (fun c => ?_)
      · replace h := h.1 c
        refine x_aload_n G rfl dX3_step_93 1 rfl ?_
        refine x_iconst (v := (0 : Int32)) G dX3_step_94 (by decide) ?_
        refine x_iload_n G rfl dX3_step_95 2 rfl ?_
        refine x_iload_n G rfl dX3_step_96 3 rfl ?_
        refine x_cVv1 (As := [.int (0 : Int32), .int p0, .int p1]) (rest := []) G [] XSub.rf (tX3_lossOf G.noTraces h) (lw_V q1885 q1887 qs44 q70 q1888) cdX3_lossOf 3 0 rfl rfl rfl (by decide) (by decide) rfl (Nat.le_of_ble_eq_true rfl) (Nat.zero_le _) (Nat.zero_le _) dX3_step_97 (fun big_4 h => ?_)
        show X g 7 100 [(4, .int x_3), (0, .ref h0), (1, .int p0), (2, .int p1), (3, .int p2)] [] (mW h0 ad (xT g) (0 : Int32) many isWide amountOf accountOf dayOf given givenOf runs runWide runWay runTotal runSteps lefts rights results wide dn stepsAt keeps order att spareAmount spareAccount spareDay cured cureOf shareOf big_4 unitsOf spare halfFrom halfMany halfDone halfTotal isFar) 0 0
        refine x_aload_n G rfl dX3_step_100 1 rfl ?_
        refine x_iconst (v := (0 : Int32)) G dX3_step_101 (by decide) ?_
        refine x_iconst (v := (1 : Int32)) G dX3_step_102 (by decide) ?_
        refine x_cVd1 (As := [.int (0 : Int32), .int (1 : Int32)]) (rest := []) G [] XSub.rf (tX3_nearest G.noTraces h) (lw_V q1910 q1912 qs50 q70 q1913) cdX3_nearest 3 0 rfl rfl rfl (by decide) (by decide) rfl (Nat.le_of_ble_eq_true rfl) (Nat.zero_le _) (Nat.zero_le _) dX3_step_103 (fun r_5 big_6 h => ?_)
        show X g 7 106 [(4, .int x_3), (0, .ref h0), (1, .int p0), (2, .int p1), (3, .int p2)] [.double r_5] (mW h0 ad (xT g) (0 : Int32) many isWide amountOf accountOf dayOf given givenOf runs runWide runWay runTotal runSteps lefts rights results wide dn stepsAt keeps order att spareAmount spareAccount spareDay cured cureOf shareOf big_6 unitsOf spare halfFrom halfMany halfDone halfTotal isFar) 0 0
        refine x_dstore (lv' := [(5, .double r_5), (4, .int x_3), (0, .ref h0), (1, .int p0), (2, .int p1), (3, .int p2)]) G dX3_step_106 (by decide) rfl ?_
        refine x_aload_n G rfl dX3_step_108 2 rfl ?_
        refine x_iconst (v := (0 : Int32)) G dX3_step_109 (by decide) ?_
        refine x_dload G dX3_step_110 0 rfl ?_
        refine x_dneg G dX3_step_112 ?_
        refine x_cVv1 (As := [.int (0 : Int32), .double (FP.dneg r_5)]) (rest := []) G [] XSub.rf (tX3_addNumber G.noTraces h) (lw_V q1893 q1895 qs46 q70 q1896) cdX3_addNumber 3 0 rfl rfl rfl (by decide) (by decide) rfl (Nat.le_of_ble_eq_true rfl) (Nat.zero_le _) (Nat.zero_le _) dX3_step_113 (fun big_7 h => ?_)
        show X g 7 116 [(5, .double r_5), (4, .int x_3), (0, .ref h0), (1, .int p0), (2, .int p1), (3, .int p2)] [] (mW h0 ad (xT g) (0 : Int32) many isWide amountOf accountOf dayOf given givenOf runs runWide runWay runTotal runSteps lefts rights results wide dn stepsAt keeps order att spareAmount spareAccount spareDay cured cureOf shareOf big_7 unitsOf spare halfFrom halfMany halfDone halfTotal isFar) 0 0
        refine x_iload_n G rfl dX3_step_116 5 rfl ?_
        refine x_iconst (v := (3 : Int32)) G dX3_step_117 (by decide) ?_
        refine x_icmp_ne (tgt := 126) G dX3_step_118 rfl (fun c => ?_) (fun c => ?_)
        · replace h := h.1 c
          refine x_aload_n G rfl dX3_step_126 2 rfl ?_
          refine x_iconst (v := (0 : Int32)) G dX3_step_127 (by decide) ?_
          refine x_iconst (v := (1 : Int32)) G dX3_step_128 (by decide) ?_
          refine x_cVd1 (As := [.int (0 : Int32), .int (1 : Int32)]) (rest := []) G [] XSub.rf (tX3_nearest G.noTraces h) (lw_V q1910 q1912 qs50 q70 q1913) cdX3_nearest 3 0 rfl rfl rfl (by decide) (by decide) rfl (Nat.le_of_ble_eq_true rfl) (Nat.zero_le _) (Nat.zero_le _) dX3_step_129 (fun r_8 big_9 h => ?_)
          show X g 7 132 [(5, .double r_5), (4, .int x_3), (0, .ref h0), (1, .int p0), (2, .int p1), (3, .int p2)] [.double r_8] (mW h0 ad (xT g) (0 : Int32) many isWide amountOf accountOf dayOf given givenOf runs runWide runWay runTotal runSteps lefts rights results wide dn stepsAt keeps order att spareAmount spareAccount spareDay cured cureOf shareOf big_9 unitsOf spare halfFrom halfMany halfDone halfTotal isFar) 0 0
          refine x_cPl (As := [.double r_8]) (rest := []) G (tJ12_doubleToLongBits G.noTraces h) (lw_S q1691 q227 q84 q228) cdJ12_doubleToLongBits (by decide) (by decide) rfl (Nat.le_of_ble_eq_true rfl) (Nat.zero_le _) (Nat.zero_le _) dX3_step_132 (fun r_10 h => ?_)
          exact x_retl2 G Q dX3_step_135 (0 : Int32) big_9 h XSub.rf (Nat.le_refl _) (Nat.le_refl _)
        · replace h := h.2 c
          refine x_dload G dX3_step_121 0 rfl ?_
          refine x_goto (tgt := 132) G dX3_step_123 rfl ?_
          refine x_cPl (As := [.double r_5]) (rest := []) G (tJ12_doubleToLongBits G.noTraces h) (lw_S q1691 q227 q84 q228) cdJ12_doubleToLongBits (by decide) (by decide) rfl (Nat.le_of_ble_eq_true rfl) (Nat.zero_le _) (Nat.zero_le _) dX3_step_132 (fun r_11 h => ?_)
          exact x_retl2 G Q dX3_step_135 (0 : Int32) big_7 h XSub.rf (Nat.le_refl _) (Nat.le_refl _)
      · replace h := h.2 c
        refine x_aload_n G rfl dX3_step_47 1 rfl ?_
        refine m_get_9 G dX3_step_48 ?_
        refine x_iload_n G rfl dX3_step_51 2 rfl ?_
        obtain ⟨hz, h⟩ := h
        refine m_ald_9 G hz dX3_step_52 ?_
        refine x_iload_n G rfl dX3_step_53 4 rfl ?_
        refine x_if_ne (tgt := 67) G dX3_step_54 rfl (fun c => ?_) (fun c => ?_)
        · replace h := h.1 c
          refine x_iload_n G rfl dX3_step_67 4 rfl ?_
          refine x_iconst (v := (1 : Int32)) G dX3_step_68 (by decide) ?_
          refine x_icmp_ne (tgt := 82) G dX3_step_69 rfl (fun c => ?_) (fun c => ?_)
          · replace h := h.1 c
            refine x_aload_n G rfl dX3_step_82 1 rfl ?_
            refine m_get_15 G dX3_step_83 ?_
            refine x_iload G dX3_step_86 0 rfl ?_
            obtain ⟨hz, h⟩ := h
            refine m_ald_15 G hz dX3_step_88 ?_
            refine x_cPl (As := [.int (runWide p0.toNatClampNeg), .double (results x_3.toNatClampNeg)]) (rest := []) G (tX3_bitsOf G.noTraces h) (lw_S q1688 q1689 q70 q1690) cdX3_bitsOf (by decide) (by decide) rfl (Nat.le_of_ble_eq_true rfl) (Nat.zero_le _) (Nat.zero_le _) dX3_step_89 (fun r_12 h => ?_)
            exact x_retl2 G Q dX3_step_92 (0 : Int32) big h XSub.rf (Nat.le_refl _) (Nat.le_refl _)
          · replace h := h.2 c
            refine x_aload_n G rfl dX3_step_72 1 rfl ?_
            refine m_get_14 G dX3_step_73 ?_
            refine x_iload G dX3_step_76 0 rfl ?_
            obtain ⟨hz, h⟩ := h
            refine m_ald_14 G hz dX3_step_78 ?_
            refine x_goto (tgt := 89) G dX3_step_79 rfl ?_
            refine x_cPl (As := [.int (runWide p0.toNatClampNeg), .double (rights x_3.toNatClampNeg)]) (rest := []) G (tX3_bitsOf G.noTraces h) (lw_S q1688 q1689 q70 q1690) cdX3_bitsOf (by decide) (by decide) rfl (Nat.le_of_ble_eq_true rfl) (Nat.zero_le _) (Nat.zero_le _) dX3_step_89 (fun r_13 h => ?_)
            exact x_retl2 G Q dX3_step_92 (0 : Int32) big h XSub.rf (Nat.le_refl _) (Nat.le_refl _)
        · replace h := h.2 c
          refine x_aload_n G rfl dX3_step_57 1 rfl ?_
          refine m_get_13 G dX3_step_58 ?_
          refine x_iload G dX3_step_61 0 rfl ?_
          obtain ⟨hz, h⟩ := h
          refine m_ald_13 G hz dX3_step_63 ?_
          refine x_goto (tgt := 89) G dX3_step_64 rfl ?_
          refine x_cPl (As := [.int (runWide p0.toNatClampNeg), .double (lefts x_3.toNatClampNeg)]) (rest := []) G (tX3_bitsOf G.noTraces h) (lw_S q1688 q1689 q70 q1690) cdX3_bitsOf (by decide) (by decide) rfl (Nat.le_of_ble_eq_true rfl) (Nat.zero_le _) (Nat.zero_le _) dX3_step_89 (fun r_14 h => ?_)
          exact x_retl2 G Q dX3_step_92 (0 : Int32) big h XSub.rf (Nat.le_refl _) (Nat.le_refl _)
    · replace h := h.2 c
      refine x_ldc2 G q1745 dX3_step_30 ?_
      exact x_retl2 G Q dX3_step_33 (0 : Int32) big h XSub.rf (Nat.le_refl _) (Nat.le_refl _)
  · replace h := h.2 c
    refine x_ldc2 G q1871 dX3_step_14 ?_
    exact x_retl2 G Q dX3_step_17 (0 : Int32) big h XSub.rf (Nat.le_refl _) (Nat.le_refl _)
theorem cdX3_story : yX3_story.cls = RX3 ∧ yX3_story.cls ≠ "java/lang/invoke/MethodHandle" ∧ yX3_story.cls ≠ "java/lang/invoke/VarHandle" ∧ (parseMethodDescriptor yX3_story.desc).map (fun d => d.parameters.length) = some 2 := by decide +kernel
def wX3_story_J155 (lefts : Nat → UInt64) (rights : Nat → UInt64) (results : Nat → UInt64) (big : Nat → Int32) (p0 : Int32) (p1 : Int32) (thrown_8 : Int32) (K : Int32 → Int32 → (Nat → Int32) → Prop) : Prop := (wX3_lossOf (0 : Int32) p0 p1 lefts rights results big (fun (big_14 : Nat → Int32) => (wX3_signOf (0 : Int32) big_14 (fun (r_15 : Int32) => ((¬ r_15 = (0 : Int32) → (((0 : Int32) ≤ r_15 → K (4 : Int32) thrown_8 big_14) ∧ (¬ (0 : Int32) ≤ r_15 → K (3 : Int32) thrown_8 big_14))) ∧ (r_15 = (0 : Int32) → K (2 : Int32) thrown_8 big_14))))))
def wX3_story_J110 (lefts : Nat → UInt64) (rights : Nat → UInt64) (results : Nat → UInt64) (big : Nat → Int32) (p0 : Int32) (p1 : Int32) (v3_5 : UInt64) (v5_6 : UInt64) (v7_7 : UInt64) (thrown_8 : Int32) (K : Int32 → Int32 → (Nat → Int32) → Prop) : UInt64 → Prop := fun (s_12 : UInt64) => (wX3_sizeOf v7_7 (fun (r_13 : UInt64) => (vf_n64 (FP.dmul (4611686018427387904 : UInt64) r_13) ∧ ((¬ dle (FP.dmul (4611686018427387904 : UInt64) r_13) s_12 → (wX3_story_J155 lefts rights results big p0 p1 thrown_8 K )) ∧ (dle (FP.dmul (4611686018427387904 : UInt64) r_13) s_12 → ((¬ dlt v3_5 FP.dconst0 → ((¬ dgt v3_5 FP.dconst0 → (wX3_story_J155 lefts rights results big p0 p1 thrown_8 K )) ∧ (dgt v3_5 FP.dconst0 → ((¬ dlt v5_6 FP.dconst0 → (wX3_story_J155 lefts rights results big p0 p1 thrown_8 K )) ∧ (dlt v5_6 FP.dconst0 → K (1 : Int32) thrown_8 big))))) ∧ (dlt v3_5 FP.dconst0 → ((dgt v5_6 FP.dconst0 → K (1 : Int32) thrown_8 big) ∧ (¬ dgt v5_6 FP.dconst0 → ((¬ dgt v3_5 FP.dconst0 → (wX3_story_J155 lefts rights results big p0 p1 thrown_8 K )) ∧ (dgt v3_5 FP.dconst0 → ((¬ dlt v5_6 FP.dconst0 → (wX3_story_J155 lefts rights results big p0 p1 thrown_8 K )) ∧ (dlt v5_6 FP.dconst0 → K (1 : Int32) thrown_8 big)))))))))))))
def wX3_story_J69 (lefts : Nat → UInt64) (rights : Nat → UInt64) (results : Nat → UInt64) (big : Nat → Int32) (p0 : Int32) (p1 : Int32) (K : Int32 → Int32 → (Nat → Int32) → Prop) : UInt64 → UInt64 → UInt64 → Int32 → Prop := fun (v3_5 : UInt64) (v5_6 : UInt64) (v7_7 : UInt64) (thrown_8 : Int32) => ((¬ deq v7_7 v5_6 → (wX3_sizeOf v3_5 (fun (r_9 : UInt64) => (wX3_sizeOf v5_6 (fun (r_10 : UInt64) => ((¬ dgt r_9 r_10 → (wX3_sizeOf v5_6 (fun (r_11 : UInt64) => (wX3_story_J110 lefts rights results big p0 p1 v3_5 v5_6 v7_7 thrown_8 K r_11)))) ∧ (dgt r_9 r_10 → (wX3_sizeOf v3_5 (fun (r_16 : UInt64) => (wX3_story_J110 lefts rights results big p0 p1 v3_5 v5_6 v7_7 thrown_8 K r_16)))))))))) ∧ (deq v7_7 v5_6 → ((deq v3_5 FP.dconst0 → (wX3_sizeOf v3_5 (fun (r_17 : UInt64) => (wX3_sizeOf v5_6 (fun (r_18 : UInt64) => ((¬ dgt r_17 r_18 → (wX3_sizeOf v5_6 (fun (r_19 : UInt64) => (wX3_story_J110 lefts rights results big p0 p1 v3_5 v5_6 v7_7 thrown_8 K r_19)))) ∧ (dgt r_17 r_18 → (wX3_sizeOf v3_5 (fun (r_20 : UInt64) => (wX3_story_J110 lefts rights results big p0 p1 v3_5 v5_6 v7_7 thrown_8 K r_20)))))))))) ∧ (¬ deq v3_5 FP.dconst0 → K (0 : Int32) thrown_8 big))))
def wX3_story (p0 : Int32) (p1 : Int32) (thrown : Int32) (runs : Int32) (runSteps : Nat → Int32) (lefts : Nat → UInt64) (rights : Nat → UInt64) (results : Nat → UInt64) (big : Nat → Int32) (K : Int32 → Int32 → (Nat → Int32) → Prop) : Prop := (wX3_noStep p0 p1 runs runSteps (fun (r_1 : Int32) => ((r_1 = (0 : Int32) → (vp_in (((60 : Int32) * p0) + p1) 3600 ∧ (∀ r_2 : UInt64, r_2 = (lefts (((60 : Int32) * p0) + p1).toNatClampNeg) → (vp_in (((60 : Int32) * p0) + p1) 3600 ∧ (∀ r_3 : UInt64, r_3 = (rights (((60 : Int32) * p0) + p1).toNatClampNeg) → (vp_in (((60 : Int32) * p0) + p1) 3600 ∧ (∀ r_4 : UInt64, r_4 = (results (((60 : Int32) * p0) + p1).toNatClampNeg) → ((¬ deq r_4 r_2 → (wX3_story_J69 lefts rights results big p0 p1 K r_2 r_3 r_4 (0 : Int32))) ∧ (deq r_4 r_2 → ((¬ deq r_3 FP.dconst0 → K (0 : Int32) (0 : Int32) big) ∧ (deq r_3 FP.dconst0 → (wX3_story_J69 lefts rights results big p0 p1 K r_2 r_3 r_4 (0 : Int32))))))))))))) ∧ (¬ r_1 = (0 : Int32) → K (-101 : Int32) (0 : Int32) big))))
set_option maxRecDepth 20000 in
theorem kX3_story_J155 {g : XG} {h0 : Nat} {ad : Nat → Nat} {many : Nat → Int32} {isWide : Nat → Int32} {amountOf : Nat → UInt64} {accountOf : Nat → Int32} {dayOf : Nat → Int32} {given : Nat → Int32} {givenOf : Nat → Int32} {runs : Int32} {runWide : Nat → Int32} {runWay : Nat → Int32} {runTotal : Nat → UInt64} {runSteps : Nat → Int32} {lefts : Nat → UInt64} {rights : Nat → UInt64} {results : Nat → UInt64} {wide : Int32} {dn : Int32} {stepsAt : Int32} {keeps : Int32} {order : Nat → Int32} {att : Nat → UInt64} {spareAmount : Nat → UInt64} {spareAccount : Nat → Int32} {spareDay : Nat → Int32} {cured : Int32} {cureOf : Nat → Int32} {shareOf : Nat → Int32} {big : Nat → Int32} {unitsOf : Int64} {spare : Int32} {halfFrom : Nat → Int32} {halfMany : Nat → Int32} {halfDone : Nat → Int32} {halfTotal : Nat → UInt64} {isFar : Int32} {p0 : Int32} {p1 : Int32} {thrown_8 : Int32} {K : Int32 → Int32 → (Nat → Int32) → Prop} (G : XO g RX3 cX3_story 12 6 0 0) (Q : XQi2 g FieldType.int 0 0 (fun (thrown' : Int32) (big' : Nat → Int32) => mW h0 ad (xT g) thrown' many isWide amountOf accountOf dayOf given givenOf runs runWide runWay runTotal runSteps lefts rights results wide dn stepsAt keeps order att spareAmount spareAccount spareDay cured cureOf shareOf big' unitsOf spare halfFrom halfMany halfDone halfTotal isFar) K) : wX3_story_J155 lefts rights results big p0 p1 thrown_8 K  → X g 12 155 [(0, .ref h0), (1, .int p0), (2, .int p1)] [] (mW h0 ad (xT g) thrown_8 many isWide amountOf accountOf dayOf given givenOf runs runWide runWay runTotal runSteps lefts rights results wide dn stepsAt keeps order att spareAmount spareAccount spareDay cured cureOf shareOf big unitsOf spare halfFrom halfMany halfDone halfTotal isFar) 0 0 := by
  intro  h
  unfold wX3_story_J155 at h
  refine x_aload_n G rfl dX3_story_155 0 rfl ?_
  refine x_iconst (v := (0 : Int32)) G dX3_story_156 (by decide) ?_
  refine x_iload_n G rfl dX3_story_157 1 rfl ?_
  refine x_iload_n G rfl dX3_story_158 2 rfl ?_
  refine x_cVv1 (As := [.int (0 : Int32), .int p0, .int p1]) (rest := []) G [] XSub.rf (tX3_lossOf G.noTraces h) (lw_V q1885 q1887 qs44 q70 q1888) cdX3_lossOf 3 0 rfl rfl rfl (by decide) (by decide) rfl (Nat.le_of_ble_eq_true rfl) (Nat.zero_le _) (Nat.zero_le _) dX3_story_159 (fun big_14 h => ?_)
  show X g 12 162 [(0, .ref h0), (1, .int p0), (2, .int p1)] [] (mW h0 ad (xT g) thrown_8 many isWide amountOf accountOf dayOf given givenOf runs runWide runWay runTotal runSteps lefts rights results wide dn stepsAt keeps order att spareAmount spareAccount spareDay cured cureOf shareOf big_14 unitsOf spare halfFrom halfMany halfDone halfTotal isFar) 0 0
  refine x_aload_n G rfl dX3_story_162 0 rfl ?_
  refine x_iconst (v := (0 : Int32)) G dX3_story_163 (by decide) ?_
  refine x_cVi0 (As := [.int (0 : Int32)]) (rest := []) G [] XSub.rf (tX3_signOf G.noTraces h) (lw_V q1914 q1916 qs51 q70 q1917) cdX3_signOf 3 0 rfl rfl rfl (by decide) (by decide) rfl (Nat.le_of_ble_eq_true rfl) (Nat.zero_le _) (Nat.zero_le _) dX3_story_164 (fun r_15 h => ?_)
  show X g 12 167 [(0, .ref h0), (1, .int p0), (2, .int p1)] [.int r_15] (mW h0 ad (xT g) thrown_8 many isWide amountOf accountOf dayOf given givenOf runs runWide runWay runTotal runSteps lefts rights results wide dn stepsAt keeps order att spareAmount spareAccount spareDay cured cureOf shareOf big_14 unitsOf spare halfFrom halfMany halfDone halfTotal isFar) 0 0
  refine x_istore (lv' := [(11, .int r_15), (0, .ref h0), (1, .int p0), (2, .int p1)]) G dX3_story_167 (by decide) rfl ?_
  refine x_iload G dX3_story_169 0 rfl ?_
  refine x_if_ne (tgt := 178) G dX3_story_171 rfl (fun c => ?_) (fun c => ?_)
  · replace h := h.1 c
    refine x_iload G dX3_story_178 0 rfl ?_
    refine x_if_ge (tgt := 187) G dX3_story_180 rfl (fun c => ?_) (fun c => ?_)
    · replace h := h.1 c
      refine x_iconst (v := (4 : Int32)) G dX3_story_187 (by decide) ?_
      exact x_reti2 G Q dX3_story_188 rfl thrown_8 big_14 h XSub.rf (Nat.le_refl _) (Nat.le_refl _)
    · replace h := h.2 c
      refine x_iconst (v := (3 : Int32)) G dX3_story_183 (by decide) ?_
      refine x_goto (tgt := 188) G dX3_story_184 rfl ?_
      exact x_reti2 G Q dX3_story_188 rfl thrown_8 big_14 h XSub.rf (Nat.le_refl _) (Nat.le_refl _)
  · replace h := h.2 c
    refine x_iconst (v := (2 : Int32)) G dX3_story_174 (by decide) ?_
    refine x_goto (tgt := 188) G dX3_story_175 rfl ?_
    exact x_reti2 G Q dX3_story_188 rfl thrown_8 big_14 h XSub.rf (Nat.le_refl _) (Nat.le_refl _)
set_option maxRecDepth 20000 in
theorem kX3_story_J110 {g : XG} {h0 : Nat} {ad : Nat → Nat} {many : Nat → Int32} {isWide : Nat → Int32} {amountOf : Nat → UInt64} {accountOf : Nat → Int32} {dayOf : Nat → Int32} {given : Nat → Int32} {givenOf : Nat → Int32} {runs : Int32} {runWide : Nat → Int32} {runWay : Nat → Int32} {runTotal : Nat → UInt64} {runSteps : Nat → Int32} {lefts : Nat → UInt64} {rights : Nat → UInt64} {results : Nat → UInt64} {wide : Int32} {dn : Int32} {stepsAt : Int32} {keeps : Int32} {order : Nat → Int32} {att : Nat → UInt64} {spareAmount : Nat → UInt64} {spareAccount : Nat → Int32} {spareDay : Nat → Int32} {cured : Int32} {cureOf : Nat → Int32} {shareOf : Nat → Int32} {big : Nat → Int32} {unitsOf : Int64} {spare : Int32} {halfFrom : Nat → Int32} {halfMany : Nat → Int32} {halfDone : Nat → Int32} {halfTotal : Nat → UInt64} {isFar : Int32} {p0 : Int32} {p1 : Int32} {v3_5 : UInt64} {v5_6 : UInt64} {v7_7 : UInt64} {thrown_8 : Int32} {K : Int32 → Int32 → (Nat → Int32) → Prop} (G : XO g RX3 cX3_story 12 6 0 0) (Q : XQi2 g FieldType.int 0 0 (fun (thrown' : Int32) (big' : Nat → Int32) => mW h0 ad (xT g) thrown' many isWide amountOf accountOf dayOf given givenOf runs runWide runWay runTotal runSteps lefts rights results wide dn stepsAt keeps order att spareAmount spareAccount spareDay cured cureOf shareOf big' unitsOf spare halfFrom halfMany halfDone halfTotal isFar) K) : ∀ (s_12 : UInt64), wX3_story_J110 lefts rights results big p0 p1 v3_5 v5_6 v7_7 thrown_8 K s_12 → X g 12 110 [(0, .ref h0), (1, .int p0), (2, .int p1), (3, .double v3_5), (5, .double v5_6), (7, .double v7_7)] [.double s_12] (mW h0 ad (xT g) thrown_8 many isWide amountOf accountOf dayOf given givenOf runs runWide runWay runTotal runSteps lefts rights results wide dn stepsAt keeps order att spareAmount spareAccount spareDay cured cureOf shareOf big unitsOf spare halfFrom halfMany halfDone halfTotal isFar) 0 0 := by
  intro s_12 h
  unfold wX3_story_J110 at h
  refine x_dstore (lv' := [(9, .double s_12), (0, .ref h0), (1, .int p0), (2, .int p1), (3, .double v3_5), (5, .double v5_6), (7, .double v7_7)]) G dX3_story_110 (by decide) rfl ?_
  refine x_ldc2d G q1934 dX3_story_112 ?_
  refine x_dload G dX3_story_115 6 rfl ?_
  refine x_cPd (As := [.double v7_7]) (rest := [.double (4611686018427387904 : UInt64)]) G (tX3_sizeOf G.noTraces h) (lw_S q1714 q1715 q70 q1716) cdX3_sizeOf (by decide) (by decide) rfl (Nat.le_of_ble_eq_true rfl) (Nat.zero_le _) (Nat.zero_le _) dX3_story_117 (fun r_13 h => ?_)
  obtain ⟨hz, h⟩ := h
  refine x_dmul G dX3_story_120 hz ?_
  refine x_dload G dX3_story_121 0 rfl ?_
  refine x_dcmpg_gt (tgt := 155) G dX3_story_123 dX3_story_124 rfl (fun c => ?_) (fun c => ?_)
  · replace h := h.1 c
    refine x_lv (lv' := [(0, .ref h0), (1, .int p0), (2, .int p1)]) [1, 2, 3] rfl ?_
    refine kX3_story_J155 G Q   h
  · replace h := h.2 c
    refine x_dload_n G rfl dX3_story_127 4 rfl ?_
    refine x_dconst0 G dX3_story_128 ?_
    refine x_dcmpg_ge (tgt := 140) G dX3_story_129 dX3_story_130 rfl (fun c => ?_) (fun c => ?_)
    · replace h := h.1 c
      refine x_dload_n G rfl dX3_story_140 4 rfl ?_
      refine x_dconst0 G dX3_story_141 ?_
      refine x_dcmpl_le (tgt := 155) G dX3_story_142 dX3_story_143 rfl (fun c => ?_) (fun c => ?_)
      · replace h := h.1 c
        refine x_lv (lv' := [(0, .ref h0), (1, .int p0), (2, .int p1)]) [1, 2, 3] rfl ?_
        refine kX3_story_J155 G Q   h
      · replace h := h.2 c
        refine x_dload G dX3_story_146 5 rfl ?_
        refine x_dconst0 G dX3_story_148 ?_
        refine x_dcmpg_ge (tgt := 155) G dX3_story_149 dX3_story_150 rfl (fun c => ?_) (fun c => ?_)
        · replace h := h.1 c
          refine x_lv (lv' := [(0, .ref h0), (1, .int p0), (2, .int p1)]) [1, 2, 3] rfl ?_
          refine kX3_story_J155 G Q   h
        · replace h := h.2 c
          refine x_iconst (v := (1 : Int32)) G dX3_story_153 (by decide) ?_
          exact x_reti2 G Q dX3_story_154 rfl thrown_8 big h XSub.rf (Nat.le_refl _) (Nat.le_refl _)
    · replace h := h.2 c
      refine x_dload G dX3_story_133 5 rfl ?_
      refine x_dconst0 G dX3_story_135 ?_
      refine x_dcmpl_gt (tgt := 153) G dX3_story_136 dX3_story_137 rfl (fun c => ?_) (fun c => ?_)
      · replace h := h.1 c
        refine x_iconst (v := (1 : Int32)) G dX3_story_153 (by decide) ?_
        exact x_reti2 G Q dX3_story_154 rfl thrown_8 big h XSub.rf (Nat.le_refl _) (Nat.le_refl _)
      · replace h := h.2 c
        refine x_dload_n G rfl dX3_story_140 4 rfl ?_
        refine x_dconst0 G dX3_story_141 ?_
        refine x_dcmpl_le (tgt := 155) G dX3_story_142 dX3_story_143 rfl (fun c => ?_) (fun c => ?_)
        · replace h := h.1 c
          refine x_lv (lv' := [(0, .ref h0), (1, .int p0), (2, .int p1)]) [1, 2, 3] rfl ?_
          refine kX3_story_J155 G Q   h
        · replace h := h.2 c
          refine x_dload G dX3_story_146 5 rfl ?_
          refine x_dconst0 G dX3_story_148 ?_
          refine x_dcmpg_ge (tgt := 155) G dX3_story_149 dX3_story_150 rfl (fun c => ?_) (fun c => ?_)
          · replace h := h.1 c
            refine x_lv (lv' := [(0, .ref h0), (1, .int p0), (2, .int p1)]) [1, 2, 3] rfl ?_
            refine kX3_story_J155 G Q   h
          · replace h := h.2 c
            refine x_iconst (v := (1 : Int32)) G dX3_story_153 (by decide) ?_
            exact x_reti2 G Q dX3_story_154 rfl thrown_8 big h XSub.rf (Nat.le_refl _) (Nat.le_refl _)
set_option maxRecDepth 20000 in
theorem kX3_story_J69 {g : XG} {h0 : Nat} {ad : Nat → Nat} {many : Nat → Int32} {isWide : Nat → Int32} {amountOf : Nat → UInt64} {accountOf : Nat → Int32} {dayOf : Nat → Int32} {given : Nat → Int32} {givenOf : Nat → Int32} {runs : Int32} {runWide : Nat → Int32} {runWay : Nat → Int32} {runTotal : Nat → UInt64} {runSteps : Nat → Int32} {lefts : Nat → UInt64} {rights : Nat → UInt64} {results : Nat → UInt64} {wide : Int32} {dn : Int32} {stepsAt : Int32} {keeps : Int32} {order : Nat → Int32} {att : Nat → UInt64} {spareAmount : Nat → UInt64} {spareAccount : Nat → Int32} {spareDay : Nat → Int32} {cured : Int32} {cureOf : Nat → Int32} {shareOf : Nat → Int32} {big : Nat → Int32} {unitsOf : Int64} {spare : Int32} {halfFrom : Nat → Int32} {halfMany : Nat → Int32} {halfDone : Nat → Int32} {halfTotal : Nat → UInt64} {isFar : Int32} {p0 : Int32} {p1 : Int32} {K : Int32 → Int32 → (Nat → Int32) → Prop} (G : XO g RX3 cX3_story 12 6 0 0) (Q : XQi2 g FieldType.int 0 0 (fun (thrown' : Int32) (big' : Nat → Int32) => mW h0 ad (xT g) thrown' many isWide amountOf accountOf dayOf given givenOf runs runWide runWay runTotal runSteps lefts rights results wide dn stepsAt keeps order att spareAmount spareAccount spareDay cured cureOf shareOf big' unitsOf spare halfFrom halfMany halfDone halfTotal isFar) K) : ∀ (v3_5 : UInt64) (v5_6 : UInt64) (v7_7 : UInt64) (thrown_8 : Int32), wX3_story_J69 lefts rights results big p0 p1 K v3_5 v5_6 v7_7 thrown_8 → X g 12 69 [(0, .ref h0), (1, .int p0), (2, .int p1), (3, .double v3_5), (5, .double v5_6), (7, .double v7_7)] [] (mW h0 ad (xT g) thrown_8 many isWide amountOf accountOf dayOf given givenOf runs runWide runWay runTotal runSteps lefts rights results wide dn stepsAt keeps order att spareAmount spareAccount spareDay cured cureOf shareOf big unitsOf spare halfFrom halfMany halfDone halfTotal isFar) 0 0 := by
  intro v3_5 v5_6 v7_7 thrown_8 h
  unfold wX3_story_J69 at h
  refine x_dload G dX3_story_69 5 rfl ?_
  refine x_dload G dX3_story_71 4 rfl ?_
  refine x_dcmpl_ne (tgt := 85) G dX3_story_73 dX3_story_74 rfl (fun c => ?_) (fun c => ?_)
  · replace h := h.1 c
    refine x_dload_n G rfl dX3_story_85 3 rfl ?_
    refine x_cPd (As := [.double v3_5]) (rest := []) G (tX3_sizeOf G.noTraces h) (lw_S q1714 q1715 q70 q1716) cdX3_sizeOf (by decide) (by decide) rfl (Nat.le_of_ble_eq_true rfl) (Nat.zero_le _) (Nat.zero_le _) dX3_story_86 (fun r_9 h => ?_)
    refine x_dload G dX3_story_89 4 rfl ?_
    refine x_cPd (As := [.double v5_6]) (rest := [.double r_9]) G (tX3_sizeOf G.noTraces h) (lw_S q1714 q1715 q70 q1716) cdX3_sizeOf (by decide) (by decide) rfl (Nat.le_of_ble_eq_true rfl) (Nat.zero_le _) (Nat.zero_le _) dX3_story_91 (fun r_10 h => ?_)
    refine x_dcmpl_le (tgt := 105) G dX3_story_94 dX3_story_95 rfl (fun c => ?_) (fun c => ?_)
    · replace h := h.1 c
      refine x_dload G dX3_story_105 4 rfl ?_
      refine x_cPd (As := [.double v5_6]) (rest := []) G (tX3_sizeOf G.noTraces h) (lw_S q1714 q1715 q70 q1716) cdX3_sizeOf (by decide) (by decide) rfl (Nat.le_of_ble_eq_true rfl) (Nat.zero_le _) (Nat.zero_le _) dX3_story_107 (fun r_11 h => ?_)
      refine kX3_story_J110 G Q  _ h
    · replace h := h.2 c
      refine x_dload_n G rfl dX3_story_98 3 rfl ?_
      refine x_cPd (As := [.double v3_5]) (rest := []) G (tX3_sizeOf G.noTraces h) (lw_S q1714 q1715 q70 q1716) cdX3_sizeOf (by decide) (by decide) rfl (Nat.le_of_ble_eq_true rfl) (Nat.zero_le _) (Nat.zero_le _) dX3_story_99 (fun r_16 h => ?_)
      refine x_goto (tgt := 110) G dX3_story_102 rfl ?_
      refine kX3_story_J110 G Q  _ h
  · replace h := h.2 c
    refine x_dload_n G rfl dX3_story_77 3 rfl ?_
    refine x_dconst0 G dX3_story_78 ?_
    refine x_dcmpl_eq (tgt := 85) G dX3_story_79 dX3_story_80 rfl (fun c => ?_) (fun c => ?_)
    · replace h := h.1 c
      refine x_dload_n G rfl dX3_story_85 3 rfl ?_
      refine x_cPd (As := [.double v3_5]) (rest := []) G (tX3_sizeOf G.noTraces h) (lw_S q1714 q1715 q70 q1716) cdX3_sizeOf (by decide) (by decide) rfl (Nat.le_of_ble_eq_true rfl) (Nat.zero_le _) (Nat.zero_le _) dX3_story_86 (fun r_17 h => ?_)
      refine x_dload G dX3_story_89 4 rfl ?_
      refine x_cPd (As := [.double v5_6]) (rest := [.double r_17]) G (tX3_sizeOf G.noTraces h) (lw_S q1714 q1715 q70 q1716) cdX3_sizeOf (by decide) (by decide) rfl (Nat.le_of_ble_eq_true rfl) (Nat.zero_le _) (Nat.zero_le _) dX3_story_91 (fun r_18 h => ?_)
      refine x_dcmpl_le (tgt := 105) G dX3_story_94 dX3_story_95 rfl (fun c => ?_) (fun c => ?_)
      · replace h := h.1 c
        refine x_dload G dX3_story_105 4 rfl ?_
        refine x_cPd (As := [.double v5_6]) (rest := []) G (tX3_sizeOf G.noTraces h) (lw_S q1714 q1715 q70 q1716) cdX3_sizeOf (by decide) (by decide) rfl (Nat.le_of_ble_eq_true rfl) (Nat.zero_le _) (Nat.zero_le _) dX3_story_107 (fun r_19 h => ?_)
        refine kX3_story_J110 G Q  _ h
      · replace h := h.2 c
        refine x_dload_n G rfl dX3_story_98 3 rfl ?_
        refine x_cPd (As := [.double v3_5]) (rest := []) G (tX3_sizeOf G.noTraces h) (lw_S q1714 q1715 q70 q1716) cdX3_sizeOf (by decide) (by decide) rfl (Nat.le_of_ble_eq_true rfl) (Nat.zero_le _) (Nat.zero_le _) dX3_story_99 (fun r_20 h => ?_)
        refine x_goto (tgt := 110) G dX3_story_102 rfl ?_
        refine kX3_story_J110 G Q  _ h
    · replace h := h.2 c
      refine x_iconst (v := (0 : Int32)) G dX3_story_83 (by decide) ?_
      exact x_reti2 G Q dX3_story_84 rfl thrown_8 big h XSub.rf (Nat.le_refl _) (Nat.le_refl _)
set_option maxRecDepth 20000 in
theorem tX3_story {l : Launch} {D : va_G} {ta : Nat → ClassId} {h0 : Nat} {ad : Nat → Nat} {thrown : Int32} {many : Nat → Int32} {isWide : Nat → Int32} {amountOf : Nat → UInt64} {accountOf : Nat → Int32} {dayOf : Nat → Int32} {given : Nat → Int32} {givenOf : Nat → Int32} {runs : Int32} {runWide : Nat → Int32} {runWay : Nat → Int32} {runTotal : Nat → UInt64} {runSteps : Nat → Int32} {lefts : Nat → UInt64} {rights : Nat → UInt64} {results : Nat → UInt64} {wide : Int32} {dn : Int32} {stepsAt : Int32} {keeps : Int32} {order : Nat → Int32} {att : Nat → UInt64} {spareAmount : Nat → UInt64} {spareAccount : Nat → Int32} {spareDay : Nat → Int32} {cured : Int32} {cureOf : Nat → Int32} {shareOf : Nat → Int32} {big : Nat → Int32} {unitsOf : Int64} {spare : Int32} {halfFrom : Nat → Int32} {halfMany : Nat → Int32} {halfDone : Nat → Int32} {halfTotal : Nat → UInt64} {isFar : Int32} {p0 : Int32} {p1 : Int32} {K : Int32 → Int32 → (Nat → Int32) → Prop} (hlt : l.stackTraces = false) (h : wX3_story p0 p1 thrown runs runSteps lefts rights results big K) : SMi2 l D ta yX3_story cX3_story 12 FieldType.int 6 [.ref h0, .int p0, .int p1] (mW h0 ad ta thrown many isWide amountOf accountOf dayOf given givenOf runs runWide runWay runTotal runSteps lefts rights results wide dn stepsAt keeps order att spareAmount spareAccount spareDay cured cureOf shareOf big unitsOf spare halfFrom halfMany halfDone halfTotal isFar) (fun (thrown' : Int32) (big' : Nat → Int32) => mW h0 ad ta thrown' many isWide amountOf accountOf dayOf given givenOf runs runWide runWay runTotal runSteps lefts rights results wide dn stepsAt keeps order att spareAmount spareAccount spareDay cured cureOf shareOf big' unitsOf spare halfFrom halfMany halfDone halfTotal isFar) 0 0 K := by
  refine x_sti2 hlt (plainFor_of_name (by decide +kernel)) (Nat.le_of_ble_eq_true rfl) (fun g G hl hD hT Q => ?_)
  subst hl; subst hD; subst hT
  unfold wX3_story at h
  show X g 12 0 [(0, .ref h0), (1, .int p0), (2, .int p1)] [] (mW h0 ad (xT g) thrown many isWide amountOf accountOf dayOf given givenOf runs runWide runWay runTotal runSteps lefts rights results wide dn stepsAt keeps order att spareAmount spareAccount spareDay cured cureOf shareOf big unitsOf spare halfFrom halfMany halfDone halfTotal isFar) 0 0
  refine x_aload_n G rfl dX3_story_0 0 rfl ?_
  refine x_iconst (v := (0 : Int32)) G dX3_story_1 (by decide) ?_
  refine m_put_0 G dX3_story_2 ?_
  refine x_aload_n G rfl dX3_story_5 0 rfl ?_
  refine x_iload_n G rfl dX3_story_6 1 rfl ?_
  refine x_iload_n G rfl dX3_story_7 2 rfl ?_
  refine x_cVi0 (As := [.int p0, .int p1]) (rest := []) G [] XSub.rf (tX3_noStep G.noTraces h) (lw_V q1880 q1882 qs43 q70 q1883) cdX3_noStep 3 0 rfl rfl rfl (by decide) (by decide) rfl (Nat.le_of_ble_eq_true rfl) (Nat.zero_le _) (Nat.zero_le _) dX3_story_8 (fun r_1 h => ?_)
  show X g 12 11 [(0, .ref h0), (1, .int p0), (2, .int p1)] [.int r_1] (mW h0 ad (xT g) (0 : Int32) many isWide amountOf accountOf dayOf given givenOf runs runWide runWay runTotal runSteps lefts rights results wide dn stepsAt keeps order att spareAmount spareAccount spareDay cured cureOf shareOf big unitsOf spare halfFrom halfMany halfDone halfTotal isFar) 0 0
  refine x_if_eq (tgt := 17) G dX3_story_11 rfl (fun c => ?_) (fun c => ?_)
  · replace h := h.1 c
    refine x_aload_n G rfl dX3_story_17 0 rfl ?_
    refine m_get_13 G dX3_story_18 ?_
    refine x_bipush (v := (60 : Int32)) G dX3_story_21 (by decide) ?_
    refine x_iload_n G rfl dX3_story_23 1 rfl ?_
    refine x_imul G dX3_story_24 ?_
    refine x_iload_n G rfl dX3_story_25 2 rfl ?_
    refine x_iadd G dX3_story_26 ?_
    obtain ⟨hz, h⟩ := h
    refine m_ald_13 G hz dX3_story_27 ?_
    refine x_topd (fun r_2 er_2 => ?_)
    replace h := h r_2 er_2
    refine x_dstore_n (lv' := [(3, .double r_2), (0, .ref h0), (1, .int p0), (2, .int p1)]) G rfl dX3_story_28 (by decide) rfl ?_
    refine x_aload_n G rfl dX3_story_29 1 rfl ?_
    refine m_get_14 G dX3_story_30 ?_
    refine x_bipush (v := (60 : Int32)) G dX3_story_33 (by decide) ?_
    refine x_iload_n G rfl dX3_story_35 2 rfl ?_
    refine x_imul G dX3_story_36 ?_
    refine x_iload_n G rfl dX3_story_37 3 rfl ?_
    refine x_iadd G dX3_story_38 ?_
    obtain ⟨hz, h⟩ := h
    refine m_ald_14 G hz dX3_story_39 ?_
    refine x_topd (fun r_3 er_3 => ?_)
    replace h := h r_3 er_3
    refine x_dstore (lv' := [(5, .double r_3), (3, .double r_2), (0, .ref h0), (1, .int p0), (2, .int p1)]) G dX3_story_40 (by decide) rfl ?_
    refine x_aload_n G rfl dX3_story_42 2 rfl ?_
    refine m_get_15 G dX3_story_43 ?_
    refine x_bipush (v := (60 : Int32)) G dX3_story_46 (by decide) ?_
    refine x_iload_n G rfl dX3_story_48 3 rfl ?_
    refine x_imul G dX3_story_49 ?_
    refine x_iload_n G rfl dX3_story_50 4 rfl ?_
    refine x_iadd G dX3_story_51 ?_
    obtain ⟨hz, h⟩ := h
    refine m_ald_15 G hz dX3_story_52 ?_
    refine x_topd (fun r_4 er_4 => ?_)
    replace h := h r_4 er_4
    refine x_dstore (lv' := [(7, .double r_4), (5, .double r_3), (3, .double r_2), (0, .ref h0), (1, .int p0), (2, .int p1)]) G dX3_story_53 (by decide) rfl ?_
    refine x_dload G dX3_story_55 0 rfl ?_
    refine x_dload_n G rfl dX3_story_57 2 rfl ?_
    refine x_dcmpl_ne (tgt := 69) G dX3_story_58 dX3_story_59 rfl (fun c => ?_) (fun c => ?_)
    · replace h := h.1 c
      refine x_lv (lv' := [(0, .ref h0), (1, .int p0), (2, .int p1), (3, .double r_2), (5, .double r_3), (7, .double r_4)]) [3, 4, 5, 2, 1, 0] rfl ?_
      refine kX3_story_J69 G Q  _ _ _ _ h
    · replace h := h.2 c
      refine x_dload G dX3_story_62 1 rfl ?_
      refine x_dconst0 G dX3_story_64 ?_
      refine x_dcmpl_ne (tgt := 83) G dX3_story_65 dX3_story_66 rfl (fun c => ?_) (fun c => ?_)
      · replace h := h.1 c
        refine x_iconst (v := (0 : Int32)) G dX3_story_83 (by decide) ?_
        exact x_reti2 G Q dX3_story_84 rfl (0 : Int32) big h XSub.rf (Nat.le_refl _) (Nat.le_refl _)
      · replace h := h.2 c
        refine x_lv (lv' := [(0, .ref h0), (1, .int p0), (2, .int p1), (3, .double r_2), (5, .double r_3), (7, .double r_4)]) [3, 4, 5, 2, 1, 0] rfl ?_
        refine kX3_story_J69 G Q  _ _ _ _ h
  · replace h := h.2 c
    refine x_bipush (v := (-101 : Int32)) G dX3_story_14 (by decide) ?_
    exact x_reti2 G Q dX3_story_16 rfl (0 : Int32) big h XSub.rf (Nat.le_refl _) (Nat.le_refl _)
theorem cdX3_compareBig : yX3_compareBig.cls = RX3 ∧ yX3_compareBig.cls ≠ "java/lang/invoke/MethodHandle" ∧ yX3_compareBig.cls ≠ "java/lang/invoke/VarHandle" ∧ (parseMethodDescriptor yX3_compareBig.desc).map (fun d => d.parameters.length) = some 2 := by decide +kernel
def wX3_compareBig_L3 (big : Nat → Int32) (p0 : Int32) (p1 : Int32) (X71 : Int32 → Prop) (K : Int32 → Prop) : Nat → Int32 → Prop
  | 0, _ => False
  | n + 1, v3_1 => ((v3_1 < (0 : Int32) → X71 v3_1) ∧ (¬ v3_1 < (0 : Int32) → (vp_in (((44 : Int32) * p0) + v3_1) 1056 ∧ (∀ y_2 : Int64, y_2 = ((big (((44 : Int32) * p0) + v3_1).toNatClampNeg).toInt64 &&& (4294967295 : Int64)) → (vp_in (((44 : Int32) * p1) + v3_1) 1056 ∧ (∀ y_3 : Int64, y_3 = ((big (((44 : Int32) * p1) + v3_1).toNatClampNeg).toInt64 &&& (4294967295 : Int64)) → ((y_2 = y_3 → (∀ x_4 : Int32, x_4 = (v3_1 + (-1 : Int32)) → wX3_compareBig_L3 big p0 p1 X71 K n x_4)) ∧ (¬ y_2 = y_3 → ((y_3 ≤ y_2 → K (1 : Int32)) ∧ (¬ y_3 ≤ y_2 → K (-1 : Int32)))))))))))
def wX3_compareBig (p0 : Int32) (p1 : Int32) (big : Nat → Int32) (K : Int32 → Prop) : Prop := (∃ m3 : Nat, wX3_compareBig_L3 big p0 p1 (fun (v3_6 : Int32) => K (0 : Int32)) K m3 (43 : Int32))
set_option maxRecDepth 20000 in
theorem kX3_compareBig_L3 {g : XG} {h0 : Nat} {ad : Nat → Nat} {thrown : Int32} {many : Nat → Int32} {isWide : Nat → Int32} {amountOf : Nat → UInt64} {accountOf : Nat → Int32} {dayOf : Nat → Int32} {given : Nat → Int32} {givenOf : Nat → Int32} {runs : Int32} {runWide : Nat → Int32} {runWay : Nat → Int32} {runTotal : Nat → UInt64} {runSteps : Nat → Int32} {lefts : Nat → UInt64} {rights : Nat → UInt64} {results : Nat → UInt64} {wide : Int32} {dn : Int32} {stepsAt : Int32} {keeps : Int32} {order : Nat → Int32} {att : Nat → UInt64} {spareAmount : Nat → UInt64} {spareAccount : Nat → Int32} {spareDay : Nat → Int32} {cured : Int32} {cureOf : Nat → Int32} {shareOf : Nat → Int32} {big : Nat → Int32} {unitsOf : Int64} {spare : Int32} {halfFrom : Nat → Int32} {halfMany : Nat → Int32} {halfDone : Nat → Int32} {halfTotal : Nat → UInt64} {isFar : Int32} {p0 : Int32} {p1 : Int32} {X71 : Int32 → Prop} {K : Int32 → Prop} (G : XO g RX3 cX3_compareBig 8 1 0 0) (Q : XQi0 g FieldType.int 0 0 (mW h0 ad (xT g) thrown many isWide amountOf accountOf dayOf given givenOf runs runWide runWay runTotal runSteps lefts rights results wide dn stepsAt keeps order att spareAmount spareAccount spareDay cured cureOf shareOf big unitsOf spare halfFrom halfMany halfDone halfTotal isFar) K) (hX71 : ∀ (v3_5 : Int32), X71 v3_5 → X g 8 71 [(3, .int v3_5), (0, .ref h0), (1, .int p0), (2, .int p1)] [] (mW h0 ad (xT g) thrown many isWide amountOf accountOf dayOf given givenOf runs runWide runWay runTotal runSteps lefts rights results wide dn stepsAt keeps order att spareAmount spareAccount spareDay cured cureOf shareOf big unitsOf spare halfFrom halfMany halfDone halfTotal isFar) 0 0) : ∀ (n : Nat) (v3_1 : Int32), wX3_compareBig_L3 big p0 p1 X71 K n v3_1 → X g 8 3 [(3, .int v3_1), (0, .ref h0), (1, .int p0), (2, .int p1)] [] (mW h0 ad (xT g) thrown many isWide amountOf accountOf dayOf given givenOf runs runWide runWay runTotal runSteps lefts rights results wide dn stepsAt keeps order att spareAmount spareAccount spareDay cured cureOf shareOf big unitsOf spare halfFrom halfMany halfDone halfTotal isFar) 0 0 := by
  intro n
  induction n with
  | zero => intro _ h; exact h.elim
  | succ n ih =>
    intro v3_1 h
    unfold wX3_compareBig_L3 at h
    refine x_iload_n G rfl dX3_compareBig_3 0 rfl ?_
    refine x_if_lt (tgt := 71) G dX3_compareBig_4 rfl (fun c => ?_) (fun c => ?_)
    · replace h := h.1 c
      exact hX71 v3_1 h
    · replace h := h.2 c
      refine x_aload_n G rfl dX3_compareBig_7 1 rfl ?_
      refine m_get_28 G dX3_compareBig_8 ?_
      refine x_bipush (v := (44 : Int32)) G dX3_compareBig_11 (by decide) ?_
      refine x_iload_n G rfl dX3_compareBig_13 2 rfl ?_
      refine x_imul G dX3_compareBig_14 ?_
      refine x_iload_n G rfl dX3_compareBig_15 0 rfl ?_
      refine x_iadd G dX3_compareBig_16 ?_
      obtain ⟨hz, h⟩ := h
      refine m_ald_28 G hz dX3_compareBig_17 ?_
      refine x_i2l G dX3_compareBig_18 ?_
      refine x_ldc2 G q1905 dX3_compareBig_19 ?_
      refine x_land G dX3_compareBig_22 ?_
      refine x_topl (fun y_2 ey_2 => ?_)
      replace h := h y_2 ey_2
      refine x_lstore (lv' := [(4, .long y_2), (3, .int v3_1), (0, .ref h0), (1, .int p0), (2, .int p1)]) G dX3_compareBig_23 (by decide) rfl ?_
      refine x_aload_n G rfl dX3_compareBig_25 2 rfl ?_
      refine m_get_28 G dX3_compareBig_26 ?_
      refine x_bipush (v := (44 : Int32)) G dX3_compareBig_29 (by decide) ?_
      refine x_iload_n G rfl dX3_compareBig_31 4 rfl ?_
      refine x_imul G dX3_compareBig_32 ?_
      refine x_iload_n G rfl dX3_compareBig_33 1 rfl ?_
      refine x_iadd G dX3_compareBig_34 ?_
      obtain ⟨hz, h⟩ := h
      refine m_ald_28 G hz dX3_compareBig_35 ?_
      refine x_i2l G dX3_compareBig_36 ?_
      refine x_ldc2 G q1905 dX3_compareBig_37 ?_
      refine x_land G dX3_compareBig_40 ?_
      refine x_topl (fun y_3 ey_3 => ?_)
      replace h := h y_3 ey_3
      refine x_lstore (lv' := [(6, .long y_3), (4, .long y_2), (3, .int v3_1), (0, .ref h0), (1, .int p0), (2, .int p1)]) G dX3_compareBig_41 (by decide) rfl ?_
      refine x_lload G dX3_compareBig_43 1 rfl ?_
      refine x_lload G dX3_compareBig_45 0 rfl ?_
      refine x_lcmp_eq (tgt := 65) G dX3_compareBig_47 dX3_compareBig_48 rfl (fun c => ?_) (fun c => ?_)
      · replace h := h.1 c
        obtain ⟨x_4, ex_4⟩ : ∃ z : Int32, z = (v3_1 + (-1 : Int32)) := ⟨_, rfl⟩
        replace h := h x_4 ex_4
        refine x_iinc (v := x_4) (lv' := [(3, .int x_4), (6, .long y_3), (4, .long y_2), (0, .ref h0), (1, .int p0), (2, .int p1)]) G dX3_compareBig_65 2 rfl (by rw [ex_4]; rfl) (by decide) rfl ?_
        refine x_goto (tgt := 3) G dX3_compareBig_68 rfl ?_
        refine x_lv (lv' := [(3, .int x_4), (0, .ref h0), (1, .int p0), (2, .int p1)]) [0, 3, 4, 5] rfl ?_
        exact ih x_4 h
      · replace h := h.2 c
        refine x_lload G dX3_compareBig_51 1 rfl ?_
        refine x_lload G dX3_compareBig_53 0 rfl ?_
        refine x_lcmp_ge (tgt := 63) G dX3_compareBig_55 dX3_compareBig_56 rfl (fun c => ?_) (fun c => ?_)
        · replace h := h.1 c
          refine x_iconst (v := (1 : Int32)) G dX3_compareBig_63 (by decide) ?_
          exact x_reti0 G Q dX3_compareBig_64 rfl  h XSub.rf (Nat.le_refl _) (Nat.le_refl _)
        · replace h := h.2 c
          refine x_iconst (v := (-1 : Int32)) G dX3_compareBig_59 (by decide) ?_
          refine x_goto (tgt := 64) G dX3_compareBig_60 rfl ?_
          exact x_reti0 G Q dX3_compareBig_64 rfl  h XSub.rf (Nat.le_refl _) (Nat.le_refl _)
set_option maxRecDepth 20000 in
theorem tX3_compareBig {l : Launch} {D : va_G} {ta : Nat → ClassId} {h0 : Nat} {ad : Nat → Nat} {thrown : Int32} {many : Nat → Int32} {isWide : Nat → Int32} {amountOf : Nat → UInt64} {accountOf : Nat → Int32} {dayOf : Nat → Int32} {given : Nat → Int32} {givenOf : Nat → Int32} {runs : Int32} {runWide : Nat → Int32} {runWay : Nat → Int32} {runTotal : Nat → UInt64} {runSteps : Nat → Int32} {lefts : Nat → UInt64} {rights : Nat → UInt64} {results : Nat → UInt64} {wide : Int32} {dn : Int32} {stepsAt : Int32} {keeps : Int32} {order : Nat → Int32} {att : Nat → UInt64} {spareAmount : Nat → UInt64} {spareAccount : Nat → Int32} {spareDay : Nat → Int32} {cured : Int32} {cureOf : Nat → Int32} {shareOf : Nat → Int32} {big : Nat → Int32} {unitsOf : Int64} {spare : Int32} {halfFrom : Nat → Int32} {halfMany : Nat → Int32} {halfDone : Nat → Int32} {halfTotal : Nat → UInt64} {isFar : Int32} {p0 : Int32} {p1 : Int32} {K : Int32 → Prop} (hlt : l.stackTraces = false) (h : wX3_compareBig p0 p1 big K) : SMi0 l D ta yX3_compareBig cX3_compareBig 8 FieldType.int 1 [.ref h0, .int p0, .int p1] (mW h0 ad ta thrown many isWide amountOf accountOf dayOf given givenOf runs runWide runWay runTotal runSteps lefts rights results wide dn stepsAt keeps order att spareAmount spareAccount spareDay cured cureOf shareOf big unitsOf spare halfFrom halfMany halfDone halfTotal isFar) (mW h0 ad ta thrown many isWide amountOf accountOf dayOf given givenOf runs runWide runWay runTotal runSteps lefts rights results wide dn stepsAt keeps order att spareAmount spareAccount spareDay cured cureOf shareOf big unitsOf spare halfFrom halfMany halfDone halfTotal isFar) 0 0 K := by
  refine x_sti0 hlt (plainFor_of_name (by decide +kernel)) (Nat.le_of_ble_eq_true rfl) (fun g G hl hD hT Q => ?_)
  subst hl; subst hD; subst hT
  unfold wX3_compareBig at h
  show X g 8 0 [(0, .ref h0), (1, .int p0), (2, .int p1)] [] (mW h0 ad (xT g) thrown many isWide amountOf accountOf dayOf given givenOf runs runWide runWay runTotal runSteps lefts rights results wide dn stepsAt keeps order att spareAmount spareAccount spareDay cured cureOf shareOf big unitsOf spare halfFrom halfMany halfDone halfTotal isFar) 0 0
  refine x_bipush (v := (43 : Int32)) G dX3_compareBig_0 (by decide) ?_
  refine x_istore_n (lv' := [(3, .int (43 : Int32)), (0, .ref h0), (1, .int p0), (2, .int p1)]) G rfl dX3_compareBig_2 (by decide) rfl ?_
  obtain ⟨n0, h⟩ := h
  refine kX3_compareBig_L3 G Q (fun v3_6 h => ?_) n0 _ h
  · refine x_iconst (v := (0 : Int32)) G dX3_compareBig_71 (by decide) ?_
    exact x_reti0 G Q dX3_compareBig_72 rfl  h XSub.rf (Nat.le_refl _) (Nat.le_refl _)
