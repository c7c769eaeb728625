/-! the model's methods. Printed by gen/model_parts.py -/
theorem cdX3_thrown : yX3_thrown.cls = RX3 ∧ yX3_thrown.cls ≠ "java/lang/invoke/MethodHandle" ∧ yX3_thrown.cls ≠ "java/lang/invoke/VarHandle" ∧ (parseMethodDescriptor yX3_thrown.desc).map (fun d => d.parameters.length) = some 0 := by decide +kernel
def wX3_thrown (thrown : Int32) (K : Int32 → Prop) : Prop := K thrown
set_option maxRecDepth 20000 in
theorem tX3_thrown {l : Launch} {D : va_G} {ta : Nat → ClassId} {h0 : Nat} {ad : Nat → Nat} {thrown : Int32} {many : Nat → Int32} {isWide : Nat → Int32} {amountOf : Nat → UInt64} {accountOf : Nat → Int32} {dayOf : Nat → Int32} {given : Nat → Int32} {givenOf : Nat → Int32} {runs : Int32} {runWide : Nat → Int32} {runWay : Nat → Int32} {runTotal : Nat → UInt64} {runSteps : Nat → Int32} {lefts : Nat → UInt64} {rights : Nat → UInt64} {results : Nat → UInt64} {wide : Int32} {dn : Int32} {stepsAt : Int32} {keeps : Int32} {order : Nat → Int32} {att : Nat → UInt64} {spareAmount : Nat → UInt64} {spareAccount : Nat → Int32} {spareDay : Nat → Int32} {cured : Int32} {cureOf : Nat → Int32} {shareOf : Nat → Int32} {big : Nat → Int32} {unitsOf : Int64} {spare : Int32} {halfFrom : Nat → Int32} {halfMany : Nat → Int32} {halfDone : Nat → Int32} {halfTotal : Nat → UInt64} {isFar : Int32} {K : Int32 → Prop} (hlt : l.stackTraces = false) (h : wX3_thrown thrown K) : SMi0 l D ta yX3_thrown cX3_thrown 1 FieldType.int 1 [.ref h0] (mW h0 ad ta thrown many isWide amountOf accountOf dayOf given givenOf runs runWide runWay runTotal runSteps lefts rights results wide dn stepsAt keeps order att spareAmount spareAccount spareDay cured cureOf shareOf big unitsOf spare halfFrom halfMany halfDone halfTotal isFar) (mW h0 ad ta thrown many isWide amountOf accountOf dayOf given givenOf runs runWide runWay runTotal runSteps lefts rights results wide dn stepsAt keeps order att spareAmount spareAccount spareDay cured cureOf shareOf big unitsOf spare halfFrom halfMany halfDone halfTotal isFar) 0 0 K := by
  refine x_sti0 hlt (plainFor_of_name (by decide +kernel)) (Nat.le_of_ble_eq_true rfl) (fun g G hl hD hT Q => ?_)
  subst hl; subst hD; subst hT
  unfold wX3_thrown at h
  show X g 1 0 [(0, .ref h0)] [] (mW h0 ad (xT g) thrown many isWide amountOf accountOf dayOf given givenOf runs runWide runWay runTotal runSteps lefts rights results wide dn stepsAt keeps order att spareAmount spareAccount spareDay cured cureOf shareOf big unitsOf spare halfFrom halfMany halfDone halfTotal isFar) 0 0
  refine x_aload_n G rfl dX3_thrown_0 0 rfl ?_
  refine m_get_0 G dX3_thrown_1 ?_
  exact x_reti0 G Q dX3_thrown_4 rfl  h XSub.rf (Nat.le_refl _) (Nat.le_refl _)
theorem cdX3_in : yX3_in.cls ≠ "java/lang/invoke/MethodHandle" ∧ yX3_in.cls ≠ "java/lang/invoke/VarHandle" ∧ (parseMethodDescriptor yX3_in.desc).map (fun d => d.parameters.length) = some 3 := by decide +kernel
def wX3_in (p0 : Int64) (p1 : Int64) (p2 : Int64) (K : Int32 → Prop) : Prop := ((p0 < p1 → K (0 : Int32)) ∧ (¬ p0 < p1 → ((p2 < p0 → K (0 : Int32)) ∧ (¬ p2 < p0 → K (1 : Int32)))))
set_option maxRecDepth 20000 in
theorem tX3_in {l : Launch} {D : va_G} {ta : Nat → ClassId} {p0 : Int64} {p1 : Int64} {p2 : Int64} {K : Int32 → Prop} (hlt : l.stackTraces = false) (h : wX3_in p0 p1 p2 K) : SMi0 l D ta yX3_in cX3_in 6 FieldType.boolean 1 [.long p0, .long p1, .long p2] [] [] 0 0 K := by
  refine x_sti0 hlt (plainFor_of_name (by decide +kernel)) (Nat.le_of_ble_eq_true rfl) (fun g G hl hD hT Q => ?_)
  subst hl; subst hD; subst hT
  unfold wX3_in at h
  show X g 6 0 [(0, .long p0), (2, .long p1), (4, .long p2)] [] [] 0 0
  refine x_lload_n G rfl dX3_in_0 0 rfl ?_
  refine x_lload_n G rfl dX3_in_1 1 rfl ?_
  refine x_lcmp_lt (tgt := 17) G dX3_in_2 dX3_in_3 rfl (fun c => ?_) (fun c => ?_)
  · replace h := h.1 c
    refine x_iconst (v := (0 : Int32)) G dX3_in_17 (by decide) ?_
    exact x_reti0 G Q dX3_in_18 rfl  h XSub.rf (Nat.le_refl _) (Nat.le_refl _)
  · replace h := h.2 c
    refine x_lload_n G rfl dX3_in_6 0 rfl ?_
    refine x_lload G dX3_in_7 2 rfl ?_
    refine x_lcmp_gt (tgt := 17) G dX3_in_9 dX3_in_10 rfl (fun c => ?_) (fun c => ?_)
    · replace h := h.1 c
      refine x_iconst (v := (0 : Int32)) G dX3_in_17 (by decide) ?_
      exact x_reti0 G Q dX3_in_18 rfl  h XSub.rf (Nat.le_refl _) (Nat.le_refl _)
    · replace h := h.2 c
      refine x_iconst (v := (1 : Int32)) G dX3_in_13 (by decide) ?_
      refine x_goto (tgt := 18) G dX3_in_14 rfl ?_
      exact x_reti0 G Q dX3_in_18 rfl  h XSub.rf (Nat.le_refl _) (Nat.le_refl _)
theorem cdX3_raise : yX3_raise.cls = RX3 ∧ yX3_raise.cls ≠ "java/lang/invoke/MethodHandle" ∧ yX3_raise.cls ≠ "java/lang/invoke/VarHandle" ∧ (parseMethodDescriptor yX3_raise.desc).map (fun d => d.parameters.length) = some 1 := by decide +kernel
def wX3_raise (p0 : Int32) (thrown : Int32) (K : Int32 → Int32 → Prop) : Prop := K (0 : Int32) p0
set_option maxRecDepth 20000 in
theorem tX3_raise {l : Launch} {D : va_G} {ta : Nat → ClassId} {h0 : Nat} {ad : Nat → Nat} {thrown : Int32} {many : Nat → Int32} {isWide : Nat → Int32} {amountOf : Nat → UInt64} {accountOf : Nat → Int32} {dayOf : Nat → Int32} {given : Nat → Int32} {givenOf : Nat → Int32} {runs : Int32} {runWide : Nat → Int32} {runWay : Nat → Int32} {runTotal : Nat → UInt64} {runSteps : Nat → Int32} {lefts : Nat → UInt64} {rights : Nat → UInt64} {results : Nat → UInt64} {wide : Int32} {dn : Int32} {stepsAt : Int32} {keeps : Int32} {order : Nat → Int32} {att : Nat → UInt64} {spareAmount : Nat → UInt64} {spareAccount : Nat → Int32} {spareDay : Nat → Int32} {cured : Int32} {cureOf : Nat → Int32} {shareOf : Nat → Int32} {big : Nat → Int32} {unitsOf : Int64} {spare : Int32} {halfFrom : Nat → Int32} {halfMany : Nat → Int32} {halfDone : Nat → Int32} {halfTotal : Nat → UInt64} {isFar : Int32} {p0 : Int32} {K : Int32 → Int32 → Prop} (hlt : l.stackTraces = false) (h : wX3_raise p0 thrown K) : SMi1 l D ta yX3_raise cX3_raise 2 FieldType.int 1 [.ref h0, .int p0] (mW h0 ad ta thrown many isWide amountOf accountOf dayOf given givenOf runs runWide runWay runTotal runSteps lefts rights results wide dn stepsAt keeps order att spareAmount spareAccount spareDay cured cureOf shareOf big unitsOf spare halfFrom halfMany halfDone halfTotal isFar) (fun (thrown' : Int32) => mW h0 ad ta thrown' many isWide amountOf accountOf dayOf given givenOf runs runWide runWay runTotal runSteps lefts rights results wide dn stepsAt keeps order att spareAmount spareAccount spareDay cured cureOf shareOf big unitsOf spare halfFrom halfMany halfDone halfTotal isFar) 0 0 K := by
  refine x_sti1 hlt (plainFor_of_name (by decide +kernel)) (Nat.le_of_ble_eq_true rfl) (fun g G hl hD hT Q => ?_)
  subst hl; subst hD; subst hT
  unfold wX3_raise at h
  show X g 2 0 [(0, .ref h0), (1, .int p0)] [] (mW h0 ad (xT g) thrown many isWide amountOf accountOf dayOf given givenOf runs runWide runWay runTotal runSteps lefts rights results wide dn stepsAt keeps order att spareAmount spareAccount spareDay cured cureOf shareOf big unitsOf spare halfFrom halfMany halfDone halfTotal isFar) 0 0
  refine x_aload_n G rfl dX3_raise_0 0 rfl ?_
  refine x_iload_n G rfl dX3_raise_1 1 rfl ?_
  refine m_put_0 G dX3_raise_2 ?_
  refine x_iconst (v := (0 : Int32)) G dX3_raise_5 (by decide) ?_
  exact x_reti1 G Q dX3_raise_6 rfl p0 h XSub.rf (Nat.le_refl _) (Nat.le_refl _)
theorem cdX3_fresh : yX3_fresh.cls = RX3 ∧ yX3_fresh.cls ≠ "java/lang/invoke/MethodHandle" ∧ yX3_fresh.cls ≠ "java/lang/invoke/VarHandle" ∧ (parseMethodDescriptor yX3_fresh.desc).map (fun d => d.parameters.length) = some 3 := by decide +kernel
def wX3_fresh_L27 (p0 : Int32) (X69 : Int32 → (Nat → UInt64) → (Nat → Int32) → (Nat → Int32) → Prop) : Nat → Int32 → (Nat → UInt64) → (Nat → Int32) → (Nat → Int32) → Prop
  | 0, _, _, _, _ => False
  | n + 1, v4_5, amountOf_6, accountOf_7, dayOf_8 => (((((60 : Int32) * p0) + (60 : Int32)) ≤ v4_5 → X69 v4_5 amountOf_6 accountOf_7 dayOf_8) ∧ (¬ (((60 : Int32) * p0) + (60 : Int32)) ≤ v4_5 → (vp_in v4_5 720 ∧ (∀ amountOf_9 : Nat → UInt64, amountOf_9 = vf_upd amountOf_6 v4_5.toNatClampNeg FP.dconst0 → (vp_in v4_5 720 ∧ (∀ accountOf_10 : Nat → Int32, accountOf_10 = upd accountOf_7 v4_5.toNatClampNeg (0 : Int32) → (vp_in v4_5 720 ∧ (∀ dayOf_11 : Nat → Int32, dayOf_11 = upd dayOf_8 v4_5.toNatClampNeg (0 : Int32) → (∀ x_12 : Int32, x_12 = (v4_5 + (1 : Int32)) → wX3_fresh_L27 p0 X69 n x_12 amountOf_9 accountOf_10 dayOf_11)))))))))
def wX3_fresh (p0 : Int32) (p1 : Int32) (p2 : Int32) (many : Nat → Int32) (isWide : Nat → Int32) (amountOf : Nat → UInt64) (accountOf : Nat → Int32) (dayOf : Nat → Int32) (given : Nat → Int32) (K : (Nat → Int32) → (Nat → Int32) → (Nat → UInt64) → (Nat → Int32) → (Nat → Int32) → (Nat → Int32) → Prop) : Prop := (vp_in p0 12 ∧ (∀ many_1 : Nat → Int32, many_1 = upd many p0.toNatClampNeg p2 → (vp_in p0 12 ∧ (∀ isWide_2 : Nat → Int32, isWide_2 = upd isWide p0.toNatClampNeg (vp_nar .boolean p1) → (vp_in p0 12 ∧ (∀ given_3 : Nat → Int32, given_3 = upd given p0.toNatClampNeg (0 : Int32) → (∀ x_4 : Int32, x_4 = ((60 : Int32) * p0) → (∃ m27 : Nat, wX3_fresh_L27 p0 (fun (v4_17 : Int32) (amountOf_18 : Nat → UInt64) (accountOf_19 : Nat → Int32) (dayOf_20 : Nat → Int32) => K many_1 isWide_2 amountOf_18 accountOf_19 dayOf_20 given_3) m27 x_4 amountOf accountOf dayOf))))))))
set_option maxRecDepth 20000 in
theorem kX3_fresh_L27 {g : XG} {h0 : Nat} {ad : Nat → Nat} {thrown : Int32} {givenOf : Nat → Int32} {runs : Int32} {runWide : Nat → Int32} {runWay : Nat → Int32} {runTotal : Nat → UInt64} {runSteps : Nat → Int32} {lefts : Nat → UInt64} {rights : Nat → UInt64} {results : Nat → UInt64} {wide : Int32} {dn : Int32} {stepsAt : Int32} {keeps : Int32} {order : Nat → Int32} {att : Nat → UInt64} {spareAmount : Nat → UInt64} {spareAccount : Nat → Int32} {spareDay : Nat → Int32} {cured : Int32} {cureOf : Nat → Int32} {shareOf : Nat → Int32} {big : Nat → Int32} {unitsOf : Int64} {spare : Int32} {halfFrom : Nat → Int32} {halfMany : Nat → Int32} {halfDone : Nat → Int32} {halfTotal : Nat → UInt64} {isFar : Int32} {p0 : Int32} {p1 : Int32} {p2 : Int32} {many_1 : Nat → Int32} {isWide_2 : Nat → Int32} {given_3 : Nat → Int32} {X69 : Int32 → (Nat → UInt64) → (Nat → Int32) → (Nat → Int32) → Prop} (G : XO g RX3 cX3_fresh 5 1 0 0) (hX69 : ∀ (v4_13 : Int32) (amountOf_14 : Nat → UInt64) (accountOf_15 : Nat → Int32) (dayOf_16 : Nat → Int32), X69 v4_13 amountOf_14 accountOf_15 dayOf_16 → X g 5 69 [(4, .int v4_13), (0, .ref h0), (1, .int p0), (2, .int p1), (3, .int p2)] [] (mW h0 ad (xT g) thrown many_1 isWide_2 amountOf_14 accountOf_15 dayOf_16 given_3 givenOf runs runWide runWay runTotal runSteps lefts rights results wide dn stepsAt keeps order att spareAmount spareAccount spareDay cured cureOf shareOf big unitsOf spare halfFrom halfMany halfDone halfTotal isFar) 0 0) : ∀ (n : Nat) (v4_5 : Int32) (amountOf_6 : Nat → UInt64) (accountOf_7 : Nat → Int32) (dayOf_8 : Nat → Int32), wX3_fresh_L27 p0 X69 n v4_5 amountOf_6 accountOf_7 dayOf_8 → X g 5 27 [(4, .int v4_5), (0, .ref h0), (1, .int p0), (2, .int p1), (3, .int p2)] [] (mW h0 ad (xT g) thrown many_1 isWide_2 amountOf_6 accountOf_7 dayOf_8 given_3 givenOf runs runWide runWay runTotal runSteps lefts rights results wide dn stepsAt keeps order att spareAmount spareAccount spareDay cured cureOf shareOf big unitsOf spare halfFrom halfMany halfDone halfTotal isFar) 0 0 := by
  intro n
  induction n with
  | zero => intro _ _ _ _ h; exact h.elim
  | succ n ih =>
    intro v4_5 amountOf_6 accountOf_7 dayOf_8 h
    unfold wX3_fresh_L27 at h
    refine x_iload G dX3_fresh_27 0 rfl ?_
    refine x_bipush (v := (60 : Int32)) G dX3_fresh_29 (by decide) ?_
    refine x_iload_n G rfl dX3_fresh_31 2 rfl ?_
    refine x_imul G dX3_fresh_32 ?_
    refine x_bipush (v := (60 : Int32)) G dX3_fresh_33 (by decide) ?_
    refine x_iadd G dX3_fresh_35 ?_
    refine x_icmp_ge (tgt := 69) G dX3_fresh_36 rfl (fun c => ?_) (fun c => ?_)
    · replace h := h.1 c
      exact hX69 v4_5 amountOf_6 accountOf_7 dayOf_8 h
    · replace h := h.2 c
      refine x_aload_n G rfl dX3_fresh_39 1 rfl ?_
      refine m_get_3 G dX3_fresh_40 ?_
      refine x_iload G dX3_fresh_43 0 rfl ?_
      refine x_dconst0 G dX3_fresh_45 ?_
      obtain ⟨hz, h⟩ := h
      refine m_ast_3 G hz dX3_fresh_46 (fun amountOf_9 eamountOf_9 => ?_)
      replace h := h amountOf_9 eamountOf_9
      refine x_aload_n G rfl dX3_fresh_47 1 rfl ?_
      refine m_get_4 G dX3_fresh_48 ?_
      refine x_iload G dX3_fresh_51 0 rfl ?_
      refine x_iconst (v := (0 : Int32)) G dX3_fresh_53 (by decide) ?_
      obtain ⟨hz, h⟩ := h
      refine m_ast_4 G hz dX3_fresh_54 (fun accountOf_10 eaccountOf_10 => ?_)
      replace h := h accountOf_10 eaccountOf_10
      refine x_aload_n G rfl dX3_fresh_55 1 rfl ?_
      refine m_get_5 G dX3_fresh_56 ?_
      refine x_iload G dX3_fresh_59 0 rfl ?_
      refine x_iconst (v := (0 : Int32)) G dX3_fresh_61 (by decide) ?_
      obtain ⟨hz, h⟩ := h
      refine m_ast_5 G hz dX3_fresh_62 (fun dayOf_11 edayOf_11 => ?_)
      replace h := h dayOf_11 edayOf_11
      obtain ⟨x_12, ex_12⟩ : ∃ z : Int32, z = (v4_5 + (1 : Int32)) := ⟨_, rfl⟩
      replace h := h x_12 ex_12
      refine x_iinc (v := x_12) (lv' := [(4, .int x_12), (0, .ref h0), (1, .int p0), (2, .int p1), (3, .int p2)]) G dX3_fresh_63 0 rfl (by rw [ex_12]; rfl) (by decide) rfl ?_
      refine x_goto (tgt := 27) G dX3_fresh_66 rfl ?_
      exact ih x_12 amountOf_9 accountOf_10 dayOf_11 h
set_option maxRecDepth 20000 in
theorem tX3_fresh {l : Launch} {D : va_G} {ta : Nat → ClassId} {h0 : Nat} {ad : Nat → Nat} {thrown : Int32} {many : Nat → Int32} {isWide : Nat → Int32} {amountOf : Nat → UInt64} {accountOf : Nat → Int32} {dayOf : Nat → Int32} {given : Nat → Int32} {givenOf : Nat → Int32} {runs : Int32} {runWide : Nat → Int32} {runWay : Nat → Int32} {runTotal : Nat → UInt64} {runSteps : Nat → Int32} {lefts : Nat → UInt64} {rights : Nat → UInt64} {results : Nat → UInt64} {wide : Int32} {dn : Int32} {stepsAt : Int32} {keeps : Int32} {order : Nat → Int32} {att : Nat → UInt64} {spareAmount : Nat → UInt64} {spareAccount : Nat → Int32} {spareDay : Nat → Int32} {cured : Int32} {cureOf : Nat → Int32} {shareOf : Nat → Int32} {big : Nat → Int32} {unitsOf : Int64} {spare : Int32} {halfFrom : Nat → Int32} {halfMany : Nat → Int32} {halfDone : Nat → Int32} {halfTotal : Nat → UInt64} {isFar : Int32} {p0 : Int32} {p1 : Int32} {p2 : Int32} {K : (Nat → Int32) → (Nat → Int32) → (Nat → UInt64) → (Nat → Int32) → (Nat → Int32) → (Nat → Int32) → Prop} (hlt : l.stackTraces = false) (h : wX3_fresh p0 p1 p2 many isWide amountOf accountOf dayOf given K) : SMv6 l D ta yX3_fresh cX3_fresh 5 1 [.ref h0, .int p0, .int p1, .int p2] (mW h0 ad ta thrown many isWide amountOf accountOf dayOf given givenOf runs runWide runWay runTotal runSteps lefts rights results wide dn stepsAt keeps order att spareAmount spareAccount spareDay cured cureOf shareOf big unitsOf spare halfFrom halfMany halfDone halfTotal isFar) (fun (many' : Nat → Int32) (isWide' : Nat → Int32) (amountOf' : Nat → UInt64) (accountOf' : Nat → Int32) (dayOf' : Nat → Int32) (given' : Nat → Int32) => mW h0 ad ta thrown many' isWide' amountOf' accountOf' dayOf' given' givenOf runs runWide runWay runTotal runSteps lefts rights results wide dn stepsAt keeps order att spareAmount spareAccount spareDay cured cureOf shareOf big unitsOf spare halfFrom halfMany halfDone halfTotal isFar) 0 0 K := by
  refine x_stv6 hlt (plainFor_of_name (by decide +kernel)) (Nat.le_of_ble_eq_true rfl) (fun g G hl hD hT Q => ?_)
  subst hl; subst hD; subst hT
  unfold wX3_fresh at h
  show X g 5 0 [(0, .ref h0), (1, .int p0), (2, .int p1), (3, .int p2)] [] (mW h0 ad (xT g) thrown many isWide amountOf accountOf dayOf given givenOf runs runWide runWay runTotal runSteps lefts rights results wide dn stepsAt keeps order att spareAmount spareAccount spareDay cured cureOf shareOf big unitsOf spare halfFrom halfMany halfDone halfTotal isFar) 0 0
  refine x_aload_n G rfl dX3_fresh_0 0 rfl ?_
  refine m_get_1 G dX3_fresh_1 ?_
  refine x_iload_n G rfl dX3_fresh_4 1 rfl ?_
  refine x_iload_n G rfl dX3_fresh_5 3 rfl ?_
  obtain ⟨hz, h⟩ := h
  refine m_ast_1 G hz dX3_fresh_6 (fun many_1 emany_1 => ?_)
  replace h := h many_1 emany_1
  refine x_aload_n G rfl dX3_fresh_7 0 rfl ?_
  refine m_get_2 G dX3_fresh_8 ?_
  refine x_iload_n G rfl dX3_fresh_11 1 rfl ?_
  refine x_iload_n G rfl dX3_fresh_12 2 rfl ?_
  obtain ⟨hz, h⟩ := h
  refine m_ast_2 G hz dX3_fresh_13 (fun isWide_2 eisWide_2 => ?_)
  replace h := h isWide_2 eisWide_2
  refine x_aload_n G rfl dX3_fresh_14 0 rfl ?_
  refine m_get_6 G dX3_fresh_15 ?_
  refine x_iload_n G rfl dX3_fresh_18 1 rfl ?_
  refine x_iconst (v := (0 : Int32)) G dX3_fresh_19 (by decide) ?_
  obtain ⟨hz, h⟩ := h
  refine m_ast_6 G hz dX3_fresh_20 (fun given_3 egiven_3 => ?_)
  replace h := h given_3 egiven_3
  refine x_bipush (v := (60 : Int32)) G dX3_fresh_21 (by decide) ?_
  refine x_iload_n G rfl dX3_fresh_23 1 rfl ?_
  refine x_imul G dX3_fresh_24 ?_
  refine x_topi (fun x_4 ex_4 => ?_)
  replace h := h x_4 ex_4
  refine x_istore (lv' := [(4, .int x_4), (0, .ref h0), (1, .int p0), (2, .int p1), (3, .int p2)]) G dX3_fresh_25 (by decide) rfl ?_
  obtain ⟨n0, h⟩ := h
  refine kX3_fresh_L27 G (fun v4_17 amountOf_18 accountOf_19 dayOf_20 h => ?_) n0 _ _ _ _ h
  · exact x_retv6 G Q dX3_fresh_69 many_1 isWide_2 amountOf_18 accountOf_19 dayOf_20 given_3 h XSub.rf (Nat.le_refl _) (Nat.le_refl _)
theorem cdX3_ledger : yX3_ledger.cls = RX3 ∧ yX3_ledger.cls ≠ "java/lang/invoke/MethodHandle" ∧ yX3_ledger.cls ≠ "java/lang/invoke/VarHandle" ∧ (parseMethodDescriptor yX3_ledger.desc).map (fun d => d.parameters.length) = some 3 := by decide +kernel
def wX3_ledger (p0 : Int32) (p1 : Int32) (p2 : Int32) (thrown : Int32) (many : Nat → Int32) (isWide : Nat → Int32) (amountOf : Nat → UInt64) (accountOf : Nat → Int32) (dayOf : Nat → Int32) (given : Nat → Int32) (K : Int32 → Int32 → (Nat → Int32) → (Nat → Int32) → (Nat → UInt64) → (Nat → Int32) → (Nat → Int32) → (Nat → Int32) → Prop) : Prop := (wX3_in p0.toInt64 (0 : Int64) (11 : Int64) (fun (r_1 : Int32) => ((¬ r_1 = (0 : Int32) → ((p2 ≤ (60 : Int32) → (((0 : Int32) ≤ p2 → (wX3_fresh p0 p1 p2 many isWide amountOf accountOf dayOf given (fun (many_2 : Nat → Int32) (isWide_3 : Nat → Int32) (amountOf_4 : Nat → UInt64) (accountOf_5 : Nat → Int32) (dayOf_6 : Nat → Int32) (given_7 : Nat → Int32) => K p2 (0 : Int32) many_2 isWide_3 amountOf_4 accountOf_5 dayOf_6 given_7))) ∧ (¬ (0 : Int32) ≤ p2 → (wX3_raise (2 : Int32) (0 : Int32) (fun (r_8 : Int32) (thrown_9 : Int32) => K r_8 thrown_9 many isWide amountOf accountOf dayOf given))))) ∧ (¬ p2 ≤ (60 : Int32) → K (-102 : Int32) (0 : Int32) many isWide amountOf accountOf dayOf given))) ∧ (r_1 = (0 : Int32) → (wX3_raise (1 : Int32) (0 : Int32) (fun (r_10 : Int32) (thrown_11 : Int32) => K r_10 thrown_11 many isWide amountOf accountOf dayOf given))))))
set_option maxRecDepth 20000 in
theorem tX3_ledger {l : Launch} {D : va_G} {ta : Nat → ClassId} {h0 : Nat} {ad : Nat → Nat} {thrown : Int32} {many : Nat → Int32} {isWide : Nat → Int32} {amountOf : Nat → UInt64} {accountOf : Nat → Int32} {dayOf : Nat → Int32} {given : Nat → Int32} {givenOf : Nat → Int32} {runs : Int32} {runWide : Nat → Int32} {runWay : Nat → Int32} {runTotal : Nat → UInt64} {runSteps : Nat → Int32} {lefts : Nat → UInt64} {rights : Nat → UInt64} {results : Nat → UInt64} {wide : Int32} {dn : Int32} {stepsAt : Int32} {keeps : Int32} {order : Nat → Int32} {att : Nat → UInt64} {spareAmount : Nat → UInt64} {spareAccount : Nat → Int32} {spareDay : Nat → Int32} {cured : Int32} {cureOf : Nat → Int32} {shareOf : Nat → Int32} {big : Nat → Int32} {unitsOf : Int64} {spare : Int32} {halfFrom : Nat → Int32} {halfMany : Nat → Int32} {halfDone : Nat → Int32} {halfTotal : Nat → UInt64} {isFar : Int32} {p0 : Int32} {p1 : Int32} {p2 : Int32} {K : Int32 → Int32 → (Nat → Int32) → (Nat → Int32) → (Nat → UInt64) → (Nat → Int32) → (Nat → Int32) → (Nat → Int32) → Prop} (hlt : l.stackTraces = false) (h : wX3_ledger p0 p1 p2 thrown many isWide amountOf accountOf dayOf given K) : SMi7 l D ta yX3_ledger cX3_ledger 4 FieldType.int 2 [.ref h0, .int p0, .int p1, .int p2] (mW h0 ad ta thrown many isWide amountOf accountOf dayOf given givenOf runs runWide runWay runTotal runSteps lefts rights results wide dn stepsAt keeps order att spareAmount spareAccount spareDay cured cureOf shareOf big unitsOf spare halfFrom halfMany halfDone halfTotal isFar) (fun (thrown' : Int32) (many' : Nat → Int32) (isWide' : Nat → Int32) (amountOf' : Nat → UInt64) (accountOf' : Nat → Int32) (dayOf' : Nat → Int32) (given' : Nat → Int32) => mW h0 ad ta thrown' many' isWide' amountOf' accountOf' dayOf' given' givenOf runs runWide runWay runTotal runSteps lefts rights results wide dn stepsAt keeps order att spareAmount spareAccount spareDay cured cureOf shareOf big unitsOf spare halfFrom halfMany halfDone halfTotal isFar) 0 0 K := by
  refine x_sti7 hlt (plainFor_of_name (by decide +kernel)) (Nat.le_of_ble_eq_true rfl) (fun g G hl hD hT Q => ?_)
  subst hl; subst hD; subst hT
  unfold wX3_ledger at h
  show X g 4 0 [(0, .ref h0), (1, .int p0), (2, .int p1), (3, .int p2)] [] (mW h0 ad (xT g) thrown many isWide amountOf accountOf dayOf given givenOf runs runWide runWay runTotal runSteps lefts rights results wide dn stepsAt keeps order att spareAmount spareAccount spareDay cured cureOf shareOf big unitsOf spare halfFrom halfMany halfDone halfTotal isFar) 0 0
  refine x_aload_n G rfl dX3_ledger_0 0 rfl ?_
  refine x_iconst (v := (0 : Int32)) G dX3_ledger_1 (by decide) ?_
  refine m_put_0 G dX3_ledger_2 ?_
  refine x_iload_n G rfl dX3_ledger_5 1 rfl ?_
  refine x_i2l G dX3_ledger_6 ?_
  refine x_lconst (v := (0 : Int64)) G dX3_ledger_7 (by decide) ?_
  refine x_ldc2 G q1649 dX3_ledger_8 ?_
  refine x_cPi (As := [.long p0.toInt64, .long (0 : Int64), .long (11 : Int64)]) (rest := []) G (tX3_in G.noTraces h) (lw_S q1650 q1651 q70 q1652) cdX3_in (by decide) (by decide) rfl (Nat.le_of_ble_eq_true rfl) (Nat.zero_le _) (Nat.zero_le _) dX3_ledger_11 (fun r_1 h => ?_)
  refine x_if_ne (tgt := 23) G dX3_ledger_14 rfl (fun c => ?_) (fun c => ?_)
  · replace h := h.1 c
    refine x_iload_n G rfl dX3_ledger_23 3 rfl ?_
    refine x_bipush (v := (60 : Int32)) G dX3_ledger_24 (by decide) ?_
    refine x_icmp_le (tgt := 32) G dX3_ledger_26 rfl (fun c => ?_) (fun c => ?_)
    · replace h := h.1 c
      refine x_iload_n G rfl dX3_ledger_32 3 rfl ?_
      refine x_if_ge (tgt := 42) G dX3_ledger_33 rfl (fun c => ?_) (fun c => ?_)
      · replace h := h.1 c
        refine x_aload_n G rfl dX3_ledger_42 0 rfl ?_
        refine x_iload_n G rfl dX3_ledger_43 1 rfl ?_
        refine x_iload_n G rfl dX3_ledger_44 2 rfl ?_
        refine x_iload_n G rfl dX3_ledger_45 3 rfl ?_
        refine x_cVv6 (As := [.int p0, .int p1, .int p2]) (rest := []) G [] XSub.rf (tX3_fresh G.noTraces h) (lw_V q1657 q1659 qs19 q70 q1660) cdX3_fresh 3 0 rfl rfl rfl (by decide) (by decide) rfl (Nat.le_of_ble_eq_true rfl) (Nat.zero_le _) (Nat.zero_le _) dX3_ledger_46 (fun many_2 isWide_3 amountOf_4 accountOf_5 dayOf_6 given_7 h => ?_)
        show X g 4 49 [(0, .ref h0), (1, .int p0), (2, .int p1), (3, .int p2)] [] (mW h0 ad (xT g) (0 : Int32) many_2 isWide_3 amountOf_4 accountOf_5 dayOf_6 given_7 givenOf runs runWide runWay runTotal runSteps lefts rights results wide dn stepsAt keeps order att spareAmount spareAccount spareDay cured cureOf shareOf big unitsOf spare halfFrom halfMany halfDone halfTotal isFar) 0 0
        refine x_iload_n G rfl dX3_ledger_49 3 rfl ?_
        exact x_reti7 G Q dX3_ledger_50 rfl (0 : Int32) many_2 isWide_3 amountOf_4 accountOf_5 dayOf_6 given_7 h XSub.rf (Nat.le_refl _) (Nat.le_refl _)
      · replace h := h.2 c
        refine x_aload_n G rfl dX3_ledger_36 0 rfl ?_
        refine x_iconst (v := (2 : Int32)) G dX3_ledger_37 (by decide) ?_
        refine x_cVi1 (As := [.int (2 : Int32)]) (rest := []) G [] XSub.rf (tX3_raise G.noTraces h) (lw_V q1653 q1655 qs18 q70 q1656) cdX3_raise 3 0 rfl rfl rfl (by decide) (by decide) rfl (Nat.le_of_ble_eq_true rfl) (Nat.zero_le _) (Nat.zero_le _) dX3_ledger_38 (fun r_8 thrown_9 h => ?_)
        show X g 4 41 [(0, .ref h0), (1, .int p0), (2, .int p1), (3, .int p2)] [.int r_8] (mW h0 ad (xT g) thrown_9 many isWide amountOf accountOf dayOf given givenOf runs runWide runWay runTotal runSteps lefts rights results wide dn stepsAt keeps order att spareAmount spareAccount spareDay cured cureOf shareOf big unitsOf spare halfFrom halfMany halfDone halfTotal isFar) 0 0
        exact x_reti7 G Q dX3_ledger_41 rfl thrown_9 many isWide amountOf accountOf dayOf given h XSub.rf (Nat.le_refl _) (Nat.le_refl _)
    · replace h := h.2 c
      refine x_bipush (v := (-102 : Int32)) G dX3_ledger_29 (by decide) ?_
      exact x_reti7 G Q dX3_ledger_31 rfl (0 : Int32) many isWide amountOf accountOf dayOf given h XSub.rf (Nat.le_refl _) (Nat.le_refl _)
  · replace h := h.2 c
    refine x_aload_n G rfl dX3_ledger_17 0 rfl ?_
    refine x_iconst (v := (1 : Int32)) G dX3_ledger_18 (by decide) ?_
    refine x_cVi1 (As := [.int (1 : Int32)]) (rest := []) G [] XSub.rf (tX3_raise G.noTraces h) (lw_V q1653 q1655 qs18 q70 q1656) cdX3_raise 3 0 rfl rfl rfl (by decide) (by decide) rfl (Nat.le_of_ble_eq_true rfl) (Nat.zero_le _) (Nat.zero_le _) dX3_ledger_19 (fun r_10 thrown_11 h => ?_)
    show X g 4 22 [(0, .ref h0), (1, .int p0), (2, .int p1), (3, .int p2)] [.int r_10] (mW h0 ad (xT g) thrown_11 many isWide amountOf accountOf dayOf given givenOf runs runWide runWay runTotal runSteps lefts rights results wide dn stepsAt keeps order att spareAmount spareAccount spareDay cured cureOf shareOf big unitsOf spare halfFrom halfMany halfDone halfTotal isFar) 0 0
    exact x_reti7 G Q dX3_ledger_22 rfl thrown_11 many isWide amountOf accountOf dayOf given h XSub.rf (Nat.le_refl _) (Nat.le_refl _)
theorem cdX3_faultOf : yX3_faultOf.cls = RX3 ∧ yX3_faultOf.cls ≠ "java/lang/invoke/MethodHandle" ∧ yX3_faultOf.cls ≠ "java/lang/invoke/VarHandle" ∧ (parseMethodDescriptor yX3_faultOf.desc).map (fun d => d.parameters.length) = some 1 := by decide +kernel
def wX3_faultOf (p0 : Int32) (many : Nat → Int32) (K : Int32 → Prop) : Prop := (wX3_in p0.toInt64 (0 : Int64) (11 : Int64) (fun (r_1 : Int32) => ((¬ r_1 = (0 : Int32) → (vp_in p0 12 ∧ (((0 : Int32) ≤ (many p0.toNatClampNeg) → K (0 : Int32)) ∧ (¬ (0 : Int32) ≤ (many p0.toNatClampNeg) → K (1 : Int32))))) ∧ (r_1 = (0 : Int32) → K (2 : Int32)))))
set_option maxRecDepth 20000 in
theorem tX3_faultOf {l : Launch} {D : va_G} {ta : Nat → ClassId} {h0 : Nat} {ad : Nat → Nat} {thrown : Int32} {many : Nat → Int32} {isWide : Nat → Int32} {amountOf : Nat → UInt64} {accountOf : Nat → Int32} {dayOf : Nat → Int32} {given : Nat → Int32} {givenOf : Nat → Int32} {runs : Int32} {runWide : Nat → Int32} {runWay : Nat → Int32} {runTotal : Nat → UInt64} {runSteps : Nat → Int32} {lefts : Nat → UInt64} {rights : Nat → UInt64} {results : Nat → UInt64} {wide : Int32} {dn : Int32} {stepsAt : Int32} {keeps : Int32} {order : Nat → Int32} {att : Nat → UInt64} {spareAmount : Nat → UInt64} {spareAccount : Nat → Int32} {spareDay : Nat → Int32} {cured : Int32} {cureOf : Nat → Int32} {shareOf : Nat → Int32} {big : Nat → Int32} {unitsOf : Int64} {spare : Int32} {halfFrom : Nat → Int32} {halfMany : Nat → Int32} {halfDone : Nat → Int32} {halfTotal : Nat → UInt64} {isFar : Int32} {p0 : Int32} {K : Int32 → Prop} (hlt : l.stackTraces = false) (h : wX3_faultOf p0 many K) : SMi0 l D ta yX3_faultOf cX3_faultOf 2 FieldType.int 2 [.ref h0, .int p0] (mW h0 ad ta thrown many isWide amountOf accountOf dayOf given givenOf runs runWide runWay runTotal runSteps lefts rights results wide dn stepsAt keeps order att spareAmount spareAccount spareDay cured cureOf shareOf big unitsOf spare halfFrom halfMany halfDone halfTotal isFar) (mW h0 ad ta thrown many isWide amountOf accountOf dayOf given givenOf runs runWide runWay runTotal runSteps lefts rights results wide dn stepsAt keeps order att spareAmount spareAccount spareDay cured cureOf shareOf big unitsOf spare halfFrom halfMany halfDone halfTotal isFar) 0 0 K := by
  refine x_sti0 hlt (plainFor_of_name (by decide +kernel)) (Nat.le_of_ble_eq_true rfl) (fun g G hl hD hT Q => ?_)
  subst hl; subst hD; subst hT
  unfold wX3_faultOf at h
  show X g 2 0 [(0, .ref h0), (1, .int p0)] [] (mW h0 ad (xT g) thrown many isWide amountOf accountOf dayOf given givenOf runs runWide runWay runTotal runSteps lefts rights results wide dn stepsAt keeps order att spareAmount spareAccount spareDay cured cureOf shareOf big unitsOf spare halfFrom halfMany halfDone halfTotal isFar) 0 0
  refine x_iload_n G rfl dX3_faultOf_0 1 rfl ?_
  refine x_i2l G dX3_faultOf_1 ?_
  refine x_lconst (v := (0 : Int64)) G dX3_faultOf_2 (by decide) ?_
  refine x_ldc2 G q1649 dX3_faultOf_3 ?_
  refine x_cPi (As := [.long p0.toInt64, .long (0 : Int64), .long (11 : Int64)]) (rest := []) G (tX3_in G.noTraces h) (lw_S q1650 q1651 q70 q1652) cdX3_in (by decide) (by decide) rfl (Nat.le_of_ble_eq_true rfl) (Nat.zero_le _) (Nat.zero_le _) dX3_faultOf_6 (fun r_1 h => ?_)
  refine x_if_ne (tgt := 16) G dX3_faultOf_9 rfl (fun c => ?_) (fun c => ?_)
  · replace h := h.1 c
    refine x_aload_n G rfl dX3_faultOf_16 0 rfl ?_
    refine m_get_1 G dX3_faultOf_17 ?_
    refine x_iload_n G rfl dX3_faultOf_20 1 rfl ?_
    obtain ⟨hz, h⟩ := h
    refine m_ald_1 G hz dX3_faultOf_21 ?_
    refine x_if_ge (tgt := 29) G dX3_faultOf_22 rfl (fun c => ?_) (fun c => ?_)
    · replace h := h.1 c
      refine x_iconst (v := (0 : Int32)) G dX3_faultOf_29 (by decide) ?_
      exact x_reti0 G Q dX3_faultOf_30 rfl  h XSub.rf (Nat.le_refl _) (Nat.le_refl _)
    · replace h := h.2 c
      refine x_iconst (v := (1 : Int32)) G dX3_faultOf_25 (by decide) ?_
      refine x_goto (tgt := 30) G dX3_faultOf_26 rfl ?_
      exact x_reti0 G Q dX3_faultOf_30 rfl  h XSub.rf (Nat.le_refl _) (Nat.le_refl _)
  · replace h := h.2 c
    refine x_iconst (v := (2 : Int32)) G dX3_faultOf_12 (by decide) ?_
    refine x_goto (tgt := 30) G dX3_faultOf_13 rfl ?_
    exact x_reti0 G Q dX3_faultOf_30 rfl  h XSub.rf (Nat.le_refl _) (Nat.le_refl _)
theorem cdX3_faultAt : yX3_faultAt.cls = RX3 ∧ yX3_faultAt.cls ≠ "java/lang/invoke/MethodHandle" ∧ yX3_faultAt.cls ≠ "java/lang/invoke/VarHandle" ∧ (parseMethodDescriptor yX3_faultAt.desc).map (fun d => d.parameters.length) = some 2 := by decide +kernel
def wX3_faultAt (p0 : Int32) (p1 : Int32) (many : Nat → Int32) (K : Int32 → Prop) : Prop := (wX3_faultOf p0 many (fun (r_1 : Int32) => ((r_1 = (0 : Int32) → (vp_in p0 12 ∧ (wX3_in p1.toInt64 (0 : Int64) (((many p0.toNatClampNeg) - (1 : Int32)).toInt64) (fun (r_2 : Int32) => ((r_2 = (0 : Int32) → K (2 : Int32)) ∧ (¬ r_2 = (0 : Int32) → K (0 : Int32))))))) ∧ (¬ r_1 = (0 : Int32) → K r_1))))
set_option maxRecDepth 20000 in
theorem tX3_faultAt {l : Launch} {D : va_G} {ta : Nat → ClassId} {h0 : Nat} {ad : Nat → Nat} {thrown : Int32} {many : Nat → Int32} {isWide : Nat → Int32} {amountOf : Nat → UInt64} {accountOf : Nat → Int32} {dayOf : Nat → Int32} {given : Nat → Int32} {givenOf : Nat → Int32} {runs : Int32} {runWide : Nat → Int32} {runWay : Nat → Int32} {runTotal : Nat → UInt64} {runSteps : Nat → Int32} {lefts : Nat → UInt64} {rights : Nat → UInt64} {results : Nat → UInt64} {wide : Int32} {dn : Int32} {stepsAt : Int32} {keeps : Int32} {order : Nat → Int32} {att : Nat → UInt64} {spareAmount : Nat → UInt64} {spareAccount : Nat → Int32} {spareDay : Nat → Int32} {cured : Int32} {cureOf : Nat → Int32} {shareOf : Nat → Int32} {big : Nat → Int32} {unitsOf : Int64} {spare : Int32} {halfFrom : Nat → Int32} {halfMany : Nat → Int32} {halfDone : Nat → Int32} {halfTotal : Nat → UInt64} {isFar : Int32} {p0 : Int32} {p1 : Int32} {K : Int32 → Prop} (hlt : l.stackTraces = false) (h : wX3_faultAt p0 p1 many K) : SMi0 l D ta yX3_faultAt cX3_faultAt 4 FieldType.int 3 [.ref h0, .int p0, .int p1] (mW h0 ad ta thrown many isWide amountOf accountOf dayOf given givenOf runs runWide runWay runTotal runSteps lefts rights results wide dn stepsAt keeps order att spareAmount spareAccount spareDay cured cureOf shareOf big unitsOf spare halfFrom halfMany halfDone halfTotal isFar) (mW h0 ad ta thrown many isWide amountOf accountOf dayOf given givenOf runs runWide runWay runTotal runSteps lefts rights results wide dn stepsAt keeps order att spareAmount spareAccount spareDay cured cureOf shareOf big unitsOf spare halfFrom halfMany halfDone halfTotal isFar) 0 0 K := by
  refine x_sti0 hlt (plainFor_of_name (by decide +kernel)) (Nat.le_of_ble_eq_true rfl) (fun g G hl hD hT Q => ?_)
  subst hl; subst hD; subst hT
  unfold wX3_faultAt at h
  show X g 4 0 [(0, .ref h0), (1, .int p0), (2, .int p1)] [] (mW h0 ad (xT g) thrown many isWide amountOf accountOf dayOf given givenOf runs runWide runWay runTotal runSteps lefts rights results wide dn stepsAt keeps order att spareAmount spareAccount spareDay cured cureOf shareOf big unitsOf spare halfFrom halfMany halfDone halfTotal isFar) 0 0
  refine x_aload_n G rfl dX3_faultAt_0 0 rfl ?_
  refine x_iload_n G rfl dX3_faultAt_1 1 rfl ?_
  refine x_cVi0 (As := [.int p0]) (rest := []) G [] XSub.rf (tX3_faultOf G.noTraces h) (lw_V q1669 q1671 qs21 q70 q1672) cdX3_faultOf 3 0 rfl rfl rfl (by decide) (by decide) rfl (Nat.le_of_ble_eq_true rfl) (Nat.zero_le _) (Nat.zero_le _) dX3_faultAt_2 (fun r_1 h => ?_)
  show X g 4 5 [(0, .ref h0), (1, .int p0), (2, .int p1)] [.int r_1] (mW h0 ad (xT g) thrown many isWide amountOf accountOf dayOf given givenOf runs runWide runWay runTotal runSteps lefts rights results wide dn stepsAt keeps order att spareAmount spareAccount spareDay cured cureOf shareOf big unitsOf spare halfFrom halfMany halfDone halfTotal isFar) 0 0
  refine x_istore_n (lv' := [(3, .int r_1), (0, .ref h0), (1, .int p0), (2, .int p1)]) G rfl dX3_faultAt_5 (by decide) rfl ?_
  refine x_iload_n G rfl dX3_faultAt_6 0 rfl ?_
  refine x_if_eq (tgt := 14) G dX3_faultAt_7 rfl (fun c => ?_) (fun c => ?_)
  · replace h := h.1 c
    refine x_iload_n G rfl dX3_faultAt_14 3 rfl ?_
    refine x_i2l G dX3_faultAt_15 ?_
    refine x_lconst (v := (0 : Int64)) G dX3_faultAt_16 (by decide) ?_
    refine x_aload_n G rfl dX3_faultAt_17 1 rfl ?_
    refine m_get_1 G dX3_faultAt_18 ?_
    refine x_iload_n G rfl dX3_faultAt_21 2 rfl ?_
    obtain ⟨hz, h⟩ := h
    refine m_ald_1 G hz dX3_faultAt_22 ?_
    refine x_iconst (v := (1 : Int32)) G dX3_faultAt_23 (by decide) ?_
    refine x_isub G dX3_faultAt_24 ?_
    refine x_i2l G dX3_faultAt_25 ?_
    refine x_cPi (As := [.long p1.toInt64, .long (0 : Int64), .long ((many p0.toNatClampNeg) - (1 : Int32)).toInt64]) (rest := []) G (tX3_in G.noTraces h) (lw_S q1650 q1651 q70 q1652) cdX3_in (by decide) (by decide) rfl (Nat.le_of_ble_eq_true rfl) (Nat.zero_le _) (Nat.zero_le _) dX3_faultAt_26 (fun r_2 h => ?_)
    refine x_if_eq (tgt := 36) G dX3_faultAt_29 rfl (fun c => ?_) (fun c => ?_)
    · replace h := h.1 c
      refine x_iconst (v := (2 : Int32)) G dX3_faultAt_36 (by decide) ?_
      exact x_reti0 G Q dX3_faultAt_37 rfl  h XSub.rf (Nat.le_refl _) (Nat.le_refl _)
    · replace h := h.2 c
      refine x_iconst (v := (0 : Int32)) G dX3_faultAt_32 (by decide) ?_
      refine x_goto (tgt := 37) G dX3_faultAt_33 rfl ?_
      exact x_reti0 G Q dX3_faultAt_37 rfl  h XSub.rf (Nat.le_refl _) (Nat.le_refl _)
  · replace h := h.2 c
    refine x_iload_n G rfl dX3_faultAt_10 0 rfl ?_
    refine x_goto (tgt := 37) G dX3_faultAt_11 rfl ?_
    exact x_reti0 G Q dX3_faultAt_37 rfl  h XSub.rf (Nat.le_refl _) (Nat.le_refl _)
theorem cdX3_set : yX3_set.cls = RX3 ∧ yX3_set.cls ≠ "java/lang/invoke/MethodHandle" ∧ yX3_set.cls ≠ "java/lang/invoke/VarHandle" ∧ (parseMethodDescriptor yX3_set.desc).map (fun d => d.parameters.length) = some 3 := by decide +kernel
def wX3_set_J103 (amountOf : Nat → UInt64) (p0 : Int32) (p1 : Int32) (thrown_3 : Int32) (K : Int32 → Int32 → (Nat → UInt64) → Prop) : UInt64 → Prop := fun (s_4 : UInt64) => ((dgt s_4 (5057542381537067008 : UInt64) → K (-102 : Int32) thrown_3 amountOf) ∧ (¬ dgt s_4 (5057542381537067008 : UInt64) → ((¬ dlt s_4 (14280914418391842816 : UInt64) → (vp_in (((60 : Int32) * p0) + p1) 720 ∧ (∀ amountOf_5 : Nat → UInt64, amountOf_5 = vf_upd amountOf (((60 : Int32) * p0) + p1).toNatClampNeg s_4 → K (1 : Int32) thrown_3 amountOf_5))) ∧ (dlt s_4 (14280914418391842816 : UInt64) → K (-102 : Int32) thrown_3 amountOf))))
def wX3_set_J71 (isWide : Nat → Int32) (amountOf : Nat → UInt64) (p0 : Int32) (p1 : Int32) (p2 : Int64) (K : Int32 → Int32 → (Nat → UInt64) → Prop) : Int32 → Int32 → Prop := fun (s_2 : Int32) (thrown_3 : Int32) => ((¬ s_2 = (0 : Int32) → (vp_in p0 12 ∧ (((isWide p0.toNatClampNeg) = (0 : Int32) → (vn_sni2f p2.toInt32 = false ∧ (vf_n64 (FP.f2d p2.toInt32.toUInt32) ∧ (wX3_set_J103 amountOf p0 p1 thrown_3 K (FP.f2d p2.toInt32.toUInt32))))) ∧ (¬ (isWide p0.toNatClampNeg) = (0 : Int32) → (vn_snl2d p2 = false ∧ (wX3_set_J103 amountOf p0 p1 thrown_3 K p2.toUInt64)))))) ∧ (s_2 = (0 : Int32) → K (-102 : Int32) thrown_3 amountOf))
def wX3_set (p0 : Int32) (p1 : Int32) (p2 : Int64) (thrown : Int32) (many : Nat → Int32) (isWide : Nat → Int32) (amountOf : Nat → UInt64) (K : Int32 → Int32 → (Nat → UInt64) → Prop) : Prop := (wX3_faultAt p0 p1 many (fun (r_1 : Int32) => ((r_1 = (0 : Int32) → (vp_in p0 12 ∧ (((isWide p0.toNatClampNeg) = (0 : Int32) → ((((jishr p2.toInt32 (23 : Int32)) &&& (255 : Int32)) = (255 : Int32) → (wX3_set_J71 isWide amountOf p0 p1 p2 K (0 : Int32) r_1)) ∧ (¬ ((jishr p2.toInt32 (23 : Int32)) &&& (255 : Int32)) = (255 : Int32) → (wX3_set_J71 isWide amountOf p0 p1 p2 K (1 : Int32) r_1)))) ∧ (¬ (isWide p0.toNatClampNeg) = (0 : Int32) → ((((jlshr p2 (52 : Int32)) &&& (2047 : Int64)) = (2047 : Int64) → (wX3_set_J71 isWide amountOf p0 p1 p2 K (0 : Int32) r_1)) ∧ (¬ ((jlshr p2 (52 : Int32)) &&& (2047 : Int64)) = (2047 : Int64) → (wX3_set_J71 isWide amountOf p0 p1 p2 K (1 : Int32) r_1))))))) ∧ (¬ r_1 = (0 : Int32) → K (0 : Int32) r_1 amountOf))))
set_option maxRecDepth 20000 in
theorem kX3_set_J103 {g : XG} {h0 : Nat} {ad : Nat → Nat} {many : Nat → Int32} {isWide : Nat → Int32} {amountOf : Nat → UInt64} {accountOf : Nat → Int32} {dayOf : Nat → Int32} {given : Nat → Int32} {givenOf : Nat → Int32} {runs : Int32} {runWide : Nat → Int32} {runWay : Nat → Int32} {runTotal : Nat → UInt64} {runSteps : Nat → Int32} {lefts : Nat → UInt64} {rights : Nat → UInt64} {results : Nat → UInt64} {wide : Int32} {dn : Int32} {stepsAt : Int32} {keeps : Int32} {order : Nat → Int32} {att : Nat → UInt64} {spareAmount : Nat → UInt64} {spareAccount : Nat → Int32} {spareDay : Nat → Int32} {cured : Int32} {cureOf : Nat → Int32} {shareOf : Nat → Int32} {big : Nat → Int32} {unitsOf : Int64} {spare : Int32} {halfFrom : Nat → Int32} {halfMany : Nat → Int32} {halfDone : Nat → Int32} {halfTotal : Nat → UInt64} {isFar : Int32} {p0 : Int32} {p1 : Int32} {thrown_3 : Int32} {K : Int32 → Int32 → (Nat → UInt64) → Prop} (G : XO g RX3 cX3_set 8 4 0 0) (Q : XQi2 g FieldType.int 0 0 (fun (thrown' : Int32) (amountOf' : Nat → UInt64) => mW h0 ad (xT g) thrown' many isWide amountOf' accountOf dayOf given givenOf runs runWide runWay runTotal runSteps lefts rights results wide dn stepsAt keeps order att spareAmount spareAccount spareDay cured cureOf shareOf big unitsOf spare halfFrom halfMany halfDone halfTotal isFar) K) : ∀ (s_4 : UInt64), wX3_set_J103 amountOf p0 p1 thrown_3 K s_4 → X g 8 103 [(0, .ref h0), (1, .int p0), (2, .int p1)] [.double s_4] (mW h0 ad (xT g) thrown_3 many isWide amountOf accountOf dayOf given givenOf runs runWide runWay runTotal runSteps lefts rights results wide dn stepsAt keeps order att spareAmount spareAccount spareDay cured cureOf shareOf big unitsOf spare halfFrom halfMany halfDone halfTotal isFar) 0 0 := by
  intro s_4 h
  unfold wX3_set_J103 at h
  refine x_dstore (lv' := [(6, .double s_4), (0, .ref h0), (1, .int p0), (2, .int p1)]) G dX3_set_103 (by decide) rfl ?_
  refine x_dload G dX3_set_105 0 rfl ?_
  refine x_ldc2d G q1676 dX3_set_107 ?_
  refine x_dcmpl_gt (tgt := 123) G dX3_set_110 dX3_set_111 rfl (fun c => ?_) (fun c => ?_)
  · replace h := h.1 c
    refine x_bipush (v := (-102 : Int32)) G dX3_set_123 (by decide) ?_
    exact x_reti2 G Q dX3_set_125 rfl thrown_3 amountOf h XSub.rf (Nat.le_refl _) (Nat.le_refl _)
  · replace h := h.2 c
    refine x_dload G dX3_set_114 0 rfl ?_
    refine x_ldc2d G q1677 dX3_set_116 ?_
    refine x_dcmpg_ge (tgt := 126) G dX3_set_119 dX3_set_120 rfl (fun c => ?_) (fun c => ?_)
    · replace h := h.1 c
      refine x_aload_n G rfl dX3_set_126 1 rfl ?_
      refine m_get_3 G dX3_set_127 ?_
      refine x_bipush (v := (60 : Int32)) G dX3_set_130 (by decide) ?_
      refine x_iload_n G rfl dX3_set_132 2 rfl ?_
      refine x_imul G dX3_set_133 ?_
      refine x_iload_n G rfl dX3_set_134 3 rfl ?_
      refine x_iadd G dX3_set_135 ?_
      refine x_dload G dX3_set_136 0 rfl ?_
      obtain ⟨hz, h⟩ := h
      refine m_ast_3 G hz dX3_set_138 (fun amountOf_5 eamountOf_5 => ?_)
      replace h := h amountOf_5 eamountOf_5
      refine x_iconst (v := (1 : Int32)) G dX3_set_139 (by decide) ?_
      exact x_reti2 G Q dX3_set_140 rfl thrown_3 amountOf_5 h XSub.rf (Nat.le_refl _) (Nat.le_refl _)
    · replace h := h.2 c
      refine x_bipush (v := (-102 : Int32)) G dX3_set_123 (by decide) ?_
      exact x_reti2 G Q dX3_set_125 rfl thrown_3 amountOf h XSub.rf (Nat.le_refl _) (Nat.le_refl _)
set_option maxRecDepth 20000 in
theorem kX3_set_J71 {g : XG} {h0 : Nat} {ad : Nat → Nat} {many : Nat → Int32} {isWide : Nat → Int32} {amountOf : Nat → UInt64} {accountOf : Nat → Int32} {dayOf : Nat → Int32} {given : Nat → Int32} {givenOf : Nat → Int32} {runs : Int32} {runWide : Nat → Int32} {runWay : Nat → Int32} {runTotal : Nat → UInt64} {runSteps : Nat → Int32} {lefts : Nat → UInt64} {rights : Nat → UInt64} {results : Nat → UInt64} {wide : Int32} {dn : Int32} {stepsAt : Int32} {keeps : Int32} {order : Nat → Int32} {att : Nat → UInt64} {spareAmount : Nat → UInt64} {spareAccount : Nat → Int32} {spareDay : Nat → Int32} {cured : Int32} {cureOf : Nat → Int32} {shareOf : Nat → Int32} {big : Nat → Int32} {unitsOf : Int64} {spare : Int32} {halfFrom : Nat → Int32} {halfMany : Nat → Int32} {halfDone : Nat → Int32} {halfTotal : Nat → UInt64} {isFar : Int32} {p0 : Int32} {p1 : Int32} {p2 : Int64} {K : Int32 → Int32 → (Nat → UInt64) → Prop} (G : XO g RX3 cX3_set 8 4 0 0) (Q : XQi2 g FieldType.int 0 0 (fun (thrown' : Int32) (amountOf' : Nat → UInt64) => mW h0 ad (xT g) thrown' many isWide amountOf' accountOf dayOf given givenOf runs runWide runWay runTotal runSteps lefts rights results wide dn stepsAt keeps order att spareAmount spareAccount spareDay cured cureOf shareOf big unitsOf spare halfFrom halfMany halfDone halfTotal isFar) K) : ∀ (s_2 : Int32) (thrown_3 : Int32), wX3_set_J71 isWide amountOf p0 p1 p2 K s_2 thrown_3 → X g 8 71 [(0, .ref h0), (1, .int p0), (2, .int p1), (3, .long p2)] [.int s_2] (mW h0 ad (xT g) thrown_3 many isWide amountOf accountOf dayOf given givenOf runs runWide runWay runTotal runSteps lefts rights results wide dn stepsAt keeps order att spareAmount spareAccount spareDay cured cureOf shareOf big unitsOf spare halfFrom halfMany halfDone halfTotal isFar) 0 0 := by
  intro s_2 thrown_3 h
  unfold wX3_set_J71 at h
  refine x_istore (lv' := [(5, .int s_2), (0, .ref h0), (1, .int p0), (2, .int p1), (3, .long p2)]) G dX3_set_71 (by decide) rfl ?_
  refine x_iload G dX3_set_73 0 rfl ?_
  refine x_if_ne (tgt := 81) G dX3_set_75 rfl (fun c => ?_) (fun c => ?_)
  · replace h := h.1 c
    refine x_aload_n G rfl dX3_set_81 1 rfl ?_
    refine m_get_2 G dX3_set_82 ?_
    refine x_iload_n G rfl dX3_set_85 2 rfl ?_
    obtain ⟨hz, h⟩ := h
    refine m_ald_2 G hz dX3_set_86 ?_
    refine x_if_eq (tgt := 97) G dX3_set_87 rfl (fun c => ?_) (fun c => ?_)
    · replace h := h.1 c
      refine x_lload_n G rfl dX3_set_97 4 rfl ?_
      refine x_l2i G dX3_set_98 ?_
      obtain ⟨hz, h⟩ := h
      refine x_ni2f G q1675 q588 q587 q83 hz (by decide) (Nat.le_of_ble_eq_true rfl) dX3_set_99 ?_
      obtain ⟨hz, h⟩ := h
      refine x_f2d G dX3_set_102 hz ?_
      refine x_lv (lv' := [(0, .ref h0), (1, .int p0), (2, .int p1)]) [1, 2, 3] rfl ?_
      refine kX3_set_J103 G Q  _ h
    · replace h := h.2 c
      refine x_lload_n G rfl dX3_set_90 4 rfl ?_
      obtain ⟨hz, h⟩ := h
      refine x_nl2d G q1674 q314 q313 q84 hz (by decide) (Nat.le_of_ble_eq_true rfl) dX3_set_91 ?_
      refine x_goto (tgt := 103) G dX3_set_94 rfl ?_
      refine x_lv (lv' := [(0, .ref h0), (1, .int p0), (2, .int p1)]) [1, 2, 3] rfl ?_
      refine kX3_set_J103 G Q  _ h
  · replace h := h.2 c
    refine x_bipush (v := (-102 : Int32)) G dX3_set_78 (by decide) ?_
    exact x_reti2 G Q dX3_set_80 rfl thrown_3 amountOf h XSub.rf (Nat.le_refl _) (Nat.le_refl _)
set_option maxRecDepth 20000 in
theorem tX3_set {l : Launch} {D : va_G} {ta : Nat → ClassId} {h0 : Nat} {ad : Nat → Nat} {thrown : Int32} {many : Nat → Int32} {isWide : Nat → Int32} {amountOf : Nat → UInt64} {accountOf : Nat → Int32} {dayOf : Nat → Int32} {given : Nat → Int32} {givenOf : Nat → Int32} {runs : Int32} {runWide : Nat → Int32} {runWay : Nat → Int32} {runTotal : Nat → UInt64} {runSteps : Nat → Int32} {lefts : Nat → UInt64} {rights : Nat → UInt64} {results : Nat → UInt64} {wide : Int32} {dn : Int32} {stepsAt : Int32} {keeps : Int32} {order : Nat → Int32} {att : Nat → UInt64} {spareAmount : Nat → UInt64} {spareAccount : Nat → Int32} {spareDay : Nat → Int32} {cured : Int32} {cureOf : Nat → Int32} {shareOf : Nat → Int32} {big : Nat → Int32} {unitsOf : Int64} {spare : Int32} {halfFrom : Nat → Int32} {halfMany : Nat → Int32} {halfDone : Nat → Int32} {halfTotal : Nat → UInt64} {isFar : Int32} {p0 : Int32} {p1 : Int32} {p2 : Int64} {K : Int32 → Int32 → (Nat → UInt64) → Prop} (hlt : l.stackTraces = false) (h : wX3_set p0 p1 p2 thrown many isWide amountOf K) : SMi2 l D ta yX3_set cX3_set 8 FieldType.int 4 [.ref h0, .int p0, .int p1, .long p2] (mW h0 ad ta thrown many isWide amountOf accountOf dayOf given givenOf runs runWide runWay runTotal runSteps lefts rights results wide dn stepsAt keeps order att spareAmount spareAccount spareDay cured cureOf shareOf big unitsOf spare halfFrom halfMany halfDone halfTotal isFar) (fun (thrown' : Int32) (amountOf' : Nat → UInt64) => mW h0 ad ta thrown' many isWide amountOf' accountOf dayOf given givenOf runs runWide runWay runTotal runSteps lefts rights results wide dn stepsAt keeps order att spareAmount spareAccount spareDay cured cureOf shareOf big unitsOf spare halfFrom halfMany halfDone halfTotal isFar) 0 0 K := by
  refine x_sti2 hlt (plainFor_of_name (by decide +kernel)) (Nat.le_of_ble_eq_true rfl) (fun g G hl hD hT Q => ?_)
  subst hl; subst hD; subst hT
  unfold wX3_set at h
  show X g 8 0 [(0, .ref h0), (1, .int p0), (2, .int p1), (3, .long p2)] [] (mW h0 ad (xT g) thrown many isWide amountOf accountOf dayOf given givenOf runs runWide runWay runTotal runSteps lefts rights results wide dn stepsAt keeps order att spareAmount spareAccount spareDay cured cureOf shareOf big unitsOf spare halfFrom halfMany halfDone halfTotal isFar) 0 0
  refine x_aload_n G rfl dX3_set_0 0 rfl ?_
  refine x_aload_n G rfl dX3_set_1 0 rfl ?_
  refine x_iload_n G rfl dX3_set_2 1 rfl ?_
  refine x_iload_n G rfl dX3_set_3 2 rfl ?_
  refine x_cVi0 (As := [.int p0, .int p1]) (rest := [.ref h0]) G [] XSub.rf (tX3_faultAt G.noTraces h) (lw_V q1665 q1667 qs20 q70 q1668) cdX3_faultAt 3 0 rfl rfl rfl (by decide) (by decide) rfl (Nat.le_of_ble_eq_true rfl) (Nat.zero_le _) (Nat.zero_le _) dX3_set_4 (fun r_1 h => ?_)
  show X g 8 7 [(0, .ref h0), (1, .int p0), (2, .int p1), (3, .long p2)] [.int r_1, .ref h0] (mW h0 ad (xT g) thrown many isWide amountOf accountOf dayOf given givenOf runs runWide runWay runTotal runSteps lefts rights results wide dn stepsAt keeps order att spareAmount spareAccount spareDay cured cureOf shareOf big unitsOf spare halfFrom halfMany halfDone halfTotal isFar) 0 0
  refine m_put_0 G dX3_set_7 ?_
  refine x_aload_n G rfl dX3_set_10 0 rfl ?_
  refine m_get_0 G dX3_set_11 ?_
  refine x_if_eq (tgt := 19) G dX3_set_14 rfl (fun c => ?_) (fun c => ?_)
  · replace h := h.1 c
    refine x_aload_n G rfl dX3_set_19 0 rfl ?_
    refine m_get_2 G dX3_set_20 ?_
    refine x_iload_n G rfl dX3_set_23 1 rfl ?_
    obtain ⟨hz, h⟩ := h
    refine m_ald_2 G hz dX3_set_24 ?_
    refine x_if_eq (tgt := 51) G dX3_set_25 rfl (fun c => ?_) (fun c => ?_)
    · replace h := h.1 c
      refine x_lload_n G rfl dX3_set_51 3 rfl ?_
      refine x_l2i G dX3_set_52 ?_
      refine x_bipush (v := (23 : Int32)) G dX3_set_53 (by decide) ?_
      refine x_ishr G dX3_set_55 ?_
      refine x_sipush (v := (255 : Int32)) G dX3_set_56 (by decide) ?_
      refine x_iand G dX3_set_59 ?_
      refine x_sipush (v := (255 : Int32)) G dX3_set_60 (by decide) ?_
      refine x_icmp_eq (tgt := 70) G dX3_set_63 rfl (fun c => ?_) (fun c => ?_)
      · replace h := h.1 c
        refine x_iconst (v := (0 : Int32)) G dX3_set_70 (by decide) ?_
        refine kX3_set_J71 G Q  _ _ h
      · replace h := h.2 c
        refine x_iconst (v := (1 : Int32)) G dX3_set_66 (by decide) ?_
        refine x_goto (tgt := 71) G dX3_set_67 rfl ?_
        refine kX3_set_J71 G Q  _ _ h
    · replace h := h.2 c
      refine x_lload_n G rfl dX3_set_28 3 rfl ?_
      refine x_bipush (v := (52 : Int32)) G dX3_set_29 (by decide) ?_
      refine x_lshr G dX3_set_31 ?_
      refine x_ldc2 G q1673 dX3_set_32 ?_
      refine x_land G dX3_set_35 ?_
      refine x_ldc2 G q1673 dX3_set_36 ?_
      refine x_lcmp_eq (tgt := 47) G dX3_set_39 dX3_set_40 rfl (fun c => ?_) (fun c => ?_)
      · replace h := h.1 c
        refine x_iconst (v := (0 : Int32)) G dX3_set_47 (by decide) ?_
        refine x_goto (tgt := 71) G dX3_set_48 rfl ?_
        refine kX3_set_J71 G Q  _ _ h
      · replace h := h.2 c
        refine x_iconst (v := (1 : Int32)) G dX3_set_43 (by decide) ?_
        refine x_goto (tgt := 71) G dX3_set_44 rfl ?_
        refine kX3_set_J71 G Q  _ _ h
  · replace h := h.2 c
    refine x_iconst (v := (0 : Int32)) G dX3_set_17 (by decide) ?_
    exact x_reti2 G Q dX3_set_18 rfl r_1 amountOf h XSub.rf (Nat.le_refl _) (Nat.le_refl _)
theorem cdX3_book : yX3_book.cls = RX3 ∧ yX3_book.cls ≠ "java/lang/invoke/MethodHandle" ∧ yX3_book.cls ≠ "java/lang/invoke/VarHandle" ∧ (parseMethodDescriptor yX3_book.desc).map (fun d => d.parameters.length) = some 4 := by decide +kernel
def wX3_book (p0 : Int32) (p1 : Int32) (p2 : Int32) (p3 : Int32) (thrown : Int32) (many : Nat → Int32) (accountOf : Nat → Int32) (dayOf : Nat → Int32) (K : Int32 → Int32 → (Nat → Int32) → (Nat → Int32) → Prop) : Prop := (wX3_in p2.toInt64 (0 : Int64) (9 : Int64) (fun (r_1 : Int32) => ((r_1 = (0 : Int32) → K (-102 : Int32) (0 : Int32) accountOf dayOf) ∧ (¬ r_1 = (0 : Int32) → (wX3_in p3.toInt64 (0 : Int64) (30 : Int64) (fun (r_2 : Int32) => ((¬ r_2 = (0 : Int32) → (wX3_faultAt p0 p1 many (fun (r_3 : Int32) => ((r_3 = (0 : Int32) → (vp_in (((60 : Int32) * p0) + p1) 720 ∧ (∀ accountOf_4 : Nat → Int32, accountOf_4 = upd accountOf (((60 : Int32) * p0) + p1).toNatClampNeg p2 → (vp_in (((60 : Int32) * p0) + p1) 720 ∧ (∀ dayOf_5 : Nat → Int32, dayOf_5 = upd dayOf (((60 : Int32) * p0) + p1).toNatClampNeg p3 → K (1 : Int32) r_3 accountOf_4 dayOf_5))))) ∧ (¬ r_3 = (0 : Int32) → K (0 : Int32) r_3 accountOf dayOf))))) ∧ (r_2 = (0 : Int32) → K (-102 : Int32) (0 : Int32) accountOf dayOf))))))))
set_option maxRecDepth 20000 in
theorem tX3_book {l : Launch} {D : va_G} {ta : Nat → ClassId} {h0 : Nat} {ad : Nat → Nat} {thrown : Int32} {many : Nat → Int32} {isWide : Nat → Int32} {amountOf : Nat → UInt64} {accountOf : Nat → Int32} {dayOf : Nat → Int32} {given : Nat → Int32} {givenOf : Nat → Int32} {runs : Int32} {runWide : Nat → Int32} {runWay : Nat → Int32} {runTotal : Nat → UInt64} {runSteps : Nat → Int32} {lefts : Nat → UInt64} {rights : Nat → UInt64} {results : Nat → UInt64} {wide : Int32} {dn : Int32} {stepsAt : Int32} {keeps : Int32} {order : Nat → Int32} {att : Nat → UInt64} {spareAmount : Nat → UInt64} {spareAccount : Nat → Int32} {spareDay : Nat → Int32} {cured : Int32} {cureOf : Nat → Int32} {shareOf : Nat → Int32} {big : Nat → Int32} {unitsOf : Int64} {spare : Int32} {halfFrom : Nat → Int32} {halfMany : Nat → Int32} {halfDone : Nat → Int32} {halfTotal : Nat → UInt64} {isFar : Int32} {p0 : Int32} {p1 : Int32} {p2 : Int32} {p3 : Int32} {K : Int32 → Int32 → (Nat → Int32) → (Nat → Int32) → Prop} (hlt : l.stackTraces = false) (h : wX3_book p0 p1 p2 p3 thrown many accountOf dayOf K) : SMi3 l D ta yX3_book cX3_book 5 FieldType.int 4 [.ref h0, .int p0, .int p1, .int p2, .int p3] (mW h0 ad ta thrown many isWide amountOf accountOf dayOf given givenOf runs runWide runWay runTotal runSteps lefts rights results wide dn stepsAt keeps order att spareAmount spareAccount spareDay cured cureOf shareOf big unitsOf spare halfFrom halfMany halfDone halfTotal isFar) (fun (thrown' : Int32) (accountOf' : Nat → Int32) (dayOf' : Nat → Int32) => mW h0 ad ta thrown' many isWide amountOf accountOf' dayOf' given givenOf runs runWide runWay runTotal runSteps lefts rights results wide dn stepsAt keeps order att spareAmount spareAccount spareDay cured cureOf shareOf big unitsOf spare halfFrom halfMany halfDone halfTotal isFar) 0 0 K := by
  refine x_sti3 hlt (plainFor_of_name (by decide +kernel)) (Nat.le_of_ble_eq_true rfl) (fun g G hl hD hT Q => ?_)
  subst hl; subst hD; subst hT
  unfold wX3_book at h
  show X g 5 0 [(0, .ref h0), (1, .int p0), (2, .int p1), (3, .int p2), (4, .int p3)] [] (mW h0 ad (xT g) thrown many isWide amountOf accountOf dayOf given givenOf runs runWide runWay runTotal runSteps lefts rights results wide dn stepsAt keeps order att spareAmount spareAccount spareDay cured cureOf shareOf big unitsOf spare halfFrom halfMany halfDone halfTotal isFar) 0 0
  refine x_aload_n G rfl dX3_book_0 0 rfl ?_
  refine x_iconst (v := (0 : Int32)) G dX3_book_1 (by decide) ?_
  refine m_put_0 G dX3_book_2 ?_
  refine x_iload_n G rfl dX3_book_5 3 rfl ?_
  refine x_i2l G dX3_book_6 ?_
  refine x_lconst (v := (0 : Int64)) G dX3_book_7 (by decide) ?_
  refine x_ldc2 G q1682 dX3_book_8 ?_
  refine x_cPi (As := [.long p2.toInt64, .long (0 : Int64), .long (9 : Int64)]) (rest := []) G (tX3_in G.noTraces h) (lw_S q1650 q1651 q70 q1652) cdX3_in (by decide) (by decide) rfl (Nat.le_of_ble_eq_true rfl) (Nat.zero_le _) (Nat.zero_le _) dX3_book_11 (fun r_1 h => ?_)
  refine x_if_eq (tgt := 30) G dX3_book_14 rfl (fun c => ?_) (fun c => ?_)
  · replace h := h.1 c
    refine x_bipush (v := (-102 : Int32)) G dX3_book_30 (by decide) ?_
    exact x_reti3 G Q dX3_book_32 rfl (0 : Int32) accountOf dayOf h XSub.rf (Nat.le_refl _) (Nat.le_refl _)
  · replace h := h.2 c
    refine x_iload G dX3_book_17 4 rfl ?_
    refine x_i2l G dX3_book_19 ?_
    refine x_lconst (v := (0 : Int64)) G dX3_book_20 (by decide) ?_
    refine x_ldc2 G q1683 dX3_book_21 ?_
    refine x_cPi (As := [.long p3.toInt64, .long (0 : Int64), .long (30 : Int64)]) (rest := []) G (tX3_in G.noTraces h) (lw_S q1650 q1651 q70 q1652) cdX3_in (by decide) (by decide) rfl (Nat.le_of_ble_eq_true rfl) (Nat.zero_le _) (Nat.zero_le _) dX3_book_24 (fun r_2 h => ?_)
    refine x_if_ne (tgt := 33) G dX3_book_27 rfl (fun c => ?_) (fun c => ?_)
    · replace h := h.1 c
      refine x_aload_n G rfl dX3_book_33 0 rfl ?_
      refine x_aload_n G rfl dX3_book_34 0 rfl ?_
      refine x_iload_n G rfl dX3_book_35 1 rfl ?_
      refine x_iload_n G rfl dX3_book_36 2 rfl ?_
      refine x_cVi0 (As := [.int p0, .int p1]) (rest := [.ref h0]) G [] XSub.rf (tX3_faultAt G.noTraces h) (lw_V q1665 q1667 qs20 q70 q1668) cdX3_faultAt 3 0 rfl rfl rfl (by decide) (by decide) rfl (Nat.le_of_ble_eq_true rfl) (Nat.zero_le _) (Nat.zero_le _) dX3_book_37 (fun r_3 h => ?_)
      show X g 5 40 [(0, .ref h0), (1, .int p0), (2, .int p1), (3, .int p2), (4, .int p3)] [.int r_3, .ref h0] (mW h0 ad (xT g) (0 : Int32) many isWide amountOf accountOf dayOf given givenOf runs runWide runWay runTotal runSteps lefts rights results wide dn stepsAt keeps order att spareAmount spareAccount spareDay cured cureOf shareOf big unitsOf spare halfFrom halfMany halfDone halfTotal isFar) 0 0
      refine m_put_0 G dX3_book_40 ?_
      refine x_aload_n G rfl dX3_book_43 0 rfl ?_
      refine m_get_0 G dX3_book_44 ?_
      refine x_if_eq (tgt := 52) G dX3_book_47 rfl (fun c => ?_) (fun c => ?_)
      · replace h := h.1 c
        refine x_aload_n G rfl dX3_book_52 0 rfl ?_
        refine m_get_4 G dX3_book_53 ?_
        refine x_bipush (v := (60 : Int32)) G dX3_book_56 (by decide) ?_
        refine x_iload_n G rfl dX3_book_58 1 rfl ?_
        refine x_imul G dX3_book_59 ?_
        refine x_iload_n G rfl dX3_book_60 2 rfl ?_
        refine x_iadd G dX3_book_61 ?_
        refine x_iload_n G rfl dX3_book_62 3 rfl ?_
        obtain ⟨hz, h⟩ := h
        refine m_ast_4 G hz dX3_book_63 (fun accountOf_4 eaccountOf_4 => ?_)
        replace h := h accountOf_4 eaccountOf_4
        refine x_aload_n G rfl dX3_book_64 0 rfl ?_
        refine m_get_5 G dX3_book_65 ?_
        refine x_bipush (v := (60 : Int32)) G dX3_book_68 (by decide) ?_
        refine x_iload_n G rfl dX3_book_70 1 rfl ?_
        refine x_imul G dX3_book_71 ?_
        refine x_iload_n G rfl dX3_book_72 2 rfl ?_
        refine x_iadd G dX3_book_73 ?_
        refine x_iload G dX3_book_74 4 rfl ?_
        obtain ⟨hz, h⟩ := h
        refine m_ast_5 G hz dX3_book_76 (fun dayOf_5 edayOf_5 => ?_)
        replace h := h dayOf_5 edayOf_5
        refine x_iconst (v := (1 : Int32)) G dX3_book_77 (by decide) ?_
        exact x_reti3 G Q dX3_book_78 rfl r_3 accountOf_4 dayOf_5 h XSub.rf (Nat.le_refl _) (Nat.le_refl _)
      · replace h := h.2 c
        refine x_iconst (v := (0 : Int32)) G dX3_book_50 (by decide) ?_
        exact x_reti3 G Q dX3_book_51 rfl r_3 accountOf dayOf h XSub.rf (Nat.le_refl _) (Nat.le_refl _)
    · replace h := h.2 c
      refine x_bipush (v := (-102 : Int32)) G dX3_book_30 (by decide) ?_
      exact x_reti3 G Q dX3_book_32 rfl (0 : Int32) accountOf dayOf h XSub.rf (Nat.le_refl _) (Nat.le_refl _)
theorem cdX3_bitsOf : yX3_bitsOf.cls ≠ "java/lang/invoke/MethodHandle" ∧ yX3_bitsOf.cls ≠ "java/lang/invoke/VarHandle" ∧ (parseMethodDescriptor yX3_bitsOf.desc).map (fun d => d.parameters.length) = some 2 := by decide +kernel
def wX3_bitsOf (p0 : Int32) (p1 : UInt64) (K : Int64 → Prop) : Prop := ((p0 = (0 : Int32) → (vf_n32 (FP.d2f p1) ∧ (wJ11_floatToIntBits (FP.d2f p1) (fun (r_1 : Int32) => K r_1.toInt64)))) ∧ (¬ p0 = (0 : Int32) → (wJ12_doubleToLongBits p1 (fun (r_2 : Int64) => K r_2))))
set_option maxRecDepth 20000 in
theorem tX3_bitsOf {l : Launch} {D : va_G} {ta : Nat → ClassId} {p0 : Int32} {p1 : UInt64} {K : Int64 → Prop} (hlt : l.stackTraces = false) (h : wX3_bitsOf p0 p1 K) : SMl0 l D ta yX3_bitsOf cX3_bitsOf 3 FieldType.long 3 [.int p0, .double p1] [] [] 0 0 K := by
  refine x_stl0 hlt (plainFor_of_name (by decide +kernel)) (Nat.le_of_ble_eq_true rfl) (fun g G hl hD hT Q => ?_)
  subst hl; subst hD; subst hT
  unfold wX3_bitsOf at h
  show X g 3 0 [(0, .int p0), (1, .double p1)] [] [] 0 0
  refine x_iload_n G rfl dX3_bitsOf_0 0 rfl ?_
  refine x_if_eq (tgt := 11) G dX3_bitsOf_1 rfl (fun c => ?_) (fun c => ?_)
  · replace h := h.1 c
    refine x_dload_n G rfl dX3_bitsOf_11 1 rfl ?_
    obtain ⟨hz, h⟩ := h
    refine x_d2f G dX3_bitsOf_12 hz ?_
    refine x_cPi (As := [.float (FP.d2f p1)]) (rest := []) G (tJ11_floatToIntBits G.noTraces h) (lw_S q1692 q237 q83 q238) cdJ11_floatToIntBits (by decide) (by decide) rfl (Nat.le_of_ble_eq_true rfl) (Nat.zero_le _) (Nat.zero_le _) dX3_bitsOf_13 (fun r_1 h => ?_)
    refine x_i2l G dX3_bitsOf_16 ?_
    exact x_retl0 G Q dX3_bitsOf_17  h XSub.rf (Nat.le_refl _) (Nat.le_refl _)
  · replace h := h.2 c
    refine x_dload_n G rfl dX3_bitsOf_4 1 rfl ?_
    refine x_cPl (As := [.double p1]) (rest := []) G (tJ12_doubleToLongBits G.noTraces h) (lw_S q1691 q227 q84 q228) cdJ12_doubleToLongBits (by decide) (by decide) rfl (Nat.le_of_ble_eq_true rfl) (Nat.zero_le _) (Nat.zero_le _) dX3_bitsOf_5 (fun r_2 h => ?_)
    refine x_goto (tgt := 17) G dX3_bitsOf_8 rfl ?_
    exact x_retl0 G Q dX3_bitsOf_17  h XSub.rf (Nat.le_refl _) (Nat.le_refl _)
theorem cdX3_amount : yX3_amount.cls = RX3 ∧ yX3_amount.cls ≠ "java/lang/invoke/MethodHandle" ∧ yX3_amount.cls ≠ "java/lang/invoke/VarHandle" ∧ (parseMethodDescriptor yX3_amount.desc).map (fun d => d.parameters.length) = some 2 := by decide +kernel
def wX3_amount (p0 : Int32) (p1 : Int32) (thrown : Int32) (many : Nat → Int32) (isWide : Nat → Int32) (amountOf : Nat → UInt64) (K : Int64 → Int32 → Prop) : Prop := (wX3_faultAt p0 p1 many (fun (r_1 : Int32) => ((r_1 = (0 : Int32) → (vp_in p0 12 ∧ (vp_in (((60 : Int32) * p0) + p1) 720 ∧ (wX3_bitsOf (isWide p0.toNatClampNeg) (amountOf (((60 : Int32) * p0) + p1).toNatClampNeg) (fun (r_2 : Int64) => K r_2 r_1))))) ∧ (¬ r_1 = (0 : Int32) → K (0 : Int64) r_1))))
set_option maxRecDepth 20000 in
theorem tX3_amount {l : Launch} {D : va_G} {ta : Nat → ClassId} {h0 : Nat} {ad : Nat → Nat} {thrown : Int32} {many : Nat → Int32} {isWide : Nat → Int32} {amountOf : Nat → UInt64} {accountOf : Nat → Int32} {dayOf : Nat → Int32} {given : Nat → Int32} {givenOf : Nat → Int32} {runs : Int32} {runWide : Nat → Int32} {runWay : Nat → Int32} {runTotal : Nat → UInt64} {runSteps : Nat → Int32} {lefts : Nat → UInt64} {rights : Nat → UInt64} {results : Nat → UInt64} {wide : Int32} {dn : Int32} {stepsAt : Int32} {keeps : Int32} {order : Nat → Int32} {att : Nat → UInt64} {spareAmount : Nat → UInt64} {spareAccount : Nat → Int32} {spareDay : Nat → Int32} {cured : Int32} {cureOf : Nat → Int32} {shareOf : Nat → Int32} {big : Nat → Int32} {unitsOf : Int64} {spare : Int32} {halfFrom : Nat → Int32} {halfMany : Nat → Int32} {halfDone : Nat → Int32} {halfTotal : Nat → UInt64} {isFar : Int32} {p0 : Int32} {p1 : Int32} {K : Int64 → Int32 → Prop} (hlt : l.stackTraces = false) (h : wX3_amount p0 p1 thrown many isWide amountOf K) : SMl1 l D ta yX3_amount cX3_amount 3 FieldType.long 4 [.ref h0, .int p0, .int p1] (mW h0 ad ta thrown many isWide amountOf accountOf dayOf given givenOf runs runWide runWay runTotal runSteps lefts rights results wide dn stepsAt keeps order att spareAmount spareAccount spareDay cured cureOf shareOf big unitsOf spare halfFrom halfMany halfDone halfTotal isFar) (fun (thrown' : Int32) => mW h0 ad ta thrown' many isWide amountOf accountOf dayOf given givenOf runs runWide runWay runTotal runSteps lefts rights results wide dn stepsAt keeps order att spareAmount spareAccount spareDay cured cureOf shareOf big unitsOf spare halfFrom halfMany halfDone halfTotal isFar) 0 0 K := by
  refine x_stl1 hlt (plainFor_of_name (by decide +kernel)) (Nat.le_of_ble_eq_true rfl) (fun g G hl hD hT Q => ?_)
  subst hl; subst hD; subst hT
  unfold wX3_amount at h
  show X g 3 0 [(0, .ref h0), (1, .int p0), (2, .int p1)] [] (mW h0 ad (xT g) thrown many isWide amountOf accountOf dayOf given givenOf runs runWide runWay runTotal runSteps lefts rights results wide dn stepsAt keeps order att spareAmount spareAccount spareDay cured cureOf shareOf big unitsOf spare halfFrom halfMany halfDone halfTotal isFar) 0 0
  refine x_aload_n G rfl dX3_amount_0 0 rfl ?_
  refine x_aload_n G rfl dX3_amount_1 0 rfl ?_
  refine x_iload_n G rfl dX3_amount_2 1 rfl ?_
  refine x_iload_n G rfl dX3_amount_3 2 rfl ?_
  refine x_cVi0 (As := [.int p0, .int p1]) (rest := [.ref h0]) G [] XSub.rf (tX3_faultAt G.noTraces h) (lw_V q1665 q1667 qs20 q70 q1668) cdX3_faultAt 3 0 rfl rfl rfl (by decide) (by decide) rfl (Nat.le_of_ble_eq_true rfl) (Nat.zero_le _) (Nat.zero_le _) dX3_amount_4 (fun r_1 h => ?_)
  show X g 3 7 [(0, .ref h0), (1, .int p0), (2, .int p1)] [.int r_1, .ref h0] (mW h0 ad (xT g) thrown many isWide amountOf accountOf dayOf given givenOf runs runWide runWay runTotal runSteps lefts rights results wide dn stepsAt keeps order att spareAmount spareAccount spareDay cured cureOf shareOf big unitsOf spare halfFrom halfMany halfDone halfTotal isFar) 0 0
  refine m_put_0 G dX3_amount_7 ?_
  refine x_aload_n G rfl dX3_amount_10 0 rfl ?_
  refine m_get_0 G dX3_amount_11 ?_
  refine x_if_eq (tgt := 21) G dX3_amount_14 rfl (fun c => ?_) (fun c => ?_)
  · replace h := h.1 c
    refine x_aload_n G rfl dX3_amount_21 0 rfl ?_
    refine m_get_2 G dX3_amount_22 ?_
    refine x_iload_n G rfl dX3_amount_25 1 rfl ?_
    obtain ⟨hz, h⟩ := h
    refine m_ald_2 G hz dX3_amount_26 ?_
    refine x_aload_n G rfl dX3_amount_27 0 rfl ?_
    refine m_get_3 G dX3_amount_28 ?_
    refine x_bipush (v := (60 : Int32)) G dX3_amount_31 (by decide) ?_
    refine x_iload_n G rfl dX3_amount_33 1 rfl ?_
    refine x_imul G dX3_amount_34 ?_
    refine x_iload_n G rfl dX3_amount_35 2 rfl ?_
    refine x_iadd G dX3_amount_36 ?_
    obtain ⟨hz, h⟩ := h
    refine m_ald_3 G hz dX3_amount_37 ?_
    refine x_cPl (As := [.int (isWide p0.toNatClampNeg), .double (amountOf (((60 : Int32) * p0) + p1).toNatClampNeg)]) (rest := []) G (tX3_bitsOf G.noTraces h) (lw_S q1688 q1689 q70 q1690) cdX3_bitsOf (by decide) (by decide) rfl (Nat.le_of_ble_eq_true rfl) (Nat.zero_le _) (Nat.zero_le _) dX3_amount_38 (fun r_2 h => ?_)
    exact x_retl1 G Q dX3_amount_41 r_1 h XSub.rf (Nat.le_refl _) (Nat.le_refl _)
  · replace h := h.2 c
    refine x_lconst (v := (0 : Int64)) G dX3_amount_17 (by decide) ?_
    refine x_goto (tgt := 41) G dX3_amount_18 rfl ?_
    exact x_retl1 G Q dX3_amount_41 r_1 h XSub.rf (Nat.le_refl _) (Nat.le_refl _)
theorem cdX3_entry : yX3_entry.cls = RX3 ∧ yX3_entry.cls ≠ "java/lang/invoke/MethodHandle" ∧ yX3_entry.cls ≠ "java/lang/invoke/VarHandle" ∧ (parseMethodDescriptor yX3_entry.desc).map (fun d => d.parameters.length) = some 3 := by decide +kernel
def wX3_entry (p0 : Int32) (p1 : Int32) (p2 : Int32) (thrown : Int32) (many : Nat → Int32) (accountOf : Nat → Int32) (dayOf : Nat → Int32) (K : Int32 → Int32 → Prop) : Prop := (wX3_faultAt p0 p1 many (fun (r_1 : Int32) => ((r_1 = (0 : Int32) → ((¬ p2 = (0 : Int32) → ((¬ p2 = (1 : Int32) → K (-102 : Int32) r_1) ∧ (p2 = (1 : Int32) → (vp_in (((60 : Int32) * p0) + p1) 720 ∧ K (dayOf (((60 : Int32) * p0) + p1).toNatClampNeg) r_1)))) ∧ (p2 = (0 : Int32) → (vp_in (((60 : Int32) * p0) + p1) 720 ∧ K (accountOf (((60 : Int32) * p0) + p1).toNatClampNeg) r_1)))) ∧ (¬ r_1 = (0 : Int32) → K (0 : Int32) r_1))))
set_option maxRecDepth 20000 in
theorem tX3_entry {l : Launch} {D : va_G} {ta : Nat → ClassId} {h0 : Nat} {ad : Nat → Nat} {thrown : Int32} {many : Nat → Int32} {isWide : Nat → Int32} {amountOf : Nat → UInt64} {accountOf : Nat → Int32} {dayOf : Nat → Int32} {given : Nat → Int32} {givenOf : Nat → Int32} {runs : Int32} {runWide : Nat → Int32} {runWay : Nat → Int32} {runTotal : Nat → UInt64} {runSteps : Nat → Int32} {lefts : Nat → UInt64} {rights : Nat → UInt64} {results : Nat → UInt64} {wide : Int32} {dn : Int32} {stepsAt : Int32} {keeps : Int32} {order : Nat → Int32} {att : Nat → UInt64} {spareAmount : Nat → UInt64} {spareAccount : Nat → Int32} {spareDay : Nat → Int32} {cured : Int32} {cureOf : Nat → Int32} {shareOf : Nat → Int32} {big : Nat → Int32} {unitsOf : Int64} {spare : Int32} {halfFrom : Nat → Int32} {halfMany : Nat → Int32} {halfDone : Nat → Int32} {halfTotal : Nat → UInt64} {isFar : Int32} {p0 : Int32} {p1 : Int32} {p2 : Int32} {K : Int32 → Int32 → Prop} (hlt : l.stackTraces = false) (h : wX3_entry p0 p1 p2 thrown many accountOf dayOf K) : SMi1 l D ta yX3_entry cX3_entry 4 FieldType.int 4 [.ref h0, .int p0, .int p1, .int p2] (mW h0 ad ta thrown many isWide amountOf accountOf dayOf given givenOf runs runWide runWay runTotal runSteps lefts rights results wide dn stepsAt keeps order att spareAmount spareAccount spareDay cured cureOf shareOf big unitsOf spare halfFrom halfMany halfDone halfTotal isFar) (fun (thrown' : Int32) => mW h0 ad ta thrown' many isWide amountOf accountOf dayOf given givenOf runs runWide runWay runTotal runSteps lefts rights results wide dn stepsAt keeps order att spareAmount spareAccount spareDay cured cureOf shareOf big unitsOf spare halfFrom halfMany halfDone halfTotal isFar) 0 0 K := by
  refine x_sti1 hlt (plainFor_of_name (by decide +kernel)) (Nat.le_of_ble_eq_true rfl) (fun g G hl hD hT Q => ?_)
  subst hl; subst hD; subst hT
  unfold wX3_entry at h
  show X g 4 0 [(0, .ref h0), (1, .int p0), (2, .int p1), (3, .int p2)] [] (mW h0 ad (xT g) thrown many isWide amountOf accountOf dayOf given givenOf runs runWide runWay runTotal runSteps lefts rights results wide dn stepsAt keeps order att spareAmount spareAccount spareDay cured cureOf shareOf big unitsOf spare halfFrom halfMany halfDone halfTotal isFar) 0 0
  refine x_aload_n G rfl dX3_entry_0 0 rfl ?_
  refine x_aload_n G rfl dX3_entry_1 0 rfl ?_
  refine x_iload_n G rfl dX3_entry_2 1 rfl ?_
  refine x_iload_n G rfl dX3_entry_3 2 rfl ?_
  refine x_cVi0 (As := [.int p0, .int p1]) (rest := [.ref h0]) G [] XSub.rf (tX3_faultAt G.noTraces h) (lw_V q1665 q1667 qs20 q70 q1668) cdX3_faultAt 3 0 rfl rfl rfl (by decide) (by decide) rfl (Nat.le_of_ble_eq_true rfl) (Nat.zero_le _) (Nat.zero_le _) dX3_entry_4 (fun r_1 h => ?_)
  show X g 4 7 [(0, .ref h0), (1, .int p0), (2, .int p1), (3, .int p2)] [.int r_1, .ref h0] (mW h0 ad (xT g) thrown many isWide amountOf accountOf dayOf given givenOf runs runWide runWay runTotal runSteps lefts rights results wide dn stepsAt keeps order att spareAmount spareAccount spareDay cured cureOf shareOf big unitsOf spare halfFrom halfMany halfDone halfTotal isFar) 0 0
  refine m_put_0 G dX3_entry_7 ?_
  refine x_aload_n G rfl dX3_entry_10 0 rfl ?_
  refine m_get_0 G dX3_entry_11 ?_
  refine x_if_eq (tgt := 21) G dX3_entry_14 rfl (fun c => ?_) (fun c => ?_)
  · replace h := h.1 c
    refine x_iload_n G rfl dX3_entry_21 3 rfl ?_
    refine x_if_ne (tgt := 39) G dX3_entry_22 rfl (fun c => ?_) (fun c => ?_)
    · replace h := h.1 c
      refine x_iload_n G rfl dX3_entry_39 3 rfl ?_
      refine x_iconst (v := (1 : Int32)) G dX3_entry_40 (by decide) ?_
      refine x_icmp_ne (tgt := 58) G dX3_entry_41 rfl (fun c => ?_) (fun c => ?_)
      · replace h := h.1 c
        refine x_bipush (v := (-102 : Int32)) G dX3_entry_58 (by decide) ?_
        exact x_reti1 G Q dX3_entry_60 rfl r_1 h XSub.rf (Nat.le_refl _) (Nat.le_refl _)
      · replace h := h.2 c
        refine x_aload_n G rfl dX3_entry_44 0 rfl ?_
        refine m_get_5 G dX3_entry_45 ?_
        refine x_bipush (v := (60 : Int32)) G dX3_entry_48 (by decide) ?_
        refine x_iload_n G rfl dX3_entry_50 1 rfl ?_
        refine x_imul G dX3_entry_51 ?_
        refine x_iload_n G rfl dX3_entry_52 2 rfl ?_
        refine x_iadd G dX3_entry_53 ?_
        obtain ⟨hz, h⟩ := h
        refine m_ald_5 G hz dX3_entry_54 ?_
        refine x_goto (tgt := 60) G dX3_entry_55 rfl ?_
        exact x_reti1 G Q dX3_entry_60 rfl r_1 h XSub.rf (Nat.le_refl _) (Nat.le_refl _)
    · replace h := h.2 c
      refine x_aload_n G rfl dX3_entry_25 0 rfl ?_
      refine m_get_4 G dX3_entry_26 ?_
      refine x_bipush (v := (60 : Int32)) G dX3_entry_29 (by decide) ?_
      refine x_iload_n G rfl dX3_entry_31 1 rfl ?_
      refine x_imul G dX3_entry_32 ?_
      refine x_iload_n G rfl dX3_entry_33 2 rfl ?_
      refine x_iadd G dX3_entry_34 ?_
      obtain ⟨hz, h⟩ := h
      refine m_ald_4 G hz dX3_entry_35 ?_
      refine x_goto (tgt := 60) G dX3_entry_36 rfl ?_
      exact x_reti1 G Q dX3_entry_60 rfl r_1 h XSub.rf (Nat.le_refl _) (Nat.le_refl _)
  · replace h := h.2 c
    refine x_iconst (v := (0 : Int32)) G dX3_entry_17 (by decide) ?_
    refine x_goto (tgt := 60) G dX3_entry_18 rfl ?_
    exact x_reti1 G Q dX3_entry_60 rfl r_1 h XSub.rf (Nat.le_refl _) (Nat.le_refl _)
theorem cdX3_isMinus : yX3_isMinus.cls ≠ "java/lang/invoke/MethodHandle" ∧ yX3_isMinus.cls ≠ "java/lang/invoke/VarHandle" ∧ (parseMethodDescriptor yX3_isMinus.desc).map (fun d => d.parameters.length) = some 1 := by decide +kernel
def wX3_isMinus (p0 : UInt64) (K : Int32 → Prop) : Prop := (wJ12_doubleToLongBits p0 (fun (r_1 : Int64) => (((0 : Int64) ≤ r_1 → K (0 : Int32)) ∧ (¬ (0 : Int64) ≤ r_1 → K (1 : Int32)))))
set_option maxRecDepth 20000 in
theorem tX3_isMinus {l : Launch} {D : va_G} {ta : Nat → ClassId} {p0 : UInt64} {K : Int32 → Prop} (hlt : l.stackTraces = false) (h : wX3_isMinus p0 K) : SMi0 l D ta yX3_isMinus cX3_isMinus 2 FieldType.boolean 3 [.double p0] [] [] 0 0 K := by
  refine x_sti0 hlt (plainFor_of_name (by decide +kernel)) (Nat.le_of_ble_eq_true rfl) (fun g G hl hD hT Q => ?_)
  subst hl; subst hD; subst hT
  unfold wX3_isMinus at h
  show X g 2 0 [(0, .double p0)] [] [] 0 0
  refine x_dload_n G rfl dX3_isMinus_0 0 rfl ?_
  refine x_cPl (As := [.double p0]) (rest := []) G (tJ12_doubleToLongBits G.noTraces h) (lw_S q1691 q227 q84 q228) cdJ12_doubleToLongBits (by decide) (by decide) rfl (Nat.le_of_ble_eq_true rfl) (Nat.zero_le _) (Nat.zero_le _) dX3_isMinus_1 (fun r_1 h => ?_)
  refine x_lconst (v := (0 : Int64)) G dX3_isMinus_4 (by decide) ?_
  refine x_lcmp_ge (tgt := 13) G dX3_isMinus_5 dX3_isMinus_6 rfl (fun c => ?_) (fun c => ?_)
  · replace h := h.1 c
    refine x_iconst (v := (0 : Int32)) G dX3_isMinus_13 (by decide) ?_
    exact x_reti0 G Q dX3_isMinus_14 rfl  h XSub.rf (Nat.le_refl _) (Nat.le_refl _)
  · replace h := h.2 c
    refine x_iconst (v := (1 : Int32)) G dX3_isMinus_9 (by decide) ?_
    refine x_goto (tgt := 14) G dX3_isMinus_10 rfl ?_
    exact x_reti0 G Q dX3_isMinus_14 rfl  h XSub.rf (Nat.le_refl _) (Nat.le_refl _)
theorem cdX3_isWhole : yX3_isWhole.cls ≠ "java/lang/invoke/MethodHandle" ∧ yX3_isWhole.cls ≠ "java/lang/invoke/VarHandle" ∧ (parseMethodDescriptor yX3_isWhole.desc).map (fun d => d.parameters.length) = some 1 := by decide +kernel
def wX3_isWhole (p0 : UInt64) (K : Int32 → Prop) : Prop := ((dge p0 (4845873199050653696 : UInt64) → K (1 : Int32)) ∧ (¬ dge p0 (4845873199050653696 : UInt64) → ((dle p0 (14069245235905429504 : UInt64) → K (1 : Int32)) ∧ (¬ dle p0 (14069245235905429504 : UInt64) → ((¬ deq (FP.l2d (FP.d2l p0)) p0 → K (0 : Int32)) ∧ (deq (FP.l2d (FP.d2l p0)) p0 → K (1 : Int32)))))))
set_option maxRecDepth 20000 in
theorem tX3_isWhole {l : Launch} {D : va_G} {ta : Nat → ClassId} {p0 : UInt64} {K : Int32 → Prop} (hlt : l.stackTraces = false) (h : wX3_isWhole p0 K) : SMi0 l D ta yX3_isWhole cX3_isWhole 2 FieldType.boolean 1 [.double p0] [] [] 0 0 K := by
  refine x_sti0 hlt (plainFor_of_name (by decide +kernel)) (Nat.le_of_ble_eq_true rfl) (fun g G hl hD hT Q => ?_)
  subst hl; subst hD; subst hT
  unfold wX3_isWhole at h
  show X g 2 0 [(0, .double p0)] [] [] 0 0
  refine x_dload_n G rfl dX3_isWhole_0 0 rfl ?_
  refine x_ldc2d G q1712 dX3_isWhole_1 ?_
  refine x_dcmpl_ge (tgt := 24) G dX3_isWhole_4 dX3_isWhole_5 rfl (fun c => ?_) (fun c => ?_)
  · replace h := h.1 c
    refine x_iconst (v := (1 : Int32)) G dX3_isWhole_24 (by decide) ?_
    refine x_goto (tgt := 29) G dX3_isWhole_25 rfl ?_
    exact x_reti0 G Q dX3_isWhole_29 rfl  h XSub.rf (Nat.le_refl _) (Nat.le_refl _)
  · replace h := h.2 c
    refine x_dload_n G rfl dX3_isWhole_8 0 rfl ?_
    refine x_ldc2d G q1713 dX3_isWhole_9 ?_
    refine x_dcmpg_le (tgt := 24) G dX3_isWhole_12 dX3_isWhole_13 rfl (fun c => ?_) (fun c => ?_)
    · replace h := h.1 c
      refine x_iconst (v := (1 : Int32)) G dX3_isWhole_24 (by decide) ?_
      refine x_goto (tgt := 29) G dX3_isWhole_25 rfl ?_
      exact x_reti0 G Q dX3_isWhole_29 rfl  h XSub.rf (Nat.le_refl _) (Nat.le_refl _)
    · replace h := h.2 c
      refine x_dload_n G rfl dX3_isWhole_16 0 rfl ?_
      refine x_d2l G dX3_isWhole_17 ?_
      refine x_l2d G dX3_isWhole_18 ?_
      refine x_dload_n G rfl dX3_isWhole_19 0 rfl ?_
      refine x_dcmpl_ne (tgt := 28) G dX3_isWhole_20 dX3_isWhole_21 rfl (fun c => ?_) (fun c => ?_)
      · replace h := h.1 c
        refine x_iconst (v := (0 : Int32)) G dX3_isWhole_28 (by decide) ?_
        exact x_reti0 G Q dX3_isWhole_29 rfl  h XSub.rf (Nat.le_refl _) (Nat.le_refl _)
      · replace h := h.2 c
        refine x_iconst (v := (1 : Int32)) G dX3_isWhole_24 (by decide) ?_
        refine x_goto (tgt := 29) G dX3_isWhole_25 rfl ?_
        exact x_reti0 G Q dX3_isWhole_29 rfl  h XSub.rf (Nat.le_refl _) (Nat.le_refl _)
theorem cdX3_sizeOf : yX3_sizeOf.cls ≠ "java/lang/invoke/MethodHandle" ∧ yX3_sizeOf.cls ≠ "java/lang/invoke/VarHandle" ∧ (parseMethodDescriptor yX3_sizeOf.desc).map (fun d => d.parameters.length) = some 1 := by decide +kernel
def wX3_sizeOf (p0 : UInt64) (K : UInt64 → Prop) : Prop := ((¬ dlt p0 FP.dconst0 → ((¬ deq p0 FP.dconst0 → K p0) ∧ (deq p0 FP.dconst0 → K FP.dconst0))) ∧ (dlt p0 FP.dconst0 → K (FP.dneg p0)))
set_option maxRecDepth 20000 in
theorem tX3_sizeOf {l : Launch} {D : va_G} {ta : Nat → ClassId} {p0 : UInt64} {K : UInt64 → Prop} (hlt : l.stackTraces = false) (h : wX3_sizeOf p0 K) : SMd0 l D ta yX3_sizeOf cX3_sizeOf 2 FieldType.double 1 [.double p0] [] [] 0 0 K := by
  refine x_std0 hlt (plainFor_of_name (by decide +kernel)) (Nat.le_of_ble_eq_true rfl) (fun g G hl hD hT Q => ?_)
  subst hl; subst hD; subst hT
  unfold wX3_sizeOf at h
  show X g 2 0 [(0, .double p0)] [] [] 0 0
  refine x_dload_n G rfl dX3_sizeOf_0 0 rfl ?_
  refine x_dconst0 G dX3_sizeOf_1 ?_
  refine x_dcmpg_ge (tgt := 11) G dX3_sizeOf_2 dX3_sizeOf_3 rfl (fun c => ?_) (fun c => ?_)
  · replace h := h.1 c
    refine x_dload_n G rfl dX3_sizeOf_11 0 rfl ?_
    refine x_dconst0 G dX3_sizeOf_12 ?_
    refine x_dcmpl_ne (tgt := 21) G dX3_sizeOf_13 dX3_sizeOf_14 rfl (fun c => ?_) (fun c => ?_)
    · replace h := h.1 c
      refine x_dload_n G rfl dX3_sizeOf_21 0 rfl ?_
      exact x_retd0 G Q dX3_sizeOf_22  h XSub.rf (Nat.le_refl _) (Nat.le_refl _)
    · replace h := h.2 c
      refine x_dconst0 G dX3_sizeOf_17 ?_
      refine x_goto (tgt := 22) G dX3_sizeOf_18 rfl ?_
      exact x_retd0 G Q dX3_sizeOf_22  h XSub.rf (Nat.le_refl _) (Nat.le_refl _)
  · replace h := h.2 c
    refine x_dload_n G rfl dX3_sizeOf_6 0 rfl ?_
    refine x_dneg G dX3_sizeOf_7 ?_
    refine x_goto (tgt := 22) G dX3_sizeOf_8 rfl ?_
    exact x_retd0 G Q dX3_sizeOf_22  h XSub.rf (Nat.le_refl _) (Nat.le_refl _)
theorem cdX3_isSuch : yX3_isSuch.cls = RX3 ∧ yX3_isSuch.cls ≠ "java/lang/invoke/MethodHandle" ∧ yX3_isSuch.cls ≠ "java/lang/invoke/VarHandle" ∧ (parseMethodDescriptor yX3_isSuch.desc).map (fun d => d.parameters.length) = some 3 := by decide +kernel
def wX3_isSuch (p0 : Int32) (p1 : UInt64) (p2 : Int32) (isWide : Nat → Int32) (K : Int32 → Prop) : Prop := ((p2 = (2 : Int32) → ((¬ deq p1 FP.dconst0 → K (0 : Int32)) ∧ (deq p1 FP.dconst0 → (wX3_isMinus p1 (fun (r_1 : Int32) => ((¬ r_1 = (0 : Int32) → K (0 : Int32)) ∧ (r_1 = (0 : Int32) → K (1 : Int32)))))))) ∧ (¬ p2 = (2 : Int32) → ((p2 = (3 : Int32) → ((¬ deq p1 FP.dconst0 → K (0 : Int32)) ∧ (deq p1 FP.dconst0 → (wX3_isMinus p1 (fun (r_2 : Int32) => ((r_2 = (0 : Int32) → K (0 : Int32)) ∧ (¬ r_2 = (0 : Int32) → K (1 : Int32)))))))) ∧ (¬ p2 = (3 : Int32) → ((p2 = (4 : Int32) → ((¬ dlt p1 FP.dconst0 → K (0 : Int32)) ∧ (dlt p1 FP.dconst0 → K (1 : Int32)))) ∧ (¬ p2 = (4 : Int32) → ((p2 = (5 : Int32) → (wX3_isWhole p1 (fun (r_3 : Int32) => (isB r_3 ∧ K r_3)))) ∧ (¬ p2 = (5 : Int32) → ((deq p1 FP.dconst0 → K (0 : Int32)) ∧ (¬ deq p1 FP.dconst0 → (wX3_sizeOf p1 (fun (r_4 : UInt64) => (vp_in p0 12 ∧ (((isWide p0.toNatClampNeg) = (0 : Int32) → ((¬ dlt r_4 (4039728865751334912 : UInt64) → K (0 : Int32)) ∧ (dlt r_4 (4039728865751334912 : UInt64) → K (1 : Int32)))) ∧ (¬ (isWide p0.toNatClampNeg) = (0 : Int32) → ((¬ dlt r_4 (4503599627370496 : UInt64) → K (0 : Int32)) ∧ (dlt r_4 (4503599627370496 : UInt64) → K (1 : Int32))))))))))))))))))
set_option maxRecDepth 20000 in
theorem tX3_isSuch {l : Launch} {D : va_G} {ta : Nat → ClassId} {h0 : Nat} {ad : Nat → Nat} {thrown : Int32} {many : Nat → Int32} {isWide : Nat → Int32} {amountOf : Nat → UInt64} {accountOf : Nat → Int32} {dayOf : Nat → Int32} {given : Nat → Int32} {givenOf : Nat → Int32} {runs : Int32} {runWide : Nat → Int32} {runWay : Nat → Int32} {runTotal : Nat → UInt64} {runSteps : Nat → Int32} {lefts : Nat → UInt64} {rights : Nat → UInt64} {results : Nat → UInt64} {wide : Int32} {dn : Int32} {stepsAt : Int32} {keeps : Int32} {order : Nat → Int32} {att : Nat → UInt64} {spareAmount : Nat → UInt64} {spareAccount : Nat → Int32} {spareDay : Nat → Int32} {cured : Int32} {cureOf : Nat → Int32} {shareOf : Nat → Int32} {big : Nat → Int32} {unitsOf : Int64} {spare : Int32} {halfFrom : Nat → Int32} {halfMany : Nat → Int32} {halfDone : Nat → Int32} {halfTotal : Nat → UInt64} {isFar : Int32} {p0 : Int32} {p1 : UInt64} {p2 : Int32} {K : Int32 → Prop} (hlt : l.stackTraces = false) (h : wX3_isSuch p0 p1 p2 isWide K) : SMi0 l D ta yX3_isSuch cX3_isSuch 5 FieldType.boolean 4 [.ref h0, .int p0, .double p1, .int p2] (mW h0 ad ta thrown many isWide amountOf accountOf dayOf given givenOf runs runWide runWay runTotal runSteps lefts rights results wide dn stepsAt keeps order att spareAmount spareAccount spareDay cured cureOf shareOf big unitsOf spare halfFrom halfMany halfDone halfTotal isFar) (mW h0 ad ta thrown many isWide amountOf accountOf dayOf given givenOf runs runWide runWay runTotal runSteps lefts rights results wide dn stepsAt keeps order att spareAmount spareAccount spareDay cured cureOf shareOf big unitsOf spare halfFrom halfMany halfDone halfTotal isFar) 0 0 K := by
  refine x_sti0 hlt (plainFor_of_name (by decide +kernel)) (Nat.le_of_ble_eq_true rfl) (fun g G hl hD hT Q => ?_)
  subst hl; subst hD; subst hT
  unfold wX3_isSuch at h
  show X g 5 0 [(0, .ref h0), (1, .int p0), (2, .double p1), (4, .int p2)] [] (mW h0 ad (xT g) thrown many isWide amountOf accountOf dayOf given givenOf runs runWide runWay runTotal runSteps lefts rights results wide dn stepsAt keeps order att spareAmount spareAccount spareDay cured cureOf shareOf big unitsOf spare halfFrom halfMany halfDone halfTotal isFar) 0 0
  refine x_iload G dX3_isSuch_0 3 rfl ?_
  by_cases c0 : p2 = (2 : Int32)
  · replace h := h.1 c0
    refine x_tableAt (off := 30) (tgt := 32) G dX3_isSuch_2 c0 (by decide) rfl ?_
    refine x_dload_n G rfl dX3_isSuch_32 2 rfl ?_
    refine x_dconst0 G dX3_isSuch_33 ?_
    refine x_dcmpl_ne (tgt := 49) G dX3_isSuch_34 dX3_isSuch_35 rfl (fun c => ?_) (fun c => ?_)
    · replace h := h.1 c
      refine x_iconst (v := (0 : Int32)) G dX3_isSuch_49 (by decide) ?_
      exact x_reti0 G Q dX3_isSuch_50 rfl  h XSub.rf (Nat.le_refl _) (Nat.le_refl _)
    · replace h := h.2 c
      refine x_dload_n G rfl dX3_isSuch_38 2 rfl ?_
      refine x_cPi (As := [.double p1]) (rest := []) G (tX3_isMinus G.noTraces h) (lw_S q1706 q1707 q70 q1708) cdX3_isMinus (by decide) (by decide) rfl (Nat.le_of_ble_eq_true rfl) (Nat.zero_le _) (Nat.zero_le _) dX3_isSuch_39 (fun r_1 h => ?_)
      refine x_if_ne (tgt := 49) G dX3_isSuch_42 rfl (fun c => ?_) (fun c => ?_)
      · replace h := h.1 c
        refine x_iconst (v := (0 : Int32)) G dX3_isSuch_49 (by decide) ?_
        exact x_reti0 G Q dX3_isSuch_50 rfl  h XSub.rf (Nat.le_refl _) (Nat.le_refl _)
      · replace h := h.2 c
        refine x_iconst (v := (1 : Int32)) G dX3_isSuch_45 (by decide) ?_
        refine x_goto (tgt := 50) G dX3_isSuch_46 rfl ?_
        exact x_reti0 G Q dX3_isSuch_50 rfl  h XSub.rf (Nat.le_refl _) (Nat.le_refl _)
  replace h := h.2 c0
  by_cases c1 : p2 = (3 : Int32)
  · replace h := h.1 c1
    refine x_tableAt (off := 49) (tgt := 51) G dX3_isSuch_2 c1 (by decide) rfl ?_
    refine x_dload_n G rfl dX3_isSuch_51 2 rfl ?_
    refine x_dconst0 G dX3_isSuch_52 ?_
    refine x_dcmpl_ne (tgt := 68) G dX3_isSuch_53 dX3_isSuch_54 rfl (fun c => ?_) (fun c => ?_)
    · replace h := h.1 c
      refine x_iconst (v := (0 : Int32)) G dX3_isSuch_68 (by decide) ?_
      exact x_reti0 G Q dX3_isSuch_69 rfl  h XSub.rf (Nat.le_refl _) (Nat.le_refl _)
    · replace h := h.2 c
      refine x_dload_n G rfl dX3_isSuch_57 2 rfl ?_
      refine x_cPi (As := [.double p1]) (rest := []) G (tX3_isMinus G.noTraces h) (lw_S q1706 q1707 q70 q1708) cdX3_isMinus (by decide) (by decide) rfl (Nat.le_of_ble_eq_true rfl) (Nat.zero_le _) (Nat.zero_le _) dX3_isSuch_58 (fun r_2 h => ?_)
      refine x_if_eq (tgt := 68) G dX3_isSuch_61 rfl (fun c => ?_) (fun c => ?_)
      · replace h := h.1 c
        refine x_iconst (v := (0 : Int32)) G dX3_isSuch_68 (by decide) ?_
        exact x_reti0 G Q dX3_isSuch_69 rfl  h XSub.rf (Nat.le_refl _) (Nat.le_refl _)
      · replace h := h.2 c
        refine x_iconst (v := (1 : Int32)) G dX3_isSuch_64 (by decide) ?_
        refine x_goto (tgt := 69) G dX3_isSuch_65 rfl ?_
        exact x_reti0 G Q dX3_isSuch_69 rfl  h XSub.rf (Nat.le_refl _) (Nat.le_refl _)
  replace h := h.2 c1
  by_cases c2 : p2 = (4 : Int32)
  · replace h := h.1 c2
    refine x_tableAt (off := 68) (tgt := 70) G dX3_isSuch_2 c2 (by decide) rfl ?_
    refine x_dload_n G rfl dX3_isSuch_70 2 rfl ?_
    refine x_dconst0 G dX3_isSuch_71 ?_
    refine x_dcmpg_ge (tgt := 80) G dX3_isSuch_72 dX3_isSuch_73 rfl (fun c => ?_) (fun c => ?_)
    · replace h := h.1 c
      refine x_iconst (v := (0 : Int32)) G dX3_isSuch_80 (by decide) ?_
      exact x_reti0 G Q dX3_isSuch_81 rfl  h XSub.rf (Nat.le_refl _) (Nat.le_refl _)
    · replace h := h.2 c
      refine x_iconst (v := (1 : Int32)) G dX3_isSuch_76 (by decide) ?_
      refine x_goto (tgt := 81) G dX3_isSuch_77 rfl ?_
      exact x_reti0 G Q dX3_isSuch_81 rfl  h XSub.rf (Nat.le_refl _) (Nat.le_refl _)
  replace h := h.2 c2
  by_cases c3 : p2 = (5 : Int32)
  · replace h := h.1 c3
    refine x_tableAt (off := 80) (tgt := 82) G dX3_isSuch_2 c3 (by decide) rfl ?_
    refine x_dload_n G rfl dX3_isSuch_82 2 rfl ?_
    refine x_cPi (As := [.double p1]) (rest := []) G (tX3_isWhole G.noTraces h) (lw_S q1709 q1710 q70 q1711) cdX3_isWhole (by decide) (by decide) rfl (Nat.le_of_ble_eq_true rfl) (Nat.zero_le _) (Nat.zero_le _) dX3_isSuch_83 (fun r_3 h => ?_)
    obtain ⟨hb, h⟩ := h
    exact x_reti0 G Q dX3_isSuch_86 hb.nar  h XSub.rf (Nat.le_refl _) (Nat.le_refl _)
  replace h := h.2 c3
  refine x_tableNo (tgt := 87) G dX3_isSuch_2 [(2 : Int32), (3 : Int32), (4 : Int32), (5 : Int32)] (by decide) (by decide) (List.forall_mem_cons.mpr ⟨c0, (List.forall_mem_cons.mpr ⟨c1, (List.forall_mem_cons.mpr ⟨c2, (List.forall_mem_cons.mpr ⟨c3, (fun _ h => absurd h List.not_mem_nil)⟩)⟩)⟩)⟩) rfl ?_
  refine x_dload_n G rfl dX3_isSuch_87 2 rfl ?_
  refine x_dconst0 G dX3_isSuch_88 ?_
  refine x_dcmpl_eq (tgt := 123) G dX3_isSuch_89 dX3_isSuch_90 rfl (fun c => ?_) (fun c => ?_)
  · replace h := h.1 c
    refine x_iconst (v := (0 : Int32)) G dX3_isSuch_123 (by decide) ?_
    exact x_reti0 G Q dX3_isSuch_124 rfl  h XSub.rf (Nat.le_refl _) (Nat.le_refl _)
  · replace h := h.2 c
    refine x_dload_n G rfl dX3_isSuch_93 2 rfl ?_
    refine x_cPd (As := [.double p1]) (rest := []) G (tX3_sizeOf G.noTraces h) (lw_S q1714 q1715 q70 q1716) cdX3_sizeOf (by decide) (by decide) rfl (Nat.le_of_ble_eq_true rfl) (Nat.zero_le _) (Nat.zero_le _) dX3_isSuch_94 (fun r_4 h => ?_)
    refine x_aload_n G rfl dX3_isSuch_97 0 rfl ?_
    refine m_get_2 G dX3_isSuch_98 ?_
    refine x_iload_n G rfl dX3_isSuch_101 1 rfl ?_
    obtain ⟨hz, h⟩ := h
    refine m_ald_2 G hz dX3_isSuch_102 ?_
    refine x_if_eq (tgt := 112) G dX3_isSuch_103 rfl (fun c => ?_) (fun c => ?_)
    · replace h := h.1 c
      refine x_ldc2d G q1718 dX3_isSuch_112 ?_
      refine x_dcmpg_ge (tgt := 123) G dX3_isSuch_115 dX3_isSuch_116 rfl (fun c => ?_) (fun c => ?_)
      · replace h := h.1 c
        refine x_iconst (v := (0 : Int32)) G dX3_isSuch_123 (by decide) ?_
        exact x_reti0 G Q dX3_isSuch_124 rfl  h XSub.rf (Nat.le_refl _) (Nat.le_refl _)
      · replace h := h.2 c
        refine x_iconst (v := (1 : Int32)) G dX3_isSuch_119 (by decide) ?_
        refine x_goto (tgt := 124) G dX3_isSuch_120 rfl ?_
        exact x_reti0 G Q dX3_isSuch_124 rfl  h XSub.rf (Nat.le_refl _) (Nat.le_refl _)
    · replace h := h.2 c
      refine x_ldc2d G q1717 dX3_isSuch_106 ?_
      refine x_goto (tgt := 115) G dX3_isSuch_109 rfl ?_
      refine x_dcmpg_ge (tgt := 123) G dX3_isSuch_115 dX3_isSuch_116 rfl (fun c => ?_) (fun c => ?_)
      · replace h := h.1 c
        refine x_iconst (v := (0 : Int32)) G dX3_isSuch_123 (by decide) ?_
        exact x_reti0 G Q dX3_isSuch_124 rfl  h XSub.rf (Nat.le_refl _) (Nat.le_refl _)
      · replace h := h.2 c
        refine x_iconst (v := (1 : Int32)) G dX3_isSuch_119 (by decide) ?_
        refine x_goto (tgt := 124) G dX3_isSuch_120 rfl ?_
        exact x_reti0 G Q dX3_isSuch_124 rfl  h XSub.rf (Nat.le_refl _) (Nat.le_refl _)
theorem cdX3_about : yX3_about.cls = RX3 ∧ yX3_about.cls ≠ "java/lang/invoke/MethodHandle" ∧ yX3_about.cls ≠ "java/lang/invoke/VarHandle" ∧ (parseMethodDescriptor yX3_about.desc).map (fun d => d.parameters.length) = some 2 := by decide +kernel
def wX3_about_L76 (many : Nat → Int32) (isWide : Nat → Int32) (amountOf : Nat → UInt64) (p0 : Int32) (p1 : Int32) (X122 : Int32 → Int32 → Prop) : Nat → Int32 → Int32 → Prop
  | 0, _, _ => False
  | n + 1, v3_3, v4_4 => (vp_in p0 12 ∧ (((many p0.toNatClampNeg) ≤ v4_4 → X122 v3_3 v4_4) ∧ (¬ (many p0.toNatClampNeg) ≤ v4_4 → (vp_in (((60 : Int32) * p0) + v4_4) 720 ∧ (wX3_isSuch p0 (amountOf (((60 : Int32) * p0) + v4_4).toNatClampNeg) p1 isWide (fun (r_5 : Int32) => ((r_5 = (0 : Int32) → (∀ x_6 : Int32, x_6 = (v3_3 + (0 : Int32)) → (∀ x_7 : Int32, x_7 = (v4_4 + (1 : Int32)) → wX3_about_L76 many isWide amountOf p0 p1 X122 n x_6 x_7))) ∧ (¬ r_5 = (0 : Int32) → (∀ x_8 : Int32, x_8 = (v3_3 + (1 : Int32)) → (∀ x_9 : Int32, x_9 = (v4_4 + (1 : Int32)) → wX3_about_L76 many isWide amountOf p0 p1 X122 n x_8 x_9))))))))))
def wX3_about (p0 : Int32) (p1 : Int32) (thrown : Int32) (many : Nat → Int32) (isWide : Nat → Int32) (amountOf : Nat → UInt64) (K : Int32 → Int32 → Prop) : Prop := (wX3_in p1.toInt64 (0 : Int64) (6 : Int64) (fun (r_1 : Int32) => ((¬ r_1 = (0 : Int32) → (wX3_faultOf p0 many (fun (r_2 : Int32) => ((r_2 = (0 : Int32) → (((2 : Int32) ≤ p1 → (∃ m76 : Nat, wX3_about_L76 many isWide amountOf p0 p1 (fun (v3_12 : Int32) (v4_13 : Int32) => K v3_12 r_2) m76 (0 : Int32) (0 : Int32))) ∧ (¬ (2 : Int32) ≤ p1 → ((¬ p1 = (0 : Int32) → (vp_in p0 12 ∧ (((isWide p0.toNatClampNeg) = (0 : Int32) → K (0 : Int32) r_2) ∧ (¬ (isWide p0.toNatClampNeg) = (0 : Int32) → K (1 : Int32) r_2)))) ∧ (p1 = (0 : Int32) → (vp_in p0 12 ∧ K (many p0.toNatClampNeg) r_2)))))) ∧ (¬ r_2 = (0 : Int32) → K (0 : Int32) r_2))))) ∧ (r_1 = (0 : Int32) → K (-102 : Int32) (0 : Int32)))))
set_option maxRecDepth 20000 in
theorem kX3_about_L76 {g : XG} {h0 : Nat} {ad : Nat → Nat} {many : Nat → Int32} {isWide : Nat → Int32} {amountOf : Nat → UInt64} {accountOf : Nat → Int32} {dayOf : Nat → Int32} {given : Nat → Int32} {givenOf : Nat → Int32} {runs : Int32} {runWide : Nat → Int32} {runWay : Nat → Int32} {runTotal : Nat → UInt64} {runSteps : Nat → Int32} {lefts : Nat → UInt64} {rights : Nat → UInt64} {results : Nat → UInt64} {wide : Int32} {dn : Int32} {stepsAt : Int32} {keeps : Int32} {order : Nat → Int32} {att : Nat → UInt64} {spareAmount : Nat → UInt64} {spareAccount : Nat → Int32} {spareDay : Nat → Int32} {cured : Int32} {cureOf : Nat → Int32} {shareOf : Nat → Int32} {big : Nat → Int32} {unitsOf : Int64} {spare : Int32} {halfFrom : Nat → Int32} {halfMany : Nat → Int32} {halfDone : Nat → Int32} {halfTotal : Nat → UInt64} {isFar : Int32} {p0 : Int32} {p1 : Int32} {r_2 : Int32} {X122 : Int32 → Int32 → Prop} (G : XO g RX3 cX3_about 5 5 0 0) (hX122 : ∀ (v3_10 : Int32) (v4_11 : Int32), X122 v3_10 v4_11 → X g 5 122 [(4, .int v4_11), (3, .int v3_10), (0, .ref h0), (1, .int p0), (2, .int p1)] [] (mW h0 ad (xT g) r_2 many isWide amountOf accountOf dayOf given givenOf runs runWide runWay runTotal runSteps lefts rights results wide dn stepsAt keeps order att spareAmount spareAccount spareDay cured cureOf shareOf big unitsOf spare halfFrom halfMany halfDone halfTotal isFar) 0 0) : ∀ (n : Nat) (v3_3 : Int32) (v4_4 : Int32), wX3_about_L76 many isWide amountOf p0 p1 X122 n v3_3 v4_4 → X g 5 76 [(4, .int v4_4), (3, .int v3_3), (0, .ref h0), (1, .int p0), (2, .int p1)] [] (mW h0 ad (xT g) r_2 many isWide amountOf accountOf dayOf given givenOf runs runWide runWay runTotal runSteps lefts rights results wide dn stepsAt keeps order att spareAmount spareAccount spareDay cured cureOf shareOf big unitsOf spare halfFrom halfMany halfDone halfTotal isFar) 0 0 := by
  intro n
  induction n with
  | zero => intro _ _ h; exact h.elim
  | succ n ih =>
    intro v3_3 v4_4 h
    unfold wX3_about_L76 at h
    refine x_iload G dX3_about_76 0 rfl ?_
    refine x_aload_n G rfl dX3_about_78 2 rfl ?_
    refine m_get_1 G dX3_about_79 ?_
    refine x_iload_n G rfl dX3_about_82 3 rfl ?_
    obtain ⟨hz, h⟩ := h
    refine m_ald_1 G hz dX3_about_83 ?_
    refine x_icmp_ge (tgt := 122) G dX3_about_84 rfl (fun c => ?_) (fun c => ?_)
    · replace h := h.1 c
      exact hX122 v3_3 v4_4 h
    · replace h := h.2 c
      refine x_iload_n G rfl dX3_about_87 1 rfl ?_
      refine x_aload_n G rfl dX3_about_88 2 rfl ?_
      refine x_iload_n G rfl dX3_about_89 3 rfl ?_
      refine x_aload_n G rfl dX3_about_90 2 rfl ?_
      refine m_get_3 G dX3_about_91 ?_
      refine x_bipush (v := (60 : Int32)) G dX3_about_94 (by decide) ?_
      refine x_iload_n G rfl dX3_about_96 3 rfl ?_
      refine x_imul G dX3_about_97 ?_
      refine x_iload G dX3_about_98 0 rfl ?_
      refine x_iadd G dX3_about_100 ?_
      obtain ⟨hz, h⟩ := h
      refine m_ald_3 G hz dX3_about_101 ?_
      refine x_iload_n G rfl dX3_about_102 4 rfl ?_
      refine x_cVi0 (As := [.int p0, .double (amountOf (((60 : Int32) * p0) + v4_4).toNatClampNeg), .int p1]) (rest := [.int v3_3]) G [] XSub.rf (tX3_isSuch G.noTraces h) (lw_V q1702 q1704 qs22 q70 q1705) cdX3_isSuch 3 0 rfl rfl rfl (by decide) (by decide) rfl (Nat.le_of_ble_eq_true rfl) (Nat.zero_le _) (Nat.zero_le _) dX3_about_103 (fun r_5 h => ?_)
      show X g 5 106 [(4, .int v4_4), (3, .int v3_3), (0, .ref h0), (1, .int p0), (2, .int p1)] [.int r_5, .int v3_3] (mW h0 ad (xT g) r_2 many isWide amountOf accountOf dayOf given givenOf runs runWide runWay runTotal runSteps lefts rights results wide dn stepsAt keeps order att spareAmount spareAccount spareDay cured cureOf shareOf big unitsOf spare halfFrom halfMany halfDone halfTotal isFar) 0 0
      refine x_if_eq (tgt := 113) G dX3_about_106 rfl (fun c => ?_) (fun c => ?_)
      · replace h := h.1 c
        refine x_iconst (v := (0 : Int32)) G dX3_about_113 (by decide) ?_
        refine x_iadd G dX3_about_114 ?_
        refine x_topi (fun x_6 ex_6 => ?_)
        replace h := h x_6 ex_6
        refine x_istore_n (lv' := [(3, .int x_6), (4, .int v4_4), (0, .ref h0), (1, .int p0), (2, .int p1)]) G rfl dX3_about_115 (by decide) rfl ?_
        obtain ⟨x_7, ex_7⟩ : ∃ z : Int32, z = (v4_4 + (1 : Int32)) := ⟨_, rfl⟩
        replace h := h x_7 ex_7
        refine x_iinc (v := x_7) (lv' := [(4, .int x_7), (3, .int x_6), (0, .ref h0), (1, .int p0), (2, .int p1)]) G dX3_about_116 1 rfl (by rw [ex_7]; rfl) (by decide) rfl ?_
        refine x_goto (tgt := 76) G dX3_about_119 rfl ?_
        exact ih x_6 x_7 h
      · replace h := h.2 c
        refine x_iconst (v := (1 : Int32)) G dX3_about_109 (by decide) ?_
        refine x_goto (tgt := 114) G dX3_about_110 rfl ?_
        refine x_iadd G dX3_about_114 ?_
        refine x_topi (fun x_8 ex_8 => ?_)
        replace h := h x_8 ex_8
        refine x_istore_n (lv' := [(3, .int x_8), (4, .int v4_4), (0, .ref h0), (1, .int p0), (2, .int p1)]) G rfl dX3_about_115 (by decide) rfl ?_
        obtain ⟨x_9, ex_9⟩ : ∃ z : Int32, z = (v4_4 + (1 : Int32)) := ⟨_, rfl⟩
        replace h := h x_9 ex_9
        refine x_iinc (v := x_9) (lv' := [(4, .int x_9), (3, .int x_8), (0, .ref h0), (1, .int p0), (2, .int p1)]) G dX3_about_116 1 rfl (by rw [ex_9]; rfl) (by decide) rfl ?_
        refine x_goto (tgt := 76) G dX3_about_119 rfl ?_
        exact ih x_8 x_9 h
set_option maxRecDepth 20000 in
theorem tX3_about {l : Launch} {D : va_G} {ta : Nat → ClassId} {h0 : Nat} {ad : Nat → Nat} {thrown : Int32} {many : Nat → Int32} {isWide : Nat → Int32} {amountOf : Nat → UInt64} {accountOf : Nat → Int32} {dayOf : Nat → Int32} {given : Nat → Int32} {givenOf : Nat → Int32} {runs : Int32} {runWide : Nat → Int32} {runWay : Nat → Int32} {runTotal : Nat → UInt64} {runSteps : Nat → Int32} {lefts : Nat → UInt64} {rights : Nat → UInt64} {results : Nat → UInt64} {wide : Int32} {dn : Int32} {stepsAt : Int32} {keeps : Int32} {order : Nat → Int32} {att : Nat → UInt64} {spareAmount : Nat → UInt64} {spareAccount : Nat → Int32} {spareDay : Nat → Int32} {cured : Int32} {cureOf : Nat → Int32} {shareOf : Nat → Int32} {big : Nat → Int32} {unitsOf : Int64} {spare : Int32} {halfFrom : Nat → Int32} {halfMany : Nat → Int32} {halfDone : Nat → Int32} {halfTotal : Nat → UInt64} {isFar : Int32} {p0 : Int32} {p1 : Int32} {K : Int32 → Int32 → Prop} (hlt : l.stackTraces = false) (h : wX3_about p0 p1 thrown many isWide amountOf K) : SMi1 l D ta yX3_about cX3_about 5 FieldType.int 5 [.ref h0, .int p0, .int p1] (mW h0 ad ta thrown many isWide amountOf accountOf dayOf given givenOf runs runWide runWay runTotal runSteps lefts rights results wide dn stepsAt keeps order att spareAmount spareAccount spareDay cured cureOf shareOf big unitsOf spare halfFrom halfMany halfDone halfTotal isFar) (fun (thrown' : Int32) => mW h0 ad ta thrown' many isWide amountOf accountOf dayOf given givenOf runs runWide runWay runTotal runSteps lefts rights results wide dn stepsAt keeps order att spareAmount spareAccount spareDay cured cureOf shareOf big unitsOf spare halfFrom halfMany halfDone halfTotal isFar) 0 0 K := by
  refine x_sti1 hlt (plainFor_of_name (by decide +kernel)) (Nat.le_of_ble_eq_true rfl) (fun g G hl hD hT Q => ?_)
  subst hl; subst hD; subst hT
  unfold wX3_about at h
  show X g 5 0 [(0, .ref h0), (1, .int p0), (2, .int p1)] [] (mW h0 ad (xT g) thrown many isWide amountOf accountOf dayOf given givenOf runs runWide runWay runTotal runSteps lefts rights results wide dn stepsAt keeps order att spareAmount spareAccount spareDay cured cureOf shareOf big unitsOf spare halfFrom halfMany halfDone halfTotal isFar) 0 0
  refine x_aload_n G rfl dX3_about_0 0 rfl ?_
  refine x_iconst (v := (0 : Int32)) G dX3_about_1 (by decide) ?_
  refine m_put_0 G dX3_about_2 ?_
  refine x_iload_n G rfl dX3_about_5 2 rfl ?_
  refine x_i2l G dX3_about_6 ?_
  refine x_lconst (v := (0 : Int64)) G dX3_about_7 (by decide) ?_
  refine x_ldc2 G q1701 dX3_about_8 ?_
  refine x_cPi (As := [.long p1.toInt64, .long (0 : Int64), .long (6 : Int64)]) (rest := []) G (tX3_in G.noTraces h) (lw_S q1650 q1651 q70 q1652) cdX3_in (by decide) (by decide) rfl (Nat.le_of_ble_eq_true rfl) (Nat.zero_le _) (Nat.zero_le _) dX3_about_11 (fun r_1 h => ?_)
  refine x_if_ne (tgt := 20) G dX3_about_14 rfl (fun c => ?_) (fun c => ?_)
  · replace h := h.1 c
    refine x_aload_n G rfl dX3_about_20 0 rfl ?_
    refine x_aload_n G rfl dX3_about_21 0 rfl ?_
    refine x_iload_n G rfl dX3_about_22 1 rfl ?_
    refine x_cVi0 (As := [.int p0]) (rest := [.ref h0]) G [] XSub.rf (tX3_faultOf G.noTraces h) (lw_V q1669 q1671 qs21 q70 q1672) cdX3_faultOf 3 0 rfl rfl rfl (by decide) (by decide) rfl (Nat.le_of_ble_eq_true rfl) (Nat.zero_le _) (Nat.zero_le _) dX3_about_23 (fun r_2 h => ?_)
    show X g 5 26 [(0, .ref h0), (1, .int p0), (2, .int p1)] [.int r_2, .ref h0] (mW h0 ad (xT g) (0 : Int32) many isWide amountOf accountOf dayOf given givenOf runs runWide runWay runTotal runSteps lefts rights results wide dn stepsAt keeps order att spareAmount spareAccount spareDay cured cureOf shareOf big unitsOf spare halfFrom halfMany halfDone halfTotal isFar) 0 0
    refine m_put_0 G dX3_about_26 ?_
    refine x_aload_n G rfl dX3_about_29 0 rfl ?_
    refine m_get_0 G dX3_about_30 ?_
    refine x_if_eq (tgt := 38) G dX3_about_33 rfl (fun c => ?_) (fun c => ?_)
    · replace h := h.1 c
      refine x_iload_n G rfl dX3_about_38 2 rfl ?_
      refine x_iconst (v := (2 : Int32)) G dX3_about_39 (by decide) ?_
      refine x_icmp_ge (tgt := 71) G dX3_about_40 rfl (fun c => ?_) (fun c => ?_)
      · replace h := h.1 c
        refine x_iconst (v := (0 : Int32)) G dX3_about_71 (by decide) ?_
        refine x_istore_n (lv' := [(3, .int (0 : Int32)), (0, .ref h0), (1, .int p0), (2, .int p1)]) G rfl dX3_about_72 (by decide) rfl ?_
        refine x_iconst (v := (0 : Int32)) G dX3_about_73 (by decide) ?_
        refine x_istore (lv' := [(4, .int (0 : Int32)), (3, .int (0 : Int32)), (0, .ref h0), (1, .int p0), (2, .int p1)]) G dX3_about_74 (by decide) rfl ?_
        obtain ⟨n0, h⟩ := h
        refine kX3_about_L76 G (fun v3_12 v4_13 h => ?_) n0 _ _ h
        · refine x_iload_n G rfl dX3_about_122 1 rfl ?_
          exact x_reti1 G Q dX3_about_123 rfl r_2 h XSub.rf (Nat.le_refl _) (Nat.le_refl _)
      · replace h := h.2 c
        refine x_iload_n G rfl dX3_about_43 2 rfl ?_
        refine x_if_ne (tgt := 56) G dX3_about_44 rfl (fun c => ?_) (fun c => ?_)
        · replace h := h.1 c
          refine x_aload_n G rfl dX3_about_56 0 rfl ?_
          refine m_get_2 G dX3_about_57 ?_
          refine x_iload_n G rfl dX3_about_60 1 rfl ?_
          obtain ⟨hz, h⟩ := h
          refine m_ald_2 G hz dX3_about_61 ?_
          refine x_if_eq (tgt := 69) G dX3_about_62 rfl (fun c => ?_) (fun c => ?_)
          · replace h := h.1 c
            refine x_iconst (v := (0 : Int32)) G dX3_about_69 (by decide) ?_
            exact x_reti1 G Q dX3_about_70 rfl r_2 h XSub.rf (Nat.le_refl _) (Nat.le_refl _)
          · replace h := h.2 c
            refine x_iconst (v := (1 : Int32)) G dX3_about_65 (by decide) ?_
            refine x_goto (tgt := 70) G dX3_about_66 rfl ?_
            exact x_reti1 G Q dX3_about_70 rfl r_2 h XSub.rf (Nat.le_refl _) (Nat.le_refl _)
        · replace h := h.2 c
          refine x_aload_n G rfl dX3_about_47 0 rfl ?_
          refine m_get_1 G dX3_about_48 ?_
          refine x_iload_n G rfl dX3_about_51 1 rfl ?_
          obtain ⟨hz, h⟩ := h
          refine m_ald_1 G hz dX3_about_52 ?_
          refine x_goto (tgt := 70) G dX3_about_53 rfl ?_
          exact x_reti1 G Q dX3_about_70 rfl r_2 h XSub.rf (Nat.le_refl _) (Nat.le_refl _)
    · replace h := h.2 c
      refine x_iconst (v := (0 : Int32)) G dX3_about_36 (by decide) ?_
      exact x_reti1 G Q dX3_about_37 rfl r_2 h XSub.rf (Nat.le_refl _) (Nat.le_refl _)
  · replace h := h.2 c
    refine x_bipush (v := (-102 : Int32)) G dX3_about_17 (by decide) ?_
    exact x_reti1 G Q dX3_about_19 rfl (0 : Int32) h XSub.rf (Nat.le_refl _) (Nat.le_refl _)
theorem cdX3_toSpare : yX3_toSpare.cls = RX3 ∧ yX3_toSpare.cls ≠ "java/lang/invoke/MethodHandle" ∧ yX3_toSpare.cls ≠ "java/lang/invoke/VarHandle" ∧ (parseMethodDescriptor yX3_toSpare.desc).map (fun d => d.parameters.length) = some 2 := by decide +kernel
def wX3_toSpare (p0 : Int32) (p1 : Int32) (amountOf : Nat → UInt64) (accountOf : Nat → Int32) (dayOf : Nat → Int32) (spareAmount : Nat → UInt64) (spareAccount : Nat → Int32) (spareDay : Nat → Int32) (spare : Int32) (K : (Nat → UInt64) → (Nat → Int32) → (Nat → Int32) → Int32 → Prop) : Prop := (vp_in (((60 : Int32) * p0) + p1) 720 ∧ (∀ r_1 : UInt64, r_1 = (amountOf (((60 : Int32) * p0) + p1).toNatClampNeg) → (vp_in spare 60 ∧ (∀ spareAmount_2 : Nat → UInt64, spareAmount_2 = vf_upd spareAmount spare.toNatClampNeg r_1 → (vp_in (((60 : Int32) * p0) + p1) 720 ∧ (∀ x_3 : Int32, x_3 = (accountOf (((60 : Int32) * p0) + p1).toNatClampNeg) → (vp_in spare 60 ∧ (∀ spareAccount_4 : Nat → Int32, spareAccount_4 = upd spareAccount spare.toNatClampNeg x_3 → (vp_in (((60 : Int32) * p0) + p1) 720 ∧ (∀ x_5 : Int32, x_5 = (dayOf (((60 : Int32) * p0) + p1).toNatClampNeg) → (vp_in spare 60 ∧ (∀ spareDay_6 : Nat → Int32, spareDay_6 = upd spareDay spare.toNatClampNeg x_5 → (∀ x_7 : Int32, x_7 = (spare + (1 : Int32)) → K spareAmount_2 spareAccount_4 spareDay_6 x_7)))))))))))))
set_option maxRecDepth 20000 in
theorem tX3_toSpare {l : Launch} {D : va_G} {ta : Nat → ClassId} {h0 : Nat} {ad : Nat → Nat} {thrown : Int32} {many : Nat → Int32} {isWide : Nat → Int32} {amountOf : Nat → UInt64} {accountOf : Nat → Int32} {dayOf : Nat → Int32} {given : Nat → Int32} {givenOf : Nat → Int32} {runs : Int32} {runWide : Nat → Int32} {runWay : Nat → Int32} {runTotal : Nat → UInt64} {runSteps : Nat → Int32} {lefts : Nat → UInt64} {rights : Nat → UInt64} {results : Nat → UInt64} {wide : Int32} {dn : Int32} {stepsAt : Int32} {keeps : Int32} {order : Nat → Int32} {att : Nat → UInt64} {spareAmount : Nat → UInt64} {spareAccount : Nat → Int32} {spareDay : Nat → Int32} {cured : Int32} {cureOf : Nat → Int32} {shareOf : Nat → Int32} {big : Nat → Int32} {unitsOf : Int64} {spare : Int32} {halfFrom : Nat → Int32} {halfMany : Nat → Int32} {halfDone : Nat → Int32} {halfTotal : Nat → UInt64} {isFar : Int32} {p0 : Int32} {p1 : Int32} {K : (Nat → UInt64) → (Nat → Int32) → (Nat → Int32) → Int32 → Prop} (hlt : l.stackTraces = false) (h : wX3_toSpare p0 p1 amountOf accountOf dayOf spareAmount spareAccount spareDay spare K) : SMv4 l D ta yX3_toSpare cX3_toSpare 3 1 [.ref h0, .int p0, .int p1] (mW h0 ad ta thrown many isWide amountOf accountOf dayOf given givenOf runs runWide runWay runTotal runSteps lefts rights results wide dn stepsAt keeps order att spareAmount spareAccount spareDay cured cureOf shareOf big unitsOf spare halfFrom halfMany halfDone halfTotal isFar) (fun (spareAmount' : Nat → UInt64) (spareAccount' : Nat → Int32) (spareDay' : Nat → Int32) (spare' : Int32) => mW h0 ad ta thrown many isWide amountOf accountOf dayOf given givenOf runs runWide runWay runTotal runSteps lefts rights results wide dn stepsAt keeps order att spareAmount' spareAccount' spareDay' cured cureOf shareOf big unitsOf spare' halfFrom halfMany halfDone halfTotal isFar) 0 0 K := by
  refine x_stv4 hlt (plainFor_of_name (by decide +kernel)) (Nat.le_of_ble_eq_true rfl) (fun g G hl hD hT Q => ?_)
  subst hl; subst hD; subst hT
  unfold wX3_toSpare at h
  show X g 3 0 [(0, .ref h0), (1, .int p0), (2, .int p1)] [] (mW h0 ad (xT g) thrown many isWide amountOf accountOf dayOf given givenOf runs runWide runWay runTotal runSteps lefts rights results wide dn stepsAt keeps order att spareAmount spareAccount spareDay cured cureOf shareOf big unitsOf spare halfFrom halfMany halfDone halfTotal isFar) 0 0
  refine x_aload_n G rfl dX3_toSpare_0 0 rfl ?_
  refine m_get_22 G dX3_toSpare_1 ?_
  refine x_aload_n G rfl dX3_toSpare_4 0 rfl ?_
  refine m_get_30 G dX3_toSpare_5 ?_
  refine x_aload_n G rfl dX3_toSpare_8 0 rfl ?_
  refine m_get_3 G dX3_toSpare_9 ?_
  refine x_bipush (v := (60 : Int32)) G dX3_toSpare_12 (by decide) ?_
  refine x_iload_n G rfl dX3_toSpare_14 1 rfl ?_
  refine x_imul G dX3_toSpare_15 ?_
  refine x_iload_n G rfl dX3_toSpare_16 2 rfl ?_
  refine x_iadd G dX3_toSpare_17 ?_
  obtain ⟨hz, h⟩ := h
  refine m_ald_3 G hz dX3_toSpare_18 ?_
  refine x_topd (fun r_1 er_1 => ?_)
  replace h := h r_1 er_1
  obtain ⟨hz, h⟩ := h
  refine m_ast_22 G hz dX3_toSpare_19 (fun spareAmount_2 espareAmount_2 => ?_)
  replace h := h spareAmount_2 espareAmount_2
  refine x_aload_n G rfl dX3_toSpare_20 0 rfl ?_
  refine m_get_23 G dX3_toSpare_21 ?_
  refine x_aload_n G rfl dX3_toSpare_24 0 rfl ?_
  refine m_get_30 G dX3_toSpare_25 ?_
  refine x_aload_n G rfl dX3_toSpare_28 0 rfl ?_
  refine m_get_4 G dX3_toSpare_29 ?_
  refine x_bipush (v := (60 : Int32)) G dX3_toSpare_32 (by decide) ?_
  refine x_iload_n G rfl dX3_toSpare_34 1 rfl ?_
  refine x_imul G dX3_toSpare_35 ?_
  refine x_iload_n G rfl dX3_toSpare_36 2 rfl ?_
  refine x_iadd G dX3_toSpare_37 ?_
  obtain ⟨hz, h⟩ := h
  refine m_ald_4 G hz dX3_toSpare_38 ?_
  refine x_topi (fun x_3 ex_3 => ?_)
  replace h := h x_3 ex_3
  obtain ⟨hz, h⟩ := h
  refine m_ast_23 G hz dX3_toSpare_39 (fun spareAccount_4 espareAccount_4 => ?_)
  replace h := h spareAccount_4 espareAccount_4
  refine x_aload_n G rfl dX3_toSpare_40 0 rfl ?_
  refine m_get_24 G dX3_toSpare_41 ?_
  refine x_aload_n G rfl dX3_toSpare_44 0 rfl ?_
  refine m_get_30 G dX3_toSpare_45 ?_
  refine x_aload_n G rfl dX3_toSpare_48 0 rfl ?_
  refine m_get_5 G dX3_toSpare_49 ?_
  refine x_bipush (v := (60 : Int32)) G dX3_toSpare_52 (by decide) ?_
  refine x_iload_n G rfl dX3_toSpare_54 1 rfl ?_
  refine x_imul G dX3_toSpare_55 ?_
  refine x_iload_n G rfl dX3_toSpare_56 2 rfl ?_
  refine x_iadd G dX3_toSpare_57 ?_
  obtain ⟨hz, h⟩ := h
  refine m_ald_5 G hz dX3_toSpare_58 ?_
  refine x_topi (fun x_5 ex_5 => ?_)
  replace h := h x_5 ex_5
  obtain ⟨hz, h⟩ := h
  refine m_ast_24 G hz dX3_toSpare_59 (fun spareDay_6 espareDay_6 => ?_)
  replace h := h spareDay_6 espareDay_6
  refine x_aload_n G rfl dX3_toSpare_60 0 rfl ?_
  refine x_dup G dX3_toSpare_61 rfl ?_
  refine m_get_30 G dX3_toSpare_62 ?_
  refine x_iconst (v := (1 : Int32)) G dX3_toSpare_65 (by decide) ?_
  refine x_iadd G dX3_toSpare_66 ?_
  refine x_topi (fun x_7 ex_7 => ?_)
  replace h := h x_7 ex_7
  refine m_put_30 G dX3_toSpare_67 ?_
  exact x_retv4 G Q dX3_toSpare_70 spareAmount_2 spareAccount_4 spareDay_6 x_7 h XSub.rf (Nat.le_refl _) (Nat.le_refl _)
theorem cdX3_fromSpare : yX3_fromSpare.cls = RX3 ∧ yX3_fromSpare.cls ≠ "java/lang/invoke/MethodHandle" ∧ yX3_fromSpare.cls ≠ "java/lang/invoke/VarHandle" ∧ (parseMethodDescriptor yX3_fromSpare.desc).map (fun d => d.parameters.length) = some 2 := by decide +kernel
def wX3_fromSpare_L12 (spareAmount : Nat → UInt64) (spareAccount : Nat → Int32) (spareDay : Nat → Int32) (spare : Int32) (p0 : Int32) (X77 : Int32 → (Nat → UInt64) → (Nat → Int32) → (Nat → Int32) → Prop) : Nat → Int32 → (Nat → UInt64) → (Nat → Int32) → (Nat → Int32) → Prop
  | 0, _, _, _, _ => False
  | n + 1, v3_7, amountOf_8, accountOf_9, dayOf_10 => ((spare ≤ v3_7 → X77 v3_7 amountOf_8 accountOf_9 dayOf_10) ∧ (¬ spare ≤ v3_7 → (vp_in v3_7 60 ∧ (∀ r_11 : UInt64, r_11 = (spareAmount v3_7.toNatClampNeg) → (vp_in (((60 : Int32) * p0) + v3_7) 720 ∧ (∀ amountOf_12 : Nat → UInt64, amountOf_12 = vf_upd amountOf_8 (((60 : Int32) * p0) + v3_7).toNatClampNeg r_11 → (vp_in v3_7 60 ∧ (∀ x_13 : Int32, x_13 = (spareAccount v3_7.toNatClampNeg) → (vp_in (((60 : Int32) * p0) + v3_7) 720 ∧ (∀ accountOf_14 : Nat → Int32, accountOf_14 = upd accountOf_9 (((60 : Int32) * p0) + v3_7).toNatClampNeg x_13 → (vp_in v3_7 60 ∧ (∀ x_15 : Int32, x_15 = (spareDay v3_7.toNatClampNeg) → (vp_in (((60 : Int32) * p0) + v3_7) 720 ∧ (∀ dayOf_16 : Nat → Int32, dayOf_16 = upd dayOf_10 (((60 : Int32) * p0) + v3_7).toNatClampNeg x_15 → (∀ x_17 : Int32, x_17 = (v3_7 + (1 : Int32)) → wX3_fromSpare_L12 spareAmount spareAccount spareDay spare p0 X77 n x_17 amountOf_12 accountOf_14 dayOf_16)))))))))))))))
def wX3_fromSpare (p0 : Int32) (p1 : Int32) (many : Nat → Int32) (isWide : Nat → Int32) (amountOf : Nat → UInt64) (accountOf : Nat → Int32) (dayOf : Nat → Int32) (given : Nat → Int32) (spareAmount : Nat → UInt64) (spareAccount : Nat → Int32) (spareDay : Nat → Int32) (spare : Int32) (K : Int32 → (Nat → Int32) → (Nat → Int32) → (Nat → UInt64) → (Nat → Int32) → (Nat → Int32) → (Nat → Int32) → Prop) : Prop := (wX3_fresh p0 p1 spare many isWide amountOf accountOf dayOf given (fun (many_1 : Nat → Int32) (isWide_2 : Nat → Int32) (amountOf_3 : Nat → UInt64) (accountOf_4 : Nat → Int32) (dayOf_5 : Nat → Int32) (given_6 : Nat → Int32) => (∃ m12 : Nat, wX3_fromSpare_L12 spareAmount spareAccount spareDay spare p0 (fun (v3_22 : Int32) (amountOf_23 : Nat → UInt64) (accountOf_24 : Nat → Int32) (dayOf_25 : Nat → Int32) => K spare many_1 isWide_2 amountOf_23 accountOf_24 dayOf_25 given_6) m12 (0 : Int32) amountOf_3 accountOf_4 dayOf_5)))
set_option maxRecDepth 20000 in
theorem kX3_fromSpare_L12 {g : XG} {h0 : Nat} {ad : Nat → Nat} {thrown : Int32} {givenOf : Nat → Int32} {runs : Int32} {runWide : Nat → Int32} {runWay : Nat → Int32} {runTotal : Nat → UInt64} {runSteps : Nat → Int32} {lefts : Nat → UInt64} {rights : Nat → UInt64} {results : Nat → UInt64} {wide : Int32} {dn : Int32} {stepsAt : Int32} {keeps : Int32} {order : Nat → Int32} {att : Nat → UInt64} {spareAmount : Nat → UInt64} {spareAccount : Nat → Int32} {spareDay : Nat → Int32} {cured : Int32} {cureOf : Nat → Int32} {shareOf : Nat → Int32} {big : Nat → Int32} {unitsOf : Int64} {spare : Int32} {halfFrom : Nat → Int32} {halfMany : Nat → Int32} {halfDone : Nat → Int32} {halfTotal : Nat → UInt64} {isFar : Int32} {p0 : Int32} {p1 : Int32} {many_1 : Nat → Int32} {isWide_2 : Nat → Int32} {given_6 : Nat → Int32} {X77 : Int32 → (Nat → UInt64) → (Nat → Int32) → (Nat → Int32) → Prop} (G : XO g RX3 cX3_fromSpare 4 2 0 0) (hX77 : ∀ (v3_18 : Int32) (amountOf_19 : Nat → UInt64) (accountOf_20 : Nat → Int32) (dayOf_21 : Nat → Int32), X77 v3_18 amountOf_19 accountOf_20 dayOf_21 → X g 4 77 [(3, .int v3_18), (0, .ref h0), (1, .int p0), (2, .int p1)] [] (mW h0 ad (xT g) thrown many_1 isWide_2 amountOf_19 accountOf_20 dayOf_21 given_6 givenOf runs runWide runWay runTotal runSteps lefts rights results wide dn stepsAt keeps order att spareAmount spareAccount spareDay cured cureOf shareOf big unitsOf spare halfFrom halfMany halfDone halfTotal isFar) 0 0) : ∀ (n : Nat) (v3_7 : Int32) (amountOf_8 : Nat → UInt64) (accountOf_9 : Nat → Int32) (dayOf_10 : Nat → Int32), wX3_fromSpare_L12 spareAmount spareAccount spareDay spare p0 X77 n v3_7 amountOf_8 accountOf_9 dayOf_10 → X g 4 12 [(3, .int v3_7), (0, .ref h0), (1, .int p0), (2, .int p1)] [] (mW h0 ad (xT g) thrown many_1 isWide_2 amountOf_8 accountOf_9 dayOf_10 given_6 givenOf runs runWide runWay runTotal runSteps lefts rights results wide dn stepsAt keeps order att spareAmount spareAccount spareDay cured cureOf shareOf big unitsOf spare halfFrom halfMany halfDone halfTotal isFar) 0 0 := by
  intro n
  induction n with
  | zero => intro _ _ _ _ h; exact h.elim
  | succ n ih =>
    intro v3_7 amountOf_8 accountOf_9 dayOf_10 h
    unfold wX3_fromSpare_L12 at h
    refine x_iload_n G rfl dX3_fromSpare_12 0 rfl ?_
    refine x_aload_n G rfl dX3_fromSpare_13 1 rfl ?_
    refine m_get_30 G dX3_fromSpare_14 ?_
    refine x_icmp_ge (tgt := 77) G dX3_fromSpare_17 rfl (fun c => ?_) (fun c => ?_)
    · replace h := h.1 c
      exact hX77 v3_7 amountOf_8 accountOf_9 dayOf_10 h
    · replace h := h.2 c
      refine x_aload_n G rfl dX3_fromSpare_20 1 rfl ?_
      refine m_get_3 G dX3_fromSpare_21 ?_
      refine x_bipush (v := (60 : Int32)) G dX3_fromSpare_24 (by decide) ?_
      refine x_iload_n G rfl dX3_fromSpare_26 2 rfl ?_
      refine x_imul G dX3_fromSpare_27 ?_
      refine x_iload_n G rfl dX3_fromSpare_28 0 rfl ?_
      refine x_iadd G dX3_fromSpare_29 ?_
      refine x_aload_n G rfl dX3_fromSpare_30 1 rfl ?_
      refine m_get_22 G dX3_fromSpare_31 ?_
      refine x_iload_n G rfl dX3_fromSpare_34 0 rfl ?_
      obtain ⟨hz, h⟩ := h
      refine m_ald_22 G hz dX3_fromSpare_35 ?_
      refine x_topd (fun r_11 er_11 => ?_)
      replace h := h r_11 er_11
      obtain ⟨hz, h⟩ := h
      refine m_ast_3 G hz dX3_fromSpare_36 (fun amountOf_12 eamountOf_12 => ?_)
      replace h := h amountOf_12 eamountOf_12
      refine x_aload_n G rfl dX3_fromSpare_37 1 rfl ?_
      refine m_get_4 G dX3_fromSpare_38 ?_
      refine x_bipush (v := (60 : Int32)) G dX3_fromSpare_41 (by decide) ?_
      refine x_iload_n G rfl dX3_fromSpare_43 2 rfl ?_
      refine x_imul G dX3_fromSpare_44 ?_
      refine x_iload_n G rfl dX3_fromSpare_45 0 rfl ?_
      refine x_iadd G dX3_fromSpare_46 ?_
      refine x_aload_n G rfl dX3_fromSpare_47 1 rfl ?_
      refine m_get_23 G dX3_fromSpare_48 ?_
      refine x_iload_n G rfl dX3_fromSpare_51 0 rfl ?_
      obtain ⟨hz, h⟩ := h
      refine m_ald_23 G hz dX3_fromSpare_52 ?_
      refine x_topi (fun x_13 ex_13 => ?_)
      replace h := h x_13 ex_13
      obtain ⟨hz, h⟩ := h
      refine m_ast_4 G hz dX3_fromSpare_53 (fun accountOf_14 eaccountOf_14 => ?_)
      replace h := h accountOf_14 eaccountOf_14
      refine x_aload_n G rfl dX3_fromSpare_54 1 rfl ?_
      refine m_get_5 G dX3_fromSpare_55 ?_
      refine x_bipush (v := (60 : Int32)) G dX3_fromSpare_58 (by decide) ?_
      refine x_iload_n G rfl dX3_fromSpare_60 2 rfl ?_
      refine x_imul G dX3_fromSpare_61 ?_
      refine x_iload_n G rfl dX3_fromSpare_62 0 rfl ?_
      refine x_iadd G dX3_fromSpare_63 ?_
      refine x_aload_n G rfl dX3_fromSpare_64 1 rfl ?_
      refine m_get_24 G dX3_fromSpare_65 ?_
      refine x_iload_n G rfl dX3_fromSpare_68 0 rfl ?_
      obtain ⟨hz, h⟩ := h
      refine m_ald_24 G hz dX3_fromSpare_69 ?_
      refine x_topi (fun x_15 ex_15 => ?_)
      replace h := h x_15 ex_15
      obtain ⟨hz, h⟩ := h
      refine m_ast_5 G hz dX3_fromSpare_70 (fun dayOf_16 edayOf_16 => ?_)
      replace h := h dayOf_16 edayOf_16
      obtain ⟨x_17, ex_17⟩ : ∃ z : Int32, z = (v3_7 + (1 : Int32)) := ⟨_, rfl⟩
      replace h := h x_17 ex_17
      refine x_iinc (v := x_17) (lv' := [(3, .int x_17), (0, .ref h0), (1, .int p0), (2, .int p1)]) G dX3_fromSpare_71 0 rfl (by rw [ex_17]; rfl) (by decide) rfl ?_
      refine x_goto (tgt := 12) G dX3_fromSpare_74 rfl ?_
      exact ih x_17 amountOf_12 accountOf_14 dayOf_16 h
set_option maxRecDepth 20000 in
theorem tX3_fromSpare {l : Launch} {D : va_G} {ta : Nat → ClassId} {h0 : Nat} {ad : Nat → Nat} {thrown : Int32} {many : Nat → Int32} {isWide : Nat → Int32} {amountOf : Nat → UInt64} {accountOf : Nat → Int32} {dayOf : Nat → Int32} {given : Nat → Int32} {givenOf : Nat → Int32} {runs : Int32} {runWide : Nat → Int32} {runWay : Nat → Int32} {runTotal : Nat → UInt64} {runSteps : Nat → Int32} {lefts : Nat → UInt64} {rights : Nat → UInt64} {results : Nat → UInt64} {wide : Int32} {dn : Int32} {stepsAt : Int32} {keeps : Int32} {order : Nat → Int32} {att : Nat → UInt64} {spareAmount : Nat → UInt64} {spareAccount : Nat → Int32} {spareDay : Nat → Int32} {cured : Int32} {cureOf : Nat → Int32} {shareOf : Nat → Int32} {big : Nat → Int32} {unitsOf : Int64} {spare : Int32} {halfFrom : Nat → Int32} {halfMany : Nat → Int32} {halfDone : Nat → Int32} {halfTotal : Nat → UInt64} {isFar : Int32} {p0 : Int32} {p1 : Int32} {K : Int32 → (Nat → Int32) → (Nat → Int32) → (Nat → UInt64) → (Nat → Int32) → (Nat → Int32) → (Nat → Int32) → Prop} (hlt : l.stackTraces = false) (h : wX3_fromSpare p0 p1 many isWide amountOf accountOf dayOf given spareAmount spareAccount spareDay spare K) : SMi6 l D ta yX3_fromSpare cX3_fromSpare 4 FieldType.int 2 [.ref h0, .int p0, .int p1] (mW h0 ad ta thrown many isWide amountOf accountOf dayOf given givenOf runs runWide runWay runTotal runSteps lefts rights results wide dn stepsAt keeps order att spareAmount spareAccount spareDay cured cureOf shareOf big unitsOf spare halfFrom halfMany halfDone halfTotal isFar) (fun (many' : Nat → Int32) (isWide' : Nat → Int32) (amountOf' : Nat → UInt64) (accountOf' : Nat → Int32) (dayOf' : Nat → Int32) (given' : Nat → Int32) => mW h0 ad ta thrown many' isWide' amountOf' accountOf' dayOf' given' givenOf runs runWide runWay runTotal runSteps lefts rights results wide dn stepsAt keeps order att spareAmount spareAccount spareDay cured cureOf shareOf big unitsOf spare halfFrom halfMany halfDone halfTotal isFar) 0 0 K := by
  refine x_sti6 hlt (plainFor_of_name (by decide +kernel)) (Nat.le_of_ble_eq_true rfl) (fun g G hl hD hT Q => ?_)
  subst hl; subst hD; subst hT
  unfold wX3_fromSpare at h
  show X g 4 0 [(0, .ref h0), (1, .int p0), (2, .int p1)] [] (mW h0 ad (xT g) thrown many isWide amountOf accountOf dayOf given givenOf runs runWide runWay runTotal runSteps lefts rights results wide dn stepsAt keeps order att spareAmount spareAccount spareDay cured cureOf shareOf big unitsOf spare halfFrom halfMany halfDone halfTotal isFar) 0 0
  refine x_aload_n G rfl dX3_fromSpare_0 0 rfl ?_
  refine x_iload_n G rfl dX3_fromSpare_1 1 rfl ?_
  refine x_iload_n G rfl dX3_fromSpare_2 2 rfl ?_
  refine x_aload_n G rfl dX3_fromSpare_3 0 rfl ?_
  refine m_get_30 G dX3_fromSpare_4 ?_
  refine x_cVv6 (As := [.int p0, .int p1, .int spare]) (rest := []) G [] XSub.rf (tX3_fresh G.noTraces h) (lw_V q1657 q1659 qs19 q70 q1660) cdX3_fresh 3 0 rfl rfl rfl (by decide) (by decide) rfl (Nat.le_of_ble_eq_true rfl) (Nat.zero_le _) (Nat.zero_le _) dX3_fromSpare_7 (fun many_1 isWide_2 amountOf_3 accountOf_4 dayOf_5 given_6 h => ?_)
  show X g 4 10 [(0, .ref h0), (1, .int p0), (2, .int p1)] [] (mW h0 ad (xT g) thrown many_1 isWide_2 amountOf_3 accountOf_4 dayOf_5 given_6 givenOf runs runWide runWay runTotal runSteps lefts rights results wide dn stepsAt keeps order att spareAmount spareAccount spareDay cured cureOf shareOf big unitsOf spare halfFrom halfMany halfDone halfTotal isFar) 0 0
  refine x_iconst (v := (0 : Int32)) G dX3_fromSpare_10 (by decide) ?_
  refine x_istore_n (lv' := [(3, .int (0 : Int32)), (0, .ref h0), (1, .int p0), (2, .int p1)]) G rfl dX3_fromSpare_11 (by decide) rfl ?_
  obtain ⟨n0, h⟩ := h
  refine kX3_fromSpare_L12 G (fun v3_22 amountOf_23 accountOf_24 dayOf_25 h => ?_) n0 _ _ _ _ h
  · refine x_aload_n G rfl dX3_fromSpare_77 1 rfl ?_
    refine m_get_30 G dX3_fromSpare_78 ?_
    exact x_reti6 G Q dX3_fromSpare_81 rfl many_1 isWide_2 amountOf_23 accountOf_24 dayOf_25 given_6 h XSub.rf (Nat.le_refl _) (Nat.le_refl _)
theorem cdX3_filter : yX3_filter.cls = RX3 ∧ yX3_filter.cls ≠ "java/lang/invoke/MethodHandle" ∧ yX3_filter.cls ≠ "java/lang/invoke/VarHandle" ∧ (parseMethodDescriptor yX3_filter.desc).map (fun d => d.parameters.length) = some 3 := by decide +kernel
def wX3_filter_L64 (many : Nat → Int32) (amountOf : Nat → UInt64) (accountOf : Nat → Int32) (dayOf : Nat → Int32) (p1 : Int32) (p2 : Int32) (X108 : Int32 → (Nat → UInt64) → (Nat → Int32) → (Nat → Int32) → Int32 → Prop) : Nat → Int32 → (Nat → UInt64) → (Nat → Int32) → (Nat → Int32) → Int32 → Prop
  | 0, _, _, _, _, _ => False
  | n + 1, v4_6, spareAmount_7, spareAccount_8, spareDay_9, spare_10 => (vp_in p1 12 ∧ (((many p1.toNatClampNeg) ≤ v4_6 → X108 v4_6 spareAmount_7 spareAccount_8 spareDay_9 spare_10) ∧ (¬ (many p1.toNatClampNeg) ≤ v4_6 → ((p2 < (0 : Int32) → (wX3_toSpare p1 v4_6 amountOf accountOf dayOf spareAmount_7 spareAccount_8 spareDay_9 spare_10 (fun (spareAmount_11 : Nat → UInt64) (spareAccount_12 : Nat → Int32) (spareDay_13 : Nat → Int32) (spare_14 : Int32) => (∀ x_15 : Int32, x_15 = (v4_6 + (1 : Int32)) → wX3_filter_L64 many amountOf accountOf dayOf p1 p2 X108 n x_15 spareAmount_11 spareAccount_12 spareDay_13 spare_14)))) ∧ (¬ p2 < (0 : Int32) → (vp_in (((60 : Int32) * p1) + v4_6) 720 ∧ ((¬ (accountOf (((60 : Int32) * p1) + v4_6).toNatClampNeg) = p2 → (∀ x_16 : Int32, x_16 = (v4_6 + (1 : Int32)) → wX3_filter_L64 many amountOf accountOf dayOf p1 p2 X108 n x_16 spareAmount_7 spareAccount_8 spareDay_9 spare_10)) ∧ ((accountOf (((60 : Int32) * p1) + v4_6).toNatClampNeg) = p2 → (wX3_toSpare p1 v4_6 amountOf accountOf dayOf spareAmount_7 spareAccount_8 spareDay_9 spare_10 (fun (spareAmount_17 : Nat → UInt64) (spareAccount_18 : Nat → Int32) (spareDay_19 : Nat → Int32) (spare_20 : Int32) => (∀ x_21 : Int32, x_21 = (v4_6 + (1 : Int32)) → wX3_filter_L64 many amountOf accountOf dayOf p1 p2 X108 n x_21 spareAmount_17 spareAccount_18 spareDay_19 spare_20)))))))))))
def wX3_filter_J44 (many : Nat → Int32) (isWide : Nat → Int32) (amountOf : Nat → UInt64) (accountOf : Nat → Int32) (dayOf : Nat → Int32) (given : Nat → Int32) (spareAmount : Nat → UInt64) (spareAccount : Nat → Int32) (spareDay : Nat → Int32) (spare : Int32) (p0 : Int32) (p1 : Int32) (p2 : Int32) (K : Int32 → Int32 → (Nat → Int32) → (Nat → Int32) → (Nat → UInt64) → (Nat → Int32) → (Nat → Int32) → (Nat → Int32) → (Nat → UInt64) → (Nat → Int32) → (Nat → Int32) → Int32 → Prop) : Int32 → Int32 → Prop := fun (s_4 : Int32) (thrown_5 : Int32) => ((s_4 = (0 : Int32) → (∃ m64 : Nat, wX3_filter_L64 many amountOf accountOf dayOf p1 p2 (fun (v4_27 : Int32) (spareAmount_28 : Nat → UInt64) (spareAccount_29 : Nat → Int32) (spareDay_30 : Nat → Int32) (spare_31 : Int32) => (vp_in p1 12 ∧ (wX3_fromSpare p0 (isWide p1.toNatClampNeg) many isWide amountOf accountOf dayOf given spareAmount_28 spareAccount_29 spareDay_30 spare_31 (fun (r_32 : Int32) (many_33 : Nat → Int32) (isWide_34 : Nat → Int32) (amountOf_35 : Nat → UInt64) (accountOf_36 : Nat → Int32) (dayOf_37 : Nat → Int32) (given_38 : Nat → Int32) => K r_32 s_4 many_33 isWide_34 amountOf_35 accountOf_36 dayOf_37 given_38 spareAmount_28 spareAccount_29 spareDay_30 spare_31)))) m64 (0 : Int32) spareAmount spareAccount spareDay (0 : Int32))) ∧ (¬ s_4 = (0 : Int32) → K (0 : Int32) s_4 many isWide amountOf accountOf dayOf given spareAmount spareAccount spareDay spare))
def wX3_filter (p0 : Int32) (p1 : Int32) (p2 : Int32) (thrown : Int32) (many : Nat → Int32) (isWide : Nat → Int32) (amountOf : Nat → UInt64) (accountOf : Nat → Int32) (dayOf : Nat → Int32) (given : Nat → Int32) (spareAmount : Nat → UInt64) (spareAccount : Nat → Int32) (spareDay : Nat → Int32) (spare : Int32) (K : Int32 → Int32 → (Nat → Int32) → (Nat → Int32) → (Nat → UInt64) → (Nat → Int32) → (Nat → Int32) → (Nat → Int32) → (Nat → UInt64) → (Nat → Int32) → (Nat → Int32) → Int32 → Prop) : Prop := (wX3_in p2.toInt64 (-1 : Int64) (9 : Int64) (fun (r_1 : Int32) => ((¬ r_1 = (0 : Int32) → (wX3_in p0.toInt64 (0 : Int64) (11 : Int64) (fun (r_2 : Int32) => ((¬ r_2 = (0 : Int32) → (wX3_faultOf p1 many (fun (r_3 : Int32) => (wX3_filter_J44 many isWide amountOf accountOf dayOf given spareAmount spareAccount spareDay spare p0 p1 p2 K r_3 (0 : Int32))))) ∧ (r_2 = (0 : Int32) → (wX3_filter_J44 many isWide amountOf accountOf dayOf given spareAmount spareAccount spareDay spare p0 p1 p2 K (2 : Int32) (0 : Int32))))))) ∧ (r_1 = (0 : Int32) → K (-102 : Int32) (0 : Int32) many isWide amountOf accountOf dayOf given spareAmount spareAccount spareDay spare))))
set_option maxRecDepth 20000 in
theorem kX3_filter_L64 {g : XG} {h0 : Nat} {ad : Nat → Nat} {many : Nat → Int32} {isWide : Nat → Int32} {amountOf : Nat → UInt64} {accountOf : Nat → Int32} {dayOf : Nat → Int32} {given : Nat → Int32} {givenOf : Nat → Int32} {runs : Int32} {runWide : Nat → Int32} {runWay : Nat → Int32} {runTotal : Nat → UInt64} {runSteps : Nat → Int32} {lefts : Nat → UInt64} {rights : Nat → UInt64} {results : Nat → UInt64} {wide : Int32} {dn : Int32} {stepsAt : Int32} {keeps : Int32} {order : Nat → Int32} {att : Nat → UInt64} {cured : Int32} {cureOf : Nat → Int32} {shareOf : Nat → Int32} {big : Nat → Int32} {unitsOf : Int64} {halfFrom : Nat → Int32} {halfMany : Nat → Int32} {halfDone : Nat → Int32} {halfTotal : Nat → UInt64} {isFar : Int32} {p0 : Int32} {p1 : Int32} {p2 : Int32} {s_4 : Int32} {X108 : Int32 → (Nat → UInt64) → (Nat → Int32) → (Nat → Int32) → Int32 → Prop} (G : XO g RX3 cX3_filter 5 3 0 0) (hX108 : ∀ (v4_22 : Int32) (spareAmount_23 : Nat → UInt64) (spareAccount_24 : Nat → Int32) (spareDay_25 : Nat → Int32) (spare_26 : Int32), X108 v4_22 spareAmount_23 spareAccount_24 spareDay_25 spare_26 → X g 5 108 [(4, .int v4_22), (0, .ref h0), (1, .int p0), (2, .int p1), (3, .int p2)] [] (mW h0 ad (xT g) s_4 many isWide amountOf accountOf dayOf given givenOf runs runWide runWay runTotal runSteps lefts rights results wide dn stepsAt keeps order att spareAmount_23 spareAccount_24 spareDay_25 cured cureOf shareOf big unitsOf spare_26 halfFrom halfMany halfDone halfTotal isFar) 0 0) : ∀ (n : Nat) (v4_6 : Int32) (spareAmount_7 : Nat → UInt64) (spareAccount_8 : Nat → Int32) (spareDay_9 : Nat → Int32) (spare_10 : Int32), wX3_filter_L64 many amountOf accountOf dayOf p1 p2 X108 n v4_6 spareAmount_7 spareAccount_8 spareDay_9 spare_10 → X g 5 64 [(4, .int v4_6), (0, .ref h0), (1, .int p0), (2, .int p1), (3, .int p2)] [] (mW h0 ad (xT g) s_4 many isWide amountOf accountOf dayOf given givenOf runs runWide runWay runTotal runSteps lefts rights results wide dn stepsAt keeps order att spareAmount_7 spareAccount_8 spareDay_9 cured cureOf shareOf big unitsOf spare_10 halfFrom halfMany halfDone halfTotal isFar) 0 0 := by
  intro n
  induction n with
  | zero => intro _ _ _ _ _ h; exact h.elim
  | succ n ih =>
    intro v4_6 spareAmount_7 spareAccount_8 spareDay_9 spare_10 h
    unfold wX3_filter_L64 at h
    refine x_iload G dX3_filter_64 0 rfl ?_
    refine x_aload_n G rfl dX3_filter_66 1 rfl ?_
    refine m_get_1 G dX3_filter_67 ?_
    refine x_iload_n G rfl dX3_filter_70 3 rfl ?_
    obtain ⟨hz, h⟩ := h
    refine m_ald_1 G hz dX3_filter_71 ?_
    refine x_icmp_ge (tgt := 108) G dX3_filter_72 rfl (fun c => ?_) (fun c => ?_)
    · replace h := h.1 c
      exact hX108 v4_6 spareAmount_7 spareAccount_8 spareDay_9 spare_10 h
    · replace h := h.2 c
      refine x_iload_n G rfl dX3_filter_75 4 rfl ?_
      refine x_if_lt (tgt := 95) G dX3_filter_76 rfl (fun c => ?_) (fun c => ?_)
      · replace h := h.1 c
        refine x_aload_n G rfl dX3_filter_95 1 rfl ?_
        refine x_iload_n G rfl dX3_filter_96 3 rfl ?_
        refine x_iload G dX3_filter_97 0 rfl ?_
        refine x_cVv4 (As := [.int p1, .int v4_6]) (rest := []) G [] XSub.rf (tX3_toSpare G.noTraces h) (lw_V q1724 q1726 qs23 q70 q1727) cdX3_toSpare 3 0 rfl rfl rfl (by decide) (by decide) rfl (Nat.le_of_ble_eq_true rfl) (Nat.zero_le _) (Nat.zero_le _) dX3_filter_99 (fun spareAmount_11 spareAccount_12 spareDay_13 spare_14 h => ?_)
        show X g 5 102 [(4, .int v4_6), (0, .ref h0), (1, .int p0), (2, .int p1), (3, .int p2)] [] (mW h0 ad (xT g) s_4 many isWide amountOf accountOf dayOf given givenOf runs runWide runWay runTotal runSteps lefts rights results wide dn stepsAt keeps order att spareAmount_11 spareAccount_12 spareDay_13 cured cureOf shareOf big unitsOf spare_14 halfFrom halfMany halfDone halfTotal isFar) 0 0
        obtain ⟨x_15, ex_15⟩ : ∃ z : Int32, z = (v4_6 + (1 : Int32)) := ⟨_, rfl⟩
        replace h := h x_15 ex_15
        refine x_iinc (v := x_15) (lv' := [(4, .int x_15), (0, .ref h0), (1, .int p0), (2, .int p1), (3, .int p2)]) G dX3_filter_102 0 rfl (by rw [ex_15]; rfl) (by decide) rfl ?_
        refine x_goto (tgt := 64) G dX3_filter_105 rfl ?_
        exact ih x_15 spareAmount_11 spareAccount_12 spareDay_13 spare_14 h
      · replace h := h.2 c
        refine x_aload_n G rfl dX3_filter_79 1 rfl ?_
        refine m_get_4 G dX3_filter_80 ?_
        refine x_bipush (v := (60 : Int32)) G dX3_filter_83 (by decide) ?_
        refine x_iload_n G rfl dX3_filter_85 3 rfl ?_
        refine x_imul G dX3_filter_86 ?_
        refine x_iload G dX3_filter_87 0 rfl ?_
        refine x_iadd G dX3_filter_89 ?_
        obtain ⟨hz, h⟩ := h
        refine m_ald_4 G hz dX3_filter_90 ?_
        refine x_iload_n G rfl dX3_filter_91 4 rfl ?_
        refine x_icmp_ne (tgt := 102) G dX3_filter_92 rfl (fun c => ?_) (fun c => ?_)
        · replace h := h.1 c
          obtain ⟨x_16, ex_16⟩ : ∃ z : Int32, z = (v4_6 + (1 : Int32)) := ⟨_, rfl⟩
          replace h := h x_16 ex_16
          refine x_iinc (v := x_16) (lv' := [(4, .int x_16), (0, .ref h0), (1, .int p0), (2, .int p1), (3, .int p2)]) G dX3_filter_102 0 rfl (by rw [ex_16]; rfl) (by decide) rfl ?_
          refine x_goto (tgt := 64) G dX3_filter_105 rfl ?_
          exact ih x_16 spareAmount_7 spareAccount_8 spareDay_9 spare_10 h
        · replace h := h.2 c
          refine x_aload_n G rfl dX3_filter_95 1 rfl ?_
          refine x_iload_n G rfl dX3_filter_96 3 rfl ?_
          refine x_iload G dX3_filter_97 0 rfl ?_
          refine x_cVv4 (As := [.int p1, .int v4_6]) (rest := []) G [] XSub.rf (tX3_toSpare G.noTraces h) (lw_V q1724 q1726 qs23 q70 q1727) cdX3_toSpare 3 0 rfl rfl rfl (by decide) (by decide) rfl (Nat.le_of_ble_eq_true rfl) (Nat.zero_le _) (Nat.zero_le _) dX3_filter_99 (fun spareAmount_17 spareAccount_18 spareDay_19 spare_20 h => ?_)
          show X g 5 102 [(4, .int v4_6), (0, .ref h0), (1, .int p0), (2, .int p1), (3, .int p2)] [] (mW h0 ad (xT g) s_4 many isWide amountOf accountOf dayOf given givenOf runs runWide runWay runTotal runSteps lefts rights results wide dn stepsAt keeps order att spareAmount_17 spareAccount_18 spareDay_19 cured cureOf shareOf big unitsOf spare_20 halfFrom halfMany halfDone halfTotal isFar) 0 0
          obtain ⟨x_21, ex_21⟩ : ∃ z : Int32, z = (v4_6 + (1 : Int32)) := ⟨_, rfl⟩
          replace h := h x_21 ex_21
          refine x_iinc (v := x_21) (lv' := [(4, .int x_21), (0, .ref h0), (1, .int p0), (2, .int p1), (3, .int p2)]) G dX3_filter_102 0 rfl (by rw [ex_21]; rfl) (by decide) rfl ?_
          refine x_goto (tgt := 64) G dX3_filter_105 rfl ?_
          exact ih x_21 spareAmount_17 spareAccount_18 spareDay_19 spare_20 h
set_option maxRecDepth 20000 in
theorem kX3_filter_J44 {g : XG} {h0 : Nat} {ad : Nat → Nat} {many : Nat → Int32} {isWide : Nat → Int32} {amountOf : Nat → UInt64} {accountOf : Nat → Int32} {dayOf : Nat → Int32} {given : Nat → Int32} {givenOf : Nat → Int32} {runs : Int32} {runWide : Nat → Int32} {runWay : Nat → Int32} {runTotal : Nat → UInt64} {runSteps : Nat → Int32} {lefts : Nat → UInt64} {rights : Nat → UInt64} {results : Nat → UInt64} {wide : Int32} {dn : Int32} {stepsAt : Int32} {keeps : Int32} {order : Nat → Int32} {att : Nat → UInt64} {spareAmount : Nat → UInt64} {spareAccount : Nat → Int32} {spareDay : Nat → Int32} {cured : Int32} {cureOf : Nat → Int32} {shareOf : Nat → Int32} {big : Nat → Int32} {unitsOf : Int64} {spare : Int32} {halfFrom : Nat → Int32} {halfMany : Nat → Int32} {halfDone : Nat → Int32} {halfTotal : Nat → UInt64} {isFar : Int32} {p0 : Int32} {p1 : Int32} {p2 : Int32} {K : Int32 → Int32 → (Nat → Int32) → (Nat → Int32) → (Nat → UInt64) → (Nat → Int32) → (Nat → Int32) → (Nat → Int32) → (Nat → UInt64) → (Nat → Int32) → (Nat → Int32) → Int32 → Prop} (G : XO g RX3 cX3_filter 5 3 0 0) (Q : XQi11 g FieldType.int 0 0 (fun (thrown' : Int32) (many' : Nat → Int32) (isWide' : Nat → Int32) (amountOf' : Nat → UInt64) (accountOf' : Nat → Int32) (dayOf' : Nat → Int32) (given' : Nat → Int32) (spareAmount' : Nat → UInt64) (spareAccount' : Nat → Int32) (spareDay' : Nat → Int32) (spare' : Int32) => mW h0 ad (xT g) thrown' many' isWide' amountOf' accountOf' dayOf' given' givenOf runs runWide runWay runTotal runSteps lefts rights results wide dn stepsAt keeps order att spareAmount' spareAccount' spareDay' cured cureOf shareOf big unitsOf spare' halfFrom halfMany halfDone halfTotal isFar) K) : ∀ (s_4 : Int32) (thrown_5 : Int32), wX3_filter_J44 many isWide amountOf accountOf dayOf given spareAmount spareAccount spareDay spare p0 p1 p2 K s_4 thrown_5 → X g 5 44 [(0, .ref h0), (1, .int p0), (2, .int p1), (3, .int p2)] [.int s_4, .ref h0] (mW h0 ad (xT g) thrown_5 many isWide amountOf accountOf dayOf given givenOf runs runWide runWay runTotal runSteps lefts rights results wide dn stepsAt keeps order att spareAmount spareAccount spareDay cured cureOf shareOf big unitsOf spare halfFrom halfMany halfDone halfTotal isFar) 0 0 := by
  intro s_4 thrown_5 h
  unfold wX3_filter_J44 at h
  refine m_put_0 G dX3_filter_44 ?_
  refine x_aload_n G rfl dX3_filter_47 0 rfl ?_
  refine m_get_0 G dX3_filter_48 ?_
  refine x_if_eq (tgt := 56) G dX3_filter_51 rfl (fun c => ?_) (fun c => ?_)
  · replace h := h.1 c
    refine x_aload_n G rfl dX3_filter_56 0 rfl ?_
    refine x_iconst (v := (0 : Int32)) G dX3_filter_57 (by decide) ?_
    refine m_put_30 G dX3_filter_58 ?_
    refine x_iconst (v := (0 : Int32)) G dX3_filter_61 (by decide) ?_
    refine x_istore (lv' := [(4, .int (0 : Int32)), (0, .ref h0), (1, .int p0), (2, .int p1), (3, .int p2)]) G dX3_filter_62 (by decide) rfl ?_
    obtain ⟨n0, h⟩ := h
    refine kX3_filter_L64 G (fun v4_27 spareAmount_28 spareAccount_29 spareDay_30 spare_31 h => ?_) n0 _ _ _ _ _ h
    · refine x_aload_n G rfl dX3_filter_108 1 rfl ?_
      refine x_iload_n G rfl dX3_filter_109 2 rfl ?_
      refine x_aload_n G rfl dX3_filter_110 1 rfl ?_
      refine m_get_2 G dX3_filter_111 ?_
      refine x_iload_n G rfl dX3_filter_114 3 rfl ?_
      obtain ⟨hz, h⟩ := h
      refine m_ald_2 G hz dX3_filter_115 ?_
      refine x_cVi6 (As := [.int p0, .int (isWide p1.toNatClampNeg)]) (rest := []) G [] XSub.rf (tX3_fromSpare G.noTraces h) (lw_V q1728 q1730 qs24 q70 q1731) cdX3_fromSpare 3 0 rfl rfl rfl (by decide) (by decide) rfl (Nat.le_of_ble_eq_true rfl) (Nat.zero_le _) (Nat.zero_le _) dX3_filter_116 (fun r_32 many_33 isWide_34 amountOf_35 accountOf_36 dayOf_37 given_38 h => ?_)
      show X g 5 119 [(4, .int v4_27), (0, .ref h0), (1, .int p0), (2, .int p1), (3, .int p2)] [.int r_32] (mW h0 ad (xT g) s_4 many_33 isWide_34 amountOf_35 accountOf_36 dayOf_37 given_38 givenOf runs runWide runWay runTotal runSteps lefts rights results wide dn stepsAt keeps order att spareAmount_28 spareAccount_29 spareDay_30 cured cureOf shareOf big unitsOf spare_31 halfFrom halfMany halfDone halfTotal isFar) 0 0
      exact x_reti11 G Q dX3_filter_119 rfl s_4 many_33 isWide_34 amountOf_35 accountOf_36 dayOf_37 given_38 spareAmount_28 spareAccount_29 spareDay_30 spare_31 h XSub.rf (Nat.le_refl _) (Nat.le_refl _)
  · replace h := h.2 c
    refine x_iconst (v := (0 : Int32)) G dX3_filter_54 (by decide) ?_
    exact x_reti11 G Q dX3_filter_55 rfl s_4 many isWide amountOf accountOf dayOf given spareAmount spareAccount spareDay spare h XSub.rf (Nat.le_refl _) (Nat.le_refl _)
set_option maxRecDepth 20000 in
theorem tX3_filter {l : Launch} {D : va_G} {ta : Nat → ClassId} {h0 : Nat} {ad : Nat → Nat} {thrown : Int32} {many : Nat → Int32} {isWide : Nat → Int32} {amountOf : Nat → UInt64} {accountOf : Nat → Int32} {dayOf : Nat → Int32} {given : Nat → Int32} {givenOf : Nat → Int32} {runs : Int32} {runWide : Nat → Int32} {runWay : Nat → Int32} {runTotal : Nat → UInt64} {runSteps : Nat → Int32} {lefts : Nat → UInt64} {rights : Nat → UInt64} {results : Nat → UInt64} {wide : Int32} {dn : Int32} {stepsAt : Int32} {keeps : Int32} {order : Nat → Int32} {att : Nat → UInt64} {spareAmount : Nat → UInt64} {spareAccount : Nat → Int32} {spareDay : Nat → Int32} {cured : Int32} {cureOf : Nat → Int32} {shareOf : Nat → Int32} {big : Nat → Int32} {unitsOf : Int64} {spare : Int32} {halfFrom : Nat → Int32} {halfMany : Nat → Int32} {halfDone : Nat → Int32} {halfTotal : Nat → UInt64} {isFar : Int32} {p0 : Int32} {p1 : Int32} {p2 : Int32} {K : Int32 → Int32 → (Nat → Int32) → (Nat → Int32) → (Nat → UInt64) → (Nat → Int32) → (Nat → Int32) → (Nat → Int32) → (Nat → UInt64) → (Nat → Int32) → (Nat → Int32) → Int32 → Prop} (hlt : l.stackTraces = false) (h : wX3_filter p0 p1 p2 thrown many isWide amountOf accountOf dayOf given spareAmount spareAccount spareDay spare K) : SMi11 l D ta yX3_filter cX3_filter 5 FieldType.int 3 [.ref h0, .int p0, .int p1, .int p2] (mW h0 ad ta thrown many isWide amountOf accountOf dayOf given givenOf runs runWide runWay runTotal runSteps lefts rights results wide dn stepsAt keeps order att spareAmount spareAccount spareDay cured cureOf shareOf big unitsOf spare halfFrom halfMany halfDone halfTotal isFar) (fun (thrown' : Int32) (many' : Nat → Int32) (isWide' : Nat → Int32) (amountOf' : Nat → UInt64) (accountOf' : Nat → Int32) (dayOf' : Nat → Int32) (given' : Nat → Int32) (spareAmount' : Nat → UInt64) (spareAccount' : Nat → Int32) (spareDay' : Nat → Int32) (spare' : Int32) => mW h0 ad ta thrown' many' isWide' amountOf' accountOf' dayOf' given' givenOf runs runWide runWay runTotal runSteps lefts rights results wide dn stepsAt keeps order att spareAmount' spareAccount' spareDay' cured cureOf shareOf big unitsOf spare' halfFrom halfMany halfDone halfTotal isFar) 0 0 K := by
  refine x_sti11 hlt (plainFor_of_name (by decide +kernel)) (Nat.le_of_ble_eq_true rfl) (fun g G hl hD hT Q => ?_)
  subst hl; subst hD; subst hT
  unfold wX3_filter at h
  show X g 5 0 [(0, .ref h0), (1, .int p0), (2, .int p1), (3, .int p2)] [] (mW h0 ad (xT g) thrown many isWide amountOf accountOf dayOf given givenOf runs runWide runWay runTotal runSteps lefts rights results wide dn stepsAt keeps order att spareAmount spareAccount spareDay cured cureOf shareOf big unitsOf spare halfFrom halfMany halfDone halfTotal isFar) 0 0
  refine x_aload_n G rfl dX3_filter_0 0 rfl ?_
  refine x_iconst (v := (0 : Int32)) G dX3_filter_1 (by decide) ?_
  refine m_put_0 G dX3_filter_2 ?_
  refine x_iload_n G rfl dX3_filter_5 3 rfl ?_
  refine x_i2l G dX3_filter_6 ?_
  refine x_ldc2 G q1723 dX3_filter_7 ?_
  refine x_ldc2 G q1682 dX3_filter_10 ?_
  refine x_cPi (As := [.long p2.toInt64, .long (-1 : Int64), .long (9 : Int64)]) (rest := []) G (tX3_in G.noTraces h) (lw_S q1650 q1651 q70 q1652) cdX3_in (by decide) (by decide) rfl (Nat.le_of_ble_eq_true rfl) (Nat.zero_le _) (Nat.zero_le _) dX3_filter_13 (fun r_1 h => ?_)
  refine x_if_ne (tgt := 22) G dX3_filter_16 rfl (fun c => ?_) (fun c => ?_)
  · replace h := h.1 c
    refine x_aload_n G rfl dX3_filter_22 0 rfl ?_
    refine x_iload_n G rfl dX3_filter_23 1 rfl ?_
    refine x_i2l G dX3_filter_24 ?_
    refine x_lconst (v := (0 : Int64)) G dX3_filter_25 (by decide) ?_
    refine x_ldc2 G q1649 dX3_filter_26 ?_
    refine x_cPi (As := [.long p0.toInt64, .long (0 : Int64), .long (11 : Int64)]) (rest := [.ref h0]) G (tX3_in G.noTraces h) (lw_S q1650 q1651 q70 q1652) cdX3_in (by decide) (by decide) rfl (Nat.le_of_ble_eq_true rfl) (Nat.zero_le _) (Nat.zero_le _) dX3_filter_29 (fun r_2 h => ?_)
    refine x_if_ne (tgt := 39) G dX3_filter_32 rfl (fun c => ?_) (fun c => ?_)
    · replace h := h.1 c
      refine x_aload_n G rfl dX3_filter_39 0 rfl ?_
      refine x_iload_n G rfl dX3_filter_40 2 rfl ?_
      refine x_cVi0 (As := [.int p1]) (rest := [.ref h0]) G [] XSub.rf (tX3_faultOf G.noTraces h) (lw_V q1669 q1671 qs21 q70 q1672) cdX3_faultOf 3 0 rfl rfl rfl (by decide) (by decide) rfl (Nat.le_of_ble_eq_true rfl) (Nat.zero_le _) (Nat.zero_le _) dX3_filter_41 (fun r_3 h => ?_)
      show X g 5 44 [(0, .ref h0), (1, .int p0), (2, .int p1), (3, .int p2)] [.int r_3, .ref h0] (mW h0 ad (xT g) (0 : Int32) many isWide amountOf accountOf dayOf given givenOf runs runWide runWay runTotal runSteps lefts rights results wide dn stepsAt keeps order att spareAmount spareAccount spareDay cured cureOf shareOf big unitsOf spare halfFrom halfMany halfDone halfTotal isFar) 0 0
      refine kX3_filter_J44 G Q  _ _ h
    · replace h := h.2 c
      refine x_iconst (v := (2 : Int32)) G dX3_filter_35 (by decide) ?_
      refine x_goto (tgt := 44) G dX3_filter_36 rfl ?_
      refine kX3_filter_J44 G Q  _ _ h
  · replace h := h.2 c
    refine x_bipush (v := (-102 : Int32)) G dX3_filter_19 (by decide) ?_
    exact x_reti11 G Q dX3_filter_21 rfl (0 : Int32) many isWide amountOf accountOf dayOf given spareAmount spareAccount spareDay spare h XSub.rf (Nat.le_refl _) (Nat.le_refl _)
theorem cdX3_mix : yX3_mix.cls = RX3 ∧ yX3_mix.cls ≠ "java/lang/invoke/MethodHandle" ∧ yX3_mix.cls ≠ "java/lang/invoke/VarHandle" ∧ (parseMethodDescriptor yX3_mix.desc).map (fun d => d.parameters.length) = some 3 := by decide +kernel
def wX3_mix_J122 (many : Nat → Int32) (amountOf : Nat → UInt64) (accountOf : Nat → Int32) (dayOf : Nat → Int32) (p2 : Int32) (v4_5 : Int32) (X97 : Int32 → (Nat → UInt64) → (Nat → Int32) → (Nat → Int32) → Int32 → Prop) : (Nat → UInt64) → (Nat → Int32) → (Nat → Int32) → Int32 → Prop := fun (spareAmount_10 : Nat → UInt64) (spareAccount_11 : Nat → Int32) (spareDay_12 : Nat → Int32) (spare_13 : Int32) => (vp_in p2 12 ∧ (((many p2.toNatClampNeg) ≤ v4_5 → (∀ x_14 : Int32, x_14 = (v4_5 + (1 : Int32)) → X97 x_14 spareAmount_10 spareAccount_11 spareDay_12 spare_13)) ∧ (¬ (many p2.toNatClampNeg) ≤ v4_5 → (wX3_toSpare p2 v4_5 amountOf accountOf dayOf spareAmount_10 spareAccount_11 spareDay_12 spare_13 (fun (spareAmount_15 : Nat → UInt64) (spareAccount_16 : Nat → Int32) (spareDay_17 : Nat → Int32) (spare_18 : Int32) => (∀ x_19 : Int32, x_19 = (v4_5 + (1 : Int32)) → X97 x_19 spareAmount_15 spareAccount_16 spareDay_17 spare_18))))))
def wX3_mix_L97 (many : Nat → Int32) (amountOf : Nat → UInt64) (accountOf : Nat → Int32) (dayOf : Nat → Int32) (p1 : Int32) (p2 : Int32) (X146 : Int32 → (Nat → UInt64) → (Nat → Int32) → (Nat → Int32) → Int32 → Prop) : Nat → Int32 → (Nat → UInt64) → (Nat → Int32) → (Nat → Int32) → Int32 → Prop
  | 0, _, _, _, _, _ => False
  | n + 1, v4_5, spareAmount_6, spareAccount_7, spareDay_8, spare_9 => (((60 : Int32) ≤ v4_5 → X146 v4_5 spareAmount_6 spareAccount_7 spareDay_8 spare_9) ∧ (¬ (60 : Int32) ≤ v4_5 → (vp_in p1 12 ∧ (((many p1.toNatClampNeg) ≤ v4_5 → (wX3_mix_J122 many amountOf accountOf dayOf p2 v4_5 (wX3_mix_L97 many amountOf accountOf dayOf p1 p2 X146 n) spareAmount_6 spareAccount_7 spareDay_8 spare_9)) ∧ (¬ (many p1.toNatClampNeg) ≤ v4_5 → (wX3_toSpare p1 v4_5 amountOf accountOf dayOf spareAmount_6 spareAccount_7 spareDay_8 spare_9 (fun (spareAmount_25 : Nat → UInt64) (spareAccount_26 : Nat → Int32) (spareDay_27 : Nat → Int32) (spare_28 : Int32) => (wX3_mix_J122 many amountOf accountOf dayOf p2 v4_5 (wX3_mix_L97 many amountOf accountOf dayOf p1 p2 X146 n) spareAmount_25 spareAccount_26 spareDay_27 spare_28))))))))
def wX3_mix_J38 (many : Nat → Int32) (isWide : Nat → Int32) (amountOf : Nat → UInt64) (accountOf : Nat → Int32) (dayOf : Nat → Int32) (given : Nat → Int32) (spareAmount : Nat → UInt64) (spareAccount : Nat → Int32) (spareDay : Nat → Int32) (spare : Int32) (p0 : Int32) (p1 : Int32) (p2 : Int32) (K : Int32 → Int32 → (Nat → Int32) → (Nat → Int32) → (Nat → UInt64) → (Nat → Int32) → (Nat → Int32) → (Nat → Int32) → (Nat → UInt64) → (Nat → Int32) → (Nat → Int32) → Int32 → Prop) : Int32 → Prop := fun (s_4 : Int32) => ((s_4 = (0 : Int32) → (vp_in p1 12 ∧ (vp_in p2 12 ∧ (((isWide p1.toNatClampNeg) = (isWide p2.toNatClampNeg) → (vp_in p1 12 ∧ (vp_in p2 12 ∧ ((((many p1.toNatClampNeg) + (many p2.toNatClampNeg)) ≤ (60 : Int32) → (∃ m97 : Nat, wX3_mix_L97 many amountOf accountOf dayOf p1 p2 (fun (v4_34 : Int32) (spareAmount_35 : Nat → UInt64) (spareAccount_36 : Nat → Int32) (spareDay_37 : Nat → Int32) (spare_38 : Int32) => (vp_in p1 12 ∧ (wX3_fromSpare p0 (isWide p1.toNatClampNeg) many isWide amountOf accountOf dayOf given spareAmount_35 spareAccount_36 spareDay_37 spare_38 (fun (r_39 : Int32) (many_40 : Nat → Int32) (isWide_41 : Nat → Int32) (amountOf_42 : Nat → UInt64) (accountOf_43 : Nat → Int32) (dayOf_44 : Nat → Int32) (given_45 : Nat → Int32) => K r_39 s_4 many_40 isWide_41 amountOf_42 accountOf_43 dayOf_44 given_45 spareAmount_35 spareAccount_36 spareDay_37 spare_38)))) m97 (0 : Int32) spareAmount spareAccount spareDay (0 : Int32))) ∧ (¬ ((many p1.toNatClampNeg) + (many p2.toNatClampNeg)) ≤ (60 : Int32) → K (-103 : Int32) s_4 many isWide amountOf accountOf dayOf given spareAmount spareAccount spareDay spare))))) ∧ (¬ (isWide p1.toNatClampNeg) = (isWide p2.toNatClampNeg) → K (-104 : Int32) s_4 many isWide amountOf accountOf dayOf given spareAmount spareAccount spareDay spare))))) ∧ (¬ s_4 = (0 : Int32) → K (0 : Int32) s_4 many isWide amountOf accountOf dayOf given spareAmount spareAccount spareDay spare))
def wX3_mix (p0 : Int32) (p1 : Int32) (p2 : Int32) (thrown : Int32) (many : Nat → Int32) (isWide : Nat → Int32) (amountOf : Nat → UInt64) (accountOf : Nat → Int32) (dayOf : Nat → Int32) (given : Nat → Int32) (spareAmount : Nat → UInt64) (spareAccount : Nat → Int32) (spareDay : Nat → Int32) (spare : Int32) (K : Int32 → Int32 → (Nat → Int32) → (Nat → Int32) → (Nat → UInt64) → (Nat → Int32) → (Nat → Int32) → (Nat → Int32) → (Nat → UInt64) → (Nat → Int32) → (Nat → Int32) → Int32 → Prop) : Prop := (wX3_in p0.toInt64 (0 : Int64) (11 : Int64) (fun (r_1 : Int32) => ((¬ r_1 = (0 : Int32) → (wX3_faultOf p1 many (fun (r_2 : Int32) => ((r_2 = (0 : Int32) → (wX3_faultOf p2 many (fun (r_3 : Int32) => (wX3_mix_J38 many isWide amountOf accountOf dayOf given spareAmount spareAccount spareDay spare p0 p1 p2 K r_3)))) ∧ (¬ r_2 = (0 : Int32) → (wX3_faultOf p1 many (fun (r_46 : Int32) => (wX3_mix_J38 many isWide amountOf accountOf dayOf given spareAmount spareAccount spareDay spare p0 p1 p2 K r_46)))))))) ∧ (r_1 = (0 : Int32) → (wX3_mix_J38 many isWide amountOf accountOf dayOf given spareAmount spareAccount spareDay spare p0 p1 p2 K (2 : Int32))))))
set_option maxRecDepth 20000 in
theorem kX3_mix_J122 {g : XG} {h0 : Nat} {ad : Nat → Nat} {many : Nat → Int32} {isWide : Nat → Int32} {amountOf : Nat → UInt64} {accountOf : Nat → Int32} {dayOf : Nat → Int32} {given : Nat → Int32} {givenOf : Nat → Int32} {runs : Int32} {runWide : Nat → Int32} {runWay : Nat → Int32} {runTotal : Nat → UInt64} {runSteps : Nat → Int32} {lefts : Nat → UInt64} {rights : Nat → UInt64} {results : Nat → UInt64} {wide : Int32} {dn : Int32} {stepsAt : Int32} {keeps : Int32} {order : Nat → Int32} {att : Nat → UInt64} {cured : Int32} {cureOf : Nat → Int32} {shareOf : Nat → Int32} {big : Nat → Int32} {unitsOf : Int64} {halfFrom : Nat → Int32} {halfMany : Nat → Int32} {halfDone : Nat → Int32} {halfTotal : Nat → UInt64} {isFar : Int32} {p0 : Int32} {p1 : Int32} {p2 : Int32} {s_4 : Int32} {v4_5 : Int32} {X97 : Int32 → (Nat → UInt64) → (Nat → Int32) → (Nat → Int32) → Int32 → Prop} (G : XO g RX3 cX3_mix 5 3 0 0) (hX97 : ∀ (v4_20 : Int32) (spareAmount_21 : Nat → UInt64) (spareAccount_22 : Nat → Int32) (spareDay_23 : Nat → Int32) (spare_24 : Int32), X97 v4_20 spareAmount_21 spareAccount_22 spareDay_23 spare_24 → X g 5 97 [(4, .int v4_20), (0, .ref h0), (1, .int p0), (2, .int p1), (3, .int p2)] [] (mW h0 ad (xT g) s_4 many isWide amountOf accountOf dayOf given givenOf runs runWide runWay runTotal runSteps lefts rights results wide dn stepsAt keeps order att spareAmount_21 spareAccount_22 spareDay_23 cured cureOf shareOf big unitsOf spare_24 halfFrom halfMany halfDone halfTotal isFar) 0 0) : ∀ (spareAmount_10 : Nat → UInt64) (spareAccount_11 : Nat → Int32) (spareDay_12 : Nat → Int32) (spare_13 : Int32), wX3_mix_J122 many amountOf accountOf dayOf p2 v4_5 X97 spareAmount_10 spareAccount_11 spareDay_12 spare_13 → X g 5 122 [(0, .ref h0), (1, .int p0), (2, .int p1), (3, .int p2), (4, .int v4_5)] [] (mW h0 ad (xT g) s_4 many isWide amountOf accountOf dayOf given givenOf runs runWide runWay runTotal runSteps lefts rights results wide dn stepsAt keeps order att spareAmount_10 spareAccount_11 spareDay_12 cured cureOf shareOf big unitsOf spare_13 halfFrom halfMany halfDone halfTotal isFar) 0 0 := by
  intro spareAmount_10 spareAccount_11 spareDay_12 spare_13 h
  unfold wX3_mix_J122 at h
  refine x_iload G dX3_mix_122 4 rfl ?_
  refine x_aload_n G rfl dX3_mix_124 0 rfl ?_
  refine m_get_1 G dX3_mix_125 ?_
  refine x_iload_n G rfl dX3_mix_128 3 rfl ?_
  obtain ⟨hz, h⟩ := h
  refine m_ald_1 G hz dX3_mix_129 ?_
  refine x_icmp_ge (tgt := 140) G dX3_mix_130 rfl (fun c => ?_) (fun c => ?_)
  · replace h := h.1 c
    obtain ⟨x_14, ex_14⟩ : ∃ z : Int32, z = (v4_5 + (1 : Int32)) := ⟨_, rfl⟩
    replace h := h x_14 ex_14
    refine x_iinc (v := x_14) (lv' := [(4, .int x_14), (0, .ref h0), (1, .int p0), (2, .int p1), (3, .int p2)]) G dX3_mix_140 4 rfl (by rw [ex_14]; rfl) (by decide) rfl ?_
    refine x_goto (tgt := 97) G dX3_mix_143 rfl ?_
    exact hX97 x_14 spareAmount_10 spareAccount_11 spareDay_12 spare_13 h
  · replace h := h.2 c
    refine x_aload_n G rfl dX3_mix_133 0 rfl ?_
    refine x_iload_n G rfl dX3_mix_134 3 rfl ?_
    refine x_iload G dX3_mix_135 4 rfl ?_
    refine x_cVv4 (As := [.int p2, .int v4_5]) (rest := []) G [] XSub.rf (tX3_toSpare G.noTraces h) (lw_V q1724 q1726 qs23 q70 q1727) cdX3_toSpare 3 0 rfl rfl rfl (by decide) (by decide) rfl (Nat.le_of_ble_eq_true rfl) (Nat.zero_le _) (Nat.zero_le _) dX3_mix_137 (fun spareAmount_15 spareAccount_16 spareDay_17 spare_18 h => ?_)
    show X g 5 140 [(0, .ref h0), (1, .int p0), (2, .int p1), (3, .int p2), (4, .int v4_5)] [] (mW h0 ad (xT g) s_4 many isWide amountOf accountOf dayOf given givenOf runs runWide runWay runTotal runSteps lefts rights results wide dn stepsAt keeps order att spareAmount_15 spareAccount_16 spareDay_17 cured cureOf shareOf big unitsOf spare_18 halfFrom halfMany halfDone halfTotal isFar) 0 0
    obtain ⟨x_19, ex_19⟩ : ∃ z : Int32, z = (v4_5 + (1 : Int32)) := ⟨_, rfl⟩
    replace h := h x_19 ex_19
    refine x_iinc (v := x_19) (lv' := [(4, .int x_19), (0, .ref h0), (1, .int p0), (2, .int p1), (3, .int p2)]) G dX3_mix_140 4 rfl (by rw [ex_19]; rfl) (by decide) rfl ?_
    refine x_goto (tgt := 97) G dX3_mix_143 rfl ?_
    exact hX97 x_19 spareAmount_15 spareAccount_16 spareDay_17 spare_18 h
set_option maxRecDepth 20000 in
theorem kX3_mix_L97 {g : XG} {h0 : Nat} {ad : Nat → Nat} {many : Nat → Int32} {isWide : Nat → Int32} {amountOf : Nat → UInt64} {accountOf : Nat → Int32} {dayOf : Nat → Int32} {given : Nat → Int32} {givenOf : Nat → Int32} {runs : Int32} {runWide : Nat → Int32} {runWay : Nat → Int32} {runTotal : Nat → UInt64} {runSteps : Nat → Int32} {lefts : Nat → UInt64} {rights : Nat → UInt64} {results : Nat → UInt64} {wide : Int32} {dn : Int32} {stepsAt : Int32} {keeps : Int32} {order : Nat → Int32} {att : Nat → UInt64} {cured : Int32} {cureOf : Nat → Int32} {shareOf : Nat → Int32} {big : Nat → Int32} {unitsOf : Int64} {halfFrom : Nat → Int32} {halfMany : Nat → Int32} {halfDone : Nat → Int32} {halfTotal : Nat → UInt64} {isFar : Int32} {p0 : Int32} {p1 : Int32} {p2 : Int32} {s_4 : Int32} {X146 : Int32 → (Nat → UInt64) → (Nat → Int32) → (Nat → Int32) → Int32 → Prop} (G : XO g RX3 cX3_mix 5 3 0 0) (hX146 : ∀ (v4_29 : Int32) (spareAmount_30 : Nat → UInt64) (spareAccount_31 : Nat → Int32) (spareDay_32 : Nat → Int32) (spare_33 : Int32), X146 v4_29 spareAmount_30 spareAccount_31 spareDay_32 spare_33 → X g 5 146 [(4, .int v4_29), (0, .ref h0), (1, .int p0), (2, .int p1), (3, .int p2)] [] (mW h0 ad (xT g) s_4 many isWide amountOf accountOf dayOf given givenOf runs runWide runWay runTotal runSteps lefts rights results wide dn stepsAt keeps order att spareAmount_30 spareAccount_31 spareDay_32 cured cureOf shareOf big unitsOf spare_33 halfFrom halfMany halfDone halfTotal isFar) 0 0) : ∀ (n : Nat) (v4_5 : Int32) (spareAmount_6 : Nat → UInt64) (spareAccount_7 : Nat → Int32) (spareDay_8 : Nat → Int32) (spare_9 : Int32), wX3_mix_L97 many amountOf accountOf dayOf p1 p2 X146 n v4_5 spareAmount_6 spareAccount_7 spareDay_8 spare_9 → X g 5 97 [(4, .int v4_5), (0, .ref h0), (1, .int p0), (2, .int p1), (3, .int p2)] [] (mW h0 ad (xT g) s_4 many isWide amountOf accountOf dayOf given givenOf runs runWide runWay runTotal runSteps lefts rights results wide dn stepsAt keeps order att spareAmount_6 spareAccount_7 spareDay_8 cured cureOf shareOf big unitsOf spare_9 halfFrom halfMany halfDone halfTotal isFar) 0 0 := by
  intro n
  induction n with
  | zero => intro _ _ _ _ _ h; exact h.elim
  | succ n ih =>
    intro v4_5 spareAmount_6 spareAccount_7 spareDay_8 spare_9 h
    unfold wX3_mix_L97 at h
    refine x_iload G dX3_mix_97 0 rfl ?_
    refine x_bipush (v := (60 : Int32)) G dX3_mix_99 (by decide) ?_
    refine x_icmp_ge (tgt := 146) G dX3_mix_101 rfl (fun c => ?_) (fun c => ?_)
    · replace h := h.1 c
      exact hX146 v4_5 spareAmount_6 spareAccount_7 spareDay_8 spare_9 h
    · replace h := h.2 c
      refine x_iload G dX3_mix_104 0 rfl ?_
      refine x_aload_n G rfl dX3_mix_106 1 rfl ?_
      refine m_get_1 G dX3_mix_107 ?_
      refine x_iload_n G rfl dX3_mix_110 3 rfl ?_
      obtain ⟨hz, h⟩ := h
      refine m_ald_1 G hz dX3_mix_111 ?_
      refine x_icmp_ge (tgt := 122) G dX3_mix_112 rfl (fun c => ?_) (fun c => ?_)
      · replace h := h.1 c
        refine x_lv (lv' := [(0, .ref h0), (1, .int p0), (2, .int p1), (3, .int p2), (4, .int v4_5)]) [1, 2, 3, 4, 0] rfl ?_
        refine kX3_mix_J122 G ih _ _ _ _ h
      · replace h := h.2 c
        refine x_aload_n G rfl dX3_mix_115 1 rfl ?_
        refine x_iload_n G rfl dX3_mix_116 3 rfl ?_
        refine x_iload G dX3_mix_117 0 rfl ?_
        refine x_cVv4 (As := [.int p1, .int v4_5]) (rest := []) G [] XSub.rf (tX3_toSpare G.noTraces h) (lw_V q1724 q1726 qs23 q70 q1727) cdX3_toSpare 3 0 rfl rfl rfl (by decide) (by decide) rfl (Nat.le_of_ble_eq_true rfl) (Nat.zero_le _) (Nat.zero_le _) dX3_mix_119 (fun spareAmount_25 spareAccount_26 spareDay_27 spare_28 h => ?_)
        show X g 5 122 [(4, .int v4_5), (0, .ref h0), (1, .int p0), (2, .int p1), (3, .int p2)] [] (mW h0 ad (xT g) s_4 many isWide amountOf accountOf dayOf given givenOf runs runWide runWay runTotal runSteps lefts rights results wide dn stepsAt keeps order att spareAmount_25 spareAccount_26 spareDay_27 cured cureOf shareOf big unitsOf spare_28 halfFrom halfMany halfDone halfTotal isFar) 0 0
        refine x_lv (lv' := [(0, .ref h0), (1, .int p0), (2, .int p1), (3, .int p2), (4, .int v4_5)]) [1, 2, 3, 4, 0] rfl ?_
        refine kX3_mix_J122 G ih _ _ _ _ h
set_option maxRecDepth 20000 in
theorem kX3_mix_J38 {g : XG} {h0 : Nat} {ad : Nat → Nat} {thrown : Int32} {many : Nat → Int32} {isWide : Nat → Int32} {amountOf : Nat → UInt64} {accountOf : Nat → Int32} {dayOf : Nat → Int32} {given : Nat → Int32} {givenOf : Nat → Int32} {runs : Int32} {runWide : Nat → Int32} {runWay : Nat → Int32} {runTotal : Nat → UInt64} {runSteps : Nat → Int32} {lefts : Nat → UInt64} {rights : Nat → UInt64} {results : Nat → UInt64} {wide : Int32} {dn : Int32} {stepsAt : Int32} {keeps : Int32} {order : Nat → Int32} {att : Nat → UInt64} {spareAmount : Nat → UInt64} {spareAccount : Nat → Int32} {spareDay : Nat → Int32} {cured : Int32} {cureOf : Nat → Int32} {shareOf : Nat → Int32} {big : Nat → Int32} {unitsOf : Int64} {spare : Int32} {halfFrom : Nat → Int32} {halfMany : Nat → Int32} {halfDone : Nat → Int32} {halfTotal : Nat → UInt64} {isFar : Int32} {p0 : Int32} {p1 : Int32} {p2 : Int32} {K : Int32 → Int32 → (Nat → Int32) → (Nat → Int32) → (Nat → UInt64) → (Nat → Int32) → (Nat → Int32) → (Nat → Int32) → (Nat → UInt64) → (Nat → Int32) → (Nat → Int32) → Int32 → Prop} (G : XO g RX3 cX3_mix 5 3 0 0) (Q : XQi11 g FieldType.int 0 0 (fun (thrown' : Int32) (many' : Nat → Int32) (isWide' : Nat → Int32) (amountOf' : Nat → UInt64) (accountOf' : Nat → Int32) (dayOf' : Nat → Int32) (given' : Nat → Int32) (spareAmount' : Nat → UInt64) (spareAccount' : Nat → Int32) (spareDay' : Nat → Int32) (spare' : Int32) => mW h0 ad (xT g) thrown' many' isWide' amountOf' accountOf' dayOf' given' givenOf runs runWide runWay runTotal runSteps lefts rights results wide dn stepsAt keeps order att spareAmount' spareAccount' spareDay' cured cureOf shareOf big unitsOf spare' halfFrom halfMany halfDone halfTotal isFar) K) : ∀ (s_4 : Int32), wX3_mix_J38 many isWide amountOf accountOf dayOf given spareAmount spareAccount spareDay spare p0 p1 p2 K s_4 → X g 5 38 [(0, .ref h0), (1, .int p0), (2, .int p1), (3, .int p2)] [.int s_4, .ref h0] (mW h0 ad (xT g) thrown many isWide amountOf accountOf dayOf given givenOf runs runWide runWay runTotal runSteps lefts rights results wide dn stepsAt keeps order att spareAmount spareAccount spareDay cured cureOf shareOf big unitsOf spare halfFrom halfMany halfDone halfTotal isFar) 0 0 := by
  intro s_4 h
  unfold wX3_mix_J38 at h
  refine m_put_0 G dX3_mix_38 ?_
  refine x_aload_n G rfl dX3_mix_41 0 rfl ?_
  refine m_get_0 G dX3_mix_42 ?_
  refine x_if_eq (tgt := 50) G dX3_mix_45 rfl (fun c => ?_) (fun c => ?_)
  · replace h := h.1 c
    refine x_aload_n G rfl dX3_mix_50 0 rfl ?_
    refine m_get_2 G dX3_mix_51 ?_
    refine x_iload_n G rfl dX3_mix_54 2 rfl ?_
    obtain ⟨hz, h⟩ := h
    refine m_ald_2 G hz dX3_mix_55 ?_
    refine x_aload_n G rfl dX3_mix_56 0 rfl ?_
    refine m_get_2 G dX3_mix_57 ?_
    refine x_iload_n G rfl dX3_mix_60 3 rfl ?_
    obtain ⟨hz, h⟩ := h
    refine m_ald_2 G hz dX3_mix_61 ?_
    refine x_icmp_eq (tgt := 68) G dX3_mix_62 rfl (fun c => ?_) (fun c => ?_)
    · replace h := h.1 c
      refine x_aload_n G rfl dX3_mix_68 0 rfl ?_
      refine m_get_1 G dX3_mix_69 ?_
      refine x_iload_n G rfl dX3_mix_72 2 rfl ?_
      obtain ⟨hz, h⟩ := h
      refine m_ald_1 G hz dX3_mix_73 ?_
      refine x_aload_n G rfl dX3_mix_74 0 rfl ?_
      refine m_get_1 G dX3_mix_75 ?_
      refine x_iload_n G rfl dX3_mix_78 3 rfl ?_
      obtain ⟨hz, h⟩ := h
      refine m_ald_1 G hz dX3_mix_79 ?_
      refine x_iadd G dX3_mix_80 ?_
      refine x_bipush (v := (60 : Int32)) G dX3_mix_81 (by decide) ?_
      refine x_icmp_le (tgt := 89) G dX3_mix_83 rfl (fun c => ?_) (fun c => ?_)
      · replace h := h.1 c
        refine x_aload_n G rfl dX3_mix_89 0 rfl ?_
        refine x_iconst (v := (0 : Int32)) G dX3_mix_90 (by decide) ?_
        refine m_put_30 G dX3_mix_91 ?_
        refine x_iconst (v := (0 : Int32)) G dX3_mix_94 (by decide) ?_
        refine x_istore (lv' := [(4, .int (0 : Int32)), (0, .ref h0), (1, .int p0), (2, .int p1), (3, .int p2)]) G dX3_mix_95 (by decide) rfl ?_
        obtain ⟨n0, h⟩ := h
        refine kX3_mix_L97 G (fun v4_34 spareAmount_35 spareAccount_36 spareDay_37 spare_38 h => ?_) n0 _ _ _ _ _ h
        · refine x_aload_n G rfl dX3_mix_146 1 rfl ?_
          refine x_iload_n G rfl dX3_mix_147 2 rfl ?_
          refine x_aload_n G rfl dX3_mix_148 1 rfl ?_
          refine m_get_2 G dX3_mix_149 ?_
          refine x_iload_n G rfl dX3_mix_152 3 rfl ?_
          obtain ⟨hz, h⟩ := h
          refine m_ald_2 G hz dX3_mix_153 ?_
          refine x_cVi6 (As := [.int p0, .int (isWide p1.toNatClampNeg)]) (rest := []) G [] XSub.rf (tX3_fromSpare G.noTraces h) (lw_V q1728 q1730 qs24 q70 q1731) cdX3_fromSpare 3 0 rfl rfl rfl (by decide) (by decide) rfl (Nat.le_of_ble_eq_true rfl) (Nat.zero_le _) (Nat.zero_le _) dX3_mix_154 (fun r_39 many_40 isWide_41 amountOf_42 accountOf_43 dayOf_44 given_45 h => ?_)
          show X g 5 157 [(4, .int v4_34), (0, .ref h0), (1, .int p0), (2, .int p1), (3, .int p2)] [.int r_39] (mW h0 ad (xT g) s_4 many_40 isWide_41 amountOf_42 accountOf_43 dayOf_44 given_45 givenOf runs runWide runWay runTotal runSteps lefts rights results wide dn stepsAt keeps order att spareAmount_35 spareAccount_36 spareDay_37 cured cureOf shareOf big unitsOf spare_38 halfFrom halfMany halfDone halfTotal isFar) 0 0
          exact x_reti11 G Q dX3_mix_157 rfl s_4 many_40 isWide_41 amountOf_42 accountOf_43 dayOf_44 given_45 spareAmount_35 spareAccount_36 spareDay_37 spare_38 h XSub.rf (Nat.le_refl _) (Nat.le_refl _)
      · replace h := h.2 c
        refine x_bipush (v := (-103 : Int32)) G dX3_mix_86 (by decide) ?_
        exact x_reti11 G Q dX3_mix_88 rfl s_4 many isWide amountOf accountOf dayOf given spareAmount spareAccount spareDay spare h XSub.rf (Nat.le_refl _) (Nat.le_refl _)
    · replace h := h.2 c
      refine x_bipush (v := (-104 : Int32)) G dX3_mix_65 (by decide) ?_
      exact x_reti11 G Q dX3_mix_67 rfl s_4 many isWide amountOf accountOf dayOf given spareAmount spareAccount spareDay spare h XSub.rf (Nat.le_refl _) (Nat.le_refl _)
  · replace h := h.2 c
    refine x_iconst (v := (0 : Int32)) G dX3_mix_48 (by decide) ?_
    exact x_reti11 G Q dX3_mix_49 rfl s_4 many isWide amountOf accountOf dayOf given spareAmount spareAccount spareDay spare h XSub.rf (Nat.le_refl _) (Nat.le_refl _)
set_option maxRecDepth 20000 in
theorem tX3_mix {l : Launch} {D : va_G} {ta : Nat → ClassId} {h0 : Nat} {ad : Nat → Nat} {thrown : Int32} {many : Nat → Int32} {isWide : Nat → Int32} {amountOf : Nat → UInt64} {accountOf : Nat → Int32} {dayOf : Nat → Int32} {given : Nat → Int32} {givenOf : Nat → Int32} {runs : Int32} {runWide : Nat → Int32} {runWay : Nat → Int32} {runTotal : Nat → UInt64} {runSteps : Nat → Int32} {lefts : Nat → UInt64} {rights : Nat → UInt64} {results : Nat → UInt64} {wide : Int32} {dn : Int32} {stepsAt : Int32} {keeps : Int32} {order : Nat → Int32} {att : Nat → UInt64} {spareAmount : Nat → UInt64} {spareAccount : Nat → Int32} {spareDay : Nat → Int32} {cured : Int32} {cureOf : Nat → Int32} {shareOf : Nat → Int32} {big : Nat → Int32} {unitsOf : Int64} {spare : Int32} {halfFrom : Nat → Int32} {halfMany : Nat → Int32} {halfDone : Nat → Int32} {halfTotal : Nat → UInt64} {isFar : Int32} {p0 : Int32} {p1 : Int32} {p2 : Int32} {K : Int32 → Int32 → (Nat → Int32) → (Nat → Int32) → (Nat → UInt64) → (Nat → Int32) → (Nat → Int32) → (Nat → Int32) → (Nat → UInt64) → (Nat → Int32) → (Nat → Int32) → Int32 → Prop} (hlt : l.stackTraces = false) (h : wX3_mix p0 p1 p2 thrown many isWide amountOf accountOf dayOf given spareAmount spareAccount spareDay spare K) : SMi11 l D ta yX3_mix cX3_mix 5 FieldType.int 3 [.ref h0, .int p0, .int p1, .int p2] (mW h0 ad ta thrown many isWide amountOf accountOf dayOf given givenOf runs runWide runWay runTotal runSteps lefts rights results wide dn stepsAt keeps order att spareAmount spareAccount spareDay cured cureOf shareOf big unitsOf spare halfFrom halfMany halfDone halfTotal isFar) (fun (thrown' : Int32) (many' : Nat → Int32) (isWide' : Nat → Int32) (amountOf' : Nat → UInt64) (accountOf' : Nat → Int32) (dayOf' : Nat → Int32) (given' : Nat → Int32) (spareAmount' : Nat → UInt64) (spareAccount' : Nat → Int32) (spareDay' : Nat → Int32) (spare' : Int32) => mW h0 ad ta thrown' many' isWide' amountOf' accountOf' dayOf' given' givenOf runs runWide runWay runTotal runSteps lefts rights results wide dn stepsAt keeps order att spareAmount' spareAccount' spareDay' cured cureOf shareOf big unitsOf spare' halfFrom halfMany halfDone halfTotal isFar) 0 0 K := by
  refine x_sti11 hlt (plainFor_of_name (by decide +kernel)) (Nat.le_of_ble_eq_true rfl) (fun g G hl hD hT Q => ?_)
  subst hl; subst hD; subst hT
  unfold wX3_mix at h
  show X g 5 0 [(0, .ref h0), (1, .int p0), (2, .int p1), (3, .int p2)] [] (mW h0 ad (xT g) thrown many isWide amountOf accountOf dayOf given givenOf runs runWide runWay runTotal runSteps lefts rights results wide dn stepsAt keeps order att spareAmount spareAccount spareDay cured cureOf shareOf big unitsOf spare halfFrom halfMany halfDone halfTotal isFar) 0 0
  refine x_aload_n G rfl dX3_mix_0 0 rfl ?_
  refine x_iload_n G rfl dX3_mix_1 1 rfl ?_
  refine x_i2l G dX3_mix_2 ?_
  refine x_lconst (v := (0 : Int64)) G dX3_mix_3 (by decide) ?_
  refine x_ldc2 G q1649 dX3_mix_4 ?_
  refine x_cPi (As := [.long p0.toInt64, .long (0 : Int64), .long (11 : Int64)]) (rest := [.ref h0]) G (tX3_in G.noTraces h) (lw_S q1650 q1651 q70 q1652) cdX3_in (by decide) (by decide) rfl (Nat.le_of_ble_eq_true rfl) (Nat.zero_le _) (Nat.zero_le _) dX3_mix_7 (fun r_1 h => ?_)
  refine x_if_ne (tgt := 17) G dX3_mix_10 rfl (fun c => ?_) (fun c => ?_)
  · replace h := h.1 c
    refine x_aload_n G rfl dX3_mix_17 0 rfl ?_
    refine x_iload_n G rfl dX3_mix_18 2 rfl ?_
    refine x_cVi0 (As := [.int p1]) (rest := [.ref h0]) G [] XSub.rf (tX3_faultOf G.noTraces h) (lw_V q1669 q1671 qs21 q70 q1672) cdX3_faultOf 3 0 rfl rfl rfl (by decide) (by decide) rfl (Nat.le_of_ble_eq_true rfl) (Nat.zero_le _) (Nat.zero_le _) dX3_mix_19 (fun r_2 h => ?_)
    show X g 5 22 [(0, .ref h0), (1, .int p0), (2, .int p1), (3, .int p2)] [.int r_2, .ref h0] (mW h0 ad (xT g) thrown many isWide amountOf accountOf dayOf given givenOf runs runWide runWay runTotal runSteps lefts rights results wide dn stepsAt keeps order att spareAmount spareAccount spareDay cured cureOf shareOf big unitsOf spare halfFrom halfMany halfDone halfTotal isFar) 0 0
    refine x_if_eq (tgt := 33) G dX3_mix_22 rfl (fun c => ?_) (fun c => ?_)
    · replace h := h.1 c
      refine x_aload_n G rfl dX3_mix_33 0 rfl ?_
      refine x_iload_n G rfl dX3_mix_34 3 rfl ?_
      refine x_cVi0 (As := [.int p2]) (rest := [.ref h0]) G [] XSub.rf (tX3_faultOf G.noTraces h) (lw_V q1669 q1671 qs21 q70 q1672) cdX3_faultOf 3 0 rfl rfl rfl (by decide) (by decide) rfl (Nat.le_of_ble_eq_true rfl) (Nat.zero_le _) (Nat.zero_le _) dX3_mix_35 (fun r_3 h => ?_)
      show X g 5 38 [(0, .ref h0), (1, .int p0), (2, .int p1), (3, .int p2)] [.int r_3, .ref h0] (mW h0 ad (xT g) thrown many isWide amountOf accountOf dayOf given givenOf runs runWide runWay runTotal runSteps lefts rights results wide dn stepsAt keeps order att spareAmount spareAccount spareDay cured cureOf shareOf big unitsOf spare halfFrom halfMany halfDone halfTotal isFar) 0 0
      refine kX3_mix_J38 G Q  _ h
    · replace h := h.2 c
      refine x_aload_n G rfl dX3_mix_25 0 rfl ?_
      refine x_iload_n G rfl dX3_mix_26 2 rfl ?_
      refine x_cVi0 (As := [.int p1]) (rest := [.ref h0]) G [] XSub.rf (tX3_faultOf G.noTraces h) (lw_V q1669 q1671 qs21 q70 q1672) cdX3_faultOf 3 0 rfl rfl rfl (by decide) (by decide) rfl (Nat.le_of_ble_eq_true rfl) (Nat.zero_le _) (Nat.zero_le _) dX3_mix_27 (fun r_46 h => ?_)
      show X g 5 30 [(0, .ref h0), (1, .int p0), (2, .int p1), (3, .int p2)] [.int r_46, .ref h0] (mW h0 ad (xT g) thrown many isWide amountOf accountOf dayOf given givenOf runs runWide runWay runTotal runSteps lefts rights results wide dn stepsAt keeps order att spareAmount spareAccount spareDay cured cureOf shareOf big unitsOf spare halfFrom halfMany halfDone halfTotal isFar) 0 0
      refine x_goto (tgt := 38) G dX3_mix_30 rfl ?_
      refine kX3_mix_J38 G Q  _ h
  · replace h := h.2 c
    refine x_iconst (v := (2 : Int32)) G dX3_mix_13 (by decide) ?_
    refine x_goto (tgt := 38) G dX3_mix_14 rfl ?_
    refine kX3_mix_J38 G Q  _ h
theorem cdX3_same : yX3_same.cls = RX3 ∧ yX3_same.cls ≠ "java/lang/invoke/MethodHandle" ∧ yX3_same.cls ≠ "java/lang/invoke/VarHandle" ∧ (parseMethodDescriptor yX3_same.desc).map (fun d => d.parameters.length) = some 2 := by decide +kernel
def wX3_same_L73 (many : Nat → Int32) (amountOf : Nat → UInt64) (accountOf : Nat → Int32) (dayOf : Nat → Int32) (p0 : Int32) (p1 : Int32) (X188 : Int32 → Int32 → Prop) : Nat → Int32 → Int32 → Prop
  | 0, _, _ => False
  | n + 1, v3_6, v4_7 => (vp_in p0 12 ∧ (((many p0.toNatClampNeg) ≤ v4_7 → X188 v3_6 v4_7) ∧ (¬ (many p0.toNatClampNeg) ≤ v4_7 → ((v3_6 = (0 : Int32) → X188 v3_6 v4_7) ∧ (¬ v3_6 = (0 : Int32) → (vp_in (((60 : Int32) * p0) + v4_7) 720 ∧ (wJ12_doubleToLongBits (amountOf (((60 : Int32) * p0) + v4_7).toNatClampNeg) (fun (r_8 : Int64) => (vp_in (((60 : Int32) * p1) + v4_7) 720 ∧ (wJ12_doubleToLongBits (amountOf (((60 : Int32) * p1) + v4_7).toNatClampNeg) (fun (r_9 : Int64) => ((¬ r_8 = r_9 → (∀ x_10 : Int32, x_10 = (v4_7 + (1 : Int32)) → wX3_same_L73 many amountOf accountOf dayOf p0 p1 X188 n (0 : Int32) x_10)) ∧ (r_8 = r_9 → (vp_in (((60 : Int32) * p0) + v4_7) 720 ∧ (vp_in (((60 : Int32) * p1) + v4_7) 720 ∧ ((¬ (accountOf (((60 : Int32) * p0) + v4_7).toNatClampNeg) = (accountOf (((60 : Int32) * p1) + v4_7).toNatClampNeg) → (∀ x_11 : Int32, x_11 = (v4_7 + (1 : Int32)) → wX3_same_L73 many amountOf accountOf dayOf p0 p1 X188 n (0 : Int32) x_11)) ∧ ((accountOf (((60 : Int32) * p0) + v4_7).toNatClampNeg) = (accountOf (((60 : Int32) * p1) + v4_7).toNatClampNeg) → (vp_in (((60 : Int32) * p0) + v4_7) 720 ∧ (vp_in (((60 : Int32) * p1) + v4_7) 720 ∧ ((¬ (dayOf (((60 : Int32) * p0) + v4_7).toNatClampNeg) = (dayOf (((60 : Int32) * p1) + v4_7).toNatClampNeg) → (∀ x_12 : Int32, x_12 = (v4_7 + (1 : Int32)) → wX3_same_L73 many amountOf accountOf dayOf p0 p1 X188 n (0 : Int32) x_12)) ∧ ((dayOf (((60 : Int32) * p0) + v4_7).toNatClampNeg) = (dayOf (((60 : Int32) * p1) + v4_7).toNatClampNeg) → (∀ x_13 : Int32, x_13 = (v4_7 + (1 : Int32)) → wX3_same_L73 many amountOf accountOf dayOf p0 p1 X188 n (1 : Int32) x_13))))))))))))))))))))))
def wX3_same_J69 (many : Nat → Int32) (amountOf : Nat → UInt64) (accountOf : Nat → Int32) (dayOf : Nat → Int32) (p0 : Int32) (p1 : Int32) (K : Int32 → Int32 → Prop) : Int32 → Int32 → Prop := fun (s_4 : Int32) (thrown_5 : Int32) => (∃ m73 : Nat, wX3_same_L73 many amountOf accountOf dayOf p0 p1 (fun (v3_16 : Int32) (v4_17 : Int32) => ((v3_16 = (0 : Int32) → K (0 : Int32) thrown_5) ∧ (¬ v3_16 = (0 : Int32) → K (1 : Int32) thrown_5))) m73 s_4 (0 : Int32))
def wX3_same_J22 (many : Nat → Int32) (isWide : Nat → Int32) (amountOf : Nat → UInt64) (accountOf : Nat → Int32) (dayOf : Nat → Int32) (p0 : Int32) (p1 : Int32) (K : Int32 → Int32 → Prop) : Int32 → Prop := fun (s_3 : Int32) => ((s_3 = (0 : Int32) → (vp_in p0 12 ∧ (vp_in p1 12 ∧ ((¬ (isWide p0.toNatClampNeg) = (isWide p1.toNatClampNeg) → (wX3_same_J69 many amountOf accountOf dayOf p0 p1 K (0 : Int32) s_3)) ∧ ((isWide p0.toNatClampNeg) = (isWide p1.toNatClampNeg) → (vp_in p0 12 ∧ (vp_in p1 12 ∧ ((¬ (many p0.toNatClampNeg) = (many p1.toNatClampNeg) → (wX3_same_J69 many amountOf accountOf dayOf p0 p1 K (0 : Int32) s_3)) ∧ ((many p0.toNatClampNeg) = (many p1.toNatClampNeg) → (wX3_same_J69 many amountOf accountOf dayOf p0 p1 K (1 : Int32) s_3)))))))))) ∧ (¬ s_3 = (0 : Int32) → K (0 : Int32) s_3))
def wX3_same (p0 : Int32) (p1 : Int32) (thrown : Int32) (many : Nat → Int32) (isWide : Nat → Int32) (amountOf : Nat → UInt64) (accountOf : Nat → Int32) (dayOf : Nat → Int32) (K : Int32 → Int32 → Prop) : Prop := (wX3_faultOf p0 many (fun (r_1 : Int32) => ((r_1 = (0 : Int32) → (wX3_faultOf p1 many (fun (r_2 : Int32) => (wX3_same_J22 many isWide amountOf accountOf dayOf p0 p1 K r_2)))) ∧ (¬ r_1 = (0 : Int32) → (wX3_faultOf p0 many (fun (r_18 : Int32) => (wX3_same_J22 many isWide amountOf accountOf dayOf p0 p1 K r_18)))))))
set_option maxRecDepth 20000 in
theorem kX3_same_L73 {g : XG} {h0 : Nat} {ad : Nat → Nat} {many : Nat → Int32} {isWide : Nat → Int32} {amountOf : Nat → UInt64} {accountOf : Nat → Int32} {dayOf : Nat → Int32} {given : Nat → Int32} {givenOf : Nat → Int32} {runs : Int32} {runWide : Nat → Int32} {runWay : Nat → Int32} {runTotal : Nat → UInt64} {runSteps : Nat → Int32} {lefts : Nat → UInt64} {rights : Nat → UInt64} {results : Nat → UInt64} {wide : Int32} {dn : Int32} {stepsAt : Int32} {keeps : Int32} {order : Nat → Int32} {att : Nat → UInt64} {spareAmount : Nat → UInt64} {spareAccount : Nat → Int32} {spareDay : Nat → Int32} {cured : Int32} {cureOf : Nat → Int32} {shareOf : Nat → Int32} {big : Nat → Int32} {unitsOf : Int64} {spare : Int32} {halfFrom : Nat → Int32} {halfMany : Nat → Int32} {halfDone : Nat → Int32} {halfTotal : Nat → UInt64} {isFar : Int32} {p0 : Int32} {p1 : Int32} {thrown_5 : Int32} {X188 : Int32 → Int32 → Prop} (G : XO g RX3 cX3_same 5 3 0 0) (hX188 : ∀ (v3_14 : Int32) (v4_15 : Int32), X188 v3_14 v4_15 → X g 5 188 [(4, .int v4_15), (3, .int v3_14), (0, .ref h0), (1, .int p0), (2, .int p1)] [] (mW h0 ad (xT g) thrown_5 many isWide amountOf accountOf dayOf given givenOf runs runWide runWay runTotal runSteps lefts rights results wide dn stepsAt keeps order att spareAmount spareAccount spareDay cured cureOf shareOf big unitsOf spare halfFrom halfMany halfDone halfTotal isFar) 0 0) : ∀ (n : Nat) (v3_6 : Int32) (v4_7 : Int32), wX3_same_L73 many amountOf accountOf dayOf p0 p1 X188 n v3_6 v4_7 → X g 5 73 [(4, .int v4_7), (3, .int v3_6), (0, .ref h0), (1, .int p0), (2, .int p1)] [] (mW h0 ad (xT g) thrown_5 many isWide amountOf accountOf dayOf given givenOf runs runWide runWay runTotal runSteps lefts rights results wide dn stepsAt keeps order att spareAmount spareAccount spareDay cured cureOf shareOf big unitsOf spare halfFrom halfMany halfDone halfTotal isFar) 0 0 := by
  intro n
  induction n with
  | zero => intro _ _ h; exact h.elim
  | succ n ih =>
    intro v3_6 v4_7 h
    unfold wX3_same_L73 at h
    refine x_iload G dX3_same_73 0 rfl ?_
    refine x_aload_n G rfl dX3_same_75 2 rfl ?_
    refine m_get_1 G dX3_same_76 ?_
    refine x_iload_n G rfl dX3_same_79 3 rfl ?_
    obtain ⟨hz, h⟩ := h
    refine m_ald_1 G hz dX3_same_80 ?_
    refine x_icmp_ge (tgt := 188) G dX3_same_81 rfl (fun c => ?_) (fun c => ?_)
    · replace h := h.1 c
      exact hX188 v3_6 v4_7 h
    · replace h := h.2 c
      refine x_iload_n G rfl dX3_same_84 1 rfl ?_
      refine x_if_eq (tgt := 188) G dX3_same_85 rfl (fun c => ?_) (fun c => ?_)
      · replace h := h.1 c
        exact hX188 v3_6 v4_7 h
      · replace h := h.2 c
        refine x_aload_n G rfl dX3_same_88 2 rfl ?_
        refine m_get_3 G dX3_same_89 ?_
        refine x_bipush (v := (60 : Int32)) G dX3_same_92 (by decide) ?_
        refine x_iload_n G rfl dX3_same_94 3 rfl ?_
        refine x_imul G dX3_same_95 ?_
        refine x_iload G dX3_same_96 0 rfl ?_
        refine x_iadd G dX3_same_98 ?_
        obtain ⟨hz, h⟩ := h
        refine m_ald_3 G hz dX3_same_99 ?_
        refine x_cPl (As := [.double (amountOf (((60 : Int32) * p0) + v4_7).toNatClampNeg)]) (rest := []) G (tJ12_doubleToLongBits G.noTraces h) (lw_S q1691 q227 q84 q228) cdJ12_doubleToLongBits (by decide) (by decide) rfl (Nat.le_of_ble_eq_true rfl) (Nat.zero_le _) (Nat.zero_le _) dX3_same_100 (fun r_8 h => ?_)
        refine x_aload_n G rfl dX3_same_103 2 rfl ?_
        refine m_get_3 G dX3_same_104 ?_
        refine x_bipush (v := (60 : Int32)) G dX3_same_107 (by decide) ?_
        refine x_iload_n G rfl dX3_same_109 4 rfl ?_
        refine x_imul G dX3_same_110 ?_
        refine x_iload G dX3_same_111 0 rfl ?_
        refine x_iadd G dX3_same_113 ?_
        obtain ⟨hz, h⟩ := h
        refine m_ald_3 G hz dX3_same_114 ?_
        refine x_cPl (As := [.double (amountOf (((60 : Int32) * p1) + v4_7).toNatClampNeg)]) (rest := [.long r_8]) G (tJ12_doubleToLongBits G.noTraces h) (lw_S q1691 q227 q84 q228) cdJ12_doubleToLongBits (by decide) (by decide) rfl (Nat.le_of_ble_eq_true rfl) (Nat.zero_le _) (Nat.zero_le _) dX3_same_115 (fun r_9 h => ?_)
        refine x_lcmp_ne (tgt := 180) G dX3_same_118 dX3_same_119 rfl (fun c => ?_) (fun c => ?_)
        · replace h := h.1 c
          refine x_iconst (v := (0 : Int32)) G dX3_same_180 (by decide) ?_
          refine x_istore_n (lv' := [(3, .int (0 : Int32)), (4, .int v4_7), (0, .ref h0), (1, .int p0), (2, .int p1)]) G rfl dX3_same_181 (by decide) rfl ?_
          obtain ⟨x_10, ex_10⟩ : ∃ z : Int32, z = (v4_7 + (1 : Int32)) := ⟨_, rfl⟩
          replace h := h x_10 ex_10
          refine x_iinc (v := x_10) (lv' := [(4, .int x_10), (3, .int (0 : Int32)), (0, .ref h0), (1, .int p0), (2, .int p1)]) G dX3_same_182 1 rfl (by rw [ex_10]; rfl) (by decide) rfl ?_
          refine x_goto (tgt := 73) G dX3_same_185 rfl ?_
          exact ih (0 : Int32) x_10 h
        · replace h := h.2 c
          refine x_aload_n G rfl dX3_same_122 2 rfl ?_
          refine m_get_4 G dX3_same_123 ?_
          refine x_bipush (v := (60 : Int32)) G dX3_same_126 (by decide) ?_
          refine x_iload_n G rfl dX3_same_128 3 rfl ?_
          refine x_imul G dX3_same_129 ?_
          refine x_iload G dX3_same_130 0 rfl ?_
          refine x_iadd G dX3_same_132 ?_
          obtain ⟨hz, h⟩ := h
          refine m_ald_4 G hz dX3_same_133 ?_
          refine x_aload_n G rfl dX3_same_134 2 rfl ?_
          refine m_get_4 G dX3_same_135 ?_
          refine x_bipush (v := (60 : Int32)) G dX3_same_138 (by decide) ?_
          refine x_iload_n G rfl dX3_same_140 4 rfl ?_
          refine x_imul G dX3_same_141 ?_
          refine x_iload G dX3_same_142 0 rfl ?_
          refine x_iadd G dX3_same_144 ?_
          obtain ⟨hz, h⟩ := h
          refine m_ald_4 G hz dX3_same_145 ?_
          refine x_icmp_ne (tgt := 180) G dX3_same_146 rfl (fun c => ?_) (fun c => ?_)
          · replace h := h.1 c
            refine x_iconst (v := (0 : Int32)) G dX3_same_180 (by decide) ?_
            refine x_istore_n (lv' := [(3, .int (0 : Int32)), (4, .int v4_7), (0, .ref h0), (1, .int p0), (2, .int p1)]) G rfl dX3_same_181 (by decide) rfl ?_
            obtain ⟨x_11, ex_11⟩ : ∃ z : Int32, z = (v4_7 + (1 : Int32)) := ⟨_, rfl⟩
            replace h := h x_11 ex_11
            refine x_iinc (v := x_11) (lv' := [(4, .int x_11), (3, .int (0 : Int32)), (0, .ref h0), (1, .int p0), (2, .int p1)]) G dX3_same_182 1 rfl (by rw [ex_11]; rfl) (by decide) rfl ?_
            refine x_goto (tgt := 73) G dX3_same_185 rfl ?_
            exact ih (0 : Int32) x_11 h
          · replace h := h.2 c
            refine x_aload_n G rfl dX3_same_149 2 rfl ?_
            refine m_get_5 G dX3_same_150 ?_
            refine x_bipush (v := (60 : Int32)) G dX3_same_153 (by decide) ?_
            refine x_iload_n G rfl dX3_same_155 3 rfl ?_
            refine x_imul G dX3_same_156 ?_
            refine x_iload G dX3_same_157 0 rfl ?_
            refine x_iadd G dX3_same_159 ?_
            obtain ⟨hz, h⟩ := h
            refine m_ald_5 G hz dX3_same_160 ?_
            refine x_aload_n G rfl dX3_same_161 2 rfl ?_
            refine m_get_5 G dX3_same_162 ?_
            refine x_bipush (v := (60 : Int32)) G dX3_same_165 (by decide) ?_
            refine x_iload_n G rfl dX3_same_167 4 rfl ?_
            refine x_imul G dX3_same_168 ?_
            refine x_iload G dX3_same_169 0 rfl ?_
            refine x_iadd G dX3_same_171 ?_
            obtain ⟨hz, h⟩ := h
            refine m_ald_5 G hz dX3_same_172 ?_
            refine x_icmp_ne (tgt := 180) G dX3_same_173 rfl (fun c => ?_) (fun c => ?_)
            · replace h := h.1 c
              refine x_iconst (v := (0 : Int32)) G dX3_same_180 (by decide) ?_
              refine x_istore_n (lv' := [(3, .int (0 : Int32)), (4, .int v4_7), (0, .ref h0), (1, .int p0), (2, .int p1)]) G rfl dX3_same_181 (by decide) rfl ?_
              obtain ⟨x_12, ex_12⟩ : ∃ z : Int32, z = (v4_7 + (1 : Int32)) := ⟨_, rfl⟩
              replace h := h x_12 ex_12
              refine x_iinc (v := x_12) (lv' := [(4, .int x_12), (3, .int (0 : Int32)), (0, .ref h0), (1, .int p0), (2, .int p1)]) G dX3_same_182 1 rfl (by rw [ex_12]; rfl) (by decide) rfl ?_
              refine x_goto (tgt := 73) G dX3_same_185 rfl ?_
              exact ih (0 : Int32) x_12 h
            · replace h := h.2 c
              refine x_iconst (v := (1 : Int32)) G dX3_same_176 (by decide) ?_
              refine x_goto (tgt := 181) G dX3_same_177 rfl ?_
              refine x_istore_n (lv' := [(3, .int (1 : Int32)), (4, .int v4_7), (0, .ref h0), (1, .int p0), (2, .int p1)]) G rfl dX3_same_181 (by decide) rfl ?_
              obtain ⟨x_13, ex_13⟩ : ∃ z : Int32, z = (v4_7 + (1 : Int32)) := ⟨_, rfl⟩
              replace h := h x_13 ex_13
              refine x_iinc (v := x_13) (lv' := [(4, .int x_13), (3, .int (1 : Int32)), (0, .ref h0), (1, .int p0), (2, .int p1)]) G dX3_same_182 1 rfl (by rw [ex_13]; rfl) (by decide) rfl ?_
              refine x_goto (tgt := 73) G dX3_same_185 rfl ?_
              exact ih (1 : Int32) x_13 h
set_option maxRecDepth 20000 in
theorem kX3_same_J69 {g : XG} {h0 : Nat} {ad : Nat → Nat} {many : Nat → Int32} {isWide : Nat → Int32} {amountOf : Nat → UInt64} {accountOf : Nat → Int32} {dayOf : Nat → Int32} {given : Nat → Int32} {givenOf : Nat → Int32} {runs : Int32} {runWide : Nat → Int32} {runWay : Nat → Int32} {runTotal : Nat → UInt64} {runSteps : Nat → Int32} {lefts : Nat → UInt64} {rights : Nat → UInt64} {results : Nat → UInt64} {wide : Int32} {dn : Int32} {stepsAt : Int32} {keeps : Int32} {order : Nat → Int32} {att : Nat → UInt64} {spareAmount : Nat → UInt64} {spareAccount : Nat → Int32} {spareDay : Nat → Int32} {cured : Int32} {cureOf : Nat → Int32} {shareOf : Nat → Int32} {big : Nat → Int32} {unitsOf : Int64} {spare : Int32} {halfFrom : Nat → Int32} {halfMany : Nat → Int32} {halfDone : Nat → Int32} {halfTotal : Nat → UInt64} {isFar : Int32} {p0 : Int32} {p1 : Int32} {K : Int32 → Int32 → Prop} (G : XO g RX3 cX3_same 5 3 0 0) (Q : XQi1 g FieldType.int 0 0 (fun (thrown' : Int32) => mW h0 ad (xT g) thrown' many isWide amountOf accountOf dayOf given givenOf runs runWide runWay runTotal runSteps lefts rights results wide dn stepsAt keeps order att spareAmount spareAccount spareDay cured cureOf shareOf big unitsOf spare halfFrom halfMany halfDone halfTotal isFar) K) : ∀ (s_4 : Int32) (thrown_5 : Int32), wX3_same_J69 many amountOf accountOf dayOf p0 p1 K s_4 thrown_5 → X g 5 69 [(0, .ref h0), (1, .int p0), (2, .int p1)] [.int s_4] (mW h0 ad (xT g) thrown_5 many isWide amountOf accountOf dayOf given givenOf runs runWide runWay runTotal runSteps lefts rights results wide dn stepsAt keeps order att spareAmount spareAccount spareDay cured cureOf shareOf big unitsOf spare halfFrom halfMany halfDone halfTotal isFar) 0 0 := by
  intro s_4 thrown_5 h
  unfold wX3_same_J69 at h
  refine x_istore_n (lv' := [(3, .int s_4), (0, .ref h0), (1, .int p0), (2, .int p1)]) G rfl dX3_same_69 (by decide) rfl ?_
  refine x_iconst (v := (0 : Int32)) G dX3_same_70 (by decide) ?_
  refine x_istore (lv' := [(4, .int (0 : Int32)), (3, .int s_4), (0, .ref h0), (1, .int p0), (2, .int p1)]) G dX3_same_71 (by decide) rfl ?_
  obtain ⟨n0, h⟩ := h
  refine kX3_same_L73 G (fun v3_16 v4_17 h => ?_) n0 _ _ h
  · refine x_iload_n G rfl dX3_same_188 1 rfl ?_
    refine x_if_eq (tgt := 196) G dX3_same_189 rfl (fun c => ?_) (fun c => ?_)
    · replace h := h.1 c
      refine x_iconst (v := (0 : Int32)) G dX3_same_196 (by decide) ?_
      exact x_reti1 G Q dX3_same_197 rfl thrown_5 h XSub.rf (Nat.le_refl _) (Nat.le_refl _)
    · replace h := h.2 c
      refine x_iconst (v := (1 : Int32)) G dX3_same_192 (by decide) ?_
      refine x_goto (tgt := 197) G dX3_same_193 rfl ?_
      exact x_reti1 G Q dX3_same_197 rfl thrown_5 h XSub.rf (Nat.le_refl _) (Nat.le_refl _)
set_option maxRecDepth 20000 in
theorem kX3_same_J22 {g : XG} {h0 : Nat} {ad : Nat → Nat} {thrown : Int32} {many : Nat → Int32} {isWide : Nat → Int32} {amountOf : Nat → UInt64} {accountOf : Nat → Int32} {dayOf : Nat → Int32} {given : Nat → Int32} {givenOf : Nat → Int32} {runs : Int32} {runWide : Nat → Int32} {runWay : Nat → Int32} {runTotal : Nat → UInt64} {runSteps : Nat → Int32} {lefts : Nat → UInt64} {rights : Nat → UInt64} {results : Nat → UInt64} {wide : Int32} {dn : Int32} {stepsAt : Int32} {keeps : Int32} {order : Nat → Int32} {att : Nat → UInt64} {spareAmount : Nat → UInt64} {spareAccount : Nat → Int32} {spareDay : Nat → Int32} {cured : Int32} {cureOf : Nat → Int32} {shareOf : Nat → Int32} {big : Nat → Int32} {unitsOf : Int64} {spare : Int32} {halfFrom : Nat → Int32} {halfMany : Nat → Int32} {halfDone : Nat → Int32} {halfTotal : Nat → UInt64} {isFar : Int32} {p0 : Int32} {p1 : Int32} {K : Int32 → Int32 → Prop} (G : XO g RX3 cX3_same 5 3 0 0) (Q : XQi1 g FieldType.int 0 0 (fun (thrown' : Int32) => mW h0 ad (xT g) thrown' many isWide amountOf accountOf dayOf given givenOf runs runWide runWay runTotal runSteps lefts rights results wide dn stepsAt keeps order att spareAmount spareAccount spareDay cured cureOf shareOf big unitsOf spare halfFrom halfMany halfDone halfTotal isFar) K) : ∀ (s_3 : Int32), wX3_same_J22 many isWide amountOf accountOf dayOf p0 p1 K s_3 → X g 5 22 [(0, .ref h0), (1, .int p0), (2, .int p1)] [.int s_3, .ref h0] (mW h0 ad (xT g) thrown many isWide amountOf accountOf dayOf given givenOf runs runWide runWay runTotal runSteps lefts rights results wide dn stepsAt keeps order att spareAmount spareAccount spareDay cured cureOf shareOf big unitsOf spare halfFrom halfMany halfDone halfTotal isFar) 0 0 := by
  intro s_3 h
  unfold wX3_same_J22 at h
  refine m_put_0 G dX3_same_22 ?_
  refine x_aload_n G rfl dX3_same_25 0 rfl ?_
  refine m_get_0 G dX3_same_26 ?_
  refine x_if_eq (tgt := 34) G dX3_same_29 rfl (fun c => ?_) (fun c => ?_)
  · replace h := h.1 c
    refine x_aload_n G rfl dX3_same_34 0 rfl ?_
    refine m_get_2 G dX3_same_35 ?_
    refine x_iload_n G rfl dX3_same_38 1 rfl ?_
    obtain ⟨hz, h⟩ := h
    refine m_ald_2 G hz dX3_same_39 ?_
    refine x_aload_n G rfl dX3_same_40 0 rfl ?_
    refine m_get_2 G dX3_same_41 ?_
    refine x_iload_n G rfl dX3_same_44 2 rfl ?_
    obtain ⟨hz, h⟩ := h
    refine m_ald_2 G hz dX3_same_45 ?_
    refine x_icmp_ne (tgt := 68) G dX3_same_46 rfl (fun c => ?_) (fun c => ?_)
    · replace h := h.1 c
      refine x_iconst (v := (0 : Int32)) G dX3_same_68 (by decide) ?_
      refine kX3_same_J69 G Q  _ _ h
    · replace h := h.2 c
      refine x_aload_n G rfl dX3_same_49 0 rfl ?_
      refine m_get_1 G dX3_same_50 ?_
      refine x_iload_n G rfl dX3_same_53 1 rfl ?_
      obtain ⟨hz, h⟩ := h
      refine m_ald_1 G hz dX3_same_54 ?_
      refine x_aload_n G rfl dX3_same_55 0 rfl ?_
      refine m_get_1 G dX3_same_56 ?_
      refine x_iload_n G rfl dX3_same_59 2 rfl ?_
      obtain ⟨hz, h⟩ := h
      refine m_ald_1 G hz dX3_same_60 ?_
      refine x_icmp_ne (tgt := 68) G dX3_same_61 rfl (fun c => ?_) (fun c => ?_)
      · replace h := h.1 c
        refine x_iconst (v := (0 : Int32)) G dX3_same_68 (by decide) ?_
        refine kX3_same_J69 G Q  _ _ h
      · replace h := h.2 c
        refine x_iconst (v := (1 : Int32)) G dX3_same_64 (by decide) ?_
        refine x_goto (tgt := 69) G dX3_same_65 rfl ?_
        refine kX3_same_J69 G Q  _ _ h
  · replace h := h.2 c
    refine x_iconst (v := (0 : Int32)) G dX3_same_32 (by decide) ?_
    exact x_reti1 G Q dX3_same_33 rfl s_3 h XSub.rf (Nat.le_refl _) (Nat.le_refl _)
set_option maxRecDepth 20000 in
theorem tX3_same {l : Launch} {D : va_G} {ta : Nat → ClassId} {h0 : Nat} {ad : Nat → Nat} {thrown : Int32} {many : Nat → Int32} {isWide : Nat → Int32} {amountOf : Nat → UInt64} {accountOf : Nat → Int32} {dayOf : Nat → Int32} {given : Nat → Int32} {givenOf : Nat → Int32} {runs : Int32} {runWide : Nat → Int32} {runWay : Nat → Int32} {runTotal : Nat → UInt64} {runSteps : Nat → Int32} {lefts : Nat → UInt64} {rights : Nat → UInt64} {results : Nat → UInt64} {wide : Int32} {dn : Int32} {stepsAt : Int32} {keeps : Int32} {order : Nat → Int32} {att : Nat → UInt64} {spareAmount : Nat → UInt64} {spareAccount : Nat → Int32} {spareDay : Nat → Int32} {cured : Int32} {cureOf : Nat → Int32} {shareOf : Nat → Int32} {big : Nat → Int32} {unitsOf : Int64} {spare : Int32} {halfFrom : Nat → Int32} {halfMany : Nat → Int32} {halfDone : Nat → Int32} {halfTotal : Nat → UInt64} {isFar : Int32} {p0 : Int32} {p1 : Int32} {K : Int32 → Int32 → Prop} (hlt : l.stackTraces = false) (h : wX3_same p0 p1 thrown many isWide amountOf accountOf dayOf K) : SMi1 l D ta yX3_same cX3_same 5 FieldType.int 3 [.ref h0, .int p0, .int p1] (mW h0 ad ta thrown many isWide amountOf accountOf dayOf given givenOf runs runWide runWay runTotal runSteps lefts rights results wide dn stepsAt keeps order att spareAmount spareAccount spareDay cured cureOf shareOf big unitsOf spare halfFrom halfMany halfDone halfTotal isFar) (fun (thrown' : Int32) => mW h0 ad ta thrown' many isWide amountOf accountOf dayOf given givenOf runs runWide runWay runTotal runSteps lefts rights results wide dn stepsAt keeps order att spareAmount spareAccount spareDay cured cureOf shareOf big unitsOf spare halfFrom halfMany halfDone halfTotal isFar) 0 0 K := by
  refine x_sti1 hlt (plainFor_of_name (by decide +kernel)) (Nat.le_of_ble_eq_true rfl) (fun g G hl hD hT Q => ?_)
  subst hl; subst hD; subst hT
  unfold wX3_same at h
  show X g 5 0 [(0, .ref h0), (1, .int p0), (2, .int p1)] [] (mW h0 ad (xT g) thrown many isWide amountOf accountOf dayOf given givenOf runs runWide runWay runTotal runSteps lefts rights results wide dn stepsAt keeps order att spareAmount spareAccount spareDay cured cureOf shareOf big unitsOf spare halfFrom halfMany halfDone halfTotal isFar) 0 0
  refine x_aload_n G rfl dX3_same_0 0 rfl ?_
  refine x_aload_n G rfl dX3_same_1 0 rfl ?_
  refine x_iload_n G rfl dX3_same_2 1 rfl ?_
  refine x_cVi0 (As := [.int p0]) (rest := [.ref h0]) G [] XSub.rf (tX3_faultOf G.noTraces h) (lw_V q1669 q1671 qs21 q70 q1672) cdX3_faultOf 3 0 rfl rfl rfl (by decide) (by decide) rfl (Nat.le_of_ble_eq_true rfl) (Nat.zero_le _) (Nat.zero_le _) dX3_same_3 (fun r_1 h => ?_)
  show X g 5 6 [(0, .ref h0), (1, .int p0), (2, .int p1)] [.int r_1, .ref h0] (mW h0 ad (xT g) thrown many isWide amountOf accountOf dayOf given givenOf runs runWide runWay runTotal runSteps lefts rights results wide dn stepsAt keeps order att spareAmount spareAccount spareDay cured cureOf shareOf big unitsOf spare halfFrom halfMany halfDone halfTotal isFar) 0 0
  refine x_if_eq (tgt := 17) G dX3_same_6 rfl (fun c => ?_) (fun c => ?_)
  · replace h := h.1 c
    refine x_aload_n G rfl dX3_same_17 0 rfl ?_
    refine x_iload_n G rfl dX3_same_18 2 rfl ?_
    refine x_cVi0 (As := [.int p1]) (rest := [.ref h0]) G [] XSub.rf (tX3_faultOf G.noTraces h) (lw_V q1669 q1671 qs21 q70 q1672) cdX3_faultOf 3 0 rfl rfl rfl (by decide) (by decide) rfl (Nat.le_of_ble_eq_true rfl) (Nat.zero_le _) (Nat.zero_le _) dX3_same_19 (fun r_2 h => ?_)
    show X g 5 22 [(0, .ref h0), (1, .int p0), (2, .int p1)] [.int r_2, .ref h0] (mW h0 ad (xT g) thrown many isWide amountOf accountOf dayOf given givenOf runs runWide runWay runTotal runSteps lefts rights results wide dn stepsAt keeps order att spareAmount spareAccount spareDay cured cureOf shareOf big unitsOf spare halfFrom halfMany halfDone halfTotal isFar) 0 0
    refine kX3_same_J22 G Q  _ h
  · replace h := h.2 c
    refine x_aload_n G rfl dX3_same_9 0 rfl ?_
    refine x_iload_n G rfl dX3_same_10 1 rfl ?_
    refine x_cVi0 (As := [.int p0]) (rest := [.ref h0]) G [] XSub.rf (tX3_faultOf G.noTraces h) (lw_V q1669 q1671 qs21 q70 q1672) cdX3_faultOf 3 0 rfl rfl rfl (by decide) (by decide) rfl (Nat.le_of_ble_eq_true rfl) (Nat.zero_le _) (Nat.zero_le _) dX3_same_11 (fun r_18 h => ?_)
    show X g 5 14 [(0, .ref h0), (1, .int p0), (2, .int p1)] [.int r_18, .ref h0] (mW h0 ad (xT g) thrown many isWide amountOf accountOf dayOf given givenOf runs runWide runWay runTotal runSteps lefts rights results wide dn stepsAt keeps order att spareAmount spareAccount spareDay cured cureOf shareOf big unitsOf spare halfFrom halfMany halfDone halfTotal isFar) 0 0
    refine x_goto (tgt := 22) G dX3_same_14 rfl ?_
    refine kX3_same_J22 G Q  _ h
theorem cdX3_cut : yX3_cut.cls ≠ "java/lang/invoke/MethodHandle" ∧ yX3_cut.cls ≠ "java/lang/invoke/VarHandle" ∧ (parseMethodDescriptor yX3_cut.desc).map (fun d => d.parameters.length) = some 1 := by decide +kernel
def wX3_cut (p0 : UInt64) (K : UInt64 → Prop) : Prop := ((¬ dge p0 (4845873199050653696 : UInt64) → K (FP.l2d (FP.d2l p0))) ∧ (dge p0 (4845873199050653696 : UInt64) → K p0))
set_option maxRecDepth 20000 in
theorem tX3_cut {l : Launch} {D : va_G} {ta : Nat → ClassId} {p0 : UInt64} {K : UInt64 → Prop} (hlt : l.stackTraces = false) (h : wX3_cut p0 K) : SMd0 l D ta yX3_cut cX3_cut 2 FieldType.double 1 [.double p0] [] [] 0 0 K := by
  refine x_std0 hlt (plainFor_of_name (by decide +kernel)) (Nat.le_of_ble_eq_true rfl) (fun g G hl hD hT Q => ?_)
  subst hl; subst hD; subst hT
  unfold wX3_cut at h
  show X g 2 0 [(0, .double p0)] [] [] 0 0
  refine x_dload_n G rfl dX3_cut_0 0 rfl ?_
  refine x_ldc2d G q1712 dX3_cut_1 ?_
  refine x_dcmpl_lt (tgt := 12) G dX3_cut_4 dX3_cut_5 rfl (fun c => ?_) (fun c => ?_)
  · replace h := h.1 c
    refine x_dload_n G rfl dX3_cut_12 0 rfl ?_
    refine x_d2l G dX3_cut_13 ?_
    refine x_l2d G dX3_cut_14 ?_
    exact x_retd0 G Q dX3_cut_15  h XSub.rf (Nat.le_refl _) (Nat.le_refl _)
  · replace h := h.2 c
    refine x_dload_n G rfl dX3_cut_8 0 rfl ?_
    refine x_goto (tgt := 15) G dX3_cut_9 rfl ?_
    exact x_retd0 G Q dX3_cut_15  h XSub.rf (Nat.le_refl _) (Nat.le_refl _)
theorem cdX3_signed : yX3_signed.cls ≠ "java/lang/invoke/MethodHandle" ∧ yX3_signed.cls ≠ "java/lang/invoke/VarHandle" ∧ (parseMethodDescriptor yX3_signed.desc).map (fun d => d.parameters.length) = some 2 := by decide +kernel
def wX3_signed (p0 : UInt64) (p1 : Int32) (K : UInt64 → Prop) : Prop := ((p1 = (0 : Int32) → K p0) ∧ (¬ p1 = (0 : Int32) → K (FP.dneg p0)))
set_option maxRecDepth 20000 in
theorem tX3_signed {l : Launch} {D : va_G} {ta : Nat → ClassId} {p0 : UInt64} {p1 : Int32} {K : UInt64 → Prop} (hlt : l.stackTraces = false) (h : wX3_signed p0 p1 K) : SMd0 l D ta yX3_signed cX3_signed 3 FieldType.double 1 [.double p0, .int p1] [] [] 0 0 K := by
  refine x_std0 hlt (plainFor_of_name (by decide +kernel)) (Nat.le_of_ble_eq_true rfl) (fun g G hl hD hT Q => ?_)
  subst hl; subst hD; subst hT
  unfold wX3_signed at h
  show X g 3 0 [(0, .double p0), (2, .int p1)] [] [] 0 0
  refine x_iload_n G rfl dX3_signed_0 1 rfl ?_
  refine x_if_eq (tgt := 9) G dX3_signed_1 rfl (fun c => ?_) (fun c => ?_)
  · replace h := h.1 c
    refine x_dload_n G rfl dX3_signed_9 0 rfl ?_
    exact x_retd0 G Q dX3_signed_10  h XSub.rf (Nat.le_refl _) (Nat.le_refl _)
  · replace h := h.2 c
    refine x_dload_n G rfl dX3_signed_4 0 rfl ?_
    refine x_dneg G dX3_signed_5 ?_
    refine x_goto (tgt := 10) G dX3_signed_6 rfl ?_
    exact x_retd0 G Q dX3_signed_10  h XSub.rf (Nat.le_refl _) (Nat.le_refl _)
