/-! the model's methods. Printed by gen/model_parts.py -/
theorem cdX3_cures : yX3_cures.cls = RX3 ∧ yX3_cures.cls ≠ "java/lang/invoke/MethodHandle" ∧ yX3_cures.cls ≠ "java/lang/invoke/VarHandle" ∧ (parseMethodDescriptor yX3_cures.desc).map (fun d => d.parameters.length) = some 3 := by decide +kernel
def wX3_cures_L15 (many : Nat → Int32) (p0 : Int32) (p1 : Int32) (v6_2 : Int32) (X55 : Int32 → Int32 → (Nat → Int32) → Prop) : Nat → Int32 → Int32 → (Nat → Int32) → Prop
  | 0, _, _, _ => False
  | n + 1, v5_4, v7_5, order_6 => (vp_in p0 12 ∧ (((many p0.toNatClampNeg) ≤ v7_5 → X55 v5_4 v7_5 order_6) ∧ (¬ (many p0.toNatClampNeg) ≤ v7_5 → ((¬ ((jishr p1 v7_5) &&& (1 : Int32)) = v6_2 → (∀ x_7 : Int32, x_7 = (v7_5 + (1 : Int32)) → wX3_cures_L15 many p0 p1 v6_2 X55 n v5_4 x_7 order_6)) ∧ (((jishr p1 v7_5) &&& (1 : Int32)) = v6_2 → (vp_in v5_4 60 ∧ (∀ order_8 : Nat → Int32, order_8 = upd order_6 v5_4.toNatClampNeg v7_5 → (∀ x_9 : Int32, x_9 = (v5_4 + (1 : Int32)) → (∀ x_10 : Int32, x_10 = (v7_5 + (1 : Int32)) → wX3_cures_L15 many p0 p1 v6_2 X55 n x_9 x_10 order_8)))))))))
def wX3_cures_L6 (many : Nat → Int32) (p0 : Int32) (p1 : Int32) (X61 : Int32 → Int32 → (Nat → Int32) → Prop) : Nat → Int32 → Int32 → (Nat → Int32) → Prop
  | 0, _, _, _ => False
  | n + 1, v5_1, v6_2, order_3 => (((2 : Int32) ≤ v6_2 → X61 v5_1 v6_2 order_3) ∧ (¬ (2 : Int32) ≤ v6_2 → (∃ m15 : Nat, wX3_cures_L15 many p0 p1 v6_2 (fun (v5_14 : Int32) (v7_15 : Int32) (order_16 : Nat → Int32) => (∀ x_17 : Int32, x_17 = (v6_2 + (1 : Int32)) → wX3_cures_L6 many p0 p1 X61 n v5_14 x_17 order_16)) m15 v5_1 (0 : Int32) order_3)))
def wX3_cures (p0 : Int32) (p1 : Int32) (p2 : UInt64) (many : Nat → Int32) (amountOf : Nat → UInt64) (wide : Int32) (order : Nat → Int32) (K : Int32 → (Nat → Int32) → Prop) : Prop := (∃ m6 : Nat, wX3_cures_L6 many p0 p1 (fun (v5_21 : Int32) (v6_22 : Int32) (order_23 : Nat → Int32) => (wX3_ofOrder p0 v5_21 amountOf wide order_23 (fun (r_24 : UInt64) => ((¬ deq r_24 p2 → K (0 : Int32) order_23) ∧ (deq r_24 p2 → K (1 : Int32) order_23))))) m6 (0 : Int32) (0 : Int32) order)
set_option maxRecDepth 20000 in
theorem kX3_cures_L15 {g : XG} {h0 : Nat} {ad : Nat → Nat} {thrown : Int32} {many : Nat → Int32} {isWide : Nat → Int32} {amountOf : Nat → UInt64} {accountOf : Nat → Int32} {dayOf : Nat → Int32} {given : Nat → Int32} {givenOf : Nat → Int32} {runs : Int32} {runWide : Nat → Int32} {runWay : Nat → Int32} {runTotal : Nat → UInt64} {runSteps : Nat → Int32} {lefts : Nat → UInt64} {rights : Nat → UInt64} {results : Nat → UInt64} {wide : Int32} {dn : Int32} {stepsAt : Int32} {keeps : Int32} {att : Nat → UInt64} {spareAmount : Nat → UInt64} {spareAccount : Nat → Int32} {spareDay : Nat → Int32} {cured : Int32} {cureOf : Nat → Int32} {shareOf : Nat → Int32} {big : Nat → Int32} {unitsOf : Int64} {spare : Int32} {halfFrom : Nat → Int32} {halfMany : Nat → Int32} {halfDone : Nat → Int32} {halfTotal : Nat → UInt64} {isFar : Int32} {p0 : Int32} {p1 : Int32} {p2 : UInt64} {v6_2 : Int32} {X55 : Int32 → Int32 → (Nat → Int32) → Prop} (G : XO g RX3 cX3_cures 8 3 0 0) (hX55 : ∀ (v5_11 : Int32) (v7_12 : Int32) (order_13 : Nat → Int32), X55 v5_11 v7_12 order_13 → X g 8 55 [(7, .int v7_12), (6, .int v6_2), (5, .int v5_11), (0, .ref h0), (1, .int p0), (2, .int p1), (3, .double p2)] [] (mW h0 ad (xT g) thrown many isWide amountOf accountOf dayOf given givenOf runs runWide runWay runTotal runSteps lefts rights results wide dn stepsAt keeps order_13 att spareAmount spareAccount spareDay cured cureOf shareOf big unitsOf spare halfFrom halfMany halfDone halfTotal isFar) 0 0) : ∀ (n : Nat) (v5_4 : Int32) (v7_5 : Int32) (order_6 : Nat → Int32), wX3_cures_L15 many p0 p1 v6_2 X55 n v5_4 v7_5 order_6 → X g 8 15 [(7, .int v7_5), (6, .int v6_2), (5, .int v5_4), (0, .ref h0), (1, .int p0), (2, .int p1), (3, .double p2)] [] (mW h0 ad (xT g) thrown many isWide amountOf accountOf dayOf given givenOf runs runWide runWay runTotal runSteps lefts rights results wide dn stepsAt keeps order_6 att spareAmount spareAccount spareDay cured cureOf shareOf big unitsOf spare halfFrom halfMany halfDone halfTotal isFar) 0 0 := by
  intro n
  induction n with
  | zero => intro _ _ _ h; exact h.elim
  | succ n ih =>
    intro v5_4 v7_5 order_6 h
    unfold wX3_cures_L15 at h
    refine x_iload G dX3_cures_15 0 rfl ?_
    refine x_aload_n G rfl dX3_cures_17 3 rfl ?_
    refine m_get_1 G dX3_cures_18 ?_
    refine x_iload_n G rfl dX3_cures_21 4 rfl ?_
    obtain ⟨hz, h⟩ := h
    refine m_ald_1 G hz dX3_cures_22 ?_
    refine x_icmp_ge (tgt := 55) G dX3_cures_23 rfl (fun c => ?_) (fun c => ?_)
    · replace h := h.1 c
      exact hX55 v5_4 v7_5 order_6 h
    · replace h := h.2 c
      refine x_iload_n G rfl dX3_cures_26 5 rfl ?_
      refine x_iload G dX3_cures_27 0 rfl ?_
      refine x_ishr G dX3_cures_29 ?_
      refine x_iconst (v := (1 : Int32)) G dX3_cures_30 (by decide) ?_
      refine x_iand G dX3_cures_31 ?_
      refine x_iload G dX3_cures_32 1 rfl ?_
      refine x_icmp_ne (tgt := 49) G dX3_cures_34 rfl (fun c => ?_) (fun c => ?_)
      · replace h := h.1 c
        obtain ⟨x_7, ex_7⟩ : ∃ z : Int32, z = (v7_5 + (1 : Int32)) := ⟨_, rfl⟩
        replace h := h x_7 ex_7
        refine x_iinc (v := x_7) (lv' := [(7, .int x_7), (6, .int v6_2), (5, .int v5_4), (0, .ref h0), (1, .int p0), (2, .int p1), (3, .double p2)]) G dX3_cures_49 0 rfl (by rw [ex_7]; rfl) (by decide) rfl ?_
        refine x_goto (tgt := 15) G dX3_cures_52 rfl ?_
        exact ih v5_4 x_7 order_6 h
      · replace h := h.2 c
        refine x_aload_n G rfl dX3_cures_37 3 rfl ?_
        refine m_get_20 G dX3_cures_38 ?_
        refine x_iload G dX3_cures_41 2 rfl ?_
        refine x_iload G dX3_cures_43 0 rfl ?_
        obtain ⟨hz, h⟩ := h
        refine m_ast_20 G hz dX3_cures_45 (fun order_8 eorder_8 => ?_)
        replace h := h order_8 eorder_8
        obtain ⟨x_9, ex_9⟩ : ∃ z : Int32, z = (v5_4 + (1 : Int32)) := ⟨_, rfl⟩
        replace h := h x_9 ex_9
        refine x_iinc (v := x_9) (lv' := [(5, .int x_9), (7, .int v7_5), (6, .int v6_2), (0, .ref h0), (1, .int p0), (2, .int p1), (3, .double p2)]) G dX3_cures_46 2 rfl (by rw [ex_9]; rfl) (by decide) rfl ?_
        obtain ⟨x_10, ex_10⟩ : ∃ z : Int32, z = (v7_5 + (1 : Int32)) := ⟨_, rfl⟩
        replace h := h x_10 ex_10
        refine x_iinc (v := x_10) (lv' := [(7, .int x_10), (5, .int x_9), (6, .int v6_2), (0, .ref h0), (1, .int p0), (2, .int p1), (3, .double p2)]) G dX3_cures_49 1 rfl (by rw [ex_10]; rfl) (by decide) rfl ?_
        refine x_goto (tgt := 15) G dX3_cures_52 rfl ?_
        refine x_lv (lv' := [(7, .int x_10), (6, .int v6_2), (5, .int x_9), (0, .ref h0), (1, .int p0), (2, .int p1), (3, .double p2)]) [0, 2, 1, 3, 4, 5, 6] rfl ?_
        exact ih x_9 x_10 order_8 h
set_option maxRecDepth 20000 in
theorem kX3_cures_L6 {g : XG} {h0 : Nat} {ad : Nat → Nat} {thrown : Int32} {many : Nat → Int32} {isWide : Nat → Int32} {amountOf : Nat → UInt64} {accountOf : Nat → Int32} {dayOf : Nat → Int32} {given : Nat → Int32} {givenOf : Nat → Int32} {runs : Int32} {runWide : Nat → Int32} {runWay : Nat → Int32} {runTotal : Nat → UInt64} {runSteps : Nat → Int32} {lefts : Nat → UInt64} {rights : Nat → UInt64} {results : Nat → UInt64} {wide : Int32} {dn : Int32} {stepsAt : Int32} {keeps : Int32} {att : Nat → UInt64} {spareAmount : Nat → UInt64} {spareAccount : Nat → Int32} {spareDay : Nat → Int32} {cured : Int32} {cureOf : Nat → Int32} {shareOf : Nat → Int32} {big : Nat → Int32} {unitsOf : Int64} {spare : Int32} {halfFrom : Nat → Int32} {halfMany : Nat → Int32} {halfDone : Nat → Int32} {halfTotal : Nat → UInt64} {isFar : Int32} {p0 : Int32} {p1 : Int32} {p2 : UInt64} {X61 : Int32 → Int32 → (Nat → Int32) → Prop} (G : XO g RX3 cX3_cures 8 3 0 0) (hX61 : ∀ (v5_18 : Int32) (v6_19 : Int32) (order_20 : Nat → Int32), X61 v5_18 v6_19 order_20 → X g 8 61 [(6, .int v6_19), (5, .int v5_18), (0, .ref h0), (1, .int p0), (2, .int p1), (3, .double p2)] [] (mW h0 ad (xT g) thrown many isWide amountOf accountOf dayOf given givenOf runs runWide runWay runTotal runSteps lefts rights results wide dn stepsAt keeps order_20 att spareAmount spareAccount spareDay cured cureOf shareOf big unitsOf spare halfFrom halfMany halfDone halfTotal isFar) 0 0) : ∀ (n : Nat) (v5_1 : Int32) (v6_2 : Int32) (order_3 : Nat → Int32), wX3_cures_L6 many p0 p1 X61 n v5_1 v6_2 order_3 → X g 8 6 [(6, .int v6_2), (5, .int v5_1), (0, .ref h0), (1, .int p0), (2, .int p1), (3, .double p2)] [] (mW h0 ad (xT g) thrown many isWide amountOf accountOf dayOf given givenOf runs runWide runWay runTotal runSteps lefts rights results wide dn stepsAt keeps order_3 att spareAmount spareAccount spareDay cured cureOf shareOf big unitsOf spare halfFrom halfMany halfDone halfTotal isFar) 0 0 := by
  intro n
  induction n with
  | zero => intro _ _ _ h; exact h.elim
  | succ n ih =>
    intro v5_1 v6_2 order_3 h
    unfold wX3_cures_L6 at h
    refine x_iload G dX3_cures_6 0 rfl ?_
    refine x_iconst (v := (2 : Int32)) G dX3_cures_8 (by decide) ?_
    refine x_icmp_ge (tgt := 61) G dX3_cures_9 rfl (fun c => ?_) (fun c => ?_)
    · replace h := h.1 c
      exact hX61 v5_1 v6_2 order_3 h
    · replace h := h.2 c
      refine x_iconst (v := (0 : Int32)) G dX3_cures_12 (by decide) ?_
      refine x_istore (lv' := [(7, .int (0 : Int32)), (6, .int v6_2), (5, .int v5_1), (0, .ref h0), (1, .int p0), (2, .int p1), (3, .double p2)]) G dX3_cures_13 (by decide) rfl ?_
      obtain ⟨n0, h⟩ := h
      refine kX3_cures_L15 G (fun v5_14 v7_15 order_16 h => ?_) n0 _ _ _ h
      · obtain ⟨x_17, ex_17⟩ : ∃ z : Int32, z = (v6_2 + (1 : Int32)) := ⟨_, rfl⟩
        replace h := h x_17 ex_17
        refine x_iinc (v := x_17) (lv' := [(6, .int x_17), (7, .int v7_15), (5, .int v5_14), (0, .ref h0), (1, .int p0), (2, .int p1), (3, .double p2)]) G dX3_cures_55 1 rfl (by rw [ex_17]; rfl) (by decide) rfl ?_
        refine x_goto (tgt := 6) G dX3_cures_58 rfl ?_
        refine x_lv (lv' := [(6, .int x_17), (5, .int v5_14), (0, .ref h0), (1, .int p0), (2, .int p1), (3, .double p2)]) [0, 2, 3, 4, 5, 6] rfl ?_
        exact ih v5_14 x_17 order_16 h
set_option maxRecDepth 20000 in
theorem tX3_cures {l : Launch} {D : va_G} {ta : Nat → ClassId} {h0 : Nat} {ad : Nat → Nat} {thrown : Int32} {many : Nat → Int32} {isWide : Nat → Int32} {amountOf : Nat → UInt64} {accountOf : Nat → Int32} {dayOf : Nat → Int32} {given : Nat → Int32} {givenOf : Nat → Int32} {runs : Int32} {runWide : Nat → Int32} {runWay : Nat → Int32} {runTotal : Nat → UInt64} {runSteps : Nat → Int32} {lefts : Nat → UInt64} {rights : Nat → UInt64} {results : Nat → UInt64} {wide : Int32} {dn : Int32} {stepsAt : Int32} {keeps : Int32} {order : Nat → Int32} {att : Nat → UInt64} {spareAmount : Nat → UInt64} {spareAccount : Nat → Int32} {spareDay : Nat → Int32} {cured : Int32} {cureOf : Nat → Int32} {shareOf : Nat → Int32} {big : Nat → Int32} {unitsOf : Int64} {spare : Int32} {halfFrom : Nat → Int32} {halfMany : Nat → Int32} {halfDone : Nat → Int32} {halfTotal : Nat → UInt64} {isFar : Int32} {p0 : Int32} {p1 : Int32} {p2 : UInt64} {K : Int32 → (Nat → Int32) → Prop} (hlt : l.stackTraces = false) (h : wX3_cures p0 p1 p2 many amountOf wide order K) : SMi1 l D ta yX3_cures cX3_cures 8 FieldType.boolean 3 [.ref h0, .int p0, .int p1, .double p2] (mW h0 ad ta thrown many isWide amountOf accountOf dayOf given givenOf runs runWide runWay runTotal runSteps lefts rights results wide dn stepsAt keeps order att spareAmount spareAccount spareDay cured cureOf shareOf big unitsOf spare halfFrom halfMany halfDone halfTotal isFar) (fun (order' : Nat → Int32) => mW h0 ad ta thrown many isWide amountOf accountOf dayOf given givenOf runs runWide runWay runTotal runSteps lefts rights results wide dn stepsAt keeps order' att spareAmount spareAccount spareDay cured cureOf shareOf big unitsOf spare halfFrom halfMany halfDone halfTotal isFar) 0 0 K := by
  refine x_sti1 hlt (plainFor_of_name (by decide +kernel)) (Nat.le_of_ble_eq_true rfl) (fun g G hl hD hT Q => ?_)
  subst hl; subst hD; subst hT
  unfold wX3_cures at h
  show X g 8 0 [(0, .ref h0), (1, .int p0), (2, .int p1), (3, .double p2)] [] (mW h0 ad (xT g) thrown many isWide amountOf accountOf dayOf given givenOf runs runWide runWay runTotal runSteps lefts rights results wide dn stepsAt keeps order att spareAmount spareAccount spareDay cured cureOf shareOf big unitsOf spare halfFrom halfMany halfDone halfTotal isFar) 0 0
  refine x_iconst (v := (0 : Int32)) G dX3_cures_0 (by decide) ?_
  refine x_istore (lv' := [(5, .int (0 : Int32)), (0, .ref h0), (1, .int p0), (2, .int p1), (3, .double p2)]) G dX3_cures_1 (by decide) rfl ?_
  refine x_iconst (v := (0 : Int32)) G dX3_cures_3 (by decide) ?_
  refine x_istore (lv' := [(6, .int (0 : Int32)), (5, .int (0 : Int32)), (0, .ref h0), (1, .int p0), (2, .int p1), (3, .double p2)]) G dX3_cures_4 (by decide) rfl ?_
  obtain ⟨n0, h⟩ := h
  refine kX3_cures_L6 G (fun v5_21 v6_22 order_23 h => ?_) n0 _ _ _ h
  · refine x_aload_n G rfl dX3_cures_61 2 rfl ?_
    refine x_iload_n G rfl dX3_cures_62 3 rfl ?_
    refine x_iload G dX3_cures_63 1 rfl ?_
    refine x_cVd0 (As := [.int p0, .int v5_21]) (rest := []) G [] XSub.rf (tX3_ofOrder G.noTraces h) (lw_V q1996 q1998 qs60 q70 q1999) cdX3_ofOrder 3 0 rfl rfl rfl (by decide) (by decide) rfl (Nat.le_of_ble_eq_true rfl) (Nat.zero_le _) (Nat.zero_le _) dX3_cures_65 (fun r_24 h => ?_)
    show X g 8 68 [(6, .int v6_22), (5, .int v5_21), (0, .ref h0), (1, .int p0), (2, .int p1), (3, .double p2)] [.double r_24] (mW h0 ad (xT g) thrown many isWide amountOf accountOf dayOf given givenOf runs runWide runWay runTotal runSteps lefts rights results wide dn stepsAt keeps order_23 att spareAmount spareAccount spareDay cured cureOf shareOf big unitsOf spare halfFrom halfMany halfDone halfTotal isFar) 0 0
    refine x_dload_n G rfl dX3_cures_68 5 rfl ?_
    refine x_dcmpl_ne (tgt := 77) G dX3_cures_69 dX3_cures_70 rfl (fun c => ?_) (fun c => ?_)
    · replace h := h.1 c
      refine x_iconst (v := (0 : Int32)) G dX3_cures_77 (by decide) ?_
      exact x_reti1 G Q dX3_cures_78 rfl order_23 h XSub.rf (Nat.le_refl _) (Nat.le_refl _)
    · replace h := h.2 c
      refine x_iconst (v := (1 : Int32)) G dX3_cures_73 (by decide) ?_
      refine x_goto (tgt := 78) G dX3_cures_74 rfl ?_
      exact x_reti1 G Q dX3_cures_78 rfl order_23 h XSub.rf (Nat.le_refl _) (Nat.le_refl _)
theorem cdX3_cure : yX3_cure.cls = RX3 ∧ yX3_cure.cls ≠ "java/lang/invoke/MethodHandle" ∧ yX3_cure.cls ≠ "java/lang/invoke/VarHandle" ∧ (parseMethodDescriptor yX3_cure.desc).map (fun d => d.parameters.length) = some 1 := by decide +kernel
def wX3_cure_J113 (many : Nat → Int32) (amountOf : Nat → UInt64) (p0 : Int32) (r_2 : UInt64) (x_4 : Int32) (v4_5 : Int32) (v5_6 : Int32) (order_7 : Nat → Int32) (X54 : Int32 → Int32 → (Nat → Int32) → Prop) : Int32 → Prop := fun (s_8 : Int32) => ((s_8 = (0 : Int32) → (∀ x_9 : Int32, x_9 = (v5_6 + (1 : Int32)) → X54 v4_5 x_9 order_7)) ∧ (¬ s_8 = (0 : Int32) → (wX3_cures p0 v5_6 r_2 many amountOf x_4 order_7 (fun (r_10 : Int32) (order_11 : Nat → Int32) => ((r_10 = (0 : Int32) → (∀ x_12 : Int32, x_12 = (v5_6 + (1 : Int32)) → X54 v4_5 x_12 order_11)) ∧ (¬ r_10 = (0 : Int32) → (∀ x_13 : Int32, x_13 = (v5_6 + (1 : Int32)) → X54 v5_6 x_13 order_11)))))))
def wX3_cure_L54 (many : Nat → Int32) (amountOf : Nat → UInt64) (p0 : Int32) (r_2 : UInt64) (x_4 : Int32) (X141 : Int32 → Int32 → (Nat → Int32) → Prop) : Nat → Int32 → Int32 → (Nat → Int32) → Prop
  | 0, _, _, _ => False
  | n + 1, v4_5, v5_6, order_7 => (vp_in p0 12 ∧ (((jishl (1 : Int32) (many p0.toNatClampNeg)) ≤ v5_6 → X141 v4_5 v5_6 order_7) ∧ (¬ (jishl (1 : Int32) (many p0.toNatClampNeg)) ≤ v5_6 → ((v4_5 < (0 : Int32) → (wX3_cure_J113 many amountOf p0 r_2 x_4 v4_5 v5_6 order_7 (wX3_cure_L54 many amountOf p0 r_2 x_4 X141 n) (1 : Int32))) ∧ (¬ v4_5 < (0 : Int32) → (wX3_bits v5_6 (fun (r_17 : Int32) => (wX3_bits v4_5 (fun (r_18 : Int32) => ((r_17 < r_18 → (wX3_cure_J113 many amountOf p0 r_2 x_4 v4_5 v5_6 order_7 (wX3_cure_L54 many amountOf p0 r_2 x_4 X141 n) (1 : Int32))) ∧ (¬ r_17 < r_18 → (wX3_bits v5_6 (fun (r_19 : Int32) => (wX3_bits v4_5 (fun (r_20 : Int32) => ((¬ r_19 = r_20 → (wX3_cure_J113 many amountOf p0 r_2 x_4 v4_5 v5_6 order_7 (wX3_cure_L54 many amountOf p0 r_2 x_4 X141 n) (0 : Int32))) ∧ (r_19 = r_20 → (wX3_isAhead v5_6 v4_5 (fun (r_21 : Int32) => ((r_21 = (0 : Int32) → (wX3_cure_J113 many amountOf p0 r_2 x_4 v4_5 v5_6 order_7 (wX3_cure_L54 many amountOf p0 r_2 x_4 X141 n) (0 : Int32))) ∧ (¬ r_21 = (0 : Int32) → (wX3_cure_J113 many amountOf p0 r_2 x_4 v4_5 v5_6 order_7 (wX3_cure_L54 many amountOf p0 r_2 x_4 X141 n) (1 : Int32)))))))))))))))))))))))
def wX3_cure_L158 (v4_28 : Int32) (X208 : Int32 → Int32 → (Nat → Int32) → Prop) : Nat → Int32 → Int32 → (Nat → Int32) → Prop
  | 0, _, _, _ => False
  | n + 1, v5_34, cured_35, cureOf_36 => (((10 : Int32) ≤ v5_34 → X208 v5_34 cured_35 cureOf_36) ∧ (¬ (10 : Int32) ≤ v5_34 → ((v4_28 < (0 : Int32) → X208 v5_34 cured_35 cureOf_36) ∧ (¬ v4_28 < (0 : Int32) → ((¬ ((jishr v4_28 v5_34) &&& (1 : Int32)) = (1 : Int32) → (∀ x_37 : Int32, x_37 = (v5_34 + (1 : Int32)) → wX3_cure_L158 v4_28 X208 n x_37 cured_35 cureOf_36)) ∧ (((jishr v4_28 v5_34) &&& (1 : Int32)) = (1 : Int32) → (vp_in cured_35 10 ∧ (∀ cureOf_38 : Nat → Int32, cureOf_38 = upd cureOf_36 cured_35.toNatClampNeg v5_34 → (∀ x_39 : Int32, x_39 = (cured_35 + (1 : Int32)) → (∀ x_40 : Int32, x_40 = (v5_34 + (1 : Int32)) → wX3_cure_L158 v4_28 X208 n x_40 x_39 cureOf_38))))))))))
def wX3_cure_J152 (cureOf : Nat → Int32) (K : Int32 → Int32 → Int32 → (Nat → Int32) → Int32 → (Nat → Int32) → (Nat → Int32) → Prop) : Int32 → Int32 → Int32 → Int32 → (Nat → Int32) → (Nat → Int32) → Prop := fun (v4_28 : Int32) (s_29 : Int32) (thrown_30 : Int32) (wide_31 : Int32) (order_32 : Nat → Int32) (big_33 : Nat → Int32) => (∃ m158 : Nat, wX3_cure_L158 v4_28 (fun (v5_44 : Int32) (cured_45 : Int32) (cureOf_46 : Nat → Int32) => K cured_45 thrown_30 wide_31 order_32 cured_45 cureOf_46 big_33) m158 (0 : Int32) s_29 cureOf)
def wX3_cure (p0 : Int32) (thrown : Int32) (many : Nat → Int32) (isWide : Nat → Int32) (amountOf : Nat → UInt64) (wide : Int32) (order : Nat → Int32) (cured : Int32) (cureOf : Nat → Int32) (big : Nat → Int32) (K : Int32 → Int32 → Int32 → (Nat → Int32) → Int32 → (Nat → Int32) → (Nat → Int32) → Prop) : Prop := (wX3_faultOf p0 many (fun (r_1 : Int32) => ((r_1 = (0 : Int32) → (vp_in p0 12 ∧ (((many p0.toNatClampNeg) ≤ (10 : Int32) → (wX3_exactOf p0 many isWide amountOf big (fun (r_2 : UInt64) (big_3 : Nat → Int32) => (vp_in p0 12 ∧ (∀ x_4 : Int32, x_4 = (isWide p0.toNatClampNeg) → (isB x_4 ∧ (∃ m54 : Nat, wX3_cure_L54 many amountOf p0 r_2 x_4 (fun (v4_25 : Int32) (v5_26 : Int32) (order_27 : Nat → Int32) => (((0 : Int32) ≤ v4_25 → (wX3_cure_J152 cureOf K v4_25 (0 : Int32) r_1 x_4 order_27 big_3)) ∧ (¬ (0 : Int32) ≤ v4_25 → (wX3_cure_J152 cureOf K v4_25 (-1 : Int32) r_1 x_4 order_27 big_3)))) m54 (-1 : Int32) (0 : Int32) order))))))) ∧ (¬ (many p0.toNatClampNeg) ≤ (10 : Int32) → K (-104 : Int32) r_1 wide order cured cureOf big)))) ∧ (¬ r_1 = (0 : Int32) → K (0 : Int32) r_1 wide order cured cureOf big))))
set_option maxRecDepth 20000 in
theorem kX3_cure_J113 {g : XG} {h0 : Nat} {ad : Nat → Nat} {many : Nat → Int32} {isWide : Nat → Int32} {amountOf : Nat → UInt64} {accountOf : Nat → Int32} {dayOf : Nat → Int32} {given : Nat → Int32} {givenOf : Nat → Int32} {runs : Int32} {runWide : Nat → Int32} {runWay : Nat → Int32} {runTotal : Nat → UInt64} {runSteps : Nat → Int32} {lefts : Nat → UInt64} {rights : Nat → UInt64} {results : Nat → UInt64} {dn : Int32} {stepsAt : Int32} {keeps : Int32} {att : Nat → UInt64} {spareAmount : Nat → UInt64} {spareAccount : Nat → Int32} {spareDay : Nat → Int32} {cured : Int32} {cureOf : Nat → Int32} {shareOf : Nat → Int32} {unitsOf : Int64} {spare : Int32} {halfFrom : Nat → Int32} {halfMany : Nat → Int32} {halfDone : Nat → Int32} {halfTotal : Nat → UInt64} {isFar : Int32} {p0 : Int32} {r_1 : Int32} {r_2 : UInt64} {big_3 : Nat → Int32} {x_4 : Int32} {v4_5 : Int32} {v5_6 : Int32} {order_7 : Nat → Int32} {X54 : Int32 → Int32 → (Nat → Int32) → Prop} (G : XO g RX3 cX3_cure 7 7 0 0) (hX54 : ∀ (v4_14 : Int32) (v5_15 : Int32) (order_16 : Nat → Int32), X54 v4_14 v5_15 order_16 → X g 7 54 [(5, .int v5_15), (4, .int v4_14), (2, .double r_2), (0, .ref h0), (1, .int p0)] [] (mW h0 ad (xT g) r_1 many isWide amountOf accountOf dayOf given givenOf runs runWide runWay runTotal runSteps lefts rights results x_4 dn stepsAt keeps order_16 att spareAmount spareAccount spareDay cured cureOf shareOf big_3 unitsOf spare halfFrom halfMany halfDone halfTotal isFar) 0 0) : ∀ (s_8 : Int32), wX3_cure_J113 many amountOf p0 r_2 x_4 v4_5 v5_6 order_7 X54 s_8 → X g 7 113 [(0, .ref h0), (1, .int p0), (2, .double r_2), (4, .int v4_5), (5, .int v5_6)] [.int s_8] (mW h0 ad (xT g) r_1 many isWide amountOf accountOf dayOf given givenOf runs runWide runWay runTotal runSteps lefts rights results x_4 dn stepsAt keeps order_7 att spareAmount spareAccount spareDay cured cureOf shareOf big_3 unitsOf spare halfFrom halfMany halfDone halfTotal isFar) 0 0 := by
  intro s_8 h
  unfold wX3_cure_J113 at h
  refine x_istore (lv' := [(6, .int s_8), (0, .ref h0), (1, .int p0), (2, .double r_2), (4, .int v4_5), (5, .int v5_6)]) G dX3_cure_113 (by decide) rfl ?_
  refine x_iload G dX3_cure_115 0 rfl ?_
  refine x_if_eq (tgt := 135) G dX3_cure_117 rfl (fun c => ?_) (fun c => ?_)
  · replace h := h.1 c
    obtain ⟨x_9, ex_9⟩ : ∃ z : Int32, z = (v5_6 + (1 : Int32)) := ⟨_, rfl⟩
    replace h := h x_9 ex_9
    refine x_iinc (v := x_9) (lv' := [(5, .int x_9), (6, .int s_8), (0, .ref h0), (1, .int p0), (2, .double r_2), (4, .int v4_5)]) G dX3_cure_135 5 rfl (by rw [ex_9]; rfl) (by decide) rfl ?_
    refine x_goto (tgt := 54) G dX3_cure_138 rfl ?_
    refine x_lv (lv' := [(5, .int x_9), (4, .int v4_5), (2, .double r_2), (0, .ref h0), (1, .int p0)]) [0, 5, 4, 2, 3] rfl ?_
    exact hX54 v4_5 x_9 order_7 h
  · replace h := h.2 c
    refine x_aload_n G rfl dX3_cure_120 1 rfl ?_
    refine x_iload_n G rfl dX3_cure_121 2 rfl ?_
    refine x_iload G dX3_cure_122 5 rfl ?_
    refine x_dload_n G rfl dX3_cure_124 3 rfl ?_
    refine x_cVi1 (As := [.int p0, .int v5_6, .double r_2]) (rest := []) G [] XSub.rf (tX3_cures G.noTraces h) (lw_V q2022 q2024 qs63 q70 q2025) cdX3_cures 3 0 rfl rfl rfl (by decide) (by decide) rfl (Nat.le_of_ble_eq_true rfl) (Nat.zero_le _) (Nat.zero_le _) dX3_cure_125 (fun r_10 order_11 h => ?_)
    show X g 7 128 [(6, .int s_8), (0, .ref h0), (1, .int p0), (2, .double r_2), (4, .int v4_5), (5, .int v5_6)] [.int r_10] (mW h0 ad (xT g) r_1 many isWide amountOf accountOf dayOf given givenOf runs runWide runWay runTotal runSteps lefts rights results x_4 dn stepsAt keeps order_11 att spareAmount spareAccount spareDay cured cureOf shareOf big_3 unitsOf spare halfFrom halfMany halfDone halfTotal isFar) 0 0
    refine x_if_eq (tgt := 135) G dX3_cure_128 rfl (fun c => ?_) (fun c => ?_)
    · replace h := h.1 c
      obtain ⟨x_12, ex_12⟩ : ∃ z : Int32, z = (v5_6 + (1 : Int32)) := ⟨_, rfl⟩
      replace h := h x_12 ex_12
      refine x_iinc (v := x_12) (lv' := [(5, .int x_12), (6, .int s_8), (0, .ref h0), (1, .int p0), (2, .double r_2), (4, .int v4_5)]) G dX3_cure_135 5 rfl (by rw [ex_12]; rfl) (by decide) rfl ?_
      refine x_goto (tgt := 54) G dX3_cure_138 rfl ?_
      refine x_lv (lv' := [(5, .int x_12), (4, .int v4_5), (2, .double r_2), (0, .ref h0), (1, .int p0)]) [0, 5, 4, 2, 3] rfl ?_
      exact hX54 v4_5 x_12 order_11 h
    · replace h := h.2 c
      refine x_iload G dX3_cure_131 5 rfl ?_
      refine x_istore (lv' := [(4, .int v5_6), (6, .int s_8), (0, .ref h0), (1, .int p0), (2, .double r_2), (5, .int v5_6)]) G dX3_cure_133 (by decide) rfl ?_
      obtain ⟨x_13, ex_13⟩ : ∃ z : Int32, z = (v5_6 + (1 : Int32)) := ⟨_, rfl⟩
      replace h := h x_13 ex_13
      refine x_iinc (v := x_13) (lv' := [(5, .int x_13), (4, .int v5_6), (6, .int s_8), (0, .ref h0), (1, .int p0), (2, .double r_2)]) G dX3_cure_135 5 rfl (by rw [ex_13]; rfl) (by decide) rfl ?_
      refine x_goto (tgt := 54) G dX3_cure_138 rfl ?_
      refine x_lv (lv' := [(5, .int x_13), (4, .int v5_6), (2, .double r_2), (0, .ref h0), (1, .int p0)]) [0, 1, 5, 3, 4] rfl ?_
      exact hX54 v5_6 x_13 order_11 h
set_option maxRecDepth 20000 in
theorem kX3_cure_L54 {g : XG} {h0 : Nat} {ad : Nat → Nat} {many : Nat → Int32} {isWide : Nat → Int32} {amountOf : Nat → UInt64} {accountOf : Nat → Int32} {dayOf : Nat → Int32} {given : Nat → Int32} {givenOf : Nat → Int32} {runs : Int32} {runWide : Nat → Int32} {runWay : Nat → Int32} {runTotal : Nat → UInt64} {runSteps : Nat → Int32} {lefts : Nat → UInt64} {rights : Nat → UInt64} {results : Nat → UInt64} {dn : Int32} {stepsAt : Int32} {keeps : Int32} {att : Nat → UInt64} {spareAmount : Nat → UInt64} {spareAccount : Nat → Int32} {spareDay : Nat → Int32} {cured : Int32} {cureOf : Nat → Int32} {shareOf : Nat → Int32} {unitsOf : Int64} {spare : Int32} {halfFrom : Nat → Int32} {halfMany : Nat → Int32} {halfDone : Nat → Int32} {halfTotal : Nat → UInt64} {isFar : Int32} {p0 : Int32} {r_1 : Int32} {r_2 : UInt64} {big_3 : Nat → Int32} {x_4 : Int32} {X141 : Int32 → Int32 → (Nat → Int32) → Prop} (G : XO g RX3 cX3_cure 7 7 0 0) (hX141 : ∀ (v4_22 : Int32) (v5_23 : Int32) (order_24 : Nat → Int32), X141 v4_22 v5_23 order_24 → X g 7 141 [(5, .int v5_23), (4, .int v4_22), (2, .double r_2), (0, .ref h0), (1, .int p0)] [] (mW h0 ad (xT g) r_1 many isWide amountOf accountOf dayOf given givenOf runs runWide runWay runTotal runSteps lefts rights results x_4 dn stepsAt keeps order_24 att spareAmount spareAccount spareDay cured cureOf shareOf big_3 unitsOf spare halfFrom halfMany halfDone halfTotal isFar) 0 0) : ∀ (n : Nat) (v4_5 : Int32) (v5_6 : Int32) (order_7 : Nat → Int32), wX3_cure_L54 many amountOf p0 r_2 x_4 X141 n v4_5 v5_6 order_7 → X g 7 54 [(5, .int v5_6), (4, .int v4_5), (2, .double r_2), (0, .ref h0), (1, .int p0)] [] (mW h0 ad (xT g) r_1 many isWide amountOf accountOf dayOf given givenOf runs runWide runWay runTotal runSteps lefts rights results x_4 dn stepsAt keeps order_7 att spareAmount spareAccount spareDay cured cureOf shareOf big_3 unitsOf spare halfFrom halfMany halfDone halfTotal isFar) 0 0 := by
  intro n
  induction n with
  | zero => intro _ _ _ h; exact h.elim
  | succ n ih =>
    intro v4_5 v5_6 order_7 h
    unfold wX3_cure_L54 at h
    refine x_iload G dX3_cure_54 0 rfl ?_
    refine x_iconst (v := (1 : Int32)) G dX3_cure_56 (by decide) ?_
    refine x_aload_n G rfl dX3_cure_57 3 rfl ?_
    refine m_get_1 G dX3_cure_58 ?_
    refine x_iload_n G rfl dX3_cure_61 4 rfl ?_
    obtain ⟨hz, h⟩ := h
    refine m_ald_1 G hz dX3_cure_62 ?_
    refine x_ishl G dX3_cure_63 ?_
    refine x_icmp_ge (tgt := 141) G dX3_cure_64 rfl (fun c => ?_) (fun c => ?_)
    · replace h := h.1 c
      exact hX141 v4_5 v5_6 order_7 h
    · replace h := h.2 c
      refine x_iload G dX3_cure_67 1 rfl ?_
      refine x_if_lt (tgt := 108) G dX3_cure_69 rfl (fun c => ?_) (fun c => ?_)
      · replace h := h.1 c
        refine x_iconst (v := (1 : Int32)) G dX3_cure_108 (by decide) ?_
        refine x_goto (tgt := 113) G dX3_cure_109 rfl ?_
        refine x_lv (lv' := [(0, .ref h0), (1, .int p0), (2, .double r_2), (4, .int v4_5), (5, .int v5_6)]) [3, 4, 2, 1, 0] rfl ?_
        refine kX3_cure_J113 G ih _ h
      · replace h := h.2 c
        refine x_iload G dX3_cure_72 0 rfl ?_
        refine x_cPi (As := [.int v5_6]) (rest := []) G (tX3_bits G.noTraces h) (lw_S q2016 q2017 q70 q2018) cdX3_bits (by decide) (by decide) rfl (Nat.le_of_ble_eq_true rfl) (Nat.zero_le _) (Nat.zero_le _) dX3_cure_74 (fun r_17 h => ?_)
        refine x_iload G dX3_cure_77 1 rfl ?_
        refine x_cPi (As := [.int v4_5]) (rest := [.int r_17]) G (tX3_bits G.noTraces h) (lw_S q2016 q2017 q70 q2018) cdX3_bits (by decide) (by decide) rfl (Nat.le_of_ble_eq_true rfl) (Nat.zero_le _) (Nat.zero_le _) dX3_cure_79 (fun r_18 h => ?_)
        refine x_icmp_lt (tgt := 108) G dX3_cure_82 rfl (fun c => ?_) (fun c => ?_)
        · replace h := h.1 c
          refine x_iconst (v := (1 : Int32)) G dX3_cure_108 (by decide) ?_
          refine x_goto (tgt := 113) G dX3_cure_109 rfl ?_
          refine x_lv (lv' := [(0, .ref h0), (1, .int p0), (2, .double r_2), (4, .int v4_5), (5, .int v5_6)]) [3, 4, 2, 1, 0] rfl ?_
          refine kX3_cure_J113 G ih _ h
        · replace h := h.2 c
          refine x_iload G dX3_cure_85 0 rfl ?_
          refine x_cPi (As := [.int v5_6]) (rest := []) G (tX3_bits G.noTraces h) (lw_S q2016 q2017 q70 q2018) cdX3_bits (by decide) (by decide) rfl (Nat.le_of_ble_eq_true rfl) (Nat.zero_le _) (Nat.zero_le _) dX3_cure_87 (fun r_19 h => ?_)
          refine x_iload G dX3_cure_90 1 rfl ?_
          refine x_cPi (As := [.int v4_5]) (rest := [.int r_19]) G (tX3_bits G.noTraces h) (lw_S q2016 q2017 q70 q2018) cdX3_bits (by decide) (by decide) rfl (Nat.le_of_ble_eq_true rfl) (Nat.zero_le _) (Nat.zero_le _) dX3_cure_92 (fun r_20 h => ?_)
          refine x_icmp_ne (tgt := 112) G dX3_cure_95 rfl (fun c => ?_) (fun c => ?_)
          · replace h := h.1 c
            refine x_iconst (v := (0 : Int32)) G dX3_cure_112 (by decide) ?_
            refine x_lv (lv' := [(0, .ref h0), (1, .int p0), (2, .double r_2), (4, .int v4_5), (5, .int v5_6)]) [3, 4, 2, 1, 0] rfl ?_
            refine kX3_cure_J113 G ih _ h
          · replace h := h.2 c
            refine x_iload G dX3_cure_98 0 rfl ?_
            refine x_iload G dX3_cure_100 1 rfl ?_
            refine x_cPi (As := [.int v5_6, .int v4_5]) (rest := []) G (tX3_isAhead G.noTraces h) (lw_S q2019 q2020 q70 q2021) cdX3_isAhead (by decide) (by decide) rfl (Nat.le_of_ble_eq_true rfl) (Nat.zero_le _) (Nat.zero_le _) dX3_cure_102 (fun r_21 h => ?_)
            refine x_if_eq (tgt := 112) G dX3_cure_105 rfl (fun c => ?_) (fun c => ?_)
            · replace h := h.1 c
              refine x_iconst (v := (0 : Int32)) G dX3_cure_112 (by decide) ?_
              refine x_lv (lv' := [(0, .ref h0), (1, .int p0), (2, .double r_2), (4, .int v4_5), (5, .int v5_6)]) [3, 4, 2, 1, 0] rfl ?_
              refine kX3_cure_J113 G ih _ h
            · replace h := h.2 c
              refine x_iconst (v := (1 : Int32)) G dX3_cure_108 (by decide) ?_
              refine x_goto (tgt := 113) G dX3_cure_109 rfl ?_
              refine x_lv (lv' := [(0, .ref h0), (1, .int p0), (2, .double r_2), (4, .int v4_5), (5, .int v5_6)]) [3, 4, 2, 1, 0] rfl ?_
              refine kX3_cure_J113 G ih _ h
set_option maxRecDepth 20000 in
theorem kX3_cure_L158 {g : XG} {h0 : Nat} {ad : Nat → Nat} {many : Nat → Int32} {isWide : Nat → Int32} {amountOf : Nat → UInt64} {accountOf : Nat → Int32} {dayOf : Nat → Int32} {given : Nat → Int32} {givenOf : Nat → Int32} {runs : Int32} {runWide : Nat → Int32} {runWay : Nat → Int32} {runTotal : Nat → UInt64} {runSteps : Nat → Int32} {lefts : Nat → UInt64} {rights : Nat → UInt64} {results : Nat → UInt64} {dn : Int32} {stepsAt : Int32} {keeps : Int32} {att : Nat → UInt64} {spareAmount : Nat → UInt64} {spareAccount : Nat → Int32} {spareDay : Nat → Int32} {shareOf : Nat → Int32} {unitsOf : Int64} {spare : Int32} {halfFrom : Nat → Int32} {halfMany : Nat → Int32} {halfDone : Nat → Int32} {halfTotal : Nat → UInt64} {isFar : Int32} {v4_28 : Int32} {thrown_30 : Int32} {wide_31 : Int32} {order_32 : Nat → Int32} {big_33 : Nat → Int32} {X208 : Int32 → Int32 → (Nat → Int32) → Prop} (G : XO g RX3 cX3_cure 7 7 0 0) (hX208 : ∀ (v5_41 : Int32) (cured_42 : Int32) (cureOf_43 : Nat → Int32), X208 v5_41 cured_42 cureOf_43 → X g 7 208 [(5, .int v5_41), (0, .ref h0), (4, .int v4_28)] [] (mW h0 ad (xT g) thrown_30 many isWide amountOf accountOf dayOf given givenOf runs runWide runWay runTotal runSteps lefts rights results wide_31 dn stepsAt keeps order_32 att spareAmount spareAccount spareDay cured_42 cureOf_43 shareOf big_33 unitsOf spare halfFrom halfMany halfDone halfTotal isFar) 0 0) : ∀ (n : Nat) (v5_34 : Int32) (cured_35 : Int32) (cureOf_36 : Nat → Int32), wX3_cure_L158 v4_28 X208 n v5_34 cured_35 cureOf_36 → X g 7 158 [(5, .int v5_34), (0, .ref h0), (4, .int v4_28)] [] (mW h0 ad (xT g) thrown_30 many isWide amountOf accountOf dayOf given givenOf runs runWide runWay runTotal runSteps lefts rights results wide_31 dn stepsAt keeps order_32 att spareAmount spareAccount spareDay cured_35 cureOf_36 shareOf big_33 unitsOf spare halfFrom halfMany halfDone halfTotal isFar) 0 0 := by
  intro n
  induction n with
  | zero => intro _ _ _ h; exact h.elim
  | succ n ih =>
    intro v5_34 cured_35 cureOf_36 h
    unfold wX3_cure_L158 at h
    refine x_iload G dX3_cure_158 0 rfl ?_
    refine x_bipush (v := (10 : Int32)) G dX3_cure_160 (by decide) ?_
    refine x_icmp_ge (tgt := 208) G dX3_cure_162 rfl (fun c => ?_) (fun c => ?_)
    · replace h := h.1 c
      exact hX208 v5_34 cured_35 cureOf_36 h
    · replace h := h.2 c
      refine x_iload G dX3_cure_165 2 rfl ?_
      refine x_if_lt (tgt := 208) G dX3_cure_167 rfl (fun c => ?_) (fun c => ?_)
      · replace h := h.1 c
        exact hX208 v5_34 cured_35 cureOf_36 h
      · replace h := h.2 c
        refine x_iload G dX3_cure_170 2 rfl ?_
        refine x_iload G dX3_cure_172 0 rfl ?_
        refine x_ishr G dX3_cure_174 ?_
        refine x_iconst (v := (1 : Int32)) G dX3_cure_175 (by decide) ?_
        refine x_iand G dX3_cure_176 ?_
        refine x_iconst (v := (1 : Int32)) G dX3_cure_177 (by decide) ?_
        refine x_icmp_ne (tgt := 202) G dX3_cure_178 rfl (fun c => ?_) (fun c => ?_)
        · replace h := h.1 c
          obtain ⟨x_37, ex_37⟩ : ∃ z : Int32, z = (v5_34 + (1 : Int32)) := ⟨_, rfl⟩
          replace h := h x_37 ex_37
          refine x_iinc (v := x_37) (lv' := [(5, .int x_37), (0, .ref h0), (4, .int v4_28)]) G dX3_cure_202 0 rfl (by rw [ex_37]; rfl) (by decide) rfl ?_
          refine x_goto (tgt := 158) G dX3_cure_205 rfl ?_
          exact ih x_37 cured_35 cureOf_36 h
        · replace h := h.2 c
          refine x_aload_n G rfl dX3_cure_181 1 rfl ?_
          refine m_get_26 G dX3_cure_182 ?_
          refine x_aload_n G rfl dX3_cure_185 1 rfl ?_
          refine m_get_25 G dX3_cure_186 ?_
          refine x_iload G dX3_cure_189 0 rfl ?_
          obtain ⟨hz, h⟩ := h
          refine m_ast_26 G hz dX3_cure_191 (fun cureOf_38 ecureOf_38 => ?_)
          replace h := h cureOf_38 ecureOf_38
          refine x_aload_n G rfl dX3_cure_192 1 rfl ?_
          refine x_dup G dX3_cure_193 rfl ?_
          refine m_get_25 G dX3_cure_194 ?_
          refine x_iconst (v := (1 : Int32)) G dX3_cure_197 (by decide) ?_
          refine x_iadd G dX3_cure_198 ?_
          refine x_topi (fun x_39 ex_39 => ?_)
          replace h := h x_39 ex_39
          refine m_put_25 G dX3_cure_199 ?_
          obtain ⟨x_40, ex_40⟩ : ∃ z : Int32, z = (v5_34 + (1 : Int32)) := ⟨_, rfl⟩
          replace h := h x_40 ex_40
          refine x_iinc (v := x_40) (lv' := [(5, .int x_40), (0, .ref h0), (4, .int v4_28)]) G dX3_cure_202 0 rfl (by rw [ex_40]; rfl) (by decide) rfl ?_
          refine x_goto (tgt := 158) G dX3_cure_205 rfl ?_
          exact ih x_40 x_39 cureOf_38 h
set_option maxRecDepth 20000 in
theorem kX3_cure_J152 {g : XG} {h0 : Nat} {ad : Nat → Nat} {many : Nat → Int32} {isWide : Nat → Int32} {amountOf : Nat → UInt64} {accountOf : Nat → Int32} {dayOf : Nat → Int32} {given : Nat → Int32} {givenOf : Nat → Int32} {runs : Int32} {runWide : Nat → Int32} {runWay : Nat → Int32} {runTotal : Nat → UInt64} {runSteps : Nat → Int32} {lefts : Nat → UInt64} {rights : Nat → UInt64} {results : Nat → UInt64} {dn : Int32} {stepsAt : Int32} {keeps : Int32} {att : Nat → UInt64} {spareAmount : Nat → UInt64} {spareAccount : Nat → Int32} {spareDay : Nat → Int32} {cured : Int32} {cureOf : Nat → Int32} {shareOf : Nat → Int32} {unitsOf : Int64} {spare : Int32} {halfFrom : Nat → Int32} {halfMany : Nat → Int32} {halfDone : Nat → Int32} {halfTotal : Nat → UInt64} {isFar : Int32} {K : Int32 → Int32 → Int32 → (Nat → Int32) → Int32 → (Nat → Int32) → (Nat → Int32) → Prop} (G : XO g RX3 cX3_cure 7 7 0 0) (Q : XQi6 g FieldType.int 0 0 (fun (thrown' : Int32) (wide' : Int32) (order' : Nat → Int32) (cured' : Int32) (cureOf' : Nat → Int32) (big' : Nat → Int32) => mW h0 ad (xT g) thrown' many isWide amountOf accountOf dayOf given givenOf runs runWide runWay runTotal runSteps lefts rights results wide' dn stepsAt keeps order' att spareAmount spareAccount spareDay cured' cureOf' shareOf big' unitsOf spare halfFrom halfMany halfDone halfTotal isFar) K) : ∀ (v4_28 : Int32) (s_29 : Int32) (thrown_30 : Int32) (wide_31 : Int32) (order_32 : Nat → Int32) (big_33 : Nat → Int32), wX3_cure_J152 cureOf K v4_28 s_29 thrown_30 wide_31 order_32 big_33 → X g 7 152 [(0, .ref h0), (4, .int v4_28)] [.int s_29, .ref h0] (mW h0 ad (xT g) thrown_30 many isWide amountOf accountOf dayOf given givenOf runs runWide runWay runTotal runSteps lefts rights results wide_31 dn stepsAt keeps order_32 att spareAmount spareAccount spareDay cured cureOf shareOf big_33 unitsOf spare halfFrom halfMany halfDone halfTotal isFar) 0 0 := by
  intro v4_28 s_29 thrown_30 wide_31 order_32 big_33 h
  unfold wX3_cure_J152 at h
  refine m_put_25 G dX3_cure_152 ?_
  refine x_iconst (v := (0 : Int32)) G dX3_cure_155 (by decide) ?_
  refine x_istore (lv' := [(5, .int (0 : Int32)), (0, .ref h0), (4, .int v4_28)]) G dX3_cure_156 (by decide) rfl ?_
  obtain ⟨n0, h⟩ := h
  refine kX3_cure_L158 G (fun v5_44 cured_45 cureOf_46 h => ?_) n0 _ _ _ h
  · refine x_aload_n G rfl dX3_cure_208 1 rfl ?_
    refine m_get_25 G dX3_cure_209 ?_
    exact x_reti6 G Q dX3_cure_212 rfl thrown_30 wide_31 order_32 cured_45 cureOf_46 big_33 h XSub.rf (Nat.le_refl _) (Nat.le_refl _)
set_option maxRecDepth 20000 in
theorem tX3_cure {l : Launch} {D : va_G} {ta : Nat → ClassId} {h0 : Nat} {ad : Nat → Nat} {thrown : Int32} {many : Nat → Int32} {isWide : Nat → Int32} {amountOf : Nat → UInt64} {accountOf : Nat → Int32} {dayOf : Nat → Int32} {given : Nat → Int32} {givenOf : Nat → Int32} {runs : Int32} {runWide : Nat → Int32} {runWay : Nat → Int32} {runTotal : Nat → UInt64} {runSteps : Nat → Int32} {lefts : Nat → UInt64} {rights : Nat → UInt64} {results : Nat → UInt64} {wide : Int32} {dn : Int32} {stepsAt : Int32} {keeps : Int32} {order : Nat → Int32} {att : Nat → UInt64} {spareAmount : Nat → UInt64} {spareAccount : Nat → Int32} {spareDay : Nat → Int32} {cured : Int32} {cureOf : Nat → Int32} {shareOf : Nat → Int32} {big : Nat → Int32} {unitsOf : Int64} {spare : Int32} {halfFrom : Nat → Int32} {halfMany : Nat → Int32} {halfDone : Nat → Int32} {halfTotal : Nat → UInt64} {isFar : Int32} {p0 : Int32} {K : Int32 → Int32 → Int32 → (Nat → Int32) → Int32 → (Nat → Int32) → (Nat → Int32) → Prop} (hlt : l.stackTraces = false) (h : wX3_cure p0 thrown many isWide amountOf wide order cured cureOf big K) : SMi6 l D ta yX3_cure cX3_cure 7 FieldType.int 7 [.ref h0, .int p0] (mW h0 ad ta thrown many isWide amountOf accountOf dayOf given givenOf runs runWide runWay runTotal runSteps lefts rights results wide dn stepsAt keeps order att spareAmount spareAccount spareDay cured cureOf shareOf big unitsOf spare halfFrom halfMany halfDone halfTotal isFar) (fun (thrown' : Int32) (wide' : Int32) (order' : Nat → Int32) (cured' : Int32) (cureOf' : Nat → Int32) (big' : Nat → Int32) => mW h0 ad ta thrown' many isWide amountOf accountOf dayOf given givenOf runs runWide runWay runTotal runSteps lefts rights results wide' dn stepsAt keeps order' att spareAmount spareAccount spareDay cured' cureOf' shareOf big' unitsOf spare halfFrom halfMany halfDone halfTotal isFar) 0 0 K := by
  refine x_sti6 hlt (plainFor_of_name (by decide +kernel)) (Nat.le_of_ble_eq_true rfl) (fun g G hl hD hT Q => ?_)
  subst hl; subst hD; subst hT
  unfold wX3_cure at h
  show X g 7 0 [(0, .ref h0), (1, .int p0)] [] (mW h0 ad (xT g) thrown many isWide amountOf accountOf dayOf given givenOf runs runWide runWay runTotal runSteps lefts rights results wide dn stepsAt keeps order att spareAmount spareAccount spareDay cured cureOf shareOf big unitsOf spare halfFrom halfMany halfDone halfTotal isFar) 0 0
  refine x_aload_n G rfl dX3_cure_0 0 rfl ?_
  refine x_aload_n G rfl dX3_cure_1 0 rfl ?_
  refine x_iload_n G rfl dX3_cure_2 1 rfl ?_
  refine x_cVi0 (As := [.int p0]) (rest := [.ref h0]) G [] XSub.rf (tX3_faultOf G.noTraces h) (lw_V q1669 q1671 qs21 q70 q1672) cdX3_faultOf 3 0 rfl rfl rfl (by decide) (by decide) rfl (Nat.le_of_ble_eq_true rfl) (Nat.zero_le _) (Nat.zero_le _) dX3_cure_3 (fun r_1 h => ?_)
  show X g 7 6 [(0, .ref h0), (1, .int p0)] [.int r_1, .ref h0] (mW h0 ad (xT g) thrown many isWide amountOf accountOf dayOf given givenOf runs runWide runWay runTotal runSteps lefts rights results wide dn stepsAt keeps order att spareAmount spareAccount spareDay cured cureOf shareOf big unitsOf spare halfFrom halfMany halfDone halfTotal isFar) 0 0
  refine m_put_0 G dX3_cure_6 ?_
  refine x_aload_n G rfl dX3_cure_9 0 rfl ?_
  refine m_get_0 G dX3_cure_10 ?_
  refine x_if_eq (tgt := 18) G dX3_cure_13 rfl (fun c => ?_) (fun c => ?_)
  · replace h := h.1 c
    refine x_aload_n G rfl dX3_cure_18 0 rfl ?_
    refine m_get_1 G dX3_cure_19 ?_
    refine x_iload_n G rfl dX3_cure_22 1 rfl ?_
    obtain ⟨hz, h⟩ := h
    refine m_ald_1 G hz dX3_cure_23 ?_
    refine x_bipush (v := (10 : Int32)) G dX3_cure_24 (by decide) ?_
    refine x_icmp_le (tgt := 32) G dX3_cure_26 rfl (fun c => ?_) (fun c => ?_)
    · replace h := h.1 c
      refine x_aload_n G rfl dX3_cure_32 0 rfl ?_
      refine x_iload_n G rfl dX3_cure_33 1 rfl ?_
      refine x_cVd1 (As := [.int p0]) (rest := []) G [] XSub.rf (tX3_exactOf G.noTraces h) (lw_V q1978 q1980 qs58 q70 q1981) cdX3_exactOf 3 0 rfl rfl rfl (by decide) (by decide) rfl (Nat.le_of_ble_eq_true rfl) (Nat.zero_le _) (Nat.zero_le _) dX3_cure_34 (fun r_2 big_3 h => ?_)
      show X g 7 37 [(0, .ref h0), (1, .int p0)] [.double r_2] (mW h0 ad (xT g) r_1 many isWide amountOf accountOf dayOf given givenOf runs runWide runWay runTotal runSteps lefts rights results wide dn stepsAt keeps order att spareAmount spareAccount spareDay cured cureOf shareOf big_3 unitsOf spare halfFrom halfMany halfDone halfTotal isFar) 0 0
      refine x_dstore_n (lv' := [(2, .double r_2), (0, .ref h0), (1, .int p0)]) G rfl dX3_cure_37 (by decide) rfl ?_
      refine x_aload_n G rfl dX3_cure_38 1 rfl ?_
      refine x_aload_n G rfl dX3_cure_39 1 rfl ?_
      refine m_get_2 G dX3_cure_40 ?_
      refine x_iload_n G rfl dX3_cure_43 2 rfl ?_
      obtain ⟨hz, h⟩ := h
      refine m_ald_2 G hz dX3_cure_44 ?_
      refine x_topi (fun x_4 ex_4 => ?_)
      replace h := h x_4 ex_4
      obtain ⟨hb, h⟩ := h
      refine m_put_16 G hb dX3_cure_45 ?_
      refine x_iconst (v := (-1 : Int32)) G dX3_cure_48 (by decide) ?_
      refine x_istore (lv' := [(4, .int (-1 : Int32)), (2, .double r_2), (0, .ref h0), (1, .int p0)]) G dX3_cure_49 (by decide) rfl ?_
      refine x_iconst (v := (0 : Int32)) G dX3_cure_51 (by decide) ?_
      refine x_istore (lv' := [(5, .int (0 : Int32)), (4, .int (-1 : Int32)), (2, .double r_2), (0, .ref h0), (1, .int p0)]) G dX3_cure_52 (by decide) rfl ?_
      obtain ⟨n0, h⟩ := h
      refine kX3_cure_L54 G (fun v4_25 v5_26 order_27 h => ?_) n0 _ _ _ h
      · refine x_aload_n G rfl dX3_cure_141 3 rfl ?_
        refine x_iload G dX3_cure_142 1 rfl ?_
        refine x_if_ge (tgt := 151) G dX3_cure_144 rfl (fun c => ?_) (fun c => ?_)
        · replace h := h.1 c
          refine x_iconst (v := (0 : Int32)) G dX3_cure_151 (by decide) ?_
          refine x_lv (lv' := [(0, .ref h0), (4, .int v4_25)]) [3, 1] rfl ?_
          refine kX3_cure_J152 G Q  _ _ _ _ _ _ h
        · replace h := h.2 c
          refine x_iconst (v := (-1 : Int32)) G dX3_cure_147 (by decide) ?_
          refine x_goto (tgt := 152) G dX3_cure_148 rfl ?_
          refine x_lv (lv' := [(0, .ref h0), (4, .int v4_25)]) [3, 1] rfl ?_
          refine kX3_cure_J152 G Q  _ _ _ _ _ _ h
    · replace h := h.2 c
      refine x_bipush (v := (-104 : Int32)) G dX3_cure_29 (by decide) ?_
      exact x_reti6 G Q dX3_cure_31 rfl r_1 wide order cured cureOf big h XSub.rf (Nat.le_refl _) (Nat.le_refl _)
  · replace h := h.2 c
    refine x_iconst (v := (0 : Int32)) G dX3_cure_16 (by decide) ?_
    exact x_reti6 G Q dX3_cure_17 rfl r_1 wide order cured cureOf big h XSub.rf (Nat.le_refl _) (Nat.le_refl _)
theorem cdX3_cured : yX3_cured.cls = RX3 ∧ yX3_cured.cls ≠ "java/lang/invoke/MethodHandle" ∧ yX3_cured.cls ≠ "java/lang/invoke/VarHandle" ∧ (parseMethodDescriptor yX3_cured.desc).map (fun d => d.parameters.length) = some 1 := by decide +kernel
def wX3_cured (p0 : Int32) (thrown : Int32) (cured : Int32) (cureOf : Nat → Int32) (K : Int32 → Int32 → Prop) : Prop := (wX3_in p0.toInt64 (0 : Int64) ((cured - (1 : Int32)).toInt64) (fun (r_1 : Int32) => ((r_1 = (0 : Int32) → K (-1 : Int32) (0 : Int32)) ∧ (¬ r_1 = (0 : Int32) → (vp_in p0 10 ∧ K (cureOf p0.toNatClampNeg) (0 : Int32))))))
set_option maxRecDepth 20000 in
theorem tX3_cured {l : Launch} {D : va_G} {ta : Nat → ClassId} {h0 : Nat} {ad : Nat → Nat} {thrown : Int32} {many : Nat → Int32} {isWide : Nat → Int32} {amountOf : Nat → UInt64} {accountOf : Nat → Int32} {dayOf : Nat → Int32} {given : Nat → Int32} {givenOf : Nat → Int32} {runs : Int32} {runWide : Nat → Int32} {runWay : Nat → Int32} {runTotal : Nat → UInt64} {runSteps : Nat → Int32} {lefts : Nat → UInt64} {rights : Nat → UInt64} {results : Nat → UInt64} {wide : Int32} {dn : Int32} {stepsAt : Int32} {keeps : Int32} {order : Nat → Int32} {att : Nat → UInt64} {spareAmount : Nat → UInt64} {spareAccount : Nat → Int32} {spareDay : Nat → Int32} {cured : Int32} {cureOf : Nat → Int32} {shareOf : Nat → Int32} {big : Nat → Int32} {unitsOf : Int64} {spare : Int32} {halfFrom : Nat → Int32} {halfMany : Nat → Int32} {halfDone : Nat → Int32} {halfTotal : Nat → UInt64} {isFar : Int32} {p0 : Int32} {K : Int32 → Int32 → Prop} (hlt : l.stackTraces = false) (h : wX3_cured p0 thrown cured cureOf K) : SMi1 l D ta yX3_cured cX3_cured 2 FieldType.int 2 [.ref h0, .int p0] (mW h0 ad ta thrown many isWide amountOf accountOf dayOf given givenOf runs runWide runWay runTotal runSteps lefts rights results wide dn stepsAt keeps order att spareAmount spareAccount spareDay cured cureOf shareOf big unitsOf spare halfFrom halfMany halfDone halfTotal isFar) (fun (thrown' : Int32) => mW h0 ad ta thrown' many isWide amountOf accountOf dayOf given givenOf runs runWide runWay runTotal runSteps lefts rights results wide dn stepsAt keeps order att spareAmount spareAccount spareDay cured cureOf shareOf big unitsOf spare halfFrom halfMany halfDone halfTotal isFar) 0 0 K := by
  refine x_sti1 hlt (plainFor_of_name (by decide +kernel)) (Nat.le_of_ble_eq_true rfl) (fun g G hl hD hT Q => ?_)
  subst hl; subst hD; subst hT
  unfold wX3_cured at h
  show X g 2 0 [(0, .ref h0), (1, .int p0)] [] (mW h0 ad (xT g) thrown many isWide amountOf accountOf dayOf given givenOf runs runWide runWay runTotal runSteps lefts rights results wide dn stepsAt keeps order att spareAmount spareAccount spareDay cured cureOf shareOf big unitsOf spare halfFrom halfMany halfDone halfTotal isFar) 0 0
  refine x_aload_n G rfl dX3_cured_0 0 rfl ?_
  refine x_iconst (v := (0 : Int32)) G dX3_cured_1 (by decide) ?_
  refine m_put_0 G dX3_cured_2 ?_
  refine x_iload_n G rfl dX3_cured_5 1 rfl ?_
  refine x_i2l G dX3_cured_6 ?_
  refine x_lconst (v := (0 : Int64)) G dX3_cured_7 (by decide) ?_
  refine x_aload_n G rfl dX3_cured_8 0 rfl ?_
  refine m_get_25 G dX3_cured_9 ?_
  refine x_iconst (v := (1 : Int32)) G dX3_cured_12 (by decide) ?_
  refine x_isub G dX3_cured_13 ?_
  refine x_i2l G dX3_cured_14 ?_
  refine x_cPi (As := [.long p0.toInt64, .long (0 : Int64), .long (cured - (1 : Int32)).toInt64]) (rest := []) G (tX3_in G.noTraces h) (lw_S q1650 q1651 q70 q1652) cdX3_in (by decide) (by decide) rfl (Nat.le_of_ble_eq_true rfl) (Nat.zero_le _) (Nat.zero_le _) dX3_cured_15 (fun r_1 h => ?_)
  refine x_if_eq (tgt := 30) G dX3_cured_18 rfl (fun c => ?_) (fun c => ?_)
  · replace h := h.1 c
    refine x_iconst (v := (-1 : Int32)) G dX3_cured_30 (by decide) ?_
    exact x_reti1 G Q dX3_cured_31 rfl (0 : Int32) h XSub.rf (Nat.le_refl _) (Nat.le_refl _)
  · replace h := h.2 c
    refine x_aload_n G rfl dX3_cured_21 0 rfl ?_
    refine m_get_26 G dX3_cured_22 ?_
    refine x_iload_n G rfl dX3_cured_25 1 rfl ?_
    obtain ⟨hz, h⟩ := h
    refine m_ald_26 G hz dX3_cured_26 ?_
    refine x_goto (tgt := 31) G dX3_cured_27 rfl ?_
    exact x_reti1 G Q dX3_cured_31 rfl (0 : Int32) h XSub.rf (Nat.le_refl _) (Nat.le_refl _)
theorem cdX3_statement : yX3_statement.cls = RX3 ∧ yX3_statement.cls ≠ "java/lang/invoke/MethodHandle" ∧ yX3_statement.cls ≠ "java/lang/invoke/VarHandle" ∧ (parseMethodDescriptor yX3_statement.desc).map (fun d => d.parameters.length) = some 3 := by decide +kernel
def wX3_statement_L45 (many : Nat → Int32) (isWide : Nat → Int32) (amountOf : Nat → UInt64) (accountOf : Nat → Int32) (dayOf : Nat → Int32) (givenOf : Nat → Int32) (stepsAt : Int32) (keeps : Int32) (p0 : Int32) (p1 : Int64) (p2 : Int32) (X115 : Int32 → Int32 → (Nat → UInt64) → (Nat → UInt64) → (Nat → UInt64) → Int32 → Int32 → (Nat → Int32) → (Nat → UInt64) → Int64 → (Nat → Int32) → (Nat → Int32) → (Nat → Int32) → (Nat → UInt64) → Int32 → Prop) : Nat → Int32 → Int32 → (Nat → UInt64) → (Nat → UInt64) → (Nat → UInt64) → Int32 → Int32 → (Nat → Int32) → (Nat → UInt64) → Int64 → (Nat → Int32) → (Nat → Int32) → (Nat → Int32) → (Nat → UInt64) → Int32 → Prop
  | 0, _, _, _, _, _, _, _, _, _, _, _, _, _, _, _ => False
  | n + 1, v5_3, v6_4, lefts_5, rights_6, results_7, wide_8, dn_9, order_10, att_11, unitsOf_12, halfFrom_13, halfMany_14, halfDone_15, halfTotal_16, isFar_17 => (((13 : Int32) ≤ v6_4 → X115 v5_3 v6_4 lefts_5 rights_6 results_7 wide_8 dn_9 order_10 att_11 unitsOf_12 halfFrom_13 halfMany_14 halfDone_15 halfTotal_16 isFar_17) ∧ (¬ (13 : Int32) ≤ v6_4 → ((v6_4 = (6 : Int32) → (∀ x_18 : Int32, x_18 = (v6_4 + (1 : Int32)) → wX3_statement_L45 many isWide amountOf accountOf dayOf givenOf stepsAt keeps p0 p1 p2 X115 n v5_3 x_18 lefts_5 rights_6 results_7 wide_8 dn_9 order_10 att_11 unitsOf_12 halfFrom_13 halfMany_14 halfDone_15 halfTotal_16 isFar_17)) ∧ (¬ v6_4 = (6 : Int32) → ((v6_4 = (9 : Int32) → (∀ x_19 : Int32, x_19 = (v6_4 + (1 : Int32)) → wX3_statement_L45 many isWide amountOf accountOf dayOf givenOf stepsAt keeps p0 p1 p2 X115 n v5_3 x_19 lefts_5 rights_6 results_7 wide_8 dn_9 order_10 att_11 unitsOf_12 halfFrom_13 halfMany_14 halfDone_15 halfTotal_16 isFar_17)) ∧ (¬ v6_4 = (9 : Int32) → (wX3_totalOf p0 v6_4 (0 : Int32) many isWide amountOf accountOf dayOf givenOf lefts_5 rights_6 results_7 wide_8 dn_9 stepsAt keeps order_10 att_11 unitsOf_12 halfFrom_13 halfMany_14 halfDone_15 halfTotal_16 isFar_17 (fun (r_20 : UInt64) (lefts_21 : Nat → UInt64) (rights_22 : Nat → UInt64) (results_23 : Nat → UInt64) (wide_24 : Int32) (dn_25 : Int32) (order_26 : Nat → Int32) (att_27 : Nat → UInt64) (unitsOf_28 : Int64) (halfFrom_29 : Nat → Int32) (halfMany_30 : Nat → Int32) (halfDone_31 : Nat → Int32) (halfTotal_32 : Nat → UInt64) (isFar_33 : Int32) => (wX3_hasUnits r_20 p2 unitsOf_28 (fun (r_34 : Int32) (unitsOf_35 : Int64) => ((r_34 = (0 : Int32) → (∀ x_36 : Int32, x_36 = (v5_3 ||| (0 : Int32)) → (∀ x_37 : Int32, x_37 = (v6_4 + (1 : Int32)) → wX3_statement_L45 many isWide amountOf accountOf dayOf givenOf stepsAt keeps p0 p1 p2 X115 n x_36 x_37 lefts_21 rights_22 results_23 wide_24 dn_25 order_26 att_27 unitsOf_35 halfFrom_29 halfMany_30 halfDone_31 halfTotal_32 isFar_33))) ∧ (¬ r_34 = (0 : Int32) → ((¬ unitsOf_35 = p1 → (∀ x_38 : Int32, x_38 = (v5_3 ||| (0 : Int32)) → (∀ x_39 : Int32, x_39 = (v6_4 + (1 : Int32)) → wX3_statement_L45 many isWide amountOf accountOf dayOf givenOf stepsAt keeps p0 p1 p2 X115 n x_38 x_39 lefts_21 rights_22 results_23 wide_24 dn_25 order_26 att_27 unitsOf_35 halfFrom_29 halfMany_30 halfDone_31 halfTotal_32 isFar_33))) ∧ (unitsOf_35 = p1 → (∀ x_40 : Int32, x_40 = (v5_3 ||| (jishl (1 : Int32) v6_4)) → (∀ x_41 : Int32, x_41 = (v6_4 + (1 : Int32)) → wX3_statement_L45 many isWide amountOf accountOf dayOf givenOf stepsAt keeps p0 p1 p2 X115 n x_40 x_41 lefts_21 rights_22 results_23 wide_24 dn_25 order_26 att_27 unitsOf_35 halfFrom_29 halfMany_30 halfDone_31 halfTotal_32 isFar_33))))))))))))))))
def wX3_statement (p0 : Int32) (p1 : Int64) (p2 : Int32) (thrown : Int32) (many : Nat → Int32) (isWide : Nat → Int32) (amountOf : Nat → UInt64) (accountOf : Nat → Int32) (dayOf : Nat → Int32) (givenOf : Nat → Int32) (lefts : Nat → UInt64) (rights : Nat → UInt64) (results : Nat → UInt64) (wide : Int32) (dn : Int32) (stepsAt : Int32) (keeps : Int32) (order : Nat → Int32) (att : Nat → UInt64) (unitsOf : Int64) (halfFrom : Nat → Int32) (halfMany : Nat → Int32) (halfDone : Nat → Int32) (halfTotal : Nat → UInt64) (isFar : Int32) (K : Int32 → Int32 → (Nat → UInt64) → (Nat → UInt64) → (Nat → UInt64) → Int32 → Int32 → (Nat → Int32) → (Nat → UInt64) → Int64 → (Nat → Int32) → (Nat → Int32) → (Nat → Int32) → (Nat → UInt64) → Int32 → Prop) : Prop := (wX3_in p2.toInt64 (0 : Int64) (6 : Int64) (fun (r_1 : Int32) => ((¬ r_1 = (0 : Int32) → (wX3_faultOf p0 many (fun (r_2 : Int32) => ((r_2 = (0 : Int32) → (∃ m45 : Nat, wX3_statement_L45 many isWide amountOf accountOf dayOf givenOf stepsAt keeps p0 p1 p2 (fun (v5_57 : Int32) (v6_58 : Int32) (lefts_59 : Nat → UInt64) (rights_60 : Nat → UInt64) (results_61 : Nat → UInt64) (wide_62 : Int32) (dn_63 : Int32) (order_64 : Nat → Int32) (att_65 : Nat → UInt64) (unitsOf_66 : Int64) (halfFrom_67 : Nat → Int32) (halfMany_68 : Nat → Int32) (halfDone_69 : Nat → Int32) (halfTotal_70 : Nat → UInt64) (isFar_71 : Int32) => K v5_57 r_2 lefts_59 rights_60 results_61 wide_62 dn_63 order_64 att_65 unitsOf_66 halfFrom_67 halfMany_68 halfDone_69 halfTotal_70 isFar_71) m45 (0 : Int32) (0 : Int32) lefts rights results wide dn order att unitsOf halfFrom halfMany halfDone halfTotal isFar)) ∧ (¬ r_2 = (0 : Int32) → K (0 : Int32) r_2 lefts rights results wide dn order att unitsOf halfFrom halfMany halfDone halfTotal isFar))))) ∧ (r_1 = (0 : Int32) → K (-102 : Int32) (0 : Int32) lefts rights results wide dn order att unitsOf halfFrom halfMany halfDone halfTotal isFar))))
set_option maxRecDepth 20000 in
theorem kX3_statement_L45 {g : XG} {h0 : Nat} {ad : Nat → Nat} {many : Nat → Int32} {isWide : Nat → Int32} {amountOf : Nat → UInt64} {accountOf : Nat → Int32} {dayOf : Nat → Int32} {given : Nat → Int32} {givenOf : Nat → Int32} {runs : Int32} {runWide : Nat → Int32} {runWay : Nat → Int32} {runTotal : Nat → UInt64} {runSteps : Nat → Int32} {stepsAt : Int32} {keeps : Int32} {spareAmount : Nat → UInt64} {spareAccount : Nat → Int32} {spareDay : Nat → Int32} {cured : Int32} {cureOf : Nat → Int32} {shareOf : Nat → Int32} {big : Nat → Int32} {spare : Int32} {p0 : Int32} {p1 : Int64} {p2 : Int32} {r_2 : Int32} {X115 : Int32 → Int32 → (Nat → UInt64) → (Nat → UInt64) → (Nat → UInt64) → Int32 → Int32 → (Nat → Int32) → (Nat → UInt64) → Int64 → (Nat → Int32) → (Nat → Int32) → (Nat → Int32) → (Nat → UInt64) → Int32 → Prop} (G : XO g RX3 cX3_statement 9 6 0 0) (hX115 : ∀ (v5_42 : Int32) (v6_43 : Int32) (lefts_44 : Nat → UInt64) (rights_45 : Nat → UInt64) (results_46 : Nat → UInt64) (wide_47 : Int32) (dn_48 : Int32) (order_49 : Nat → Int32) (att_50 : Nat → UInt64) (unitsOf_51 : Int64) (halfFrom_52 : Nat → Int32) (halfMany_53 : Nat → Int32) (halfDone_54 : Nat → Int32) (halfTotal_55 : Nat → UInt64) (isFar_56 : Int32), X115 v5_42 v6_43 lefts_44 rights_45 results_46 wide_47 dn_48 order_49 att_50 unitsOf_51 halfFrom_52 halfMany_53 halfDone_54 halfTotal_55 isFar_56 → X g 9 115 [(6, .int v6_43), (5, .int v5_42), (0, .ref h0), (1, .int p0), (2, .long p1), (4, .int p2)] [] (mW h0 ad (xT g) r_2 many isWide amountOf accountOf dayOf given givenOf runs runWide runWay runTotal runSteps lefts_44 rights_45 results_46 wide_47 dn_48 stepsAt keeps order_49 att_50 spareAmount spareAccount spareDay cured cureOf shareOf big unitsOf_51 spare halfFrom_52 halfMany_53 halfDone_54 halfTotal_55 isFar_56) 0 0) : ∀ (n : Nat) (v5_3 : Int32) (v6_4 : Int32) (lefts_5 : Nat → UInt64) (rights_6 : Nat → UInt64) (results_7 : Nat → UInt64) (wide_8 : Int32) (dn_9 : Int32) (order_10 : Nat → Int32) (att_11 : Nat → UInt64) (unitsOf_12 : Int64) (halfFrom_13 : Nat → Int32) (halfMany_14 : Nat → Int32) (halfDone_15 : Nat → Int32) (halfTotal_16 : Nat → UInt64) (isFar_17 : Int32), wX3_statement_L45 many isWide amountOf accountOf dayOf givenOf stepsAt keeps p0 p1 p2 X115 n v5_3 v6_4 lefts_5 rights_6 results_7 wide_8 dn_9 order_10 att_11 unitsOf_12 halfFrom_13 halfMany_14 halfDone_15 halfTotal_16 isFar_17 → X g 9 45 [(6, .int v6_4), (5, .int v5_3), (0, .ref h0), (1, .int p0), (2, .long p1), (4, .int p2)] [] (mW h0 ad (xT g) r_2 many isWide amountOf accountOf dayOf given givenOf runs runWide runWay runTotal runSteps lefts_5 rights_6 results_7 wide_8 dn_9 stepsAt keeps order_10 att_11 spareAmount spareAccount spareDay cured cureOf shareOf big unitsOf_12 spare halfFrom_13 halfMany_14 halfDone_15 halfTotal_16 isFar_17) 0 0 := by
  intro n
  induction n with
  | zero => intro _ _ _ _ _ _ _ _ _ _ _ _ _ _ _ h; exact h.elim
  | succ n ih =>
    intro v5_3 v6_4 lefts_5 rights_6 results_7 wide_8 dn_9 order_10 att_11 unitsOf_12 halfFrom_13 halfMany_14 halfDone_15 halfTotal_16 isFar_17 h
    unfold wX3_statement_L45 at h
    refine x_iload G dX3_statement_45 0 rfl ?_
    refine x_bipush (v := (13 : Int32)) G dX3_statement_47 (by decide) ?_
    refine x_icmp_ge (tgt := 115) G dX3_statement_49 rfl (fun c => ?_) (fun c => ?_)
    · replace h := h.1 c
      exact hX115 v5_3 v6_4 lefts_5 rights_6 results_7 wide_8 dn_9 order_10 att_11 unitsOf_12 halfFrom_13 halfMany_14 halfDone_15 halfTotal_16 isFar_17 h
    · replace h := h.2 c
      refine x_iload G dX3_statement_52 0 rfl ?_
      refine x_bipush (v := (6 : Int32)) G dX3_statement_54 (by decide) ?_
      refine x_icmp_eq (tgt := 109) G dX3_statement_56 rfl (fun c => ?_) (fun c => ?_)
      · replace h := h.1 c
        obtain ⟨x_18, ex_18⟩ : ∃ z : Int32, z = (v6_4 + (1 : Int32)) := ⟨_, rfl⟩
        replace h := h x_18 ex_18
        refine x_iinc (v := x_18) (lv' := [(6, .int x_18), (5, .int v5_3), (0, .ref h0), (1, .int p0), (2, .long p1), (4, .int p2)]) G dX3_statement_109 0 rfl (by rw [ex_18]; rfl) (by decide) rfl ?_
        refine x_goto (tgt := 45) G dX3_statement_112 rfl ?_
        exact ih v5_3 x_18 lefts_5 rights_6 results_7 wide_8 dn_9 order_10 att_11 unitsOf_12 halfFrom_13 halfMany_14 halfDone_15 halfTotal_16 isFar_17 h
      · replace h := h.2 c
        refine x_iload G dX3_statement_59 0 rfl ?_
        refine x_bipush (v := (9 : Int32)) G dX3_statement_61 (by decide) ?_
        refine x_icmp_eq (tgt := 109) G dX3_statement_63 rfl (fun c => ?_) (fun c => ?_)
        · replace h := h.1 c
          obtain ⟨x_19, ex_19⟩ : ∃ z : Int32, z = (v6_4 + (1 : Int32)) := ⟨_, rfl⟩
          replace h := h x_19 ex_19
          refine x_iinc (v := x_19) (lv' := [(6, .int x_19), (5, .int v5_3), (0, .ref h0), (1, .int p0), (2, .long p1), (4, .int p2)]) G dX3_statement_109 0 rfl (by rw [ex_19]; rfl) (by decide) rfl ?_
          refine x_goto (tgt := 45) G dX3_statement_112 rfl ?_
          exact ih v5_3 x_19 lefts_5 rights_6 results_7 wide_8 dn_9 order_10 att_11 unitsOf_12 halfFrom_13 halfMany_14 halfDone_15 halfTotal_16 isFar_17 h
        · replace h := h.2 c
          refine x_aload_n G rfl dX3_statement_66 2 rfl ?_
          refine x_iload_n G rfl dX3_statement_67 3 rfl ?_
          refine x_iload G dX3_statement_68 0 rfl ?_
          refine x_iconst (v := (0 : Int32)) G dX3_statement_70 (by decide) ?_
          refine x_cVd13 (As := [.int p0, .int v6_4, .int (0 : Int32)]) (rest := []) G [] XSub.rf (tX3_totalOf G.noTraces h) (lw_V q1802 q1804 qs27 q70 q1805) cdX3_totalOf 3 0 rfl rfl rfl (by decide) (by decide) rfl (Nat.le_of_ble_eq_true rfl) (Nat.zero_le _) (Nat.zero_le _) dX3_statement_71 (fun r_20 lefts_21 rights_22 results_23 wide_24 dn_25 order_26 att_27 unitsOf_28 halfFrom_29 halfMany_30 halfDone_31 halfTotal_32 isFar_33 h => ?_)
          show X g 9 74 [(6, .int v6_4), (5, .int v5_3), (0, .ref h0), (1, .int p0), (2, .long p1), (4, .int p2)] [.double r_20] (mW h0 ad (xT g) r_2 many isWide amountOf accountOf dayOf given givenOf runs runWide runWay runTotal runSteps lefts_21 rights_22 results_23 wide_24 dn_25 stepsAt keeps order_26 att_27 spareAmount spareAccount spareDay cured cureOf shareOf big unitsOf_28 spare halfFrom_29 halfMany_30 halfDone_31 halfTotal_32 isFar_33) 0 0
          refine x_dstore (lv' := [(7, .double r_20), (6, .int v6_4), (5, .int v5_3), (0, .ref h0), (1, .int p0), (2, .long p1), (4, .int p2)]) G dX3_statement_74 (by decide) rfl ?_
          refine x_iload G dX3_statement_76 2 rfl ?_
          refine x_aload_n G rfl dX3_statement_78 3 rfl ?_
          refine x_dload G dX3_statement_79 0 rfl ?_
          refine x_iload G dX3_statement_81 6 rfl ?_
          refine x_cVi1 (As := [.double r_20, .int p2]) (rest := [.int v5_3]) G [] XSub.rf (tX3_hasUnits G.noTraces h) (lw_V q1776 q1778 qs26 q70 q1779) cdX3_hasUnits 3 0 rfl rfl rfl (by decide) (by decide) rfl (Nat.le_of_ble_eq_true rfl) (Nat.zero_le _) (Nat.zero_le _) dX3_statement_83 (fun r_34 unitsOf_35 h => ?_)
          show X g 9 86 [(7, .double r_20), (6, .int v6_4), (5, .int v5_3), (0, .ref h0), (1, .int p0), (2, .long p1), (4, .int p2)] [.int r_34, .int v5_3] (mW h0 ad (xT g) r_2 many isWide amountOf accountOf dayOf given givenOf runs runWide runWay runTotal runSteps lefts_21 rights_22 results_23 wide_24 dn_25 stepsAt keeps order_26 att_27 spareAmount spareAccount spareDay cured cureOf shareOf big unitsOf_35 spare halfFrom_29 halfMany_30 halfDone_31 halfTotal_32 isFar_33) 0 0
          refine x_if_eq (tgt := 105) G dX3_statement_86 rfl (fun c => ?_) (fun c => ?_)
          · replace h := h.1 c
            refine x_iconst (v := (0 : Int32)) G dX3_statement_105 (by decide) ?_
            refine x_ior G dX3_statement_106 ?_
            refine x_topi (fun x_36 ex_36 => ?_)
            replace h := h x_36 ex_36
            refine x_istore (lv' := [(5, .int x_36), (7, .double r_20), (6, .int v6_4), (0, .ref h0), (1, .int p0), (2, .long p1), (4, .int p2)]) G dX3_statement_107 (by decide) rfl ?_
            obtain ⟨x_37, ex_37⟩ : ∃ z : Int32, z = (v6_4 + (1 : Int32)) := ⟨_, rfl⟩
            replace h := h x_37 ex_37
            refine x_iinc (v := x_37) (lv' := [(6, .int x_37), (5, .int x_36), (7, .double r_20), (0, .ref h0), (1, .int p0), (2, .long p1), (4, .int p2)]) G dX3_statement_109 2 rfl (by rw [ex_37]; rfl) (by decide) rfl ?_
            refine x_goto (tgt := 45) G dX3_statement_112 rfl ?_
            refine x_lv (lv' := [(6, .int x_37), (5, .int x_36), (0, .ref h0), (1, .int p0), (2, .long p1), (4, .int p2)]) [0, 1, 3, 4, 5, 6] rfl ?_
            exact ih x_36 x_37 lefts_21 rights_22 results_23 wide_24 dn_25 order_26 att_27 unitsOf_35 halfFrom_29 halfMany_30 halfDone_31 halfTotal_32 isFar_33 h
          · replace h := h.2 c
            refine x_aload_n G rfl dX3_statement_89 3 rfl ?_
            refine m_get_29 G dX3_statement_90 ?_
            refine x_lload_n G rfl dX3_statement_93 5 rfl ?_
            refine x_lcmp_ne (tgt := 105) G dX3_statement_94 dX3_statement_95 rfl (fun c => ?_) (fun c => ?_)
            · replace h := h.1 c
              refine x_iconst (v := (0 : Int32)) G dX3_statement_105 (by decide) ?_
              refine x_ior G dX3_statement_106 ?_
              refine x_topi (fun x_38 ex_38 => ?_)
              replace h := h x_38 ex_38
              refine x_istore (lv' := [(5, .int x_38), (7, .double r_20), (6, .int v6_4), (0, .ref h0), (1, .int p0), (2, .long p1), (4, .int p2)]) G dX3_statement_107 (by decide) rfl ?_
              obtain ⟨x_39, ex_39⟩ : ∃ z : Int32, z = (v6_4 + (1 : Int32)) := ⟨_, rfl⟩
              replace h := h x_39 ex_39
              refine x_iinc (v := x_39) (lv' := [(6, .int x_39), (5, .int x_38), (7, .double r_20), (0, .ref h0), (1, .int p0), (2, .long p1), (4, .int p2)]) G dX3_statement_109 2 rfl (by rw [ex_39]; rfl) (by decide) rfl ?_
              refine x_goto (tgt := 45) G dX3_statement_112 rfl ?_
              refine x_lv (lv' := [(6, .int x_39), (5, .int x_38), (0, .ref h0), (1, .int p0), (2, .long p1), (4, .int p2)]) [0, 1, 3, 4, 5, 6] rfl ?_
              exact ih x_38 x_39 lefts_21 rights_22 results_23 wide_24 dn_25 order_26 att_27 unitsOf_35 halfFrom_29 halfMany_30 halfDone_31 halfTotal_32 isFar_33 h
            · replace h := h.2 c
              refine x_iconst (v := (1 : Int32)) G dX3_statement_98 (by decide) ?_
              refine x_iload G dX3_statement_99 1 rfl ?_
              refine x_ishl G dX3_statement_101 ?_
              refine x_goto (tgt := 106) G dX3_statement_102 rfl ?_
              refine x_ior G dX3_statement_106 ?_
              refine x_topi (fun x_40 ex_40 => ?_)
              replace h := h x_40 ex_40
              refine x_istore (lv' := [(5, .int x_40), (7, .double r_20), (6, .int v6_4), (0, .ref h0), (1, .int p0), (2, .long p1), (4, .int p2)]) G dX3_statement_107 (by decide) rfl ?_
              obtain ⟨x_41, ex_41⟩ : ∃ z : Int32, z = (v6_4 + (1 : Int32)) := ⟨_, rfl⟩
              replace h := h x_41 ex_41
              refine x_iinc (v := x_41) (lv' := [(6, .int x_41), (5, .int x_40), (7, .double r_20), (0, .ref h0), (1, .int p0), (2, .long p1), (4, .int p2)]) G dX3_statement_109 2 rfl (by rw [ex_41]; rfl) (by decide) rfl ?_
              refine x_goto (tgt := 45) G dX3_statement_112 rfl ?_
              refine x_lv (lv' := [(6, .int x_41), (5, .int x_40), (0, .ref h0), (1, .int p0), (2, .long p1), (4, .int p2)]) [0, 1, 3, 4, 5, 6] rfl ?_
              exact ih x_40 x_41 lefts_21 rights_22 results_23 wide_24 dn_25 order_26 att_27 unitsOf_35 halfFrom_29 halfMany_30 halfDone_31 halfTotal_32 isFar_33 h
set_option maxRecDepth 20000 in
theorem tX3_statement {l : Launch} {D : va_G} {ta : Nat → ClassId} {h0 : Nat} {ad : Nat → Nat} {thrown : Int32} {many : Nat → Int32} {isWide : Nat → Int32} {amountOf : Nat → UInt64} {accountOf : Nat → Int32} {dayOf : Nat → Int32} {given : Nat → Int32} {givenOf : Nat → Int32} {runs : Int32} {runWide : Nat → Int32} {runWay : Nat → Int32} {runTotal : Nat → UInt64} {runSteps : Nat → Int32} {lefts : Nat → UInt64} {rights : Nat → UInt64} {results : Nat → UInt64} {wide : Int32} {dn : Int32} {stepsAt : Int32} {keeps : Int32} {order : Nat → Int32} {att : Nat → UInt64} {spareAmount : Nat → UInt64} {spareAccount : Nat → Int32} {spareDay : Nat → Int32} {cured : Int32} {cureOf : Nat → Int32} {shareOf : Nat → Int32} {big : Nat → Int32} {unitsOf : Int64} {spare : Int32} {halfFrom : Nat → Int32} {halfMany : Nat → Int32} {halfDone : Nat → Int32} {halfTotal : Nat → UInt64} {isFar : Int32} {p0 : Int32} {p1 : Int64} {p2 : Int32} {K : Int32 → Int32 → (Nat → UInt64) → (Nat → UInt64) → (Nat → UInt64) → Int32 → Int32 → (Nat → Int32) → (Nat → UInt64) → Int64 → (Nat → Int32) → (Nat → Int32) → (Nat → Int32) → (Nat → UInt64) → Int32 → Prop} (hlt : l.stackTraces = false) (h : wX3_statement p0 p1 p2 thrown many isWide amountOf accountOf dayOf givenOf lefts rights results wide dn stepsAt keeps order att unitsOf halfFrom halfMany halfDone halfTotal isFar K) : SMi14 l D ta yX3_statement cX3_statement 9 FieldType.int 6 [.ref h0, .int p0, .long p1, .int p2] (mW h0 ad ta thrown many isWide amountOf accountOf dayOf given givenOf runs runWide runWay runTotal runSteps lefts rights results wide dn stepsAt keeps order att spareAmount spareAccount spareDay cured cureOf shareOf big unitsOf spare halfFrom halfMany halfDone halfTotal isFar) (fun (thrown' : Int32) (lefts' : Nat → UInt64) (rights' : Nat → UInt64) (results' : Nat → UInt64) (wide' : Int32) (dn' : Int32) (order' : Nat → Int32) (att' : Nat → UInt64) (unitsOf' : Int64) (halfFrom' : Nat → Int32) (halfMany' : Nat → Int32) (halfDone' : Nat → Int32) (halfTotal' : Nat → UInt64) (isFar' : Int32) => mW h0 ad ta thrown' many isWide amountOf accountOf dayOf given givenOf runs runWide runWay runTotal runSteps lefts' rights' results' wide' dn' stepsAt keeps order' att' spareAmount spareAccount spareDay cured cureOf shareOf big unitsOf' spare halfFrom' halfMany' halfDone' halfTotal' isFar') 0 0 K := by
  refine x_sti14 hlt (plainFor_of_name (by decide +kernel)) (Nat.le_of_ble_eq_true rfl) (fun g G hl hD hT Q => ?_)
  subst hl; subst hD; subst hT
  unfold wX3_statement at h
  show X g 9 0 [(0, .ref h0), (1, .int p0), (2, .long p1), (4, .int p2)] [] (mW h0 ad (xT g) thrown many isWide amountOf accountOf dayOf given givenOf runs runWide runWay runTotal runSteps lefts rights results wide dn stepsAt keeps order att spareAmount spareAccount spareDay cured cureOf shareOf big unitsOf spare halfFrom halfMany halfDone halfTotal isFar) 0 0
  refine x_aload_n G rfl dX3_statement_0 0 rfl ?_
  refine x_iconst (v := (0 : Int32)) G dX3_statement_1 (by decide) ?_
  refine m_put_0 G dX3_statement_2 ?_
  refine x_iload G dX3_statement_5 3 rfl ?_
  refine x_i2l G dX3_statement_7 ?_
  refine x_lconst (v := (0 : Int64)) G dX3_statement_8 (by decide) ?_
  refine x_ldc2 G q1701 dX3_statement_9 ?_
  refine x_cPi (As := [.long p2.toInt64, .long (0 : Int64), .long (6 : Int64)]) (rest := []) G (tX3_in G.noTraces h) (lw_S q1650 q1651 q70 q1652) cdX3_in (by decide) (by decide) rfl (Nat.le_of_ble_eq_true rfl) (Nat.zero_le _) (Nat.zero_le _) dX3_statement_12 (fun r_1 h => ?_)
  refine x_if_ne (tgt := 21) G dX3_statement_15 rfl (fun c => ?_) (fun c => ?_)
  · replace h := h.1 c
    refine x_aload_n G rfl dX3_statement_21 0 rfl ?_
    refine x_aload_n G rfl dX3_statement_22 0 rfl ?_
    refine x_iload_n G rfl dX3_statement_23 1 rfl ?_
    refine x_cVi0 (As := [.int p0]) (rest := [.ref h0]) G [] XSub.rf (tX3_faultOf G.noTraces h) (lw_V q1669 q1671 qs21 q70 q1672) cdX3_faultOf 3 0 rfl rfl rfl (by decide) (by decide) rfl (Nat.le_of_ble_eq_true rfl) (Nat.zero_le _) (Nat.zero_le _) dX3_statement_24 (fun r_2 h => ?_)
    show X g 9 27 [(0, .ref h0), (1, .int p0), (2, .long p1), (4, .int p2)] [.int r_2, .ref h0] (mW h0 ad (xT g) (0 : Int32) many isWide amountOf accountOf dayOf given givenOf runs runWide runWay runTotal runSteps lefts rights results wide dn stepsAt keeps order att spareAmount spareAccount spareDay cured cureOf shareOf big unitsOf spare halfFrom halfMany halfDone halfTotal isFar) 0 0
    refine m_put_0 G dX3_statement_27 ?_
    refine x_aload_n G rfl dX3_statement_30 0 rfl ?_
    refine m_get_0 G dX3_statement_31 ?_
    refine x_if_eq (tgt := 39) G dX3_statement_34 rfl (fun c => ?_) (fun c => ?_)
    · replace h := h.1 c
      refine x_iconst (v := (0 : Int32)) G dX3_statement_39 (by decide) ?_
      refine x_istore (lv' := [(5, .int (0 : Int32)), (0, .ref h0), (1, .int p0), (2, .long p1), (4, .int p2)]) G dX3_statement_40 (by decide) rfl ?_
      refine x_iconst (v := (0 : Int32)) G dX3_statement_42 (by decide) ?_
      refine x_istore (lv' := [(6, .int (0 : Int32)), (5, .int (0 : Int32)), (0, .ref h0), (1, .int p0), (2, .long p1), (4, .int p2)]) G dX3_statement_43 (by decide) rfl ?_
      obtain ⟨n0, h⟩ := h
      refine kX3_statement_L45 G (fun v5_57 v6_58 lefts_59 rights_60 results_61 wide_62 dn_63 order_64 att_65 unitsOf_66 halfFrom_67 halfMany_68 halfDone_69 halfTotal_70 isFar_71 h => ?_) n0 _ _ _ _ _ _ _ _ _ _ _ _ _ _ _ h
      · refine x_iload G dX3_statement_115 1 rfl ?_
        exact x_reti14 G Q dX3_statement_117 rfl r_2 lefts_59 rights_60 results_61 wide_62 dn_63 order_64 att_65 unitsOf_66 halfFrom_67 halfMany_68 halfDone_69 halfTotal_70 isFar_71 h XSub.rf (Nat.le_refl _) (Nat.le_refl _)
    · replace h := h.2 c
      refine x_iconst (v := (0 : Int32)) G dX3_statement_37 (by decide) ?_
      exact x_reti14 G Q dX3_statement_38 rfl r_2 lefts rights results wide dn order att unitsOf halfFrom halfMany halfDone halfTotal isFar h XSub.rf (Nat.le_refl _) (Nat.le_refl _)
  · replace h := h.2 c
    refine x_bipush (v := (-102 : Int32)) G dX3_statement_18 (by decide) ?_
    exact x_reti14 G Q dX3_statement_20 rfl (0 : Int32) lefts rights results wide dn order att unitsOf halfFrom halfMany halfDone halfTotal isFar h XSub.rf (Nat.le_refl _) (Nat.le_refl _)
theorem cdX3_split : yX3_split.cls = RX3 ∧ yX3_split.cls ≠ "java/lang/invoke/MethodHandle" ∧ yX3_split.cls ≠ "java/lang/invoke/VarHandle" ∧ (parseMethodDescriptor yX3_split.desc).map (fun d => d.parameters.length) = some 2 := by decide +kernel
def wX3_split_L61 (many : Nat → Int32) (amountOf : Nat → UInt64) (accountOf : Nat → Int32) (p0 : Int32) (v4_4 : Int32) (X115 : Int32 → (Nat → Int32) → Prop) : Nat → Int32 → (Nat → Int32) → Prop
  | 0, _, _ => False
  | n + 1, v5_7, big_8 => (vp_in p0 12 ∧ (((many p0.toNatClampNeg) ≤ v5_7 → X115 v5_7 big_8) ∧ (¬ (many p0.toNatClampNeg) ≤ v5_7 → (vp_in (((60 : Int32) * p0) + v5_7) 720 ∧ ((¬ (accountOf (((60 : Int32) * p0) + v5_7).toNatClampNeg) = v4_4 → (∀ x_9 : Int32, x_9 = (v5_7 + (1 : Int32)) → wX3_split_L61 many amountOf accountOf p0 v4_4 X115 n x_9 big_8)) ∧ ((accountOf (((60 : Int32) * p0) + v5_7).toNatClampNeg) = v4_4 → (vp_in (((60 : Int32) * p0) + v5_7) 720 ∧ (wX3_addNumber ((4 : Int32) + v4_4) (amountOf (((60 : Int32) * p0) + v5_7).toNatClampNeg) big_8 (fun (big_10 : Nat → Int32) => (∀ x_11 : Int32, x_11 = (v5_7 + (1 : Int32)) → wX3_split_L61 many amountOf accountOf p0 v4_4 X115 n x_11 big_10))))))))))
def wX3_split_L43 (many : Nat → Int32) (amountOf : Nat → UInt64) (accountOf : Nat → Int32) (p0 : Int32) (X142 : Int32 → Int32 → (Nat → Int32) → Prop) : Nat → Int32 → Int32 → (Nat → Int32) → Prop
  | 0, _, _, _ => False
  | n + 1, v3_3, v4_4, big_5 => (((10 : Int32) ≤ v4_4 → X142 v3_3 v4_4 big_5) ∧ (¬ (10 : Int32) ≤ v4_4 → (wX3_clearBig ((4 : Int32) + v4_4) big_5 (fun (big_6 : Nat → Int32) => (∃ m61 : Nat, wX3_split_L61 many amountOf accountOf p0 v4_4 (fun (v5_14 : Int32) (big_15 : Nat → Int32) => ((v3_3 = (0 : Int32) → (∀ x_16 : Int32, x_16 = (v4_4 + (1 : Int32)) → wX3_split_L43 many amountOf accountOf p0 X142 n (0 : Int32) x_16 big_15)) ∧ (¬ v3_3 = (0 : Int32) → (wX3_signOf ((4 : Int32) + v4_4) big_15 (fun (r_17 : Int32) => ((r_17 < (0 : Int32) → (∀ x_18 : Int32, x_18 = (v4_4 + (1 : Int32)) → wX3_split_L43 many amountOf accountOf p0 X142 n (0 : Int32) x_18 big_15)) ∧ (¬ r_17 < (0 : Int32) → (∀ x_19 : Int32, x_19 = (v4_4 + (1 : Int32)) → wX3_split_L43 many amountOf accountOf p0 X142 n (1 : Int32) x_19 big_15)))))))) m61 (0 : Int32) big_6)))))
def wX3_split_L194 (v5_29 : Int32) (X252 : Int32 → Int32 → (Nat → Int32) → Prop) : Nat → Int32 → Int32 → (Nat → Int32) → Prop
  | 0, _, _, _ => False
  | n + 1, v6_34, v7_35, big_36 => (((v7_35 - v6_34) ≤ (1 : Int32) → X252 v6_34 v7_35 big_36) ∧ (¬ (v7_35 - v6_34) ≤ (1 : Int32) → (∀ x_37 : Int32, x_37 = ((v6_34 + v7_35) / (2 : Int32)) → (wX3_copyBig (1 : Int32) (0 : Int32) big_36 (fun (big_38 : Nat → Int32) => (wX3_timesBig (1 : Int32) x_37.toInt64 big_38 (fun (big_39 : Nat → Int32) => (wX3_compareBig (1 : Int32) ((4 : Int32) + v5_29) big_39 (fun (r_40 : Int32) => (((0 : Int32) < r_40 → wX3_split_L194 v5_29 X252 n v6_34 x_37 big_39) ∧ (¬ (0 : Int32) < r_40 → wX3_split_L194 v5_29 X252 n x_37 v7_35 big_39)))))))))))
def wX3_split_L169 (p1 : Int32) (X302 : Int32 → Int32 → (Nat → Int32) → (Nat → Int32) → Prop) : Nat → Int32 → Int32 → (Nat → Int32) → (Nat → Int32) → Prop
  | 0, _, _, _, _ => False
  | n + 1, v4_28, v5_29, shareOf_30, big_31 => (((10 : Int32) ≤ v5_29 → X302 v4_28 v5_29 shareOf_30 big_31) ∧ (¬ (10 : Int32) ≤ v5_29 → (wX3_timesBig ((4 : Int32) + v5_29) p1.toInt64 big_31 (fun (big_32 : Nat → Int32) => (∀ x_33 : Int32, x_33 = (p1 + (1 : Int32)) → (∃ m194 : Nat, wX3_split_L194 v5_29 (fun (v6_44 : Int32) (v7_45 : Int32) (big_46 : Nat → Int32) => (vp_in v5_29 10 ∧ (∀ shareOf_47 : Nat → Int32, shareOf_47 = upd shareOf_30 v5_29.toNatClampNeg v6_44 → (∀ x_48 : Int32, x_48 = (v4_28 - v6_44) → (wX3_copyBig (1 : Int32) (0 : Int32) big_46 (fun (big_49 : Nat → Int32) => (wX3_timesBig (1 : Int32) v6_44.toInt64 big_49 (fun (big_50 : Nat → Int32) => (wX3_negate (1 : Int32) big_50 (fun (big_51 : Nat → Int32) => (wX3_addBig ((4 : Int32) + v5_29) (1 : Int32) big_51 (fun (big_52 : Nat → Int32) => (∀ x_53 : Int32, x_53 = (v5_29 + (1 : Int32)) → wX3_split_L169 p1 X302 n x_48 x_53 shareOf_47 big_52))))))))))))) m194 (0 : Int32) x_33 big_32))))))
def wX3_split_L313 (big_65 : Nat → Int32) (X350 : Int32 → Int32 → Prop) : Nat → Int32 → Int32 → Prop
  | 0, _, _ => False
  | n + 1, v5_66, v6_67 => (((10 : Int32) ≤ v6_67 → X350 v5_66 v6_67) ∧ (¬ (10 : Int32) ≤ v6_67 → (wX3_compareBig ((4 : Int32) + v6_67) ((4 : Int32) + v5_66) big_65 (fun (r_68 : Int32) => ((r_68 ≤ (0 : Int32) → (∀ x_69 : Int32, x_69 = (v6_67 + (1 : Int32)) → wX3_split_L313 big_65 X350 n v5_66 x_69)) ∧ (¬ r_68 ≤ (0 : Int32) → (∀ x_70 : Int32, x_70 = (v6_67 + (1 : Int32)) → wX3_split_L313 big_65 X350 n v6_67 x_70)))))))
def wX3_split_L302 (X375 : Int32 → Int32 → (Nat → Int32) → (Nat → Int32) → Prop) : Nat → Int32 → Int32 → (Nat → Int32) → (Nat → Int32) → Prop
  | 0, _, _, _, _ => False
  | n + 1, v4_62, v5_63, shareOf_64, big_65 => ((v4_62 ≤ (0 : Int32) → X375 v4_62 v5_63 shareOf_64 big_65) ∧ (¬ v4_62 ≤ (0 : Int32) → (∃ m313 : Nat, wX3_split_L313 big_65 (fun (v5_73 : Int32) (v6_74 : Int32) => (vp_in v5_73 10 ∧ (∀ x_75 : Int32, x_75 = ((shareOf_64 v5_73.toNatClampNeg) + (1 : Int32)) → (vp_in v5_73 10 ∧ (∀ shareOf_76 : Nat → Int32, shareOf_76 = upd shareOf_64 v5_73.toNatClampNeg x_75 → (wX3_clearBig ((4 : Int32) + v5_73) big_65 (fun (big_77 : Nat → Int32) => (∀ x_78 : Int32, x_78 = (v4_62 + (-1 : Int32)) → wX3_split_L302 X375 n x_78 v5_73 shareOf_76 big_77)))))))) m313 (0 : Int32) (1 : Int32))))
def wX3_split_L381 (shareOf_85 : Nat → Int32) (X414 : Int32 → Int32 → Prop) : Nat → Int32 → Int32 → Prop
  | 0, _, _ => False
  | n + 1, v5_87, v6_88 => (((10 : Int32) ≤ v6_88 → X414 v5_87 v6_88) ∧ (¬ (10 : Int32) ≤ v6_88 → (vp_in v6_88 10 ∧ (((shareOf_85 v6_88.toNatClampNeg) ≤ (0 : Int32) → (∀ x_89 : Int32, x_89 = (v5_87 + (0 : Int32)) → (∀ x_90 : Int32, x_90 = (v6_88 + (1 : Int32)) → wX3_split_L381 shareOf_85 X414 n x_89 x_90))) ∧ (¬ (shareOf_85 v6_88.toNatClampNeg) ≤ (0 : Int32) → (∀ x_91 : Int32, x_91 = (v5_87 + (1 : Int32)) → (∀ x_92 : Int32, x_92 = (v6_88 + (1 : Int32)) → wX3_split_L381 shareOf_85 X414 n x_91 x_92)))))))
def wX3_split (p0 : Int32) (p1 : Int32) (thrown : Int32) (many : Nat → Int32) (amountOf : Nat → UInt64) (accountOf : Nat → Int32) (shareOf : Nat → Int32) (big : Nat → Int32) (K : Int32 → Int32 → (Nat → Int32) → (Nat → Int32) → Prop) : Prop := (wX3_in p1.toInt64 (0 : Int64) (1000000 : Int64) (fun (r_1 : Int32) => ((¬ r_1 = (0 : Int32) → (wX3_faultOf p0 many (fun (r_2 : Int32) => ((r_2 = (0 : Int32) → (∃ m43 : Nat, wX3_split_L43 many amountOf accountOf p0 (fun (v3_23 : Int32) (v4_24 : Int32) (big_25 : Nat → Int32) => (wX3_sumLedger (0 : Int32) p0 many amountOf big_25 (fun (big_26 : Nat → Int32) => ((v3_23 = (0 : Int32) → K (-104 : Int32) r_2 shareOf big_26) ∧ (¬ v3_23 = (0 : Int32) → (wX3_signOf (0 : Int32) big_26 (fun (r_27 : Int32) => ((¬ r_27 = (0 : Int32) → (∃ m169 : Nat, wX3_split_L169 p1 (fun (v4_58 : Int32) (v5_59 : Int32) (shareOf_60 : Nat → Int32) (big_61 : Nat → Int32) => (∃ m302 : Nat, wX3_split_L302 (fun (v4_83 : Int32) (v5_84 : Int32) (shareOf_85 : Nat → Int32) (big_86 : Nat → Int32) => (∃ m381 : Nat, wX3_split_L381 shareOf_85 (fun (v5_95 : Int32) (v6_96 : Int32) => K v5_95 r_2 shareOf_85 big_86) m381 (0 : Int32) (0 : Int32))) m302 v4_58 v5_59 shareOf_60 big_61)) m169 p1 (0 : Int32) shareOf big_26)) ∧ (r_27 = (0 : Int32) → K (-104 : Int32) r_2 shareOf big_26))))))))) m43 (1 : Int32) (0 : Int32) big)) ∧ (¬ r_2 = (0 : Int32) → K (0 : Int32) r_2 shareOf big))))) ∧ (r_1 = (0 : Int32) → K (-102 : Int32) (0 : Int32) shareOf big))))
set_option maxRecDepth 20000 in
theorem kX3_split_L61 {g : XG} {h0 : Nat} {ad : Nat → Nat} {many : Nat → Int32} {isWide : Nat → Int32} {amountOf : Nat → UInt64} {accountOf : Nat → Int32} {dayOf : Nat → Int32} {given : Nat → Int32} {givenOf : Nat → Int32} {runs : Int32} {runWide : Nat → Int32} {runWay : Nat → Int32} {runTotal : Nat → UInt64} {runSteps : Nat → Int32} {lefts : Nat → UInt64} {rights : Nat → UInt64} {results : Nat → UInt64} {wide : Int32} {dn : Int32} {stepsAt : Int32} {keeps : Int32} {order : Nat → Int32} {att : Nat → UInt64} {spareAmount : Nat → UInt64} {spareAccount : Nat → Int32} {spareDay : Nat → Int32} {cured : Int32} {cureOf : Nat → Int32} {shareOf : Nat → Int32} {unitsOf : Int64} {spare : Int32} {halfFrom : Nat → Int32} {halfMany : Nat → Int32} {halfDone : Nat → Int32} {halfTotal : Nat → UInt64} {isFar : Int32} {p0 : Int32} {p1 : Int32} {r_2 : Int32} {v3_3 : Int32} {v4_4 : Int32} {X115 : Int32 → (Nat → Int32) → Prop} (G : XO g RX3 cX3_split 9 6 0 0) (hX115 : ∀ (v5_12 : Int32) (big_13 : Nat → Int32), X115 v5_12 big_13 → X g 9 115 [(5, .int v5_12), (4, .int v4_4), (3, .int v3_3), (0, .ref h0), (1, .int p0), (2, .int p1)] [] (mW h0 ad (xT g) r_2 many isWide amountOf accountOf dayOf given givenOf runs runWide runWay runTotal runSteps lefts rights results wide dn stepsAt keeps order att spareAmount spareAccount spareDay cured cureOf shareOf big_13 unitsOf spare halfFrom halfMany halfDone halfTotal isFar) 0 0) : ∀ (n : Nat) (v5_7 : Int32) (big_8 : Nat → Int32), wX3_split_L61 many amountOf accountOf p0 v4_4 X115 n v5_7 big_8 → X g 9 61 [(5, .int v5_7), (4, .int v4_4), (3, .int v3_3), (0, .ref h0), (1, .int p0), (2, .int p1)] [] (mW h0 ad (xT g) r_2 many isWide amountOf accountOf dayOf given givenOf runs runWide runWay runTotal runSteps lefts rights results wide dn stepsAt keeps order att spareAmount spareAccount spareDay cured cureOf shareOf big_8 unitsOf spare halfFrom halfMany halfDone halfTotal isFar) 0 0 := by
  intro n
  induction n with
  | zero => intro _ _ h; exact h.elim
  | succ n ih =>
    intro v5_7 big_8 h
    unfold wX3_split_L61 at h
    refine x_iload G dX3_split_61 0 rfl ?_
    refine x_aload_n G rfl dX3_split_63 3 rfl ?_
    refine m_get_1 G dX3_split_64 ?_
    refine x_iload_n G rfl dX3_split_67 4 rfl ?_
    obtain ⟨hz, h⟩ := h
    refine m_ald_1 G hz dX3_split_68 ?_
    refine x_icmp_ge (tgt := 115) G dX3_split_69 rfl (fun c => ?_) (fun c => ?_)
    · replace h := h.1 c
      exact hX115 v5_7 big_8 h
    · replace h := h.2 c
      refine x_aload_n G rfl dX3_split_72 3 rfl ?_
      refine m_get_4 G dX3_split_73 ?_
      refine x_bipush (v := (60 : Int32)) G dX3_split_76 (by decide) ?_
      refine x_iload_n G rfl dX3_split_78 4 rfl ?_
      refine x_imul G dX3_split_79 ?_
      refine x_iload G dX3_split_80 0 rfl ?_
      refine x_iadd G dX3_split_82 ?_
      obtain ⟨hz, h⟩ := h
      refine m_ald_4 G hz dX3_split_83 ?_
      refine x_iload G dX3_split_84 1 rfl ?_
      refine x_icmp_ne (tgt := 109) G dX3_split_86 rfl (fun c => ?_) (fun c => ?_)
      · replace h := h.1 c
        obtain ⟨x_9, ex_9⟩ : ∃ z : Int32, z = (v5_7 + (1 : Int32)) := ⟨_, rfl⟩
        replace h := h x_9 ex_9
        refine x_iinc (v := x_9) (lv' := [(5, .int x_9), (4, .int v4_4), (3, .int v3_3), (0, .ref h0), (1, .int p0), (2, .int p1)]) G dX3_split_109 0 rfl (by rw [ex_9]; rfl) (by decide) rfl ?_
        refine x_goto (tgt := 61) G dX3_split_112 rfl ?_
        exact ih x_9 big_8 h
      · replace h := h.2 c
        refine x_aload_n G rfl dX3_split_89 3 rfl ?_
        refine x_iconst (v := (4 : Int32)) G dX3_split_90 (by decide) ?_
        refine x_iload G dX3_split_91 1 rfl ?_
        refine x_iadd G dX3_split_93 ?_
        refine x_aload_n G rfl dX3_split_94 3 rfl ?_
        refine m_get_3 G dX3_split_95 ?_
        refine x_bipush (v := (60 : Int32)) G dX3_split_98 (by decide) ?_
        refine x_iload_n G rfl dX3_split_100 4 rfl ?_
        refine x_imul G dX3_split_101 ?_
        refine x_iload G dX3_split_102 0 rfl ?_
        refine x_iadd G dX3_split_104 ?_
        obtain ⟨hz, h⟩ := h
        refine m_ald_3 G hz dX3_split_105 ?_
        refine x_cVv1 (As := [.int ((4 : Int32) + v4_4), .double (amountOf (((60 : Int32) * p0) + v5_7).toNatClampNeg)]) (rest := []) G [] XSub.rf (tX3_addNumber G.noTraces h) (lw_V q1893 q1895 qs46 q70 q1896) cdX3_addNumber 3 0 rfl rfl rfl (by decide) (by decide) rfl (Nat.le_of_ble_eq_true rfl) (Nat.zero_le _) (Nat.zero_le _) dX3_split_106 (fun big_10 h => ?_)
        show X g 9 109 [(5, .int v5_7), (4, .int v4_4), (3, .int v3_3), (0, .ref h0), (1, .int p0), (2, .int p1)] [] (mW h0 ad (xT g) r_2 many isWide amountOf accountOf dayOf given givenOf runs runWide runWay runTotal runSteps lefts rights results wide dn stepsAt keeps order att spareAmount spareAccount spareDay cured cureOf shareOf big_10 unitsOf spare halfFrom halfMany halfDone halfTotal isFar) 0 0
        obtain ⟨x_11, ex_11⟩ : ∃ z : Int32, z = (v5_7 + (1 : Int32)) := ⟨_, rfl⟩
        replace h := h x_11 ex_11
        refine x_iinc (v := x_11) (lv' := [(5, .int x_11), (4, .int v4_4), (3, .int v3_3), (0, .ref h0), (1, .int p0), (2, .int p1)]) G dX3_split_109 0 rfl (by rw [ex_11]; rfl) (by decide) rfl ?_
        refine x_goto (tgt := 61) G dX3_split_112 rfl ?_
        exact ih x_11 big_10 h
set_option maxRecDepth 20000 in
theorem kX3_split_L43 {g : XG} {h0 : Nat} {ad : Nat → Nat} {many : Nat → Int32} {isWide : Nat → Int32} {amountOf : Nat → UInt64} {accountOf : Nat → Int32} {dayOf : Nat → Int32} {given : Nat → Int32} {givenOf : Nat → Int32} {runs : Int32} {runWide : Nat → Int32} {runWay : Nat → Int32} {runTotal : Nat → UInt64} {runSteps : Nat → Int32} {lefts : Nat → UInt64} {rights : Nat → UInt64} {results : Nat → UInt64} {wide : Int32} {dn : Int32} {stepsAt : Int32} {keeps : Int32} {order : Nat → Int32} {att : Nat → UInt64} {spareAmount : Nat → UInt64} {spareAccount : Nat → Int32} {spareDay : Nat → Int32} {cured : Int32} {cureOf : Nat → Int32} {shareOf : Nat → Int32} {unitsOf : Int64} {spare : Int32} {halfFrom : Nat → Int32} {halfMany : Nat → Int32} {halfDone : Nat → Int32} {halfTotal : Nat → UInt64} {isFar : Int32} {p0 : Int32} {p1 : Int32} {r_2 : Int32} {X142 : Int32 → Int32 → (Nat → Int32) → Prop} (G : XO g RX3 cX3_split 9 6 0 0) (hX142 : ∀ (v3_20 : Int32) (v4_21 : Int32) (big_22 : Nat → Int32), X142 v3_20 v4_21 big_22 → X g 9 142 [(4, .int v4_21), (3, .int v3_20), (0, .ref h0), (1, .int p0), (2, .int p1)] [] (mW h0 ad (xT g) r_2 many isWide amountOf accountOf dayOf given givenOf runs runWide runWay runTotal runSteps lefts rights results wide dn stepsAt keeps order att spareAmount spareAccount spareDay cured cureOf shareOf big_22 unitsOf spare halfFrom halfMany halfDone halfTotal isFar) 0 0) : ∀ (n : Nat) (v3_3 : Int32) (v4_4 : Int32) (big_5 : Nat → Int32), wX3_split_L43 many amountOf accountOf p0 X142 n v3_3 v4_4 big_5 → X g 9 43 [(4, .int v4_4), (3, .int v3_3), (0, .ref h0), (1, .int p0), (2, .int p1)] [] (mW h0 ad (xT g) r_2 many isWide amountOf accountOf dayOf given givenOf runs runWide runWay runTotal runSteps lefts rights results wide dn stepsAt keeps order att spareAmount spareAccount spareDay cured cureOf shareOf big_5 unitsOf spare halfFrom halfMany halfDone halfTotal isFar) 0 0 := by
  intro n
  induction n with
  | zero => intro _ _ _ h; exact h.elim
  | succ n ih =>
    intro v3_3 v4_4 big_5 h
    unfold wX3_split_L43 at h
    refine x_iload G dX3_split_43 0 rfl ?_
    refine x_bipush (v := (10 : Int32)) G dX3_split_45 (by decide) ?_
    refine x_icmp_ge (tgt := 142) G dX3_split_47 rfl (fun c => ?_) (fun c => ?_)
    · replace h := h.1 c
      exact hX142 v3_3 v4_4 big_5 h
    · replace h := h.2 c
      refine x_aload_n G rfl dX3_split_50 2 rfl ?_
      refine x_iconst (v := (4 : Int32)) G dX3_split_51 (by decide) ?_
      refine x_iload G dX3_split_52 0 rfl ?_
      refine x_iadd G dX3_split_54 ?_
      refine x_cVv1 (As := [.int ((4 : Int32) + v4_4)]) (rest := []) G [] XSub.rf (tX3_clearBig G.noTraces h) (lw_V q1889 q1891 qs45 q70 q1892) cdX3_clearBig 3 0 rfl rfl rfl (by decide) (by decide) rfl (Nat.le_of_ble_eq_true rfl) (Nat.zero_le _) (Nat.zero_le _) dX3_split_55 (fun big_6 h => ?_)
      show X g 9 58 [(4, .int v4_4), (3, .int v3_3), (0, .ref h0), (1, .int p0), (2, .int p1)] [] (mW h0 ad (xT g) r_2 many isWide amountOf accountOf dayOf given givenOf runs runWide runWay runTotal runSteps lefts rights results wide dn stepsAt keeps order att spareAmount spareAccount spareDay cured cureOf shareOf big_6 unitsOf spare halfFrom halfMany halfDone halfTotal isFar) 0 0
      refine x_iconst (v := (0 : Int32)) G dX3_split_58 (by decide) ?_
      refine x_istore (lv' := [(5, .int (0 : Int32)), (4, .int v4_4), (3, .int v3_3), (0, .ref h0), (1, .int p0), (2, .int p1)]) G dX3_split_59 (by decide) rfl ?_
      obtain ⟨n0, h⟩ := h
      refine kX3_split_L61 G (fun v5_14 big_15 h => ?_) n0 _ _ h
      · refine x_iload_n G rfl dX3_split_115 2 rfl ?_
        refine x_if_eq (tgt := 134) G dX3_split_116 rfl (fun c => ?_) (fun c => ?_)
        · replace h := h.1 c
          refine x_iconst (v := (0 : Int32)) G dX3_split_134 (by decide) ?_
          refine x_istore_n (lv' := [(3, .int (0 : Int32)), (5, .int v5_14), (4, .int v4_4), (0, .ref h0), (1, .int p0), (2, .int p1)]) G rfl dX3_split_135 (by decide) rfl ?_
          obtain ⟨x_16, ex_16⟩ : ∃ z : Int32, z = (v4_4 + (1 : Int32)) := ⟨_, rfl⟩
          replace h := h x_16 ex_16
          refine x_iinc (v := x_16) (lv' := [(4, .int x_16), (3, .int (0 : Int32)), (5, .int v5_14), (0, .ref h0), (1, .int p0), (2, .int p1)]) G dX3_split_136 2 rfl (by rw [ex_16]; rfl) (by decide) rfl ?_
          refine x_goto (tgt := 43) G dX3_split_139 rfl ?_
          refine x_lv (lv' := [(4, .int x_16), (3, .int (0 : Int32)), (0, .ref h0), (1, .int p0), (2, .int p1)]) [0, 1, 3, 4, 5] rfl ?_
          exact ih (0 : Int32) x_16 big_15 h
        · replace h := h.2 c
          refine x_aload_n G rfl dX3_split_119 3 rfl ?_
          refine x_iconst (v := (4 : Int32)) G dX3_split_120 (by decide) ?_
          refine x_iload G dX3_split_121 1 rfl ?_
          refine x_iadd G dX3_split_123 ?_
          refine x_cVi0 (As := [.int ((4 : Int32) + v4_4)]) (rest := []) G [] XSub.rf (tX3_signOf G.noTraces h) (lw_V q1914 q1916 qs51 q70 q1917) cdX3_signOf 3 0 rfl rfl rfl (by decide) (by decide) rfl (Nat.le_of_ble_eq_true rfl) (Nat.zero_le _) (Nat.zero_le _) dX3_split_124 (fun r_17 h => ?_)
          show X g 9 127 [(5, .int v5_14), (4, .int v4_4), (3, .int v3_3), (0, .ref h0), (1, .int p0), (2, .int p1)] [.int r_17] (mW h0 ad (xT g) r_2 many isWide amountOf accountOf dayOf given givenOf runs runWide runWay runTotal runSteps lefts rights results wide dn stepsAt keeps order att spareAmount spareAccount spareDay cured cureOf shareOf big_15 unitsOf spare halfFrom halfMany halfDone halfTotal isFar) 0 0
          refine x_if_lt (tgt := 134) G dX3_split_127 rfl (fun c => ?_) (fun c => ?_)
          · replace h := h.1 c
            refine x_iconst (v := (0 : Int32)) G dX3_split_134 (by decide) ?_
            refine x_istore_n (lv' := [(3, .int (0 : Int32)), (5, .int v5_14), (4, .int v4_4), (0, .ref h0), (1, .int p0), (2, .int p1)]) G rfl dX3_split_135 (by decide) rfl ?_
            obtain ⟨x_18, ex_18⟩ : ∃ z : Int32, z = (v4_4 + (1 : Int32)) := ⟨_, rfl⟩
            replace h := h x_18 ex_18
            refine x_iinc (v := x_18) (lv' := [(4, .int x_18), (3, .int (0 : Int32)), (5, .int v5_14), (0, .ref h0), (1, .int p0), (2, .int p1)]) G dX3_split_136 2 rfl (by rw [ex_18]; rfl) (by decide) rfl ?_
            refine x_goto (tgt := 43) G dX3_split_139 rfl ?_
            refine x_lv (lv' := [(4, .int x_18), (3, .int (0 : Int32)), (0, .ref h0), (1, .int p0), (2, .int p1)]) [0, 1, 3, 4, 5] rfl ?_
            exact ih (0 : Int32) x_18 big_15 h
          · replace h := h.2 c
            refine x_iconst (v := (1 : Int32)) G dX3_split_130 (by decide) ?_
            refine x_goto (tgt := 135) G dX3_split_131 rfl ?_
            refine x_istore_n (lv' := [(3, .int (1 : Int32)), (5, .int v5_14), (4, .int v4_4), (0, .ref h0), (1, .int p0), (2, .int p1)]) G rfl dX3_split_135 (by decide) rfl ?_
            obtain ⟨x_19, ex_19⟩ : ∃ z : Int32, z = (v4_4 + (1 : Int32)) := ⟨_, rfl⟩
            replace h := h x_19 ex_19
            refine x_iinc (v := x_19) (lv' := [(4, .int x_19), (3, .int (1 : Int32)), (5, .int v5_14), (0, .ref h0), (1, .int p0), (2, .int p1)]) G dX3_split_136 2 rfl (by rw [ex_19]; rfl) (by decide) rfl ?_
            refine x_goto (tgt := 43) G dX3_split_139 rfl ?_
            refine x_lv (lv' := [(4, .int x_19), (3, .int (1 : Int32)), (0, .ref h0), (1, .int p0), (2, .int p1)]) [0, 1, 3, 4, 5] rfl ?_
            exact ih (1 : Int32) x_19 big_15 h
set_option maxRecDepth 20000 in
theorem kX3_split_L194 {g : XG} {h0 : Nat} {ad : Nat → Nat} {many : Nat → Int32} {isWide : Nat → Int32} {amountOf : Nat → UInt64} {accountOf : Nat → Int32} {dayOf : Nat → Int32} {given : Nat → Int32} {givenOf : Nat → Int32} {runs : Int32} {runWide : Nat → Int32} {runWay : Nat → Int32} {runTotal : Nat → UInt64} {runSteps : Nat → Int32} {lefts : Nat → UInt64} {rights : Nat → UInt64} {results : Nat → UInt64} {wide : Int32} {dn : Int32} {stepsAt : Int32} {keeps : Int32} {order : Nat → Int32} {att : Nat → UInt64} {spareAmount : Nat → UInt64} {spareAccount : Nat → Int32} {spareDay : Nat → Int32} {cured : Int32} {cureOf : Nat → Int32} {unitsOf : Int64} {spare : Int32} {halfFrom : Nat → Int32} {halfMany : Nat → Int32} {halfDone : Nat → Int32} {halfTotal : Nat → UInt64} {isFar : Int32} {p0 : Int32} {p1 : Int32} {r_2 : Int32} {v3_23 : Int32} {v4_28 : Int32} {v5_29 : Int32} {shareOf_30 : Nat → Int32} {X252 : Int32 → Int32 → (Nat → Int32) → Prop} (G : XO g RX3 cX3_split 9 6 0 0) (hX252 : ∀ (v6_41 : Int32) (v7_42 : Int32) (big_43 : Nat → Int32), X252 v6_41 v7_42 big_43 → X g 9 252 [(7, .int v7_42), (6, .int v6_41), (5, .int v5_29), (4, .int v4_28), (3, .int v3_23), (0, .ref h0), (1, .int p0), (2, .int p1)] [] (mW h0 ad (xT g) r_2 many isWide amountOf accountOf dayOf given givenOf runs runWide runWay runTotal runSteps lefts rights results wide dn stepsAt keeps order att spareAmount spareAccount spareDay cured cureOf shareOf_30 big_43 unitsOf spare halfFrom halfMany halfDone halfTotal isFar) 0 0) : ∀ (n : Nat) (v6_34 : Int32) (v7_35 : Int32) (big_36 : Nat → Int32), wX3_split_L194 v5_29 X252 n v6_34 v7_35 big_36 → X g 9 194 [(7, .int v7_35), (6, .int v6_34), (5, .int v5_29), (4, .int v4_28), (3, .int v3_23), (0, .ref h0), (1, .int p0), (2, .int p1)] [] (mW h0 ad (xT g) r_2 many isWide amountOf accountOf dayOf given givenOf runs runWide runWay runTotal runSteps lefts rights results wide dn stepsAt keeps order att spareAmount spareAccount spareDay cured cureOf shareOf_30 big_36 unitsOf spare halfFrom halfMany halfDone halfTotal isFar) 0 0 := by
  intro n
  induction n with
  | zero => intro _ _ _ h; exact h.elim
  | succ n ih =>
    intro v6_34 v7_35 big_36 h
    unfold wX3_split_L194 at h
    refine x_iload G dX3_split_194 0 rfl ?_
    refine x_iload G dX3_split_196 1 rfl ?_
    refine x_isub G dX3_split_198 ?_
    refine x_iconst (v := (1 : Int32)) G dX3_split_199 (by decide) ?_
    refine x_icmp_le (tgt := 252) G dX3_split_200 rfl (fun c => ?_) (fun c => ?_)
    · replace h := h.1 c
      exact hX252 v6_34 v7_35 big_36 h
    · replace h := h.2 c
      refine x_iload G dX3_split_203 1 rfl ?_
      refine x_iload G dX3_split_205 0 rfl ?_
      refine x_iadd G dX3_split_207 ?_
      refine x_iconst (v := (2 : Int32)) G dX3_split_208 (by decide) ?_
      refine x_idiv G dX3_split_209 (by decide) ?_
      refine x_topi (fun x_37 ex_37 => ?_)
      replace h := h x_37 ex_37
      refine x_istore (lv' := [(8, .int x_37), (7, .int v7_35), (6, .int v6_34), (5, .int v5_29), (4, .int v4_28), (3, .int v3_23), (0, .ref h0), (1, .int p0), (2, .int p1)]) G dX3_split_210 (by decide) rfl ?_
      refine x_aload_n G rfl dX3_split_212 6 rfl ?_
      refine x_iconst (v := (1 : Int32)) G dX3_split_213 (by decide) ?_
      refine x_iconst (v := (0 : Int32)) G dX3_split_214 (by decide) ?_
      refine x_cVv1 (As := [.int (1 : Int32), .int (0 : Int32)]) (rest := []) G [] XSub.rf (tX3_copyBig G.noTraces h) (lw_V q1918 q1920 qs52 q70 q1921) cdX3_copyBig 3 0 rfl rfl rfl (by decide) (by decide) rfl (Nat.le_of_ble_eq_true rfl) (Nat.zero_le _) (Nat.zero_le _) dX3_split_215 (fun big_38 h => ?_)
      show X g 9 218 [(8, .int x_37), (7, .int v7_35), (6, .int v6_34), (5, .int v5_29), (4, .int v4_28), (3, .int v3_23), (0, .ref h0), (1, .int p0), (2, .int p1)] [] (mW h0 ad (xT g) r_2 many isWide amountOf accountOf dayOf given givenOf runs runWide runWay runTotal runSteps lefts rights results wide dn stepsAt keeps order att spareAmount spareAccount spareDay cured cureOf shareOf_30 big_38 unitsOf spare halfFrom halfMany halfDone halfTotal isFar) 0 0
      refine x_aload_n G rfl dX3_split_218 6 rfl ?_
      refine x_iconst (v := (1 : Int32)) G dX3_split_219 (by decide) ?_
      refine x_iload G dX3_split_220 0 rfl ?_
      refine x_i2l G dX3_split_222 ?_
      refine x_cVv1 (As := [.int (1 : Int32), .long x_37.toInt64]) (rest := []) G [] XSub.rf (tX3_timesBig G.noTraces h) (lw_V q1952 q1954 qs56 q70 q1955) cdX3_timesBig 3 0 rfl rfl rfl (by decide) (by decide) rfl (Nat.le_of_ble_eq_true rfl) (Nat.zero_le _) (Nat.zero_le _) dX3_split_223 (fun big_39 h => ?_)
      show X g 9 226 [(8, .int x_37), (7, .int v7_35), (6, .int v6_34), (5, .int v5_29), (4, .int v4_28), (3, .int v3_23), (0, .ref h0), (1, .int p0), (2, .int p1)] [] (mW h0 ad (xT g) r_2 many isWide amountOf accountOf dayOf given givenOf runs runWide runWay runTotal runSteps lefts rights results wide dn stepsAt keeps order att spareAmount spareAccount spareDay cured cureOf shareOf_30 big_39 unitsOf spare halfFrom halfMany halfDone halfTotal isFar) 0 0
      refine x_aload_n G rfl dX3_split_226 6 rfl ?_
      refine x_iconst (v := (1 : Int32)) G dX3_split_227 (by decide) ?_
      refine x_iconst (v := (4 : Int32)) G dX3_split_228 (by decide) ?_
      refine x_iload G dX3_split_229 3 rfl ?_
      refine x_iadd G dX3_split_231 ?_
      refine x_cVi0 (As := [.int (1 : Int32), .int ((4 : Int32) + v5_29)]) (rest := []) G [] XSub.rf (tX3_compareBig G.noTraces h) (lw_V q1939 q1941 qs54 q70 q1942) cdX3_compareBig 3 0 rfl rfl rfl (by decide) (by decide) rfl (Nat.le_of_ble_eq_true rfl) (Nat.zero_le _) (Nat.zero_le _) dX3_split_232 (fun r_40 h => ?_)
      show X g 9 235 [(8, .int x_37), (7, .int v7_35), (6, .int v6_34), (5, .int v5_29), (4, .int v4_28), (3, .int v3_23), (0, .ref h0), (1, .int p0), (2, .int p1)] [.int r_40] (mW h0 ad (xT g) r_2 many isWide amountOf accountOf dayOf given givenOf runs runWide runWay runTotal runSteps lefts rights results wide dn stepsAt keeps order att spareAmount spareAccount spareDay cured cureOf shareOf_30 big_39 unitsOf spare halfFrom halfMany halfDone halfTotal isFar) 0 0
      refine x_if_gt (tgt := 245) G dX3_split_235 rfl (fun c => ?_) (fun c => ?_)
      · replace h := h.1 c
        refine x_iload G dX3_split_245 0 rfl ?_
        refine x_istore (lv' := [(7, .int x_37), (8, .int x_37), (6, .int v6_34), (5, .int v5_29), (4, .int v4_28), (3, .int v3_23), (0, .ref h0), (1, .int p0), (2, .int p1)]) G dX3_split_247 (by decide) rfl ?_
        refine x_goto (tgt := 194) G dX3_split_249 rfl ?_
        refine x_lv (lv' := [(7, .int x_37), (6, .int v6_34), (5, .int v5_29), (4, .int v4_28), (3, .int v3_23), (0, .ref h0), (1, .int p0), (2, .int p1)]) [0, 2, 3, 4, 5, 6, 7, 8] rfl ?_
        exact ih v6_34 x_37 big_39 h
      · replace h := h.2 c
        refine x_iload G dX3_split_238 0 rfl ?_
        refine x_istore (lv' := [(6, .int x_37), (8, .int x_37), (7, .int v7_35), (5, .int v5_29), (4, .int v4_28), (3, .int v3_23), (0, .ref h0), (1, .int p0), (2, .int p1)]) G dX3_split_240 (by decide) rfl ?_
        refine x_goto (tgt := 249) G dX3_split_242 rfl ?_
        refine x_goto (tgt := 194) G dX3_split_249 rfl ?_
        refine x_lv (lv' := [(7, .int v7_35), (6, .int x_37), (5, .int v5_29), (4, .int v4_28), (3, .int v3_23), (0, .ref h0), (1, .int p0), (2, .int p1)]) [2, 0, 3, 4, 5, 6, 7, 8] rfl ?_
        exact ih x_37 v7_35 big_39 h
set_option maxRecDepth 20000 in
theorem kX3_split_L169 {g : XG} {h0 : Nat} {ad : Nat → Nat} {many : Nat → Int32} {isWide : Nat → Int32} {amountOf : Nat → UInt64} {accountOf : Nat → Int32} {dayOf : Nat → Int32} {given : Nat → Int32} {givenOf : Nat → Int32} {runs : Int32} {runWide : Nat → Int32} {runWay : Nat → Int32} {runTotal : Nat → UInt64} {runSteps : Nat → Int32} {lefts : Nat → UInt64} {rights : Nat → UInt64} {results : Nat → UInt64} {wide : Int32} {dn : Int32} {stepsAt : Int32} {keeps : Int32} {order : Nat → Int32} {att : Nat → UInt64} {spareAmount : Nat → UInt64} {spareAccount : Nat → Int32} {spareDay : Nat → Int32} {cured : Int32} {cureOf : Nat → Int32} {unitsOf : Int64} {spare : Int32} {halfFrom : Nat → Int32} {halfMany : Nat → Int32} {halfDone : Nat → Int32} {halfTotal : Nat → UInt64} {isFar : Int32} {p0 : Int32} {p1 : Int32} {r_2 : Int32} {v3_23 : Int32} {X302 : Int32 → Int32 → (Nat → Int32) → (Nat → Int32) → Prop} (G : XO g RX3 cX3_split 9 6 0 0) (hX302 : ∀ (v4_54 : Int32) (v5_55 : Int32) (shareOf_56 : Nat → Int32) (big_57 : Nat → Int32), X302 v4_54 v5_55 shareOf_56 big_57 → X g 9 302 [(5, .int v5_55), (4, .int v4_54), (3, .int v3_23), (0, .ref h0), (1, .int p0), (2, .int p1)] [] (mW h0 ad (xT g) r_2 many isWide amountOf accountOf dayOf given givenOf runs runWide runWay runTotal runSteps lefts rights results wide dn stepsAt keeps order att spareAmount spareAccount spareDay cured cureOf shareOf_56 big_57 unitsOf spare halfFrom halfMany halfDone halfTotal isFar) 0 0) : ∀ (n : Nat) (v4_28 : Int32) (v5_29 : Int32) (shareOf_30 : Nat → Int32) (big_31 : Nat → Int32), wX3_split_L169 p1 X302 n v4_28 v5_29 shareOf_30 big_31 → X g 9 169 [(5, .int v5_29), (4, .int v4_28), (3, .int v3_23), (0, .ref h0), (1, .int p0), (2, .int p1)] [] (mW h0 ad (xT g) r_2 many isWide amountOf accountOf dayOf given givenOf runs runWide runWay runTotal runSteps lefts rights results wide dn stepsAt keeps order att spareAmount spareAccount spareDay cured cureOf shareOf_30 big_31 unitsOf spare halfFrom halfMany halfDone halfTotal isFar) 0 0 := by
  intro n
  induction n with
  | zero => intro _ _ _ _ h; exact h.elim
  | succ n ih =>
    intro v4_28 v5_29 shareOf_30 big_31 h
    unfold wX3_split_L169 at h
    refine x_iload G dX3_split_169 0 rfl ?_
    refine x_bipush (v := (10 : Int32)) G dX3_split_171 (by decide) ?_
    refine x_icmp_ge (tgt := 302) G dX3_split_173 rfl (fun c => ?_) (fun c => ?_)
    · replace h := h.1 c
      exact hX302 v4_28 v5_29 shareOf_30 big_31 h
    · replace h := h.2 c
      refine x_aload_n G rfl dX3_split_176 3 rfl ?_
      refine x_iconst (v := (4 : Int32)) G dX3_split_177 (by decide) ?_
      refine x_iload G dX3_split_178 0 rfl ?_
      refine x_iadd G dX3_split_180 ?_
      refine x_iload_n G rfl dX3_split_181 5 rfl ?_
      refine x_i2l G dX3_split_182 ?_
      refine x_cVv1 (As := [.int ((4 : Int32) + v5_29), .long p1.toInt64]) (rest := []) G [] XSub.rf (tX3_timesBig G.noTraces h) (lw_V q1952 q1954 qs56 q70 q1955) cdX3_timesBig 3 0 rfl rfl rfl (by decide) (by decide) rfl (Nat.le_of_ble_eq_true rfl) (Nat.zero_le _) (Nat.zero_le _) dX3_split_183 (fun big_32 h => ?_)
      show X g 9 186 [(5, .int v5_29), (4, .int v4_28), (3, .int v3_23), (0, .ref h0), (1, .int p0), (2, .int p1)] [] (mW h0 ad (xT g) r_2 many isWide amountOf accountOf dayOf given givenOf runs runWide runWay runTotal runSteps lefts rights results wide dn stepsAt keeps order att spareAmount spareAccount spareDay cured cureOf shareOf_30 big_32 unitsOf spare halfFrom halfMany halfDone halfTotal isFar) 0 0
      refine x_iconst (v := (0 : Int32)) G dX3_split_186 (by decide) ?_
      refine x_istore (lv' := [(6, .int (0 : Int32)), (5, .int v5_29), (4, .int v4_28), (3, .int v3_23), (0, .ref h0), (1, .int p0), (2, .int p1)]) G dX3_split_187 (by decide) rfl ?_
      refine x_iload_n G rfl dX3_split_189 6 rfl ?_
      refine x_iconst (v := (1 : Int32)) G dX3_split_190 (by decide) ?_
      refine x_iadd G dX3_split_191 ?_
      refine x_topi (fun x_33 ex_33 => ?_)
      replace h := h x_33 ex_33
      refine x_istore (lv' := [(7, .int x_33), (6, .int (0 : Int32)), (5, .int v5_29), (4, .int v4_28), (3, .int v3_23), (0, .ref h0), (1, .int p0), (2, .int p1)]) G dX3_split_192 (by decide) rfl ?_
      obtain ⟨n0, h⟩ := h
      refine kX3_split_L194 G (fun v6_44 v7_45 big_46 h => ?_) n0 _ _ _ h
      · refine x_aload_n G rfl dX3_split_252 5 rfl ?_
        refine m_get_27 G dX3_split_253 ?_
        refine x_iload G dX3_split_256 2 rfl ?_
        refine x_iload G dX3_split_258 1 rfl ?_
        obtain ⟨hz, h⟩ := h
        refine m_ast_27 G hz dX3_split_260 (fun shareOf_47 eshareOf_47 => ?_)
        replace h := h shareOf_47 eshareOf_47
        refine x_iload G dX3_split_261 3 rfl ?_
        refine x_iload G dX3_split_263 1 rfl ?_
        refine x_isub G dX3_split_265 ?_
        refine x_topi (fun x_48 ex_48 => ?_)
        replace h := h x_48 ex_48
        refine x_istore (lv' := [(4, .int x_48), (7, .int v7_45), (6, .int v6_44), (5, .int v5_29), (3, .int v3_23), (0, .ref h0), (1, .int p0), (2, .int p1)]) G dX3_split_266 (by decide) rfl ?_
        refine x_aload_n G rfl dX3_split_268 5 rfl ?_
        refine x_iconst (v := (1 : Int32)) G dX3_split_269 (by decide) ?_
        refine x_iconst (v := (0 : Int32)) G dX3_split_270 (by decide) ?_
        refine x_cVv1 (As := [.int (1 : Int32), .int (0 : Int32)]) (rest := []) G [] XSub.rf (tX3_copyBig G.noTraces h) (lw_V q1918 q1920 qs52 q70 q1921) cdX3_copyBig 3 0 rfl rfl rfl (by decide) (by decide) rfl (Nat.le_of_ble_eq_true rfl) (Nat.zero_le _) (Nat.zero_le _) dX3_split_271 (fun big_49 h => ?_)
        show X g 9 274 [(4, .int x_48), (7, .int v7_45), (6, .int v6_44), (5, .int v5_29), (3, .int v3_23), (0, .ref h0), (1, .int p0), (2, .int p1)] [] (mW h0 ad (xT g) r_2 many isWide amountOf accountOf dayOf given givenOf runs runWide runWay runTotal runSteps lefts rights results wide dn stepsAt keeps order att spareAmount spareAccount spareDay cured cureOf shareOf_47 big_49 unitsOf spare halfFrom halfMany halfDone halfTotal isFar) 0 0
        refine x_aload_n G rfl dX3_split_274 5 rfl ?_
        refine x_iconst (v := (1 : Int32)) G dX3_split_275 (by decide) ?_
        refine x_iload G dX3_split_276 2 rfl ?_
        refine x_i2l G dX3_split_278 ?_
        refine x_cVv1 (As := [.int (1 : Int32), .long v6_44.toInt64]) (rest := []) G [] XSub.rf (tX3_timesBig G.noTraces h) (lw_V q1952 q1954 qs56 q70 q1955) cdX3_timesBig 3 0 rfl rfl rfl (by decide) (by decide) rfl (Nat.le_of_ble_eq_true rfl) (Nat.zero_le _) (Nat.zero_le _) dX3_split_279 (fun big_50 h => ?_)
        show X g 9 282 [(4, .int x_48), (7, .int v7_45), (6, .int v6_44), (5, .int v5_29), (3, .int v3_23), (0, .ref h0), (1, .int p0), (2, .int p1)] [] (mW h0 ad (xT g) r_2 many isWide amountOf accountOf dayOf given givenOf runs runWide runWay runTotal runSteps lefts rights results wide dn stepsAt keeps order att spareAmount spareAccount spareDay cured cureOf shareOf_47 big_50 unitsOf spare halfFrom halfMany halfDone halfTotal isFar) 0 0
        refine x_aload_n G rfl dX3_split_282 5 rfl ?_
        refine x_iconst (v := (1 : Int32)) G dX3_split_283 (by decide) ?_
        refine x_cVv1 (As := [.int (1 : Int32)]) (rest := []) G [] XSub.rf (tX3_negate G.noTraces h) (lw_V q1901 q1903 qs48 q70 q1904) cdX3_negate 3 0 rfl rfl rfl (by decide) (by decide) rfl (Nat.le_of_ble_eq_true rfl) (Nat.zero_le _) (Nat.zero_le _) dX3_split_284 (fun big_51 h => ?_)
        show X g 9 287 [(4, .int x_48), (7, .int v7_45), (6, .int v6_44), (5, .int v5_29), (3, .int v3_23), (0, .ref h0), (1, .int p0), (2, .int p1)] [] (mW h0 ad (xT g) r_2 many isWide amountOf accountOf dayOf given givenOf runs runWide runWay runTotal runSteps lefts rights results wide dn stepsAt keeps order att spareAmount spareAccount spareDay cured cureOf shareOf_47 big_51 unitsOf spare halfFrom halfMany halfDone halfTotal isFar) 0 0
        refine x_aload_n G rfl dX3_split_287 5 rfl ?_
        refine x_iconst (v := (4 : Int32)) G dX3_split_288 (by decide) ?_
        refine x_iload G dX3_split_289 3 rfl ?_
        refine x_iadd G dX3_split_291 ?_
        refine x_iconst (v := (1 : Int32)) G dX3_split_292 (by decide) ?_
        refine x_cVv1 (As := [.int ((4 : Int32) + v5_29), .int (1 : Int32)]) (rest := []) G [] XSub.rf (tX3_addBig G.noTraces h) (lw_V q1906 q1908 qs49 q70 q1909) cdX3_addBig 3 0 rfl rfl rfl (by decide) (by decide) rfl (Nat.le_of_ble_eq_true rfl) (Nat.zero_le _) (Nat.zero_le _) dX3_split_293 (fun big_52 h => ?_)
        show X g 9 296 [(4, .int x_48), (7, .int v7_45), (6, .int v6_44), (5, .int v5_29), (3, .int v3_23), (0, .ref h0), (1, .int p0), (2, .int p1)] [] (mW h0 ad (xT g) r_2 many isWide amountOf accountOf dayOf given givenOf runs runWide runWay runTotal runSteps lefts rights results wide dn stepsAt keeps order att spareAmount spareAccount spareDay cured cureOf shareOf_47 big_52 unitsOf spare halfFrom halfMany halfDone halfTotal isFar) 0 0
        obtain ⟨x_53, ex_53⟩ : ∃ z : Int32, z = (v5_29 + (1 : Int32)) := ⟨_, rfl⟩
        replace h := h x_53 ex_53
        refine x_iinc (v := x_53) (lv' := [(5, .int x_53), (4, .int x_48), (7, .int v7_45), (6, .int v6_44), (3, .int v3_23), (0, .ref h0), (1, .int p0), (2, .int p1)]) G dX3_split_296 3 rfl (by rw [ex_53]; rfl) (by decide) rfl ?_
        refine x_goto (tgt := 169) G dX3_split_299 rfl ?_
        refine x_lv (lv' := [(5, .int x_53), (4, .int x_48), (3, .int v3_23), (0, .ref h0), (1, .int p0), (2, .int p1)]) [0, 1, 4, 5, 6, 7] rfl ?_
        exact ih x_48 x_53 shareOf_47 big_52 h
set_option maxRecDepth 20000 in
theorem kX3_split_L313 {g : XG} {h0 : Nat} {ad : Nat → Nat} {many : Nat → Int32} {isWide : Nat → Int32} {amountOf : Nat → UInt64} {accountOf : Nat → Int32} {dayOf : Nat → Int32} {given : Nat → Int32} {givenOf : Nat → Int32} {runs : Int32} {runWide : Nat → Int32} {runWay : Nat → Int32} {runTotal : Nat → UInt64} {runSteps : Nat → Int32} {lefts : Nat → UInt64} {rights : Nat → UInt64} {results : Nat → UInt64} {wide : Int32} {dn : Int32} {stepsAt : Int32} {keeps : Int32} {order : Nat → Int32} {att : Nat → UInt64} {spareAmount : Nat → UInt64} {spareAccount : Nat → Int32} {spareDay : Nat → Int32} {cured : Int32} {cureOf : Nat → Int32} {unitsOf : Int64} {spare : Int32} {halfFrom : Nat → Int32} {halfMany : Nat → Int32} {halfDone : Nat → Int32} {halfTotal : Nat → UInt64} {isFar : Int32} {p0 : Int32} {p1 : Int32} {r_2 : Int32} {v3_23 : Int32} {v4_62 : Int32} {shareOf_64 : Nat → Int32} {big_65 : Nat → Int32} {X350 : Int32 → Int32 → Prop} (G : XO g RX3 cX3_split 9 6 0 0) (hX350 : ∀ (v5_71 : Int32) (v6_72 : Int32), X350 v5_71 v6_72 → X g 9 350 [(6, .int v6_72), (5, .int v5_71), (4, .int v4_62), (3, .int v3_23), (0, .ref h0), (1, .int p0), (2, .int p1)] [] (mW h0 ad (xT g) r_2 many isWide amountOf accountOf dayOf given givenOf runs runWide runWay runTotal runSteps lefts rights results wide dn stepsAt keeps order att spareAmount spareAccount spareDay cured cureOf shareOf_64 big_65 unitsOf spare halfFrom halfMany halfDone halfTotal isFar) 0 0) : ∀ (n : Nat) (v5_66 : Int32) (v6_67 : Int32), wX3_split_L313 big_65 X350 n v5_66 v6_67 → X g 9 313 [(6, .int v6_67), (5, .int v5_66), (4, .int v4_62), (3, .int v3_23), (0, .ref h0), (1, .int p0), (2, .int p1)] [] (mW h0 ad (xT g) r_2 many isWide amountOf accountOf dayOf given givenOf runs runWide runWay runTotal runSteps lefts rights results wide dn stepsAt keeps order att spareAmount spareAccount spareDay cured cureOf shareOf_64 big_65 unitsOf spare halfFrom halfMany halfDone halfTotal isFar) 0 0 := by
  intro n
  induction n with
  | zero => intro _ _ h; exact h.elim
  | succ n ih =>
    intro v5_66 v6_67 h
    unfold wX3_split_L313 at h
    refine x_iload G dX3_split_313 0 rfl ?_
    refine x_bipush (v := (10 : Int32)) G dX3_split_315 (by decide) ?_
    refine x_icmp_ge (tgt := 350) G dX3_split_317 rfl (fun c => ?_) (fun c => ?_)
    · replace h := h.1 c
      exact hX350 v5_66 v6_67 h
    · replace h := h.2 c
      refine x_aload_n G rfl dX3_split_320 4 rfl ?_
      refine x_iconst (v := (4 : Int32)) G dX3_split_321 (by decide) ?_
      refine x_iload G dX3_split_322 0 rfl ?_
      refine x_iadd G dX3_split_324 ?_
      refine x_iconst (v := (4 : Int32)) G dX3_split_325 (by decide) ?_
      refine x_iload G dX3_split_326 1 rfl ?_
      refine x_iadd G dX3_split_328 ?_
      refine x_cVi0 (As := [.int ((4 : Int32) + v6_67), .int ((4 : Int32) + v5_66)]) (rest := []) G [] XSub.rf (tX3_compareBig G.noTraces h) (lw_V q1939 q1941 qs54 q70 q1942) cdX3_compareBig 3 0 rfl rfl rfl (by decide) (by decide) rfl (Nat.le_of_ble_eq_true rfl) (Nat.zero_le _) (Nat.zero_le _) dX3_split_329 (fun r_68 h => ?_)
      show X g 9 332 [(6, .int v6_67), (5, .int v5_66), (4, .int v4_62), (3, .int v3_23), (0, .ref h0), (1, .int p0), (2, .int p1)] [.int r_68] (mW h0 ad (xT g) r_2 many isWide amountOf accountOf dayOf given givenOf runs runWide runWay runTotal runSteps lefts rights results wide dn stepsAt keeps order att spareAmount spareAccount spareDay cured cureOf shareOf_64 big_65 unitsOf spare halfFrom halfMany halfDone halfTotal isFar) 0 0
      refine x_if_le (tgt := 340) G dX3_split_332 rfl (fun c => ?_) (fun c => ?_)
      · replace h := h.1 c
        refine x_iload G dX3_split_340 1 rfl ?_
        refine x_istore (lv' := [(5, .int v5_66), (6, .int v6_67), (4, .int v4_62), (3, .int v3_23), (0, .ref h0), (1, .int p0), (2, .int p1)]) G dX3_split_342 (by decide) rfl ?_
        obtain ⟨x_69, ex_69⟩ : ∃ z : Int32, z = (v6_67 + (1 : Int32)) := ⟨_, rfl⟩
        replace h := h x_69 ex_69
        refine x_iinc (v := x_69) (lv' := [(6, .int x_69), (5, .int v5_66), (4, .int v4_62), (3, .int v3_23), (0, .ref h0), (1, .int p0), (2, .int p1)]) G dX3_split_344 1 rfl (by rw [ex_69]; rfl) (by decide) rfl ?_
        refine x_goto (tgt := 313) G dX3_split_347 rfl ?_
        exact ih v5_66 x_69 h
      · replace h := h.2 c
        refine x_iload G dX3_split_335 0 rfl ?_
        refine x_goto (tgt := 342) G dX3_split_337 rfl ?_
        refine x_istore (lv' := [(5, .int v6_67), (6, .int v6_67), (4, .int v4_62), (3, .int v3_23), (0, .ref h0), (1, .int p0), (2, .int p1)]) G dX3_split_342 (by decide) rfl ?_
        obtain ⟨x_70, ex_70⟩ : ∃ z : Int32, z = (v6_67 + (1 : Int32)) := ⟨_, rfl⟩
        replace h := h x_70 ex_70
        refine x_iinc (v := x_70) (lv' := [(6, .int x_70), (5, .int v6_67), (4, .int v4_62), (3, .int v3_23), (0, .ref h0), (1, .int p0), (2, .int p1)]) G dX3_split_344 1 rfl (by rw [ex_70]; rfl) (by decide) rfl ?_
        refine x_goto (tgt := 313) G dX3_split_347 rfl ?_
        exact ih v6_67 x_70 h
set_option maxRecDepth 20000 in
theorem kX3_split_L302 {g : XG} {h0 : Nat} {ad : Nat → Nat} {many : Nat → Int32} {isWide : Nat → Int32} {amountOf : Nat → UInt64} {accountOf : Nat → Int32} {dayOf : Nat → Int32} {given : Nat → Int32} {givenOf : Nat → Int32} {runs : Int32} {runWide : Nat → Int32} {runWay : Nat → Int32} {runTotal : Nat → UInt64} {runSteps : Nat → Int32} {lefts : Nat → UInt64} {rights : Nat → UInt64} {results : Nat → UInt64} {wide : Int32} {dn : Int32} {stepsAt : Int32} {keeps : Int32} {order : Nat → Int32} {att : Nat → UInt64} {spareAmount : Nat → UInt64} {spareAccount : Nat → Int32} {spareDay : Nat → Int32} {cured : Int32} {cureOf : Nat → Int32} {unitsOf : Int64} {spare : Int32} {halfFrom : Nat → Int32} {halfMany : Nat → Int32} {halfDone : Nat → Int32} {halfTotal : Nat → UInt64} {isFar : Int32} {p0 : Int32} {p1 : Int32} {r_2 : Int32} {v3_23 : Int32} {X375 : Int32 → Int32 → (Nat → Int32) → (Nat → Int32) → Prop} (G : XO g RX3 cX3_split 9 6 0 0) (hX375 : ∀ (v4_79 : Int32) (v5_80 : Int32) (shareOf_81 : Nat → Int32) (big_82 : Nat → Int32), X375 v4_79 v5_80 shareOf_81 big_82 → X g 9 375 [(5, .int v5_80), (4, .int v4_79), (3, .int v3_23), (0, .ref h0), (1, .int p0), (2, .int p1)] [] (mW h0 ad (xT g) r_2 many isWide amountOf accountOf dayOf given givenOf runs runWide runWay runTotal runSteps lefts rights results wide dn stepsAt keeps order att spareAmount spareAccount spareDay cured cureOf shareOf_81 big_82 unitsOf spare halfFrom halfMany halfDone halfTotal isFar) 0 0) : ∀ (n : Nat) (v4_62 : Int32) (v5_63 : Int32) (shareOf_64 : Nat → Int32) (big_65 : Nat → Int32), wX3_split_L302 X375 n v4_62 v5_63 shareOf_64 big_65 → X g 9 302 [(5, .int v5_63), (4, .int v4_62), (3, .int v3_23), (0, .ref h0), (1, .int p0), (2, .int p1)] [] (mW h0 ad (xT g) r_2 many isWide amountOf accountOf dayOf given givenOf runs runWide runWay runTotal runSteps lefts rights results wide dn stepsAt keeps order att spareAmount spareAccount spareDay cured cureOf shareOf_64 big_65 unitsOf spare halfFrom halfMany halfDone halfTotal isFar) 0 0 := by
  intro n
  induction n with
  | zero => intro _ _ _ _ h; exact h.elim
  | succ n ih =>
    intro v4_62 v5_63 shareOf_64 big_65 h
    unfold wX3_split_L302 at h
    refine x_iload G dX3_split_302 1 rfl ?_
    refine x_if_le (tgt := 375) G dX3_split_304 rfl (fun c => ?_) (fun c => ?_)
    · replace h := h.1 c
      exact hX375 v4_62 v5_63 shareOf_64 big_65 h
    · replace h := h.2 c
      refine x_iconst (v := (0 : Int32)) G dX3_split_307 (by decide) ?_
      refine x_istore (lv' := [(5, .int (0 : Int32)), (4, .int v4_62), (3, .int v3_23), (0, .ref h0), (1, .int p0), (2, .int p1)]) G dX3_split_308 (by decide) rfl ?_
      refine x_iconst (v := (1 : Int32)) G dX3_split_310 (by decide) ?_
      refine x_istore (lv' := [(6, .int (1 : Int32)), (5, .int (0 : Int32)), (4, .int v4_62), (3, .int v3_23), (0, .ref h0), (1, .int p0), (2, .int p1)]) G dX3_split_311 (by decide) rfl ?_
      obtain ⟨n0, h⟩ := h
      refine kX3_split_L313 G (fun v5_73 v6_74 h => ?_) n0 _ _ h
      · refine x_aload_n G rfl dX3_split_350 4 rfl ?_
        refine m_get_27 G dX3_split_351 ?_
        refine x_iload G dX3_split_354 1 rfl ?_
        refine x_dup2_11 G dX3_split_356 rfl rfl ?_
        obtain ⟨hz, h⟩ := h
        refine m_ald_27 G hz dX3_split_357 ?_
        refine x_iconst (v := (1 : Int32)) G dX3_split_358 (by decide) ?_
        refine x_iadd G dX3_split_359 ?_
        refine x_topi (fun x_75 ex_75 => ?_)
        replace h := h x_75 ex_75
        obtain ⟨hz, h⟩ := h
        refine m_ast_27 G hz dX3_split_360 (fun shareOf_76 eshareOf_76 => ?_)
        replace h := h shareOf_76 eshareOf_76
        refine x_aload_n G rfl dX3_split_361 4 rfl ?_
        refine x_iconst (v := (4 : Int32)) G dX3_split_362 (by decide) ?_
        refine x_iload G dX3_split_363 1 rfl ?_
        refine x_iadd G dX3_split_365 ?_
        refine x_cVv1 (As := [.int ((4 : Int32) + v5_73)]) (rest := []) G [] XSub.rf (tX3_clearBig G.noTraces h) (lw_V q1889 q1891 qs45 q70 q1892) cdX3_clearBig 3 0 rfl rfl rfl (by decide) (by decide) rfl (Nat.le_of_ble_eq_true rfl) (Nat.zero_le _) (Nat.zero_le _) dX3_split_366 (fun big_77 h => ?_)
        show X g 9 369 [(6, .int v6_74), (5, .int v5_73), (4, .int v4_62), (3, .int v3_23), (0, .ref h0), (1, .int p0), (2, .int p1)] [] (mW h0 ad (xT g) r_2 many isWide amountOf accountOf dayOf given givenOf runs runWide runWay runTotal runSteps lefts rights results wide dn stepsAt keeps order att spareAmount spareAccount spareDay cured cureOf shareOf_76 big_77 unitsOf spare halfFrom halfMany halfDone halfTotal isFar) 0 0
        obtain ⟨x_78, ex_78⟩ : ∃ z : Int32, z = (v4_62 + (-1 : Int32)) := ⟨_, rfl⟩
        replace h := h x_78 ex_78
        refine x_iinc (v := x_78) (lv' := [(4, .int x_78), (6, .int v6_74), (5, .int v5_73), (3, .int v3_23), (0, .ref h0), (1, .int p0), (2, .int p1)]) G dX3_split_369 2 rfl (by rw [ex_78]; rfl) (by decide) rfl ?_
        refine x_goto (tgt := 302) G dX3_split_372 rfl ?_
        refine x_lv (lv' := [(5, .int v5_73), (4, .int x_78), (3, .int v3_23), (0, .ref h0), (1, .int p0), (2, .int p1)]) [2, 0, 3, 4, 5, 6] rfl ?_
        exact ih x_78 v5_73 shareOf_76 big_77 h
set_option maxRecDepth 20000 in
theorem kX3_split_L381 {g : XG} {h0 : Nat} {ad : Nat → Nat} {many : Nat → Int32} {isWide : Nat → Int32} {amountOf : Nat → UInt64} {accountOf : Nat → Int32} {dayOf : Nat → Int32} {given : Nat → Int32} {givenOf : Nat → Int32} {runs : Int32} {runWide : Nat → Int32} {runWay : Nat → Int32} {runTotal : Nat → UInt64} {runSteps : Nat → Int32} {lefts : Nat → UInt64} {rights : Nat → UInt64} {results : Nat → UInt64} {wide : Int32} {dn : Int32} {stepsAt : Int32} {keeps : Int32} {order : Nat → Int32} {att : Nat → UInt64} {spareAmount : Nat → UInt64} {spareAccount : Nat → Int32} {spareDay : Nat → Int32} {cured : Int32} {cureOf : Nat → Int32} {unitsOf : Int64} {spare : Int32} {halfFrom : Nat → Int32} {halfMany : Nat → Int32} {halfDone : Nat → Int32} {halfTotal : Nat → UInt64} {isFar : Int32} {p0 : Int32} {p1 : Int32} {r_2 : Int32} {v3_23 : Int32} {v4_83 : Int32} {shareOf_85 : Nat → Int32} {big_86 : Nat → Int32} {X414 : Int32 → Int32 → Prop} (G : XO g RX3 cX3_split 9 6 0 0) (hX414 : ∀ (v5_93 : Int32) (v6_94 : Int32), X414 v5_93 v6_94 → X g 9 414 [(6, .int v6_94), (5, .int v5_93), (4, .int v4_83), (3, .int v3_23), (0, .ref h0), (1, .int p0), (2, .int p1)] [] (mW h0 ad (xT g) r_2 many isWide amountOf accountOf dayOf given givenOf runs runWide runWay runTotal runSteps lefts rights results wide dn stepsAt keeps order att spareAmount spareAccount spareDay cured cureOf shareOf_85 big_86 unitsOf spare halfFrom halfMany halfDone halfTotal isFar) 0 0) : ∀ (n : Nat) (v5_87 : Int32) (v6_88 : Int32), wX3_split_L381 shareOf_85 X414 n v5_87 v6_88 → X g 9 381 [(6, .int v6_88), (5, .int v5_87), (4, .int v4_83), (3, .int v3_23), (0, .ref h0), (1, .int p0), (2, .int p1)] [] (mW h0 ad (xT g) r_2 many isWide amountOf accountOf dayOf given givenOf runs runWide runWay runTotal runSteps lefts rights results wide dn stepsAt keeps order att spareAmount spareAccount spareDay cured cureOf shareOf_85 big_86 unitsOf spare halfFrom halfMany halfDone halfTotal isFar) 0 0 := by
  intro n
  induction n with
  | zero => intro _ _ h; exact h.elim
  | succ n ih =>
    intro v5_87 v6_88 h
    unfold wX3_split_L381 at h
    refine x_iload G dX3_split_381 0 rfl ?_
    refine x_bipush (v := (10 : Int32)) G dX3_split_383 (by decide) ?_
    refine x_icmp_ge (tgt := 414) G dX3_split_385 rfl (fun c => ?_) (fun c => ?_)
    · replace h := h.1 c
      exact hX414 v5_87 v6_88 h
    · replace h := h.2 c
      refine x_iload G dX3_split_388 1 rfl ?_
      refine x_aload_n G rfl dX3_split_390 4 rfl ?_
      refine m_get_27 G dX3_split_391 ?_
      refine x_iload G dX3_split_394 0 rfl ?_
      obtain ⟨hz, h⟩ := h
      refine m_ald_27 G hz dX3_split_396 ?_
      refine x_if_le (tgt := 404) G dX3_split_397 rfl (fun c => ?_) (fun c => ?_)
      · replace h := h.1 c
        refine x_iconst (v := (0 : Int32)) G dX3_split_404 (by decide) ?_
        refine x_iadd G dX3_split_405 ?_
        refine x_topi (fun x_89 ex_89 => ?_)
        replace h := h x_89 ex_89
        refine x_istore (lv' := [(5, .int x_89), (6, .int v6_88), (4, .int v4_83), (3, .int v3_23), (0, .ref h0), (1, .int p0), (2, .int p1)]) G dX3_split_406 (by decide) rfl ?_
        obtain ⟨x_90, ex_90⟩ : ∃ z : Int32, z = (v6_88 + (1 : Int32)) := ⟨_, rfl⟩
        replace h := h x_90 ex_90
        refine x_iinc (v := x_90) (lv' := [(6, .int x_90), (5, .int x_89), (4, .int v4_83), (3, .int v3_23), (0, .ref h0), (1, .int p0), (2, .int p1)]) G dX3_split_408 1 rfl (by rw [ex_90]; rfl) (by decide) rfl ?_
        refine x_goto (tgt := 381) G dX3_split_411 rfl ?_
        exact ih x_89 x_90 h
      · replace h := h.2 c
        refine x_iconst (v := (1 : Int32)) G dX3_split_400 (by decide) ?_
        refine x_goto (tgt := 405) G dX3_split_401 rfl ?_
        refine x_iadd G dX3_split_405 ?_
        refine x_topi (fun x_91 ex_91 => ?_)
        replace h := h x_91 ex_91
        refine x_istore (lv' := [(5, .int x_91), (6, .int v6_88), (4, .int v4_83), (3, .int v3_23), (0, .ref h0), (1, .int p0), (2, .int p1)]) G dX3_split_406 (by decide) rfl ?_
        obtain ⟨x_92, ex_92⟩ : ∃ z : Int32, z = (v6_88 + (1 : Int32)) := ⟨_, rfl⟩
        replace h := h x_92 ex_92
        refine x_iinc (v := x_92) (lv' := [(6, .int x_92), (5, .int x_91), (4, .int v4_83), (3, .int v3_23), (0, .ref h0), (1, .int p0), (2, .int p1)]) G dX3_split_408 1 rfl (by rw [ex_92]; rfl) (by decide) rfl ?_
        refine x_goto (tgt := 381) G dX3_split_411 rfl ?_
        exact ih x_91 x_92 h
set_option maxRecDepth 20000 in
theorem tX3_split {l : Launch} {D : va_G} {ta : Nat → ClassId} {h0 : Nat} {ad : Nat → Nat} {thrown : Int32} {many : Nat → Int32} {isWide : Nat → Int32} {amountOf : Nat → UInt64} {accountOf : Nat → Int32} {dayOf : Nat → Int32} {given : Nat → Int32} {givenOf : Nat → Int32} {runs : Int32} {runWide : Nat → Int32} {runWay : Nat → Int32} {runTotal : Nat → UInt64} {runSteps : Nat → Int32} {lefts : Nat → UInt64} {rights : Nat → UInt64} {results : Nat → UInt64} {wide : Int32} {dn : Int32} {stepsAt : Int32} {keeps : Int32} {order : Nat → Int32} {att : Nat → UInt64} {spareAmount : Nat → UInt64} {spareAccount : Nat → Int32} {spareDay : Nat → Int32} {cured : Int32} {cureOf : Nat → Int32} {shareOf : Nat → Int32} {big : Nat → Int32} {unitsOf : Int64} {spare : Int32} {halfFrom : Nat → Int32} {halfMany : Nat → Int32} {halfDone : Nat → Int32} {halfTotal : Nat → UInt64} {isFar : Int32} {p0 : Int32} {p1 : Int32} {K : Int32 → Int32 → (Nat → Int32) → (Nat → Int32) → Prop} (hlt : l.stackTraces = false) (h : wX3_split p0 p1 thrown many amountOf accountOf shareOf big K) : SMi3 l D ta yX3_split cX3_split 9 FieldType.int 6 [.ref h0, .int p0, .int p1] (mW h0 ad ta thrown many isWide amountOf accountOf dayOf given givenOf runs runWide runWay runTotal runSteps lefts rights results wide dn stepsAt keeps order att spareAmount spareAccount spareDay cured cureOf shareOf big unitsOf spare halfFrom halfMany halfDone halfTotal isFar) (fun (thrown' : Int32) (shareOf' : Nat → Int32) (big' : Nat → Int32) => mW h0 ad ta thrown' many isWide amountOf accountOf dayOf given givenOf runs runWide runWay runTotal runSteps lefts rights results wide dn stepsAt keeps order att spareAmount spareAccount spareDay cured cureOf shareOf' big' unitsOf spare halfFrom halfMany halfDone halfTotal isFar) 0 0 K := by
  refine x_sti3 hlt (plainFor_of_name (by decide +kernel)) (Nat.le_of_ble_eq_true rfl) (fun g G hl hD hT Q => ?_)
  subst hl; subst hD; subst hT
  unfold wX3_split at h
  show X g 9 0 [(0, .ref h0), (1, .int p0), (2, .int p1)] [] (mW h0 ad (xT g) thrown many isWide amountOf accountOf dayOf given givenOf runs runWide runWay runTotal runSteps lefts rights results wide dn stepsAt keeps order att spareAmount spareAccount spareDay cured cureOf shareOf big unitsOf spare halfFrom halfMany halfDone halfTotal isFar) 0 0
  refine x_aload_n G rfl dX3_split_0 0 rfl ?_
  refine x_iconst (v := (0 : Int32)) G dX3_split_1 (by decide) ?_
  refine m_put_0 G dX3_split_2 ?_
  refine x_iload_n G rfl dX3_split_5 2 rfl ?_
  refine x_i2l G dX3_split_6 ?_
  refine x_lconst (v := (0 : Int64)) G dX3_split_7 (by decide) ?_
  refine x_ldc2 G q2038 dX3_split_8 ?_
  refine x_cPi (As := [.long p1.toInt64, .long (0 : Int64), .long (1000000 : Int64)]) (rest := []) G (tX3_in G.noTraces h) (lw_S q1650 q1651 q70 q1652) cdX3_in (by decide) (by decide) rfl (Nat.le_of_ble_eq_true rfl) (Nat.zero_le _) (Nat.zero_le _) dX3_split_11 (fun r_1 h => ?_)
  refine x_if_ne (tgt := 20) G dX3_split_14 rfl (fun c => ?_) (fun c => ?_)
  · replace h := h.1 c
    refine x_aload_n G rfl dX3_split_20 0 rfl ?_
    refine x_aload_n G rfl dX3_split_21 0 rfl ?_
    refine x_iload_n G rfl dX3_split_22 1 rfl ?_
    refine x_cVi0 (As := [.int p0]) (rest := [.ref h0]) G [] XSub.rf (tX3_faultOf G.noTraces h) (lw_V q1669 q1671 qs21 q70 q1672) cdX3_faultOf 3 0 rfl rfl rfl (by decide) (by decide) rfl (Nat.le_of_ble_eq_true rfl) (Nat.zero_le _) (Nat.zero_le _) dX3_split_23 (fun r_2 h => ?_)
    show X g 9 26 [(0, .ref h0), (1, .int p0), (2, .int p1)] [.int r_2, .ref h0] (mW h0 ad (xT g) (0 : Int32) many isWide amountOf accountOf dayOf given givenOf runs runWide runWay runTotal runSteps lefts rights results wide dn stepsAt keeps order att spareAmount spareAccount spareDay cured cureOf shareOf big unitsOf spare halfFrom halfMany halfDone halfTotal isFar) 0 0
    refine m_put_0 G dX3_split_26 ?_
    refine x_aload_n G rfl dX3_split_29 0 rfl ?_
    refine m_get_0 G dX3_split_30 ?_
    refine x_if_eq (tgt := 38) G dX3_split_33 rfl (fun c => ?_) (fun c => ?_)
    · replace h := h.1 c
      refine x_iconst (v := (1 : Int32)) G dX3_split_38 (by decide) ?_
      refine x_istore_n (lv' := [(3, .int (1 : Int32)), (0, .ref h0), (1, .int p0), (2, .int p1)]) G rfl dX3_split_39 (by decide) rfl ?_
      refine x_iconst (v := (0 : Int32)) G dX3_split_40 (by decide) ?_
      refine x_istore (lv' := [(4, .int (0 : Int32)), (3, .int (1 : Int32)), (0, .ref h0), (1, .int p0), (2, .int p1)]) G dX3_split_41 (by decide) rfl ?_
      obtain ⟨n0, h⟩ := h
      refine kX3_split_L43 G (fun v3_23 v4_24 big_25 h => ?_) n0 _ _ _ h
      · refine x_aload_n G rfl dX3_split_142 2 rfl ?_
        refine x_iconst (v := (0 : Int32)) G dX3_split_143 (by decide) ?_
        refine x_iload_n G rfl dX3_split_144 3 rfl ?_
        refine x_cVv1 (As := [.int (0 : Int32), .int p0]) (rest := []) G [] XSub.rf (tX3_sumLedger G.noTraces h) (lw_V q1970 q1972 qs57 q70 q1973) cdX3_sumLedger 3 0 rfl rfl rfl (by decide) (by decide) rfl (Nat.le_of_ble_eq_true rfl) (Nat.zero_le _) (Nat.zero_le _) dX3_split_145 (fun big_26 h => ?_)
        show X g 9 148 [(4, .int v4_24), (3, .int v3_23), (0, .ref h0), (1, .int p0), (2, .int p1)] [] (mW h0 ad (xT g) r_2 many isWide amountOf accountOf dayOf given givenOf runs runWide runWay runTotal runSteps lefts rights results wide dn stepsAt keeps order att spareAmount spareAccount spareDay cured cureOf shareOf big_26 unitsOf spare halfFrom halfMany halfDone halfTotal isFar) 0 0
        refine x_iload_n G rfl dX3_split_148 1 rfl ?_
        refine x_if_eq (tgt := 160) G dX3_split_149 rfl (fun c => ?_) (fun c => ?_)
        · replace h := h.1 c
          refine x_bipush (v := (-104 : Int32)) G dX3_split_160 (by decide) ?_
          exact x_reti3 G Q dX3_split_162 rfl r_2 shareOf big_26 h XSub.rf (Nat.le_refl _) (Nat.le_refl _)
        · replace h := h.2 c
          refine x_aload_n G rfl dX3_split_152 2 rfl ?_
          refine x_iconst (v := (0 : Int32)) G dX3_split_153 (by decide) ?_
          refine x_cVi0 (As := [.int (0 : Int32)]) (rest := []) G [] XSub.rf (tX3_signOf G.noTraces h) (lw_V q1914 q1916 qs51 q70 q1917) cdX3_signOf 3 0 rfl rfl rfl (by decide) (by decide) rfl (Nat.le_of_ble_eq_true rfl) (Nat.zero_le _) (Nat.zero_le _) dX3_split_154 (fun r_27 h => ?_)
          show X g 9 157 [(4, .int v4_24), (3, .int v3_23), (0, .ref h0), (1, .int p0), (2, .int p1)] [.int r_27] (mW h0 ad (xT g) r_2 many isWide amountOf accountOf dayOf given givenOf runs runWide runWay runTotal runSteps lefts rights results wide dn stepsAt keeps order att spareAmount spareAccount spareDay cured cureOf shareOf big_26 unitsOf spare halfFrom halfMany halfDone halfTotal isFar) 0 0
          refine x_if_ne (tgt := 163) G dX3_split_157 rfl (fun c => ?_) (fun c => ?_)
          · replace h := h.1 c
            refine x_iload_n G rfl dX3_split_163 4 rfl ?_
            refine x_istore (lv' := [(4, .int p1), (3, .int v3_23), (0, .ref h0), (1, .int p0), (2, .int p1)]) G dX3_split_164 (by decide) rfl ?_
            refine x_iconst (v := (0 : Int32)) G dX3_split_166 (by decide) ?_
            refine x_istore (lv' := [(5, .int (0 : Int32)), (4, .int p1), (3, .int v3_23), (0, .ref h0), (1, .int p0), (2, .int p1)]) G dX3_split_167 (by decide) rfl ?_
            obtain ⟨n0, h⟩ := h
            refine kX3_split_L169 G (fun v4_58 v5_59 shareOf_60 big_61 h => ?_) n0 _ _ _ _ h
            · obtain ⟨n0, h⟩ := h
              refine kX3_split_L302 G (fun v4_83 v5_84 shareOf_85 big_86 h => ?_) n0 _ _ _ _ h
              · refine x_iconst (v := (0 : Int32)) G dX3_split_375 (by decide) ?_
                refine x_istore (lv' := [(5, .int (0 : Int32)), (4, .int v4_83), (3, .int v3_23), (0, .ref h0), (1, .int p0), (2, .int p1)]) G dX3_split_376 (by decide) rfl ?_
                refine x_iconst (v := (0 : Int32)) G dX3_split_378 (by decide) ?_
                refine x_istore (lv' := [(6, .int (0 : Int32)), (5, .int (0 : Int32)), (4, .int v4_83), (3, .int v3_23), (0, .ref h0), (1, .int p0), (2, .int p1)]) G dX3_split_379 (by decide) rfl ?_
                obtain ⟨n0, h⟩ := h
                refine kX3_split_L381 G (fun v5_95 v6_96 h => ?_) n0 _ _ h
                · refine x_iload G dX3_split_414 1 rfl ?_
                  exact x_reti3 G Q dX3_split_416 rfl r_2 shareOf_85 big_86 h XSub.rf (Nat.le_refl _) (Nat.le_refl _)
          · replace h := h.2 c
            refine x_bipush (v := (-104 : Int32)) G dX3_split_160 (by decide) ?_
            exact x_reti3 G Q dX3_split_162 rfl r_2 shareOf big_26 h XSub.rf (Nat.le_refl _) (Nat.le_refl _)
    · replace h := h.2 c
      refine x_iconst (v := (0 : Int32)) G dX3_split_36 (by decide) ?_
      exact x_reti3 G Q dX3_split_37 rfl r_2 shareOf big h XSub.rf (Nat.le_refl _) (Nat.le_refl _)
  · replace h := h.2 c
    refine x_bipush (v := (-102 : Int32)) G dX3_split_17 (by decide) ?_
    exact x_reti3 G Q dX3_split_19 rfl (0 : Int32) shareOf big h XSub.rf (Nat.le_refl _) (Nat.le_refl _)
theorem cdX3_share : yX3_share.cls = RX3 ∧ yX3_share.cls ≠ "java/lang/invoke/MethodHandle" ∧ yX3_share.cls ≠ "java/lang/invoke/VarHandle" ∧ (parseMethodDescriptor yX3_share.desc).map (fun d => d.parameters.length) = some 1 := by decide +kernel
def wX3_share (p0 : Int32) (thrown : Int32) (shareOf : Nat → Int32) (K : Int32 → Int32 → Prop) : Prop := (wX3_in p0.toInt64 (0 : Int64) (9 : Int64) (fun (r_1 : Int32) => ((r_1 = (0 : Int32) → K (-102 : Int32) (0 : Int32)) ∧ (¬ r_1 = (0 : Int32) → (vp_in p0 10 ∧ K (shareOf p0.toNatClampNeg) (0 : Int32))))))
set_option maxRecDepth 20000 in
theorem tX3_share {l : Launch} {D : va_G} {ta : Nat → ClassId} {h0 : Nat} {ad : Nat → Nat} {thrown : Int32} {many : Nat → Int32} {isWide : Nat → Int32} {amountOf : Nat → UInt64} {accountOf : Nat → Int32} {dayOf : Nat → Int32} {given : Nat → Int32} {givenOf : Nat → Int32} {runs : Int32} {runWide : Nat → Int32} {runWay : Nat → Int32} {runTotal : Nat → UInt64} {runSteps : Nat → Int32} {lefts : Nat → UInt64} {rights : Nat → UInt64} {results : Nat → UInt64} {wide : Int32} {dn : Int32} {stepsAt : Int32} {keeps : Int32} {order : Nat → Int32} {att : Nat → UInt64} {spareAmount : Nat → UInt64} {spareAccount : Nat → Int32} {spareDay : Nat → Int32} {cured : Int32} {cureOf : Nat → Int32} {shareOf : Nat → Int32} {big : Nat → Int32} {unitsOf : Int64} {spare : Int32} {halfFrom : Nat → Int32} {halfMany : Nat → Int32} {halfDone : Nat → Int32} {halfTotal : Nat → UInt64} {isFar : Int32} {p0 : Int32} {K : Int32 → Int32 → Prop} (hlt : l.stackTraces = false) (h : wX3_share p0 thrown shareOf K) : SMi1 l D ta yX3_share cX3_share 2 FieldType.int 2 [.ref h0, .int p0] (mW h0 ad ta thrown many isWide amountOf accountOf dayOf given givenOf runs runWide runWay runTotal runSteps lefts rights results wide dn stepsAt keeps order att spareAmount spareAccount spareDay cured cureOf shareOf big unitsOf spare halfFrom halfMany halfDone halfTotal isFar) (fun (thrown' : Int32) => mW h0 ad ta thrown' many isWide amountOf accountOf dayOf given givenOf runs runWide runWay runTotal runSteps lefts rights results wide dn stepsAt keeps order att spareAmount spareAccount spareDay cured cureOf shareOf big unitsOf spare halfFrom halfMany halfDone halfTotal isFar) 0 0 K := by
  refine x_sti1 hlt (plainFor_of_name (by decide +kernel)) (Nat.le_of_ble_eq_true rfl) (fun g G hl hD hT Q => ?_)
  subst hl; subst hD; subst hT
  unfold wX3_share at h
  show X g 2 0 [(0, .ref h0), (1, .int p0)] [] (mW h0 ad (xT g) thrown many isWide amountOf accountOf dayOf given givenOf runs runWide runWay runTotal runSteps lefts rights results wide dn stepsAt keeps order att spareAmount spareAccount spareDay cured cureOf shareOf big unitsOf spare halfFrom halfMany halfDone halfTotal isFar) 0 0
  refine x_aload_n G rfl dX3_share_0 0 rfl ?_
  refine x_iconst (v := (0 : Int32)) G dX3_share_1 (by decide) ?_
  refine m_put_0 G dX3_share_2 ?_
  refine x_iload_n G rfl dX3_share_5 1 rfl ?_
  refine x_i2l G dX3_share_6 ?_
  refine x_lconst (v := (0 : Int64)) G dX3_share_7 (by decide) ?_
  refine x_ldc2 G q1682 dX3_share_8 ?_
  refine x_cPi (As := [.long p0.toInt64, .long (0 : Int64), .long (9 : Int64)]) (rest := []) G (tX3_in G.noTraces h) (lw_S q1650 q1651 q70 q1652) cdX3_in (by decide) (by decide) rfl (Nat.le_of_ble_eq_true rfl) (Nat.zero_le _) (Nat.zero_le _) dX3_share_11 (fun r_1 h => ?_)
  refine x_if_eq (tgt := 26) G dX3_share_14 rfl (fun c => ?_) (fun c => ?_)
  · replace h := h.1 c
    refine x_bipush (v := (-102 : Int32)) G dX3_share_26 (by decide) ?_
    exact x_reti1 G Q dX3_share_28 rfl (0 : Int32) h XSub.rf (Nat.le_refl _) (Nat.le_refl _)
  · replace h := h.2 c
    refine x_aload_n G rfl dX3_share_17 0 rfl ?_
    refine m_get_27 G dX3_share_18 ?_
    refine x_iload_n G rfl dX3_share_21 1 rfl ?_
    obtain ⟨hz, h⟩ := h
    refine m_ald_27 G hz dX3_share_22 ?_
    refine x_goto (tgt := 28) G dX3_share_23 rfl ?_
    exact x_reti1 G Q dX3_share_28 rfl (0 : Int32) h XSub.rf (Nat.le_refl _) (Nat.le_refl _)
theorem cdX3_sign : yX3_sign.cls = RX3 ∧ yX3_sign.cls ≠ "java/lang/invoke/MethodHandle" ∧ yX3_sign.cls ≠ "java/lang/invoke/VarHandle" ∧ (parseMethodDescriptor yX3_sign.desc).map (fun d => d.parameters.length) = some 3 := by decide +kernel
def wX3_sign_J108 (amountOf : Nat → UInt64) (p0 : Int32) (p2 : Int32) (v4_9 : Int32) (big_10 : Nat → Int32) (X66 : Int32 → (Nat → Int32) → Prop) : Int32 → Prop := fun (s_11 : Int32) => ((¬ s_11 = p2 → (∀ x_12 : Int32, x_12 = (v4_9 + (1 : Int32)) → X66 x_12 big_10)) ∧ (s_11 = p2 → (vp_in (((60 : Int32) * p0) + v4_9) 720 ∧ (wX3_addNumber (0 : Int32) (amountOf (((60 : Int32) * p0) + v4_9).toNatClampNeg) big_10 (fun (big_13 : Nat → Int32) => (∀ x_14 : Int32, x_14 = (v4_9 + (1 : Int32)) → X66 x_14 big_13))))))
def wX3_sign_L66 (many : Nat → Int32) (amountOf : Nat → UInt64) (accountOf : Nat → Int32) (dayOf : Nat → Int32) (p0 : Int32) (p1 : Int32) (p2 : Int32) (X135 : Int32 → (Nat → Int32) → Prop) : Nat → Int32 → (Nat → Int32) → Prop
  | 0, _, _ => False
  | n + 1, v4_9, big_10 => (vp_in p0 12 ∧ (((many p0.toNatClampNeg) ≤ v4_9 → X135 v4_9 big_10) ∧ (¬ (many p0.toNatClampNeg) ≤ v4_9 → ((¬ p1 = (0 : Int32) → (vp_in (((60 : Int32) * p0) + v4_9) 720 ∧ (wX3_sign_J108 amountOf p0 p2 v4_9 big_10 (wX3_sign_L66 many amountOf accountOf dayOf p0 p1 p2 X135 n) (dayOf (((60 : Int32) * p0) + v4_9).toNatClampNeg)))) ∧ (p1 = (0 : Int32) → (vp_in (((60 : Int32) * p0) + v4_9) 720 ∧ (wX3_sign_J108 amountOf p0 p2 v4_9 big_10 (wX3_sign_L66 many amountOf accountOf dayOf p0 p1 p2 X135 n) (accountOf (((60 : Int32) * p0) + v4_9).toNatClampNeg))))))))
def wX3_sign_J31 (many : Nat → Int32) (amountOf : Nat → UInt64) (accountOf : Nat → Int32) (dayOf : Nat → Int32) (big : Nat → Int32) (p0 : Int32) (p1 : Int32) (p2 : Int32) (K : Int32 → Int32 → (Nat → Int32) → Prop) : Int64 → Int64 → Int64 → Int32 → Prop := fun (s_2 : Int64) (s_3 : Int64) (s_4 : Int64) (thrown_5 : Int32) => (wX3_in s_2 s_3 s_4 (fun (r_6 : Int32) => ((¬ r_6 = (0 : Int32) → (wX3_faultOf p0 many (fun (r_7 : Int32) => ((r_7 = (0 : Int32) → (wX3_clearBig (0 : Int32) big (fun (big_8 : Nat → Int32) => (∃ m66 : Nat, wX3_sign_L66 many amountOf accountOf dayOf p0 p1 p2 (fun (v4_19 : Int32) (big_20 : Nat → Int32) => (wX3_signOf (0 : Int32) big_20 (fun (r_21 : Int32) => K r_21 r_7 big_20))) m66 (0 : Int32) big_8)))) ∧ (¬ r_7 = (0 : Int32) → K (0 : Int32) r_7 big))))) ∧ (r_6 = (0 : Int32) → K (-102 : Int32) thrown_5 big))))
def wX3_sign (p0 : Int32) (p1 : Int32) (p2 : Int32) (thrown : Int32) (many : Nat → Int32) (amountOf : Nat → UInt64) (accountOf : Nat → Int32) (dayOf : Nat → Int32) (big : Nat → Int32) (K : Int32 → Int32 → (Nat → Int32) → Prop) : Prop := (wX3_in p1.toInt64 (0 : Int64) (1 : Int64) (fun (r_1 : Int32) => ((r_1 = (0 : Int32) → K (-102 : Int32) (0 : Int32) big) ∧ (¬ r_1 = (0 : Int32) → ((¬ p1 = (0 : Int32) → (wX3_sign_J31 many amountOf accountOf dayOf big p0 p1 p2 K p2.toInt64 (0 : Int64) (30 : Int64) (0 : Int32))) ∧ (p1 = (0 : Int32) → (wX3_sign_J31 many amountOf accountOf dayOf big p0 p1 p2 K p2.toInt64 (0 : Int64) (9 : Int64) (0 : Int32))))))))
set_option maxRecDepth 20000 in
theorem kX3_sign_J108 {g : XG} {h0 : Nat} {ad : Nat → Nat} {many : Nat → Int32} {isWide : Nat → Int32} {amountOf : Nat → UInt64} {accountOf : Nat → Int32} {dayOf : Nat → Int32} {given : Nat → Int32} {givenOf : Nat → Int32} {runs : Int32} {runWide : Nat → Int32} {runWay : Nat → Int32} {runTotal : Nat → UInt64} {runSteps : Nat → Int32} {lefts : Nat → UInt64} {rights : Nat → UInt64} {results : Nat → UInt64} {wide : Int32} {dn : Int32} {stepsAt : Int32} {keeps : Int32} {order : Nat → Int32} {att : Nat → UInt64} {spareAmount : Nat → UInt64} {spareAccount : Nat → Int32} {spareDay : Nat → Int32} {cured : Int32} {cureOf : Nat → Int32} {shareOf : Nat → Int32} {unitsOf : Int64} {spare : Int32} {halfFrom : Nat → Int32} {halfMany : Nat → Int32} {halfDone : Nat → Int32} {halfTotal : Nat → UInt64} {isFar : Int32} {p0 : Int32} {p1 : Int32} {p2 : Int32} {r_7 : Int32} {v4_9 : Int32} {big_10 : Nat → Int32} {X66 : Int32 → (Nat → Int32) → Prop} (G : XO g RX3 cX3_sign 5 5 0 0) (hX66 : ∀ (v4_15 : Int32) (big_16 : Nat → Int32), X66 v4_15 big_16 → X g 5 66 [(4, .int v4_15), (0, .ref h0), (1, .int p0), (2, .int p1), (3, .int p2)] [] (mW h0 ad (xT g) r_7 many isWide amountOf accountOf dayOf given givenOf runs runWide runWay runTotal runSteps lefts rights results wide dn stepsAt keeps order att spareAmount spareAccount spareDay cured cureOf shareOf big_16 unitsOf spare halfFrom halfMany halfDone halfTotal isFar) 0 0) : ∀ (s_11 : Int32), wX3_sign_J108 amountOf p0 p2 v4_9 big_10 X66 s_11 → X g 5 108 [(0, .ref h0), (1, .int p0), (2, .int p1), (3, .int p2), (4, .int v4_9)] [.int s_11] (mW h0 ad (xT g) r_7 many isWide amountOf accountOf dayOf given givenOf runs runWide runWay runTotal runSteps lefts rights results wide dn stepsAt keeps order att spareAmount spareAccount spareDay cured cureOf shareOf big_10 unitsOf spare halfFrom halfMany halfDone halfTotal isFar) 0 0 := by
  intro s_11 h
  unfold wX3_sign_J108 at h
  refine x_iload_n G rfl dX3_sign_108 3 rfl ?_
  refine x_icmp_ne (tgt := 129) G dX3_sign_109 rfl (fun c => ?_) (fun c => ?_)
  · replace h := h.1 c
    obtain ⟨x_12, ex_12⟩ : ∃ z : Int32, z = (v4_9 + (1 : Int32)) := ⟨_, rfl⟩
    replace h := h x_12 ex_12
    refine x_iinc (v := x_12) (lv' := [(4, .int x_12), (0, .ref h0), (1, .int p0), (2, .int p1), (3, .int p2)]) G dX3_sign_129 4 rfl (by rw [ex_12]; rfl) (by decide) rfl ?_
    refine x_goto (tgt := 66) G dX3_sign_132 rfl ?_
    exact hX66 x_12 big_10 h
  · replace h := h.2 c
    refine x_aload_n G rfl dX3_sign_112 0 rfl ?_
    refine x_iconst (v := (0 : Int32)) G dX3_sign_113 (by decide) ?_
    refine x_aload_n G rfl dX3_sign_114 0 rfl ?_
    refine m_get_3 G dX3_sign_115 ?_
    refine x_bipush (v := (60 : Int32)) G dX3_sign_118 (by decide) ?_
    refine x_iload_n G rfl dX3_sign_120 1 rfl ?_
    refine x_imul G dX3_sign_121 ?_
    refine x_iload G dX3_sign_122 4 rfl ?_
    refine x_iadd G dX3_sign_124 ?_
    obtain ⟨hz, h⟩ := h
    refine m_ald_3 G hz dX3_sign_125 ?_
    refine x_cVv1 (As := [.int (0 : Int32), .double (amountOf (((60 : Int32) * p0) + v4_9).toNatClampNeg)]) (rest := []) G [] XSub.rf (tX3_addNumber G.noTraces h) (lw_V q1893 q1895 qs46 q70 q1896) cdX3_addNumber 3 0 rfl rfl rfl (by decide) (by decide) rfl (Nat.le_of_ble_eq_true rfl) (Nat.zero_le _) (Nat.zero_le _) dX3_sign_126 (fun big_13 h => ?_)
    show X g 5 129 [(0, .ref h0), (1, .int p0), (2, .int p1), (3, .int p2), (4, .int v4_9)] [] (mW h0 ad (xT g) r_7 many isWide amountOf accountOf dayOf given givenOf runs runWide runWay runTotal runSteps lefts rights results wide dn stepsAt keeps order att spareAmount spareAccount spareDay cured cureOf shareOf big_13 unitsOf spare halfFrom halfMany halfDone halfTotal isFar) 0 0
    obtain ⟨x_14, ex_14⟩ : ∃ z : Int32, z = (v4_9 + (1 : Int32)) := ⟨_, rfl⟩
    replace h := h x_14 ex_14
    refine x_iinc (v := x_14) (lv' := [(4, .int x_14), (0, .ref h0), (1, .int p0), (2, .int p1), (3, .int p2)]) G dX3_sign_129 4 rfl (by rw [ex_14]; rfl) (by decide) rfl ?_
    refine x_goto (tgt := 66) G dX3_sign_132 rfl ?_
    exact hX66 x_14 big_13 h
set_option maxRecDepth 20000 in
theorem kX3_sign_L66 {g : XG} {h0 : Nat} {ad : Nat → Nat} {many : Nat → Int32} {isWide : Nat → Int32} {amountOf : Nat → UInt64} {accountOf : Nat → Int32} {dayOf : Nat → Int32} {given : Nat → Int32} {givenOf : Nat → Int32} {runs : Int32} {runWide : Nat → Int32} {runWay : Nat → Int32} {runTotal : Nat → UInt64} {runSteps : Nat → Int32} {lefts : Nat → UInt64} {rights : Nat → UInt64} {results : Nat → UInt64} {wide : Int32} {dn : Int32} {stepsAt : Int32} {keeps : Int32} {order : Nat → Int32} {att : Nat → UInt64} {spareAmount : Nat → UInt64} {spareAccount : Nat → Int32} {spareDay : Nat → Int32} {cured : Int32} {cureOf : Nat → Int32} {shareOf : Nat → Int32} {unitsOf : Int64} {spare : Int32} {halfFrom : Nat → Int32} {halfMany : Nat → Int32} {halfDone : Nat → Int32} {halfTotal : Nat → UInt64} {isFar : Int32} {p0 : Int32} {p1 : Int32} {p2 : Int32} {r_7 : Int32} {X135 : Int32 → (Nat → Int32) → Prop} (G : XO g RX3 cX3_sign 5 5 0 0) (hX135 : ∀ (v4_17 : Int32) (big_18 : Nat → Int32), X135 v4_17 big_18 → X g 5 135 [(4, .int v4_17), (0, .ref h0), (1, .int p0), (2, .int p1), (3, .int p2)] [] (mW h0 ad (xT g) r_7 many isWide amountOf accountOf dayOf given givenOf runs runWide runWay runTotal runSteps lefts rights results wide dn stepsAt keeps order att spareAmount spareAccount spareDay cured cureOf shareOf big_18 unitsOf spare halfFrom halfMany halfDone halfTotal isFar) 0 0) : ∀ (n : Nat) (v4_9 : Int32) (big_10 : Nat → Int32), wX3_sign_L66 many amountOf accountOf dayOf p0 p1 p2 X135 n v4_9 big_10 → X g 5 66 [(4, .int v4_9), (0, .ref h0), (1, .int p0), (2, .int p1), (3, .int p2)] [] (mW h0 ad (xT g) r_7 many isWide amountOf accountOf dayOf given givenOf runs runWide runWay runTotal runSteps lefts rights results wide dn stepsAt keeps order att spareAmount spareAccount spareDay cured cureOf shareOf big_10 unitsOf spare halfFrom halfMany halfDone halfTotal isFar) 0 0 := by
  intro n
  induction n with
  | zero => intro _ _ h; exact h.elim
  | succ n ih =>
    intro v4_9 big_10 h
    unfold wX3_sign_L66 at h
    refine x_iload G dX3_sign_66 0 rfl ?_
    refine x_aload_n G rfl dX3_sign_68 1 rfl ?_
    refine m_get_1 G dX3_sign_69 ?_
    refine x_iload_n G rfl dX3_sign_72 2 rfl ?_
    obtain ⟨hz, h⟩ := h
    refine m_ald_1 G hz dX3_sign_73 ?_
    refine x_icmp_ge (tgt := 135) G dX3_sign_74 rfl (fun c => ?_) (fun c => ?_)
    · replace h := h.1 c
      exact hX135 v4_9 big_10 h
    · replace h := h.2 c
      refine x_iload_n G rfl dX3_sign_77 3 rfl ?_
      refine x_if_ne (tgt := 96) G dX3_sign_78 rfl (fun c => ?_) (fun c => ?_)
      · replace h := h.1 c
        refine x_aload_n G rfl dX3_sign_96 1 rfl ?_
        refine m_get_5 G dX3_sign_97 ?_
        refine x_bipush (v := (60 : Int32)) G dX3_sign_100 (by decide) ?_
        refine x_iload_n G rfl dX3_sign_102 2 rfl ?_
        refine x_imul G dX3_sign_103 ?_
        refine x_iload G dX3_sign_104 0 rfl ?_
        refine x_iadd G dX3_sign_106 ?_
        obtain ⟨hz, h⟩ := h
        refine m_ald_5 G hz dX3_sign_107 ?_
        refine x_lv (lv' := [(0, .ref h0), (1, .int p0), (2, .int p1), (3, .int p2), (4, .int v4_9)]) [1, 2, 3, 4, 0] rfl ?_
        refine kX3_sign_J108 G ih _ h
      · replace h := h.2 c
        refine x_aload_n G rfl dX3_sign_81 1 rfl ?_
        refine m_get_4 G dX3_sign_82 ?_
        refine x_bipush (v := (60 : Int32)) G dX3_sign_85 (by decide) ?_
        refine x_iload_n G rfl dX3_sign_87 2 rfl ?_
        refine x_imul G dX3_sign_88 ?_
        refine x_iload G dX3_sign_89 0 rfl ?_
        refine x_iadd G dX3_sign_91 ?_
        obtain ⟨hz, h⟩ := h
        refine m_ald_4 G hz dX3_sign_92 ?_
        refine x_goto (tgt := 108) G dX3_sign_93 rfl ?_
        refine x_lv (lv' := [(0, .ref h0), (1, .int p0), (2, .int p1), (3, .int p2), (4, .int v4_9)]) [1, 2, 3, 4, 0] rfl ?_
        refine kX3_sign_J108 G ih _ h
set_option maxRecDepth 20000 in
theorem kX3_sign_J31 {g : XG} {h0 : Nat} {ad : Nat → Nat} {many : Nat → Int32} {isWide : Nat → Int32} {amountOf : Nat → UInt64} {accountOf : Nat → Int32} {dayOf : Nat → Int32} {given : Nat → Int32} {givenOf : Nat → Int32} {runs : Int32} {runWide : Nat → Int32} {runWay : Nat → Int32} {runTotal : Nat → UInt64} {runSteps : Nat → Int32} {lefts : Nat → UInt64} {rights : Nat → UInt64} {results : Nat → UInt64} {wide : Int32} {dn : Int32} {stepsAt : Int32} {keeps : Int32} {order : Nat → Int32} {att : Nat → UInt64} {spareAmount : Nat → UInt64} {spareAccount : Nat → Int32} {spareDay : Nat → Int32} {cured : Int32} {cureOf : Nat → Int32} {shareOf : Nat → Int32} {big : Nat → Int32} {unitsOf : Int64} {spare : Int32} {halfFrom : Nat → Int32} {halfMany : Nat → Int32} {halfDone : Nat → Int32} {halfTotal : Nat → UInt64} {isFar : Int32} {p0 : Int32} {p1 : Int32} {p2 : Int32} {K : Int32 → Int32 → (Nat → Int32) → Prop} (G : XO g RX3 cX3_sign 5 5 0 0) (Q : XQi2 g FieldType.int 0 0 (fun (thrown' : Int32) (big' : Nat → Int32) => mW h0 ad (xT g) thrown' many isWide amountOf accountOf dayOf given givenOf runs runWide runWay runTotal runSteps lefts rights results wide dn stepsAt keeps order att spareAmount spareAccount spareDay cured cureOf shareOf big' unitsOf spare halfFrom halfMany halfDone halfTotal isFar) K) : ∀ (s_2 : Int64) (s_3 : Int64) (s_4 : Int64) (thrown_5 : Int32), wX3_sign_J31 many amountOf accountOf dayOf big p0 p1 p2 K s_2 s_3 s_4 thrown_5 → X g 5 31 [(0, .ref h0), (1, .int p0), (2, .int p1), (3, .int p2)] [.long s_4, .long s_3, .long s_2] (mW h0 ad (xT g) thrown_5 many isWide amountOf accountOf dayOf given givenOf runs runWide runWay runTotal runSteps lefts rights results wide dn stepsAt keeps order att spareAmount spareAccount spareDay cured cureOf shareOf big unitsOf spare halfFrom halfMany halfDone halfTotal isFar) 0 0 := by
  intro s_2 s_3 s_4 thrown_5 h
  unfold wX3_sign_J31 at h
  refine x_cPi (As := [.long s_2, .long s_3, .long s_4]) (rest := []) G (tX3_in G.noTraces h) (lw_S q1650 q1651 q70 q1652) cdX3_in (by decide) (by decide) rfl (Nat.le_of_ble_eq_true rfl) (Nat.zero_le _) (Nat.zero_le _) dX3_sign_31 (fun r_6 h => ?_)
  refine x_if_ne (tgt := 40) G dX3_sign_34 rfl (fun c => ?_) (fun c => ?_)
  · replace h := h.1 c
    refine x_aload_n G rfl dX3_sign_40 0 rfl ?_
    refine x_aload_n G rfl dX3_sign_41 0 rfl ?_
    refine x_iload_n G rfl dX3_sign_42 1 rfl ?_
    refine x_cVi0 (As := [.int p0]) (rest := [.ref h0]) G [] XSub.rf (tX3_faultOf G.noTraces h) (lw_V q1669 q1671 qs21 q70 q1672) cdX3_faultOf 3 0 rfl rfl rfl (by decide) (by decide) rfl (Nat.le_of_ble_eq_true rfl) (Nat.zero_le _) (Nat.zero_le _) dX3_sign_43 (fun r_7 h => ?_)
    show X g 5 46 [(0, .ref h0), (1, .int p0), (2, .int p1), (3, .int p2)] [.int r_7, .ref h0] (mW h0 ad (xT g) thrown_5 many isWide amountOf accountOf dayOf given givenOf runs runWide runWay runTotal runSteps lefts rights results wide dn stepsAt keeps order att spareAmount spareAccount spareDay cured cureOf shareOf big unitsOf spare halfFrom halfMany halfDone halfTotal isFar) 0 0
    refine m_put_0 G dX3_sign_46 ?_
    refine x_aload_n G rfl dX3_sign_49 0 rfl ?_
    refine m_get_0 G dX3_sign_50 ?_
    refine x_if_eq (tgt := 58) G dX3_sign_53 rfl (fun c => ?_) (fun c => ?_)
    · replace h := h.1 c
      refine x_aload_n G rfl dX3_sign_58 0 rfl ?_
      refine x_iconst (v := (0 : Int32)) G dX3_sign_59 (by decide) ?_
      refine x_cVv1 (As := [.int (0 : Int32)]) (rest := []) G [] XSub.rf (tX3_clearBig G.noTraces h) (lw_V q1889 q1891 qs45 q70 q1892) cdX3_clearBig 3 0 rfl rfl rfl (by decide) (by decide) rfl (Nat.le_of_ble_eq_true rfl) (Nat.zero_le _) (Nat.zero_le _) dX3_sign_60 (fun big_8 h => ?_)
      show X g 5 63 [(0, .ref h0), (1, .int p0), (2, .int p1), (3, .int p2)] [] (mW h0 ad (xT g) r_7 many isWide amountOf accountOf dayOf given givenOf runs runWide runWay runTotal runSteps lefts rights results wide dn stepsAt keeps order att spareAmount spareAccount spareDay cured cureOf shareOf big_8 unitsOf spare halfFrom halfMany halfDone halfTotal isFar) 0 0
      refine x_iconst (v := (0 : Int32)) G dX3_sign_63 (by decide) ?_
      refine x_istore (lv' := [(4, .int (0 : Int32)), (0, .ref h0), (1, .int p0), (2, .int p1), (3, .int p2)]) G dX3_sign_64 (by decide) rfl ?_
      obtain ⟨n0, h⟩ := h
      refine kX3_sign_L66 G (fun v4_19 big_20 h => ?_) n0 _ _ h
      · refine x_aload_n G rfl dX3_sign_135 1 rfl ?_
        refine x_iconst (v := (0 : Int32)) G dX3_sign_136 (by decide) ?_
        refine x_cVi0 (As := [.int (0 : Int32)]) (rest := []) G [] XSub.rf (tX3_signOf G.noTraces h) (lw_V q1914 q1916 qs51 q70 q1917) cdX3_signOf 3 0 rfl rfl rfl (by decide) (by decide) rfl (Nat.le_of_ble_eq_true rfl) (Nat.zero_le _) (Nat.zero_le _) dX3_sign_137 (fun r_21 h => ?_)
        show X g 5 140 [(4, .int v4_19), (0, .ref h0), (1, .int p0), (2, .int p1), (3, .int p2)] [.int r_21] (mW h0 ad (xT g) r_7 many isWide amountOf accountOf dayOf given givenOf runs runWide runWay runTotal runSteps lefts rights results wide dn stepsAt keeps order att spareAmount spareAccount spareDay cured cureOf shareOf big_20 unitsOf spare halfFrom halfMany halfDone halfTotal isFar) 0 0
        exact x_reti2 G Q dX3_sign_140 rfl r_7 big_20 h XSub.rf (Nat.le_refl _) (Nat.le_refl _)
    · replace h := h.2 c
      refine x_iconst (v := (0 : Int32)) G dX3_sign_56 (by decide) ?_
      exact x_reti2 G Q dX3_sign_57 rfl r_7 big h XSub.rf (Nat.le_refl _) (Nat.le_refl _)
  · replace h := h.2 c
    refine x_bipush (v := (-102 : Int32)) G dX3_sign_37 (by decide) ?_
    exact x_reti2 G Q dX3_sign_39 rfl thrown_5 big h XSub.rf (Nat.le_refl _) (Nat.le_refl _)
set_option maxRecDepth 20000 in
theorem tX3_sign {l : Launch} {D : va_G} {ta : Nat → ClassId} {h0 : Nat} {ad : Nat → Nat} {thrown : Int32} {many : Nat → Int32} {isWide : Nat → Int32} {amountOf : Nat → UInt64} {accountOf : Nat → Int32} {dayOf : Nat → Int32} {given : Nat → Int32} {givenOf : Nat → Int32} {runs : Int32} {runWide : Nat → Int32} {runWay : Nat → Int32} {runTotal : Nat → UInt64} {runSteps : Nat → Int32} {lefts : Nat → UInt64} {rights : Nat → UInt64} {results : Nat → UInt64} {wide : Int32} {dn : Int32} {stepsAt : Int32} {keeps : Int32} {order : Nat → Int32} {att : Nat → UInt64} {spareAmount : Nat → UInt64} {spareAccount : Nat → Int32} {spareDay : Nat → Int32} {cured : Int32} {cureOf : Nat → Int32} {shareOf : Nat → Int32} {big : Nat → Int32} {unitsOf : Int64} {spare : Int32} {halfFrom : Nat → Int32} {halfMany : Nat → Int32} {halfDone : Nat → Int32} {halfTotal : Nat → UInt64} {isFar : Int32} {p0 : Int32} {p1 : Int32} {p2 : Int32} {K : Int32 → Int32 → (Nat → Int32) → Prop} (hlt : l.stackTraces = false) (h : wX3_sign p0 p1 p2 thrown many amountOf accountOf dayOf big K) : SMi2 l D ta yX3_sign cX3_sign 5 FieldType.int 5 [.ref h0, .int p0, .int p1, .int p2] (mW h0 ad ta thrown many isWide amountOf accountOf dayOf given givenOf runs runWide runWay runTotal runSteps lefts rights results wide dn stepsAt keeps order att spareAmount spareAccount spareDay cured cureOf shareOf big unitsOf spare halfFrom halfMany halfDone halfTotal isFar) (fun (thrown' : Int32) (big' : Nat → Int32) => mW h0 ad ta thrown' many isWide amountOf accountOf dayOf given givenOf runs runWide runWay runTotal runSteps lefts rights results wide dn stepsAt keeps order att spareAmount spareAccount spareDay cured cureOf shareOf big' unitsOf spare halfFrom halfMany halfDone halfTotal isFar) 0 0 K := by
  refine x_sti2 hlt (plainFor_of_name (by decide +kernel)) (Nat.le_of_ble_eq_true rfl) (fun g G hl hD hT Q => ?_)
  subst hl; subst hD; subst hT
  unfold wX3_sign at h
  show X g 5 0 [(0, .ref h0), (1, .int p0), (2, .int p1), (3, .int p2)] [] (mW h0 ad (xT g) thrown many isWide amountOf accountOf dayOf given givenOf runs runWide runWay runTotal runSteps lefts rights results wide dn stepsAt keeps order att spareAmount spareAccount spareDay cured cureOf shareOf big unitsOf spare halfFrom halfMany halfDone halfTotal isFar) 0 0
  refine x_aload_n G rfl dX3_sign_0 0 rfl ?_
  refine x_iconst (v := (0 : Int32)) G dX3_sign_1 (by decide) ?_
  refine m_put_0 G dX3_sign_2 ?_
  refine x_iload_n G rfl dX3_sign_5 2 rfl ?_
  refine x_i2l G dX3_sign_6 ?_
  refine x_lconst (v := (0 : Int64)) G dX3_sign_7 (by decide) ?_
  refine x_lconst (v := (1 : Int64)) G dX3_sign_8 (by decide) ?_
  refine x_cPi (As := [.long p1.toInt64, .long (0 : Int64), .long (1 : Int64)]) (rest := []) G (tX3_in G.noTraces h) (lw_S q1650 q1651 q70 q1652) cdX3_in (by decide) (by decide) rfl (Nat.le_of_ble_eq_true rfl) (Nat.zero_le _) (Nat.zero_le _) dX3_sign_9 (fun r_1 h => ?_)
  refine x_if_eq (tgt := 37) G dX3_sign_12 rfl (fun c => ?_) (fun c => ?_)
  · replace h := h.1 c
    refine x_bipush (v := (-102 : Int32)) G dX3_sign_37 (by decide) ?_
    exact x_reti2 G Q dX3_sign_39 rfl (0 : Int32) big h XSub.rf (Nat.le_refl _) (Nat.le_refl _)
  · replace h := h.2 c
    refine x_iload_n G rfl dX3_sign_15 3 rfl ?_
    refine x_i2l G dX3_sign_16 ?_
    refine x_lconst (v := (0 : Int64)) G dX3_sign_17 (by decide) ?_
    refine x_iload_n G rfl dX3_sign_18 2 rfl ?_
    refine x_if_ne (tgt := 28) G dX3_sign_19 rfl (fun c => ?_) (fun c => ?_)
    · replace h := h.1 c
      refine x_ldc2 G q1683 dX3_sign_28 ?_
      refine kX3_sign_J31 G Q  _ _ _ _ h
    · replace h := h.2 c
      refine x_ldc2 G q1682 dX3_sign_22 ?_
      refine x_goto (tgt := 31) G dX3_sign_25 rfl ?_
      refine kX3_sign_J31 G Q  _ _ _ _ h
