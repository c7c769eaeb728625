/-! the model's methods. Printed by gen/model_parts.py -/
theorem cdX3_worst : yX3_worst.cls = RX3 ∧ yX3_worst.cls ≠ "java/lang/invoke/MethodHandle" ∧ yX3_worst.cls ≠ "java/lang/invoke/VarHandle" ∧ (parseMethodDescriptor yX3_worst.desc).map (fun d => d.parameters.length) = some 1 := by decide +kernel
def wX3_worst_J55 (v2_3 : Int32) (v3_4 : Int32) (X25 : Int32 → Int32 → (Nat → Int32) → Prop) : (Nat → Int32) → Prop := fun (big_8 : Nat → Int32) => (wX3_compareBig (0 : Int32) (1 : Int32) big_8 (fun (r_9 : Int32) => ((r_9 ≤ (0 : Int32) → (∀ x_10 : Int32, x_10 = (v3_4 + (1 : Int32)) → X25 v2_3 x_10 big_8)) ∧ (¬ r_9 ≤ (0 : Int32) → (wX3_copyBig (1 : Int32) (0 : Int32) big_8 (fun (big_11 : Nat → Int32) => (∀ x_12 : Int32, x_12 = (v3_4 + (1 : Int32)) → X25 v3_4 x_12 big_11)))))))
def wX3_worst_L25 (runSteps : Nat → Int32) (lefts : Nat → UInt64) (rights : Nat → UInt64) (results : Nat → UInt64) (p0 : Int32) (X78 : Int32 → Int32 → (Nat → Int32) → Prop) : Nat → Int32 → Int32 → (Nat → Int32) → Prop
  | 0, _, _, _ => False
  | n + 1, v2_3, v3_4, big_5 => (vp_in p0 60 ∧ (((runSteps p0.toNatClampNeg) ≤ v3_4 → X78 v2_3 v3_4 big_5) ∧ (¬ (runSteps p0.toNatClampNeg) ≤ v3_4 → (wX3_lossOf (0 : Int32) p0 v3_4 lefts rights results big_5 (fun (big_6 : Nat → Int32) => (wX3_signOf (0 : Int32) big_6 (fun (r_7 : Int32) => (((0 : Int32) ≤ r_7 → (wX3_worst_J55 v2_3 v3_4 (wX3_worst_L25 runSteps lefts rights results p0 X78 n) big_6)) ∧ (¬ (0 : Int32) ≤ r_7 → (wX3_negate (0 : Int32) big_6 (fun (big_16 : Nat → Int32) => (wX3_worst_J55 v2_3 v3_4 (wX3_worst_L25 runSteps lefts rights results p0 X78 n) big_16))))))))))))
def wX3_worst (p0 : Int32) (thrown : Int32) (runs : Int32) (runSteps : Nat → Int32) (lefts : Nat → UInt64) (rights : Nat → UInt64) (results : Nat → UInt64) (big : Nat → Int32) (K : Int32 → Int32 → (Nat → Int32) → Prop) : Prop := (wX3_noRun p0 runs (fun (r_1 : Int32) => ((r_1 = (0 : Int32) → (wX3_clearBig (1 : Int32) big (fun (big_2 : Nat → Int32) => (∃ m25 : Nat, wX3_worst_L25 runSteps lefts rights results p0 (fun (v2_20 : Int32) (v3_21 : Int32) (big_22 : Nat → Int32) => K v2_20 (0 : Int32) big_22) m25 (-1 : Int32) (0 : Int32) big_2)))) ∧ (¬ r_1 = (0 : Int32) → K (-101 : Int32) (0 : Int32) big))))
set_option maxRecDepth 20000 in
theorem kX3_worst_J55 {g : XG} {h0 : Nat} {ad : Nat → Nat} {many : Nat → Int32} {isWide : Nat → Int32} {amountOf : Nat → UInt64} {accountOf : Nat → Int32} {dayOf : Nat → Int32} {given : Nat → Int32} {givenOf : Nat → Int32} {runs : Int32} {runWide : Nat → Int32} {runWay : Nat → Int32} {runTotal : Nat → UInt64} {runSteps : Nat → Int32} {lefts : Nat → UInt64} {rights : Nat → UInt64} {results : Nat → UInt64} {wide : Int32} {dn : Int32} {stepsAt : Int32} {keeps : Int32} {order : Nat → Int32} {att : Nat → UInt64} {spareAmount : Nat → UInt64} {spareAccount : Nat → Int32} {spareDay : Nat → Int32} {cured : Int32} {cureOf : Nat → Int32} {shareOf : Nat → Int32} {unitsOf : Int64} {spare : Int32} {halfFrom : Nat → Int32} {halfMany : Nat → Int32} {halfDone : Nat → Int32} {halfTotal : Nat → UInt64} {isFar : Int32} {p0 : Int32} {v2_3 : Int32} {v3_4 : Int32} {X25 : Int32 → Int32 → (Nat → Int32) → Prop} (G : XO g RX3 cX3_worst 4 6 0 0) (hX25 : ∀ (v2_13 : Int32) (v3_14 : Int32) (big_15 : Nat → Int32), X25 v2_13 v3_14 big_15 → X g 4 25 [(3, .int v3_14), (2, .int v2_13), (0, .ref h0), (1, .int p0)] [] (mW h0 ad (xT g) (0 : Int32) many isWide amountOf accountOf dayOf given givenOf runs runWide runWay runTotal runSteps lefts rights results wide dn stepsAt keeps order att spareAmount spareAccount spareDay cured cureOf shareOf big_15 unitsOf spare halfFrom halfMany halfDone halfTotal isFar) 0 0) : ∀ (big_8 : Nat → Int32), wX3_worst_J55 v2_3 v3_4 X25 big_8 → X g 4 55 [(0, .ref h0), (1, .int p0), (2, .int v2_3), (3, .int v3_4)] [] (mW h0 ad (xT g) (0 : Int32) many isWide amountOf accountOf dayOf given givenOf runs runWide runWay runTotal runSteps lefts rights results wide dn stepsAt keeps order att spareAmount spareAccount spareDay cured cureOf shareOf big_8 unitsOf spare halfFrom halfMany halfDone halfTotal isFar) 0 0 := by
  intro big_8 h
  unfold wX3_worst_J55 at h
  refine x_aload_n G rfl dX3_worst_55 0 rfl ?_
  refine x_iconst (v := (0 : Int32)) G dX3_worst_56 (by decide) ?_
  refine x_iconst (v := (1 : Int32)) G dX3_worst_57 (by decide) ?_
  refine x_cVi0 (As := [.int (0 : Int32), .int (1 : Int32)]) (rest := []) G [] XSub.rf (tX3_compareBig G.noTraces h) (lw_V q1939 q1941 qs54 q70 q1942) cdX3_compareBig 3 0 rfl rfl rfl (by decide) (by decide) rfl (Nat.le_of_ble_eq_true rfl) (Nat.zero_le _) (Nat.zero_le _) dX3_worst_58 (fun r_9 h => ?_)
  show X g 4 61 [(0, .ref h0), (1, .int p0), (2, .int v2_3), (3, .int v3_4)] [.int r_9] (mW h0 ad (xT g) (0 : Int32) many isWide amountOf accountOf dayOf given givenOf runs runWide runWay runTotal runSteps lefts rights results wide dn stepsAt keeps order att spareAmount spareAccount spareDay cured cureOf shareOf big_8 unitsOf spare halfFrom halfMany halfDone halfTotal isFar) 0 0
  refine x_if_le (tgt := 72) G dX3_worst_61 rfl (fun c => ?_) (fun c => ?_)
  · replace h := h.1 c
    obtain ⟨x_10, ex_10⟩ : ∃ z : Int32, z = (v3_4 + (1 : Int32)) := ⟨_, rfl⟩
    replace h := h x_10 ex_10
    refine x_iinc (v := x_10) (lv' := [(3, .int x_10), (0, .ref h0), (1, .int p0), (2, .int v2_3)]) G dX3_worst_72 3 rfl (by rw [ex_10]; rfl) (by decide) rfl ?_
    refine x_goto (tgt := 25) G dX3_worst_75 rfl ?_
    refine x_lv (lv' := [(3, .int x_10), (2, .int v2_3), (0, .ref h0), (1, .int p0)]) [0, 3, 1, 2] rfl ?_
    exact hX25 v2_3 x_10 big_8 h
  · replace h := h.2 c
    refine x_aload_n G rfl dX3_worst_64 0 rfl ?_
    refine x_iconst (v := (1 : Int32)) G dX3_worst_65 (by decide) ?_
    refine x_iconst (v := (0 : Int32)) G dX3_worst_66 (by decide) ?_
    refine x_cVv1 (As := [.int (1 : Int32), .int (0 : Int32)]) (rest := []) G [] XSub.rf (tX3_copyBig G.noTraces h) (lw_V q1918 q1920 qs52 q70 q1921) cdX3_copyBig 3 0 rfl rfl rfl (by decide) (by decide) rfl (Nat.le_of_ble_eq_true rfl) (Nat.zero_le _) (Nat.zero_le _) dX3_worst_67 (fun big_11 h => ?_)
    show X g 4 70 [(0, .ref h0), (1, .int p0), (2, .int v2_3), (3, .int v3_4)] [] (mW h0 ad (xT g) (0 : Int32) many isWide amountOf accountOf dayOf given givenOf runs runWide runWay runTotal runSteps lefts rights results wide dn stepsAt keeps order att spareAmount spareAccount spareDay cured cureOf shareOf big_11 unitsOf spare halfFrom halfMany halfDone halfTotal isFar) 0 0
    refine x_iload_n G rfl dX3_worst_70 3 rfl ?_
    refine x_istore_n (lv' := [(2, .int v3_4), (0, .ref h0), (1, .int p0), (3, .int v3_4)]) G rfl dX3_worst_71 (by decide) rfl ?_
    obtain ⟨x_12, ex_12⟩ : ∃ z : Int32, z = (v3_4 + (1 : Int32)) := ⟨_, rfl⟩
    replace h := h x_12 ex_12
    refine x_iinc (v := x_12) (lv' := [(3, .int x_12), (2, .int v3_4), (0, .ref h0), (1, .int p0)]) G dX3_worst_72 3 rfl (by rw [ex_12]; rfl) (by decide) rfl ?_
    refine x_goto (tgt := 25) G dX3_worst_75 rfl ?_
    exact hX25 v3_4 x_12 big_11 h
set_option maxRecDepth 20000 in
theorem kX3_worst_L25 {g : XG} {h0 : Nat} {ad : Nat → Nat} {many : Nat → Int32} {isWide : Nat → Int32} {amountOf : Nat → UInt64} {accountOf : Nat → Int32} {dayOf : Nat → Int32} {given : Nat → Int32} {givenOf : Nat → Int32} {runs : Int32} {runWide : Nat → Int32} {runWay : Nat → Int32} {runTotal : Nat → UInt64} {runSteps : Nat → Int32} {lefts : Nat → UInt64} {rights : Nat → UInt64} {results : Nat → UInt64} {wide : Int32} {dn : Int32} {stepsAt : Int32} {keeps : Int32} {order : Nat → Int32} {att : Nat → UInt64} {spareAmount : Nat → UInt64} {spareAccount : Nat → Int32} {spareDay : Nat → Int32} {cured : Int32} {cureOf : Nat → Int32} {shareOf : Nat → Int32} {unitsOf : Int64} {spare : Int32} {halfFrom : Nat → Int32} {halfMany : Nat → Int32} {halfDone : Nat → Int32} {halfTotal : Nat → UInt64} {isFar : Int32} {p0 : Int32} {X78 : Int32 → Int32 → (Nat → Int32) → Prop} (G : XO g RX3 cX3_worst 4 6 0 0) (hX78 : ∀ (v2_17 : Int32) (v3_18 : Int32) (big_19 : Nat → Int32), X78 v2_17 v3_18 big_19 → X g 4 78 [(3, .int v3_18), (2, .int v2_17), (0, .ref h0), (1, .int p0)] [] (mW h0 ad (xT g) (0 : Int32) many isWide amountOf accountOf dayOf given givenOf runs runWide runWay runTotal runSteps lefts rights results wide dn stepsAt keeps order att spareAmount spareAccount spareDay cured cureOf shareOf big_19 unitsOf spare halfFrom halfMany halfDone halfTotal isFar) 0 0) : ∀ (n : Nat) (v2_3 : Int32) (v3_4 : Int32) (big_5 : Nat → Int32), wX3_worst_L25 runSteps lefts rights results p0 X78 n v2_3 v3_4 big_5 → X g 4 25 [(3, .int v3_4), (2, .int v2_3), (0, .ref h0), (1, .int p0)] [] (mW h0 ad (xT g) (0 : Int32) many isWide amountOf accountOf dayOf given givenOf runs runWide runWay runTotal runSteps lefts rights results wide dn stepsAt keeps order att spareAmount spareAccount spareDay cured cureOf shareOf big_5 unitsOf spare halfFrom halfMany halfDone halfTotal isFar) 0 0 := by
  intro n
  induction n with
  | zero => intro _ _ _ h; exact h.elim
  | succ n ih =>
    intro v2_3 v3_4 big_5 h
    unfold wX3_worst_L25 at h
    refine x_iload_n G rfl dX3_worst_25 0 rfl ?_
    refine x_aload_n G rfl dX3_worst_26 2 rfl ?_
    refine m_get_12 G dX3_worst_27 ?_
    refine x_iload_n G rfl dX3_worst_30 3 rfl ?_
    obtain ⟨hz, h⟩ := h
    refine m_ald_12 G hz dX3_worst_31 ?_
    refine x_icmp_ge (tgt := 78) G dX3_worst_32 rfl (fun c => ?_) (fun c => ?_)
    · replace h := h.1 c
      exact hX78 v2_3 v3_4 big_5 h
    · replace h := h.2 c
      refine x_aload_n G rfl dX3_worst_35 2 rfl ?_
      refine x_iconst (v := (0 : Int32)) G dX3_worst_36 (by decide) ?_
      refine x_iload_n G rfl dX3_worst_37 3 rfl ?_
      refine x_iload_n G rfl dX3_worst_38 0 rfl ?_
      refine x_cVv1 (As := [.int (0 : Int32), .int p0, .int v3_4]) (rest := []) G [] XSub.rf (tX3_lossOf G.noTraces h) (lw_V q1885 q1887 qs44 q70 q1888) cdX3_lossOf 3 0 rfl rfl rfl (by decide) (by decide) rfl (Nat.le_of_ble_eq_true rfl) (Nat.zero_le _) (Nat.zero_le _) dX3_worst_39 (fun big_6 h => ?_)
      show X g 4 42 [(3, .int v3_4), (2, .int v2_3), (0, .ref h0), (1, .int p0)] [] (mW h0 ad (xT g) (0 : Int32) many isWide amountOf accountOf dayOf given givenOf runs runWide runWay runTotal runSteps lefts rights results wide dn stepsAt keeps order att spareAmount spareAccount spareDay cured cureOf shareOf big_6 unitsOf spare halfFrom halfMany halfDone halfTotal isFar) 0 0
      refine x_aload_n G rfl dX3_worst_42 2 rfl ?_
      refine x_iconst (v := (0 : Int32)) G dX3_worst_43 (by decide) ?_
      refine x_cVi0 (As := [.int (0 : Int32)]) (rest := []) G [] XSub.rf (tX3_signOf G.noTraces h) (lw_V q1914 q1916 qs51 q70 q1917) cdX3_signOf 3 0 rfl rfl rfl (by decide) (by decide) rfl (Nat.le_of_ble_eq_true rfl) (Nat.zero_le _) (Nat.zero_le _) dX3_worst_44 (fun r_7 h => ?_)
      show X g 4 47 [(3, .int v3_4), (2, .int v2_3), (0, .ref h0), (1, .int p0)] [.int r_7] (mW h0 ad (xT g) (0 : Int32) many isWide amountOf accountOf dayOf given givenOf runs runWide runWay runTotal runSteps lefts rights results wide dn stepsAt keeps order att spareAmount spareAccount spareDay cured cureOf shareOf big_6 unitsOf spare halfFrom halfMany halfDone halfTotal isFar) 0 0
      refine x_if_ge (tgt := 55) G dX3_worst_47 rfl (fun c => ?_) (fun c => ?_)
      · replace h := h.1 c
        refine x_lv (lv' := [(0, .ref h0), (1, .int p0), (2, .int v2_3), (3, .int v3_4)]) [2, 3, 1, 0] rfl ?_
        refine kX3_worst_J55 G ih _ h
      · replace h := h.2 c
        refine x_aload_n G rfl dX3_worst_50 2 rfl ?_
        refine x_iconst (v := (0 : Int32)) G dX3_worst_51 (by decide) ?_
        refine x_cVv1 (As := [.int (0 : Int32)]) (rest := []) G [] XSub.rf (tX3_negate G.noTraces h) (lw_V q1901 q1903 qs48 q70 q1904) cdX3_negate 3 0 rfl rfl rfl (by decide) (by decide) rfl (Nat.le_of_ble_eq_true rfl) (Nat.zero_le _) (Nat.zero_le _) dX3_worst_52 (fun big_16 h => ?_)
        show X g 4 55 [(3, .int v3_4), (2, .int v2_3), (0, .ref h0), (1, .int p0)] [] (mW h0 ad (xT g) (0 : Int32) many isWide amountOf accountOf dayOf given givenOf runs runWide runWay runTotal runSteps lefts rights results wide dn stepsAt keeps order att spareAmount spareAccount spareDay cured cureOf shareOf big_16 unitsOf spare halfFrom halfMany halfDone halfTotal isFar) 0 0
        refine x_lv (lv' := [(0, .ref h0), (1, .int p0), (2, .int v2_3), (3, .int v3_4)]) [2, 3, 1, 0] rfl ?_
        refine kX3_worst_J55 G ih _ h
set_option maxRecDepth 20000 in
theorem tX3_worst {l : Launch} {D : va_G} {ta : Nat → ClassId} {h0 : Nat} {ad : Nat → Nat} {thrown : Int32} {many : Nat → Int32} {isWide : Nat → Int32} {amountOf : Nat → UInt64} {accountOf : Nat → Int32} {dayOf : Nat → Int32} {given : Nat → Int32} {givenOf : Nat → Int32} {runs : Int32} {runWide : Nat → Int32} {runWay : Nat → Int32} {runTotal : Nat → UInt64} {runSteps : Nat → Int32} {lefts : Nat → UInt64} {rights : Nat → UInt64} {results : Nat → UInt64} {wide : Int32} {dn : Int32} {stepsAt : Int32} {keeps : Int32} {order : Nat → Int32} {att : Nat → UInt64} {spareAmount : Nat → UInt64} {spareAccount : Nat → Int32} {spareDay : Nat → Int32} {cured : Int32} {cureOf : Nat → Int32} {shareOf : Nat → Int32} {big : Nat → Int32} {unitsOf : Int64} {spare : Int32} {halfFrom : Nat → Int32} {halfMany : Nat → Int32} {halfDone : Nat → Int32} {halfTotal : Nat → UInt64} {isFar : Int32} {p0 : Int32} {K : Int32 → Int32 → (Nat → Int32) → Prop} (hlt : l.stackTraces = false) (h : wX3_worst p0 thrown runs runSteps lefts rights results big K) : SMi2 l D ta yX3_worst cX3_worst 4 FieldType.int 6 [.ref h0, .int p0] (mW h0 ad ta thrown many isWide amountOf accountOf dayOf given givenOf runs runWide runWay runTotal runSteps lefts rights results wide dn stepsAt keeps order att spareAmount spareAccount spareDay cured cureOf shareOf big unitsOf spare halfFrom halfMany halfDone halfTotal isFar) (fun (thrown' : Int32) (big' : Nat → Int32) => mW h0 ad ta thrown' many isWide amountOf accountOf dayOf given givenOf runs runWide runWay runTotal runSteps lefts rights results wide dn stepsAt keeps order att spareAmount spareAccount spareDay cured cureOf shareOf big' unitsOf spare halfFrom halfMany halfDone halfTotal isFar) 0 0 K := by
  refine x_sti2 hlt (plainFor_of_name (by decide +kernel)) (Nat.le_of_ble_eq_true rfl) (fun g G hl hD hT Q => ?_)
  subst hl; subst hD; subst hT
  unfold wX3_worst at h
  show X g 4 0 [(0, .ref h0), (1, .int p0)] [] (mW h0 ad (xT g) thrown many isWide amountOf accountOf dayOf given givenOf runs runWide runWay runTotal runSteps lefts rights results wide dn stepsAt keeps order att spareAmount spareAccount spareDay cured cureOf shareOf big unitsOf spare halfFrom halfMany halfDone halfTotal isFar) 0 0
  refine x_aload_n G rfl dX3_worst_0 0 rfl ?_
  refine x_iconst (v := (0 : Int32)) G dX3_worst_1 (by decide) ?_
  refine m_put_0 G dX3_worst_2 ?_
  refine x_aload_n G rfl dX3_worst_5 0 rfl ?_
  refine x_iload_n G rfl dX3_worst_6 1 rfl ?_
  refine x_cVi0 (As := [.int p0]) (rest := []) G [] XSub.rf (tX3_noRun G.noTraces h) (lw_V q1867 q1869 qs42 q70 q1870) cdX3_noRun 3 0 rfl rfl rfl (by decide) (by decide) rfl (Nat.le_of_ble_eq_true rfl) (Nat.zero_le _) (Nat.zero_le _) dX3_worst_7 (fun r_1 h => ?_)
  show X g 4 10 [(0, .ref h0), (1, .int p0)] [.int r_1] (mW h0 ad (xT g) (0 : Int32) many isWide amountOf accountOf dayOf given givenOf runs runWide runWay runTotal runSteps lefts rights results wide dn stepsAt keeps order att spareAmount spareAccount spareDay cured cureOf shareOf big unitsOf spare halfFrom halfMany halfDone halfTotal isFar) 0 0
  refine x_if_eq (tgt := 16) G dX3_worst_10 rfl (fun c => ?_) (fun c => ?_)
  · replace h := h.1 c
    refine x_iconst (v := (-1 : Int32)) G dX3_worst_16 (by decide) ?_
    refine x_istore_n (lv' := [(2, .int (-1 : Int32)), (0, .ref h0), (1, .int p0)]) G rfl dX3_worst_17 (by decide) rfl ?_
    refine x_aload_n G rfl dX3_worst_18 1 rfl ?_
    refine x_iconst (v := (1 : Int32)) G dX3_worst_19 (by decide) ?_
    refine x_cVv1 (As := [.int (1 : Int32)]) (rest := []) G [] XSub.rf (tX3_clearBig G.noTraces h) (lw_V q1889 q1891 qs45 q70 q1892) cdX3_clearBig 3 0 rfl rfl rfl (by decide) (by decide) rfl (Nat.le_of_ble_eq_true rfl) (Nat.zero_le _) (Nat.zero_le _) dX3_worst_20 (fun big_2 h => ?_)
    show X g 4 23 [(2, .int (-1 : Int32)), (0, .ref h0), (1, .int p0)] [] (mW h0 ad (xT g) (0 : Int32) many isWide amountOf accountOf dayOf given givenOf runs runWide runWay runTotal runSteps lefts rights results wide dn stepsAt keeps order att spareAmount spareAccount spareDay cured cureOf shareOf big_2 unitsOf spare halfFrom halfMany halfDone halfTotal isFar) 0 0
    refine x_iconst (v := (0 : Int32)) G dX3_worst_23 (by decide) ?_
    refine x_istore_n (lv' := [(3, .int (0 : Int32)), (2, .int (-1 : Int32)), (0, .ref h0), (1, .int p0)]) G rfl dX3_worst_24 (by decide) rfl ?_
    obtain ⟨n0, h⟩ := h
    refine kX3_worst_L25 G (fun v2_20 v3_21 big_22 h => ?_) n0 _ _ _ h
    · refine x_iload_n G rfl dX3_worst_78 1 rfl ?_
      exact x_reti2 G Q dX3_worst_79 rfl (0 : Int32) big_22 h XSub.rf (Nat.le_refl _) (Nat.le_refl _)
  · replace h := h.2 c
    refine x_bipush (v := (-101 : Int32)) G dX3_worst_13 (by decide) ?_
    exact x_reti2 G Q dX3_worst_15 rfl (0 : Int32) big h XSub.rf (Nat.le_refl _) (Nat.le_refl _)
theorem cdX3_one : yX3_one.cls = RX3 ∧ yX3_one.cls ≠ "java/lang/invoke/MethodHandle" ∧ yX3_one.cls ≠ "java/lang/invoke/VarHandle" ∧ (parseMethodDescriptor yX3_one.desc).map (fun d => d.parameters.length) = some 1 := by decide +kernel
def wX3_one (p0 : Int32) (big : Nat → Int32) (K : (Nat → Int32) → Prop) : Prop := (wX3_clearBig p0 big (fun (big_1 : Nat → Int32) => (vp_in (((44 : Int32) * p0) + (33 : Int32)) 1056 ∧ (∀ big_2 : Nat → Int32, big_2 = upd big_1 (((44 : Int32) * p0) + (33 : Int32)).toNatClampNeg (262144 : Int32) → K big_2))))
set_option maxRecDepth 20000 in
theorem tX3_one {l : Launch} {D : va_G} {ta : Nat → ClassId} {h0 : Nat} {ad : Nat → Nat} {thrown : Int32} {many : Nat → Int32} {isWide : Nat → Int32} {amountOf : Nat → UInt64} {accountOf : Nat → Int32} {dayOf : Nat → Int32} {given : Nat → Int32} {givenOf : Nat → Int32} {runs : Int32} {runWide : Nat → Int32} {runWay : Nat → Int32} {runTotal : Nat → UInt64} {runSteps : Nat → Int32} {lefts : Nat → UInt64} {rights : Nat → UInt64} {results : Nat → UInt64} {wide : Int32} {dn : Int32} {stepsAt : Int32} {keeps : Int32} {order : Nat → Int32} {att : Nat → UInt64} {spareAmount : Nat → UInt64} {spareAccount : Nat → Int32} {spareDay : Nat → Int32} {cured : Int32} {cureOf : Nat → Int32} {shareOf : Nat → Int32} {big : Nat → Int32} {unitsOf : Int64} {spare : Int32} {halfFrom : Nat → Int32} {halfMany : Nat → Int32} {halfDone : Nat → Int32} {halfTotal : Nat → UInt64} {isFar : Int32} {p0 : Int32} {K : (Nat → Int32) → Prop} (hlt : l.stackTraces = false) (h : wX3_one p0 big K) : SMv1 l D ta yX3_one cX3_one 2 2 [.ref h0, .int p0] (mW h0 ad ta thrown many isWide amountOf accountOf dayOf given givenOf runs runWide runWay runTotal runSteps lefts rights results wide dn stepsAt keeps order att spareAmount spareAccount spareDay cured cureOf shareOf big unitsOf spare halfFrom halfMany halfDone halfTotal isFar) (fun (big' : Nat → Int32) => mW h0 ad ta thrown many isWide amountOf accountOf dayOf given givenOf runs runWide runWay runTotal runSteps lefts rights results wide dn stepsAt keeps order att spareAmount spareAccount spareDay cured cureOf shareOf big' unitsOf spare halfFrom halfMany halfDone halfTotal isFar) 0 0 K := by
  refine x_stv1 hlt (plainFor_of_name (by decide +kernel)) (Nat.le_of_ble_eq_true rfl) (fun g G hl hD hT Q => ?_)
  subst hl; subst hD; subst hT
  unfold wX3_one at h
  show X g 2 0 [(0, .ref h0), (1, .int p0)] [] (mW h0 ad (xT g) thrown many isWide amountOf accountOf dayOf given givenOf runs runWide runWay runTotal runSteps lefts rights results wide dn stepsAt keeps order att spareAmount spareAccount spareDay cured cureOf shareOf big unitsOf spare halfFrom halfMany halfDone halfTotal isFar) 0 0
  refine x_aload_n G rfl dX3_one_0 0 rfl ?_
  refine x_iload_n G rfl dX3_one_1 1 rfl ?_
  refine x_cVv1 (As := [.int p0]) (rest := []) G [] XSub.rf (tX3_clearBig G.noTraces h) (lw_V q1889 q1891 qs45 q70 q1892) cdX3_clearBig 3 0 rfl rfl rfl (by decide) (by decide) rfl (Nat.le_of_ble_eq_true rfl) (Nat.zero_le _) (Nat.zero_le _) dX3_one_2 (fun big_1 h => ?_)
  show X g 2 5 [(0, .ref h0), (1, .int p0)] [] (mW h0 ad (xT g) thrown many isWide amountOf accountOf dayOf given givenOf runs runWide runWay runTotal runSteps lefts rights results wide dn stepsAt keeps order att spareAmount spareAccount spareDay cured cureOf shareOf big_1 unitsOf spare halfFrom halfMany halfDone halfTotal isFar) 0 0
  refine x_aload_n G rfl dX3_one_5 0 rfl ?_
  refine m_get_28 G dX3_one_6 ?_
  refine x_bipush (v := (44 : Int32)) G dX3_one_9 (by decide) ?_
  refine x_iload_n G rfl dX3_one_11 1 rfl ?_
  refine x_imul G dX3_one_12 ?_
  refine x_bipush (v := (33 : Int32)) G dX3_one_13 (by decide) ?_
  refine x_iadd G dX3_one_15 ?_
  refine x_ldcw G q1951 dX3_one_16 ?_
  obtain ⟨hz, h⟩ := h
  refine m_ast_28 G hz dX3_one_19 (fun big_2 ebig_2 => ?_)
  replace h := h big_2 ebig_2
  exact x_retv1 G Q dX3_one_20 big_2 h XSub.rf (Nat.le_refl _) (Nat.le_refl _)
theorem cdX3_timesBig : yX3_timesBig.cls = RX3 ∧ yX3_timesBig.cls ≠ "java/lang/invoke/MethodHandle" ∧ yX3_timesBig.cls ≠ "java/lang/invoke/VarHandle" ∧ (parseMethodDescriptor yX3_timesBig.desc).map (fun d => d.parameters.length) = some 2 := by decide +kernel
def wX3_timesBig_L9 (p0 : Int32) (p1 : Int64) (X63 : Int64 → Int32 → (Nat → Int32) → Prop) : Nat → Int64 → Int32 → (Nat → Int32) → Prop
  | 0, _, _, _ => False
  | n + 1, v4_2, v6_3, big_4 => (((((44 : Int32) * p0) + (44 : Int32)) ≤ v6_3 → X63 v4_2 v6_3 big_4) ∧ (¬ (((44 : Int32) * p0) + (44 : Int32)) ≤ v6_3 → (vp_in v6_3 1056 ∧ (∀ y_5 : Int64, y_5 = ((((big_4 v6_3.toNatClampNeg).toInt64 &&& (4294967295 : Int64)) * p1) + v4_2) → (∀ x_6 : Int32, x_6 = y_5.toInt32 → (vp_in v6_3 1056 ∧ (∀ big_7 : Nat → Int32, big_7 = upd big_4 v6_3.toNatClampNeg x_6 → (∀ y_8 : Int64, y_8 = (jlushr y_5 (32 : Int32)) → (∀ x_9 : Int32, x_9 = (v6_3 + (1 : Int32)) → wX3_timesBig_L9 p0 p1 X63 n y_8 x_9 big_7)))))))))
def wX3_timesBig (p0 : Int32) (p1 : Int64) (big : Nat → Int32) (K : (Nat → Int32) → Prop) : Prop := (∀ x_1 : Int32, x_1 = ((44 : Int32) * p0) → (∃ m9 : Nat, wX3_timesBig_L9 p0 p1 (fun (v4_13 : Int64) (v6_14 : Int32) (big_15 : Nat → Int32) => K big_15) m9 (0 : Int64) x_1 big))
set_option maxRecDepth 20000 in
theorem kX3_timesBig_L9 {g : XG} {h0 : Nat} {ad : Nat → Nat} {thrown : Int32} {many : Nat → Int32} {isWide : Nat → Int32} {amountOf : Nat → UInt64} {accountOf : Nat → Int32} {dayOf : Nat → Int32} {given : Nat → Int32} {givenOf : Nat → Int32} {runs : Int32} {runWide : Nat → Int32} {runWay : Nat → Int32} {runTotal : Nat → UInt64} {runSteps : Nat → Int32} {lefts : Nat → UInt64} {rights : Nat → UInt64} {results : Nat → UInt64} {wide : Int32} {dn : Int32} {stepsAt : Int32} {keeps : Int32} {order : Nat → Int32} {att : Nat → UInt64} {spareAmount : Nat → UInt64} {spareAccount : Nat → Int32} {spareDay : Nat → Int32} {cured : Int32} {cureOf : Nat → Int32} {shareOf : Nat → Int32} {unitsOf : Int64} {spare : Int32} {halfFrom : Nat → Int32} {halfMany : Nat → Int32} {halfDone : Nat → Int32} {halfTotal : Nat → UInt64} {isFar : Int32} {p0 : Int32} {p1 : Int64} {X63 : Int64 → Int32 → (Nat → Int32) → Prop} (G : XO g RX3 cX3_timesBig 9 1 0 0) (hX63 : ∀ (v4_10 : Int64) (v6_11 : Int32) (big_12 : Nat → Int32), X63 v4_10 v6_11 big_12 → X g 9 63 [(6, .int v6_11), (4, .long v4_10), (0, .ref h0), (1, .int p0), (2, .long p1)] [] (mW h0 ad (xT g) thrown many isWide amountOf accountOf dayOf given givenOf runs runWide runWay runTotal runSteps lefts rights results wide dn stepsAt keeps order att spareAmount spareAccount spareDay cured cureOf shareOf big_12 unitsOf spare halfFrom halfMany halfDone halfTotal isFar) 0 0) : ∀ (n : Nat) (v4_2 : Int64) (v6_3 : Int32) (big_4 : Nat → Int32), wX3_timesBig_L9 p0 p1 X63 n v4_2 v6_3 big_4 → X g 9 9 [(6, .int v6_3), (4, .long v4_2), (0, .ref h0), (1, .int p0), (2, .long p1)] [] (mW h0 ad (xT g) thrown many isWide amountOf accountOf dayOf given givenOf runs runWide runWay runTotal runSteps lefts rights results wide dn stepsAt keeps order att spareAmount spareAccount spareDay cured cureOf shareOf big_4 unitsOf spare halfFrom halfMany halfDone halfTotal isFar) 0 0 := by
  intro n
  induction n with
  | zero => intro _ _ _ h; exact h.elim
  | succ n ih =>
    intro v4_2 v6_3 big_4 h
    unfold wX3_timesBig_L9 at h
    refine x_iload G dX3_timesBig_9 0 rfl ?_
    refine x_bipush (v := (44 : Int32)) G dX3_timesBig_11 (by decide) ?_
    refine x_iload_n G rfl dX3_timesBig_13 3 rfl ?_
    refine x_imul G dX3_timesBig_14 ?_
    refine x_bipush (v := (44 : Int32)) G dX3_timesBig_15 (by decide) ?_
    refine x_iadd G dX3_timesBig_17 ?_
    refine x_icmp_ge (tgt := 63) G dX3_timesBig_18 rfl (fun c => ?_) (fun c => ?_)
    · replace h := h.1 c
      exact hX63 v4_2 v6_3 big_4 h
    · replace h := h.2 c
      refine x_aload_n G rfl dX3_timesBig_21 2 rfl ?_
      refine m_get_28 G dX3_timesBig_22 ?_
      refine x_iload G dX3_timesBig_25 0 rfl ?_
      obtain ⟨hz, h⟩ := h
      refine m_ald_28 G hz dX3_timesBig_27 ?_
      refine x_i2l G dX3_timesBig_28 ?_
      refine x_ldc2 G q1905 dX3_timesBig_29 ?_
      refine x_land G dX3_timesBig_32 ?_
      refine x_lload_n G rfl dX3_timesBig_33 4 rfl ?_
      refine x_lmul G dX3_timesBig_34 ?_
      refine x_lload G dX3_timesBig_35 1 rfl ?_
      refine x_ladd G dX3_timesBig_37 ?_
      refine x_topl (fun y_5 ey_5 => ?_)
      replace h := h y_5 ey_5
      refine x_lstore (lv' := [(7, .long y_5), (6, .int v6_3), (4, .long v4_2), (0, .ref h0), (1, .int p0), (2, .long p1)]) G dX3_timesBig_38 (by decide) rfl ?_
      refine x_aload_n G rfl dX3_timesBig_40 3 rfl ?_
      refine m_get_28 G dX3_timesBig_41 ?_
      refine x_iload G dX3_timesBig_44 1 rfl ?_
      refine x_lload G dX3_timesBig_46 0 rfl ?_
      refine x_l2i G dX3_timesBig_48 ?_
      refine x_topi (fun x_6 ex_6 => ?_)
      replace h := h x_6 ex_6
      obtain ⟨hz, h⟩ := h
      refine m_ast_28 G hz dX3_timesBig_49 (fun big_7 ebig_7 => ?_)
      replace h := h big_7 ebig_7
      refine x_lload G dX3_timesBig_50 0 rfl ?_
      refine x_bipush (v := (32 : Int32)) G dX3_timesBig_52 (by decide) ?_
      refine x_lushr G dX3_timesBig_54 ?_
      refine x_topl (fun y_8 ey_8 => ?_)
      replace h := h y_8 ey_8
      refine x_lstore (lv' := [(4, .long y_8), (7, .long y_5), (6, .int v6_3), (0, .ref h0), (1, .int p0), (2, .long p1)]) G dX3_timesBig_55 (by decide) rfl ?_
      obtain ⟨x_9, ex_9⟩ : ∃ z : Int32, z = (v6_3 + (1 : Int32)) := ⟨_, rfl⟩
      replace h := h x_9 ex_9
      refine x_iinc (v := x_9) (lv' := [(6, .int x_9), (4, .long y_8), (7, .long y_5), (0, .ref h0), (1, .int p0), (2, .long p1)]) G dX3_timesBig_57 2 rfl (by rw [ex_9]; rfl) (by decide) rfl ?_
      refine x_goto (tgt := 9) G dX3_timesBig_60 rfl ?_
      refine x_lv (lv' := [(6, .int x_9), (4, .long y_8), (0, .ref h0), (1, .int p0), (2, .long p1)]) [0, 1, 3, 4, 5] rfl ?_
      exact ih y_8 x_9 big_7 h
set_option maxRecDepth 20000 in
theorem tX3_timesBig {l : Launch} {D : va_G} {ta : Nat → ClassId} {h0 : Nat} {ad : Nat → Nat} {thrown : Int32} {many : Nat → Int32} {isWide : Nat → Int32} {amountOf : Nat → UInt64} {accountOf : Nat → Int32} {dayOf : Nat → Int32} {given : Nat → Int32} {givenOf : Nat → Int32} {runs : Int32} {runWide : Nat → Int32} {runWay : Nat → Int32} {runTotal : Nat → UInt64} {runSteps : Nat → Int32} {lefts : Nat → UInt64} {rights : Nat → UInt64} {results : Nat → UInt64} {wide : Int32} {dn : Int32} {stepsAt : Int32} {keeps : Int32} {order : Nat → Int32} {att : Nat → UInt64} {spareAmount : Nat → UInt64} {spareAccount : Nat → Int32} {spareDay : Nat → Int32} {cured : Int32} {cureOf : Nat → Int32} {shareOf : Nat → Int32} {big : Nat → Int32} {unitsOf : Int64} {spare : Int32} {halfFrom : Nat → Int32} {halfMany : Nat → Int32} {halfDone : Nat → Int32} {halfTotal : Nat → UInt64} {isFar : Int32} {p0 : Int32} {p1 : Int64} {K : (Nat → Int32) → Prop} (hlt : l.stackTraces = false) (h : wX3_timesBig p0 p1 big K) : SMv1 l D ta yX3_timesBig cX3_timesBig 9 1 [.ref h0, .int p0, .long p1] (mW h0 ad ta thrown many isWide amountOf accountOf dayOf given givenOf runs runWide runWay runTotal runSteps lefts rights results wide dn stepsAt keeps order att spareAmount spareAccount spareDay cured cureOf shareOf big unitsOf spare halfFrom halfMany halfDone halfTotal isFar) (fun (big' : Nat → Int32) => mW h0 ad ta thrown many isWide amountOf accountOf dayOf given givenOf runs runWide runWay runTotal runSteps lefts rights results wide dn stepsAt keeps order att spareAmount spareAccount spareDay cured cureOf shareOf big' unitsOf spare halfFrom halfMany halfDone halfTotal isFar) 0 0 K := by
  refine x_stv1 hlt (plainFor_of_name (by decide +kernel)) (Nat.le_of_ble_eq_true rfl) (fun g G hl hD hT Q => ?_)
  subst hl; subst hD; subst hT
  unfold wX3_timesBig at h
  show X g 9 0 [(0, .ref h0), (1, .int p0), (2, .long p1)] [] (mW h0 ad (xT g) thrown many isWide amountOf accountOf dayOf given givenOf runs runWide runWay runTotal runSteps lefts rights results wide dn stepsAt keeps order att spareAmount spareAccount spareDay cured cureOf shareOf big unitsOf spare halfFrom halfMany halfDone halfTotal isFar) 0 0
  refine x_lconst (v := (0 : Int64)) G dX3_timesBig_0 (by decide) ?_
  refine x_lstore (lv' := [(4, .long (0 : Int64)), (0, .ref h0), (1, .int p0), (2, .long p1)]) G dX3_timesBig_1 (by decide) rfl ?_
  refine x_bipush (v := (44 : Int32)) G dX3_timesBig_3 (by decide) ?_
  refine x_iload_n G rfl dX3_timesBig_5 2 rfl ?_
  refine x_imul G dX3_timesBig_6 ?_
  refine x_topi (fun x_1 ex_1 => ?_)
  replace h := h x_1 ex_1
  refine x_istore (lv' := [(6, .int x_1), (4, .long (0 : Int64)), (0, .ref h0), (1, .int p0), (2, .long p1)]) G dX3_timesBig_7 (by decide) rfl ?_
  obtain ⟨n0, h⟩ := h
  refine kX3_timesBig_L9 G (fun v4_13 v6_14 big_15 h => ?_) n0 _ _ _ h
  · exact x_retv1 G Q dX3_timesBig_63 big_15 h XSub.rf (Nat.le_refl _) (Nat.le_refl _)
theorem cdX3_off : yX3_off.cls = RX3 ∧ yX3_off.cls ≠ "java/lang/invoke/MethodHandle" ∧ yX3_off.cls ≠ "java/lang/invoke/VarHandle" ∧ (parseMethodDescriptor yX3_off.desc).map (fun d => d.parameters.length) = some 2 := by decide +kernel
def wX3_off_J137 (p1 : Int32) (v3_5 : Int32) (X57 : Int32 → (Nat → Int32) → Prop) (X159 : Int32 → (Nat → Int32) → Prop) : (Nat → Int32) → Prop := fun (big_12 : Nat → Int32) => (wX3_tens p1 (fun (r_13 : Int64) => (wX3_timesBig (1 : Int32) ((2 : Int64) * r_13) big_12 (fun (big_14 : Nat → Int32) => (wX3_compareBig (1 : Int32) (2 : Int32) big_14 (fun (r_15 : Int32) => ((r_15 < (0 : Int32) → (∀ x_16 : Int32, x_16 = (v3_5 + (1 : Int32)) → X57 x_16 big_14)) ∧ (¬ r_15 < (0 : Int32) → X159 v3_5 big_14))))))))
def wX3_off_J85 (rights : Nat → UInt64) (results : Nat → UInt64) (p0 : Int32) (p1 : Int32) (v3_5 : Int32) (X57 : Int32 → (Nat → Int32) → Prop) (X159 : Int32 → (Nat → Int32) → Prop) : (Nat → Int32) → Prop := fun (big_7 : Nat → Int32) => (vp_in (((60 : Int32) * p0) + v3_5) 3600 ∧ (wX3_addNumber (0 : Int32) (rights (((60 : Int32) * p0) + v3_5).toNatClampNeg) big_7 (fun (big_8 : Nat → Int32) => (wX3_copyBig (1 : Int32) (0 : Int32) big_8 (fun (big_9 : Nat → Int32) => (vp_in (((60 : Int32) * p0) + v3_5) 3600 ∧ (wX3_addNumber (1 : Int32) (FP.dneg (results (((60 : Int32) * p0) + v3_5).toNatClampNeg)) big_9 (fun (big_10 : Nat → Int32) => (wX3_signOf (1 : Int32) big_10 (fun (r_11 : Int32) => (((0 : Int32) ≤ r_11 → (wX3_off_J137 p1 v3_5 (X57) (X159) big_10)) ∧ (¬ (0 : Int32) ≤ r_11 → (wX3_negate (1 : Int32) big_10 (fun (big_21 : Nat → Int32) => (wX3_off_J137 p1 v3_5 (X57) (X159) big_21)))))))))))))))
def wX3_off_L57 (runSteps : Nat → Int32) (lefts : Nat → UInt64) (rights : Nat → UInt64) (results : Nat → UInt64) (p0 : Int32) (p1 : Int32) (X159 : Int32 → (Nat → Int32) → Prop) (X167 : Int32 → (Nat → Int32) → Prop) : Nat → Int32 → (Nat → Int32) → Prop
  | 0, _, _ => False
  | n + 1, v3_5, big_6 => (vp_in p0 60 ∧ (((runSteps p0.toNatClampNeg) ≤ v3_5 → X167 v3_5 big_6) ∧ (¬ (runSteps p0.toNatClampNeg) ≤ v3_5 → ((¬ v3_5 = (0 : Int32) → (wX3_off_J85 rights results p0 p1 v3_5 (wX3_off_L57 runSteps lefts rights results p0 p1 X159 X167 n) (X159) big_6)) ∧ (v3_5 = (0 : Int32) → (vp_in ((60 : Int32) * p0) 3600 ∧ (wX3_addNumber (0 : Int32) (lefts ((60 : Int32) * p0).toNatClampNeg) big_6 (fun (big_26 : Nat → Int32) => (wX3_off_J85 rights results p0 p1 v3_5 (wX3_off_L57 runSteps lefts rights results p0 p1 X159 X167 n) (X159) big_26)))))))))
def wX3_off (p0 : Int32) (p1 : Int32) (thrown : Int32) (runs : Int32) (runWay : Nat → Int32) (runSteps : Nat → Int32) (lefts : Nat → UInt64) (rights : Nat → UInt64) (results : Nat → UInt64) (big : Nat → Int32) (K : Int32 → Int32 → (Nat → Int32) → Prop) : Prop := (wX3_noRun p0 runs (fun (r_1 : Int32) => ((r_1 = (0 : Int32) → (wX3_in p1.toInt64 (0 : Int64) (6 : Int64) (fun (r_2 : Int32) => ((¬ r_2 = (0 : Int32) → (vp_in p0 60 ∧ (((runWay p0.toNatClampNeg) ≤ (6 : Int32) → (wX3_one (2 : Int32) big (fun (big_3 : Nat → Int32) => (wX3_clearBig (0 : Int32) big_3 (fun (big_4 : Nat → Int32) => (∃ m57 : Nat, wX3_off_L57 runSteps lefts rights results p0 p1 (fun (v3_31 : Int32) (big_32 : Nat → Int32) => K v3_31 (0 : Int32) big_32) (fun (v3_33 : Int32) (big_34 : Nat → Int32) => K (-1 : Int32) (0 : Int32) big_34) m57 (0 : Int32) big_4)))))) ∧ (¬ (runWay p0.toNatClampNeg) ≤ (6 : Int32) → K (-104 : Int32) (0 : Int32) big)))) ∧ (r_2 = (0 : Int32) → K (-102 : Int32) (0 : Int32) big))))) ∧ (¬ r_1 = (0 : Int32) → K (-101 : Int32) (0 : Int32) big))))
set_option maxRecDepth 20000 in
theorem kX3_off_J137 {g : XG} {h0 : Nat} {ad : Nat → Nat} {many : Nat → Int32} {isWide : Nat → Int32} {amountOf : Nat → UInt64} {accountOf : Nat → Int32} {dayOf : Nat → Int32} {given : Nat → Int32} {givenOf : Nat → Int32} {runs : Int32} {runWide : Nat → Int32} {runWay : Nat → Int32} {runTotal : Nat → UInt64} {runSteps : Nat → Int32} {lefts : Nat → UInt64} {rights : Nat → UInt64} {results : Nat → UInt64} {wide : Int32} {dn : Int32} {stepsAt : Int32} {keeps : Int32} {order : Nat → Int32} {att : Nat → UInt64} {spareAmount : Nat → UInt64} {spareAccount : Nat → Int32} {spareDay : Nat → Int32} {cured : Int32} {cureOf : Nat → Int32} {shareOf : Nat → Int32} {unitsOf : Int64} {spare : Int32} {halfFrom : Nat → Int32} {halfMany : Nat → Int32} {halfDone : Nat → Int32} {halfTotal : Nat → UInt64} {isFar : Int32} {p0 : Int32} {p1 : Int32} {v3_5 : Int32} {X57 : Int32 → (Nat → Int32) → Prop} {X159 : Int32 → (Nat → Int32) → Prop} (G : XO g RX3 cX3_off 4 5 0 0) (hX57 : ∀ (v3_17 : Int32) (big_18 : Nat → Int32), X57 v3_17 big_18 → X g 4 57 [(3, .int v3_17), (0, .ref h0), (1, .int p0), (2, .int p1)] [] (mW h0 ad (xT g) (0 : Int32) many isWide amountOf accountOf dayOf given givenOf runs runWide runWay runTotal runSteps lefts rights results wide dn stepsAt keeps order att spareAmount spareAccount spareDay cured cureOf shareOf big_18 unitsOf spare halfFrom halfMany halfDone halfTotal isFar) 0 0) (hX159 : ∀ (v3_19 : Int32) (big_20 : Nat → Int32), X159 v3_19 big_20 → X g 4 159 [(3, .int v3_19), (0, .ref h0), (1, .int p0), (2, .int p1)] [] (mW h0 ad (xT g) (0 : Int32) many isWide amountOf accountOf dayOf given givenOf runs runWide runWay runTotal runSteps lefts rights results wide dn stepsAt keeps order att spareAmount spareAccount spareDay cured cureOf shareOf big_20 unitsOf spare halfFrom halfMany halfDone halfTotal isFar) 0 0) : ∀ (big_12 : Nat → Int32), wX3_off_J137 p1 v3_5 X57 X159 big_12 → X g 4 137 [(0, .ref h0), (1, .int p0), (2, .int p1), (3, .int v3_5)] [] (mW h0 ad (xT g) (0 : Int32) many isWide amountOf accountOf dayOf given givenOf runs runWide runWay runTotal runSteps lefts rights results wide dn stepsAt keeps order att spareAmount spareAccount spareDay cured cureOf shareOf big_12 unitsOf spare halfFrom halfMany halfDone halfTotal isFar) 0 0 := by
  intro big_12 h
  unfold wX3_off_J137 at h
  refine x_aload_n G rfl dX3_off_137 0 rfl ?_
  refine x_iconst (v := (1 : Int32)) G dX3_off_138 (by decide) ?_
  refine x_ldc2 G q1789 dX3_off_139 ?_
  refine x_iload_n G rfl dX3_off_142 2 rfl ?_
  refine x_cPl (As := [.int p1]) (rest := [.long (2 : Int64), .int (1 : Int32), .ref h0]) G (tX3_tens G.noTraces h) (lw_S q1780 q1781 q70 q1782) cdX3_tens (by decide) (by decide) rfl (Nat.le_of_ble_eq_true rfl) (Nat.zero_le _) (Nat.zero_le _) dX3_off_143 (fun r_13 h => ?_)
  refine x_lmul G dX3_off_146 ?_
  refine x_cVv1 (As := [.int (1 : Int32), .long ((2 : Int64) * r_13)]) (rest := []) G [] XSub.rf (tX3_timesBig G.noTraces h) (lw_V q1952 q1954 qs56 q70 q1955) cdX3_timesBig 3 0 rfl rfl rfl (by decide) (by decide) rfl (Nat.le_of_ble_eq_true rfl) (Nat.zero_le _) (Nat.zero_le _) dX3_off_147 (fun big_14 h => ?_)
  show X g 4 150 [(0, .ref h0), (1, .int p0), (2, .int p1), (3, .int v3_5)] [] (mW h0 ad (xT g) (0 : Int32) many isWide amountOf accountOf dayOf given givenOf runs runWide runWay runTotal runSteps lefts rights results wide dn stepsAt keeps order att spareAmount spareAccount spareDay cured cureOf shareOf big_14 unitsOf spare halfFrom halfMany halfDone halfTotal isFar) 0 0
  refine x_aload_n G rfl dX3_off_150 0 rfl ?_
  refine x_iconst (v := (1 : Int32)) G dX3_off_151 (by decide) ?_
  refine x_iconst (v := (2 : Int32)) G dX3_off_152 (by decide) ?_
  refine x_cVi0 (As := [.int (1 : Int32), .int (2 : Int32)]) (rest := []) G [] XSub.rf (tX3_compareBig G.noTraces h) (lw_V q1939 q1941 qs54 q70 q1942) cdX3_compareBig 3 0 rfl rfl rfl (by decide) (by decide) rfl (Nat.le_of_ble_eq_true rfl) (Nat.zero_le _) (Nat.zero_le _) dX3_off_153 (fun r_15 h => ?_)
  show X g 4 156 [(0, .ref h0), (1, .int p0), (2, .int p1), (3, .int v3_5)] [.int r_15] (mW h0 ad (xT g) (0 : Int32) many isWide amountOf accountOf dayOf given givenOf runs runWide runWay runTotal runSteps lefts rights results wide dn stepsAt keeps order att spareAmount spareAccount spareDay cured cureOf shareOf big_14 unitsOf spare halfFrom halfMany halfDone halfTotal isFar) 0 0
  refine x_if_lt (tgt := 161) G dX3_off_156 rfl (fun c => ?_) (fun c => ?_)
  · replace h := h.1 c
    obtain ⟨x_16, ex_16⟩ : ∃ z : Int32, z = (v3_5 + (1 : Int32)) := ⟨_, rfl⟩
    replace h := h x_16 ex_16
    refine x_iinc (v := x_16) (lv' := [(3, .int x_16), (0, .ref h0), (1, .int p0), (2, .int p1)]) G dX3_off_161 3 rfl (by rw [ex_16]; rfl) (by decide) rfl ?_
    refine x_goto (tgt := 57) G dX3_off_164 rfl ?_
    exact hX57 x_16 big_14 h
  · replace h := h.2 c
    refine x_lv (lv' := [(3, .int v3_5), (0, .ref h0), (1, .int p0), (2, .int p1)]) [3, 0, 1, 2] rfl ?_
    exact hX159 v3_5 big_14 h
set_option maxRecDepth 20000 in
theorem kX3_off_J85 {g : XG} {h0 : Nat} {ad : Nat → Nat} {many : Nat → Int32} {isWide : Nat → Int32} {amountOf : Nat → UInt64} {accountOf : Nat → Int32} {dayOf : Nat → Int32} {given : Nat → Int32} {givenOf : Nat → Int32} {runs : Int32} {runWide : Nat → Int32} {runWay : Nat → Int32} {runTotal : Nat → UInt64} {runSteps : Nat → Int32} {lefts : Nat → UInt64} {rights : Nat → UInt64} {results : Nat → UInt64} {wide : Int32} {dn : Int32} {stepsAt : Int32} {keeps : Int32} {order : Nat → Int32} {att : Nat → UInt64} {spareAmount : Nat → UInt64} {spareAccount : Nat → Int32} {spareDay : Nat → Int32} {cured : Int32} {cureOf : Nat → Int32} {shareOf : Nat → Int32} {unitsOf : Int64} {spare : Int32} {halfFrom : Nat → Int32} {halfMany : Nat → Int32} {halfDone : Nat → Int32} {halfTotal : Nat → UInt64} {isFar : Int32} {p0 : Int32} {p1 : Int32} {v3_5 : Int32} {X57 : Int32 → (Nat → Int32) → Prop} {X159 : Int32 → (Nat → Int32) → Prop} (G : XO g RX3 cX3_off 4 5 0 0) (hX57 : ∀ (v3_22 : Int32) (big_23 : Nat → Int32), X57 v3_22 big_23 → X g 4 57 [(3, .int v3_22), (0, .ref h0), (1, .int p0), (2, .int p1)] [] (mW h0 ad (xT g) (0 : Int32) many isWide amountOf accountOf dayOf given givenOf runs runWide runWay runTotal runSteps lefts rights results wide dn stepsAt keeps order att spareAmount spareAccount spareDay cured cureOf shareOf big_23 unitsOf spare halfFrom halfMany halfDone halfTotal isFar) 0 0) (hX159 : ∀ (v3_24 : Int32) (big_25 : Nat → Int32), X159 v3_24 big_25 → X g 4 159 [(3, .int v3_24), (0, .ref h0), (1, .int p0), (2, .int p1)] [] (mW h0 ad (xT g) (0 : Int32) many isWide amountOf accountOf dayOf given givenOf runs runWide runWay runTotal runSteps lefts rights results wide dn stepsAt keeps order att spareAmount spareAccount spareDay cured cureOf shareOf big_25 unitsOf spare halfFrom halfMany halfDone halfTotal isFar) 0 0) : ∀ (big_7 : Nat → Int32), wX3_off_J85 rights results p0 p1 v3_5 X57 X159 big_7 → X g 4 85 [(0, .ref h0), (1, .int p0), (2, .int p1), (3, .int v3_5)] [] (mW h0 ad (xT g) (0 : Int32) many isWide amountOf accountOf dayOf given givenOf runs runWide runWay runTotal runSteps lefts rights results wide dn stepsAt keeps order att spareAmount spareAccount spareDay cured cureOf shareOf big_7 unitsOf spare halfFrom halfMany halfDone halfTotal isFar) 0 0 := by
  intro big_7 h
  unfold wX3_off_J85 at h
  refine x_aload_n G rfl dX3_off_85 0 rfl ?_
  refine x_iconst (v := (0 : Int32)) G dX3_off_86 (by decide) ?_
  refine x_aload_n G rfl dX3_off_87 0 rfl ?_
  refine m_get_14 G dX3_off_88 ?_
  refine x_bipush (v := (60 : Int32)) G dX3_off_91 (by decide) ?_
  refine x_iload_n G rfl dX3_off_93 1 rfl ?_
  refine x_imul G dX3_off_94 ?_
  refine x_iload_n G rfl dX3_off_95 3 rfl ?_
  refine x_iadd G dX3_off_96 ?_
  obtain ⟨hz, h⟩ := h
  refine m_ald_14 G hz dX3_off_97 ?_
  refine x_cVv1 (As := [.int (0 : Int32), .double (rights (((60 : Int32) * p0) + v3_5).toNatClampNeg)]) (rest := []) G [] XSub.rf (tX3_addNumber G.noTraces h) (lw_V q1893 q1895 qs46 q70 q1896) cdX3_addNumber 3 0 rfl rfl rfl (by decide) (by decide) rfl (Nat.le_of_ble_eq_true rfl) (Nat.zero_le _) (Nat.zero_le _) dX3_off_98 (fun big_8 h => ?_)
  show X g 4 101 [(0, .ref h0), (1, .int p0), (2, .int p1), (3, .int v3_5)] [] (mW h0 ad (xT g) (0 : Int32) many isWide amountOf accountOf dayOf given givenOf runs runWide runWay runTotal runSteps lefts rights results wide dn stepsAt keeps order att spareAmount spareAccount spareDay cured cureOf shareOf big_8 unitsOf spare halfFrom halfMany halfDone halfTotal isFar) 0 0
  refine x_aload_n G rfl dX3_off_101 0 rfl ?_
  refine x_iconst (v := (1 : Int32)) G dX3_off_102 (by decide) ?_
  refine x_iconst (v := (0 : Int32)) G dX3_off_103 (by decide) ?_
  refine x_cVv1 (As := [.int (1 : Int32), .int (0 : Int32)]) (rest := []) G [] XSub.rf (tX3_copyBig G.noTraces h) (lw_V q1918 q1920 qs52 q70 q1921) cdX3_copyBig 3 0 rfl rfl rfl (by decide) (by decide) rfl (Nat.le_of_ble_eq_true rfl) (Nat.zero_le _) (Nat.zero_le _) dX3_off_104 (fun big_9 h => ?_)
  show X g 4 107 [(0, .ref h0), (1, .int p0), (2, .int p1), (3, .int v3_5)] [] (mW h0 ad (xT g) (0 : Int32) many isWide amountOf accountOf dayOf given givenOf runs runWide runWay runTotal runSteps lefts rights results wide dn stepsAt keeps order att spareAmount spareAccount spareDay cured cureOf shareOf big_9 unitsOf spare halfFrom halfMany halfDone halfTotal isFar) 0 0
  refine x_aload_n G rfl dX3_off_107 0 rfl ?_
  refine x_iconst (v := (1 : Int32)) G dX3_off_108 (by decide) ?_
  refine x_aload_n G rfl dX3_off_109 0 rfl ?_
  refine m_get_15 G dX3_off_110 ?_
  refine x_bipush (v := (60 : Int32)) G dX3_off_113 (by decide) ?_
  refine x_iload_n G rfl dX3_off_115 1 rfl ?_
  refine x_imul G dX3_off_116 ?_
  refine x_iload_n G rfl dX3_off_117 3 rfl ?_
  refine x_iadd G dX3_off_118 ?_
  obtain ⟨hz, h⟩ := h
  refine m_ald_15 G hz dX3_off_119 ?_
  refine x_dneg G dX3_off_120 ?_
  refine x_cVv1 (As := [.int (1 : Int32), .double (FP.dneg (results (((60 : Int32) * p0) + v3_5).toNatClampNeg))]) (rest := []) G [] XSub.rf (tX3_addNumber G.noTraces h) (lw_V q1893 q1895 qs46 q70 q1896) cdX3_addNumber 3 0 rfl rfl rfl (by decide) (by decide) rfl (Nat.le_of_ble_eq_true rfl) (Nat.zero_le _) (Nat.zero_le _) dX3_off_121 (fun big_10 h => ?_)
  show X g 4 124 [(0, .ref h0), (1, .int p0), (2, .int p1), (3, .int v3_5)] [] (mW h0 ad (xT g) (0 : Int32) many isWide amountOf accountOf dayOf given givenOf runs runWide runWay runTotal runSteps lefts rights results wide dn stepsAt keeps order att spareAmount spareAccount spareDay cured cureOf shareOf big_10 unitsOf spare halfFrom halfMany halfDone halfTotal isFar) 0 0
  refine x_aload_n G rfl dX3_off_124 0 rfl ?_
  refine x_iconst (v := (1 : Int32)) G dX3_off_125 (by decide) ?_
  refine x_cVi0 (As := [.int (1 : Int32)]) (rest := []) G [] XSub.rf (tX3_signOf G.noTraces h) (lw_V q1914 q1916 qs51 q70 q1917) cdX3_signOf 3 0 rfl rfl rfl (by decide) (by decide) rfl (Nat.le_of_ble_eq_true rfl) (Nat.zero_le _) (Nat.zero_le _) dX3_off_126 (fun r_11 h => ?_)
  show X g 4 129 [(0, .ref h0), (1, .int p0), (2, .int p1), (3, .int v3_5)] [.int r_11] (mW h0 ad (xT g) (0 : Int32) many isWide amountOf accountOf dayOf given givenOf runs runWide runWay runTotal runSteps lefts rights results wide dn stepsAt keeps order att spareAmount spareAccount spareDay cured cureOf shareOf big_10 unitsOf spare halfFrom halfMany halfDone halfTotal isFar) 0 0
  refine x_if_ge (tgt := 137) G dX3_off_129 rfl (fun c => ?_) (fun c => ?_)
  · replace h := h.1 c
    refine kX3_off_J137 G hX57 hX159 _ h
  · replace h := h.2 c
    refine x_aload_n G rfl dX3_off_132 0 rfl ?_
    refine x_iconst (v := (1 : Int32)) G dX3_off_133 (by decide) ?_
    refine x_cVv1 (As := [.int (1 : Int32)]) (rest := []) G [] XSub.rf (tX3_negate G.noTraces h) (lw_V q1901 q1903 qs48 q70 q1904) cdX3_negate 3 0 rfl rfl rfl (by decide) (by decide) rfl (Nat.le_of_ble_eq_true rfl) (Nat.zero_le _) (Nat.zero_le _) dX3_off_134 (fun big_21 h => ?_)
    show X g 4 137 [(0, .ref h0), (1, .int p0), (2, .int p1), (3, .int v3_5)] [] (mW h0 ad (xT g) (0 : Int32) many isWide amountOf accountOf dayOf given givenOf runs runWide runWay runTotal runSteps lefts rights results wide dn stepsAt keeps order att spareAmount spareAccount spareDay cured cureOf shareOf big_21 unitsOf spare halfFrom halfMany halfDone halfTotal isFar) 0 0
    refine kX3_off_J137 G hX57 hX159 _ h
set_option maxRecDepth 20000 in
theorem kX3_off_L57 {g : XG} {h0 : Nat} {ad : Nat → Nat} {many : Nat → Int32} {isWide : Nat → Int32} {amountOf : Nat → UInt64} {accountOf : Nat → Int32} {dayOf : Nat → Int32} {given : Nat → Int32} {givenOf : Nat → Int32} {runs : Int32} {runWide : Nat → Int32} {runWay : Nat → Int32} {runTotal : Nat → UInt64} {runSteps : Nat → Int32} {lefts : Nat → UInt64} {rights : Nat → UInt64} {results : Nat → UInt64} {wide : Int32} {dn : Int32} {stepsAt : Int32} {keeps : Int32} {order : Nat → Int32} {att : Nat → UInt64} {spareAmount : Nat → UInt64} {spareAccount : Nat → Int32} {spareDay : Nat → Int32} {cured : Int32} {cureOf : Nat → Int32} {shareOf : Nat → Int32} {unitsOf : Int64} {spare : Int32} {halfFrom : Nat → Int32} {halfMany : Nat → Int32} {halfDone : Nat → Int32} {halfTotal : Nat → UInt64} {isFar : Int32} {p0 : Int32} {p1 : Int32} {X159 : Int32 → (Nat → Int32) → Prop} {X167 : Int32 → (Nat → Int32) → Prop} (G : XO g RX3 cX3_off 4 5 0 0) (hX159 : ∀ (v3_27 : Int32) (big_28 : Nat → Int32), X159 v3_27 big_28 → X g 4 159 [(3, .int v3_27), (0, .ref h0), (1, .int p0), (2, .int p1)] [] (mW h0 ad (xT g) (0 : Int32) many isWide amountOf accountOf dayOf given givenOf runs runWide runWay runTotal runSteps lefts rights results wide dn stepsAt keeps order att spareAmount spareAccount spareDay cured cureOf shareOf big_28 unitsOf spare halfFrom halfMany halfDone halfTotal isFar) 0 0) (hX167 : ∀ (v3_29 : Int32) (big_30 : Nat → Int32), X167 v3_29 big_30 → X g 4 167 [(3, .int v3_29), (0, .ref h0), (1, .int p0), (2, .int p1)] [] (mW h0 ad (xT g) (0 : Int32) many isWide amountOf accountOf dayOf given givenOf runs runWide runWay runTotal runSteps lefts rights results wide dn stepsAt keeps order att spareAmount spareAccount spareDay cured cureOf shareOf big_30 unitsOf spare halfFrom halfMany halfDone halfTotal isFar) 0 0) : ∀ (n : Nat) (v3_5 : Int32) (big_6 : Nat → Int32), wX3_off_L57 runSteps lefts rights results p0 p1 X159 X167 n v3_5 big_6 → X g 4 57 [(3, .int v3_5), (0, .ref h0), (1, .int p0), (2, .int p1)] [] (mW h0 ad (xT g) (0 : Int32) many isWide amountOf accountOf dayOf given givenOf runs runWide runWay runTotal runSteps lefts rights results wide dn stepsAt keeps order att spareAmount spareAccount spareDay cured cureOf shareOf big_6 unitsOf spare halfFrom halfMany halfDone halfTotal isFar) 0 0 := by
  intro n
  induction n with
  | zero => intro _ _ h; exact h.elim
  | succ n ih =>
    intro v3_5 big_6 h
    unfold wX3_off_L57 at h
    refine x_iload_n G rfl dX3_off_57 0 rfl ?_
    refine x_aload_n G rfl dX3_off_58 1 rfl ?_
    refine m_get_12 G dX3_off_59 ?_
    refine x_iload_n G rfl dX3_off_62 2 rfl ?_
    obtain ⟨hz, h⟩ := h
    refine m_ald_12 G hz dX3_off_63 ?_
    refine x_icmp_ge (tgt := 167) G dX3_off_64 rfl (fun c => ?_) (fun c => ?_)
    · replace h := h.1 c
      exact hX167 v3_5 big_6 h
    · replace h := h.2 c
      refine x_iload_n G rfl dX3_off_67 0 rfl ?_
      refine x_if_ne (tgt := 85) G dX3_off_68 rfl (fun c => ?_) (fun c => ?_)
      · replace h := h.1 c
        refine x_lv (lv' := [(0, .ref h0), (1, .int p0), (2, .int p1), (3, .int v3_5)]) [1, 2, 3, 0] rfl ?_
        refine kX3_off_J85 G ih hX159 _ h
      · replace h := h.2 c
        refine x_aload_n G rfl dX3_off_71 1 rfl ?_
        refine x_iconst (v := (0 : Int32)) G dX3_off_72 (by decide) ?_
        refine x_aload_n G rfl dX3_off_73 1 rfl ?_
        refine m_get_13 G dX3_off_74 ?_
        refine x_bipush (v := (60 : Int32)) G dX3_off_77 (by decide) ?_
        refine x_iload_n G rfl dX3_off_79 2 rfl ?_
        refine x_imul G dX3_off_80 ?_
        obtain ⟨hz, h⟩ := h
        refine m_ald_13 G hz dX3_off_81 ?_
        refine x_cVv1 (As := [.int (0 : Int32), .double (lefts ((60 : Int32) * p0).toNatClampNeg)]) (rest := []) G [] XSub.rf (tX3_addNumber G.noTraces h) (lw_V q1893 q1895 qs46 q70 q1896) cdX3_addNumber 3 0 rfl rfl rfl (by decide) (by decide) rfl (Nat.le_of_ble_eq_true rfl) (Nat.zero_le _) (Nat.zero_le _) dX3_off_82 (fun big_26 h => ?_)
        show X g 4 85 [(3, .int v3_5), (0, .ref h0), (1, .int p0), (2, .int p1)] [] (mW h0 ad (xT g) (0 : Int32) many isWide amountOf accountOf dayOf given givenOf runs runWide runWay runTotal runSteps lefts rights results wide dn stepsAt keeps order att spareAmount spareAccount spareDay cured cureOf shareOf big_26 unitsOf spare halfFrom halfMany halfDone halfTotal isFar) 0 0
        refine x_lv (lv' := [(0, .ref h0), (1, .int p0), (2, .int p1), (3, .int v3_5)]) [1, 2, 3, 0] rfl ?_
        refine kX3_off_J85 G ih hX159 _ h
set_option maxRecDepth 20000 in
theorem tX3_off {l : Launch} {D : va_G} {ta : Nat → ClassId} {h0 : Nat} {ad : Nat → Nat} {thrown : Int32} {many : Nat → Int32} {isWide : Nat → Int32} {amountOf : Nat → UInt64} {accountOf : Nat → Int32} {dayOf : Nat → Int32} {given : Nat → Int32} {givenOf : Nat → Int32} {runs : Int32} {runWide : Nat → Int32} {runWay : Nat → Int32} {runTotal : Nat → UInt64} {runSteps : Nat → Int32} {lefts : Nat → UInt64} {rights : Nat → UInt64} {results : Nat → UInt64} {wide : Int32} {dn : Int32} {stepsAt : Int32} {keeps : Int32} {order : Nat → Int32} {att : Nat → UInt64} {spareAmount : Nat → UInt64} {spareAccount : Nat → Int32} {spareDay : Nat → Int32} {cured : Int32} {cureOf : Nat → Int32} {shareOf : Nat → Int32} {big : Nat → Int32} {unitsOf : Int64} {spare : Int32} {halfFrom : Nat → Int32} {halfMany : Nat → Int32} {halfDone : Nat → Int32} {halfTotal : Nat → UInt64} {isFar : Int32} {p0 : Int32} {p1 : Int32} {K : Int32 → Int32 → (Nat → Int32) → Prop} (hlt : l.stackTraces = false) (h : wX3_off p0 p1 thrown runs runWay runSteps lefts rights results big K) : SMi2 l D ta yX3_off cX3_off 4 FieldType.int 5 [.ref h0, .int p0, .int p1] (mW h0 ad ta thrown many isWide amountOf accountOf dayOf given givenOf runs runWide runWay runTotal runSteps lefts rights results wide dn stepsAt keeps order att spareAmount spareAccount spareDay cured cureOf shareOf big unitsOf spare halfFrom halfMany halfDone halfTotal isFar) (fun (thrown' : Int32) (big' : Nat → Int32) => mW h0 ad ta thrown' many isWide amountOf accountOf dayOf given givenOf runs runWide runWay runTotal runSteps lefts rights results wide dn stepsAt keeps order att spareAmount spareAccount spareDay cured cureOf shareOf big' unitsOf spare halfFrom halfMany halfDone halfTotal isFar) 0 0 K := by
  refine x_sti2 hlt (plainFor_of_name (by decide +kernel)) (Nat.le_of_ble_eq_true rfl) (fun g G hl hD hT Q => ?_)
  subst hl; subst hD; subst hT
  unfold wX3_off at h
  show X g 4 0 [(0, .ref h0), (1, .int p0), (2, .int p1)] [] (mW h0 ad (xT g) thrown many isWide amountOf accountOf dayOf given givenOf runs runWide runWay runTotal runSteps lefts rights results wide dn stepsAt keeps order att spareAmount spareAccount spareDay cured cureOf shareOf big unitsOf spare halfFrom halfMany halfDone halfTotal isFar) 0 0
  refine x_aload_n G rfl dX3_off_0 0 rfl ?_
  refine x_iconst (v := (0 : Int32)) G dX3_off_1 (by decide) ?_
  refine m_put_0 G dX3_off_2 ?_
  refine x_aload_n G rfl dX3_off_5 0 rfl ?_
  refine x_iload_n G rfl dX3_off_6 1 rfl ?_
  refine x_cVi0 (As := [.int p0]) (rest := []) G [] XSub.rf (tX3_noRun G.noTraces h) (lw_V q1867 q1869 qs42 q70 q1870) cdX3_noRun 3 0 rfl rfl rfl (by decide) (by decide) rfl (Nat.le_of_ble_eq_true rfl) (Nat.zero_le _) (Nat.zero_le _) dX3_off_7 (fun r_1 h => ?_)
  show X g 4 10 [(0, .ref h0), (1, .int p0), (2, .int p1)] [.int r_1] (mW h0 ad (xT g) (0 : Int32) many isWide amountOf accountOf dayOf given givenOf runs runWide runWay runTotal runSteps lefts rights results wide dn stepsAt keeps order att spareAmount spareAccount spareDay cured cureOf shareOf big unitsOf spare halfFrom halfMany halfDone halfTotal isFar) 0 0
  refine x_if_eq (tgt := 16) G dX3_off_10 rfl (fun c => ?_) (fun c => ?_)
  · replace h := h.1 c
    refine x_iload_n G rfl dX3_off_16 2 rfl ?_
    refine x_i2l G dX3_off_17 ?_
    refine x_lconst (v := (0 : Int64)) G dX3_off_18 (by decide) ?_
    refine x_ldc2 G q1701 dX3_off_19 ?_
    refine x_cPi (As := [.long p1.toInt64, .long (0 : Int64), .long (6 : Int64)]) (rest := []) G (tX3_in G.noTraces h) (lw_S q1650 q1651 q70 q1652) cdX3_in (by decide) (by decide) rfl (Nat.le_of_ble_eq_true rfl) (Nat.zero_le _) (Nat.zero_le _) dX3_off_22 (fun r_2 h => ?_)
    refine x_if_ne (tgt := 31) G dX3_off_25 rfl (fun c => ?_) (fun c => ?_)
    · replace h := h.1 c
      refine x_aload_n G rfl dX3_off_31 0 rfl ?_
      refine m_get_10 G dX3_off_32 ?_
      refine x_iload_n G rfl dX3_off_35 1 rfl ?_
      obtain ⟨hz, h⟩ := h
      refine m_ald_10 G hz dX3_off_36 ?_
      refine x_bipush (v := (6 : Int32)) G dX3_off_37 (by decide) ?_
      refine x_icmp_le (tgt := 45) G dX3_off_39 rfl (fun c => ?_) (fun c => ?_)
      · replace h := h.1 c
        refine x_aload_n G rfl dX3_off_45 0 rfl ?_
        refine x_iconst (v := (2 : Int32)) G dX3_off_46 (by decide) ?_
        refine x_cVv1 (As := [.int (2 : Int32)]) (rest := []) G [] XSub.rf (tX3_one G.noTraces h) (lw_V q1947 q1949 qs55 q70 q1950) cdX3_one 3 0 rfl rfl rfl (by decide) (by decide) rfl (Nat.le_of_ble_eq_true rfl) (Nat.zero_le _) (Nat.zero_le _) dX3_off_47 (fun big_3 h => ?_)
        show X g 4 50 [(0, .ref h0), (1, .int p0), (2, .int p1)] [] (mW h0 ad (xT g) (0 : Int32) many isWide amountOf accountOf dayOf given givenOf runs runWide runWay runTotal runSteps lefts rights results wide dn stepsAt keeps order att spareAmount spareAccount spareDay cured cureOf shareOf big_3 unitsOf spare halfFrom halfMany halfDone halfTotal isFar) 0 0
        refine x_aload_n G rfl dX3_off_50 0 rfl ?_
        refine x_iconst (v := (0 : Int32)) G dX3_off_51 (by decide) ?_
        refine x_cVv1 (As := [.int (0 : Int32)]) (rest := []) G [] XSub.rf (tX3_clearBig G.noTraces h) (lw_V q1889 q1891 qs45 q70 q1892) cdX3_clearBig 3 0 rfl rfl rfl (by decide) (by decide) rfl (Nat.le_of_ble_eq_true rfl) (Nat.zero_le _) (Nat.zero_le _) dX3_off_52 (fun big_4 h => ?_)
        show X g 4 55 [(0, .ref h0), (1, .int p0), (2, .int p1)] [] (mW h0 ad (xT g) (0 : Int32) many isWide amountOf accountOf dayOf given givenOf runs runWide runWay runTotal runSteps lefts rights results wide dn stepsAt keeps order att spareAmount spareAccount spareDay cured cureOf shareOf big_4 unitsOf spare halfFrom halfMany halfDone halfTotal isFar) 0 0
        refine x_iconst (v := (0 : Int32)) G dX3_off_55 (by decide) ?_
        refine x_istore_n (lv' := [(3, .int (0 : Int32)), (0, .ref h0), (1, .int p0), (2, .int p1)]) G rfl dX3_off_56 (by decide) rfl ?_
        obtain ⟨n0, h⟩ := h
        refine kX3_off_L57 G (fun v3_31 big_32 h => ?_) (fun v3_33 big_34 h => ?_) n0 _ _ h
        · refine x_iload_n G rfl dX3_off_159 0 rfl ?_
          exact x_reti2 G Q dX3_off_160 rfl (0 : Int32) big_32 h XSub.rf (Nat.le_refl _) (Nat.le_refl _)
        · refine x_iconst (v := (-1 : Int32)) G dX3_off_167 (by decide) ?_
          exact x_reti2 G Q dX3_off_168 rfl (0 : Int32) big_34 h XSub.rf (Nat.le_refl _) (Nat.le_refl _)
      · replace h := h.2 c
        refine x_bipush (v := (-104 : Int32)) G dX3_off_42 (by decide) ?_
        exact x_reti2 G Q dX3_off_44 rfl (0 : Int32) big h XSub.rf (Nat.le_refl _) (Nat.le_refl _)
    · replace h := h.2 c
      refine x_bipush (v := (-102 : Int32)) G dX3_off_28 (by decide) ?_
      exact x_reti2 G Q dX3_off_30 rfl (0 : Int32) big h XSub.rf (Nat.le_refl _) (Nat.le_refl _)
  · replace h := h.2 c
    refine x_bipush (v := (-101 : Int32)) G dX3_off_13 (by decide) ?_
    exact x_reti2 G Q dX3_off_15 rfl (0 : Int32) big h XSub.rf (Nat.le_refl _) (Nat.le_refl _)
theorem cdX3_parts : yX3_parts.cls = RX3 ∧ yX3_parts.cls ≠ "java/lang/invoke/MethodHandle" ∧ yX3_parts.cls ≠ "java/lang/invoke/VarHandle" ∧ (parseMethodDescriptor yX3_parts.desc).map (fun d => d.parameters.length) = some 2 := by decide +kernel
def wX3_parts_L26 (runWide : Nat → Int32) (runSteps : Nat → Int32) (results : Nat → UInt64) (p0 : Int32) (p1 : Int32) (X96 : Int32 → Prop) : Nat → Int32 → Prop
  | 0, _ => False
  | n + 1, v3_3 => (vp_in p0 60 ∧ (((runSteps p0.toNatClampNeg) ≤ v3_3 → X96 v3_3) ∧ (¬ (runSteps p0.toNatClampNeg) ≤ v3_3 → (vp_in p1 60 ∧ (((runSteps p1.toNatClampNeg) ≤ v3_3 → X96 v3_3) ∧ (¬ (runSteps p1.toNatClampNeg) ≤ v3_3 → (vp_in p0 60 ∧ (vp_in (((60 : Int32) * p0) + v3_3) 3600 ∧ (wX3_bitsOf (runWide p0.toNatClampNeg) (results (((60 : Int32) * p0) + v3_3).toNatClampNeg) (fun (r_4 : Int64) => (vp_in p1 60 ∧ (vp_in (((60 : Int32) * p1) + v3_3) 3600 ∧ (wX3_bitsOf (runWide p1.toNatClampNeg) (results (((60 : Int32) * p1) + v3_3).toNatClampNeg) (fun (r_5 : Int64) => ((¬ r_4 = r_5 → X96 v3_3) ∧ (r_4 = r_5 → (∀ x_6 : Int32, x_6 = (v3_3 + (1 : Int32)) → wX3_parts_L26 runWide runSteps results p0 p1 X96 n x_6)))))))))))))))))
def wX3_parts_J96 (runSteps : Nat → Int32) (p0 : Int32) (p1 : Int32) (K : Int32 → Int32 → Prop) : Int32 → Int32 → Prop := fun (v3_9 : Int32) (thrown_10 : Int32) => (vp_in p0 60 ∧ ((¬ v3_9 = (runSteps p0.toNatClampNeg) → K v3_9 thrown_10) ∧ (v3_9 = (runSteps p0.toNatClampNeg) → (vp_in p1 60 ∧ ((¬ v3_9 = (runSteps p1.toNatClampNeg) → K v3_9 thrown_10) ∧ (v3_9 = (runSteps p1.toNatClampNeg) → K (-1 : Int32) thrown_10))))))
def wX3_parts (p0 : Int32) (p1 : Int32) (thrown : Int32) (runs : Int32) (runWide : Nat → Int32) (runSteps : Nat → Int32) (results : Nat → UInt64) (K : Int32 → Int32 → Prop) : Prop := (wX3_noRun p0 runs (fun (r_1 : Int32) => ((¬ r_1 = (0 : Int32) → K (-101 : Int32) (0 : Int32)) ∧ (r_1 = (0 : Int32) → (wX3_noRun p1 runs (fun (r_2 : Int32) => ((r_2 = (0 : Int32) → (∃ m26 : Nat, wX3_parts_L26 runWide runSteps results p0 p1 (fun (v3_8 : Int32) => (wX3_parts_J96 runSteps p0 p1 K v3_8 (0 : Int32))) m26 (0 : Int32))) ∧ (¬ r_2 = (0 : Int32) → K (-101 : Int32) (0 : Int32)))))))))
set_option maxRecDepth 20000 in
theorem kX3_parts_L26 {g : XG} {h0 : Nat} {ad : Nat → Nat} {many : Nat → Int32} {isWide : Nat → Int32} {amountOf : Nat → UInt64} {accountOf : Nat → Int32} {dayOf : Nat → Int32} {given : Nat → Int32} {givenOf : Nat → Int32} {runs : Int32} {runWide : Nat → Int32} {runWay : Nat → Int32} {runTotal : Nat → UInt64} {runSteps : Nat → Int32} {lefts : Nat → UInt64} {rights : Nat → UInt64} {results : Nat → UInt64} {wide : Int32} {dn : Int32} {stepsAt : Int32} {keeps : Int32} {order : Nat → Int32} {att : Nat → UInt64} {spareAmount : Nat → UInt64} {spareAccount : Nat → Int32} {spareDay : Nat → Int32} {cured : Int32} {cureOf : Nat → Int32} {shareOf : Nat → Int32} {big : Nat → Int32} {unitsOf : Int64} {spare : Int32} {halfFrom : Nat → Int32} {halfMany : Nat → Int32} {halfDone : Nat → Int32} {halfTotal : Nat → UInt64} {isFar : Int32} {p0 : Int32} {p1 : Int32} {X96 : Int32 → Prop} (G : XO g RX3 cX3_parts 4 4 0 0) (hX96 : ∀ (v3_7 : Int32), X96 v3_7 → X g 4 96 [(3, .int v3_7), (0, .ref h0), (1, .int p0), (2, .int p1)] [] (mW h0 ad (xT g) (0 : Int32) many isWide amountOf accountOf dayOf given givenOf runs runWide runWay runTotal runSteps lefts rights results wide dn stepsAt keeps order att spareAmount spareAccount spareDay cured cureOf shareOf big unitsOf spare halfFrom halfMany halfDone halfTotal isFar) 0 0) : ∀ (n : Nat) (v3_3 : Int32), wX3_parts_L26 runWide runSteps results p0 p1 X96 n v3_3 → X g 4 26 [(3, .int v3_3), (0, .ref h0), (1, .int p0), (2, .int p1)] [] (mW h0 ad (xT g) (0 : Int32) many isWide amountOf accountOf dayOf given givenOf runs runWide runWay runTotal runSteps lefts rights results wide dn stepsAt keeps order att spareAmount spareAccount spareDay cured cureOf shareOf big unitsOf spare halfFrom halfMany halfDone halfTotal isFar) 0 0 := by
  intro n
  induction n with
  | zero => intro _ h; exact h.elim
  | succ n ih =>
    intro v3_3 h
    unfold wX3_parts_L26 at h
    refine x_iload_n G rfl dX3_parts_26 0 rfl ?_
    refine x_aload_n G rfl dX3_parts_27 1 rfl ?_
    refine m_get_12 G dX3_parts_28 ?_
    refine x_iload_n G rfl dX3_parts_31 2 rfl ?_
    obtain ⟨hz, h⟩ := h
    refine m_ald_12 G hz dX3_parts_32 ?_
    refine x_icmp_ge (tgt := 96) G dX3_parts_33 rfl (fun c => ?_) (fun c => ?_)
    · replace h := h.1 c
      exact hX96 v3_3 h
    · replace h := h.2 c
      refine x_iload_n G rfl dX3_parts_36 0 rfl ?_
      refine x_aload_n G rfl dX3_parts_37 1 rfl ?_
      refine m_get_12 G dX3_parts_38 ?_
      refine x_iload_n G rfl dX3_parts_41 3 rfl ?_
      obtain ⟨hz, h⟩ := h
      refine m_ald_12 G hz dX3_parts_42 ?_
      refine x_icmp_ge (tgt := 96) G dX3_parts_43 rfl (fun c => ?_) (fun c => ?_)
      · replace h := h.1 c
        exact hX96 v3_3 h
      · replace h := h.2 c
        refine x_aload_n G rfl dX3_parts_46 1 rfl ?_
        refine m_get_9 G dX3_parts_47 ?_
        refine x_iload_n G rfl dX3_parts_50 2 rfl ?_
        obtain ⟨hz, h⟩ := h
        refine m_ald_9 G hz dX3_parts_51 ?_
        refine x_aload_n G rfl dX3_parts_52 1 rfl ?_
        refine m_get_15 G dX3_parts_53 ?_
        refine x_bipush (v := (60 : Int32)) G dX3_parts_56 (by decide) ?_
        refine x_iload_n G rfl dX3_parts_58 2 rfl ?_
        refine x_imul G dX3_parts_59 ?_
        refine x_iload_n G rfl dX3_parts_60 0 rfl ?_
        refine x_iadd G dX3_parts_61 ?_
        obtain ⟨hz, h⟩ := h
        refine m_ald_15 G hz dX3_parts_62 ?_
        refine x_cPl (As := [.int (runWide p0.toNatClampNeg), .double (results (((60 : Int32) * p0) + v3_3).toNatClampNeg)]) (rest := []) G (tX3_bitsOf G.noTraces h) (lw_S q1688 q1689 q70 q1690) cdX3_bitsOf (by decide) (by decide) rfl (Nat.le_of_ble_eq_true rfl) (Nat.zero_le _) (Nat.zero_le _) dX3_parts_63 (fun r_4 h => ?_)
        refine x_aload_n G rfl dX3_parts_66 1 rfl ?_
        refine m_get_9 G dX3_parts_67 ?_
        refine x_iload_n G rfl dX3_parts_70 3 rfl ?_
        obtain ⟨hz, h⟩ := h
        refine m_ald_9 G hz dX3_parts_71 ?_
        refine x_aload_n G rfl dX3_parts_72 1 rfl ?_
        refine m_get_15 G dX3_parts_73 ?_
        refine x_bipush (v := (60 : Int32)) G dX3_parts_76 (by decide) ?_
        refine x_iload_n G rfl dX3_parts_78 3 rfl ?_
        refine x_imul G dX3_parts_79 ?_
        refine x_iload_n G rfl dX3_parts_80 0 rfl ?_
        refine x_iadd G dX3_parts_81 ?_
        obtain ⟨hz, h⟩ := h
        refine m_ald_15 G hz dX3_parts_82 ?_
        refine x_cPl (As := [.int (runWide p1.toNatClampNeg), .double (results (((60 : Int32) * p1) + v3_3).toNatClampNeg)]) (rest := [.long r_4]) G (tX3_bitsOf G.noTraces h) (lw_S q1688 q1689 q70 q1690) cdX3_bitsOf (by decide) (by decide) rfl (Nat.le_of_ble_eq_true rfl) (Nat.zero_le _) (Nat.zero_le _) dX3_parts_83 (fun r_5 h => ?_)
        refine x_lcmp_ne (tgt := 96) G dX3_parts_86 dX3_parts_87 rfl (fun c => ?_) (fun c => ?_)
        · replace h := h.1 c
          exact hX96 v3_3 h
        · replace h := h.2 c
          obtain ⟨x_6, ex_6⟩ : ∃ z : Int32, z = (v3_3 + (1 : Int32)) := ⟨_, rfl⟩
          replace h := h x_6 ex_6
          refine x_iinc (v := x_6) (lv' := [(3, .int x_6), (0, .ref h0), (1, .int p0), (2, .int p1)]) G dX3_parts_90 0 rfl (by rw [ex_6]; rfl) (by decide) rfl ?_
          refine x_goto (tgt := 26) G dX3_parts_93 rfl ?_
          exact ih x_6 h
set_option maxRecDepth 20000 in
theorem kX3_parts_J96 {g : XG} {h0 : Nat} {ad : Nat → Nat} {many : Nat → Int32} {isWide : Nat → Int32} {amountOf : Nat → UInt64} {accountOf : Nat → Int32} {dayOf : Nat → Int32} {given : Nat → Int32} {givenOf : Nat → Int32} {runs : Int32} {runWide : Nat → Int32} {runWay : Nat → Int32} {runTotal : Nat → UInt64} {runSteps : Nat → Int32} {lefts : Nat → UInt64} {rights : Nat → UInt64} {results : Nat → UInt64} {wide : Int32} {dn : Int32} {stepsAt : Int32} {keeps : Int32} {order : Nat → Int32} {att : Nat → UInt64} {spareAmount : Nat → UInt64} {spareAccount : Nat → Int32} {spareDay : Nat → Int32} {cured : Int32} {cureOf : Nat → Int32} {shareOf : Nat → Int32} {big : Nat → Int32} {unitsOf : Int64} {spare : Int32} {halfFrom : Nat → Int32} {halfMany : Nat → Int32} {halfDone : Nat → Int32} {halfTotal : Nat → UInt64} {isFar : Int32} {p0 : Int32} {p1 : Int32} {K : Int32 → Int32 → Prop} (G : XO g RX3 cX3_parts 4 4 0 0) (Q : XQi1 g FieldType.int 0 0 (fun (thrown' : Int32) => mW h0 ad (xT g) thrown' many isWide amountOf accountOf dayOf given givenOf runs runWide runWay runTotal runSteps lefts rights results wide dn stepsAt keeps order att spareAmount spareAccount spareDay cured cureOf shareOf big unitsOf spare halfFrom halfMany halfDone halfTotal isFar) K) : ∀ (v3_9 : Int32) (thrown_10 : Int32), wX3_parts_J96 runSteps p0 p1 K v3_9 thrown_10 → X g 4 96 [(0, .ref h0), (1, .int p0), (2, .int p1), (3, .int v3_9)] [] (mW h0 ad (xT g) thrown_10 many isWide amountOf accountOf dayOf given givenOf runs runWide runWay runTotal runSteps lefts rights results wide dn stepsAt keeps order att spareAmount spareAccount spareDay cured cureOf shareOf big unitsOf spare halfFrom halfMany halfDone halfTotal isFar) 0 0 := by
  intro v3_9 thrown_10 h
  unfold wX3_parts_J96 at h
  refine x_iload_n G rfl dX3_parts_96 3 rfl ?_
  refine x_aload_n G rfl dX3_parts_97 0 rfl ?_
  refine m_get_12 G dX3_parts_98 ?_
  refine x_iload_n G rfl dX3_parts_101 1 rfl ?_
  obtain ⟨hz, h⟩ := h
  refine m_ald_12 G hz dX3_parts_102 ?_
  refine x_icmp_ne (tgt := 120) G dX3_parts_103 rfl (fun c => ?_) (fun c => ?_)
  · replace h := h.1 c
    refine x_iload_n G rfl dX3_parts_120 3 rfl ?_
    exact x_reti1 G Q dX3_parts_121 rfl thrown_10 h XSub.rf (Nat.le_refl _) (Nat.le_refl _)
  · replace h := h.2 c
    refine x_iload_n G rfl dX3_parts_106 3 rfl ?_
    refine x_aload_n G rfl dX3_parts_107 0 rfl ?_
    refine m_get_12 G dX3_parts_108 ?_
    refine x_iload_n G rfl dX3_parts_111 2 rfl ?_
    obtain ⟨hz, h⟩ := h
    refine m_ald_12 G hz dX3_parts_112 ?_
    refine x_icmp_ne (tgt := 120) G dX3_parts_113 rfl (fun c => ?_) (fun c => ?_)
    · replace h := h.1 c
      refine x_iload_n G rfl dX3_parts_120 3 rfl ?_
      exact x_reti1 G Q dX3_parts_121 rfl thrown_10 h XSub.rf (Nat.le_refl _) (Nat.le_refl _)
    · replace h := h.2 c
      refine x_iconst (v := (-1 : Int32)) G dX3_parts_116 (by decide) ?_
      refine x_goto (tgt := 121) G dX3_parts_117 rfl ?_
      exact x_reti1 G Q dX3_parts_121 rfl thrown_10 h XSub.rf (Nat.le_refl _) (Nat.le_refl _)
set_option maxRecDepth 20000 in
theorem tX3_parts {l : Launch} {D : va_G} {ta : Nat → ClassId} {h0 : Nat} {ad : Nat → Nat} {thrown : Int32} {many : Nat → Int32} {isWide : Nat → Int32} {amountOf : Nat → UInt64} {accountOf : Nat → Int32} {dayOf : Nat → Int32} {given : Nat → Int32} {givenOf : Nat → Int32} {runs : Int32} {runWide : Nat → Int32} {runWay : Nat → Int32} {runTotal : Nat → UInt64} {runSteps : Nat → Int32} {lefts : Nat → UInt64} {rights : Nat → UInt64} {results : Nat → UInt64} {wide : Int32} {dn : Int32} {stepsAt : Int32} {keeps : Int32} {order : Nat → Int32} {att : Nat → UInt64} {spareAmount : Nat → UInt64} {spareAccount : Nat → Int32} {spareDay : Nat → Int32} {cured : Int32} {cureOf : Nat → Int32} {shareOf : Nat → Int32} {big : Nat → Int32} {unitsOf : Int64} {spare : Int32} {halfFrom : Nat → Int32} {halfMany : Nat → Int32} {halfDone : Nat → Int32} {halfTotal : Nat → UInt64} {isFar : Int32} {p0 : Int32} {p1 : Int32} {K : Int32 → Int32 → Prop} (hlt : l.stackTraces = false) (h : wX3_parts p0 p1 thrown runs runWide runSteps results K) : SMi1 l D ta yX3_parts cX3_parts 4 FieldType.int 4 [.ref h0, .int p0, .int p1] (mW h0 ad ta thrown many isWide amountOf accountOf dayOf given givenOf runs runWide runWay runTotal runSteps lefts rights results wide dn stepsAt keeps order att spareAmount spareAccount spareDay cured cureOf shareOf big unitsOf spare halfFrom halfMany halfDone halfTotal isFar) (fun (thrown' : Int32) => mW h0 ad ta thrown' many isWide amountOf accountOf dayOf given givenOf runs runWide runWay runTotal runSteps lefts rights results wide dn stepsAt keeps order att spareAmount spareAccount spareDay cured cureOf shareOf big unitsOf spare halfFrom halfMany halfDone halfTotal isFar) 0 0 K := by
  refine x_sti1 hlt (plainFor_of_name (by decide +kernel)) (Nat.le_of_ble_eq_true rfl) (fun g G hl hD hT Q => ?_)
  subst hl; subst hD; subst hT
  unfold wX3_parts at h
  show X g 4 0 [(0, .ref h0), (1, .int p0), (2, .int p1)] [] (mW h0 ad (xT g) thrown many isWide amountOf accountOf dayOf given givenOf runs runWide runWay runTotal runSteps lefts rights results wide dn stepsAt keeps order att spareAmount spareAccount spareDay cured cureOf shareOf big unitsOf spare halfFrom halfMany halfDone halfTotal isFar) 0 0
  refine x_aload_n G rfl dX3_parts_0 0 rfl ?_
  refine x_iconst (v := (0 : Int32)) G dX3_parts_1 (by decide) ?_
  refine m_put_0 G dX3_parts_2 ?_
  refine x_aload_n G rfl dX3_parts_5 0 rfl ?_
  refine x_iload_n G rfl dX3_parts_6 1 rfl ?_
  refine x_cVi0 (As := [.int p0]) (rest := []) G [] XSub.rf (tX3_noRun G.noTraces h) (lw_V q1867 q1869 qs42 q70 q1870) cdX3_noRun 3 0 rfl rfl rfl (by decide) (by decide) rfl (Nat.le_of_ble_eq_true rfl) (Nat.zero_le _) (Nat.zero_le _) dX3_parts_7 (fun r_1 h => ?_)
  show X g 4 10 [(0, .ref h0), (1, .int p0), (2, .int p1)] [.int r_1] (mW h0 ad (xT g) (0 : Int32) many isWide amountOf accountOf dayOf given givenOf runs runWide runWay runTotal runSteps lefts rights results wide dn stepsAt keeps order att spareAmount spareAccount spareDay cured cureOf shareOf big unitsOf spare halfFrom halfMany halfDone halfTotal isFar) 0 0
  refine x_if_ne (tgt := 21) G dX3_parts_10 rfl (fun c => ?_) (fun c => ?_)
  · replace h := h.1 c
    refine x_bipush (v := (-101 : Int32)) G dX3_parts_21 (by decide) ?_
    exact x_reti1 G Q dX3_parts_23 rfl (0 : Int32) h XSub.rf (Nat.le_refl _) (Nat.le_refl _)
  · replace h := h.2 c
    refine x_aload_n G rfl dX3_parts_13 0 rfl ?_
    refine x_iload_n G rfl dX3_parts_14 2 rfl ?_
    refine x_cVi0 (As := [.int p1]) (rest := []) G [] XSub.rf (tX3_noRun G.noTraces h) (lw_V q1867 q1869 qs42 q70 q1870) cdX3_noRun 3 0 rfl rfl rfl (by decide) (by decide) rfl (Nat.le_of_ble_eq_true rfl) (Nat.zero_le _) (Nat.zero_le _) dX3_parts_15 (fun r_2 h => ?_)
    show X g 4 18 [(0, .ref h0), (1, .int p0), (2, .int p1)] [.int r_2] (mW h0 ad (xT g) (0 : Int32) many isWide amountOf accountOf dayOf given givenOf runs runWide runWay runTotal runSteps lefts rights results wide dn stepsAt keeps order att spareAmount spareAccount spareDay cured cureOf shareOf big unitsOf spare halfFrom halfMany halfDone halfTotal isFar) 0 0
    refine x_if_eq (tgt := 24) G dX3_parts_18 rfl (fun c => ?_) (fun c => ?_)
    · replace h := h.1 c
      refine x_iconst (v := (0 : Int32)) G dX3_parts_24 (by decide) ?_
      refine x_istore_n (lv' := [(3, .int (0 : Int32)), (0, .ref h0), (1, .int p0), (2, .int p1)]) G rfl dX3_parts_25 (by decide) rfl ?_
      obtain ⟨n0, h⟩ := h
      refine kX3_parts_L26 G (fun v3_8 h => ?_) n0 _ h
      · refine x_lv (lv' := [(0, .ref h0), (1, .int p0), (2, .int p1), (3, .int v3_8)]) [1, 2, 3, 0] rfl ?_
        refine kX3_parts_J96 G Q  _ _ h
    · replace h := h.2 c
      refine x_bipush (v := (-101 : Int32)) G dX3_parts_21 (by decide) ?_
      exact x_reti1 G Q dX3_parts_23 rfl (0 : Int32) h XSub.rf (Nat.le_refl _) (Nat.le_refl _)
theorem cdX3_clear : yX3_clear.cls = RX3 ∧ yX3_clear.cls ≠ "java/lang/invoke/MethodHandle" ∧ yX3_clear.cls ≠ "java/lang/invoke/VarHandle" ∧ (parseMethodDescriptor yX3_clear.desc).map (fun d => d.parameters.length) = some 0 := by decide +kernel
def wX3_clear (thrown : Int32) (runs : Int32) (K : Int32 → Int32 → Int32 → Prop) : Prop := K runs (0 : Int32) (0 : Int32)
set_option maxRecDepth 20000 in
theorem tX3_clear {l : Launch} {D : va_G} {ta : Nat → ClassId} {h0 : Nat} {ad : Nat → Nat} {thrown : Int32} {many : Nat → Int32} {isWide : Nat → Int32} {amountOf : Nat → UInt64} {accountOf : Nat → Int32} {dayOf : Nat → Int32} {given : Nat → Int32} {givenOf : Nat → Int32} {runs : Int32} {runWide : Nat → Int32} {runWay : Nat → Int32} {runTotal : Nat → UInt64} {runSteps : Nat → Int32} {lefts : Nat → UInt64} {rights : Nat → UInt64} {results : Nat → UInt64} {wide : Int32} {dn : Int32} {stepsAt : Int32} {keeps : Int32} {order : Nat → Int32} {att : Nat → UInt64} {spareAmount : Nat → UInt64} {spareAccount : Nat → Int32} {spareDay : Nat → Int32} {cured : Int32} {cureOf : Nat → Int32} {shareOf : Nat → Int32} {big : Nat → Int32} {unitsOf : Int64} {spare : Int32} {halfFrom : Nat → Int32} {halfMany : Nat → Int32} {halfDone : Nat → Int32} {halfTotal : Nat → UInt64} {isFar : Int32} {K : Int32 → Int32 → Int32 → Prop} (hlt : l.stackTraces = false) (h : wX3_clear thrown runs K) : SMi2 l D ta yX3_clear cX3_clear 2 FieldType.int 1 [.ref h0] (mW h0 ad ta thrown many isWide amountOf accountOf dayOf given givenOf runs runWide runWay runTotal runSteps lefts rights results wide dn stepsAt keeps order att spareAmount spareAccount spareDay cured cureOf shareOf big unitsOf spare halfFrom halfMany halfDone halfTotal isFar) (fun (thrown' : Int32) (runs' : Int32) => mW h0 ad ta thrown' many isWide amountOf accountOf dayOf given givenOf runs' runWide runWay runTotal runSteps lefts rights results wide dn stepsAt keeps order att spareAmount spareAccount spareDay cured cureOf shareOf big unitsOf spare halfFrom halfMany halfDone halfTotal isFar) 0 0 K := by
  refine x_sti2 hlt (plainFor_of_name (by decide +kernel)) (Nat.le_of_ble_eq_true rfl) (fun g G hl hD hT Q => ?_)
  subst hl; subst hD; subst hT
  unfold wX3_clear at h
  show X g 2 0 [(0, .ref h0)] [] (mW h0 ad (xT g) thrown many isWide amountOf accountOf dayOf given givenOf runs runWide runWay runTotal runSteps lefts rights results wide dn stepsAt keeps order att spareAmount spareAccount spareDay cured cureOf shareOf big unitsOf spare halfFrom halfMany halfDone halfTotal isFar) 0 0
  refine x_aload_n G rfl dX3_clear_0 0 rfl ?_
  refine x_iconst (v := (0 : Int32)) G dX3_clear_1 (by decide) ?_
  refine m_put_0 G dX3_clear_2 ?_
  refine x_aload_n G rfl dX3_clear_5 0 rfl ?_
  refine m_get_8 G dX3_clear_6 ?_
  refine x_istore_n (lv' := [(1, .int runs), (0, .ref h0)]) G rfl dX3_clear_9 (by decide) rfl ?_
  refine x_aload_n G rfl dX3_clear_10 1 rfl ?_
  refine x_iconst (v := (0 : Int32)) G dX3_clear_11 (by decide) ?_
  refine m_put_8 G dX3_clear_12 ?_
  refine x_iload_n G rfl dX3_clear_15 0 rfl ?_
  exact x_reti2 G Q dX3_clear_16 rfl (0 : Int32) (0 : Int32) h XSub.rf (Nat.le_refl _) (Nat.le_refl _)
theorem cdX3_sumLedger : yX3_sumLedger.cls = RX3 ∧ yX3_sumLedger.cls ≠ "java/lang/invoke/MethodHandle" ∧ yX3_sumLedger.cls ≠ "java/lang/invoke/VarHandle" ∧ (parseMethodDescriptor yX3_sumLedger.desc).map (fun d => d.parameters.length) = some 2 := by decide +kernel
def wX3_sumLedger_L7 (many : Nat → Int32) (amountOf : Nat → UInt64) (p0 : Int32) (p1 : Int32) (X39 : Int32 → (Nat → Int32) → Prop) : Nat → Int32 → (Nat → Int32) → Prop
  | 0, _, _ => False
  | n + 1, v3_2, big_3 => (vp_in p1 12 ∧ (((many p1.toNatClampNeg) ≤ v3_2 → X39 v3_2 big_3) ∧ (¬ (many p1.toNatClampNeg) ≤ v3_2 → (vp_in (((60 : Int32) * p1) + v3_2) 720 ∧ (wX3_addNumber p0 (amountOf (((60 : Int32) * p1) + v3_2).toNatClampNeg) big_3 (fun (big_4 : Nat → Int32) => (∀ x_5 : Int32, x_5 = (v3_2 + (1 : Int32)) → wX3_sumLedger_L7 many amountOf p0 p1 X39 n x_5 big_4)))))))
def wX3_sumLedger (p0 : Int32) (p1 : Int32) (many : Nat → Int32) (amountOf : Nat → UInt64) (big : Nat → Int32) (K : (Nat → Int32) → Prop) : Prop := (wX3_clearBig p0 big (fun (big_1 : Nat → Int32) => (∃ m7 : Nat, wX3_sumLedger_L7 many amountOf p0 p1 (fun (v3_8 : Int32) (big_9 : Nat → Int32) => K big_9) m7 (0 : Int32) big_1)))
set_option maxRecDepth 20000 in
theorem kX3_sumLedger_L7 {g : XG} {h0 : Nat} {ad : Nat → Nat} {thrown : Int32} {many : Nat → Int32} {isWide : Nat → Int32} {amountOf : Nat → UInt64} {accountOf : Nat → Int32} {dayOf : Nat → Int32} {given : Nat → Int32} {givenOf : Nat → Int32} {runs : Int32} {runWide : Nat → Int32} {runWay : Nat → Int32} {runTotal : Nat → UInt64} {runSteps : Nat → Int32} {lefts : Nat → UInt64} {rights : Nat → UInt64} {results : Nat → UInt64} {wide : Int32} {dn : Int32} {stepsAt : Int32} {keeps : Int32} {order : Nat → Int32} {att : Nat → UInt64} {spareAmount : Nat → UInt64} {spareAccount : Nat → Int32} {spareDay : Nat → Int32} {cured : Int32} {cureOf : Nat → Int32} {shareOf : Nat → Int32} {unitsOf : Int64} {spare : Int32} {halfFrom : Nat → Int32} {halfMany : Nat → Int32} {halfDone : Nat → Int32} {halfTotal : Nat → UInt64} {isFar : Int32} {p0 : Int32} {p1 : Int32} {X39 : Int32 → (Nat → Int32) → Prop} (G : XO g RX3 cX3_sumLedger 4 5 0 0) (hX39 : ∀ (v3_6 : Int32) (big_7 : Nat → Int32), X39 v3_6 big_7 → X g 4 39 [(3, .int v3_6), (0, .ref h0), (1, .int p0), (2, .int p1)] [] (mW h0 ad (xT g) thrown many isWide amountOf accountOf dayOf given givenOf runs runWide runWay runTotal runSteps lefts rights results wide dn stepsAt keeps order att spareAmount spareAccount spareDay cured cureOf shareOf big_7 unitsOf spare halfFrom halfMany halfDone halfTotal isFar) 0 0) : ∀ (n : Nat) (v3_2 : Int32) (big_3 : Nat → Int32), wX3_sumLedger_L7 many amountOf p0 p1 X39 n v3_2 big_3 → X g 4 7 [(3, .int v3_2), (0, .ref h0), (1, .int p0), (2, .int p1)] [] (mW h0 ad (xT g) thrown many isWide amountOf accountOf dayOf given givenOf runs runWide runWay runTotal runSteps lefts rights results wide dn stepsAt keeps order att spareAmount spareAccount spareDay cured cureOf shareOf big_3 unitsOf spare halfFrom halfMany halfDone halfTotal isFar) 0 0 := by
  intro n
  induction n with
  | zero => intro _ _ h; exact h.elim
  | succ n ih =>
    intro v3_2 big_3 h
    unfold wX3_sumLedger_L7 at h
    refine x_iload_n G rfl dX3_sumLedger_7 0 rfl ?_
    refine x_aload_n G rfl dX3_sumLedger_8 1 rfl ?_
    refine m_get_1 G dX3_sumLedger_9 ?_
    refine x_iload_n G rfl dX3_sumLedger_12 3 rfl ?_
    obtain ⟨hz, h⟩ := h
    refine m_ald_1 G hz dX3_sumLedger_13 ?_
    refine x_icmp_ge (tgt := 39) G dX3_sumLedger_14 rfl (fun c => ?_) (fun c => ?_)
    · replace h := h.1 c
      exact hX39 v3_2 big_3 h
    · replace h := h.2 c
      refine x_aload_n G rfl dX3_sumLedger_17 1 rfl ?_
      refine x_iload_n G rfl dX3_sumLedger_18 2 rfl ?_
      refine x_aload_n G rfl dX3_sumLedger_19 1 rfl ?_
      refine m_get_3 G dX3_sumLedger_20 ?_
      refine x_bipush (v := (60 : Int32)) G dX3_sumLedger_23 (by decide) ?_
      refine x_iload_n G rfl dX3_sumLedger_25 3 rfl ?_
      refine x_imul G dX3_sumLedger_26 ?_
      refine x_iload_n G rfl dX3_sumLedger_27 0 rfl ?_
      refine x_iadd G dX3_sumLedger_28 ?_
      obtain ⟨hz, h⟩ := h
      refine m_ald_3 G hz dX3_sumLedger_29 ?_
      refine x_cVv1 (As := [.int p0, .double (amountOf (((60 : Int32) * p1) + v3_2).toNatClampNeg)]) (rest := []) G [] XSub.rf (tX3_addNumber G.noTraces h) (lw_V q1893 q1895 qs46 q70 q1896) cdX3_addNumber 3 0 rfl rfl rfl (by decide) (by decide) rfl (Nat.le_of_ble_eq_true rfl) (Nat.zero_le _) (Nat.zero_le _) dX3_sumLedger_30 (fun big_4 h => ?_)
      show X g 4 33 [(3, .int v3_2), (0, .ref h0), (1, .int p0), (2, .int p1)] [] (mW h0 ad (xT g) thrown many isWide amountOf accountOf dayOf given givenOf runs runWide runWay runTotal runSteps lefts rights results wide dn stepsAt keeps order att spareAmount spareAccount spareDay cured cureOf shareOf big_4 unitsOf spare halfFrom halfMany halfDone halfTotal isFar) 0 0
      obtain ⟨x_5, ex_5⟩ : ∃ z : Int32, z = (v3_2 + (1 : Int32)) := ⟨_, rfl⟩
      replace h := h x_5 ex_5
      refine x_iinc (v := x_5) (lv' := [(3, .int x_5), (0, .ref h0), (1, .int p0), (2, .int p1)]) G dX3_sumLedger_33 0 rfl (by rw [ex_5]; rfl) (by decide) rfl ?_
      refine x_goto (tgt := 7) G dX3_sumLedger_36 rfl ?_
      exact ih x_5 big_4 h
set_option maxRecDepth 20000 in
theorem tX3_sumLedger {l : Launch} {D : va_G} {ta : Nat → ClassId} {h0 : Nat} {ad : Nat → Nat} {thrown : Int32} {many : Nat → Int32} {isWide : Nat → Int32} {amountOf : Nat → UInt64} {accountOf : Nat → Int32} {dayOf : Nat → Int32} {given : Nat → Int32} {givenOf : Nat → Int32} {runs : Int32} {runWide : Nat → Int32} {runWay : Nat → Int32} {runTotal : Nat → UInt64} {runSteps : Nat → Int32} {lefts : Nat → UInt64} {rights : Nat → UInt64} {results : Nat → UInt64} {wide : Int32} {dn : Int32} {stepsAt : Int32} {keeps : Int32} {order : Nat → Int32} {att : Nat → UInt64} {spareAmount : Nat → UInt64} {spareAccount : Nat → Int32} {spareDay : Nat → Int32} {cured : Int32} {cureOf : Nat → Int32} {shareOf : Nat → Int32} {big : Nat → Int32} {unitsOf : Int64} {spare : Int32} {halfFrom : Nat → Int32} {halfMany : Nat → Int32} {halfDone : Nat → Int32} {halfTotal : Nat → UInt64} {isFar : Int32} {p0 : Int32} {p1 : Int32} {K : (Nat → Int32) → Prop} (hlt : l.stackTraces = false) (h : wX3_sumLedger p0 p1 many amountOf big K) : SMv1 l D ta yX3_sumLedger cX3_sumLedger 4 5 [.ref h0, .int p0, .int p1] (mW h0 ad ta thrown many isWide amountOf accountOf dayOf given givenOf runs runWide runWay runTotal runSteps lefts rights results wide dn stepsAt keeps order att spareAmount spareAccount spareDay cured cureOf shareOf big unitsOf spare halfFrom halfMany halfDone halfTotal isFar) (fun (big' : Nat → Int32) => mW h0 ad ta thrown many isWide amountOf accountOf dayOf given givenOf runs runWide runWay runTotal runSteps lefts rights results wide dn stepsAt keeps order att spareAmount spareAccount spareDay cured cureOf shareOf big' unitsOf spare halfFrom halfMany halfDone halfTotal isFar) 0 0 K := by
  refine x_stv1 hlt (plainFor_of_name (by decide +kernel)) (Nat.le_of_ble_eq_true rfl) (fun g G hl hD hT Q => ?_)
  subst hl; subst hD; subst hT
  unfold wX3_sumLedger at h
  show X g 4 0 [(0, .ref h0), (1, .int p0), (2, .int p1)] [] (mW h0 ad (xT g) thrown many isWide amountOf accountOf dayOf given givenOf runs runWide runWay runTotal runSteps lefts rights results wide dn stepsAt keeps order att spareAmount spareAccount spareDay cured cureOf shareOf big unitsOf spare halfFrom halfMany halfDone halfTotal isFar) 0 0
  refine x_aload_n G rfl dX3_sumLedger_0 0 rfl ?_
  refine x_iload_n G rfl dX3_sumLedger_1 1 rfl ?_
  refine x_cVv1 (As := [.int p0]) (rest := []) G [] XSub.rf (tX3_clearBig G.noTraces h) (lw_V q1889 q1891 qs45 q70 q1892) cdX3_clearBig 3 0 rfl rfl rfl (by decide) (by decide) rfl (Nat.le_of_ble_eq_true rfl) (Nat.zero_le _) (Nat.zero_le _) dX3_sumLedger_2 (fun big_1 h => ?_)
  show X g 4 5 [(0, .ref h0), (1, .int p0), (2, .int p1)] [] (mW h0 ad (xT g) thrown many isWide amountOf accountOf dayOf given givenOf runs runWide runWay runTotal runSteps lefts rights results wide dn stepsAt keeps order att spareAmount spareAccount spareDay cured cureOf shareOf big_1 unitsOf spare halfFrom halfMany halfDone halfTotal isFar) 0 0
  refine x_iconst (v := (0 : Int32)) G dX3_sumLedger_5 (by decide) ?_
  refine x_istore_n (lv' := [(3, .int (0 : Int32)), (0, .ref h0), (1, .int p0), (2, .int p1)]) G rfl dX3_sumLedger_6 (by decide) rfl ?_
  obtain ⟨n0, h⟩ := h
  refine kX3_sumLedger_L7 G (fun v3_8 big_9 h => ?_) n0 _ _ h
  · exact x_retv1 G Q dX3_sumLedger_39 big_9 h XSub.rf (Nat.le_refl _) (Nat.le_refl _)
theorem cdX3_compare : yX3_compare.cls = RX3 ∧ yX3_compare.cls ≠ "java/lang/invoke/MethodHandle" ∧ yX3_compare.cls ≠ "java/lang/invoke/VarHandle" ∧ (parseMethodDescriptor yX3_compare.desc).map (fun d => d.parameters.length) = some 2 := by decide +kernel
def wX3_compare (p0 : Int32) (p1 : Int64) (thrown : Int32) (many : Nat → Int32) (amountOf : Nat → UInt64) (big : Nat → Int32) (K : Int32 → Int32 → (Nat → Int32) → Prop) : Prop := ((¬ ((jlshr p1 (52 : Int32)) &&& (2047 : Int64)) = (2047 : Int64) → (vn_snl2d p1 = false ∧ (∀ r_1 : UInt64, r_1 = p1.toUInt64 → ((dgt r_1 (5102578377810771968 : UInt64) → K (-102 : Int32) (0 : Int32) big) ∧ (¬ dgt r_1 (5102578377810771968 : UInt64) → ((¬ dlt r_1 (14325950414665547776 : UInt64) → (wX3_faultOf p0 many (fun (r_2 : Int32) => ((r_2 = (0 : Int32) → (wX3_sumLedger (0 : Int32) p0 many amountOf big (fun (big_3 : Nat → Int32) => (wX3_addNumber (0 : Int32) (FP.dneg r_1) big_3 (fun (big_4 : Nat → Int32) => (wX3_signOf (0 : Int32) big_4 (fun (r_5 : Int32) => K r_5 r_2 big_4))))))) ∧ (¬ r_2 = (0 : Int32) → K (0 : Int32) r_2 big))))) ∧ (dlt r_1 (14325950414665547776 : UInt64) → K (-102 : Int32) (0 : Int32) big))))))) ∧ (((jlshr p1 (52 : Int32)) &&& (2047 : Int64)) = (2047 : Int64) → K (-102 : Int32) (0 : Int32) big))
set_option maxRecDepth 20000 in
theorem tX3_compare {l : Launch} {D : va_G} {ta : Nat → ClassId} {h0 : Nat} {ad : Nat → Nat} {thrown : Int32} {many : Nat → Int32} {isWide : Nat → Int32} {amountOf : Nat → UInt64} {accountOf : Nat → Int32} {dayOf : Nat → Int32} {given : Nat → Int32} {givenOf : Nat → Int32} {runs : Int32} {runWide : Nat → Int32} {runWay : Nat → Int32} {runTotal : Nat → UInt64} {runSteps : Nat → Int32} {lefts : Nat → UInt64} {rights : Nat → UInt64} {results : Nat → UInt64} {wide : Int32} {dn : Int32} {stepsAt : Int32} {keeps : Int32} {order : Nat → Int32} {att : Nat → UInt64} {spareAmount : Nat → UInt64} {spareAccount : Nat → Int32} {spareDay : Nat → Int32} {cured : Int32} {cureOf : Nat → Int32} {shareOf : Nat → Int32} {big : Nat → Int32} {unitsOf : Int64} {spare : Int32} {halfFrom : Nat → Int32} {halfMany : Nat → Int32} {halfDone : Nat → Int32} {halfTotal : Nat → UInt64} {isFar : Int32} {p0 : Int32} {p1 : Int64} {K : Int32 → Int32 → (Nat → Int32) → Prop} (hlt : l.stackTraces = false) (h : wX3_compare p0 p1 thrown many amountOf big K) : SMi2 l D ta yX3_compare cX3_compare 6 FieldType.int 6 [.ref h0, .int p0, .long p1] (mW h0 ad ta thrown many isWide amountOf accountOf dayOf given givenOf runs runWide runWay runTotal runSteps lefts rights results wide dn stepsAt keeps order att spareAmount spareAccount spareDay cured cureOf shareOf big unitsOf spare halfFrom halfMany halfDone halfTotal isFar) (fun (thrown' : Int32) (big' : Nat → Int32) => mW h0 ad ta thrown' many isWide amountOf accountOf dayOf given givenOf runs runWide runWay runTotal runSteps lefts rights results wide dn stepsAt keeps order att spareAmount spareAccount spareDay cured cureOf shareOf big' unitsOf spare halfFrom halfMany halfDone halfTotal isFar) 0 0 K := by
  refine x_sti2 hlt (plainFor_of_name (by decide +kernel)) (Nat.le_of_ble_eq_true rfl) (fun g G hl hD hT Q => ?_)
  subst hl; subst hD; subst hT
  unfold wX3_compare at h
  show X g 6 0 [(0, .ref h0), (1, .int p0), (2, .long p1)] [] (mW h0 ad (xT g) thrown many isWide amountOf accountOf dayOf given givenOf runs runWide runWay runTotal runSteps lefts rights results wide dn stepsAt keeps order att spareAmount spareAccount spareDay cured cureOf shareOf big unitsOf spare halfFrom halfMany halfDone halfTotal isFar) 0 0
  refine x_aload_n G rfl dX3_compare_0 0 rfl ?_
  refine x_iconst (v := (0 : Int32)) G dX3_compare_1 (by decide) ?_
  refine m_put_0 G dX3_compare_2 ?_
  refine x_lload_n G rfl dX3_compare_5 2 rfl ?_
  refine x_bipush (v := (52 : Int32)) G dX3_compare_6 (by decide) ?_
  refine x_lshr G dX3_compare_8 ?_
  refine x_ldc2 G q1673 dX3_compare_9 ?_
  refine x_land G dX3_compare_12 ?_
  refine x_ldc2 G q1673 dX3_compare_13 ?_
  refine x_lcmp_ne (tgt := 23) G dX3_compare_16 dX3_compare_17 rfl (fun c => ?_) (fun c => ?_)
  · replace h := h.1 c
    refine x_lload_n G rfl dX3_compare_23 2 rfl ?_
    obtain ⟨hz, h⟩ := h
    refine x_nl2d G q1674 q314 q313 q84 hz (by decide) (Nat.le_of_ble_eq_true rfl) dX3_compare_24 ?_
    refine x_topd (fun r_1 er_1 => ?_)
    replace h := h r_1 er_1
    refine x_dstore (lv' := [(4, .double r_1), (0, .ref h0), (1, .int p0), (2, .long p1)]) G dX3_compare_27 (by decide) rfl ?_
    refine x_dload G dX3_compare_29 0 rfl ?_
    refine x_ldc2d G q1968 dX3_compare_31 ?_
    refine x_dcmpl_gt (tgt := 47) G dX3_compare_34 dX3_compare_35 rfl (fun c => ?_) (fun c => ?_)
    · replace h := h.1 c
      refine x_bipush (v := (-102 : Int32)) G dX3_compare_47 (by decide) ?_
      exact x_reti2 G Q dX3_compare_49 rfl (0 : Int32) big h XSub.rf (Nat.le_refl _) (Nat.le_refl _)
    · replace h := h.2 c
      refine x_dload G dX3_compare_38 0 rfl ?_
      refine x_ldc2d G q1969 dX3_compare_40 ?_
      refine x_dcmpg_ge (tgt := 50) G dX3_compare_43 dX3_compare_44 rfl (fun c => ?_) (fun c => ?_)
      · replace h := h.1 c
        refine x_aload_n G rfl dX3_compare_50 1 rfl ?_
        refine x_aload_n G rfl dX3_compare_51 1 rfl ?_
        refine x_iload_n G rfl dX3_compare_52 2 rfl ?_
        refine x_cVi0 (As := [.int p0]) (rest := [.ref h0]) G [] XSub.rf (tX3_faultOf G.noTraces h) (lw_V q1669 q1671 qs21 q70 q1672) cdX3_faultOf 3 0 rfl rfl rfl (by decide) (by decide) rfl (Nat.le_of_ble_eq_true rfl) (Nat.zero_le _) (Nat.zero_le _) dX3_compare_53 (fun r_2 h => ?_)
        show X g 6 56 [(4, .double r_1), (0, .ref h0), (1, .int p0), (2, .long p1)] [.int r_2, .ref h0] (mW h0 ad (xT g) (0 : Int32) many isWide amountOf accountOf dayOf given givenOf runs runWide runWay runTotal runSteps lefts rights results wide dn stepsAt keeps order att spareAmount spareAccount spareDay cured cureOf shareOf big unitsOf spare halfFrom halfMany halfDone halfTotal isFar) 0 0
        refine m_put_0 G dX3_compare_56 ?_
        refine x_aload_n G rfl dX3_compare_59 1 rfl ?_
        refine m_get_0 G dX3_compare_60 ?_
        refine x_if_eq (tgt := 68) G dX3_compare_63 rfl (fun c => ?_) (fun c => ?_)
        · replace h := h.1 c
          refine x_aload_n G rfl dX3_compare_68 1 rfl ?_
          refine x_iconst (v := (0 : Int32)) G dX3_compare_69 (by decide) ?_
          refine x_iload_n G rfl dX3_compare_70 2 rfl ?_
          refine x_cVv1 (As := [.int (0 : Int32), .int p0]) (rest := []) G [] XSub.rf (tX3_sumLedger G.noTraces h) (lw_V q1970 q1972 qs57 q70 q1973) cdX3_sumLedger 3 0 rfl rfl rfl (by decide) (by decide) rfl (Nat.le_of_ble_eq_true rfl) (Nat.zero_le _) (Nat.zero_le _) dX3_compare_71 (fun big_3 h => ?_)
          show X g 6 74 [(4, .double r_1), (0, .ref h0), (1, .int p0), (2, .long p1)] [] (mW h0 ad (xT g) r_2 many isWide amountOf accountOf dayOf given givenOf runs runWide runWay runTotal runSteps lefts rights results wide dn stepsAt keeps order att spareAmount spareAccount spareDay cured cureOf shareOf big_3 unitsOf spare halfFrom halfMany halfDone halfTotal isFar) 0 0
          refine x_aload_n G rfl dX3_compare_74 1 rfl ?_
          refine x_iconst (v := (0 : Int32)) G dX3_compare_75 (by decide) ?_
          refine x_dload G dX3_compare_76 0 rfl ?_
          refine x_dneg G dX3_compare_78 ?_
          refine x_cVv1 (As := [.int (0 : Int32), .double (FP.dneg r_1)]) (rest := []) G [] XSub.rf (tX3_addNumber G.noTraces h) (lw_V q1893 q1895 qs46 q70 q1896) cdX3_addNumber 3 0 rfl rfl rfl (by decide) (by decide) rfl (Nat.le_of_ble_eq_true rfl) (Nat.zero_le _) (Nat.zero_le _) dX3_compare_79 (fun big_4 h => ?_)
          show X g 6 82 [(4, .double r_1), (0, .ref h0), (1, .int p0), (2, .long p1)] [] (mW h0 ad (xT g) r_2 many isWide amountOf accountOf dayOf given givenOf runs runWide runWay runTotal runSteps lefts rights results wide dn stepsAt keeps order att spareAmount spareAccount spareDay cured cureOf shareOf big_4 unitsOf spare halfFrom halfMany halfDone halfTotal isFar) 0 0
          refine x_aload_n G rfl dX3_compare_82 1 rfl ?_
          refine x_iconst (v := (0 : Int32)) G dX3_compare_83 (by decide) ?_
          refine x_cVi0 (As := [.int (0 : Int32)]) (rest := []) G [] XSub.rf (tX3_signOf G.noTraces h) (lw_V q1914 q1916 qs51 q70 q1917) cdX3_signOf 3 0 rfl rfl rfl (by decide) (by decide) rfl (Nat.le_of_ble_eq_true rfl) (Nat.zero_le _) (Nat.zero_le _) dX3_compare_84 (fun r_5 h => ?_)
          show X g 6 87 [(4, .double r_1), (0, .ref h0), (1, .int p0), (2, .long p1)] [.int r_5] (mW h0 ad (xT g) r_2 many isWide amountOf accountOf dayOf given givenOf runs runWide runWay runTotal runSteps lefts rights results wide dn stepsAt keeps order att spareAmount spareAccount spareDay cured cureOf shareOf big_4 unitsOf spare halfFrom halfMany halfDone halfTotal isFar) 0 0
          exact x_reti2 G Q dX3_compare_87 rfl r_2 big_4 h XSub.rf (Nat.le_refl _) (Nat.le_refl _)
        · replace h := h.2 c
          refine x_iconst (v := (0 : Int32)) G dX3_compare_66 (by decide) ?_
          exact x_reti2 G Q dX3_compare_67 rfl r_2 big h XSub.rf (Nat.le_refl _) (Nat.le_refl _)
      · replace h := h.2 c
        refine x_bipush (v := (-102 : Int32)) G dX3_compare_47 (by decide) ?_
        exact x_reti2 G Q dX3_compare_49 rfl (0 : Int32) big h XSub.rf (Nat.le_refl _) (Nat.le_refl _)
  · replace h := h.2 c
    refine x_bipush (v := (-102 : Int32)) G dX3_compare_20 (by decide) ?_
    exact x_reti2 G Q dX3_compare_22 rfl (0 : Int32) big h XSub.rf (Nat.le_refl _) (Nat.le_refl _)
theorem cdX3_exactOf : yX3_exactOf.cls = RX3 ∧ yX3_exactOf.cls ≠ "java/lang/invoke/MethodHandle" ∧ yX3_exactOf.cls ≠ "java/lang/invoke/VarHandle" ∧ (parseMethodDescriptor yX3_exactOf.desc).map (fun d => d.parameters.length) = some 1 := by decide +kernel
def wX3_exactOf (p0 : Int32) (many : Nat → Int32) (isWide : Nat → Int32) (amountOf : Nat → UInt64) (big : Nat → Int32) (K : UInt64 → (Nat → Int32) → Prop) : Prop := (wX3_sumLedger (0 : Int32) p0 many amountOf big (fun (big_1 : Nat → Int32) => (vp_in p0 12 ∧ (wX3_nearest (0 : Int32) (isWide p0.toNatClampNeg) big_1 (fun (r_2 : UInt64) (big_3 : Nat → Int32) => K r_2 big_3)))))
set_option maxRecDepth 20000 in
theorem tX3_exactOf {l : Launch} {D : va_G} {ta : Nat → ClassId} {h0 : Nat} {ad : Nat → Nat} {thrown : Int32} {many : Nat → Int32} {isWide : Nat → Int32} {amountOf : Nat → UInt64} {accountOf : Nat → Int32} {dayOf : Nat → Int32} {given : Nat → Int32} {givenOf : Nat → Int32} {runs : Int32} {runWide : Nat → Int32} {runWay : Nat → Int32} {runTotal : Nat → UInt64} {runSteps : Nat → Int32} {lefts : Nat → UInt64} {rights : Nat → UInt64} {results : Nat → UInt64} {wide : Int32} {dn : Int32} {stepsAt : Int32} {keeps : Int32} {order : Nat → Int32} {att : Nat → UInt64} {spareAmount : Nat → UInt64} {spareAccount : Nat → Int32} {spareDay : Nat → Int32} {cured : Int32} {cureOf : Nat → Int32} {shareOf : Nat → Int32} {big : Nat → Int32} {unitsOf : Int64} {spare : Int32} {halfFrom : Nat → Int32} {halfMany : Nat → Int32} {halfDone : Nat → Int32} {halfTotal : Nat → UInt64} {isFar : Int32} {p0 : Int32} {K : UInt64 → (Nat → Int32) → Prop} (hlt : l.stackTraces = false) (h : wX3_exactOf p0 many isWide amountOf big K) : SMd1 l D ta yX3_exactOf cX3_exactOf 2 FieldType.double 6 [.ref h0, .int p0] (mW h0 ad ta thrown many isWide amountOf accountOf dayOf given givenOf runs runWide runWay runTotal runSteps lefts rights results wide dn stepsAt keeps order att spareAmount spareAccount spareDay cured cureOf shareOf big unitsOf spare halfFrom halfMany halfDone halfTotal isFar) (fun (big' : Nat → Int32) => mW h0 ad ta thrown many isWide amountOf accountOf dayOf given givenOf runs runWide runWay runTotal runSteps lefts rights results wide dn stepsAt keeps order att spareAmount spareAccount spareDay cured cureOf shareOf big' unitsOf spare halfFrom halfMany halfDone halfTotal isFar) 0 0 K := by
  refine x_std1 hlt (plainFor_of_name (by decide +kernel)) (Nat.le_of_ble_eq_true rfl) (fun g G hl hD hT Q => ?_)
  subst hl; subst hD; subst hT
  unfold wX3_exactOf at h
  show X g 2 0 [(0, .ref h0), (1, .int p0)] [] (mW h0 ad (xT g) thrown many isWide amountOf accountOf dayOf given givenOf runs runWide runWay runTotal runSteps lefts rights results wide dn stepsAt keeps order att spareAmount spareAccount spareDay cured cureOf shareOf big unitsOf spare halfFrom halfMany halfDone halfTotal isFar) 0 0
  refine x_aload_n G rfl dX3_exactOf_0 0 rfl ?_
  refine x_iconst (v := (0 : Int32)) G dX3_exactOf_1 (by decide) ?_
  refine x_iload_n G rfl dX3_exactOf_2 1 rfl ?_
  refine x_cVv1 (As := [.int (0 : Int32), .int p0]) (rest := []) G [] XSub.rf (tX3_sumLedger G.noTraces h) (lw_V q1970 q1972 qs57 q70 q1973) cdX3_sumLedger 3 0 rfl rfl rfl (by decide) (by decide) rfl (Nat.le_of_ble_eq_true rfl) (Nat.zero_le _) (Nat.zero_le _) dX3_exactOf_3 (fun big_1 h => ?_)
  show X g 2 6 [(0, .ref h0), (1, .int p0)] [] (mW h0 ad (xT g) thrown many isWide amountOf accountOf dayOf given givenOf runs runWide runWay runTotal runSteps lefts rights results wide dn stepsAt keeps order att spareAmount spareAccount spareDay cured cureOf shareOf big_1 unitsOf spare halfFrom halfMany halfDone halfTotal isFar) 0 0
  refine x_aload_n G rfl dX3_exactOf_6 0 rfl ?_
  refine x_iconst (v := (0 : Int32)) G dX3_exactOf_7 (by decide) ?_
  refine x_aload_n G rfl dX3_exactOf_8 0 rfl ?_
  refine m_get_2 G dX3_exactOf_9 ?_
  refine x_iload_n G rfl dX3_exactOf_12 1 rfl ?_
  obtain ⟨hz, h⟩ := h
  refine m_ald_2 G hz dX3_exactOf_13 ?_
  refine x_cVd1 (As := [.int (0 : Int32), .int (isWide p0.toNatClampNeg)]) (rest := []) G [] XSub.rf (tX3_nearest G.noTraces h) (lw_V q1910 q1912 qs50 q70 q1913) cdX3_nearest 3 0 rfl rfl rfl (by decide) (by decide) rfl (Nat.le_of_ble_eq_true rfl) (Nat.zero_le _) (Nat.zero_le _) dX3_exactOf_14 (fun r_2 big_3 h => ?_)
  show X g 2 17 [(0, .ref h0), (1, .int p0)] [.double r_2] (mW h0 ad (xT g) thrown many isWide amountOf accountOf dayOf given givenOf runs runWide runWay runTotal runSteps lefts rights results wide dn stepsAt keeps order att spareAmount spareAccount spareDay cured cureOf shareOf big_3 unitsOf spare halfFrom halfMany halfDone halfTotal isFar) 0 0
  exact x_retd1 G Q dX3_exactOf_17 big_3 h XSub.rf (Nat.le_refl _) (Nat.le_refl _)
theorem cdX3_rounded : yX3_rounded.cls = RX3 ∧ yX3_rounded.cls ≠ "java/lang/invoke/MethodHandle" ∧ yX3_rounded.cls ≠ "java/lang/invoke/VarHandle" ∧ (parseMethodDescriptor yX3_rounded.desc).map (fun d => d.parameters.length) = some 1 := by decide +kernel
def wX3_rounded (p0 : Int32) (thrown : Int32) (many : Nat → Int32) (isWide : Nat → Int32) (amountOf : Nat → UInt64) (big : Nat → Int32) (K : Int64 → Int32 → (Nat → Int32) → Prop) : Prop := (wX3_faultOf p0 many (fun (r_1 : Int32) => ((r_1 = (0 : Int32) → (vp_in p0 12 ∧ (wX3_exactOf p0 many isWide amountOf big (fun (r_2 : UInt64) (big_3 : Nat → Int32) => (wX3_bitsOf (isWide p0.toNatClampNeg) r_2 (fun (r_4 : Int64) => K r_4 r_1 big_3)))))) ∧ (¬ r_1 = (0 : Int32) → K (0 : Int64) r_1 big))))
set_option maxRecDepth 20000 in
theorem tX3_rounded {l : Launch} {D : va_G} {ta : Nat → ClassId} {h0 : Nat} {ad : Nat → Nat} {thrown : Int32} {many : Nat → Int32} {isWide : Nat → Int32} {amountOf : Nat → UInt64} {accountOf : Nat → Int32} {dayOf : Nat → Int32} {given : Nat → Int32} {givenOf : Nat → Int32} {runs : Int32} {runWide : Nat → Int32} {runWay : Nat → Int32} {runTotal : Nat → UInt64} {runSteps : Nat → Int32} {lefts : Nat → UInt64} {rights : Nat → UInt64} {results : Nat → UInt64} {wide : Int32} {dn : Int32} {stepsAt : Int32} {keeps : Int32} {order : Nat → Int32} {att : Nat → UInt64} {spareAmount : Nat → UInt64} {spareAccount : Nat → Int32} {spareDay : Nat → Int32} {cured : Int32} {cureOf : Nat → Int32} {shareOf : Nat → Int32} {big : Nat → Int32} {unitsOf : Int64} {spare : Int32} {halfFrom : Nat → Int32} {halfMany : Nat → Int32} {halfDone : Nat → Int32} {halfTotal : Nat → UInt64} {isFar : Int32} {p0 : Int32} {K : Int64 → Int32 → (Nat → Int32) → Prop} (hlt : l.stackTraces = false) (h : wX3_rounded p0 thrown many isWide amountOf big K) : SMl2 l D ta yX3_rounded cX3_rounded 2 FieldType.long 7 [.ref h0, .int p0] (mW h0 ad ta thrown many isWide amountOf accountOf dayOf given givenOf runs runWide runWay runTotal runSteps lefts rights results wide dn stepsAt keeps order att spareAmount spareAccount spareDay cured cureOf shareOf big unitsOf spare halfFrom halfMany halfDone halfTotal isFar) (fun (thrown' : Int32) (big' : Nat → Int32) => mW h0 ad ta thrown' many isWide amountOf accountOf dayOf given givenOf runs runWide runWay runTotal runSteps lefts rights results wide dn stepsAt keeps order att spareAmount spareAccount spareDay cured cureOf shareOf big' unitsOf spare halfFrom halfMany halfDone halfTotal isFar) 0 0 K := by
  refine x_stl2 hlt (plainFor_of_name (by decide +kernel)) (Nat.le_of_ble_eq_true rfl) (fun g G hl hD hT Q => ?_)
  subst hl; subst hD; subst hT
  unfold wX3_rounded at h
  show X g 2 0 [(0, .ref h0), (1, .int p0)] [] (mW h0 ad (xT g) thrown many isWide amountOf accountOf dayOf given givenOf runs runWide runWay runTotal runSteps lefts rights results wide dn stepsAt keeps order att spareAmount spareAccount spareDay cured cureOf shareOf big unitsOf spare halfFrom halfMany halfDone halfTotal isFar) 0 0
  refine x_aload_n G rfl dX3_rounded_0 0 rfl ?_
  refine x_aload_n G rfl dX3_rounded_1 0 rfl ?_
  refine x_iload_n G rfl dX3_rounded_2 1 rfl ?_
  refine x_cVi0 (As := [.int p0]) (rest := [.ref h0]) G [] XSub.rf (tX3_faultOf G.noTraces h) (lw_V q1669 q1671 qs21 q70 q1672) cdX3_faultOf 3 0 rfl rfl rfl (by decide) (by decide) rfl (Nat.le_of_ble_eq_true rfl) (Nat.zero_le _) (Nat.zero_le _) dX3_rounded_3 (fun r_1 h => ?_)
  show X g 2 6 [(0, .ref h0), (1, .int p0)] [.int r_1, .ref h0] (mW h0 ad (xT g) thrown many isWide amountOf accountOf dayOf given givenOf runs runWide runWay runTotal runSteps lefts rights results wide dn stepsAt keeps order att spareAmount spareAccount spareDay cured cureOf shareOf big unitsOf spare halfFrom halfMany halfDone halfTotal isFar) 0 0
  refine m_put_0 G dX3_rounded_6 ?_
  refine x_aload_n G rfl dX3_rounded_9 0 rfl ?_
  refine m_get_0 G dX3_rounded_10 ?_
  refine x_if_eq (tgt := 20) G dX3_rounded_13 rfl (fun c => ?_) (fun c => ?_)
  · replace h := h.1 c
    refine x_aload_n G rfl dX3_rounded_20 0 rfl ?_
    refine m_get_2 G dX3_rounded_21 ?_
    refine x_iload_n G rfl dX3_rounded_24 1 rfl ?_
    obtain ⟨hz, h⟩ := h
    refine m_ald_2 G hz dX3_rounded_25 ?_
    refine x_aload_n G rfl dX3_rounded_26 0 rfl ?_
    refine x_iload_n G rfl dX3_rounded_27 1 rfl ?_
    refine x_cVd1 (As := [.int p0]) (rest := [.int (isWide p0.toNatClampNeg)]) G [] XSub.rf (tX3_exactOf G.noTraces h) (lw_V q1978 q1980 qs58 q70 q1981) cdX3_exactOf 3 0 rfl rfl rfl (by decide) (by decide) rfl (Nat.le_of_ble_eq_true rfl) (Nat.zero_le _) (Nat.zero_le _) dX3_rounded_28 (fun r_2 big_3 h => ?_)
    show X g 2 31 [(0, .ref h0), (1, .int p0)] [.double r_2, .int (isWide p0.toNatClampNeg)] (mW h0 ad (xT g) r_1 many isWide amountOf accountOf dayOf given givenOf runs runWide runWay runTotal runSteps lefts rights results wide dn stepsAt keeps order att spareAmount spareAccount spareDay cured cureOf shareOf big_3 unitsOf spare halfFrom halfMany halfDone halfTotal isFar) 0 0
    refine x_cPl (As := [.int (isWide p0.toNatClampNeg), .double r_2]) (rest := []) G (tX3_bitsOf G.noTraces h) (lw_S q1688 q1689 q70 q1690) cdX3_bitsOf (by decide) (by decide) rfl (Nat.le_of_ble_eq_true rfl) (Nat.zero_le _) (Nat.zero_le _) dX3_rounded_31 (fun r_4 h => ?_)
    exact x_retl2 G Q dX3_rounded_34 r_1 big_3 h XSub.rf (Nat.le_refl _) (Nat.le_refl _)
  · replace h := h.2 c
    refine x_lconst (v := (0 : Int64)) G dX3_rounded_16 (by decide) ?_
    refine x_goto (tgt := 34) G dX3_rounded_17 rfl ?_
    exact x_retl2 G Q dX3_rounded_34 r_1 big h XSub.rf (Nat.le_refl _) (Nat.le_refl _)
theorem cdX3_word : yX3_word.cls = RX3 ∧ yX3_word.cls ≠ "java/lang/invoke/MethodHandle" ∧ yX3_word.cls ≠ "java/lang/invoke/VarHandle" ∧ (parseMethodDescriptor yX3_word.desc).map (fun d => d.parameters.length) = some 2 := by decide +kernel
def wX3_word (p0 : Int32) (p1 : Int32) (thrown : Int32) (many : Nat → Int32) (amountOf : Nat → UInt64) (big : Nat → Int32) (K : Int32 → Int32 → (Nat → Int32) → Prop) : Prop := (wX3_in p1.toInt64 (0 : Int64) (39 : Int64) (fun (r_1 : Int32) => ((¬ r_1 = (0 : Int32) → (wX3_faultOf p0 many (fun (r_2 : Int32) => ((r_2 = (0 : Int32) → (wX3_sumLedger (0 : Int32) p0 many amountOf big (fun (big_3 : Nat → Int32) => (vp_in p1 1056 ∧ K (big_3 p1.toNatClampNeg) r_2 big_3)))) ∧ (¬ r_2 = (0 : Int32) → K (0 : Int32) r_2 big))))) ∧ (r_1 = (0 : Int32) → K (-102 : Int32) (0 : Int32) big))))
set_option maxRecDepth 20000 in
theorem tX3_word {l : Launch} {D : va_G} {ta : Nat → ClassId} {h0 : Nat} {ad : Nat → Nat} {thrown : Int32} {many : Nat → Int32} {isWide : Nat → Int32} {amountOf : Nat → UInt64} {accountOf : Nat → Int32} {dayOf : Nat → Int32} {given : Nat → Int32} {givenOf : Nat → Int32} {runs : Int32} {runWide : Nat → Int32} {runWay : Nat → Int32} {runTotal : Nat → UInt64} {runSteps : Nat → Int32} {lefts : Nat → UInt64} {rights : Nat → UInt64} {results : Nat → UInt64} {wide : Int32} {dn : Int32} {stepsAt : Int32} {keeps : Int32} {order : Nat → Int32} {att : Nat → UInt64} {spareAmount : Nat → UInt64} {spareAccount : Nat → Int32} {spareDay : Nat → Int32} {cured : Int32} {cureOf : Nat → Int32} {shareOf : Nat → Int32} {big : Nat → Int32} {unitsOf : Int64} {spare : Int32} {halfFrom : Nat → Int32} {halfMany : Nat → Int32} {halfDone : Nat → Int32} {halfTotal : Nat → UInt64} {isFar : Int32} {p0 : Int32} {p1 : Int32} {K : Int32 → Int32 → (Nat → Int32) → Prop} (hlt : l.stackTraces = false) (h : wX3_word p0 p1 thrown many amountOf big K) : SMi2 l D ta yX3_word cX3_word 3 FieldType.int 6 [.ref h0, .int p0, .int p1] (mW h0 ad ta thrown many isWide amountOf accountOf dayOf given givenOf runs runWide runWay runTotal runSteps lefts rights results wide dn stepsAt keeps order att spareAmount spareAccount spareDay cured cureOf shareOf big unitsOf spare halfFrom halfMany halfDone halfTotal isFar) (fun (thrown' : Int32) (big' : Nat → Int32) => mW h0 ad ta thrown' many isWide amountOf accountOf dayOf given givenOf runs runWide runWay runTotal runSteps lefts rights results wide dn stepsAt keeps order att spareAmount spareAccount spareDay cured cureOf shareOf big' unitsOf spare halfFrom halfMany halfDone halfTotal isFar) 0 0 K := by
  refine x_sti2 hlt (plainFor_of_name (by decide +kernel)) (Nat.le_of_ble_eq_true rfl) (fun g G hl hD hT Q => ?_)
  subst hl; subst hD; subst hT
  unfold wX3_word at h
  show X g 3 0 [(0, .ref h0), (1, .int p0), (2, .int p1)] [] (mW h0 ad (xT g) thrown many isWide amountOf accountOf dayOf given givenOf runs runWide runWay runTotal runSteps lefts rights results wide dn stepsAt keeps order att spareAmount spareAccount spareDay cured cureOf shareOf big unitsOf spare halfFrom halfMany halfDone halfTotal isFar) 0 0
  refine x_aload_n G rfl dX3_word_0 0 rfl ?_
  refine x_iconst (v := (0 : Int32)) G dX3_word_1 (by decide) ?_
  refine m_put_0 G dX3_word_2 ?_
  refine x_iload_n G rfl dX3_word_5 2 rfl ?_
  refine x_i2l G dX3_word_6 ?_
  refine x_lconst (v := (0 : Int64)) G dX3_word_7 (by decide) ?_
  refine x_ldc2 G q1986 dX3_word_8 ?_
  refine x_cPi (As := [.long p1.toInt64, .long (0 : Int64), .long (39 : Int64)]) (rest := []) G (tX3_in G.noTraces h) (lw_S q1650 q1651 q70 q1652) cdX3_in (by decide) (by decide) rfl (Nat.le_of_ble_eq_true rfl) (Nat.zero_le _) (Nat.zero_le _) dX3_word_11 (fun r_1 h => ?_)
  refine x_if_ne (tgt := 20) G dX3_word_14 rfl (fun c => ?_) (fun c => ?_)
  · replace h := h.1 c
    refine x_aload_n G rfl dX3_word_20 0 rfl ?_
    refine x_aload_n G rfl dX3_word_21 0 rfl ?_
    refine x_iload_n G rfl dX3_word_22 1 rfl ?_
    refine x_cVi0 (As := [.int p0]) (rest := [.ref h0]) G [] XSub.rf (tX3_faultOf G.noTraces h) (lw_V q1669 q1671 qs21 q70 q1672) cdX3_faultOf 3 0 rfl rfl rfl (by decide) (by decide) rfl (Nat.le_of_ble_eq_true rfl) (Nat.zero_le _) (Nat.zero_le _) dX3_word_23 (fun r_2 h => ?_)
    show X g 3 26 [(0, .ref h0), (1, .int p0), (2, .int p1)] [.int r_2, .ref h0] (mW h0 ad (xT g) (0 : Int32) many isWide amountOf accountOf dayOf given givenOf runs runWide runWay runTotal runSteps lefts rights results wide dn stepsAt keeps order att spareAmount spareAccount spareDay cured cureOf shareOf big unitsOf spare halfFrom halfMany halfDone halfTotal isFar) 0 0
    refine m_put_0 G dX3_word_26 ?_
    refine x_aload_n G rfl dX3_word_29 0 rfl ?_
    refine m_get_0 G dX3_word_30 ?_
    refine x_if_eq (tgt := 38) G dX3_word_33 rfl (fun c => ?_) (fun c => ?_)
    · replace h := h.1 c
      refine x_aload_n G rfl dX3_word_38 0 rfl ?_
      refine x_iconst (v := (0 : Int32)) G dX3_word_39 (by decide) ?_
      refine x_iload_n G rfl dX3_word_40 1 rfl ?_
      refine x_cVv1 (As := [.int (0 : Int32), .int p0]) (rest := []) G [] XSub.rf (tX3_sumLedger G.noTraces h) (lw_V q1970 q1972 qs57 q70 q1973) cdX3_sumLedger 3 0 rfl rfl rfl (by decide) (by decide) rfl (Nat.le_of_ble_eq_true rfl) (Nat.zero_le _) (Nat.zero_le _) dX3_word_41 (fun big_3 h => ?_)
      show X g 3 44 [(0, .ref h0), (1, .int p0), (2, .int p1)] [] (mW h0 ad (xT g) r_2 many isWide amountOf accountOf dayOf given givenOf runs runWide runWay runTotal runSteps lefts rights results wide dn stepsAt keeps order att spareAmount spareAccount spareDay cured cureOf shareOf big_3 unitsOf spare halfFrom halfMany halfDone halfTotal isFar) 0 0
      refine x_aload_n G rfl dX3_word_44 0 rfl ?_
      refine m_get_28 G dX3_word_45 ?_
      refine x_iload_n G rfl dX3_word_48 2 rfl ?_
      obtain ⟨hz, h⟩ := h
      refine m_ald_28 G hz dX3_word_49 ?_
      exact x_reti2 G Q dX3_word_50 rfl r_2 big_3 h XSub.rf (Nat.le_refl _) (Nat.le_refl _)
    · replace h := h.2 c
      refine x_iconst (v := (0 : Int32)) G dX3_word_36 (by decide) ?_
      exact x_reti2 G Q dX3_word_37 rfl r_2 big h XSub.rf (Nat.le_refl _) (Nat.le_refl _)
  · replace h := h.2 c
    refine x_bipush (v := (-102 : Int32)) G dX3_word_17 (by decide) ?_
    exact x_reti2 G Q dX3_word_19 rfl (0 : Int32) big h XSub.rf (Nat.le_refl _) (Nat.le_refl _)
theorem cdX3_firstOrder : yX3_firstOrder.cls = RX3 ∧ yX3_firstOrder.cls ≠ "java/lang/invoke/MethodHandle" ∧ yX3_firstOrder.cls ≠ "java/lang/invoke/VarHandle" ∧ (parseMethodDescriptor yX3_firstOrder.desc).map (fun d => d.parameters.length) = some 1 := by decide +kernel
def wX3_firstOrder_L12 (many : Nat → Int32) (p0 : Int32) (X35 : Int32 → (Nat → Int32) → Prop) : Nat → Int32 → (Nat → Int32) → Prop
  | 0, _, _ => False
  | n + 1, v2_2, order_3 => (vp_in p0 12 ∧ (((many p0.toNatClampNeg) ≤ v2_2 → X35 v2_2 order_3) ∧ (¬ (many p0.toNatClampNeg) ≤ v2_2 → (vp_in v2_2 60 ∧ (∀ order_4 : Nat → Int32, order_4 = upd order_3 v2_2.toNatClampNeg v2_2 → (∀ x_5 : Int32, x_5 = (v2_2 + (1 : Int32)) → wX3_firstOrder_L12 many p0 X35 n x_5 order_4))))))
def wX3_firstOrder (p0 : Int32) (many : Nat → Int32) (isWide : Nat → Int32) (wide : Int32) (order : Nat → Int32) (K : Int32 → (Nat → Int32) → Prop) : Prop := (vp_in p0 12 ∧ (∀ x_1 : Int32, x_1 = (isWide p0.toNatClampNeg) → (isB x_1 ∧ (∃ m12 : Nat, wX3_firstOrder_L12 many p0 (fun (v2_8 : Int32) (order_9 : Nat → Int32) => K x_1 order_9) m12 (0 : Int32) order))))
set_option maxRecDepth 20000 in
theorem kX3_firstOrder_L12 {g : XG} {h0 : Nat} {ad : Nat → Nat} {thrown : Int32} {many : Nat → Int32} {isWide : Nat → Int32} {amountOf : Nat → UInt64} {accountOf : Nat → Int32} {dayOf : Nat → Int32} {given : Nat → Int32} {givenOf : Nat → Int32} {runs : Int32} {runWide : Nat → Int32} {runWay : Nat → Int32} {runTotal : Nat → UInt64} {runSteps : Nat → Int32} {lefts : Nat → UInt64} {rights : Nat → UInt64} {results : Nat → UInt64} {dn : Int32} {stepsAt : Int32} {keeps : Int32} {att : Nat → UInt64} {spareAmount : Nat → UInt64} {spareAccount : Nat → Int32} {spareDay : Nat → Int32} {cured : Int32} {cureOf : Nat → Int32} {shareOf : Nat → Int32} {big : Nat → Int32} {unitsOf : Int64} {spare : Int32} {halfFrom : Nat → Int32} {halfMany : Nat → Int32} {halfDone : Nat → Int32} {halfTotal : Nat → UInt64} {isFar : Int32} {p0 : Int32} {x_1 : Int32} {X35 : Int32 → (Nat → Int32) → Prop} (G : XO g RX3 cX3_firstOrder 3 1 0 0) (hX35 : ∀ (v2_6 : Int32) (order_7 : Nat → Int32), X35 v2_6 order_7 → X g 3 35 [(2, .int v2_6), (0, .ref h0), (1, .int p0)] [] (mW h0 ad (xT g) thrown many isWide amountOf accountOf dayOf given givenOf runs runWide runWay runTotal runSteps lefts rights results x_1 dn stepsAt keeps order_7 att spareAmount spareAccount spareDay cured cureOf shareOf big unitsOf spare halfFrom halfMany halfDone halfTotal isFar) 0 0) : ∀ (n : Nat) (v2_2 : Int32) (order_3 : Nat → Int32), wX3_firstOrder_L12 many p0 X35 n v2_2 order_3 → X g 3 12 [(2, .int v2_2), (0, .ref h0), (1, .int p0)] [] (mW h0 ad (xT g) thrown many isWide amountOf accountOf dayOf given givenOf runs runWide runWay runTotal runSteps lefts rights results x_1 dn stepsAt keeps order_3 att spareAmount spareAccount spareDay cured cureOf shareOf big unitsOf spare halfFrom halfMany halfDone halfTotal isFar) 0 0 := by
  intro n
  induction n with
  | zero => intro _ _ h; exact h.elim
  | succ n ih =>
    intro v2_2 order_3 h
    unfold wX3_firstOrder_L12 at h
    refine x_iload_n G rfl dX3_firstOrder_12 0 rfl ?_
    refine x_aload_n G rfl dX3_firstOrder_13 1 rfl ?_
    refine m_get_1 G dX3_firstOrder_14 ?_
    refine x_iload_n G rfl dX3_firstOrder_17 2 rfl ?_
    obtain ⟨hz, h⟩ := h
    refine m_ald_1 G hz dX3_firstOrder_18 ?_
    refine x_icmp_ge (tgt := 35) G dX3_firstOrder_19 rfl (fun c => ?_) (fun c => ?_)
    · replace h := h.1 c
      exact hX35 v2_2 order_3 h
    · replace h := h.2 c
      refine x_aload_n G rfl dX3_firstOrder_22 1 rfl ?_
      refine m_get_20 G dX3_firstOrder_23 ?_
      refine x_iload_n G rfl dX3_firstOrder_26 0 rfl ?_
      refine x_iload_n G rfl dX3_firstOrder_27 0 rfl ?_
      obtain ⟨hz, h⟩ := h
      refine m_ast_20 G hz dX3_firstOrder_28 (fun order_4 eorder_4 => ?_)
      replace h := h order_4 eorder_4
      obtain ⟨x_5, ex_5⟩ : ∃ z : Int32, z = (v2_2 + (1 : Int32)) := ⟨_, rfl⟩
      replace h := h x_5 ex_5
      refine x_iinc (v := x_5) (lv' := [(2, .int x_5), (0, .ref h0), (1, .int p0)]) G dX3_firstOrder_29 0 rfl (by rw [ex_5]; rfl) (by decide) rfl ?_
      refine x_goto (tgt := 12) G dX3_firstOrder_32 rfl ?_
      exact ih x_5 order_4 h
set_option maxRecDepth 20000 in
theorem tX3_firstOrder {l : Launch} {D : va_G} {ta : Nat → ClassId} {h0 : Nat} {ad : Nat → Nat} {thrown : Int32} {many : Nat → Int32} {isWide : Nat → Int32} {amountOf : Nat → UInt64} {accountOf : Nat → Int32} {dayOf : Nat → Int32} {given : Nat → Int32} {givenOf : Nat → Int32} {runs : Int32} {runWide : Nat → Int32} {runWay : Nat → Int32} {runTotal : Nat → UInt64} {runSteps : Nat → Int32} {lefts : Nat → UInt64} {rights : Nat → UInt64} {results : Nat → UInt64} {wide : Int32} {dn : Int32} {stepsAt : Int32} {keeps : Int32} {order : Nat → Int32} {att : Nat → UInt64} {spareAmount : Nat → UInt64} {spareAccount : Nat → Int32} {spareDay : Nat → Int32} {cured : Int32} {cureOf : Nat → Int32} {shareOf : Nat → Int32} {big : Nat → Int32} {unitsOf : Int64} {spare : Int32} {halfFrom : Nat → Int32} {halfMany : Nat → Int32} {halfDone : Nat → Int32} {halfTotal : Nat → UInt64} {isFar : Int32} {p0 : Int32} {K : Int32 → (Nat → Int32) → Prop} (hlt : l.stackTraces = false) (h : wX3_firstOrder p0 many isWide wide order K) : SMv2 l D ta yX3_firstOrder cX3_firstOrder 3 1 [.ref h0, .int p0] (mW h0 ad ta thrown many isWide amountOf accountOf dayOf given givenOf runs runWide runWay runTotal runSteps lefts rights results wide dn stepsAt keeps order att spareAmount spareAccount spareDay cured cureOf shareOf big unitsOf spare halfFrom halfMany halfDone halfTotal isFar) (fun (wide' : Int32) (order' : Nat → Int32) => mW h0 ad ta thrown many isWide amountOf accountOf dayOf given givenOf runs runWide runWay runTotal runSteps lefts rights results wide' dn stepsAt keeps order' att spareAmount spareAccount spareDay cured cureOf shareOf big unitsOf spare halfFrom halfMany halfDone halfTotal isFar) 0 0 K := by
  refine x_stv2 hlt (plainFor_of_name (by decide +kernel)) (Nat.le_of_ble_eq_true rfl) (fun g G hl hD hT Q => ?_)
  subst hl; subst hD; subst hT
  unfold wX3_firstOrder at h
  show X g 3 0 [(0, .ref h0), (1, .int p0)] [] (mW h0 ad (xT g) thrown many isWide amountOf accountOf dayOf given givenOf runs runWide runWay runTotal runSteps lefts rights results wide dn stepsAt keeps order att spareAmount spareAccount spareDay cured cureOf shareOf big unitsOf spare halfFrom halfMany halfDone halfTotal isFar) 0 0
  refine x_aload_n G rfl dX3_firstOrder_0 0 rfl ?_
  refine x_aload_n G rfl dX3_firstOrder_1 0 rfl ?_
  refine m_get_2 G dX3_firstOrder_2 ?_
  refine x_iload_n G rfl dX3_firstOrder_5 1 rfl ?_
  obtain ⟨hz, h⟩ := h
  refine m_ald_2 G hz dX3_firstOrder_6 ?_
  refine x_topi (fun x_1 ex_1 => ?_)
  replace h := h x_1 ex_1
  obtain ⟨hb, h⟩ := h
  refine m_put_16 G hb dX3_firstOrder_7 ?_
  refine x_iconst (v := (0 : Int32)) G dX3_firstOrder_10 (by decide) ?_
  refine x_istore_n (lv' := [(2, .int (0 : Int32)), (0, .ref h0), (1, .int p0)]) G rfl dX3_firstOrder_11 (by decide) rfl ?_
  obtain ⟨n0, h⟩ := h
  refine kX3_firstOrder_L12 G (fun v2_8 order_9 h => ?_) n0 _ _ h
  · exact x_retv2 G Q dX3_firstOrder_35 x_1 order_9 h XSub.rf (Nat.le_refl _) (Nat.le_refl _)
theorem cdX3_ofOrder : yX3_ofOrder.cls = RX3 ∧ yX3_ofOrder.cls ≠ "java/lang/invoke/MethodHandle" ∧ yX3_ofOrder.cls ≠ "java/lang/invoke/VarHandle" ∧ (parseMethodDescriptor yX3_ofOrder.desc).map (fun d => d.parameters.length) = some 2 := by decide +kernel
def wX3_ofOrder_L28 (amountOf : Nat → UInt64) (wide : Int32) (order : Nat → Int32) (p0 : Int32) (p1 : Int32) (X63 : UInt64 → Int32 → Prop) : Nat → UInt64 → Int32 → Prop
  | 0, _, _ => False
  | n + 1, v3_2, v5_3 => ((p1 ≤ v5_3 → X63 v3_2 v5_3) ∧ (¬ p1 ≤ v5_3 → (vp_in v5_3 60 ∧ (vp_in (((60 : Int32) * p0) + (order v5_3.toNatClampNeg)) 720 ∧ (wX3_sum v3_2 (amountOf (((60 : Int32) * p0) + (order v5_3.toNatClampNeg)).toNatClampNeg) wide (fun (r_4 : UInt64) => (∀ x_5 : Int32, x_5 = (v5_3 + (1 : Int32)) → wX3_ofOrder_L28 amountOf wide order p0 p1 X63 n r_4 x_5)))))))
def wX3_ofOrder_J24 (amountOf : Nat → UInt64) (wide : Int32) (order : Nat → Int32) (p0 : Int32) (p1 : Int32) (K : UInt64 → Prop) : UInt64 → Prop := fun (s_1 : UInt64) => (∃ m28 : Nat, wX3_ofOrder_L28 amountOf wide order p0 p1 (fun (v3_8 : UInt64) (v5_9 : Int32) => K v3_8) m28 s_1 (1 : Int32))
def wX3_ofOrder (p0 : Int32) (p1 : Int32) (amountOf : Nat → UInt64) (wide : Int32) (order : Nat → Int32) (K : UInt64 → Prop) : Prop := ((¬ p1 = (0 : Int32) → (vp_in (0 : Int32) 60 ∧ (vp_in (((60 : Int32) * p0) + (order (0 : Int32).toNatClampNeg)) 720 ∧ (wX3_ofOrder_J24 amountOf wide order p0 p1 K (amountOf (((60 : Int32) * p0) + (order (0 : Int32).toNatClampNeg)).toNatClampNeg))))) ∧ (p1 = (0 : Int32) → (wX3_ofOrder_J24 amountOf wide order p0 p1 K FP.dconst0)))
set_option maxRecDepth 20000 in
theorem kX3_ofOrder_L28 {g : XG} {h0 : Nat} {ad : Nat → Nat} {thrown : Int32} {many : Nat → Int32} {isWide : Nat → Int32} {amountOf : Nat → UInt64} {accountOf : Nat → Int32} {dayOf : Nat → Int32} {given : Nat → Int32} {givenOf : Nat → Int32} {runs : Int32} {runWide : Nat → Int32} {runWay : Nat → Int32} {runTotal : Nat → UInt64} {runSteps : Nat → Int32} {lefts : Nat → UInt64} {rights : Nat → UInt64} {results : Nat → UInt64} {wide : Int32} {dn : Int32} {stepsAt : Int32} {keeps : Int32} {order : Nat → Int32} {att : Nat → UInt64} {spareAmount : Nat → UInt64} {spareAccount : Nat → Int32} {spareDay : Nat → Int32} {cured : Int32} {cureOf : Nat → Int32} {shareOf : Nat → Int32} {big : Nat → Int32} {unitsOf : Int64} {spare : Int32} {halfFrom : Nat → Int32} {halfMany : Nat → Int32} {halfDone : Nat → Int32} {halfTotal : Nat → UInt64} {isFar : Int32} {p0 : Int32} {p1 : Int32} {X63 : UInt64 → Int32 → Prop} (G : XO g RX3 cX3_ofOrder 6 2 0 0) (hX63 : ∀ (v3_6 : UInt64) (v5_7 : Int32), X63 v3_6 v5_7 → X g 6 63 [(5, .int v5_7), (3, .double v3_6), (0, .ref h0), (1, .int p0), (2, .int p1)] [] (mW h0 ad (xT g) thrown many isWide amountOf accountOf dayOf given givenOf runs runWide runWay runTotal runSteps lefts rights results wide dn stepsAt keeps order att spareAmount spareAccount spareDay cured cureOf shareOf big unitsOf spare halfFrom halfMany halfDone halfTotal isFar) 0 0) : ∀ (n : Nat) (v3_2 : UInt64) (v5_3 : Int32), wX3_ofOrder_L28 amountOf wide order p0 p1 X63 n v3_2 v5_3 → X g 6 28 [(5, .int v5_3), (3, .double v3_2), (0, .ref h0), (1, .int p0), (2, .int p1)] [] (mW h0 ad (xT g) thrown many isWide amountOf accountOf dayOf given givenOf runs runWide runWay runTotal runSteps lefts rights results wide dn stepsAt keeps order att spareAmount spareAccount spareDay cured cureOf shareOf big unitsOf spare halfFrom halfMany halfDone halfTotal isFar) 0 0 := by
  intro n
  induction n with
  | zero => intro _ _ h; exact h.elim
  | succ n ih =>
    intro v3_2 v5_3 h
    unfold wX3_ofOrder_L28 at h
    refine x_iload G dX3_ofOrder_28 0 rfl ?_
    refine x_iload_n G rfl dX3_ofOrder_30 4 rfl ?_
    refine x_icmp_ge (tgt := 63) G dX3_ofOrder_31 rfl (fun c => ?_) (fun c => ?_)
    · replace h := h.1 c
      exact hX63 v3_2 v5_3 h
    · replace h := h.2 c
      refine x_aload_n G rfl dX3_ofOrder_34 2 rfl ?_
      refine x_dload_n G rfl dX3_ofOrder_35 1 rfl ?_
      refine x_aload_n G rfl dX3_ofOrder_36 2 rfl ?_
      refine m_get_3 G dX3_ofOrder_37 ?_
      refine x_bipush (v := (60 : Int32)) G dX3_ofOrder_40 (by decide) ?_
      refine x_iload_n G rfl dX3_ofOrder_42 3 rfl ?_
      refine x_imul G dX3_ofOrder_43 ?_
      refine x_aload_n G rfl dX3_ofOrder_44 2 rfl ?_
      refine m_get_20 G dX3_ofOrder_45 ?_
      refine x_iload G dX3_ofOrder_48 0 rfl ?_
      obtain ⟨hz, h⟩ := h
      refine m_ald_20 G hz dX3_ofOrder_50 ?_
      refine x_iadd G dX3_ofOrder_51 ?_
      obtain ⟨hz, h⟩ := h
      refine m_ald_3 G hz dX3_ofOrder_52 ?_
      refine x_cVd0 (As := [.double v3_2, .double (amountOf (((60 : Int32) * p0) + (order v5_3.toNatClampNeg)).toNatClampNeg)]) (rest := []) G [] XSub.rf (tX3_sum G.noTraces h) (lw_V q1818 q1820 qs31 q70 q1821) cdX3_sum 3 0 rfl rfl rfl (by decide) (by decide) rfl (Nat.le_of_ble_eq_true rfl) (Nat.zero_le _) (Nat.zero_le _) dX3_ofOrder_53 (fun r_4 h => ?_)
      show X g 6 56 [(5, .int v5_3), (3, .double v3_2), (0, .ref h0), (1, .int p0), (2, .int p1)] [.double r_4] (mW h0 ad (xT g) thrown many isWide amountOf accountOf dayOf given givenOf runs runWide runWay runTotal runSteps lefts rights results wide dn stepsAt keeps order att spareAmount spareAccount spareDay cured cureOf shareOf big unitsOf spare halfFrom halfMany halfDone halfTotal isFar) 0 0
      refine x_dstore_n (lv' := [(3, .double r_4), (5, .int v5_3), (0, .ref h0), (1, .int p0), (2, .int p1)]) G rfl dX3_ofOrder_56 (by decide) rfl ?_
      obtain ⟨x_5, ex_5⟩ : ∃ z : Int32, z = (v5_3 + (1 : Int32)) := ⟨_, rfl⟩
      replace h := h x_5 ex_5
      refine x_iinc (v := x_5) (lv' := [(5, .int x_5), (3, .double r_4), (0, .ref h0), (1, .int p0), (2, .int p1)]) G dX3_ofOrder_57 1 rfl (by rw [ex_5]; rfl) (by decide) rfl ?_
      refine x_goto (tgt := 28) G dX3_ofOrder_60 rfl ?_
      exact ih r_4 x_5 h
set_option maxRecDepth 20000 in
theorem kX3_ofOrder_J24 {g : XG} {h0 : Nat} {ad : Nat → Nat} {thrown : Int32} {many : Nat → Int32} {isWide : Nat → Int32} {amountOf : Nat → UInt64} {accountOf : Nat → Int32} {dayOf : Nat → Int32} {given : Nat → Int32} {givenOf : Nat → Int32} {runs : Int32} {runWide : Nat → Int32} {runWay : Nat → Int32} {runTotal : Nat → UInt64} {runSteps : Nat → Int32} {lefts : Nat → UInt64} {rights : Nat → UInt64} {results : Nat → UInt64} {wide : Int32} {dn : Int32} {stepsAt : Int32} {keeps : Int32} {order : Nat → Int32} {att : Nat → UInt64} {spareAmount : Nat → UInt64} {spareAccount : Nat → Int32} {spareDay : Nat → Int32} {cured : Int32} {cureOf : Nat → Int32} {shareOf : Nat → Int32} {big : Nat → Int32} {unitsOf : Int64} {spare : Int32} {halfFrom : Nat → Int32} {halfMany : Nat → Int32} {halfDone : Nat → Int32} {halfTotal : Nat → UInt64} {isFar : Int32} {p0 : Int32} {p1 : Int32} {K : UInt64 → Prop} (G : XO g RX3 cX3_ofOrder 6 2 0 0) (Q : XQd0 g FieldType.double 0 0 (mW h0 ad (xT g) thrown many isWide amountOf accountOf dayOf given givenOf runs runWide runWay runTotal runSteps lefts rights results wide dn stepsAt keeps order att spareAmount spareAccount spareDay cured cureOf shareOf big unitsOf spare halfFrom halfMany halfDone halfTotal isFar) K) : ∀ (s_1 : UInt64), wX3_ofOrder_J24 amountOf wide order p0 p1 K s_1 → X g 6 24 [(0, .ref h0), (1, .int p0), (2, .int p1)] [.double s_1] (mW h0 ad (xT g) thrown many isWide amountOf accountOf dayOf given givenOf runs runWide runWay runTotal runSteps lefts rights results wide dn stepsAt keeps order att spareAmount spareAccount spareDay cured cureOf shareOf big unitsOf spare halfFrom halfMany halfDone halfTotal isFar) 0 0 := by
  intro s_1 h
  unfold wX3_ofOrder_J24 at h
  refine x_dstore_n (lv' := [(3, .double s_1), (0, .ref h0), (1, .int p0), (2, .int p1)]) G rfl dX3_ofOrder_24 (by decide) rfl ?_
  refine x_iconst (v := (1 : Int32)) G dX3_ofOrder_25 (by decide) ?_
  refine x_istore (lv' := [(5, .int (1 : Int32)), (3, .double s_1), (0, .ref h0), (1, .int p0), (2, .int p1)]) G dX3_ofOrder_26 (by decide) rfl ?_
  obtain ⟨n0, h⟩ := h
  refine kX3_ofOrder_L28 G (fun v3_8 v5_9 h => ?_) n0 _ _ h
  · refine x_dload_n G rfl dX3_ofOrder_63 1 rfl ?_
    exact x_retd0 G Q dX3_ofOrder_64  h XSub.rf (Nat.le_refl _) (Nat.le_refl _)
set_option maxRecDepth 20000 in
theorem tX3_ofOrder {l : Launch} {D : va_G} {ta : Nat → ClassId} {h0 : Nat} {ad : Nat → Nat} {thrown : Int32} {many : Nat → Int32} {isWide : Nat → Int32} {amountOf : Nat → UInt64} {accountOf : Nat → Int32} {dayOf : Nat → Int32} {given : Nat → Int32} {givenOf : Nat → Int32} {runs : Int32} {runWide : Nat → Int32} {runWay : Nat → Int32} {runTotal : Nat → UInt64} {runSteps : Nat → Int32} {lefts : Nat → UInt64} {rights : Nat → UInt64} {results : Nat → UInt64} {wide : Int32} {dn : Int32} {stepsAt : Int32} {keeps : Int32} {order : Nat → Int32} {att : Nat → UInt64} {spareAmount : Nat → UInt64} {spareAccount : Nat → Int32} {spareDay : Nat → Int32} {cured : Int32} {cureOf : Nat → Int32} {shareOf : Nat → Int32} {big : Nat → Int32} {unitsOf : Int64} {spare : Int32} {halfFrom : Nat → Int32} {halfMany : Nat → Int32} {halfDone : Nat → Int32} {halfTotal : Nat → UInt64} {isFar : Int32} {p0 : Int32} {p1 : Int32} {K : UInt64 → Prop} (hlt : l.stackTraces = false) (h : wX3_ofOrder p0 p1 amountOf wide order K) : SMd0 l D ta yX3_ofOrder cX3_ofOrder 6 FieldType.double 2 [.ref h0, .int p0, .int p1] (mW h0 ad ta thrown many isWide amountOf accountOf dayOf given givenOf runs runWide runWay runTotal runSteps lefts rights results wide dn stepsAt keeps order att spareAmount spareAccount spareDay cured cureOf shareOf big unitsOf spare halfFrom halfMany halfDone halfTotal isFar) (mW h0 ad ta thrown many isWide amountOf accountOf dayOf given givenOf runs runWide runWay runTotal runSteps lefts rights results wide dn stepsAt keeps order att spareAmount spareAccount spareDay cured cureOf shareOf big unitsOf spare halfFrom halfMany halfDone halfTotal isFar) 0 0 K := by
  refine x_std0 hlt (plainFor_of_name (by decide +kernel)) (Nat.le_of_ble_eq_true rfl) (fun g G hl hD hT Q => ?_)
  subst hl; subst hD; subst hT
  unfold wX3_ofOrder at h
  show X g 6 0 [(0, .ref h0), (1, .int p0), (2, .int p1)] [] (mW h0 ad (xT g) thrown many isWide amountOf accountOf dayOf given givenOf runs runWide runWay runTotal runSteps lefts rights results wide dn stepsAt keeps order att spareAmount spareAccount spareDay cured cureOf shareOf big unitsOf spare halfFrom halfMany halfDone halfTotal isFar) 0 0
  refine x_iload_n G rfl dX3_ofOrder_0 2 rfl ?_
  refine x_if_ne (tgt := 8) G dX3_ofOrder_1 rfl (fun c => ?_) (fun c => ?_)
  · replace h := h.1 c
    refine x_aload_n G rfl dX3_ofOrder_8 0 rfl ?_
    refine m_get_3 G dX3_ofOrder_9 ?_
    refine x_bipush (v := (60 : Int32)) G dX3_ofOrder_12 (by decide) ?_
    refine x_iload_n G rfl dX3_ofOrder_14 1 rfl ?_
    refine x_imul G dX3_ofOrder_15 ?_
    refine x_aload_n G rfl dX3_ofOrder_16 0 rfl ?_
    refine m_get_20 G dX3_ofOrder_17 ?_
    refine x_iconst (v := (0 : Int32)) G dX3_ofOrder_20 (by decide) ?_
    obtain ⟨hz, h⟩ := h
    refine m_ald_20 G hz dX3_ofOrder_21 ?_
    refine x_iadd G dX3_ofOrder_22 ?_
    obtain ⟨hz, h⟩ := h
    refine m_ald_3 G hz dX3_ofOrder_23 ?_
    refine kX3_ofOrder_J24 G Q  _ h
  · replace h := h.2 c
    refine x_dconst0 G dX3_ofOrder_4 ?_
    refine x_goto (tgt := 24) G dX3_ofOrder_5 rfl ?_
    refine kX3_ofOrder_J24 G Q  _ h
theorem cdX3_swap : yX3_swap.cls = RX3 ∧ yX3_swap.cls ≠ "java/lang/invoke/MethodHandle" ∧ yX3_swap.cls ≠ "java/lang/invoke/VarHandle" ∧ (parseMethodDescriptor yX3_swap.desc).map (fun d => d.parameters.length) = some 2 := by decide +kernel
def wX3_swap (p0 : Int32) (p1 : Int32) (order : Nat → Int32) (K : (Nat → Int32) → Prop) : Prop := (vp_in p0 60 ∧ (∀ x_1 : Int32, x_1 = (order p0.toNatClampNeg) → (vp_in p1 60 ∧ (∀ x_2 : Int32, x_2 = (order p1.toNatClampNeg) → (vp_in p0 60 ∧ (∀ order_3 : Nat → Int32, order_3 = upd order p0.toNatClampNeg x_2 → (vp_in p1 60 ∧ (∀ order_4 : Nat → Int32, order_4 = upd order_3 p1.toNatClampNeg x_1 → K order_4))))))))
set_option maxRecDepth 20000 in
theorem tX3_swap {l : Launch} {D : va_G} {ta : Nat → ClassId} {h0 : Nat} {ad : Nat → Nat} {thrown : Int32} {many : Nat → Int32} {isWide : Nat → Int32} {amountOf : Nat → UInt64} {accountOf : Nat → Int32} {dayOf : Nat → Int32} {given : Nat → Int32} {givenOf : Nat → Int32} {runs : Int32} {runWide : Nat → Int32} {runWay : Nat → Int32} {runTotal : Nat → UInt64} {runSteps : Nat → Int32} {lefts : Nat → UInt64} {rights : Nat → UInt64} {results : Nat → UInt64} {wide : Int32} {dn : Int32} {stepsAt : Int32} {keeps : Int32} {order : Nat → Int32} {att : Nat → UInt64} {spareAmount : Nat → UInt64} {spareAccount : Nat → Int32} {spareDay : Nat → Int32} {cured : Int32} {cureOf : Nat → Int32} {shareOf : Nat → Int32} {big : Nat → Int32} {unitsOf : Int64} {spare : Int32} {halfFrom : Nat → Int32} {halfMany : Nat → Int32} {halfDone : Nat → Int32} {halfTotal : Nat → UInt64} {isFar : Int32} {p0 : Int32} {p1 : Int32} {K : (Nat → Int32) → Prop} (hlt : l.stackTraces = false) (h : wX3_swap p0 p1 order K) : SMv1 l D ta yX3_swap cX3_swap 4 1 [.ref h0, .int p0, .int p1] (mW h0 ad ta thrown many isWide amountOf accountOf dayOf given givenOf runs runWide runWay runTotal runSteps lefts rights results wide dn stepsAt keeps order att spareAmount spareAccount spareDay cured cureOf shareOf big unitsOf spare halfFrom halfMany halfDone halfTotal isFar) (fun (order' : Nat → Int32) => mW h0 ad ta thrown many isWide amountOf accountOf dayOf given givenOf runs runWide runWay runTotal runSteps lefts rights results wide dn stepsAt keeps order' att spareAmount spareAccount spareDay cured cureOf shareOf big unitsOf spare halfFrom halfMany halfDone halfTotal isFar) 0 0 K := by
  refine x_stv1 hlt (plainFor_of_name (by decide +kernel)) (Nat.le_of_ble_eq_true rfl) (fun g G hl hD hT Q => ?_)
  subst hl; subst hD; subst hT
  unfold wX3_swap at h
  show X g 4 0 [(0, .ref h0), (1, .int p0), (2, .int p1)] [] (mW h0 ad (xT g) thrown many isWide amountOf accountOf dayOf given givenOf runs runWide runWay runTotal runSteps lefts rights results wide dn stepsAt keeps order att spareAmount spareAccount spareDay cured cureOf shareOf big unitsOf spare halfFrom halfMany halfDone halfTotal isFar) 0 0
  refine x_aload_n G rfl dX3_swap_0 0 rfl ?_
  refine m_get_20 G dX3_swap_1 ?_
  refine x_iload_n G rfl dX3_swap_4 1 rfl ?_
  obtain ⟨hz, h⟩ := h
  refine m_ald_20 G hz dX3_swap_5 ?_
  refine x_topi (fun x_1 ex_1 => ?_)
  replace h := h x_1 ex_1
  refine x_istore_n (lv' := [(3, .int x_1), (0, .ref h0), (1, .int p0), (2, .int p1)]) G rfl dX3_swap_6 (by decide) rfl ?_
  refine x_aload_n G rfl dX3_swap_7 1 rfl ?_
  refine m_get_20 G dX3_swap_8 ?_
  refine x_iload_n G rfl dX3_swap_11 2 rfl ?_
  refine x_aload_n G rfl dX3_swap_12 1 rfl ?_
  refine m_get_20 G dX3_swap_13 ?_
  refine x_iload_n G rfl dX3_swap_16 3 rfl ?_
  obtain ⟨hz, h⟩ := h
  refine m_ald_20 G hz dX3_swap_17 ?_
  refine x_topi (fun x_2 ex_2 => ?_)
  replace h := h x_2 ex_2
  obtain ⟨hz, h⟩ := h
  refine m_ast_20 G hz dX3_swap_18 (fun order_3 eorder_3 => ?_)
  replace h := h order_3 eorder_3
  refine x_aload_n G rfl dX3_swap_19 1 rfl ?_
  refine m_get_20 G dX3_swap_20 ?_
  refine x_iload_n G rfl dX3_swap_23 3 rfl ?_
  refine x_iload_n G rfl dX3_swap_24 0 rfl ?_
  obtain ⟨hz, h⟩ := h
  refine m_ast_20 G hz dX3_swap_25 (fun order_4 eorder_4 => ?_)
  replace h := h order_4 eorder_4
  exact x_retv1 G Q dX3_swap_26 order_4 h XSub.rf (Nat.le_refl _) (Nat.le_refl _)
theorem cdX3_nextOrder : yX3_nextOrder.cls = RX3 ∧ yX3_nextOrder.cls ≠ "java/lang/invoke/MethodHandle" ∧ yX3_nextOrder.cls ≠ "java/lang/invoke/VarHandle" ∧ (parseMethodDescriptor yX3_nextOrder.desc).map (fun d => d.parameters.length) = some 1 := by decide +kernel
def wX3_nextOrder_L4 (order : Nat → Int32) (X31 : Int32 → Prop) : Nat → Int32 → Prop
  | 0, _ => False
  | n + 1, v2_2 => ((v2_2 < (0 : Int32) → X31 v2_2) ∧ (¬ v2_2 < (0 : Int32) → (vp_in v2_2 60 ∧ (vp_in (v2_2 + (1 : Int32)) 60 ∧ (((order v2_2.toNatClampNeg) ≤ (order (v2_2 + (1 : Int32)).toNatClampNeg) → X31 v2_2) ∧ (¬ (order v2_2.toNatClampNeg) ≤ (order (v2_2 + (1 : Int32)).toNatClampNeg) → (∀ x_3 : Int32, x_3 = (v2_2 + (-1 : Int32)) → wX3_nextOrder_L4 order X31 n x_3)))))))
def wX3_nextOrder_L41 (order : Nat → Int32) (v2_6 : Int32) (X62 : Int32 → Prop) : Nat → Int32 → Prop
  | 0, _ => False
  | n + 1, v3_8 => (vp_in v3_8 60 ∧ (vp_in v2_6 60 ∧ (((order v2_6.toNatClampNeg) ≤ (order v3_8.toNatClampNeg) → X62 v3_8) ∧ (¬ (order v2_6.toNatClampNeg) ≤ (order v3_8.toNatClampNeg) → (∀ x_9 : Int32, x_9 = (v3_8 + (-1 : Int32)) → wX3_nextOrder_L41 order v2_6 X62 n x_9)))))
def wX3_nextOrder_L78 (X102 : Int32 → Int32 → (Nat → Int32) → Prop) : Nat → Int32 → Int32 → (Nat → Int32) → Prop
  | 0, _, _, _ => False
  | n + 1, v4_15, v5_16, order_17 => ((v5_16 ≤ v4_15 → X102 v4_15 v5_16 order_17) ∧ (¬ v5_16 ≤ v4_15 → (wX3_swap v4_15 v5_16 order_17 (fun (order_18 : Nat → Int32) => (∀ x_19 : Int32, x_19 = (v4_15 + (1 : Int32)) → (∀ x_20 : Int32, x_20 = (v5_16 + (-1 : Int32)) → wX3_nextOrder_L78 X102 n x_19 x_20 order_18))))))
def wX3_nextOrder_J31 (order : Nat → Int32) (p0 : Int32) (K : Int32 → (Nat → Int32) → Prop) : Int32 → Prop := fun (v2_6 : Int32) => (((0 : Int32) ≤ v2_6 → (∀ x_7 : Int32, x_7 = (p0 - (1 : Int32)) → (∃ m41 : Nat, wX3_nextOrder_L41 order v2_6 (fun (v3_11 : Int32) => (wX3_swap v2_6 v3_11 order (fun (order_12 : Nat → Int32) => (∀ x_13 : Int32, x_13 = (v2_6 + (1 : Int32)) → (∀ x_14 : Int32, x_14 = (p0 - (1 : Int32)) → (∃ m78 : Nat, wX3_nextOrder_L78 (fun (v4_24 : Int32) (v5_25 : Int32) (order_26 : Nat → Int32) => K (1 : Int32) order_26) m78 x_13 x_14 order_12)))))) m41 x_7))) ∧ (¬ (0 : Int32) ≤ v2_6 → K (0 : Int32) order))
def wX3_nextOrder (p0 : Int32) (order : Nat → Int32) (K : Int32 → (Nat → Int32) → Prop) : Prop := (∀ x_1 : Int32, x_1 = (p0 - (2 : Int32)) → (∃ m4 : Nat, wX3_nextOrder_L4 order (fun (v2_5 : Int32) => (wX3_nextOrder_J31 order p0 K v2_5)) m4 x_1))
set_option maxRecDepth 20000 in
theorem kX3_nextOrder_L4 {g : XG} {h0 : Nat} {ad : Nat → Nat} {thrown : Int32} {many : Nat → Int32} {isWide : Nat → Int32} {amountOf : Nat → UInt64} {accountOf : Nat → Int32} {dayOf : Nat → Int32} {given : Nat → Int32} {givenOf : Nat → Int32} {runs : Int32} {runWide : Nat → Int32} {runWay : Nat → Int32} {runTotal : Nat → UInt64} {runSteps : Nat → Int32} {lefts : Nat → UInt64} {rights : Nat → UInt64} {results : Nat → UInt64} {wide : Int32} {dn : Int32} {stepsAt : Int32} {keeps : Int32} {order : Nat → Int32} {att : Nat → UInt64} {spareAmount : Nat → UInt64} {spareAccount : Nat → Int32} {spareDay : Nat → Int32} {cured : Int32} {cureOf : Nat → Int32} {shareOf : Nat → Int32} {big : Nat → Int32} {unitsOf : Int64} {spare : Int32} {halfFrom : Nat → Int32} {halfMany : Nat → Int32} {halfDone : Nat → Int32} {halfTotal : Nat → UInt64} {isFar : Int32} {p0 : Int32} {X31 : Int32 → Prop} (G : XO g RX3 cX3_nextOrder 6 2 0 0) (hX31 : ∀ (v2_4 : Int32), X31 v2_4 → X g 6 31 [(2, .int v2_4), (0, .ref h0), (1, .int p0)] [] (mW h0 ad (xT g) thrown many isWide amountOf accountOf dayOf given givenOf runs runWide runWay runTotal runSteps lefts rights results wide dn stepsAt keeps order att spareAmount spareAccount spareDay cured cureOf shareOf big unitsOf spare halfFrom halfMany halfDone halfTotal isFar) 0 0) : ∀ (n : Nat) (v2_2 : Int32), wX3_nextOrder_L4 order X31 n v2_2 → X g 6 4 [(2, .int v2_2), (0, .ref h0), (1, .int p0)] [] (mW h0 ad (xT g) thrown many isWide amountOf accountOf dayOf given givenOf runs runWide runWay runTotal runSteps lefts rights results wide dn stepsAt keeps order att spareAmount spareAccount spareDay cured cureOf shareOf big unitsOf spare halfFrom halfMany halfDone halfTotal isFar) 0 0 := by
  intro n
  induction n with
  | zero => intro _ h; exact h.elim
  | succ n ih =>
    intro v2_2 h
    unfold wX3_nextOrder_L4 at h
    refine x_iload_n G rfl dX3_nextOrder_4 0 rfl ?_
    refine x_if_lt (tgt := 31) G dX3_nextOrder_5 rfl (fun c => ?_) (fun c => ?_)
    · replace h := h.1 c
      exact hX31 v2_2 h
    · replace h := h.2 c
      refine x_aload_n G rfl dX3_nextOrder_8 1 rfl ?_
      refine m_get_20 G dX3_nextOrder_9 ?_
      refine x_iload_n G rfl dX3_nextOrder_12 0 rfl ?_
      obtain ⟨hz, h⟩ := h
      refine m_ald_20 G hz dX3_nextOrder_13 ?_
      refine x_aload_n G rfl dX3_nextOrder_14 1 rfl ?_
      refine m_get_20 G dX3_nextOrder_15 ?_
      refine x_iload_n G rfl dX3_nextOrder_18 0 rfl ?_
      refine x_iconst (v := (1 : Int32)) G dX3_nextOrder_19 (by decide) ?_
      refine x_iadd G dX3_nextOrder_20 ?_
      obtain ⟨hz, h⟩ := h
      refine m_ald_20 G hz dX3_nextOrder_21 ?_
      refine x_icmp_le (tgt := 31) G dX3_nextOrder_22 rfl (fun c => ?_) (fun c => ?_)
      · replace h := h.1 c
        exact hX31 v2_2 h
      · replace h := h.2 c
        obtain ⟨x_3, ex_3⟩ : ∃ z : Int32, z = (v2_2 + (-1 : Int32)) := ⟨_, rfl⟩
        replace h := h x_3 ex_3
        refine x_iinc (v := x_3) (lv' := [(2, .int x_3), (0, .ref h0), (1, .int p0)]) G dX3_nextOrder_25 0 rfl (by rw [ex_3]; rfl) (by decide) rfl ?_
        refine x_goto (tgt := 4) G dX3_nextOrder_28 rfl ?_
        exact ih x_3 h
set_option maxRecDepth 20000 in
theorem kX3_nextOrder_L41 {g : XG} {h0 : Nat} {ad : Nat → Nat} {thrown : Int32} {many : Nat → Int32} {isWide : Nat → Int32} {amountOf : Nat → UInt64} {accountOf : Nat → Int32} {dayOf : Nat → Int32} {given : Nat → Int32} {givenOf : Nat → Int32} {runs : Int32} {runWide : Nat → Int32} {runWay : Nat → Int32} {runTotal : Nat → UInt64} {runSteps : Nat → Int32} {lefts : Nat → UInt64} {rights : Nat → UInt64} {results : Nat → UInt64} {wide : Int32} {dn : Int32} {stepsAt : Int32} {keeps : Int32} {order : Nat → Int32} {att : Nat → UInt64} {spareAmount : Nat → UInt64} {spareAccount : Nat → Int32} {spareDay : Nat → Int32} {cured : Int32} {cureOf : Nat → Int32} {shareOf : Nat → Int32} {big : Nat → Int32} {unitsOf : Int64} {spare : Int32} {halfFrom : Nat → Int32} {halfMany : Nat → Int32} {halfDone : Nat → Int32} {halfTotal : Nat → UInt64} {isFar : Int32} {p0 : Int32} {v2_6 : Int32} {X62 : Int32 → Prop} (G : XO g RX3 cX3_nextOrder 6 2 0 0) (hX62 : ∀ (v3_10 : Int32), X62 v3_10 → X g 6 62 [(3, .int v3_10), (0, .ref h0), (1, .int p0), (2, .int v2_6)] [] (mW h0 ad (xT g) thrown many isWide amountOf accountOf dayOf given givenOf runs runWide runWay runTotal runSteps lefts rights results wide dn stepsAt keeps order att spareAmount spareAccount spareDay cured cureOf shareOf big unitsOf spare halfFrom halfMany halfDone halfTotal isFar) 0 0) : ∀ (n : Nat) (v3_8 : Int32), wX3_nextOrder_L41 order v2_6 X62 n v3_8 → X g 6 41 [(3, .int v3_8), (0, .ref h0), (1, .int p0), (2, .int v2_6)] [] (mW h0 ad (xT g) thrown many isWide amountOf accountOf dayOf given givenOf runs runWide runWay runTotal runSteps lefts rights results wide dn stepsAt keeps order att spareAmount spareAccount spareDay cured cureOf shareOf big unitsOf spare halfFrom halfMany halfDone halfTotal isFar) 0 0 := by
  intro n
  induction n with
  | zero => intro _ h; exact h.elim
  | succ n ih =>
    intro v3_8 h
    unfold wX3_nextOrder_L41 at h
    refine x_aload_n G rfl dX3_nextOrder_41 1 rfl ?_
    refine m_get_20 G dX3_nextOrder_42 ?_
    refine x_iload_n G rfl dX3_nextOrder_45 0 rfl ?_
    obtain ⟨hz, h⟩ := h
    refine m_ald_20 G hz dX3_nextOrder_46 ?_
    refine x_aload_n G rfl dX3_nextOrder_47 1 rfl ?_
    refine m_get_20 G dX3_nextOrder_48 ?_
    refine x_iload_n G rfl dX3_nextOrder_51 3 rfl ?_
    obtain ⟨hz, h⟩ := h
    refine m_ald_20 G hz dX3_nextOrder_52 ?_
    refine x_icmp_ge (tgt := 62) G dX3_nextOrder_53 rfl (fun c => ?_) (fun c => ?_)
    · replace h := h.1 c
      exact hX62 v3_8 h
    · replace h := h.2 c
      obtain ⟨x_9, ex_9⟩ : ∃ z : Int32, z = (v3_8 + (-1 : Int32)) := ⟨_, rfl⟩
      replace h := h x_9 ex_9
      refine x_iinc (v := x_9) (lv' := [(3, .int x_9), (0, .ref h0), (1, .int p0), (2, .int v2_6)]) G dX3_nextOrder_56 0 rfl (by rw [ex_9]; rfl) (by decide) rfl ?_
      refine x_goto (tgt := 41) G dX3_nextOrder_59 rfl ?_
      exact ih x_9 h
set_option maxRecDepth 20000 in
theorem kX3_nextOrder_L78 {g : XG} {h0 : Nat} {ad : Nat → Nat} {thrown : Int32} {many : Nat → Int32} {isWide : Nat → Int32} {amountOf : Nat → UInt64} {accountOf : Nat → Int32} {dayOf : Nat → Int32} {given : Nat → Int32} {givenOf : Nat → Int32} {runs : Int32} {runWide : Nat → Int32} {runWay : Nat → Int32} {runTotal : Nat → UInt64} {runSteps : Nat → Int32} {lefts : Nat → UInt64} {rights : Nat → UInt64} {results : Nat → UInt64} {wide : Int32} {dn : Int32} {stepsAt : Int32} {keeps : Int32} {att : Nat → UInt64} {spareAmount : Nat → UInt64} {spareAccount : Nat → Int32} {spareDay : Nat → Int32} {cured : Int32} {cureOf : Nat → Int32} {shareOf : Nat → Int32} {big : Nat → Int32} {unitsOf : Int64} {spare : Int32} {halfFrom : Nat → Int32} {halfMany : Nat → Int32} {halfDone : Nat → Int32} {halfTotal : Nat → UInt64} {isFar : Int32} {p0 : Int32} {v2_6 : Int32} {v3_11 : Int32} {X102 : Int32 → Int32 → (Nat → Int32) → Prop} (G : XO g RX3 cX3_nextOrder 6 2 0 0) (hX102 : ∀ (v4_21 : Int32) (v5_22 : Int32) (order_23 : Nat → Int32), X102 v4_21 v5_22 order_23 → X g 6 102 [(5, .int v5_22), (4, .int v4_21), (3, .int v3_11), (0, .ref h0), (1, .int p0), (2, .int v2_6)] [] (mW h0 ad (xT g) thrown many isWide amountOf accountOf dayOf given givenOf runs runWide runWay runTotal runSteps lefts rights results wide dn stepsAt keeps order_23 att spareAmount spareAccount spareDay cured cureOf shareOf big unitsOf spare halfFrom halfMany halfDone halfTotal isFar) 0 0) : ∀ (n : Nat) (v4_15 : Int32) (v5_16 : Int32) (order_17 : Nat → Int32), wX3_nextOrder_L78 X102 n v4_15 v5_16 order_17 → X g 6 78 [(5, .int v5_16), (4, .int v4_15), (3, .int v3_11), (0, .ref h0), (1, .int p0), (2, .int v2_6)] [] (mW h0 ad (xT g) thrown many isWide amountOf accountOf dayOf given givenOf runs runWide runWay runTotal runSteps lefts rights results wide dn stepsAt keeps order_17 att spareAmount spareAccount spareDay cured cureOf shareOf big unitsOf spare halfFrom halfMany halfDone halfTotal isFar) 0 0 := by
  intro n
  induction n with
  | zero => intro _ _ _ h; exact h.elim
  | succ n ih =>
    intro v4_15 v5_16 order_17 h
    unfold wX3_nextOrder_L78 at h
    refine x_iload G dX3_nextOrder_78 1 rfl ?_
    refine x_iload G dX3_nextOrder_80 0 rfl ?_
    refine x_icmp_ge (tgt := 102) G dX3_nextOrder_82 rfl (fun c => ?_) (fun c => ?_)
    · replace h := h.1 c
      exact hX102 v4_15 v5_16 order_17 h
    · replace h := h.2 c
      refine x_aload_n G rfl dX3_nextOrder_85 3 rfl ?_
      refine x_iload G dX3_nextOrder_86 1 rfl ?_
      refine x_iload G dX3_nextOrder_88 0 rfl ?_
      refine x_cVv1 (As := [.int v4_15, .int v5_16]) (rest := []) G [] XSub.rf (tX3_swap G.noTraces h) (lw_V q2004 q2006 qs62 q70 q2007) cdX3_swap 3 0 rfl rfl rfl (by decide) (by decide) rfl (Nat.le_of_ble_eq_true rfl) (Nat.zero_le _) (Nat.zero_le _) dX3_nextOrder_90 (fun order_18 h => ?_)
      show X g 6 93 [(5, .int v5_16), (4, .int v4_15), (3, .int v3_11), (0, .ref h0), (1, .int p0), (2, .int v2_6)] [] (mW h0 ad (xT g) thrown many isWide amountOf accountOf dayOf given givenOf runs runWide runWay runTotal runSteps lefts rights results wide dn stepsAt keeps order_18 att spareAmount spareAccount spareDay cured cureOf shareOf big unitsOf spare halfFrom halfMany halfDone halfTotal isFar) 0 0
      obtain ⟨x_19, ex_19⟩ : ∃ z : Int32, z = (v4_15 + (1 : Int32)) := ⟨_, rfl⟩
      replace h := h x_19 ex_19
      refine x_iinc (v := x_19) (lv' := [(4, .int x_19), (5, .int v5_16), (3, .int v3_11), (0, .ref h0), (1, .int p0), (2, .int v2_6)]) G dX3_nextOrder_93 1 rfl (by rw [ex_19]; rfl) (by decide) rfl ?_
      obtain ⟨x_20, ex_20⟩ : ∃ z : Int32, z = (v5_16 + (-1 : Int32)) := ⟨_, rfl⟩
      replace h := h x_20 ex_20
      refine x_iinc (v := x_20) (lv' := [(5, .int x_20), (4, .int x_19), (3, .int v3_11), (0, .ref h0), (1, .int p0), (2, .int v2_6)]) G dX3_nextOrder_96 1 rfl (by rw [ex_20]; rfl) (by decide) rfl ?_
      refine x_goto (tgt := 78) G dX3_nextOrder_99 rfl ?_
      exact ih x_19 x_20 order_18 h
set_option maxRecDepth 20000 in
theorem kX3_nextOrder_J31 {g : XG} {h0 : Nat} {ad : Nat → Nat} {thrown : Int32} {many : Nat → Int32} {isWide : Nat → Int32} {amountOf : Nat → UInt64} {accountOf : Nat → Int32} {dayOf : Nat → Int32} {given : Nat → Int32} {givenOf : Nat → Int32} {runs : Int32} {runWide : Nat → Int32} {runWay : Nat → Int32} {runTotal : Nat → UInt64} {runSteps : Nat → Int32} {lefts : Nat → UInt64} {rights : Nat → UInt64} {results : Nat → UInt64} {wide : Int32} {dn : Int32} {stepsAt : Int32} {keeps : Int32} {order : Nat → Int32} {att : Nat → UInt64} {spareAmount : Nat → UInt64} {spareAccount : Nat → Int32} {spareDay : Nat → Int32} {cured : Int32} {cureOf : Nat → Int32} {shareOf : Nat → Int32} {big : Nat → Int32} {unitsOf : Int64} {spare : Int32} {halfFrom : Nat → Int32} {halfMany : Nat → Int32} {halfDone : Nat → Int32} {halfTotal : Nat → UInt64} {isFar : Int32} {p0 : Int32} {K : Int32 → (Nat → Int32) → Prop} (G : XO g RX3 cX3_nextOrder 6 2 0 0) (Q : XQi1 g FieldType.boolean 0 0 (fun (order' : Nat → Int32) => mW h0 ad (xT g) thrown many isWide amountOf accountOf dayOf given givenOf runs runWide runWay runTotal runSteps lefts rights results wide dn stepsAt keeps order' att spareAmount spareAccount spareDay cured cureOf shareOf big unitsOf spare halfFrom halfMany halfDone halfTotal isFar) K) : ∀ (v2_6 : Int32), wX3_nextOrder_J31 order p0 K v2_6 → X g 6 31 [(0, .ref h0), (1, .int p0), (2, .int v2_6)] [] (mW h0 ad (xT g) thrown many isWide amountOf accountOf dayOf given givenOf runs runWide runWay runTotal runSteps lefts rights results wide dn stepsAt keeps order att spareAmount spareAccount spareDay cured cureOf shareOf big unitsOf spare halfFrom halfMany halfDone halfTotal isFar) 0 0 := by
  intro v2_6 h
  unfold wX3_nextOrder_J31 at h
  refine x_iload_n G rfl dX3_nextOrder_31 2 rfl ?_
  refine x_if_ge (tgt := 37) G dX3_nextOrder_32 rfl (fun c => ?_) (fun c => ?_)
  · replace h := h.1 c
    refine x_iload_n G rfl dX3_nextOrder_37 1 rfl ?_
    refine x_iconst (v := (1 : Int32)) G dX3_nextOrder_38 (by decide) ?_
    refine x_isub G dX3_nextOrder_39 ?_
    refine x_topi (fun x_7 ex_7 => ?_)
    replace h := h x_7 ex_7
    refine x_istore_n (lv' := [(3, .int x_7), (0, .ref h0), (1, .int p0), (2, .int v2_6)]) G rfl dX3_nextOrder_40 (by decide) rfl ?_
    obtain ⟨n0, h⟩ := h
    refine kX3_nextOrder_L41 G (fun v3_11 h => ?_) n0 _ h
    · refine x_aload_n G rfl dX3_nextOrder_62 1 rfl ?_
      refine x_iload_n G rfl dX3_nextOrder_63 3 rfl ?_
      refine x_iload_n G rfl dX3_nextOrder_64 0 rfl ?_
      refine x_cVv1 (As := [.int v2_6, .int v3_11]) (rest := []) G [] XSub.rf (tX3_swap G.noTraces h) (lw_V q2004 q2006 qs62 q70 q2007) cdX3_swap 3 0 rfl rfl rfl (by decide) (by decide) rfl (Nat.le_of_ble_eq_true rfl) (Nat.zero_le _) (Nat.zero_le _) dX3_nextOrder_65 (fun order_12 h => ?_)
      show X g 6 68 [(3, .int v3_11), (0, .ref h0), (1, .int p0), (2, .int v2_6)] [] (mW h0 ad (xT g) thrown many isWide amountOf accountOf dayOf given givenOf runs runWide runWay runTotal runSteps lefts rights results wide dn stepsAt keeps order_12 att spareAmount spareAccount spareDay cured cureOf shareOf big unitsOf spare halfFrom halfMany halfDone halfTotal isFar) 0 0
      refine x_iload_n G rfl dX3_nextOrder_68 3 rfl ?_
      refine x_iconst (v := (1 : Int32)) G dX3_nextOrder_69 (by decide) ?_
      refine x_iadd G dX3_nextOrder_70 ?_
      refine x_topi (fun x_13 ex_13 => ?_)
      replace h := h x_13 ex_13
      refine x_istore (lv' := [(4, .int x_13), (3, .int v3_11), (0, .ref h0), (1, .int p0), (2, .int v2_6)]) G dX3_nextOrder_71 (by decide) rfl ?_
      refine x_iload_n G rfl dX3_nextOrder_73 3 rfl ?_
      refine x_iconst (v := (1 : Int32)) G dX3_nextOrder_74 (by decide) ?_
      refine x_isub G dX3_nextOrder_75 ?_
      refine x_topi (fun x_14 ex_14 => ?_)
      replace h := h x_14 ex_14
      refine x_istore (lv' := [(5, .int x_14), (4, .int x_13), (3, .int v3_11), (0, .ref h0), (1, .int p0), (2, .int v2_6)]) G dX3_nextOrder_76 (by decide) rfl ?_
      obtain ⟨n0, h⟩ := h
      refine kX3_nextOrder_L78 G (fun v4_24 v5_25 order_26 h => ?_) n0 _ _ _ h
      · refine x_iconst (v := (1 : Int32)) G dX3_nextOrder_102 (by decide) ?_
        exact x_reti1 G Q dX3_nextOrder_103 rfl order_26 h XSub.rf (Nat.le_refl _) (Nat.le_refl _)
  · replace h := h.2 c
    refine x_iconst (v := (0 : Int32)) G dX3_nextOrder_35 (by decide) ?_
    exact x_reti1 G Q dX3_nextOrder_36 rfl order h XSub.rf (Nat.le_refl _) (Nat.le_refl _)
set_option maxRecDepth 20000 in
theorem tX3_nextOrder {l : Launch} {D : va_G} {ta : Nat → ClassId} {h0 : Nat} {ad : Nat → Nat} {thrown : Int32} {many : Nat → Int32} {isWide : Nat → Int32} {amountOf : Nat → UInt64} {accountOf : Nat → Int32} {dayOf : Nat → Int32} {given : Nat → Int32} {givenOf : Nat → Int32} {runs : Int32} {runWide : Nat → Int32} {runWay : Nat → Int32} {runTotal : Nat → UInt64} {runSteps : Nat → Int32} {lefts : Nat → UInt64} {rights : Nat → UInt64} {results : Nat → UInt64} {wide : Int32} {dn : Int32} {stepsAt : Int32} {keeps : Int32} {order : Nat → Int32} {att : Nat → UInt64} {spareAmount : Nat → UInt64} {spareAccount : Nat → Int32} {spareDay : Nat → Int32} {cured : Int32} {cureOf : Nat → Int32} {shareOf : Nat → Int32} {big : Nat → Int32} {unitsOf : Int64} {spare : Int32} {halfFrom : Nat → Int32} {halfMany : Nat → Int32} {halfDone : Nat → Int32} {halfTotal : Nat → UInt64} {isFar : Int32} {p0 : Int32} {K : Int32 → (Nat → Int32) → Prop} (hlt : l.stackTraces = false) (h : wX3_nextOrder p0 order K) : SMi1 l D ta yX3_nextOrder cX3_nextOrder 6 FieldType.boolean 2 [.ref h0, .int p0] (mW h0 ad ta thrown many isWide amountOf accountOf dayOf given givenOf runs runWide runWay runTotal runSteps lefts rights results wide dn stepsAt keeps order att spareAmount spareAccount spareDay cured cureOf shareOf big unitsOf spare halfFrom halfMany halfDone halfTotal isFar) (fun (order' : Nat → Int32) => mW h0 ad ta thrown many isWide amountOf accountOf dayOf given givenOf runs runWide runWay runTotal runSteps lefts rights results wide dn stepsAt keeps order' att spareAmount spareAccount spareDay cured cureOf shareOf big unitsOf spare halfFrom halfMany halfDone halfTotal isFar) 0 0 K := by
  refine x_sti1 hlt (plainFor_of_name (by decide +kernel)) (Nat.le_of_ble_eq_true rfl) (fun g G hl hD hT Q => ?_)
  subst hl; subst hD; subst hT
  unfold wX3_nextOrder at h
  show X g 6 0 [(0, .ref h0), (1, .int p0)] [] (mW h0 ad (xT g) thrown many isWide amountOf accountOf dayOf given givenOf runs runWide runWay runTotal runSteps lefts rights results wide dn stepsAt keeps order att spareAmount spareAccount spareDay cured cureOf shareOf big unitsOf spare halfFrom halfMany halfDone halfTotal isFar) 0 0
  refine x_iload_n G rfl dX3_nextOrder_0 1 rfl ?_
  refine x_iconst (v := (2 : Int32)) G dX3_nextOrder_1 (by decide) ?_
  refine x_isub G dX3_nextOrder_2 ?_
  refine x_topi (fun x_1 ex_1 => ?_)
  replace h := h x_1 ex_1
  refine x_istore_n (lv' := [(2, .int x_1), (0, .ref h0), (1, .int p0)]) G rfl dX3_nextOrder_3 (by decide) rfl ?_
  obtain ⟨n0, h⟩ := h
  refine kX3_nextOrder_L4 G (fun v2_5 h => ?_) n0 _ h
  · refine x_lv (lv' := [(0, .ref h0), (1, .int p0), (2, .int v2_5)]) [1, 2, 0] rfl ?_
    refine kX3_nextOrder_J31 G Q  _ h
theorem cdX3_extreme : yX3_extreme.cls = RX3 ∧ yX3_extreme.cls ≠ "java/lang/invoke/MethodHandle" ∧ yX3_extreme.cls ≠ "java/lang/invoke/VarHandle" ∧ (parseMethodDescriptor yX3_extreme.desc).map (fun d => d.parameters.length) = some 2 := by decide +kernel
def wX3_extreme_L50 (many : Nat → Int32) (amountOf : Nat → UInt64) (p0 : Int32) (p1 : Int32) (wide_2 : Int32) (X99 : UInt64 → (Nat → Int32) → Prop) : Nat → UInt64 → (Nat → Int32) → Prop
  | 0, _, _ => False
  | n + 1, v3_5, order_6 => (vp_in p0 12 ∧ (wX3_nextOrder (many p0.toNatClampNeg) order_6 (fun (r_7 : Int32) (order_8 : Nat → Int32) => ((r_7 = (0 : Int32) → X99 v3_5 order_8) ∧ (¬ r_7 = (0 : Int32) → (vp_in p0 12 ∧ (wX3_ofOrder p0 (many p0.toNatClampNeg) amountOf wide_2 order_8 (fun (r_9 : UInt64) => ((p1 = (0 : Int32) → (wX3_lesser v3_5 r_9 (fun (r_10 : UInt64) => wX3_extreme_L50 many amountOf p0 p1 wide_2 X99 n r_10 order_8))) ∧ (¬ p1 = (0 : Int32) → (wX3_greater v3_5 r_9 (fun (r_11 : UInt64) => wX3_extreme_L50 many amountOf p0 p1 wide_2 X99 n r_11 order_8))))))))))))
def wX3_extreme (p0 : Int32) (p1 : Int32) (thrown : Int32) (many : Nat → Int32) (isWide : Nat → Int32) (amountOf : Nat → UInt64) (wide : Int32) (order : Nat → Int32) (K : Int64 → Int32 → Int32 → (Nat → Int32) → Prop) : Prop := (wX3_faultOf p0 many (fun (r_1 : Int32) => ((r_1 = (0 : Int32) → (vp_in p0 12 ∧ (((many p0.toNatClampNeg) ≤ (7 : Int32) → (wX3_firstOrder p0 many isWide wide order (fun (wide_2 : Int32) (order_3 : Nat → Int32) => (vp_in p0 12 ∧ (wX3_ofOrder p0 (many p0.toNatClampNeg) amountOf wide_2 order_3 (fun (r_4 : UInt64) => (∃ m50 : Nat, wX3_extreme_L50 many amountOf p0 p1 wide_2 (fun (v3_14 : UInt64) (order_15 : Nat → Int32) => (vp_in p0 12 ∧ (wX3_bitsOf (isWide p0.toNatClampNeg) v3_14 (fun (r_16 : Int64) => K r_16 r_1 wide_2 order_15)))) m50 r_4 order_3))))))) ∧ (¬ (many p0.toNatClampNeg) ≤ (7 : Int32) → K (-104 : Int64) r_1 wide order)))) ∧ (¬ r_1 = (0 : Int32) → K (0 : Int64) r_1 wide order))))
set_option maxRecDepth 20000 in
theorem kX3_extreme_L50 {g : XG} {h0 : Nat} {ad : Nat → Nat} {many : Nat → Int32} {isWide : Nat → Int32} {amountOf : Nat → UInt64} {accountOf : Nat → Int32} {dayOf : Nat → Int32} {given : Nat → Int32} {givenOf : Nat → Int32} {runs : Int32} {runWide : Nat → Int32} {runWay : Nat → Int32} {runTotal : Nat → UInt64} {runSteps : Nat → Int32} {lefts : Nat → UInt64} {rights : Nat → UInt64} {results : Nat → UInt64} {dn : Int32} {stepsAt : Int32} {keeps : Int32} {att : Nat → UInt64} {spareAmount : Nat → UInt64} {spareAccount : Nat → Int32} {spareDay : Nat → Int32} {cured : Int32} {cureOf : Nat → Int32} {shareOf : Nat → Int32} {big : Nat → Int32} {unitsOf : Int64} {spare : Int32} {halfFrom : Nat → Int32} {halfMany : Nat → Int32} {halfDone : Nat → Int32} {halfTotal : Nat → UInt64} {isFar : Int32} {p0 : Int32} {p1 : Int32} {r_1 : Int32} {wide_2 : Int32} {X99 : UInt64 → (Nat → Int32) → Prop} (G : XO g RX3 cX3_extreme 7 5 0 0) (hX99 : ∀ (v3_12 : UInt64) (order_13 : Nat → Int32), X99 v3_12 order_13 → X g 7 99 [(3, .double v3_12), (0, .ref h0), (1, .int p0), (2, .int p1)] [] (mW h0 ad (xT g) r_1 many isWide amountOf accountOf dayOf given givenOf runs runWide runWay runTotal runSteps lefts rights results wide_2 dn stepsAt keeps order_13 att spareAmount spareAccount spareDay cured cureOf shareOf big unitsOf spare halfFrom halfMany halfDone halfTotal isFar) 0 0) : ∀ (n : Nat) (v3_5 : UInt64) (order_6 : Nat → Int32), wX3_extreme_L50 many amountOf p0 p1 wide_2 X99 n v3_5 order_6 → X g 7 50 [(3, .double v3_5), (0, .ref h0), (1, .int p0), (2, .int p1)] [] (mW h0 ad (xT g) r_1 many isWide amountOf accountOf dayOf given givenOf runs runWide runWay runTotal runSteps lefts rights results wide_2 dn stepsAt keeps order_6 att spareAmount spareAccount spareDay cured cureOf shareOf big unitsOf spare halfFrom halfMany halfDone halfTotal isFar) 0 0 := by
  intro n
  induction n with
  | zero => intro _ _ h; exact h.elim
  | succ n ih =>
    intro v3_5 order_6 h
    unfold wX3_extreme_L50 at h
    refine x_aload_n G rfl dX3_extreme_50 1 rfl ?_
    refine x_aload_n G rfl dX3_extreme_51 1 rfl ?_
    refine m_get_1 G dX3_extreme_52 ?_
    refine x_iload_n G rfl dX3_extreme_55 2 rfl ?_
    obtain ⟨hz, h⟩ := h
    refine m_ald_1 G hz dX3_extreme_56 ?_
    refine x_cVi1 (As := [.int (many p0.toNatClampNeg)]) (rest := []) G [] XSub.rf (tX3_nextOrder G.noTraces h) (lw_V q2000 q2002 qs61 q70 q2003) cdX3_nextOrder 3 0 rfl rfl rfl (by decide) (by decide) rfl (Nat.le_of_ble_eq_true rfl) (Nat.zero_le _) (Nat.zero_le _) dX3_extreme_57 (fun r_7 order_8 h => ?_)
    show X g 7 60 [(3, .double v3_5), (0, .ref h0), (1, .int p0), (2, .int p1)] [.int r_7] (mW h0 ad (xT g) r_1 many isWide amountOf accountOf dayOf given givenOf runs runWide runWay runTotal runSteps lefts rights results wide_2 dn stepsAt keeps order_8 att spareAmount spareAccount spareDay cured cureOf shareOf big unitsOf spare halfFrom halfMany halfDone halfTotal isFar) 0 0
    refine x_if_eq (tgt := 99) G dX3_extreme_60 rfl (fun c => ?_) (fun c => ?_)
    · replace h := h.1 c
      exact hX99 v3_5 order_8 h
    · replace h := h.2 c
      refine x_aload_n G rfl dX3_extreme_63 1 rfl ?_
      refine x_iload_n G rfl dX3_extreme_64 2 rfl ?_
      refine x_aload_n G rfl dX3_extreme_65 1 rfl ?_
      refine m_get_1 G dX3_extreme_66 ?_
      refine x_iload_n G rfl dX3_extreme_69 2 rfl ?_
      obtain ⟨hz, h⟩ := h
      refine m_ald_1 G hz dX3_extreme_70 ?_
      refine x_cVd0 (As := [.int p0, .int (many p0.toNatClampNeg)]) (rest := []) G [] XSub.rf (tX3_ofOrder G.noTraces h) (lw_V q1996 q1998 qs60 q70 q1999) cdX3_ofOrder 3 0 rfl rfl rfl (by decide) (by decide) rfl (Nat.le_of_ble_eq_true rfl) (Nat.zero_le _) (Nat.zero_le _) dX3_extreme_71 (fun r_9 h => ?_)
      show X g 7 74 [(3, .double v3_5), (0, .ref h0), (1, .int p0), (2, .int p1)] [.double r_9] (mW h0 ad (xT g) r_1 many isWide amountOf accountOf dayOf given givenOf runs runWide runWay runTotal runSteps lefts rights results wide_2 dn stepsAt keeps order_8 att spareAmount spareAccount spareDay cured cureOf shareOf big unitsOf spare halfFrom halfMany halfDone halfTotal isFar) 0 0
      refine x_dstore (lv' := [(5, .double r_9), (3, .double v3_5), (0, .ref h0), (1, .int p0), (2, .int p1)]) G dX3_extreme_74 (by decide) rfl ?_
      refine x_iload_n G rfl dX3_extreme_76 4 rfl ?_
      refine x_if_eq (tgt := 89) G dX3_extreme_77 rfl (fun c => ?_) (fun c => ?_)
      · replace h := h.1 c
        refine x_dload_n G rfl dX3_extreme_89 1 rfl ?_
        refine x_dload G dX3_extreme_90 0 rfl ?_
        refine x_cPd (As := [.double v3_5, .double r_9]) (rest := []) G (tX3_lesser G.noTraces h) (lw_S q1761 q1762 q70 q1763) cdX3_lesser (by decide) (by decide) rfl (Nat.le_of_ble_eq_true rfl) (Nat.zero_le _) (Nat.zero_le _) dX3_extreme_92 (fun r_10 h => ?_)
        refine x_dstore_n (lv' := [(3, .double r_10), (5, .double r_9), (0, .ref h0), (1, .int p0), (2, .int p1)]) G rfl dX3_extreme_95 (by decide) rfl ?_
        refine x_goto (tgt := 50) G dX3_extreme_96 rfl ?_
        refine x_lv (lv' := [(3, .double r_10), (0, .ref h0), (1, .int p0), (2, .int p1)]) [0, 2, 3, 4] rfl ?_
        exact ih r_10 order_8 h
      · replace h := h.2 c
        refine x_dload_n G rfl dX3_extreme_80 1 rfl ?_
        refine x_dload G dX3_extreme_81 0 rfl ?_
        refine x_cPd (As := [.double v3_5, .double r_9]) (rest := []) G (tX3_greater G.noTraces h) (lw_S q1764 q1765 q70 q1766) cdX3_greater (by decide) (by decide) rfl (Nat.le_of_ble_eq_true rfl) (Nat.zero_le _) (Nat.zero_le _) dX3_extreme_83 (fun r_11 h => ?_)
        refine x_goto (tgt := 95) G dX3_extreme_86 rfl ?_
        refine x_dstore_n (lv' := [(3, .double r_11), (5, .double r_9), (0, .ref h0), (1, .int p0), (2, .int p1)]) G rfl dX3_extreme_95 (by decide) rfl ?_
        refine x_goto (tgt := 50) G dX3_extreme_96 rfl ?_
        refine x_lv (lv' := [(3, .double r_11), (0, .ref h0), (1, .int p0), (2, .int p1)]) [0, 2, 3, 4] rfl ?_
        exact ih r_11 order_8 h
set_option maxRecDepth 20000 in
theorem tX3_extreme {l : Launch} {D : va_G} {ta : Nat → ClassId} {h0 : Nat} {ad : Nat → Nat} {thrown : Int32} {many : Nat → Int32} {isWide : Nat → Int32} {amountOf : Nat → UInt64} {accountOf : Nat → Int32} {dayOf : Nat → Int32} {given : Nat → Int32} {givenOf : Nat → Int32} {runs : Int32} {runWide : Nat → Int32} {runWay : Nat → Int32} {runTotal : Nat → UInt64} {runSteps : Nat → Int32} {lefts : Nat → UInt64} {rights : Nat → UInt64} {results : Nat → UInt64} {wide : Int32} {dn : Int32} {stepsAt : Int32} {keeps : Int32} {order : Nat → Int32} {att : Nat → UInt64} {spareAmount : Nat → UInt64} {spareAccount : Nat → Int32} {spareDay : Nat → Int32} {cured : Int32} {cureOf : Nat → Int32} {shareOf : Nat → Int32} {big : Nat → Int32} {unitsOf : Int64} {spare : Int32} {halfFrom : Nat → Int32} {halfMany : Nat → Int32} {halfDone : Nat → Int32} {halfTotal : Nat → UInt64} {isFar : Int32} {p0 : Int32} {p1 : Int32} {K : Int64 → Int32 → Int32 → (Nat → Int32) → Prop} (hlt : l.stackTraces = false) (h : wX3_extreme p0 p1 thrown many isWide amountOf wide order K) : SMl3 l D ta yX3_extreme cX3_extreme 7 FieldType.long 5 [.ref h0, .int p0, .int p1] (mW h0 ad ta thrown many isWide amountOf accountOf dayOf given givenOf runs runWide runWay runTotal runSteps lefts rights results wide dn stepsAt keeps order att spareAmount spareAccount spareDay cured cureOf shareOf big unitsOf spare halfFrom halfMany halfDone halfTotal isFar) (fun (thrown' : Int32) (wide' : Int32) (order' : Nat → Int32) => mW h0 ad ta thrown' many isWide amountOf accountOf dayOf given givenOf runs runWide runWay runTotal runSteps lefts rights results wide' dn stepsAt keeps order' att spareAmount spareAccount spareDay cured cureOf shareOf big unitsOf spare halfFrom halfMany halfDone halfTotal isFar) 0 0 K := by
  refine x_stl3 hlt (plainFor_of_name (by decide +kernel)) (Nat.le_of_ble_eq_true rfl) (fun g G hl hD hT Q => ?_)
  subst hl; subst hD; subst hT
  unfold wX3_extreme at h
  show X g 7 0 [(0, .ref h0), (1, .int p0), (2, .int p1)] [] (mW h0 ad (xT g) thrown many isWide amountOf accountOf dayOf given givenOf runs runWide runWay runTotal runSteps lefts rights results wide dn stepsAt keeps order att spareAmount spareAccount spareDay cured cureOf shareOf big unitsOf spare halfFrom halfMany halfDone halfTotal isFar) 0 0
  refine x_aload_n G rfl dX3_extreme_0 0 rfl ?_
  refine x_aload_n G rfl dX3_extreme_1 0 rfl ?_
  refine x_iload_n G rfl dX3_extreme_2 1 rfl ?_
  refine x_cVi0 (As := [.int p0]) (rest := [.ref h0]) G [] XSub.rf (tX3_faultOf G.noTraces h) (lw_V q1669 q1671 qs21 q70 q1672) cdX3_faultOf 3 0 rfl rfl rfl (by decide) (by decide) rfl (Nat.le_of_ble_eq_true rfl) (Nat.zero_le _) (Nat.zero_le _) dX3_extreme_3 (fun r_1 h => ?_)
  show X g 7 6 [(0, .ref h0), (1, .int p0), (2, .int p1)] [.int r_1, .ref h0] (mW h0 ad (xT g) thrown many isWide amountOf accountOf dayOf given givenOf runs runWide runWay runTotal runSteps lefts rights results wide dn stepsAt keeps order att spareAmount spareAccount spareDay cured cureOf shareOf big unitsOf spare halfFrom halfMany halfDone halfTotal isFar) 0 0
  refine m_put_0 G dX3_extreme_6 ?_
  refine x_aload_n G rfl dX3_extreme_9 0 rfl ?_
  refine m_get_0 G dX3_extreme_10 ?_
  refine x_if_eq (tgt := 18) G dX3_extreme_13 rfl (fun c => ?_) (fun c => ?_)
  · replace h := h.1 c
    refine x_aload_n G rfl dX3_extreme_18 0 rfl ?_
    refine m_get_1 G dX3_extreme_19 ?_
    refine x_iload_n G rfl dX3_extreme_22 1 rfl ?_
    obtain ⟨hz, h⟩ := h
    refine m_ald_1 G hz dX3_extreme_23 ?_
    refine x_bipush (v := (7 : Int32)) G dX3_extreme_24 (by decide) ?_
    refine x_icmp_le (tgt := 33) G dX3_extreme_26 rfl (fun c => ?_) (fun c => ?_)
    · replace h := h.1 c
      refine x_aload_n G rfl dX3_extreme_33 0 rfl ?_
      refine x_iload_n G rfl dX3_extreme_34 1 rfl ?_
      refine x_cVv2 (As := [.int p0]) (rest := []) G [] XSub.rf (tX3_firstOrder G.noTraces h) (lw_V q1992 q1994 qs59 q70 q1995) cdX3_firstOrder 3 0 rfl rfl rfl (by decide) (by decide) rfl (Nat.le_of_ble_eq_true rfl) (Nat.zero_le _) (Nat.zero_le _) dX3_extreme_35 (fun wide_2 order_3 h => ?_)
      show X g 7 38 [(0, .ref h0), (1, .int p0), (2, .int p1)] [] (mW h0 ad (xT g) r_1 many isWide amountOf accountOf dayOf given givenOf runs runWide runWay runTotal runSteps lefts rights results wide_2 dn stepsAt keeps order_3 att spareAmount spareAccount spareDay cured cureOf shareOf big unitsOf spare halfFrom halfMany halfDone halfTotal isFar) 0 0
      refine x_aload_n G rfl dX3_extreme_38 0 rfl ?_
      refine x_iload_n G rfl dX3_extreme_39 1 rfl ?_
      refine x_aload_n G rfl dX3_extreme_40 0 rfl ?_
      refine m_get_1 G dX3_extreme_41 ?_
      refine x_iload_n G rfl dX3_extreme_44 1 rfl ?_
      obtain ⟨hz, h⟩ := h
      refine m_ald_1 G hz dX3_extreme_45 ?_
      refine x_cVd0 (As := [.int p0, .int (many p0.toNatClampNeg)]) (rest := []) G [] XSub.rf (tX3_ofOrder G.noTraces h) (lw_V q1996 q1998 qs60 q70 q1999) cdX3_ofOrder 3 0 rfl rfl rfl (by decide) (by decide) rfl (Nat.le_of_ble_eq_true rfl) (Nat.zero_le _) (Nat.zero_le _) dX3_extreme_46 (fun r_4 h => ?_)
      show X g 7 49 [(0, .ref h0), (1, .int p0), (2, .int p1)] [.double r_4] (mW h0 ad (xT g) r_1 many isWide amountOf accountOf dayOf given givenOf runs runWide runWay runTotal runSteps lefts rights results wide_2 dn stepsAt keeps order_3 att spareAmount spareAccount spareDay cured cureOf shareOf big unitsOf spare halfFrom halfMany halfDone halfTotal isFar) 0 0
      refine x_dstore_n (lv' := [(3, .double r_4), (0, .ref h0), (1, .int p0), (2, .int p1)]) G rfl dX3_extreme_49 (by decide) rfl ?_
      obtain ⟨n0, h⟩ := h
      refine kX3_extreme_L50 G (fun v3_14 order_15 h => ?_) n0 _ _ h
      · refine x_aload_n G rfl dX3_extreme_99 1 rfl ?_
        refine m_get_2 G dX3_extreme_100 ?_
        refine x_iload_n G rfl dX3_extreme_103 2 rfl ?_
        obtain ⟨hz, h⟩ := h
        refine m_ald_2 G hz dX3_extreme_104 ?_
        refine x_dload_n G rfl dX3_extreme_105 0 rfl ?_
        refine x_cPl (As := [.int (isWide p0.toNatClampNeg), .double v3_14]) (rest := []) G (tX3_bitsOf G.noTraces h) (lw_S q1688 q1689 q70 q1690) cdX3_bitsOf (by decide) (by decide) rfl (Nat.le_of_ble_eq_true rfl) (Nat.zero_le _) (Nat.zero_le _) dX3_extreme_106 (fun r_16 h => ?_)
        exact x_retl3 G Q dX3_extreme_109 r_1 wide_2 order_15 h XSub.rf (Nat.le_refl _) (Nat.le_refl _)
    · replace h := h.2 c
      refine x_ldc2 G q1991 dX3_extreme_29 ?_
      exact x_retl3 G Q dX3_extreme_32 r_1 wide order h XSub.rf (Nat.le_refl _) (Nat.le_refl _)
  · replace h := h.2 c
    refine x_lconst (v := (0 : Int64)) G dX3_extreme_16 (by decide) ?_
    exact x_retl3 G Q dX3_extreme_17 r_1 wide order h XSub.rf (Nat.le_refl _) (Nat.le_refl _)
theorem cdX3_reach : yX3_reach.cls = RX3 ∧ yX3_reach.cls ≠ "java/lang/invoke/MethodHandle" ∧ yX3_reach.cls ≠ "java/lang/invoke/VarHandle" ∧ (parseMethodDescriptor yX3_reach.desc).map (fun d => d.parameters.length) = some 1 := by decide +kernel
def wX3_reach_L46 (many : Nat → Int32) (amountOf : Nat → UInt64) (p0 : Int32) (r_2 : UInt64) (wide_4 : Int32) (X67 : Int32 → (Nat → Int32) → Prop) (X84 : Int32 → (Nat → Int32) → Prop) : Nat → Int32 → (Nat → Int32) → Prop
  | 0, _, _ => False
  | n + 1, v4_6, order_7 => ((v4_6 = (0 : Int32) → X84 v4_6 order_7) ∧ (¬ v4_6 = (0 : Int32) → (vp_in p0 12 ∧ (wX3_ofOrder p0 (many p0.toNatClampNeg) amountOf wide_4 order_7 (fun (r_8 : UInt64) => ((¬ deq r_8 r_2 → (vp_in p0 12 ∧ (wX3_nextOrder (many p0.toNatClampNeg) order_7 (fun (r_9 : Int32) (order_10 : Nat → Int32) => wX3_reach_L46 many amountOf p0 r_2 wide_4 X67 X84 n r_9 order_10)))) ∧ (deq r_8 r_2 → X67 v4_6 order_7)))))))
def wX3_reach (p0 : Int32) (thrown : Int32) (many : Nat → Int32) (isWide : Nat → Int32) (amountOf : Nat → UInt64) (wide : Int32) (order : Nat → Int32) (big : Nat → Int32) (K : Int32 → Int32 → Int32 → (Nat → Int32) → (Nat → Int32) → Prop) : Prop := (wX3_faultOf p0 many (fun (r_1 : Int32) => ((r_1 = (0 : Int32) → (vp_in p0 12 ∧ (((many p0.toNatClampNeg) ≤ (7 : Int32) → (wX3_exactOf p0 many isWide amountOf big (fun (r_2 : UInt64) (big_3 : Nat → Int32) => (wX3_firstOrder p0 many isWide wide order (fun (wide_4 : Int32) (order_5 : Nat → Int32) => (∃ m46 : Nat, wX3_reach_L46 many amountOf p0 r_2 wide_4 (fun (v4_15 : Int32) (order_16 : Nat → Int32) => K (1 : Int32) r_1 wide_4 order_16 big_3) (fun (v4_17 : Int32) (order_18 : Nat → Int32) => K (0 : Int32) r_1 wide_4 order_18 big_3) m46 (1 : Int32) order_5)))))) ∧ (¬ (many p0.toNatClampNeg) ≤ (7 : Int32) → K (-104 : Int32) r_1 wide order big)))) ∧ (¬ r_1 = (0 : Int32) → K (0 : Int32) r_1 wide order big))))
set_option maxRecDepth 20000 in
theorem kX3_reach_L46 {g : XG} {h0 : Nat} {ad : Nat → Nat} {many : Nat → Int32} {isWide : Nat → Int32} {amountOf : Nat → UInt64} {accountOf : Nat → Int32} {dayOf : Nat → Int32} {given : Nat → Int32} {givenOf : Nat → Int32} {runs : Int32} {runWide : Nat → Int32} {runWay : Nat → Int32} {runTotal : Nat → UInt64} {runSteps : Nat → Int32} {lefts : Nat → UInt64} {rights : Nat → UInt64} {results : Nat → UInt64} {dn : Int32} {stepsAt : Int32} {keeps : Int32} {att : Nat → UInt64} {spareAmount : Nat → UInt64} {spareAccount : Nat → Int32} {spareDay : Nat → Int32} {cured : Int32} {cureOf : Nat → Int32} {shareOf : Nat → Int32} {unitsOf : Int64} {spare : Int32} {halfFrom : Nat → Int32} {halfMany : Nat → Int32} {halfDone : Nat → Int32} {halfTotal : Nat → UInt64} {isFar : Int32} {p0 : Int32} {r_1 : Int32} {r_2 : UInt64} {big_3 : Nat → Int32} {wide_4 : Int32} {X67 : Int32 → (Nat → Int32) → Prop} {X84 : Int32 → (Nat → Int32) → Prop} (G : XO g RX3 cX3_reach 5 7 0 0) (hX67 : ∀ (v4_11 : Int32) (order_12 : Nat → Int32), X67 v4_11 order_12 → X g 5 67 [(4, .int v4_11), (2, .double r_2), (0, .ref h0), (1, .int p0)] [] (mW h0 ad (xT g) r_1 many isWide amountOf accountOf dayOf given givenOf runs runWide runWay runTotal runSteps lefts rights results wide_4 dn stepsAt keeps order_12 att spareAmount spareAccount spareDay cured cureOf shareOf big_3 unitsOf spare halfFrom halfMany halfDone halfTotal isFar) 0 0) (hX84 : ∀ (v4_13 : Int32) (order_14 : Nat → Int32), X84 v4_13 order_14 → X g 5 84 [(4, .int v4_13), (2, .double r_2), (0, .ref h0), (1, .int p0)] [] (mW h0 ad (xT g) r_1 many isWide amountOf accountOf dayOf given givenOf runs runWide runWay runTotal runSteps lefts rights results wide_4 dn stepsAt keeps order_14 att spareAmount spareAccount spareDay cured cureOf shareOf big_3 unitsOf spare halfFrom halfMany halfDone halfTotal isFar) 0 0) : ∀ (n : Nat) (v4_6 : Int32) (order_7 : Nat → Int32), wX3_reach_L46 many amountOf p0 r_2 wide_4 X67 X84 n v4_6 order_7 → X g 5 46 [(4, .int v4_6), (2, .double r_2), (0, .ref h0), (1, .int p0)] [] (mW h0 ad (xT g) r_1 many isWide amountOf accountOf dayOf given givenOf runs runWide runWay runTotal runSteps lefts rights results wide_4 dn stepsAt keeps order_7 att spareAmount spareAccount spareDay cured cureOf shareOf big_3 unitsOf spare halfFrom halfMany halfDone halfTotal isFar) 0 0 := by
  intro n
  induction n with
  | zero => intro _ _ h; exact h.elim
  | succ n ih =>
    intro v4_6 order_7 h
    unfold wX3_reach_L46 at h
    refine x_iload G dX3_reach_46 0 rfl ?_
    refine x_if_eq (tgt := 84) G dX3_reach_48 rfl (fun c => ?_) (fun c => ?_)
    · replace h := h.1 c
      exact hX84 v4_6 order_7 h
    · replace h := h.2 c
      refine x_aload_n G rfl dX3_reach_51 2 rfl ?_
      refine x_iload_n G rfl dX3_reach_52 3 rfl ?_
      refine x_aload_n G rfl dX3_reach_53 2 rfl ?_
      refine m_get_1 G dX3_reach_54 ?_
      refine x_iload_n G rfl dX3_reach_57 3 rfl ?_
      obtain ⟨hz, h⟩ := h
      refine m_ald_1 G hz dX3_reach_58 ?_
      refine x_cVd0 (As := [.int p0, .int (many p0.toNatClampNeg)]) (rest := []) G [] XSub.rf (tX3_ofOrder G.noTraces h) (lw_V q1996 q1998 qs60 q70 q1999) cdX3_ofOrder 3 0 rfl rfl rfl (by decide) (by decide) rfl (Nat.le_of_ble_eq_true rfl) (Nat.zero_le _) (Nat.zero_le _) dX3_reach_59 (fun r_8 h => ?_)
      show X g 5 62 [(4, .int v4_6), (2, .double r_2), (0, .ref h0), (1, .int p0)] [.double r_8] (mW h0 ad (xT g) r_1 many isWide amountOf accountOf dayOf given givenOf runs runWide runWay runTotal runSteps lefts rights results wide_4 dn stepsAt keeps order_7 att spareAmount spareAccount spareDay cured cureOf shareOf big_3 unitsOf spare halfFrom halfMany halfDone halfTotal isFar) 0 0
      refine x_dload_n G rfl dX3_reach_62 1 rfl ?_
      refine x_dcmpl_ne (tgt := 69) G dX3_reach_63 dX3_reach_64 rfl (fun c => ?_) (fun c => ?_)
      · replace h := h.1 c
        refine x_aload_n G rfl dX3_reach_69 2 rfl ?_
        refine x_aload_n G rfl dX3_reach_70 2 rfl ?_
        refine m_get_1 G dX3_reach_71 ?_
        refine x_iload_n G rfl dX3_reach_74 3 rfl ?_
        obtain ⟨hz, h⟩ := h
        refine m_ald_1 G hz dX3_reach_75 ?_
        refine x_cVi1 (As := [.int (many p0.toNatClampNeg)]) (rest := []) G [] XSub.rf (tX3_nextOrder G.noTraces h) (lw_V q2000 q2002 qs61 q70 q2003) cdX3_nextOrder 3 0 rfl rfl rfl (by decide) (by decide) rfl (Nat.le_of_ble_eq_true rfl) (Nat.zero_le _) (Nat.zero_le _) dX3_reach_76 (fun r_9 order_10 h => ?_)
        show X g 5 79 [(4, .int v4_6), (2, .double r_2), (0, .ref h0), (1, .int p0)] [.int r_9] (mW h0 ad (xT g) r_1 many isWide amountOf accountOf dayOf given givenOf runs runWide runWay runTotal runSteps lefts rights results wide_4 dn stepsAt keeps order_10 att spareAmount spareAccount spareDay cured cureOf shareOf big_3 unitsOf spare halfFrom halfMany halfDone halfTotal isFar) 0 0
        refine x_istore (lv' := [(4, .int r_9), (2, .double r_2), (0, .ref h0), (1, .int p0)]) G dX3_reach_79 (by decide) rfl ?_
        refine x_goto (tgt := 46) G dX3_reach_81 rfl ?_
        exact ih r_9 order_10 h
      · replace h := h.2 c
        exact hX67 v4_6 order_7 h
set_option maxRecDepth 20000 in
theorem tX3_reach {l : Launch} {D : va_G} {ta : Nat → ClassId} {h0 : Nat} {ad : Nat → Nat} {thrown : Int32} {many : Nat → Int32} {isWide : Nat → Int32} {amountOf : Nat → UInt64} {accountOf : Nat → Int32} {dayOf : Nat → Int32} {given : Nat → Int32} {givenOf : Nat → Int32} {runs : Int32} {runWide : Nat → Int32} {runWay : Nat → Int32} {runTotal : Nat → UInt64} {runSteps : Nat → Int32} {lefts : Nat → UInt64} {rights : Nat → UInt64} {results : Nat → UInt64} {wide : Int32} {dn : Int32} {stepsAt : Int32} {keeps : Int32} {order : Nat → Int32} {att : Nat → UInt64} {spareAmount : Nat → UInt64} {spareAccount : Nat → Int32} {spareDay : Nat → Int32} {cured : Int32} {cureOf : Nat → Int32} {shareOf : Nat → Int32} {big : Nat → Int32} {unitsOf : Int64} {spare : Int32} {halfFrom : Nat → Int32} {halfMany : Nat → Int32} {halfDone : Nat → Int32} {halfTotal : Nat → UInt64} {isFar : Int32} {p0 : Int32} {K : Int32 → Int32 → Int32 → (Nat → Int32) → (Nat → Int32) → Prop} (hlt : l.stackTraces = false) (h : wX3_reach p0 thrown many isWide amountOf wide order big K) : SMi4 l D ta yX3_reach cX3_reach 5 FieldType.int 7 [.ref h0, .int p0] (mW h0 ad ta thrown many isWide amountOf accountOf dayOf given givenOf runs runWide runWay runTotal runSteps lefts rights results wide dn stepsAt keeps order att spareAmount spareAccount spareDay cured cureOf shareOf big unitsOf spare halfFrom halfMany halfDone halfTotal isFar) (fun (thrown' : Int32) (wide' : Int32) (order' : Nat → Int32) (big' : Nat → Int32) => mW h0 ad ta thrown' many isWide amountOf accountOf dayOf given givenOf runs runWide runWay runTotal runSteps lefts rights results wide' dn stepsAt keeps order' att spareAmount spareAccount spareDay cured cureOf shareOf big' unitsOf spare halfFrom halfMany halfDone halfTotal isFar) 0 0 K := by
  refine x_sti4 hlt (plainFor_of_name (by decide +kernel)) (Nat.le_of_ble_eq_true rfl) (fun g G hl hD hT Q => ?_)
  subst hl; subst hD; subst hT
  unfold wX3_reach at h
  show X g 5 0 [(0, .ref h0), (1, .int p0)] [] (mW h0 ad (xT g) thrown many isWide amountOf accountOf dayOf given givenOf runs runWide runWay runTotal runSteps lefts rights results wide dn stepsAt keeps order att spareAmount spareAccount spareDay cured cureOf shareOf big unitsOf spare halfFrom halfMany halfDone halfTotal isFar) 0 0
  refine x_aload_n G rfl dX3_reach_0 0 rfl ?_
  refine x_aload_n G rfl dX3_reach_1 0 rfl ?_
  refine x_iload_n G rfl dX3_reach_2 1 rfl ?_
  refine x_cVi0 (As := [.int p0]) (rest := [.ref h0]) G [] XSub.rf (tX3_faultOf G.noTraces h) (lw_V q1669 q1671 qs21 q70 q1672) cdX3_faultOf 3 0 rfl rfl rfl (by decide) (by decide) rfl (Nat.le_of_ble_eq_true rfl) (Nat.zero_le _) (Nat.zero_le _) dX3_reach_3 (fun r_1 h => ?_)
  show X g 5 6 [(0, .ref h0), (1, .int p0)] [.int r_1, .ref h0] (mW h0 ad (xT g) thrown many isWide amountOf accountOf dayOf given givenOf runs runWide runWay runTotal runSteps lefts rights results wide dn stepsAt keeps order att spareAmount spareAccount spareDay cured cureOf shareOf big unitsOf spare halfFrom halfMany halfDone halfTotal isFar) 0 0
  refine m_put_0 G dX3_reach_6 ?_
  refine x_aload_n G rfl dX3_reach_9 0 rfl ?_
  refine m_get_0 G dX3_reach_10 ?_
  refine x_if_eq (tgt := 18) G dX3_reach_13 rfl (fun c => ?_) (fun c => ?_)
  · replace h := h.1 c
    refine x_aload_n G rfl dX3_reach_18 0 rfl ?_
    refine m_get_1 G dX3_reach_19 ?_
    refine x_iload_n G rfl dX3_reach_22 1 rfl ?_
    obtain ⟨hz, h⟩ := h
    refine m_ald_1 G hz dX3_reach_23 ?_
    refine x_bipush (v := (7 : Int32)) G dX3_reach_24 (by decide) ?_
    refine x_icmp_le (tgt := 32) G dX3_reach_26 rfl (fun c => ?_) (fun c => ?_)
    · replace h := h.1 c
      refine x_aload_n G rfl dX3_reach_32 0 rfl ?_
      refine x_iload_n G rfl dX3_reach_33 1 rfl ?_
      refine x_cVd1 (As := [.int p0]) (rest := []) G [] XSub.rf (tX3_exactOf G.noTraces h) (lw_V q1978 q1980 qs58 q70 q1981) cdX3_exactOf 3 0 rfl rfl rfl (by decide) (by decide) rfl (Nat.le_of_ble_eq_true rfl) (Nat.zero_le _) (Nat.zero_le _) dX3_reach_34 (fun r_2 big_3 h => ?_)
      show X g 5 37 [(0, .ref h0), (1, .int p0)] [.double r_2] (mW h0 ad (xT g) r_1 many isWide amountOf accountOf dayOf given givenOf runs runWide runWay runTotal runSteps lefts rights results wide dn stepsAt keeps order att spareAmount spareAccount spareDay cured cureOf shareOf big_3 unitsOf spare halfFrom halfMany halfDone halfTotal isFar) 0 0
      refine x_dstore_n (lv' := [(2, .double r_2), (0, .ref h0), (1, .int p0)]) G rfl dX3_reach_37 (by decide) rfl ?_
      refine x_aload_n G rfl dX3_reach_38 1 rfl ?_
      refine x_iload_n G rfl dX3_reach_39 2 rfl ?_
      refine x_cVv2 (As := [.int p0]) (rest := []) G [] XSub.rf (tX3_firstOrder G.noTraces h) (lw_V q1992 q1994 qs59 q70 q1995) cdX3_firstOrder 3 0 rfl rfl rfl (by decide) (by decide) rfl (Nat.le_of_ble_eq_true rfl) (Nat.zero_le _) (Nat.zero_le _) dX3_reach_40 (fun wide_4 order_5 h => ?_)
      show X g 5 43 [(2, .double r_2), (0, .ref h0), (1, .int p0)] [] (mW h0 ad (xT g) r_1 many isWide amountOf accountOf dayOf given givenOf runs runWide runWay runTotal runSteps lefts rights results wide_4 dn stepsAt keeps order_5 att spareAmount spareAccount spareDay cured cureOf shareOf big_3 unitsOf spare halfFrom halfMany halfDone halfTotal isFar) 0 0
      refine x_iconst (v := (1 : Int32)) G dX3_reach_43 (by decide) ?_
      refine x_istore (lv' := [(4, .int (1 : Int32)), (2, .double r_2), (0, .ref h0), (1, .int p0)]) G dX3_reach_44 (by decide) rfl ?_
      obtain ⟨n0, h⟩ := h
      refine kX3_reach_L46 G (fun v4_15 order_16 h => ?_) (fun v4_17 order_18 h => ?_) n0 _ _ h
      · refine x_iconst (v := (1 : Int32)) G dX3_reach_67 (by decide) ?_
        exact x_reti4 G Q dX3_reach_68 rfl r_1 wide_4 order_16 big_3 h XSub.rf (Nat.le_refl _) (Nat.le_refl _)
      · refine x_iconst (v := (0 : Int32)) G dX3_reach_84 (by decide) ?_
        exact x_reti4 G Q dX3_reach_85 rfl r_1 wide_4 order_18 big_3 h XSub.rf (Nat.le_refl _) (Nat.le_refl _)
    · replace h := h.2 c
      refine x_bipush (v := (-104 : Int32)) G dX3_reach_29 (by decide) ?_
      exact x_reti4 G Q dX3_reach_31 rfl r_1 wide order big h XSub.rf (Nat.le_refl _) (Nat.le_refl _)
  · replace h := h.2 c
    refine x_iconst (v := (0 : Int32)) G dX3_reach_16 (by decide) ?_
    exact x_reti4 G Q dX3_reach_17 rfl r_1 wide order big h XSub.rf (Nat.le_refl _) (Nat.le_refl _)
theorem cdX3_bits : yX3_bits.cls ≠ "java/lang/invoke/MethodHandle" ∧ yX3_bits.cls ≠ "java/lang/invoke/VarHandle" ∧ (parseMethodDescriptor yX3_bits.desc).map (fun d => d.parameters.length) = some 1 := by decide +kernel
def wX3_bits_L4 (p0 : Int32) (X24 : Int32 → Int32 → Prop) : Nat → Int32 → Int32 → Prop
  | 0, _, _ => False
  | n + 1, v1_1, v2_2 => (((10 : Int32) ≤ v2_2 → X24 v1_1 v2_2) ∧ (¬ (10 : Int32) ≤ v2_2 → (∀ x_3 : Int32, x_3 = (v1_1 + ((jishr p0 v2_2) &&& (1 : Int32))) → (∀ x_4 : Int32, x_4 = (v2_2 + (1 : Int32)) → wX3_bits_L4 p0 X24 n x_3 x_4))))
def wX3_bits (p0 : Int32) (K : Int32 → Prop) : Prop := (∃ m4 : Nat, wX3_bits_L4 p0 (fun (v1_7 : Int32) (v2_8 : Int32) => K v1_7) m4 (0 : Int32) (0 : Int32))
set_option maxRecDepth 20000 in
theorem kX3_bits_L4 {g : XG} {p0 : Int32} {X24 : Int32 → Int32 → Prop} (G : XO g RX3 cX3_bits 3 1 0 0) (hX24 : ∀ (v1_5 : Int32) (v2_6 : Int32), X24 v1_5 v2_6 → X g 3 24 [(2, .int v2_6), (1, .int v1_5), (0, .int p0)] [] [] 0 0) : ∀ (n : Nat) (v1_1 : Int32) (v2_2 : Int32), wX3_bits_L4 p0 X24 n v1_1 v2_2 → X g 3 4 [(2, .int v2_2), (1, .int v1_1), (0, .int p0)] [] [] 0 0 := by
  intro n
  induction n with
  | zero => intro _ _ h; exact h.elim
  | succ n ih =>
    intro v1_1 v2_2 h
    unfold wX3_bits_L4 at h
    refine x_iload_n G rfl dX3_bits_4 0 rfl ?_
    refine x_bipush (v := (10 : Int32)) G dX3_bits_5 (by decide) ?_
    refine x_icmp_ge (tgt := 24) G dX3_bits_7 rfl (fun c => ?_) (fun c => ?_)
    · replace h := h.1 c
      exact hX24 v1_1 v2_2 h
    · replace h := h.2 c
      refine x_iload_n G rfl dX3_bits_10 1 rfl ?_
      refine x_iload_n G rfl dX3_bits_11 2 rfl ?_
      refine x_iload_n G rfl dX3_bits_12 0 rfl ?_
      refine x_ishr G dX3_bits_13 ?_
      refine x_iconst (v := (1 : Int32)) G dX3_bits_14 (by decide) ?_
      refine x_iand G dX3_bits_15 ?_
      refine x_iadd G dX3_bits_16 ?_
      refine x_topi (fun x_3 ex_3 => ?_)
      replace h := h x_3 ex_3
      refine x_istore_n (lv' := [(1, .int x_3), (2, .int v2_2), (0, .int p0)]) G rfl dX3_bits_17 (by decide) rfl ?_
      obtain ⟨x_4, ex_4⟩ : ∃ z : Int32, z = (v2_2 + (1 : Int32)) := ⟨_, rfl⟩
      replace h := h x_4 ex_4
      refine x_iinc (v := x_4) (lv' := [(2, .int x_4), (1, .int x_3), (0, .int p0)]) G dX3_bits_18 1 rfl (by rw [ex_4]; rfl) (by decide) rfl ?_
      refine x_goto (tgt := 4) G dX3_bits_21 rfl ?_
      exact ih x_3 x_4 h
set_option maxRecDepth 20000 in
theorem tX3_bits {l : Launch} {D : va_G} {ta : Nat → ClassId} {p0 : Int32} {K : Int32 → Prop} (hlt : l.stackTraces = false) (h : wX3_bits p0 K) : SMi0 l D ta yX3_bits cX3_bits 3 FieldType.int 1 [.int p0] [] [] 0 0 K := by
  refine x_sti0 hlt (plainFor_of_name (by decide +kernel)) (Nat.le_of_ble_eq_true rfl) (fun g G hl hD hT Q => ?_)
  subst hl; subst hD; subst hT
  unfold wX3_bits at h
  show X g 3 0 [(0, .int p0)] [] [] 0 0
  refine x_iconst (v := (0 : Int32)) G dX3_bits_0 (by decide) ?_
  refine x_istore_n (lv' := [(1, .int (0 : Int32)), (0, .int p0)]) G rfl dX3_bits_1 (by decide) rfl ?_
  refine x_iconst (v := (0 : Int32)) G dX3_bits_2 (by decide) ?_
  refine x_istore_n (lv' := [(2, .int (0 : Int32)), (1, .int (0 : Int32)), (0, .int p0)]) G rfl dX3_bits_3 (by decide) rfl ?_
  obtain ⟨n0, h⟩ := h
  refine kX3_bits_L4 G (fun v1_7 v2_8 h => ?_) n0 _ _ h
  · refine x_iload_n G rfl dX3_bits_24 1 rfl ?_
    exact x_reti0 G Q dX3_bits_25 rfl  h XSub.rf (Nat.le_refl _) (Nat.le_refl _)
theorem cdX3_isAhead : yX3_isAhead.cls ≠ "java/lang/invoke/MethodHandle" ∧ yX3_isAhead.cls ≠ "java/lang/invoke/VarHandle" ∧ (parseMethodDescriptor yX3_isAhead.desc).map (fun d => d.parameters.length) = some 2 := by decide +kernel
def wX3_isAhead_L6 (x_1 : Int32) (X26 : Int32 → Prop) : Nat → Int32 → Prop
  | 0, _ => False
  | n + 1, v3_2 => (((9 : Int32) ≤ v3_2 → X26 v3_2) ∧ (¬ (9 : Int32) ≤ v3_2 → ((¬ ((jishr x_1 v3_2) &&& (1 : Int32)) = (0 : Int32) → X26 v3_2) ∧ (((jishr x_1 v3_2) &&& (1 : Int32)) = (0 : Int32) → (∀ x_3 : Int32, x_3 = (v3_2 + (1 : Int32)) → wX3_isAhead_L6 x_1 X26 n x_3)))))
def wX3_isAhead (p0 : Int32) (p1 : Int32) (K : Int32 → Prop) : Prop := (∀ x_1 : Int32, x_1 = (p0 ^^^ p1) → (∃ m6 : Nat, wX3_isAhead_L6 x_1 (fun (v3_5 : Int32) => ((¬ ((jishr p0 v3_5) &&& (1 : Int32)) = (1 : Int32) → K (0 : Int32)) ∧ (((jishr p0 v3_5) &&& (1 : Int32)) = (1 : Int32) → K (1 : Int32)))) m6 (0 : Int32)))
set_option maxRecDepth 20000 in
theorem kX3_isAhead_L6 {g : XG} {p0 : Int32} {p1 : Int32} {x_1 : Int32} {X26 : Int32 → Prop} (G : XO g RX3 cX3_isAhead 4 1 0 0) (hX26 : ∀ (v3_4 : Int32), X26 v3_4 → X g 4 26 [(3, .int v3_4), (2, .int x_1), (0, .int p0), (1, .int p1)] [] [] 0 0) : ∀ (n : Nat) (v3_2 : Int32), wX3_isAhead_L6 x_1 X26 n v3_2 → X g 4 6 [(3, .int v3_2), (2, .int x_1), (0, .int p0), (1, .int p1)] [] [] 0 0 := by
  intro n
  induction n with
  | zero => intro _ h; exact h.elim
  | succ n ih =>
    intro v3_2 h
    unfold wX3_isAhead_L6 at h
    refine x_iload_n G rfl dX3_isAhead_6 0 rfl ?_
    refine x_bipush (v := (9 : Int32)) G dX3_isAhead_7 (by decide) ?_
    refine x_icmp_ge (tgt := 26) G dX3_isAhead_9 rfl (fun c => ?_) (fun c => ?_)
    · replace h := h.1 c
      exact hX26 v3_2 h
    · replace h := h.2 c
      refine x_iload_n G rfl dX3_isAhead_12 1 rfl ?_
      refine x_iload_n G rfl dX3_isAhead_13 0 rfl ?_
      refine x_ishr G dX3_isAhead_14 ?_
      refine x_iconst (v := (1 : Int32)) G dX3_isAhead_15 (by decide) ?_
      refine x_iand G dX3_isAhead_16 ?_
      refine x_if_ne (tgt := 26) G dX3_isAhead_17 rfl (fun c => ?_) (fun c => ?_)
      · replace h := h.1 c
        exact hX26 v3_2 h
      · replace h := h.2 c
        obtain ⟨x_3, ex_3⟩ : ∃ z : Int32, z = (v3_2 + (1 : Int32)) := ⟨_, rfl⟩
        replace h := h x_3 ex_3
        refine x_iinc (v := x_3) (lv' := [(3, .int x_3), (2, .int x_1), (0, .int p0), (1, .int p1)]) G dX3_isAhead_20 0 rfl (by rw [ex_3]; rfl) (by decide) rfl ?_
        refine x_goto (tgt := 6) G dX3_isAhead_23 rfl ?_
        exact ih x_3 h
set_option maxRecDepth 20000 in
theorem tX3_isAhead {l : Launch} {D : va_G} {ta : Nat → ClassId} {p0 : Int32} {p1 : Int32} {K : Int32 → Prop} (hlt : l.stackTraces = false) (h : wX3_isAhead p0 p1 K) : SMi0 l D ta yX3_isAhead cX3_isAhead 4 FieldType.boolean 1 [.int p0, .int p1] [] [] 0 0 K := by
  refine x_sti0 hlt (plainFor_of_name (by decide +kernel)) (Nat.le_of_ble_eq_true rfl) (fun g G hl hD hT Q => ?_)
  subst hl; subst hD; subst hT
  unfold wX3_isAhead at h
  show X g 4 0 [(0, .int p0), (1, .int p1)] [] [] 0 0
  refine x_iload_n G rfl dX3_isAhead_0 0 rfl ?_
  refine x_iload_n G rfl dX3_isAhead_1 1 rfl ?_
  refine x_ixor G dX3_isAhead_2 ?_
  refine x_topi (fun x_1 ex_1 => ?_)
  replace h := h x_1 ex_1
  refine x_istore_n (lv' := [(2, .int x_1), (0, .int p0), (1, .int p1)]) G rfl dX3_isAhead_3 (by decide) rfl ?_
  refine x_iconst (v := (0 : Int32)) G dX3_isAhead_4 (by decide) ?_
  refine x_istore_n (lv' := [(3, .int (0 : Int32)), (2, .int x_1), (0, .int p0), (1, .int p1)]) G rfl dX3_isAhead_5 (by decide) rfl ?_
  obtain ⟨n0, h⟩ := h
  refine kX3_isAhead_L6 G (fun v3_5 h => ?_) n0 _ h
  · refine x_iload_n G rfl dX3_isAhead_26 2 rfl ?_
    refine x_iload_n G rfl dX3_isAhead_27 0 rfl ?_
    refine x_ishr G dX3_isAhead_28 ?_
    refine x_iconst (v := (1 : Int32)) G dX3_isAhead_29 (by decide) ?_
    refine x_iand G dX3_isAhead_30 ?_
    refine x_iconst (v := (1 : Int32)) G dX3_isAhead_31 (by decide) ?_
    refine x_icmp_ne (tgt := 39) G dX3_isAhead_32 rfl (fun c => ?_) (fun c => ?_)
    · replace h := h.1 c
      refine x_iconst (v := (0 : Int32)) G dX3_isAhead_39 (by decide) ?_
      exact x_reti0 G Q dX3_isAhead_40 rfl  h XSub.rf (Nat.le_refl _) (Nat.le_refl _)
    · replace h := h.2 c
      refine x_iconst (v := (1 : Int32)) G dX3_isAhead_35 (by decide) ?_
      refine x_goto (tgt := 40) G dX3_isAhead_36 rfl ?_
      exact x_reti0 G Q dX3_isAhead_40 rfl  h XSub.rf (Nat.le_refl _) (Nat.le_refl _)
