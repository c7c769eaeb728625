/-! the model's methods. Printed by gen/model_parts.py -/
theorem cdX3_blocks : yX3_blocks.cls = RX3 ∧ yX3_blocks.cls ≠ "java/lang/invoke/MethodHandle" ∧ yX3_blocks.cls ≠ "java/lang/invoke/VarHandle" ∧ (parseMethodDescriptor yX3_blocks.desc).map (fun d => d.parameters.length) = some 2 := by decide +kernel
def wX3_blocks_L36 (many : Nat → Int32) (amountOf : Nat → UInt64) (wide : Int32) (stepsAt : Int32) (keeps : Int32) (p0 : Int32) (p1 : Int32) (v4_2 : Int32) (X82 : UInt64 → Int32 → (Nat → UInt64) → (Nat → UInt64) → (Nat → UInt64) → Int32 → Prop) : Nat → UInt64 → Int32 → (Nat → UInt64) → (Nat → UInt64) → (Nat → UInt64) → Int32 → Prop
  | 0, _, _, _, _, _, _ => False
  | n + 1, v5_10, v7_11, lefts_12, rights_13, results_14, dn_15 => (((v4_2 + p1) ≤ v7_11 → X82 v5_10 v7_11 lefts_12 rights_13 results_14 dn_15) ∧ (¬ (v4_2 + p1) ≤ v7_11 → (vp_in p0 12 ∧ (((many p0.toNatClampNeg) ≤ v7_11 → X82 v5_10 v7_11 lefts_12 rights_13 results_14 dn_15) ∧ (¬ (many p0.toNatClampNeg) ≤ v7_11 → (vp_in (((60 : Int32) * p0) + v7_11) 720 ∧ (wX3_adds v5_10 (amountOf (((60 : Int32) * p0) + v7_11).toNatClampNeg) lefts_12 rights_13 results_14 wide dn_15 stepsAt keeps (fun (r_16 : UInt64) (lefts_17 : Nat → UInt64) (rights_18 : Nat → UInt64) (results_19 : Nat → UInt64) (dn_20 : Int32) => (∀ x_21 : Int32, x_21 = (v7_11 + (1 : Int32)) → wX3_blocks_L36 many amountOf wide stepsAt keeps p0 p1 v4_2 X82 n r_16 x_21 lefts_17 rights_18 results_19 dn_20)))))))))
def wX3_blocks_L5 (many : Nat → Int32) (amountOf : Nat → UInt64) (wide : Int32) (stepsAt : Int32) (keeps : Int32) (p0 : Int32) (p1 : Int32) (X102 : Int32 → Int32 → (Nat → UInt64) → (Nat → UInt64) → (Nat → UInt64) → Int32 → (Nat → UInt64) → Prop) : Nat → Int32 → Int32 → (Nat → UInt64) → (Nat → UInt64) → (Nat → UInt64) → Int32 → (Nat → UInt64) → Prop
  | 0, _, _, _, _, _, _, _ => False
  | n + 1, v3_1, v4_2, lefts_3, rights_4, results_5, dn_6, att_7 => (vp_in p0 12 ∧ (((many p0.toNatClampNeg) ≤ v4_2 → X102 v3_1 v4_2 lefts_3 rights_4 results_5 dn_6 att_7) ∧ (¬ (many p0.toNatClampNeg) ≤ v4_2 → (vp_in (((60 : Int32) * p0) + v4_2) 720 ∧ (∀ r_8 : UInt64, r_8 = (amountOf (((60 : Int32) * p0) + v4_2).toNatClampNeg) → (∀ x_9 : Int32, x_9 = (v4_2 + (1 : Int32)) → (∃ m36 : Nat, wX3_blocks_L36 many amountOf wide stepsAt keeps p0 p1 v4_2 (fun (v5_28 : UInt64) (v7_29 : Int32) (lefts_30 : Nat → UInt64) (rights_31 : Nat → UInt64) (results_32 : Nat → UInt64) (dn_33 : Int32) => (vp_in v3_1 120 ∧ (∀ att_34 : Nat → UInt64, att_34 = vf_upd att_7 v3_1.toNatClampNeg v5_28 → (∀ x_35 : Int32, x_35 = (v3_1 + (1 : Int32)) → (∀ x_36 : Int32, x_36 = (v4_2 + p1) → wX3_blocks_L5 many amountOf wide stepsAt keeps p0 p1 X102 n x_35 x_36 lefts_30 rights_31 results_32 dn_33 att_34))))) m36 r_8 x_9 lefts_3 rights_4 results_5 dn_6)))))))
def wX3_blocks_L113 (wide : Int32) (stepsAt : Int32) (keeps : Int32) (v3_44 : Int32) (att_50 : Nat → UInt64) (X140 : UInt64 → Int32 → (Nat → UInt64) → (Nat → UInt64) → (Nat → UInt64) → Int32 → Prop) : Nat → UInt64 → Int32 → (Nat → UInt64) → (Nat → UInt64) → (Nat → UInt64) → Int32 → Prop
  | 0, _, _, _, _, _, _ => False
  | n + 1, v4_52, v6_53, lefts_54, rights_55, results_56, dn_57 => ((v3_44 ≤ v6_53 → X140 v4_52 v6_53 lefts_54 rights_55 results_56 dn_57) ∧ (¬ v3_44 ≤ v6_53 → (vp_in v6_53 120 ∧ (wX3_adds v4_52 (att_50 v6_53.toNatClampNeg) lefts_54 rights_55 results_56 wide dn_57 stepsAt keeps (fun (r_58 : UInt64) (lefts_59 : Nat → UInt64) (rights_60 : Nat → UInt64) (results_61 : Nat → UInt64) (dn_62 : Int32) => (∀ x_63 : Int32, x_63 = (v6_53 + (1 : Int32)) → wX3_blocks_L113 wide stepsAt keeps v3_44 att_50 X140 n r_58 x_63 lefts_59 rights_60 results_61 dn_62))))))
def wX3_blocks (p0 : Int32) (p1 : Int32) (many : Nat → Int32) (amountOf : Nat → UInt64) (lefts : Nat → UInt64) (rights : Nat → UInt64) (results : Nat → UInt64) (wide : Int32) (dn : Int32) (stepsAt : Int32) (keeps : Int32) (att : Nat → UInt64) (K : UInt64 → (Nat → UInt64) → (Nat → UInt64) → (Nat → UInt64) → Int32 → (Nat → UInt64) → Prop) : Prop := (∃ m5 : Nat, wX3_blocks_L5 many amountOf wide stepsAt keeps p0 p1 (fun (v3_44 : Int32) (v4_45 : Int32) (lefts_46 : Nat → UInt64) (rights_47 : Nat → UInt64) (results_48 : Nat → UInt64) (dn_49 : Int32) (att_50 : Nat → UInt64) => (vp_in (0 : Int32) 120 ∧ (∀ r_51 : UInt64, r_51 = (att_50 (0 : Int32).toNatClampNeg) → (∃ m113 : Nat, wX3_blocks_L113 wide stepsAt keeps v3_44 att_50 (fun (v4_70 : UInt64) (v6_71 : Int32) (lefts_72 : Nat → UInt64) (rights_73 : Nat → UInt64) (results_74 : Nat → UInt64) (dn_75 : Int32) => K v4_70 lefts_72 rights_73 results_74 dn_75 att_50) m113 r_51 (1 : Int32) lefts_46 rights_47 results_48 dn_49)))) m5 (0 : Int32) (0 : Int32) lefts rights results dn att)
set_option maxRecDepth 20000 in
theorem kX3_blocks_L36 {g : XG} {h0 : Nat} {ad : Nat → Nat} {thrown : Int32} {many : Nat → Int32} {isWide : Nat → Int32} {amountOf : Nat → UInt64} {accountOf : Nat → Int32} {dayOf : Nat → Int32} {given : Nat → Int32} {givenOf : Nat → Int32} {runs : Int32} {runWide : Nat → Int32} {runWay : Nat → Int32} {runTotal : Nat → UInt64} {runSteps : Nat → Int32} {wide : Int32} {stepsAt : Int32} {keeps : Int32} {order : Nat → Int32} {spareAmount : Nat → UInt64} {spareAccount : Nat → Int32} {spareDay : Nat → Int32} {cured : Int32} {cureOf : Nat → Int32} {shareOf : Nat → Int32} {big : Nat → Int32} {unitsOf : Int64} {spare : Int32} {halfFrom : Nat → Int32} {halfMany : Nat → Int32} {halfDone : Nat → Int32} {halfTotal : Nat → UInt64} {isFar : Int32} {p0 : Int32} {p1 : Int32} {v3_1 : Int32} {v4_2 : Int32} {att_7 : Nat → UInt64} {X82 : UInt64 → Int32 → (Nat → UInt64) → (Nat → UInt64) → (Nat → UInt64) → Int32 → Prop} (G : XO g RX3 cX3_blocks 8 3 0 0) (hX82 : ∀ (v5_22 : UInt64) (v7_23 : Int32) (lefts_24 : Nat → UInt64) (rights_25 : Nat → UInt64) (results_26 : Nat → UInt64) (dn_27 : Int32), X82 v5_22 v7_23 lefts_24 rights_25 results_26 dn_27 → X g 8 82 [(7, .int v7_23), (5, .double v5_22), (4, .int v4_2), (3, .int v3_1), (0, .ref h0), (1, .int p0), (2, .int p1)] [] (mW h0 ad (xT g) thrown many isWide amountOf accountOf dayOf given givenOf runs runWide runWay runTotal runSteps lefts_24 rights_25 results_26 wide dn_27 stepsAt keeps order att_7 spareAmount spareAccount spareDay cured cureOf shareOf big unitsOf spare halfFrom halfMany halfDone halfTotal isFar) 0 0) : ∀ (n : Nat) (v5_10 : UInt64) (v7_11 : Int32) (lefts_12 : Nat → UInt64) (rights_13 : Nat → UInt64) (results_14 : Nat → UInt64) (dn_15 : Int32), wX3_blocks_L36 many amountOf wide stepsAt keeps p0 p1 v4_2 X82 n v5_10 v7_11 lefts_12 rights_13 results_14 dn_15 → X g 8 36 [(7, .int v7_11), (5, .double v5_10), (4, .int v4_2), (3, .int v3_1), (0, .ref h0), (1, .int p0), (2, .int p1)] [] (mW h0 ad (xT g) thrown many isWide amountOf accountOf dayOf given givenOf runs runWide runWay runTotal runSteps lefts_12 rights_13 results_14 wide dn_15 stepsAt keeps order att_7 spareAmount spareAccount spareDay cured cureOf shareOf big unitsOf spare halfFrom halfMany halfDone halfTotal isFar) 0 0 := by
  intro n
  induction n with
  | zero => intro _ _ _ _ _ _ h; exact h.elim
  | succ n ih =>
    intro v5_10 v7_11 lefts_12 rights_13 results_14 dn_15 h
    unfold wX3_blocks_L36 at h
    refine x_iload G dX3_blocks_36 0 rfl ?_
    refine x_iload G dX3_blocks_38 2 rfl ?_
    refine x_iload_n G rfl dX3_blocks_40 6 rfl ?_
    refine x_iadd G dX3_blocks_41 ?_
    refine x_icmp_ge (tgt := 82) G dX3_blocks_42 rfl (fun c => ?_) (fun c => ?_)
    · replace h := h.1 c
      exact hX82 v5_10 v7_11 lefts_12 rights_13 results_14 dn_15 h
    · replace h := h.2 c
      refine x_iload G dX3_blocks_45 0 rfl ?_
      refine x_aload_n G rfl dX3_blocks_47 4 rfl ?_
      refine m_get_1 G dX3_blocks_48 ?_
      refine x_iload_n G rfl dX3_blocks_51 5 rfl ?_
      obtain ⟨hz, h⟩ := h
      refine m_ald_1 G hz dX3_blocks_52 ?_
      refine x_icmp_ge (tgt := 82) G dX3_blocks_53 rfl (fun c => ?_) (fun c => ?_)
      · replace h := h.1 c
        exact hX82 v5_10 v7_11 lefts_12 rights_13 results_14 dn_15 h
      · replace h := h.2 c
        refine x_aload_n G rfl dX3_blocks_56 4 rfl ?_
        refine x_dload G dX3_blocks_57 1 rfl ?_
        refine x_aload_n G rfl dX3_blocks_59 4 rfl ?_
        refine m_get_3 G dX3_blocks_60 ?_
        refine x_bipush (v := (60 : Int32)) G dX3_blocks_63 (by decide) ?_
        refine x_iload_n G rfl dX3_blocks_65 5 rfl ?_
        refine x_imul G dX3_blocks_66 ?_
        refine x_iload G dX3_blocks_67 0 rfl ?_
        refine x_iadd G dX3_blocks_69 ?_
        obtain ⟨hz, h⟩ := h
        refine m_ald_3 G hz dX3_blocks_70 ?_
        refine x_cVd4 (As := [.double v5_10, .double (amountOf (((60 : Int32) * p0) + v7_11).toNatClampNeg)]) (rest := []) G [] XSub.rf (tX3_adds G.noTraces h) (lw_V q1814 q1816 qs30 q70 q1817) cdX3_adds 3 0 rfl rfl rfl (by decide) (by decide) rfl (Nat.le_of_ble_eq_true rfl) (Nat.zero_le _) (Nat.zero_le _) dX3_blocks_71 (fun r_16 lefts_17 rights_18 results_19 dn_20 h => ?_)
        show X g 8 74 [(7, .int v7_11), (5, .double v5_10), (4, .int v4_2), (3, .int v3_1), (0, .ref h0), (1, .int p0), (2, .int p1)] [.double r_16] (mW h0 ad (xT g) thrown many isWide amountOf accountOf dayOf given givenOf runs runWide runWay runTotal runSteps lefts_17 rights_18 results_19 wide dn_20 stepsAt keeps order att_7 spareAmount spareAccount spareDay cured cureOf shareOf big unitsOf spare halfFrom halfMany halfDone halfTotal isFar) 0 0
        refine x_dstore (lv' := [(5, .double r_16), (7, .int v7_11), (4, .int v4_2), (3, .int v3_1), (0, .ref h0), (1, .int p0), (2, .int p1)]) G dX3_blocks_74 (by decide) rfl ?_
        obtain ⟨x_21, ex_21⟩ : ∃ z : Int32, z = (v7_11 + (1 : Int32)) := ⟨_, rfl⟩
        replace h := h x_21 ex_21
        refine x_iinc (v := x_21) (lv' := [(7, .int x_21), (5, .double r_16), (4, .int v4_2), (3, .int v3_1), (0, .ref h0), (1, .int p0), (2, .int p1)]) G dX3_blocks_76 1 rfl (by rw [ex_21]; rfl) (by decide) rfl ?_
        refine x_goto (tgt := 36) G dX3_blocks_79 rfl ?_
        exact ih r_16 x_21 lefts_17 rights_18 results_19 dn_20 h
set_option maxRecDepth 20000 in
theorem kX3_blocks_L5 {g : XG} {h0 : Nat} {ad : Nat → Nat} {thrown : Int32} {many : Nat → Int32} {isWide : Nat → Int32} {amountOf : Nat → UInt64} {accountOf : Nat → Int32} {dayOf : Nat → Int32} {given : Nat → Int32} {givenOf : Nat → Int32} {runs : Int32} {runWide : Nat → Int32} {runWay : Nat → Int32} {runTotal : Nat → UInt64} {runSteps : Nat → Int32} {wide : Int32} {stepsAt : Int32} {keeps : Int32} {order : Nat → Int32} {spareAmount : Nat → UInt64} {spareAccount : Nat → Int32} {spareDay : Nat → Int32} {cured : Int32} {cureOf : Nat → Int32} {shareOf : Nat → Int32} {big : Nat → Int32} {unitsOf : Int64} {spare : Int32} {halfFrom : Nat → Int32} {halfMany : Nat → Int32} {halfDone : Nat → Int32} {halfTotal : Nat → UInt64} {isFar : Int32} {p0 : Int32} {p1 : Int32} {X102 : Int32 → Int32 → (Nat → UInt64) → (Nat → UInt64) → (Nat → UInt64) → Int32 → (Nat → UInt64) → Prop} (G : XO g RX3 cX3_blocks 8 3 0 0) (hX102 : ∀ (v3_37 : Int32) (v4_38 : Int32) (lefts_39 : Nat → UInt64) (rights_40 : Nat → UInt64) (results_41 : Nat → UInt64) (dn_42 : Int32) (att_43 : Nat → UInt64), X102 v3_37 v4_38 lefts_39 rights_40 results_41 dn_42 att_43 → X g 8 102 [(4, .int v4_38), (3, .int v3_37), (0, .ref h0), (1, .int p0), (2, .int p1)] [] (mW h0 ad (xT g) thrown many isWide amountOf accountOf dayOf given givenOf runs runWide runWay runTotal runSteps lefts_39 rights_40 results_41 wide dn_42 stepsAt keeps order att_43 spareAmount spareAccount spareDay cured cureOf shareOf big unitsOf spare halfFrom halfMany halfDone halfTotal isFar) 0 0) : ∀ (n : Nat) (v3_1 : Int32) (v4_2 : Int32) (lefts_3 : Nat → UInt64) (rights_4 : Nat → UInt64) (results_5 : Nat → UInt64) (dn_6 : Int32) (att_7 : Nat → UInt64), wX3_blocks_L5 many amountOf wide stepsAt keeps p0 p1 X102 n v3_1 v4_2 lefts_3 rights_4 results_5 dn_6 att_7 → X g 8 5 [(4, .int v4_2), (3, .int v3_1), (0, .ref h0), (1, .int p0), (2, .int p1)] [] (mW h0 ad (xT g) thrown many isWide amountOf accountOf dayOf given givenOf runs runWide runWay runTotal runSteps lefts_3 rights_4 results_5 wide dn_6 stepsAt keeps order att_7 spareAmount spareAccount spareDay cured cureOf shareOf big unitsOf spare halfFrom halfMany halfDone halfTotal isFar) 0 0 := by
  intro n
  induction n with
  | zero => intro _ _ _ _ _ _ _ h; exact h.elim
  | succ n ih =>
    intro v3_1 v4_2 lefts_3 rights_4 results_5 dn_6 att_7 h
    unfold wX3_blocks_L5 at h
    refine x_iload G dX3_blocks_5 0 rfl ?_
    refine x_aload_n G rfl dX3_blocks_7 2 rfl ?_
    refine m_get_1 G dX3_blocks_8 ?_
    refine x_iload_n G rfl dX3_blocks_11 3 rfl ?_
    obtain ⟨hz, h⟩ := h
    refine m_ald_1 G hz dX3_blocks_12 ?_
    refine x_icmp_ge (tgt := 102) G dX3_blocks_13 rfl (fun c => ?_) (fun c => ?_)
    · replace h := h.1 c
      exact hX102 v3_1 v4_2 lefts_3 rights_4 results_5 dn_6 att_7 h
    · replace h := h.2 c
      refine x_aload_n G rfl dX3_blocks_16 2 rfl ?_
      refine m_get_3 G dX3_blocks_17 ?_
      refine x_bipush (v := (60 : Int32)) G dX3_blocks_20 (by decide) ?_
      refine x_iload_n G rfl dX3_blocks_22 3 rfl ?_
      refine x_imul G dX3_blocks_23 ?_
      refine x_iload G dX3_blocks_24 0 rfl ?_
      refine x_iadd G dX3_blocks_26 ?_
      obtain ⟨hz, h⟩ := h
      refine m_ald_3 G hz dX3_blocks_27 ?_
      refine x_topd (fun r_8 er_8 => ?_)
      replace h := h r_8 er_8
      refine x_dstore (lv' := [(5, .double r_8), (4, .int v4_2), (3, .int v3_1), (0, .ref h0), (1, .int p0), (2, .int p1)]) G dX3_blocks_28 (by decide) rfl ?_
      refine x_iload G dX3_blocks_30 1 rfl ?_
      refine x_iconst (v := (1 : Int32)) G dX3_blocks_32 (by decide) ?_
      refine x_iadd G dX3_blocks_33 ?_
      refine x_topi (fun x_9 ex_9 => ?_)
      replace h := h x_9 ex_9
      refine x_istore (lv' := [(7, .int x_9), (5, .double r_8), (4, .int v4_2), (3, .int v3_1), (0, .ref h0), (1, .int p0), (2, .int p1)]) G dX3_blocks_34 (by decide) rfl ?_
      obtain ⟨n0, h⟩ := h
      refine kX3_blocks_L36 G (fun v5_28 v7_29 lefts_30 rights_31 results_32 dn_33 h => ?_) n0 _ _ _ _ _ _ h
      · refine x_aload_n G rfl dX3_blocks_82 4 rfl ?_
        refine m_get_21 G dX3_blocks_83 ?_
        refine x_iload_n G rfl dX3_blocks_86 3 rfl ?_
        refine x_dload G dX3_blocks_87 1 rfl ?_
        obtain ⟨hz, h⟩ := h
        refine m_ast_21 G hz dX3_blocks_89 (fun att_34 eatt_34 => ?_)
        replace h := h att_34 eatt_34
        obtain ⟨x_35, ex_35⟩ : ∃ z : Int32, z = (v3_1 + (1 : Int32)) := ⟨_, rfl⟩
        replace h := h x_35 ex_35
        refine x_iinc (v := x_35) (lv' := [(3, .int x_35), (7, .int v7_29), (5, .double v5_28), (4, .int v4_2), (0, .ref h0), (1, .int p0), (2, .int p1)]) G dX3_blocks_90 3 rfl (by rw [ex_35]; rfl) (by decide) rfl ?_
        refine x_iload G dX3_blocks_93 3 rfl ?_
        refine x_iload_n G rfl dX3_blocks_95 6 rfl ?_
        refine x_iadd G dX3_blocks_96 ?_
        refine x_topi (fun x_36 ex_36 => ?_)
        replace h := h x_36 ex_36
        refine x_istore (lv' := [(4, .int x_36), (3, .int x_35), (7, .int v7_29), (5, .double v5_28), (0, .ref h0), (1, .int p0), (2, .int p1)]) G dX3_blocks_97 (by decide) rfl ?_
        refine x_goto (tgt := 5) G dX3_blocks_99 rfl ?_
        refine x_lv (lv' := [(4, .int x_36), (3, .int x_35), (0, .ref h0), (1, .int p0), (2, .int p1)]) [0, 1, 4, 5, 6] rfl ?_
        exact ih x_35 x_36 lefts_30 rights_31 results_32 dn_33 att_34 h
set_option maxRecDepth 20000 in
theorem kX3_blocks_L113 {g : XG} {h0 : Nat} {ad : Nat → Nat} {thrown : Int32} {many : Nat → Int32} {isWide : Nat → Int32} {amountOf : Nat → UInt64} {accountOf : Nat → Int32} {dayOf : Nat → Int32} {given : Nat → Int32} {givenOf : Nat → Int32} {runs : Int32} {runWide : Nat → Int32} {runWay : Nat → Int32} {runTotal : Nat → UInt64} {runSteps : Nat → Int32} {wide : Int32} {stepsAt : Int32} {keeps : Int32} {order : Nat → Int32} {spareAmount : Nat → UInt64} {spareAccount : Nat → Int32} {spareDay : Nat → Int32} {cured : Int32} {cureOf : Nat → Int32} {shareOf : Nat → Int32} {big : Nat → Int32} {unitsOf : Int64} {spare : Int32} {halfFrom : Nat → Int32} {halfMany : Nat → Int32} {halfDone : Nat → Int32} {halfTotal : Nat → UInt64} {isFar : Int32} {p0 : Int32} {p1 : Int32} {v3_44 : Int32} {att_50 : Nat → UInt64} {X140 : UInt64 → Int32 → (Nat → UInt64) → (Nat → UInt64) → (Nat → UInt64) → Int32 → Prop} (G : XO g RX3 cX3_blocks 8 3 0 0) (hX140 : ∀ (v4_64 : UInt64) (v6_65 : Int32) (lefts_66 : Nat → UInt64) (rights_67 : Nat → UInt64) (results_68 : Nat → UInt64) (dn_69 : Int32), X140 v4_64 v6_65 lefts_66 rights_67 results_68 dn_69 → X g 8 140 [(6, .int v6_65), (4, .double v4_64), (3, .int v3_44), (0, .ref h0), (1, .int p0), (2, .int p1)] [] (mW h0 ad (xT g) thrown many isWide amountOf accountOf dayOf given givenOf runs runWide runWay runTotal runSteps lefts_66 rights_67 results_68 wide dn_69 stepsAt keeps order att_50 spareAmount spareAccount spareDay cured cureOf shareOf big unitsOf spare halfFrom halfMany halfDone halfTotal isFar) 0 0) : ∀ (n : Nat) (v4_52 : UInt64) (v6_53 : Int32) (lefts_54 : Nat → UInt64) (rights_55 : Nat → UInt64) (results_56 : Nat → UInt64) (dn_57 : Int32), wX3_blocks_L113 wide stepsAt keeps v3_44 att_50 X140 n v4_52 v6_53 lefts_54 rights_55 results_56 dn_57 → X g 8 113 [(6, .int v6_53), (4, .double v4_52), (3, .int v3_44), (0, .ref h0), (1, .int p0), (2, .int p1)] [] (mW h0 ad (xT g) thrown many isWide amountOf accountOf dayOf given givenOf runs runWide runWay runTotal runSteps lefts_54 rights_55 results_56 wide dn_57 stepsAt keeps order att_50 spareAmount spareAccount spareDay cured cureOf shareOf big unitsOf spare halfFrom halfMany halfDone halfTotal isFar) 0 0 := by
  intro n
  induction n with
  | zero => intro _ _ _ _ _ _ h; exact h.elim
  | succ n ih =>
    intro v4_52 v6_53 lefts_54 rights_55 results_56 dn_57 h
    unfold wX3_blocks_L113 at h
    refine x_iload G dX3_blocks_113 0 rfl ?_
    refine x_iload_n G rfl dX3_blocks_115 2 rfl ?_
    refine x_icmp_ge (tgt := 140) G dX3_blocks_116 rfl (fun c => ?_) (fun c => ?_)
    · replace h := h.1 c
      exact hX140 v4_52 v6_53 lefts_54 rights_55 results_56 dn_57 h
    · replace h := h.2 c
      refine x_aload_n G rfl dX3_blocks_119 3 rfl ?_
      refine x_dload G dX3_blocks_120 1 rfl ?_
      refine x_aload_n G rfl dX3_blocks_122 3 rfl ?_
      refine m_get_21 G dX3_blocks_123 ?_
      refine x_iload G dX3_blocks_126 0 rfl ?_
      obtain ⟨hz, h⟩ := h
      refine m_ald_21 G hz dX3_blocks_128 ?_
      refine x_cVd4 (As := [.double v4_52, .double (att_50 v6_53.toNatClampNeg)]) (rest := []) G [] XSub.rf (tX3_adds G.noTraces h) (lw_V q1814 q1816 qs30 q70 q1817) cdX3_adds 3 0 rfl rfl rfl (by decide) (by decide) rfl (Nat.le_of_ble_eq_true rfl) (Nat.zero_le _) (Nat.zero_le _) dX3_blocks_129 (fun r_58 lefts_59 rights_60 results_61 dn_62 h => ?_)
      show X g 8 132 [(6, .int v6_53), (4, .double v4_52), (3, .int v3_44), (0, .ref h0), (1, .int p0), (2, .int p1)] [.double r_58] (mW h0 ad (xT g) thrown many isWide amountOf accountOf dayOf given givenOf runs runWide runWay runTotal runSteps lefts_59 rights_60 results_61 wide dn_62 stepsAt keeps order att_50 spareAmount spareAccount spareDay cured cureOf shareOf big unitsOf spare halfFrom halfMany halfDone halfTotal isFar) 0 0
      refine x_dstore (lv' := [(4, .double r_58), (6, .int v6_53), (3, .int v3_44), (0, .ref h0), (1, .int p0), (2, .int p1)]) G dX3_blocks_132 (by decide) rfl ?_
      obtain ⟨x_63, ex_63⟩ : ∃ z : Int32, z = (v6_53 + (1 : Int32)) := ⟨_, rfl⟩
      replace h := h x_63 ex_63
      refine x_iinc (v := x_63) (lv' := [(6, .int x_63), (4, .double r_58), (3, .int v3_44), (0, .ref h0), (1, .int p0), (2, .int p1)]) G dX3_blocks_134 1 rfl (by rw [ex_63]; rfl) (by decide) rfl ?_
      refine x_goto (tgt := 113) G dX3_blocks_137 rfl ?_
      exact ih r_58 x_63 lefts_59 rights_60 results_61 dn_62 h
set_option maxRecDepth 20000 in
theorem tX3_blocks {l : Launch} {D : va_G} {ta : Nat → ClassId} {h0 : Nat} {ad : Nat → Nat} {thrown : Int32} {many : Nat → Int32} {isWide : Nat → Int32} {amountOf : Nat → UInt64} {accountOf : Nat → Int32} {dayOf : Nat → Int32} {given : Nat → Int32} {givenOf : Nat → Int32} {runs : Int32} {runWide : Nat → Int32} {runWay : Nat → Int32} {runTotal : Nat → UInt64} {runSteps : Nat → Int32} {lefts : Nat → UInt64} {rights : Nat → UInt64} {results : Nat → UInt64} {wide : Int32} {dn : Int32} {stepsAt : Int32} {keeps : Int32} {order : Nat → Int32} {att : Nat → UInt64} {spareAmount : Nat → UInt64} {spareAccount : Nat → Int32} {spareDay : Nat → Int32} {cured : Int32} {cureOf : Nat → Int32} {shareOf : Nat → Int32} {big : Nat → Int32} {unitsOf : Int64} {spare : Int32} {halfFrom : Nat → Int32} {halfMany : Nat → Int32} {halfDone : Nat → Int32} {halfTotal : Nat → UInt64} {isFar : Int32} {p0 : Int32} {p1 : Int32} {K : UInt64 → (Nat → UInt64) → (Nat → UInt64) → (Nat → UInt64) → Int32 → (Nat → UInt64) → Prop} (hlt : l.stackTraces = false) (h : wX3_blocks p0 p1 many amountOf lefts rights results wide dn stepsAt keeps att K) : SMd5 l D ta yX3_blocks cX3_blocks 8 FieldType.double 3 [.ref h0, .int p0, .int p1] (mW h0 ad ta thrown many isWide amountOf accountOf dayOf given givenOf runs runWide runWay runTotal runSteps lefts rights results wide dn stepsAt keeps order att spareAmount spareAccount spareDay cured cureOf shareOf big unitsOf spare halfFrom halfMany halfDone halfTotal isFar) (fun (lefts' : Nat → UInt64) (rights' : Nat → UInt64) (results' : Nat → UInt64) (dn' : Int32) (att' : Nat → UInt64) => mW h0 ad ta thrown many isWide amountOf accountOf dayOf given givenOf runs runWide runWay runTotal runSteps lefts' rights' results' wide dn' stepsAt keeps order att' spareAmount spareAccount spareDay cured cureOf shareOf big unitsOf spare halfFrom halfMany halfDone halfTotal isFar) 0 0 K := by
  refine x_std5 hlt (plainFor_of_name (by decide +kernel)) (Nat.le_of_ble_eq_true rfl) (fun g G hl hD hT Q => ?_)
  subst hl; subst hD; subst hT
  unfold wX3_blocks at h
  show X g 8 0 [(0, .ref h0), (1, .int p0), (2, .int p1)] [] (mW h0 ad (xT g) thrown many isWide amountOf accountOf dayOf given givenOf runs runWide runWay runTotal runSteps lefts rights results wide dn stepsAt keeps order att spareAmount spareAccount spareDay cured cureOf shareOf big unitsOf spare halfFrom halfMany halfDone halfTotal isFar) 0 0
  refine x_iconst (v := (0 : Int32)) G dX3_blocks_0 (by decide) ?_
  refine x_istore_n (lv' := [(3, .int (0 : Int32)), (0, .ref h0), (1, .int p0), (2, .int p1)]) G rfl dX3_blocks_1 (by decide) rfl ?_
  refine x_iconst (v := (0 : Int32)) G dX3_blocks_2 (by decide) ?_
  refine x_istore (lv' := [(4, .int (0 : Int32)), (3, .int (0 : Int32)), (0, .ref h0), (1, .int p0), (2, .int p1)]) G dX3_blocks_3 (by decide) rfl ?_
  obtain ⟨n0, h⟩ := h
  refine kX3_blocks_L5 G (fun v3_44 v4_45 lefts_46 rights_47 results_48 dn_49 att_50 h => ?_) n0 _ _ _ _ _ _ _ h
  · refine x_aload_n G rfl dX3_blocks_102 2 rfl ?_
    refine m_get_21 G dX3_blocks_103 ?_
    refine x_iconst (v := (0 : Int32)) G dX3_blocks_106 (by decide) ?_
    obtain ⟨hz, h⟩ := h
    refine m_ald_21 G hz dX3_blocks_107 ?_
    refine x_topd (fun r_51 er_51 => ?_)
    replace h := h r_51 er_51
    refine x_dstore (lv' := [(4, .double r_51), (3, .int v3_44), (0, .ref h0), (1, .int p0), (2, .int p1)]) G dX3_blocks_108 (by decide) rfl ?_
    refine x_iconst (v := (1 : Int32)) G dX3_blocks_110 (by decide) ?_
    refine x_istore (lv' := [(6, .int (1 : Int32)), (4, .double r_51), (3, .int v3_44), (0, .ref h0), (1, .int p0), (2, .int p1)]) G dX3_blocks_111 (by decide) rfl ?_
    obtain ⟨n0, h⟩ := h
    refine kX3_blocks_L113 G (fun v4_70 v6_71 lefts_72 rights_73 results_74 dn_75 h => ?_) n0 _ _ _ _ _ _ h
    · refine x_dload G dX3_blocks_140 1 rfl ?_
      exact x_retd5 G Q dX3_blocks_142 lefts_72 rights_73 results_74 dn_75 att_50 h XSub.rf (Nat.le_refl _) (Nat.le_refl _)
theorem cdX3_taken : yX3_taken.cls = RX3 ∧ yX3_taken.cls ≠ "java/lang/invoke/MethodHandle" ∧ yX3_taken.cls ≠ "java/lang/invoke/VarHandle" ∧ (parseMethodDescriptor yX3_taken.desc).map (fun d => d.parameters.length) = some 1 := by decide +kernel
def wX3_taken_L4 (att : Nat → UInt64) (p0 : Int32) (X43 : Int32 → Int32 → Prop) : Nat → Int32 → Int32 → Prop
  | 0, _, _ => False
  | n + 1, v2_1, v3_2 => ((p0 ≤ v3_2 → X43 v2_1 v3_2) ∧ (¬ p0 ≤ v3_2 → (vp_in v3_2 120 ∧ (wX3_sizeOf (att v3_2.toNatClampNeg) (fun (r_3 : UInt64) => (vp_in v2_1 120 ∧ (wX3_sizeOf (att v2_1.toNatClampNeg) (fun (r_4 : UInt64) => ((¬ dlt r_3 r_4 → (∀ x_5 : Int32, x_5 = (v3_2 + (1 : Int32)) → wX3_taken_L4 att p0 X43 n v2_1 x_5)) ∧ (dlt r_3 r_4 → (∀ x_6 : Int32, x_6 = (v3_2 + (1 : Int32)) → wX3_taken_L4 att p0 X43 n v3_2 x_6)))))))))))
def wX3_taken (p0 : Int32) (att : Nat → UInt64) (K : Int32 → Prop) : Prop := (∃ m4 : Nat, wX3_taken_L4 att p0 (fun (v2_9 : Int32) (v3_10 : Int32) => K v2_9) m4 (0 : Int32) (1 : Int32))
set_option maxRecDepth 20000 in
theorem kX3_taken_L4 {g : XG} {h0 : Nat} {ad : Nat → Nat} {thrown : Int32} {many : Nat → Int32} {isWide : Nat → Int32} {amountOf : Nat → UInt64} {accountOf : Nat → Int32} {dayOf : Nat → Int32} {given : Nat → Int32} {givenOf : Nat → Int32} {runs : Int32} {runWide : Nat → Int32} {runWay : Nat → Int32} {runTotal : Nat → UInt64} {runSteps : Nat → Int32} {lefts : Nat → UInt64} {rights : Nat → UInt64} {results : Nat → UInt64} {wide : Int32} {dn : Int32} {stepsAt : Int32} {keeps : Int32} {order : Nat → Int32} {att : Nat → UInt64} {spareAmount : Nat → UInt64} {spareAccount : Nat → Int32} {spareDay : Nat → Int32} {cured : Int32} {cureOf : Nat → Int32} {shareOf : Nat → Int32} {big : Nat → Int32} {unitsOf : Int64} {spare : Int32} {halfFrom : Nat → Int32} {halfMany : Nat → Int32} {halfDone : Nat → Int32} {halfTotal : Nat → UInt64} {isFar : Int32} {p0 : Int32} {X43 : Int32 → Int32 → Prop} (G : XO g RX3 cX3_taken 4 2 0 0) (hX43 : ∀ (v2_7 : Int32) (v3_8 : Int32), X43 v2_7 v3_8 → X g 4 43 [(3, .int v3_8), (2, .int v2_7), (0, .ref h0), (1, .int p0)] [] (mW h0 ad (xT g) thrown many isWide amountOf accountOf dayOf given givenOf runs runWide runWay runTotal runSteps lefts rights results wide dn stepsAt keeps order att spareAmount spareAccount spareDay cured cureOf shareOf big unitsOf spare halfFrom halfMany halfDone halfTotal isFar) 0 0) : ∀ (n : Nat) (v2_1 : Int32) (v3_2 : Int32), wX3_taken_L4 att p0 X43 n v2_1 v3_2 → X g 4 4 [(3, .int v3_2), (2, .int v2_1), (0, .ref h0), (1, .int p0)] [] (mW h0 ad (xT g) thrown many isWide amountOf accountOf dayOf given givenOf runs runWide runWay runTotal runSteps lefts rights results wide dn stepsAt keeps order att spareAmount spareAccount spareDay cured cureOf shareOf big unitsOf spare halfFrom halfMany halfDone halfTotal isFar) 0 0 := by
  intro n
  induction n with
  | zero => intro _ _ h; exact h.elim
  | succ n ih =>
    intro v2_1 v3_2 h
    unfold wX3_taken_L4 at h
    refine x_iload_n G rfl dX3_taken_4 0 rfl ?_
    refine x_iload_n G rfl dX3_taken_5 3 rfl ?_
    refine x_icmp_ge (tgt := 43) G dX3_taken_6 rfl (fun c => ?_) (fun c => ?_)
    · replace h := h.1 c
      exact hX43 v2_1 v3_2 h
    · replace h := h.2 c
      refine x_aload_n G rfl dX3_taken_9 2 rfl ?_
      refine m_get_21 G dX3_taken_10 ?_
      refine x_iload_n G rfl dX3_taken_13 0 rfl ?_
      obtain ⟨hz, h⟩ := h
      refine m_ald_21 G hz dX3_taken_14 ?_
      refine x_cPd (As := [.double (att v3_2.toNatClampNeg)]) (rest := []) G (tX3_sizeOf G.noTraces h) (lw_S q1714 q1715 q70 q1716) cdX3_sizeOf (by decide) (by decide) rfl (Nat.le_of_ble_eq_true rfl) (Nat.zero_le _) (Nat.zero_le _) dX3_taken_15 (fun r_3 h => ?_)
      refine x_aload_n G rfl dX3_taken_18 2 rfl ?_
      refine m_get_21 G dX3_taken_19 ?_
      refine x_iload_n G rfl dX3_taken_22 1 rfl ?_
      obtain ⟨hz, h⟩ := h
      refine m_ald_21 G hz dX3_taken_23 ?_
      refine x_cPd (As := [.double (att v2_1.toNatClampNeg)]) (rest := [.double r_3]) G (tX3_sizeOf G.noTraces h) (lw_S q1714 q1715 q70 q1716) cdX3_sizeOf (by decide) (by decide) rfl (Nat.le_of_ble_eq_true rfl) (Nat.zero_le _) (Nat.zero_le _) dX3_taken_24 (fun r_4 h => ?_)
      refine x_dcmpg_ge (tgt := 35) G dX3_taken_27 dX3_taken_28 rfl (fun c => ?_) (fun c => ?_)
      · replace h := h.1 c
        refine x_iload_n G rfl dX3_taken_35 1 rfl ?_
        refine x_istore_n (lv' := [(2, .int v2_1), (3, .int v3_2), (0, .ref h0), (1, .int p0)]) G rfl dX3_taken_36 (by decide) rfl ?_
        obtain ⟨x_5, ex_5⟩ : ∃ z : Int32, z = (v3_2 + (1 : Int32)) := ⟨_, rfl⟩
        replace h := h x_5 ex_5
        refine x_iinc (v := x_5) (lv' := [(3, .int x_5), (2, .int v2_1), (0, .ref h0), (1, .int p0)]) G dX3_taken_37 1 rfl (by rw [ex_5]; rfl) (by decide) rfl ?_
        refine x_goto (tgt := 4) G dX3_taken_40 rfl ?_
        exact ih v2_1 x_5 h
      · replace h := h.2 c
        refine x_iload_n G rfl dX3_taken_31 0 rfl ?_
        refine x_goto (tgt := 36) G dX3_taken_32 rfl ?_
        refine x_istore_n (lv' := [(2, .int v3_2), (3, .int v3_2), (0, .ref h0), (1, .int p0)]) G rfl dX3_taken_36 (by decide) rfl ?_
        obtain ⟨x_6, ex_6⟩ : ∃ z : Int32, z = (v3_2 + (1 : Int32)) := ⟨_, rfl⟩
        replace h := h x_6 ex_6
        refine x_iinc (v := x_6) (lv' := [(3, .int x_6), (2, .int v3_2), (0, .ref h0), (1, .int p0)]) G dX3_taken_37 1 rfl (by rw [ex_6]; rfl) (by decide) rfl ?_
        refine x_goto (tgt := 4) G dX3_taken_40 rfl ?_
        exact ih v3_2 x_6 h
set_option maxRecDepth 20000 in
theorem tX3_taken {l : Launch} {D : va_G} {ta : Nat → ClassId} {h0 : Nat} {ad : Nat → Nat} {thrown : Int32} {many : Nat → Int32} {isWide : Nat → Int32} {amountOf : Nat → UInt64} {accountOf : Nat → Int32} {dayOf : Nat → Int32} {given : Nat → Int32} {givenOf : Nat → Int32} {runs : Int32} {runWide : Nat → Int32} {runWay : Nat → Int32} {runTotal : Nat → UInt64} {runSteps : Nat → Int32} {lefts : Nat → UInt64} {rights : Nat → UInt64} {results : Nat → UInt64} {wide : Int32} {dn : Int32} {stepsAt : Int32} {keeps : Int32} {order : Nat → Int32} {att : Nat → UInt64} {spareAmount : Nat → UInt64} {spareAccount : Nat → Int32} {spareDay : Nat → Int32} {cured : Int32} {cureOf : Nat → Int32} {shareOf : Nat → Int32} {big : Nat → Int32} {unitsOf : Int64} {spare : Int32} {halfFrom : Nat → Int32} {halfMany : Nat → Int32} {halfDone : Nat → Int32} {halfTotal : Nat → UInt64} {isFar : Int32} {p0 : Int32} {K : Int32 → Prop} (hlt : l.stackTraces = false) (h : wX3_taken p0 att K) : SMi0 l D ta yX3_taken cX3_taken 4 FieldType.int 2 [.ref h0, .int p0] (mW h0 ad ta thrown many isWide amountOf accountOf dayOf given givenOf runs runWide runWay runTotal runSteps lefts rights results wide dn stepsAt keeps order att spareAmount spareAccount spareDay cured cureOf shareOf big unitsOf spare halfFrom halfMany halfDone halfTotal isFar) (mW h0 ad ta thrown many isWide amountOf accountOf dayOf given givenOf runs runWide runWay runTotal runSteps lefts rights results wide dn stepsAt keeps order att spareAmount spareAccount spareDay cured cureOf shareOf big unitsOf spare halfFrom halfMany halfDone halfTotal isFar) 0 0 K := by
  refine x_sti0 hlt (plainFor_of_name (by decide +kernel)) (Nat.le_of_ble_eq_true rfl) (fun g G hl hD hT Q => ?_)
  subst hl; subst hD; subst hT
  unfold wX3_taken at h
  show X g 4 0 [(0, .ref h0), (1, .int p0)] [] (mW h0 ad (xT g) thrown many isWide amountOf accountOf dayOf given givenOf runs runWide runWay runTotal runSteps lefts rights results wide dn stepsAt keeps order att spareAmount spareAccount spareDay cured cureOf shareOf big unitsOf spare halfFrom halfMany halfDone halfTotal isFar) 0 0
  refine x_iconst (v := (0 : Int32)) G dX3_taken_0 (by decide) ?_
  refine x_istore_n (lv' := [(2, .int (0 : Int32)), (0, .ref h0), (1, .int p0)]) G rfl dX3_taken_1 (by decide) rfl ?_
  refine x_iconst (v := (1 : Int32)) G dX3_taken_2 (by decide) ?_
  refine x_istore_n (lv' := [(3, .int (1 : Int32)), (2, .int (0 : Int32)), (0, .ref h0), (1, .int p0)]) G rfl dX3_taken_3 (by decide) rfl ?_
  obtain ⟨n0, h⟩ := h
  refine kX3_taken_L4 G (fun v2_9 v3_10 h => ?_) n0 _ _ h
  · refine x_iload_n G rfl dX3_taken_43 1 rfl ?_
    exact x_reti0 G Q dX3_taken_44 rfl  h XSub.rf (Nat.le_refl _) (Nat.le_refl _)
theorem cdX3_out : yX3_out.cls = RX3 ∧ yX3_out.cls ≠ "java/lang/invoke/MethodHandle" ∧ yX3_out.cls ≠ "java/lang/invoke/VarHandle" ∧ (parseMethodDescriptor yX3_out.desc).map (fun d => d.parameters.length) = some 2 := by decide +kernel
def wX3_out_L2 (p1 : Int32) (X29 : Int32 → (Nat → UInt64) → Prop) : Nat → Int32 → (Nat → UInt64) → Prop
  | 0, _, _ => False
  | n + 1, v3_1, att_2 => (((p1 - (1 : Int32)) ≤ v3_1 → X29 v3_1 att_2) ∧ (¬ (p1 - (1 : Int32)) ≤ v3_1 → (vp_in (v3_1 + (1 : Int32)) 120 ∧ (∀ r_3 : UInt64, r_3 = (att_2 (v3_1 + (1 : Int32)).toNatClampNeg) → (vp_in v3_1 120 ∧ (∀ att_4 : Nat → UInt64, att_4 = vf_upd att_2 v3_1.toNatClampNeg r_3 → (∀ x_5 : Int32, x_5 = (v3_1 + (1 : Int32)) → wX3_out_L2 p1 X29 n x_5 att_4)))))))
def wX3_out (p0 : Int32) (p1 : Int32) (att : Nat → UInt64) (K : (Nat → UInt64) → Prop) : Prop := (∃ m2 : Nat, wX3_out_L2 p1 (fun (v3_8 : Int32) (att_9 : Nat → UInt64) => K att_9) m2 p0 att)
set_option maxRecDepth 20000 in
theorem kX3_out_L2 {g : XG} {h0 : Nat} {ad : Nat → Nat} {thrown : Int32} {many : Nat → Int32} {isWide : Nat → Int32} {amountOf : Nat → UInt64} {accountOf : Nat → Int32} {dayOf : Nat → Int32} {given : Nat → Int32} {givenOf : Nat → Int32} {runs : Int32} {runWide : Nat → Int32} {runWay : Nat → Int32} {runTotal : Nat → UInt64} {runSteps : Nat → Int32} {lefts : Nat → UInt64} {rights : Nat → UInt64} {results : Nat → UInt64} {wide : Int32} {dn : Int32} {stepsAt : Int32} {keeps : Int32} {order : Nat → Int32} {spareAmount : Nat → UInt64} {spareAccount : Nat → Int32} {spareDay : Nat → Int32} {cured : Int32} {cureOf : Nat → Int32} {shareOf : Nat → Int32} {big : Nat → Int32} {unitsOf : Int64} {spare : Int32} {halfFrom : Nat → Int32} {halfMany : Nat → Int32} {halfDone : Nat → Int32} {halfTotal : Nat → UInt64} {isFar : Int32} {p0 : Int32} {p1 : Int32} {X29 : Int32 → (Nat → UInt64) → Prop} (G : XO g RX3 cX3_out 4 1 0 0) (hX29 : ∀ (v3_6 : Int32) (att_7 : Nat → UInt64), X29 v3_6 att_7 → X g 4 29 [(3, .int v3_6), (0, .ref h0), (1, .int p0), (2, .int p1)] [] (mW h0 ad (xT g) thrown many isWide amountOf accountOf dayOf given givenOf runs runWide runWay runTotal runSteps lefts rights results wide dn stepsAt keeps order att_7 spareAmount spareAccount spareDay cured cureOf shareOf big unitsOf spare halfFrom halfMany halfDone halfTotal isFar) 0 0) : ∀ (n : Nat) (v3_1 : Int32) (att_2 : Nat → UInt64), wX3_out_L2 p1 X29 n v3_1 att_2 → X g 4 2 [(3, .int v3_1), (0, .ref h0), (1, .int p0), (2, .int p1)] [] (mW h0 ad (xT g) thrown many isWide amountOf accountOf dayOf given givenOf runs runWide runWay runTotal runSteps lefts rights results wide dn stepsAt keeps order att_2 spareAmount spareAccount spareDay cured cureOf shareOf big unitsOf spare halfFrom halfMany halfDone halfTotal isFar) 0 0 := by
  intro n
  induction n with
  | zero => intro _ _ h; exact h.elim
  | succ n ih =>
    intro v3_1 att_2 h
    unfold wX3_out_L2 at h
    refine x_iload_n G rfl dX3_out_2 0 rfl ?_
    refine x_iload_n G rfl dX3_out_3 3 rfl ?_
    refine x_iconst (v := (1 : Int32)) G dX3_out_4 (by decide) ?_
    refine x_isub G dX3_out_5 ?_
    refine x_icmp_ge (tgt := 29) G dX3_out_6 rfl (fun c => ?_) (fun c => ?_)
    · replace h := h.1 c
      exact hX29 v3_1 att_2 h
    · replace h := h.2 c
      refine x_aload_n G rfl dX3_out_9 1 rfl ?_
      refine m_get_21 G dX3_out_10 ?_
      refine x_iload_n G rfl dX3_out_13 0 rfl ?_
      refine x_aload_n G rfl dX3_out_14 1 rfl ?_
      refine m_get_21 G dX3_out_15 ?_
      refine x_iload_n G rfl dX3_out_18 0 rfl ?_
      refine x_iconst (v := (1 : Int32)) G dX3_out_19 (by decide) ?_
      refine x_iadd G dX3_out_20 ?_
      obtain ⟨hz, h⟩ := h
      refine m_ald_21 G hz dX3_out_21 ?_
      refine x_topd (fun r_3 er_3 => ?_)
      replace h := h r_3 er_3
      obtain ⟨hz, h⟩ := h
      refine m_ast_21 G hz dX3_out_22 (fun att_4 eatt_4 => ?_)
      replace h := h att_4 eatt_4
      obtain ⟨x_5, ex_5⟩ : ∃ z : Int32, z = (v3_1 + (1 : Int32)) := ⟨_, rfl⟩
      replace h := h x_5 ex_5
      refine x_iinc (v := x_5) (lv' := [(3, .int x_5), (0, .ref h0), (1, .int p0), (2, .int p1)]) G dX3_out_23 0 rfl (by rw [ex_5]; rfl) (by decide) rfl ?_
      refine x_goto (tgt := 2) G dX3_out_26 rfl ?_
      exact ih x_5 att_4 h
set_option maxRecDepth 20000 in
theorem tX3_out {l : Launch} {D : va_G} {ta : Nat → ClassId} {h0 : Nat} {ad : Nat → Nat} {thrown : Int32} {many : Nat → Int32} {isWide : Nat → Int32} {amountOf : Nat → UInt64} {accountOf : Nat → Int32} {dayOf : Nat → Int32} {given : Nat → Int32} {givenOf : Nat → Int32} {runs : Int32} {runWide : Nat → Int32} {runWay : Nat → Int32} {runTotal : Nat → UInt64} {runSteps : Nat → Int32} {lefts : Nat → UInt64} {rights : Nat → UInt64} {results : Nat → UInt64} {wide : Int32} {dn : Int32} {stepsAt : Int32} {keeps : Int32} {order : Nat → Int32} {att : Nat → UInt64} {spareAmount : Nat → UInt64} {spareAccount : Nat → Int32} {spareDay : Nat → Int32} {cured : Int32} {cureOf : Nat → Int32} {shareOf : Nat → Int32} {big : Nat → Int32} {unitsOf : Int64} {spare : Int32} {halfFrom : Nat → Int32} {halfMany : Nat → Int32} {halfDone : Nat → Int32} {halfTotal : Nat → UInt64} {isFar : Int32} {p0 : Int32} {p1 : Int32} {K : (Nat → UInt64) → Prop} (hlt : l.stackTraces = false) (h : wX3_out p0 p1 att K) : SMv1 l D ta yX3_out cX3_out 4 1 [.ref h0, .int p0, .int p1] (mW h0 ad ta thrown many isWide amountOf accountOf dayOf given givenOf runs runWide runWay runTotal runSteps lefts rights results wide dn stepsAt keeps order att spareAmount spareAccount spareDay cured cureOf shareOf big unitsOf spare halfFrom halfMany halfDone halfTotal isFar) (fun (att' : Nat → UInt64) => mW h0 ad ta thrown many isWide amountOf accountOf dayOf given givenOf runs runWide runWay runTotal runSteps lefts rights results wide dn stepsAt keeps order att' spareAmount spareAccount spareDay cured cureOf shareOf big unitsOf spare halfFrom halfMany halfDone halfTotal isFar) 0 0 K := by
  refine x_stv1 hlt (plainFor_of_name (by decide +kernel)) (Nat.le_of_ble_eq_true rfl) (fun g G hl hD hT Q => ?_)
  subst hl; subst hD; subst hT
  unfold wX3_out at h
  show X g 4 0 [(0, .ref h0), (1, .int p0), (2, .int p1)] [] (mW h0 ad (xT g) thrown many isWide amountOf accountOf dayOf given givenOf runs runWide runWay runTotal runSteps lefts rights results wide dn stepsAt keeps order att spareAmount spareAccount spareDay cured cureOf shareOf big unitsOf spare halfFrom halfMany halfDone halfTotal isFar) 0 0
  refine x_iload_n G rfl dX3_out_0 1 rfl ?_
  refine x_istore_n (lv' := [(3, .int p0), (0, .ref h0), (1, .int p0), (2, .int p1)]) G rfl dX3_out_1 (by decide) rfl ?_
  obtain ⟨n0, h⟩ := h
  refine kX3_out_L2 G (fun v3_8 att_9 h => ?_) n0 _ _ h
  · exact x_retv1 G Q dX3_out_29 att_9 h XSub.rf (Nat.le_refl _) (Nat.le_refl _)
theorem cdX3_queue : yX3_queue.cls = RX3 ∧ yX3_queue.cls ≠ "java/lang/invoke/MethodHandle" ∧ yX3_queue.cls ≠ "java/lang/invoke/VarHandle" ∧ (parseMethodDescriptor yX3_queue.desc).map (fun d => d.parameters.length) = some 1 := by decide +kernel
def wX3_queue_L9 (amountOf : Nat → UInt64) (p0 : Int32) (x_1 : Int32) (X37 : Int32 → (Nat → UInt64) → Prop) : Nat → Int32 → (Nat → UInt64) → Prop
  | 0, _, _ => False
  | n + 1, v3_2, att_3 => ((x_1 ≤ v3_2 → X37 v3_2 att_3) ∧ (¬ x_1 ≤ v3_2 → (vp_in (((60 : Int32) * p0) + v3_2) 720 ∧ (∀ r_4 : UInt64, r_4 = (amountOf (((60 : Int32) * p0) + v3_2).toNatClampNeg) → (vp_in v3_2 120 ∧ (∀ att_5 : Nat → UInt64, att_5 = vf_upd att_3 v3_2.toNatClampNeg r_4 → (∀ x_6 : Int32, x_6 = (v3_2 + (1 : Int32)) → wX3_queue_L9 amountOf p0 x_1 X37 n x_6 att_5)))))))
def wX3_queue_L37 (wide : Int32) (stepsAt : Int32) (keeps : Int32) (X111 : Int32 → Int32 → (Nat → UInt64) → (Nat → UInt64) → (Nat → UInt64) → Int32 → (Nat → UInt64) → Prop) : Nat → Int32 → Int32 → (Nat → UInt64) → (Nat → UInt64) → (Nat → UInt64) → Int32 → (Nat → UInt64) → Prop
  | 0, _, _, _, _, _, _, _ => False
  | n + 1, v2_11, v3_12, lefts_13, rights_14, results_15, dn_16, att_17 => ((v2_11 ≤ (1 : Int32) → X111 v2_11 v3_12 lefts_13 rights_14 results_15 dn_16 att_17) ∧ (¬ v2_11 ≤ (1 : Int32) → (wX3_taken v2_11 att_17 (fun (r_18 : Int32) => (vp_in r_18 120 ∧ (∀ r_19 : UInt64, r_19 = (att_17 r_18.toNatClampNeg) → (wX3_out r_18 v2_11 att_17 (fun (att_20 : Nat → UInt64) => (wX3_taken (v2_11 - (1 : Int32)) att_20 (fun (r_21 : Int32) => (vp_in r_21 120 ∧ (∀ r_22 : UInt64, r_22 = (att_20 r_21.toNatClampNeg) → (wX3_out r_21 (v2_11 - (1 : Int32)) att_20 (fun (att_23 : Nat → UInt64) => (wX3_adds r_19 r_22 lefts_13 rights_14 results_15 wide dn_16 stepsAt keeps (fun (r_24 : UInt64) (lefts_25 : Nat → UInt64) (rights_26 : Nat → UInt64) (results_27 : Nat → UInt64) (dn_28 : Int32) => (vp_in (v2_11 - (2 : Int32)) 120 ∧ (∀ att_29 : Nat → UInt64, att_29 = vf_upd att_23 (v2_11 - (2 : Int32)).toNatClampNeg r_24 → (∀ x_30 : Int32, x_30 = (v2_11 + (-1 : Int32)) → wX3_queue_L37 wide stepsAt keeps X111 n x_30 r_18 lefts_25 rights_26 results_27 dn_28 att_29)))))))))))))))))))
def wX3_queue (p0 : Int32) (many : Nat → Int32) (amountOf : Nat → UInt64) (lefts : Nat → UInt64) (rights : Nat → UInt64) (results : Nat → UInt64) (wide : Int32) (dn : Int32) (stepsAt : Int32) (keeps : Int32) (att : Nat → UInt64) (K : UInt64 → (Nat → UInt64) → (Nat → UInt64) → (Nat → UInt64) → Int32 → (Nat → UInt64) → Prop) : Prop := (vp_in p0 12 ∧ (∀ x_1 : Int32, x_1 = (many p0.toNatClampNeg) → (∃ m9 : Nat, wX3_queue_L9 amountOf p0 x_1 (fun (v3_9 : Int32) (att_10 : Nat → UInt64) => (∃ m37 : Nat, wX3_queue_L37 wide stepsAt keeps (fun (v2_38 : Int32) (v3_39 : Int32) (lefts_40 : Nat → UInt64) (rights_41 : Nat → UInt64) (results_42 : Nat → UInt64) (dn_43 : Int32) (att_44 : Nat → UInt64) => (vp_in (0 : Int32) 120 ∧ K (att_44 (0 : Int32).toNatClampNeg) lefts_40 rights_41 results_42 dn_43 att_44)) m37 x_1 v3_9 lefts rights results dn att_10)) m9 (0 : Int32) att)))
set_option maxRecDepth 20000 in
theorem kX3_queue_L9 {g : XG} {h0 : Nat} {ad : Nat → Nat} {thrown : Int32} {many : Nat → Int32} {isWide : Nat → Int32} {amountOf : Nat → UInt64} {accountOf : Nat → Int32} {dayOf : Nat → Int32} {given : Nat → Int32} {givenOf : Nat → Int32} {runs : Int32} {runWide : Nat → Int32} {runWay : Nat → Int32} {runTotal : Nat → UInt64} {runSteps : Nat → Int32} {lefts : Nat → UInt64} {rights : Nat → UInt64} {results : Nat → UInt64} {wide : Int32} {dn : Int32} {stepsAt : Int32} {keeps : Int32} {order : Nat → Int32} {spareAmount : Nat → UInt64} {spareAccount : Nat → Int32} {spareDay : Nat → Int32} {cured : Int32} {cureOf : Nat → Int32} {shareOf : Nat → Int32} {big : Nat → Int32} {unitsOf : Int64} {spare : Int32} {halfFrom : Nat → Int32} {halfMany : Nat → Int32} {halfDone : Nat → Int32} {halfTotal : Nat → UInt64} {isFar : Int32} {p0 : Int32} {x_1 : Int32} {X37 : Int32 → (Nat → UInt64) → Prop} (G : XO g RX3 cX3_queue 9 3 0 0) (hX37 : ∀ (v3_7 : Int32) (att_8 : Nat → UInt64), X37 v3_7 att_8 → X g 9 37 [(3, .int v3_7), (2, .int x_1), (0, .ref h0), (1, .int p0)] [] (mW h0 ad (xT g) thrown many isWide amountOf accountOf dayOf given givenOf runs runWide runWay runTotal runSteps lefts rights results wide dn stepsAt keeps order att_8 spareAmount spareAccount spareDay cured cureOf shareOf big unitsOf spare halfFrom halfMany halfDone halfTotal isFar) 0 0) : ∀ (n : Nat) (v3_2 : Int32) (att_3 : Nat → UInt64), wX3_queue_L9 amountOf p0 x_1 X37 n v3_2 att_3 → X g 9 9 [(3, .int v3_2), (2, .int x_1), (0, .ref h0), (1, .int p0)] [] (mW h0 ad (xT g) thrown many isWide amountOf accountOf dayOf given givenOf runs runWide runWay runTotal runSteps lefts rights results wide dn stepsAt keeps order att_3 spareAmount spareAccount spareDay cured cureOf shareOf big unitsOf spare halfFrom halfMany halfDone halfTotal isFar) 0 0 := by
  intro n
  induction n with
  | zero => intro _ _ h; exact h.elim
  | succ n ih =>
    intro v3_2 att_3 h
    unfold wX3_queue_L9 at h
    refine x_iload_n G rfl dX3_queue_9 0 rfl ?_
    refine x_iload_n G rfl dX3_queue_10 1 rfl ?_
    refine x_icmp_ge (tgt := 37) G dX3_queue_11 rfl (fun c => ?_) (fun c => ?_)
    · replace h := h.1 c
      exact hX37 v3_2 att_3 h
    · replace h := h.2 c
      refine x_aload_n G rfl dX3_queue_14 2 rfl ?_
      refine m_get_21 G dX3_queue_15 ?_
      refine x_iload_n G rfl dX3_queue_18 0 rfl ?_
      refine x_aload_n G rfl dX3_queue_19 2 rfl ?_
      refine m_get_3 G dX3_queue_20 ?_
      refine x_bipush (v := (60 : Int32)) G dX3_queue_23 (by decide) ?_
      refine x_iload_n G rfl dX3_queue_25 3 rfl ?_
      refine x_imul G dX3_queue_26 ?_
      refine x_iload_n G rfl dX3_queue_27 0 rfl ?_
      refine x_iadd G dX3_queue_28 ?_
      obtain ⟨hz, h⟩ := h
      refine m_ald_3 G hz dX3_queue_29 ?_
      refine x_topd (fun r_4 er_4 => ?_)
      replace h := h r_4 er_4
      obtain ⟨hz, h⟩ := h
      refine m_ast_21 G hz dX3_queue_30 (fun att_5 eatt_5 => ?_)
      replace h := h att_5 eatt_5
      obtain ⟨x_6, ex_6⟩ : ∃ z : Int32, z = (v3_2 + (1 : Int32)) := ⟨_, rfl⟩
      replace h := h x_6 ex_6
      refine x_iinc (v := x_6) (lv' := [(3, .int x_6), (2, .int x_1), (0, .ref h0), (1, .int p0)]) G dX3_queue_31 0 rfl (by rw [ex_6]; rfl) (by decide) rfl ?_
      refine x_goto (tgt := 9) G dX3_queue_34 rfl ?_
      exact ih x_6 att_5 h
set_option maxRecDepth 20000 in
theorem kX3_queue_L37 {g : XG} {h0 : Nat} {ad : Nat → Nat} {thrown : Int32} {many : Nat → Int32} {isWide : Nat → Int32} {amountOf : Nat → UInt64} {accountOf : Nat → Int32} {dayOf : Nat → Int32} {given : Nat → Int32} {givenOf : Nat → Int32} {runs : Int32} {runWide : Nat → Int32} {runWay : Nat → Int32} {runTotal : Nat → UInt64} {runSteps : Nat → Int32} {wide : Int32} {stepsAt : Int32} {keeps : Int32} {order : Nat → Int32} {spareAmount : Nat → UInt64} {spareAccount : Nat → Int32} {spareDay : Nat → Int32} {cured : Int32} {cureOf : Nat → Int32} {shareOf : Nat → Int32} {big : Nat → Int32} {unitsOf : Int64} {spare : Int32} {halfFrom : Nat → Int32} {halfMany : Nat → Int32} {halfDone : Nat → Int32} {halfTotal : Nat → UInt64} {isFar : Int32} {p0 : Int32} {X111 : Int32 → Int32 → (Nat → UInt64) → (Nat → UInt64) → (Nat → UInt64) → Int32 → (Nat → UInt64) → Prop} (G : XO g RX3 cX3_queue 9 3 0 0) (hX111 : ∀ (v2_31 : Int32) (v3_32 : Int32) (lefts_33 : Nat → UInt64) (rights_34 : Nat → UInt64) (results_35 : Nat → UInt64) (dn_36 : Int32) (att_37 : Nat → UInt64), X111 v2_31 v3_32 lefts_33 rights_34 results_35 dn_36 att_37 → X g 9 111 [(3, .int v3_32), (2, .int v2_31), (0, .ref h0), (1, .int p0)] [] (mW h0 ad (xT g) thrown many isWide amountOf accountOf dayOf given givenOf runs runWide runWay runTotal runSteps lefts_33 rights_34 results_35 wide dn_36 stepsAt keeps order att_37 spareAmount spareAccount spareDay cured cureOf shareOf big unitsOf spare halfFrom halfMany halfDone halfTotal isFar) 0 0) : ∀ (n : Nat) (v2_11 : Int32) (v3_12 : Int32) (lefts_13 : Nat → UInt64) (rights_14 : Nat → UInt64) (results_15 : Nat → UInt64) (dn_16 : Int32) (att_17 : Nat → UInt64), wX3_queue_L37 wide stepsAt keeps X111 n v2_11 v3_12 lefts_13 rights_14 results_15 dn_16 att_17 → X g 9 37 [(3, .int v3_12), (2, .int v2_11), (0, .ref h0), (1, .int p0)] [] (mW h0 ad (xT g) thrown many isWide amountOf accountOf dayOf given givenOf runs runWide runWay runTotal runSteps lefts_13 rights_14 results_15 wide dn_16 stepsAt keeps order att_17 spareAmount spareAccount spareDay cured cureOf shareOf big unitsOf spare halfFrom halfMany halfDone halfTotal isFar) 0 0 := by
  intro n
  induction n with
  | zero => intro _ _ _ _ _ _ _ h; exact h.elim
  | succ n ih =>
    intro v2_11 v3_12 lefts_13 rights_14 results_15 dn_16 att_17 h
    unfold wX3_queue_L37 at h
    refine x_iload_n G rfl dX3_queue_37 1 rfl ?_
    refine x_iconst (v := (1 : Int32)) G dX3_queue_38 (by decide) ?_
    refine x_icmp_le (tgt := 111) G dX3_queue_39 rfl (fun c => ?_) (fun c => ?_)
    · replace h := h.1 c
      exact hX111 v2_11 v3_12 lefts_13 rights_14 results_15 dn_16 att_17 h
    · replace h := h.2 c
      refine x_aload_n G rfl dX3_queue_42 2 rfl ?_
      refine x_iload_n G rfl dX3_queue_43 1 rfl ?_
      refine x_cVi0 (As := [.int v2_11]) (rest := []) G [] XSub.rf (tX3_taken G.noTraces h) (lw_V q1834 q1836 qs35 q70 q1837) cdX3_taken 3 0 rfl rfl rfl (by decide) (by decide) rfl (Nat.le_of_ble_eq_true rfl) (Nat.zero_le _) (Nat.zero_le _) dX3_queue_44 (fun r_18 h => ?_)
      show X g 9 47 [(3, .int v3_12), (2, .int v2_11), (0, .ref h0), (1, .int p0)] [.int r_18] (mW h0 ad (xT g) thrown many isWide amountOf accountOf dayOf given givenOf runs runWide runWay runTotal runSteps lefts_13 rights_14 results_15 wide dn_16 stepsAt keeps order att_17 spareAmount spareAccount spareDay cured cureOf shareOf big unitsOf spare halfFrom halfMany halfDone halfTotal isFar) 0 0
      refine x_istore_n (lv' := [(3, .int r_18), (2, .int v2_11), (0, .ref h0), (1, .int p0)]) G rfl dX3_queue_47 (by decide) rfl ?_
      refine x_aload_n G rfl dX3_queue_48 2 rfl ?_
      refine m_get_21 G dX3_queue_49 ?_
      refine x_iload_n G rfl dX3_queue_52 0 rfl ?_
      obtain ⟨hz, h⟩ := h
      refine m_ald_21 G hz dX3_queue_53 ?_
      refine x_topd (fun r_19 er_19 => ?_)
      replace h := h r_19 er_19
      refine x_dstore (lv' := [(4, .double r_19), (3, .int r_18), (2, .int v2_11), (0, .ref h0), (1, .int p0)]) G dX3_queue_54 (by decide) rfl ?_
      refine x_aload_n G rfl dX3_queue_56 3 rfl ?_
      refine x_iload_n G rfl dX3_queue_57 1 rfl ?_
      refine x_iload_n G rfl dX3_queue_58 2 rfl ?_
      refine x_cVv1 (As := [.int r_18, .int v2_11]) (rest := []) G [] XSub.rf (tX3_out G.noTraces h) (lw_V q1838 q1840 qs36 q70 q1841) cdX3_out 3 0 rfl rfl rfl (by decide) (by decide) rfl (Nat.le_of_ble_eq_true rfl) (Nat.zero_le _) (Nat.zero_le _) dX3_queue_59 (fun att_20 h => ?_)
      show X g 9 62 [(4, .double r_19), (3, .int r_18), (2, .int v2_11), (0, .ref h0), (1, .int p0)] [] (mW h0 ad (xT g) thrown many isWide amountOf accountOf dayOf given givenOf runs runWide runWay runTotal runSteps lefts_13 rights_14 results_15 wide dn_16 stepsAt keeps order att_20 spareAmount spareAccount spareDay cured cureOf shareOf big unitsOf spare halfFrom halfMany halfDone halfTotal isFar) 0 0
      refine x_aload_n G rfl dX3_queue_62 3 rfl ?_
      refine x_iload_n G rfl dX3_queue_63 2 rfl ?_
      refine x_iconst (v := (1 : Int32)) G dX3_queue_64 (by decide) ?_
      refine x_isub G dX3_queue_65 ?_
      refine x_cVi0 (As := [.int (v2_11 - (1 : Int32))]) (rest := []) G [] XSub.rf (tX3_taken G.noTraces h) (lw_V q1834 q1836 qs35 q70 q1837) cdX3_taken 3 0 rfl rfl rfl (by decide) (by decide) rfl (Nat.le_of_ble_eq_true rfl) (Nat.zero_le _) (Nat.zero_le _) dX3_queue_66 (fun r_21 h => ?_)
      show X g 9 69 [(4, .double r_19), (3, .int r_18), (2, .int v2_11), (0, .ref h0), (1, .int p0)] [.int r_21] (mW h0 ad (xT g) thrown many isWide amountOf accountOf dayOf given givenOf runs runWide runWay runTotal runSteps lefts_13 rights_14 results_15 wide dn_16 stepsAt keeps order att_20 spareAmount spareAccount spareDay cured cureOf shareOf big unitsOf spare halfFrom halfMany halfDone halfTotal isFar) 0 0
      refine x_istore (lv' := [(6, .int r_21), (4, .double r_19), (3, .int r_18), (2, .int v2_11), (0, .ref h0), (1, .int p0)]) G dX3_queue_69 (by decide) rfl ?_
      refine x_aload_n G rfl dX3_queue_71 4 rfl ?_
      refine m_get_21 G dX3_queue_72 ?_
      refine x_iload G dX3_queue_75 0 rfl ?_
      obtain ⟨hz, h⟩ := h
      refine m_ald_21 G hz dX3_queue_77 ?_
      refine x_topd (fun r_22 er_22 => ?_)
      replace h := h r_22 er_22
      refine x_dstore (lv' := [(7, .double r_22), (6, .int r_21), (4, .double r_19), (3, .int r_18), (2, .int v2_11), (0, .ref h0), (1, .int p0)]) G dX3_queue_78 (by decide) rfl ?_
      refine x_aload_n G rfl dX3_queue_80 5 rfl ?_
      refine x_iload G dX3_queue_81 1 rfl ?_
      refine x_iload_n G rfl dX3_queue_83 4 rfl ?_
      refine x_iconst (v := (1 : Int32)) G dX3_queue_84 (by decide) ?_
      refine x_isub G dX3_queue_85 ?_
      refine x_cVv1 (As := [.int r_21, .int (v2_11 - (1 : Int32))]) (rest := []) G [] XSub.rf (tX3_out G.noTraces h) (lw_V q1838 q1840 qs36 q70 q1841) cdX3_out 3 0 rfl rfl rfl (by decide) (by decide) rfl (Nat.le_of_ble_eq_true rfl) (Nat.zero_le _) (Nat.zero_le _) dX3_queue_86 (fun att_23 h => ?_)
      show X g 9 89 [(7, .double r_22), (6, .int r_21), (4, .double r_19), (3, .int r_18), (2, .int v2_11), (0, .ref h0), (1, .int p0)] [] (mW h0 ad (xT g) thrown many isWide amountOf accountOf dayOf given givenOf runs runWide runWay runTotal runSteps lefts_13 rights_14 results_15 wide dn_16 stepsAt keeps order att_23 spareAmount spareAccount spareDay cured cureOf shareOf big unitsOf spare halfFrom halfMany halfDone halfTotal isFar) 0 0
      refine x_aload_n G rfl dX3_queue_89 5 rfl ?_
      refine m_get_21 G dX3_queue_90 ?_
      refine x_iload_n G rfl dX3_queue_93 4 rfl ?_
      refine x_iconst (v := (2 : Int32)) G dX3_queue_94 (by decide) ?_
      refine x_isub G dX3_queue_95 ?_
      refine x_aload_n G rfl dX3_queue_96 5 rfl ?_
      refine x_dload G dX3_queue_97 2 rfl ?_
      refine x_dload G dX3_queue_99 0 rfl ?_
      refine x_cVd4 (As := [.double r_19, .double r_22]) (rest := [.int (v2_11 - (2 : Int32)), .ref (ad 21)]) G [] XSub.rf (tX3_adds G.noTraces h) (lw_V q1814 q1816 qs30 q70 q1817) cdX3_adds 3 0 rfl rfl rfl (by decide) (by decide) rfl (Nat.le_of_ble_eq_true rfl) (Nat.zero_le _) (Nat.zero_le _) dX3_queue_101 (fun r_24 lefts_25 rights_26 results_27 dn_28 h => ?_)
      show X g 9 104 [(7, .double r_22), (6, .int r_21), (4, .double r_19), (3, .int r_18), (2, .int v2_11), (0, .ref h0), (1, .int p0)] [.double r_24, .int (v2_11 - (2 : Int32)), .ref (ad 21)] (mW h0 ad (xT g) thrown many isWide amountOf accountOf dayOf given givenOf runs runWide runWay runTotal runSteps lefts_25 rights_26 results_27 wide dn_28 stepsAt keeps order att_23 spareAmount spareAccount spareDay cured cureOf shareOf big unitsOf spare halfFrom halfMany halfDone halfTotal isFar) 0 0
      obtain ⟨hz, h⟩ := h
      refine m_ast_21 G hz dX3_queue_104 (fun att_29 eatt_29 => ?_)
      replace h := h att_29 eatt_29
      obtain ⟨x_30, ex_30⟩ : ∃ z : Int32, z = (v2_11 + (-1 : Int32)) := ⟨_, rfl⟩
      replace h := h x_30 ex_30
      refine x_iinc (v := x_30) (lv' := [(2, .int x_30), (7, .double r_22), (6, .int r_21), (4, .double r_19), (3, .int r_18), (0, .ref h0), (1, .int p0)]) G dX3_queue_105 4 rfl (by rw [ex_30]; rfl) (by decide) rfl ?_
      refine x_goto (tgt := 37) G dX3_queue_108 rfl ?_
      refine x_lv (lv' := [(3, .int r_18), (2, .int x_30), (0, .ref h0), (1, .int p0)]) [4, 0, 5, 6] rfl ?_
      exact ih x_30 r_18 lefts_25 rights_26 results_27 dn_28 att_29 h
set_option maxRecDepth 20000 in
theorem tX3_queue {l : Launch} {D : va_G} {ta : Nat → ClassId} {h0 : Nat} {ad : Nat → Nat} {thrown : Int32} {many : Nat → Int32} {isWide : Nat → Int32} {amountOf : Nat → UInt64} {accountOf : Nat → Int32} {dayOf : Nat → Int32} {given : Nat → Int32} {givenOf : Nat → Int32} {runs : Int32} {runWide : Nat → Int32} {runWay : Nat → Int32} {runTotal : Nat → UInt64} {runSteps : Nat → Int32} {lefts : Nat → UInt64} {rights : Nat → UInt64} {results : Nat → UInt64} {wide : Int32} {dn : Int32} {stepsAt : Int32} {keeps : Int32} {order : Nat → Int32} {att : Nat → UInt64} {spareAmount : Nat → UInt64} {spareAccount : Nat → Int32} {spareDay : Nat → Int32} {cured : Int32} {cureOf : Nat → Int32} {shareOf : Nat → Int32} {big : Nat → Int32} {unitsOf : Int64} {spare : Int32} {halfFrom : Nat → Int32} {halfMany : Nat → Int32} {halfDone : Nat → Int32} {halfTotal : Nat → UInt64} {isFar : Int32} {p0 : Int32} {K : UInt64 → (Nat → UInt64) → (Nat → UInt64) → (Nat → UInt64) → Int32 → (Nat → UInt64) → Prop} (hlt : l.stackTraces = false) (h : wX3_queue p0 many amountOf lefts rights results wide dn stepsAt keeps att K) : SMd5 l D ta yX3_queue cX3_queue 9 FieldType.double 3 [.ref h0, .int p0] (mW h0 ad ta thrown many isWide amountOf accountOf dayOf given givenOf runs runWide runWay runTotal runSteps lefts rights results wide dn stepsAt keeps order att spareAmount spareAccount spareDay cured cureOf shareOf big unitsOf spare halfFrom halfMany halfDone halfTotal isFar) (fun (lefts' : Nat → UInt64) (rights' : Nat → UInt64) (results' : Nat → UInt64) (dn' : Int32) (att' : Nat → UInt64) => mW h0 ad ta thrown many isWide amountOf accountOf dayOf given givenOf runs runWide runWay runTotal runSteps lefts' rights' results' wide dn' stepsAt keeps order att' spareAmount spareAccount spareDay cured cureOf shareOf big unitsOf spare halfFrom halfMany halfDone halfTotal isFar) 0 0 K := by
  refine x_std5 hlt (plainFor_of_name (by decide +kernel)) (Nat.le_of_ble_eq_true rfl) (fun g G hl hD hT Q => ?_)
  subst hl; subst hD; subst hT
  unfold wX3_queue at h
  show X g 9 0 [(0, .ref h0), (1, .int p0)] [] (mW h0 ad (xT g) thrown many isWide amountOf accountOf dayOf given givenOf runs runWide runWay runTotal runSteps lefts rights results wide dn stepsAt keeps order att spareAmount spareAccount spareDay cured cureOf shareOf big unitsOf spare halfFrom halfMany halfDone halfTotal isFar) 0 0
  refine x_aload_n G rfl dX3_queue_0 0 rfl ?_
  refine m_get_1 G dX3_queue_1 ?_
  refine x_iload_n G rfl dX3_queue_4 1 rfl ?_
  obtain ⟨hz, h⟩ := h
  refine m_ald_1 G hz dX3_queue_5 ?_
  refine x_topi (fun x_1 ex_1 => ?_)
  replace h := h x_1 ex_1
  refine x_istore_n (lv' := [(2, .int x_1), (0, .ref h0), (1, .int p0)]) G rfl dX3_queue_6 (by decide) rfl ?_
  refine x_iconst (v := (0 : Int32)) G dX3_queue_7 (by decide) ?_
  refine x_istore_n (lv' := [(3, .int (0 : Int32)), (2, .int x_1), (0, .ref h0), (1, .int p0)]) G rfl dX3_queue_8 (by decide) rfl ?_
  obtain ⟨n0, h⟩ := h
  refine kX3_queue_L9 G (fun v3_9 att_10 h => ?_) n0 _ _ h
  · obtain ⟨n0, h⟩ := h
    refine kX3_queue_L37 G (fun v2_38 v3_39 lefts_40 rights_41 results_42 dn_43 att_44 h => ?_) n0 _ _ _ _ _ _ _ h
    · refine x_aload_n G rfl dX3_queue_111 2 rfl ?_
      refine m_get_21 G dX3_queue_112 ?_
      refine x_iconst (v := (0 : Int32)) G dX3_queue_115 (by decide) ?_
      obtain ⟨hz, h⟩ := h
      refine m_ald_21 G hz dX3_queue_116 ?_
      exact x_retd5 G Q dX3_queue_117 lefts_40 rights_41 results_42 dn_43 att_44 h XSub.rf (Nat.le_refl _) (Nat.le_refl _)
theorem cdX3_less : yX3_less.cls = RX3 ∧ yX3_less.cls ≠ "java/lang/invoke/MethodHandle" ∧ yX3_less.cls ≠ "java/lang/invoke/VarHandle" ∧ (parseMethodDescriptor yX3_less.desc).map (fun d => d.parameters.length) = some 2 := by decide +kernel
def wX3_less (p0 : UInt64) (p1 : UInt64) (wide : Int32) (K : UInt64 → Prop) : Prop := ((wide = (0 : Int32) → (vf_n32 (FP.d2f p0) ∧ (vf_n32 (FP.d2f p1) ∧ (vf_n32 (FP.fsub (FP.d2f p0) (FP.d2f p1)) ∧ (vf_n64 (FP.f2d (FP.fsub (FP.d2f p0) (FP.d2f p1))) ∧ K (FP.f2d (FP.fsub (FP.d2f p0) (FP.d2f p1)))))))) ∧ (¬ wide = (0 : Int32) → (vf_n64 (FP.dsub p0 p1) ∧ K (FP.dsub p0 p1))))
set_option maxRecDepth 20000 in
theorem tX3_less {l : Launch} {D : va_G} {ta : Nat → ClassId} {h0 : Nat} {ad : Nat → Nat} {thrown : Int32} {many : Nat → Int32} {isWide : Nat → Int32} {amountOf : Nat → UInt64} {accountOf : Nat → Int32} {dayOf : Nat → Int32} {given : Nat → Int32} {givenOf : Nat → Int32} {runs : Int32} {runWide : Nat → Int32} {runWay : Nat → Int32} {runTotal : Nat → UInt64} {runSteps : Nat → Int32} {lefts : Nat → UInt64} {rights : Nat → UInt64} {results : Nat → UInt64} {wide : Int32} {dn : Int32} {stepsAt : Int32} {keeps : Int32} {order : Nat → Int32} {att : Nat → UInt64} {spareAmount : Nat → UInt64} {spareAccount : Nat → Int32} {spareDay : Nat → Int32} {cured : Int32} {cureOf : Nat → Int32} {shareOf : Nat → Int32} {big : Nat → Int32} {unitsOf : Int64} {spare : Int32} {halfFrom : Nat → Int32} {halfMany : Nat → Int32} {halfDone : Nat → Int32} {halfTotal : Nat → UInt64} {isFar : Int32} {p0 : UInt64} {p1 : UInt64} {K : UInt64 → Prop} (hlt : l.stackTraces = false) (h : wX3_less p0 p1 wide K) : SMd0 l D ta yX3_less cX3_less 5 FieldType.double 1 [.ref h0, .double p0, .double p1] (mW h0 ad ta thrown many isWide amountOf accountOf dayOf given givenOf runs runWide runWay runTotal runSteps lefts rights results wide dn stepsAt keeps order att spareAmount spareAccount spareDay cured cureOf shareOf big unitsOf spare halfFrom halfMany halfDone halfTotal isFar) (mW h0 ad ta thrown many isWide amountOf accountOf dayOf given givenOf runs runWide runWay runTotal runSteps lefts rights results wide dn stepsAt keeps order att spareAmount spareAccount spareDay cured cureOf shareOf big unitsOf spare halfFrom halfMany halfDone halfTotal isFar) 0 0 K := by
  refine x_std0 hlt (plainFor_of_name (by decide +kernel)) (Nat.le_of_ble_eq_true rfl) (fun g G hl hD hT Q => ?_)
  subst hl; subst hD; subst hT
  unfold wX3_less at h
  show X g 5 0 [(0, .ref h0), (1, .double p0), (3, .double p1)] [] (mW h0 ad (xT g) thrown many isWide amountOf accountOf dayOf given givenOf runs runWide runWay runTotal runSteps lefts rights results wide dn stepsAt keeps order att spareAmount spareAccount spareDay cured cureOf shareOf big unitsOf spare halfFrom halfMany halfDone halfTotal isFar) 0 0
  refine x_aload_n G rfl dX3_less_0 0 rfl ?_
  refine m_get_16 G dX3_less_1 ?_
  refine x_if_eq (tgt := 13) G dX3_less_4 rfl (fun c => ?_) (fun c => ?_)
  · replace h := h.1 c
    refine x_dload_n G rfl dX3_less_13 1 rfl ?_
    obtain ⟨hz, h⟩ := h
    refine x_d2f G dX3_less_14 hz ?_
    refine x_dload_n G rfl dX3_less_15 2 rfl ?_
    obtain ⟨hz, h⟩ := h
    refine x_d2f G dX3_less_16 hz ?_
    obtain ⟨hz, h⟩ := h
    refine x_fsub G dX3_less_17 hz ?_
    obtain ⟨hz, h⟩ := h
    refine x_f2d G dX3_less_18 hz ?_
    exact x_retd0 G Q dX3_less_19  h XSub.rf (Nat.le_refl _) (Nat.le_refl _)
  · replace h := h.2 c
    refine x_dload_n G rfl dX3_less_7 1 rfl ?_
    refine x_dload_n G rfl dX3_less_8 2 rfl ?_
    obtain ⟨hz, h⟩ := h
    refine x_dsub G dX3_less_9 hz ?_
    refine x_goto (tgt := 19) G dX3_less_10 rfl ?_
    exact x_retd0 G Q dX3_less_19  h XSub.rf (Nat.le_refl _) (Nat.le_refl _)
theorem cdX3_carried : yX3_carried.cls = RX3 ∧ yX3_carried.cls ≠ "java/lang/invoke/MethodHandle" ∧ yX3_carried.cls ≠ "java/lang/invoke/VarHandle" ∧ (parseMethodDescriptor yX3_carried.desc).map (fun d => d.parameters.length) = some 2 := by decide +kernel
def wX3_carried_J58 (wide : Int32) (stepsAt : Int32) (keeps : Int32) (p1 : Int32) (v3_2 : UInt64) (v5_3 : UInt64) (v7_4 : Int32) (lefts_5 : Nat → UInt64) (rights_6 : Nat → UInt64) (results_7 : Nat → UInt64) (dn_8 : Int32) (X16 : UInt64 → UInt64 → Int32 → (Nat → UInt64) → (Nat → UInt64) → (Nat → UInt64) → Int32 → Prop) : UInt64 → UInt64 → Prop := fun (v8_11 : UInt64) (s_12 : UInt64) => (wX3_adds v3_2 s_12 lefts_5 rights_6 results_7 wide dn_8 stepsAt keeps (fun (r_13 : UInt64) (lefts_14 : Nat → UInt64) (rights_15 : Nat → UInt64) (results_16 : Nat → UInt64) (dn_17 : Int32) => ((¬ p1 = (0 : Int32) → (wX3_sizeOf v3_2 (fun (r_18 : UInt64) => (wX3_sizeOf v8_11 (fun (r_19 : UInt64) => ((¬ dge r_18 r_19 → (wX3_less v8_11 r_13 wide (fun (r_20 : UInt64) => (wX3_sum r_20 v3_2 wide (fun (r_21 : UInt64) => (wX3_sum v5_3 r_21 wide (fun (r_22 : UInt64) => (∀ x_23 : Int32, x_23 = (v7_4 + (1 : Int32)) → X16 r_13 r_22 x_23 lefts_14 rights_15 results_16 dn_17)))))))) ∧ (dge r_18 r_19 → (wX3_less v3_2 r_13 wide (fun (r_24 : UInt64) => (wX3_sum r_24 v8_11 wide (fun (r_25 : UInt64) => (wX3_sum v5_3 r_25 wide (fun (r_26 : UInt64) => (∀ x_27 : Int32, x_27 = (v7_4 + (1 : Int32)) → X16 r_13 r_26 x_27 lefts_14 rights_15 results_16 dn_17)))))))))))))) ∧ (p1 = (0 : Int32) → (wX3_less r_13 v3_2 wide (fun (r_28 : UInt64) => (wX3_less r_28 s_12 wide (fun (r_29 : UInt64) => (∀ x_30 : Int32, x_30 = (v7_4 + (1 : Int32)) → X16 r_13 r_29 x_30 lefts_14 rights_15 results_16 dn_17)))))))))
def wX3_carried_L16 (many : Nat → Int32) (amountOf : Nat → UInt64) (wide : Int32) (stepsAt : Int32) (keeps : Int32) (p0 : Int32) (p1 : Int32) (X158 : UInt64 → UInt64 → Int32 → (Nat → UInt64) → (Nat → UInt64) → (Nat → UInt64) → Int32 → Prop) : Nat → UInt64 → UInt64 → Int32 → (Nat → UInt64) → (Nat → UInt64) → (Nat → UInt64) → Int32 → Prop
  | 0, _, _, _, _, _, _, _ => False
  | n + 1, v3_2, v5_3, v7_4, lefts_5, rights_6, results_7, dn_8 => (vp_in p0 12 ∧ (((many p0.toNatClampNeg) ≤ v7_4 → X158 v3_2 v5_3 v7_4 lefts_5 rights_6 results_7 dn_8) ∧ (¬ (many p0.toNatClampNeg) ≤ v7_4 → (vp_in (((60 : Int32) * p0) + v7_4) 720 ∧ (∀ r_9 : UInt64, r_9 = (amountOf (((60 : Int32) * p0) + v7_4).toNatClampNeg) → ((p1 = (0 : Int32) → (wX3_less r_9 v5_3 wide (fun (r_10 : UInt64) => (wX3_carried_J58 wide stepsAt keeps p1 v3_2 v5_3 v7_4 lefts_5 rights_6 results_7 dn_8 (wX3_carried_L16 many amountOf wide stepsAt keeps p0 p1 X158 n) r_9 r_10)))) ∧ (¬ p1 = (0 : Int32) → (wX3_carried_J58 wide stepsAt keeps p1 v3_2 v5_3 v7_4 lefts_5 rights_6 results_7 dn_8 (wX3_carried_L16 many amountOf wide stepsAt keeps p0 p1 X158 n) r_9 r_9))))))))
def wX3_carried (p0 : Int32) (p1 : Int32) (many : Nat → Int32) (amountOf : Nat → UInt64) (lefts : Nat → UInt64) (rights : Nat → UInt64) (results : Nat → UInt64) (wide : Int32) (dn : Int32) (stepsAt : Int32) (keeps : Int32) (K : UInt64 → (Nat → UInt64) → (Nat → UInt64) → (Nat → UInt64) → Int32 → Prop) : Prop := (vp_in ((60 : Int32) * p0) 720 ∧ (∀ r_1 : UInt64, r_1 = (amountOf ((60 : Int32) * p0).toNatClampNeg) → (∃ m16 : Nat, wX3_carried_L16 many amountOf wide stepsAt keeps p0 p1 (fun (v3_45 : UInt64) (v5_46 : UInt64) (v7_47 : Int32) (lefts_48 : Nat → UInt64) (rights_49 : Nat → UInt64) (results_50 : Nat → UInt64) (dn_51 : Int32) => ((p1 = (0 : Int32) → K v3_45 lefts_48 rights_49 results_50 dn_51) ∧ (¬ p1 = (0 : Int32) → (wX3_sum v3_45 v5_46 wide (fun (r_52 : UInt64) => K r_52 lefts_48 rights_49 results_50 dn_51))))) m16 r_1 FP.dconst0 (1 : Int32) lefts rights results dn)))
set_option maxRecDepth 20000 in
theorem kX3_carried_J58 {g : XG} {h0 : Nat} {ad : Nat → Nat} {thrown : Int32} {many : Nat → Int32} {isWide : Nat → Int32} {amountOf : Nat → UInt64} {accountOf : Nat → Int32} {dayOf : Nat → Int32} {given : Nat → Int32} {givenOf : Nat → Int32} {runs : Int32} {runWide : Nat → Int32} {runWay : Nat → Int32} {runTotal : Nat → UInt64} {runSteps : Nat → Int32} {wide : Int32} {stepsAt : Int32} {keeps : Int32} {order : Nat → Int32} {att : Nat → UInt64} {spareAmount : Nat → UInt64} {spareAccount : Nat → Int32} {spareDay : Nat → Int32} {cured : Int32} {cureOf : Nat → Int32} {shareOf : Nat → Int32} {big : Nat → Int32} {unitsOf : Int64} {spare : Int32} {halfFrom : Nat → Int32} {halfMany : Nat → Int32} {halfDone : Nat → Int32} {halfTotal : Nat → UInt64} {isFar : Int32} {p0 : Int32} {p1 : Int32} {v3_2 : UInt64} {v5_3 : UInt64} {v7_4 : Int32} {lefts_5 : Nat → UInt64} {rights_6 : Nat → UInt64} {results_7 : Nat → UInt64} {dn_8 : Int32} {X16 : UInt64 → UInt64 → Int32 → (Nat → UInt64) → (Nat → UInt64) → (Nat → UInt64) → Int32 → Prop} (G : XO g RX3 cX3_carried 14 3 0 0) (hX16 : ∀ (v3_31 : UInt64) (v5_32 : UInt64) (v7_33 : Int32) (lefts_34 : Nat → UInt64) (rights_35 : Nat → UInt64) (results_36 : Nat → UInt64) (dn_37 : Int32), X16 v3_31 v5_32 v7_33 lefts_34 rights_35 results_36 dn_37 → X g 14 16 [(7, .int v7_33), (5, .double v5_32), (3, .double v3_31), (0, .ref h0), (1, .int p0), (2, .int p1)] [] (mW h0 ad (xT g) thrown many isWide amountOf accountOf dayOf given givenOf runs runWide runWay runTotal runSteps lefts_34 rights_35 results_36 wide dn_37 stepsAt keeps order att spareAmount spareAccount spareDay cured cureOf shareOf big unitsOf spare halfFrom halfMany halfDone halfTotal isFar) 0 0) : ∀ (v8_11 : UInt64) (s_12 : UInt64), wX3_carried_J58 wide stepsAt keeps p1 v3_2 v5_3 v7_4 lefts_5 rights_6 results_7 dn_8 X16 v8_11 s_12 → X g 14 58 [(0, .ref h0), (1, .int p0), (2, .int p1), (3, .double v3_2), (5, .double v5_3), (7, .int v7_4), (8, .double v8_11)] [.double s_12] (mW h0 ad (xT g) thrown many isWide amountOf accountOf dayOf given givenOf runs runWide runWay runTotal runSteps lefts_5 rights_6 results_7 wide dn_8 stepsAt keeps order att spareAmount spareAccount spareDay cured cureOf shareOf big unitsOf spare halfFrom halfMany halfDone halfTotal isFar) 0 0 := by
  intro v8_11 s_12 h
  unfold wX3_carried_J58 at h
  refine x_dstore (lv' := [(10, .double s_12), (0, .ref h0), (1, .int p0), (2, .int p1), (3, .double v3_2), (5, .double v5_3), (7, .int v7_4), (8, .double v8_11)]) G dX3_carried_58 (by decide) rfl ?_
  refine x_aload_n G rfl dX3_carried_60 1 rfl ?_
  refine x_dload_n G rfl dX3_carried_61 4 rfl ?_
  refine x_dload G dX3_carried_62 0 rfl ?_
  refine x_cVd4 (As := [.double v3_2, .double s_12]) (rest := []) G [] XSub.rf (tX3_adds G.noTraces h) (lw_V q1814 q1816 qs30 q70 q1817) cdX3_adds 3 0 rfl rfl rfl (by decide) (by decide) rfl (Nat.le_of_ble_eq_true rfl) (Nat.zero_le _) (Nat.zero_le _) dX3_carried_64 (fun r_13 lefts_14 rights_15 results_16 dn_17 h => ?_)
  show X g 14 67 [(10, .double s_12), (0, .ref h0), (1, .int p0), (2, .int p1), (3, .double v3_2), (5, .double v5_3), (7, .int v7_4), (8, .double v8_11)] [.double r_13] (mW h0 ad (xT g) thrown many isWide amountOf accountOf dayOf given givenOf runs runWide runWay runTotal runSteps lefts_14 rights_15 results_16 wide dn_17 stepsAt keeps order att spareAmount spareAccount spareDay cured cureOf shareOf big unitsOf spare halfFrom halfMany halfDone halfTotal isFar) 0 0
  refine x_dstore (lv' := [(12, .double r_13), (10, .double s_12), (0, .ref h0), (1, .int p0), (2, .int p1), (3, .double v3_2), (5, .double v5_3), (7, .int v7_4), (8, .double v8_11)]) G dX3_carried_67 (by decide) rfl ?_
  refine x_iload_n G rfl dX3_carried_69 4 rfl ?_
  refine x_if_ne (tgt := 91) G dX3_carried_70 rfl (fun c => ?_) (fun c => ?_)
  · replace h := h.1 c
    refine x_dload_n G rfl dX3_carried_91 5 rfl ?_
    refine x_cPd (As := [.double v3_2]) (rest := []) G (tX3_sizeOf G.noTraces h) (lw_S q1714 q1715 q70 q1716) cdX3_sizeOf (by decide) (by decide) rfl (Nat.le_of_ble_eq_true rfl) (Nat.zero_le _) (Nat.zero_le _) dX3_carried_92 (fun r_18 h => ?_)
    refine x_dload G dX3_carried_95 8 rfl ?_
    refine x_cPd (As := [.double v8_11]) (rest := [.double r_18]) G (tX3_sizeOf G.noTraces h) (lw_S q1714 q1715 q70 q1716) cdX3_sizeOf (by decide) (by decide) rfl (Nat.le_of_ble_eq_true rfl) (Nat.zero_le _) (Nat.zero_le _) dX3_carried_97 (fun r_19 h => ?_)
    refine x_dcmpl_lt (tgt := 128) G dX3_carried_100 dX3_carried_101 rfl (fun c => ?_) (fun c => ?_)
    · replace h := h.1 c
      refine x_aload_n G rfl dX3_carried_128 2 rfl ?_
      refine x_dload G dX3_carried_129 6 rfl ?_
      refine x_aload_n G rfl dX3_carried_131 2 rfl ?_
      refine x_aload_n G rfl dX3_carried_132 2 rfl ?_
      refine x_dload G dX3_carried_133 8 rfl ?_
      refine x_dload G dX3_carried_135 0 rfl ?_
      refine x_cVd0 (As := [.double v8_11, .double r_13]) (rest := [.ref h0, .double v5_3, .ref h0]) G [] XSub.rf (tX3_less G.noTraces h) (lw_V q1846 q1848 qs38 q70 q1849) cdX3_less 3 0 rfl rfl rfl (by decide) (by decide) rfl (Nat.le_of_ble_eq_true rfl) (Nat.zero_le _) (Nat.zero_le _) dX3_carried_137 (fun r_20 h => ?_)
      show X g 14 140 [(12, .double r_13), (10, .double s_12), (0, .ref h0), (1, .int p0), (2, .int p1), (3, .double v3_2), (5, .double v5_3), (7, .int v7_4), (8, .double v8_11)] [.double r_20, .ref h0, .double v5_3, .ref h0] (mW h0 ad (xT g) thrown many isWide amountOf accountOf dayOf given givenOf runs runWide runWay runTotal runSteps lefts_14 rights_15 results_16 wide dn_17 stepsAt keeps order att spareAmount spareAccount spareDay cured cureOf shareOf big unitsOf spare halfFrom halfMany halfDone halfTotal isFar) 0 0
      refine x_dload_n G rfl dX3_carried_140 5 rfl ?_
      refine x_cVd0 (As := [.double r_20, .double v3_2]) (rest := [.double v5_3, .ref h0]) G [] XSub.rf (tX3_sum G.noTraces h) (lw_V q1818 q1820 qs31 q70 q1821) cdX3_sum 3 0 rfl rfl rfl (by decide) (by decide) rfl (Nat.le_of_ble_eq_true rfl) (Nat.zero_le _) (Nat.zero_le _) dX3_carried_141 (fun r_21 h => ?_)
      show X g 14 144 [(12, .double r_13), (10, .double s_12), (0, .ref h0), (1, .int p0), (2, .int p1), (3, .double v3_2), (5, .double v5_3), (7, .int v7_4), (8, .double v8_11)] [.double r_21, .double v5_3, .ref h0] (mW h0 ad (xT g) thrown many isWide amountOf accountOf dayOf given givenOf runs runWide runWay runTotal runSteps lefts_14 rights_15 results_16 wide dn_17 stepsAt keeps order att spareAmount spareAccount spareDay cured cureOf shareOf big unitsOf spare halfFrom halfMany halfDone halfTotal isFar) 0 0
      refine x_cVd0 (As := [.double v5_3, .double r_21]) (rest := []) G [] XSub.rf (tX3_sum G.noTraces h) (lw_V q1818 q1820 qs31 q70 q1821) cdX3_sum 3 0 rfl rfl rfl (by decide) (by decide) rfl (Nat.le_of_ble_eq_true rfl) (Nat.zero_le _) (Nat.zero_le _) dX3_carried_144 (fun r_22 h => ?_)
      show X g 14 147 [(12, .double r_13), (10, .double s_12), (0, .ref h0), (1, .int p0), (2, .int p1), (3, .double v3_2), (5, .double v5_3), (7, .int v7_4), (8, .double v8_11)] [.double r_22] (mW h0 ad (xT g) thrown many isWide amountOf accountOf dayOf given givenOf runs runWide runWay runTotal runSteps lefts_14 rights_15 results_16 wide dn_17 stepsAt keeps order att spareAmount spareAccount spareDay cured cureOf shareOf big unitsOf spare halfFrom halfMany halfDone halfTotal isFar) 0 0
      refine x_dstore (lv' := [(5, .double r_22), (12, .double r_13), (10, .double s_12), (0, .ref h0), (1, .int p0), (2, .int p1), (3, .double v3_2), (7, .int v7_4), (8, .double v8_11)]) G dX3_carried_147 (by decide) rfl ?_
      refine x_dload G dX3_carried_149 1 rfl ?_
      refine x_dstore_n (lv' := [(3, .double r_13), (5, .double r_22), (12, .double r_13), (10, .double s_12), (0, .ref h0), (1, .int p0), (2, .int p1), (7, .int v7_4), (8, .double v8_11)]) G rfl dX3_carried_151 (by decide) rfl ?_
      obtain ⟨x_23, ex_23⟩ : ∃ z : Int32, z = (v7_4 + (1 : Int32)) := ⟨_, rfl⟩
      replace h := h x_23 ex_23
      refine x_iinc (v := x_23) (lv' := [(7, .int x_23), (3, .double r_13), (5, .double r_22), (12, .double r_13), (10, .double s_12), (0, .ref h0), (1, .int p0), (2, .int p1), (8, .double v8_11)]) G dX3_carried_152 7 rfl (by rw [ex_23]; rfl) (by decide) rfl ?_
      refine x_goto (tgt := 16) G dX3_carried_155 rfl ?_
      refine x_lv (lv' := [(7, .int x_23), (5, .double r_22), (3, .double r_13), (0, .ref h0), (1, .int p0), (2, .int p1)]) [0, 2, 1, 5, 6, 7] rfl ?_
      exact hX16 r_13 r_22 x_23 lefts_14 rights_15 results_16 dn_17 h
    · replace h := h.2 c
      refine x_aload_n G rfl dX3_carried_104 2 rfl ?_
      refine x_dload G dX3_carried_105 6 rfl ?_
      refine x_aload_n G rfl dX3_carried_107 2 rfl ?_
      refine x_aload_n G rfl dX3_carried_108 2 rfl ?_
      refine x_dload_n G rfl dX3_carried_109 5 rfl ?_
      refine x_dload G dX3_carried_110 0 rfl ?_
      refine x_cVd0 (As := [.double v3_2, .double r_13]) (rest := [.ref h0, .double v5_3, .ref h0]) G [] XSub.rf (tX3_less G.noTraces h) (lw_V q1846 q1848 qs38 q70 q1849) cdX3_less 3 0 rfl rfl rfl (by decide) (by decide) rfl (Nat.le_of_ble_eq_true rfl) (Nat.zero_le _) (Nat.zero_le _) dX3_carried_112 (fun r_24 h => ?_)
      show X g 14 115 [(12, .double r_13), (10, .double s_12), (0, .ref h0), (1, .int p0), (2, .int p1), (3, .double v3_2), (5, .double v5_3), (7, .int v7_4), (8, .double v8_11)] [.double r_24, .ref h0, .double v5_3, .ref h0] (mW h0 ad (xT g) thrown many isWide amountOf accountOf dayOf given givenOf runs runWide runWay runTotal runSteps lefts_14 rights_15 results_16 wide dn_17 stepsAt keeps order att spareAmount spareAccount spareDay cured cureOf shareOf big unitsOf spare halfFrom halfMany halfDone halfTotal isFar) 0 0
      refine x_dload G dX3_carried_115 8 rfl ?_
      refine x_cVd0 (As := [.double r_24, .double v8_11]) (rest := [.double v5_3, .ref h0]) G [] XSub.rf (tX3_sum G.noTraces h) (lw_V q1818 q1820 qs31 q70 q1821) cdX3_sum 3 0 rfl rfl rfl (by decide) (by decide) rfl (Nat.le_of_ble_eq_true rfl) (Nat.zero_le _) (Nat.zero_le _) dX3_carried_117 (fun r_25 h => ?_)
      show X g 14 120 [(12, .double r_13), (10, .double s_12), (0, .ref h0), (1, .int p0), (2, .int p1), (3, .double v3_2), (5, .double v5_3), (7, .int v7_4), (8, .double v8_11)] [.double r_25, .double v5_3, .ref h0] (mW h0 ad (xT g) thrown many isWide amountOf accountOf dayOf given givenOf runs runWide runWay runTotal runSteps lefts_14 rights_15 results_16 wide dn_17 stepsAt keeps order att spareAmount spareAccount spareDay cured cureOf shareOf big unitsOf spare halfFrom halfMany halfDone halfTotal isFar) 0 0
      refine x_cVd0 (As := [.double v5_3, .double r_25]) (rest := []) G [] XSub.rf (tX3_sum G.noTraces h) (lw_V q1818 q1820 qs31 q70 q1821) cdX3_sum 3 0 rfl rfl rfl (by decide) (by decide) rfl (Nat.le_of_ble_eq_true rfl) (Nat.zero_le _) (Nat.zero_le _) dX3_carried_120 (fun r_26 h => ?_)
      show X g 14 123 [(12, .double r_13), (10, .double s_12), (0, .ref h0), (1, .int p0), (2, .int p1), (3, .double v3_2), (5, .double v5_3), (7, .int v7_4), (8, .double v8_11)] [.double r_26] (mW h0 ad (xT g) thrown many isWide amountOf accountOf dayOf given givenOf runs runWide runWay runTotal runSteps lefts_14 rights_15 results_16 wide dn_17 stepsAt keeps order att spareAmount spareAccount spareDay cured cureOf shareOf big unitsOf spare halfFrom halfMany halfDone halfTotal isFar) 0 0
      refine x_dstore (lv' := [(5, .double r_26), (12, .double r_13), (10, .double s_12), (0, .ref h0), (1, .int p0), (2, .int p1), (3, .double v3_2), (7, .int v7_4), (8, .double v8_11)]) G dX3_carried_123 (by decide) rfl ?_
      refine x_goto (tgt := 149) G dX3_carried_125 rfl ?_
      refine x_dload G dX3_carried_149 1 rfl ?_
      refine x_dstore_n (lv' := [(3, .double r_13), (5, .double r_26), (12, .double r_13), (10, .double s_12), (0, .ref h0), (1, .int p0), (2, .int p1), (7, .int v7_4), (8, .double v8_11)]) G rfl dX3_carried_151 (by decide) rfl ?_
      obtain ⟨x_27, ex_27⟩ : ∃ z : Int32, z = (v7_4 + (1 : Int32)) := ⟨_, rfl⟩
      replace h := h x_27 ex_27
      refine x_iinc (v := x_27) (lv' := [(7, .int x_27), (3, .double r_13), (5, .double r_26), (12, .double r_13), (10, .double s_12), (0, .ref h0), (1, .int p0), (2, .int p1), (8, .double v8_11)]) G dX3_carried_152 7 rfl (by rw [ex_27]; rfl) (by decide) rfl ?_
      refine x_goto (tgt := 16) G dX3_carried_155 rfl ?_
      refine x_lv (lv' := [(7, .int x_27), (5, .double r_26), (3, .double r_13), (0, .ref h0), (1, .int p0), (2, .int p1)]) [0, 2, 1, 5, 6, 7] rfl ?_
      exact hX16 r_13 r_26 x_27 lefts_14 rights_15 results_16 dn_17 h
  · replace h := h.2 c
    refine x_aload_n G rfl dX3_carried_73 2 rfl ?_
    refine x_aload_n G rfl dX3_carried_74 2 rfl ?_
    refine x_dload G dX3_carried_75 0 rfl ?_
    refine x_dload_n G rfl dX3_carried_77 5 rfl ?_
    refine x_cVd0 (As := [.double r_13, .double v3_2]) (rest := [.ref h0]) G [] XSub.rf (tX3_less G.noTraces h) (lw_V q1846 q1848 qs38 q70 q1849) cdX3_less 3 0 rfl rfl rfl (by decide) (by decide) rfl (Nat.le_of_ble_eq_true rfl) (Nat.zero_le _) (Nat.zero_le _) dX3_carried_78 (fun r_28 h => ?_)
    show X g 14 81 [(12, .double r_13), (10, .double s_12), (0, .ref h0), (1, .int p0), (2, .int p1), (3, .double v3_2), (5, .double v5_3), (7, .int v7_4), (8, .double v8_11)] [.double r_28, .ref h0] (mW h0 ad (xT g) thrown many isWide amountOf accountOf dayOf given givenOf runs runWide runWay runTotal runSteps lefts_14 rights_15 results_16 wide dn_17 stepsAt keeps order att spareAmount spareAccount spareDay cured cureOf shareOf big unitsOf spare halfFrom halfMany halfDone halfTotal isFar) 0 0
    refine x_dload G dX3_carried_81 1 rfl ?_
    refine x_cVd0 (As := [.double r_28, .double s_12]) (rest := []) G [] XSub.rf (tX3_less G.noTraces h) (lw_V q1846 q1848 qs38 q70 q1849) cdX3_less 3 0 rfl rfl rfl (by decide) (by decide) rfl (Nat.le_of_ble_eq_true rfl) (Nat.zero_le _) (Nat.zero_le _) dX3_carried_83 (fun r_29 h => ?_)
    show X g 14 86 [(12, .double r_13), (10, .double s_12), (0, .ref h0), (1, .int p0), (2, .int p1), (3, .double v3_2), (5, .double v5_3), (7, .int v7_4), (8, .double v8_11)] [.double r_29] (mW h0 ad (xT g) thrown many isWide amountOf accountOf dayOf given givenOf runs runWide runWay runTotal runSteps lefts_14 rights_15 results_16 wide dn_17 stepsAt keeps order att spareAmount spareAccount spareDay cured cureOf shareOf big unitsOf spare halfFrom halfMany halfDone halfTotal isFar) 0 0
    refine x_dstore (lv' := [(5, .double r_29), (12, .double r_13), (10, .double s_12), (0, .ref h0), (1, .int p0), (2, .int p1), (3, .double v3_2), (7, .int v7_4), (8, .double v8_11)]) G dX3_carried_86 (by decide) rfl ?_
    refine x_goto (tgt := 149) G dX3_carried_88 rfl ?_
    refine x_dload G dX3_carried_149 1 rfl ?_
    refine x_dstore_n (lv' := [(3, .double r_13), (5, .double r_29), (12, .double r_13), (10, .double s_12), (0, .ref h0), (1, .int p0), (2, .int p1), (7, .int v7_4), (8, .double v8_11)]) G rfl dX3_carried_151 (by decide) rfl ?_
    obtain ⟨x_30, ex_30⟩ : ∃ z : Int32, z = (v7_4 + (1 : Int32)) := ⟨_, rfl⟩
    replace h := h x_30 ex_30
    refine x_iinc (v := x_30) (lv' := [(7, .int x_30), (3, .double r_13), (5, .double r_29), (12, .double r_13), (10, .double s_12), (0, .ref h0), (1, .int p0), (2, .int p1), (8, .double v8_11)]) G dX3_carried_152 7 rfl (by rw [ex_30]; rfl) (by decide) rfl ?_
    refine x_goto (tgt := 16) G dX3_carried_155 rfl ?_
    refine x_lv (lv' := [(7, .int x_30), (5, .double r_29), (3, .double r_13), (0, .ref h0), (1, .int p0), (2, .int p1)]) [0, 2, 1, 5, 6, 7] rfl ?_
    exact hX16 r_13 r_29 x_30 lefts_14 rights_15 results_16 dn_17 h
set_option maxRecDepth 20000 in
theorem kX3_carried_L16 {g : XG} {h0 : Nat} {ad : Nat → Nat} {thrown : Int32} {many : Nat → Int32} {isWide : Nat → Int32} {amountOf : Nat → UInt64} {accountOf : Nat → Int32} {dayOf : Nat → Int32} {given : Nat → Int32} {givenOf : Nat → Int32} {runs : Int32} {runWide : Nat → Int32} {runWay : Nat → Int32} {runTotal : Nat → UInt64} {runSteps : Nat → Int32} {wide : Int32} {stepsAt : Int32} {keeps : Int32} {order : Nat → Int32} {att : Nat → UInt64} {spareAmount : Nat → UInt64} {spareAccount : Nat → Int32} {spareDay : Nat → Int32} {cured : Int32} {cureOf : Nat → Int32} {shareOf : Nat → Int32} {big : Nat → Int32} {unitsOf : Int64} {spare : Int32} {halfFrom : Nat → Int32} {halfMany : Nat → Int32} {halfDone : Nat → Int32} {halfTotal : Nat → UInt64} {isFar : Int32} {p0 : Int32} {p1 : Int32} {X158 : UInt64 → UInt64 → Int32 → (Nat → UInt64) → (Nat → UInt64) → (Nat → UInt64) → Int32 → Prop} (G : XO g RX3 cX3_carried 14 3 0 0) (hX158 : ∀ (v3_38 : UInt64) (v5_39 : UInt64) (v7_40 : Int32) (lefts_41 : Nat → UInt64) (rights_42 : Nat → UInt64) (results_43 : Nat → UInt64) (dn_44 : Int32), X158 v3_38 v5_39 v7_40 lefts_41 rights_42 results_43 dn_44 → X g 14 158 [(7, .int v7_40), (5, .double v5_39), (3, .double v3_38), (0, .ref h0), (1, .int p0), (2, .int p1)] [] (mW h0 ad (xT g) thrown many isWide amountOf accountOf dayOf given givenOf runs runWide runWay runTotal runSteps lefts_41 rights_42 results_43 wide dn_44 stepsAt keeps order att spareAmount spareAccount spareDay cured cureOf shareOf big unitsOf spare halfFrom halfMany halfDone halfTotal isFar) 0 0) : ∀ (n : Nat) (v3_2 : UInt64) (v5_3 : UInt64) (v7_4 : Int32) (lefts_5 : Nat → UInt64) (rights_6 : Nat → UInt64) (results_7 : Nat → UInt64) (dn_8 : Int32), wX3_carried_L16 many amountOf wide stepsAt keeps p0 p1 X158 n v3_2 v5_3 v7_4 lefts_5 rights_6 results_7 dn_8 → X g 14 16 [(7, .int v7_4), (5, .double v5_3), (3, .double v3_2), (0, .ref h0), (1, .int p0), (2, .int p1)] [] (mW h0 ad (xT g) thrown many isWide amountOf accountOf dayOf given givenOf runs runWide runWay runTotal runSteps lefts_5 rights_6 results_7 wide dn_8 stepsAt keeps order att spareAmount spareAccount spareDay cured cureOf shareOf big unitsOf spare halfFrom halfMany halfDone halfTotal isFar) 0 0 := by
  intro n
  induction n with
  | zero => intro _ _ _ _ _ _ _ h; exact h.elim
  | succ n ih =>
    intro v3_2 v5_3 v7_4 lefts_5 rights_6 results_7 dn_8 h
    unfold wX3_carried_L16 at h
    refine x_iload G dX3_carried_16 0 rfl ?_
    refine x_aload_n G rfl dX3_carried_18 3 rfl ?_
    refine m_get_1 G dX3_carried_19 ?_
    refine x_iload_n G rfl dX3_carried_22 4 rfl ?_
    obtain ⟨hz, h⟩ := h
    refine m_ald_1 G hz dX3_carried_23 ?_
    refine x_icmp_ge (tgt := 158) G dX3_carried_24 rfl (fun c => ?_) (fun c => ?_)
    · replace h := h.1 c
      exact hX158 v3_2 v5_3 v7_4 lefts_5 rights_6 results_7 dn_8 h
    · replace h := h.2 c
      refine x_aload_n G rfl dX3_carried_27 3 rfl ?_
      refine m_get_3 G dX3_carried_28 ?_
      refine x_bipush (v := (60 : Int32)) G dX3_carried_31 (by decide) ?_
      refine x_iload_n G rfl dX3_carried_33 4 rfl ?_
      refine x_imul G dX3_carried_34 ?_
      refine x_iload G dX3_carried_35 0 rfl ?_
      refine x_iadd G dX3_carried_37 ?_
      obtain ⟨hz, h⟩ := h
      refine m_ald_3 G hz dX3_carried_38 ?_
      refine x_topd (fun r_9 er_9 => ?_)
      replace h := h r_9 er_9
      refine x_dstore (lv' := [(8, .double r_9), (7, .int v7_4), (5, .double v5_3), (3, .double v3_2), (0, .ref h0), (1, .int p0), (2, .int p1)]) G dX3_carried_39 (by decide) rfl ?_
      refine x_iload_n G rfl dX3_carried_41 6 rfl ?_
      refine x_if_eq (tgt := 50) G dX3_carried_42 rfl (fun c => ?_) (fun c => ?_)
      · replace h := h.1 c
        refine x_aload_n G rfl dX3_carried_50 4 rfl ?_
        refine x_dload G dX3_carried_51 0 rfl ?_
        refine x_dload G dX3_carried_53 2 rfl ?_
        refine x_cVd0 (As := [.double r_9, .double v5_3]) (rest := []) G [] XSub.rf (tX3_less G.noTraces h) (lw_V q1846 q1848 qs38 q70 q1849) cdX3_less 3 0 rfl rfl rfl (by decide) (by decide) rfl (Nat.le_of_ble_eq_true rfl) (Nat.zero_le _) (Nat.zero_le _) dX3_carried_55 (fun r_10 h => ?_)
        show X g 14 58 [(8, .double r_9), (7, .int v7_4), (5, .double v5_3), (3, .double v3_2), (0, .ref h0), (1, .int p0), (2, .int p1)] [.double r_10] (mW h0 ad (xT g) thrown many isWide amountOf accountOf dayOf given givenOf runs runWide runWay runTotal runSteps lefts_5 rights_6 results_7 wide dn_8 stepsAt keeps order att spareAmount spareAccount spareDay cured cureOf shareOf big unitsOf spare halfFrom halfMany halfDone halfTotal isFar) 0 0
        refine x_lv (lv' := [(0, .ref h0), (1, .int p0), (2, .int p1), (3, .double v3_2), (5, .double v5_3), (7, .int v7_4), (8, .double r_9)]) [4, 5, 6, 3, 2, 1, 0] rfl ?_
        refine kX3_carried_J58 G ih _ _ h
      · replace h := h.2 c
        refine x_dload G dX3_carried_45 0 rfl ?_
        refine x_goto (tgt := 58) G dX3_carried_47 rfl ?_
        refine x_lv (lv' := [(0, .ref h0), (1, .int p0), (2, .int p1), (3, .double v3_2), (5, .double v5_3), (7, .int v7_4), (8, .double r_9)]) [4, 5, 6, 3, 2, 1, 0] rfl ?_
        refine kX3_carried_J58 G ih _ _ h
set_option maxRecDepth 20000 in
theorem tX3_carried {l : Launch} {D : va_G} {ta : Nat → ClassId} {h0 : Nat} {ad : Nat → Nat} {thrown : Int32} {many : Nat → Int32} {isWide : Nat → Int32} {amountOf : Nat → UInt64} {accountOf : Nat → Int32} {dayOf : Nat → Int32} {given : Nat → Int32} {givenOf : Nat → Int32} {runs : Int32} {runWide : Nat → Int32} {runWay : Nat → Int32} {runTotal : Nat → UInt64} {runSteps : Nat → Int32} {lefts : Nat → UInt64} {rights : Nat → UInt64} {results : Nat → UInt64} {wide : Int32} {dn : Int32} {stepsAt : Int32} {keeps : Int32} {order : Nat → Int32} {att : Nat → UInt64} {spareAmount : Nat → UInt64} {spareAccount : Nat → Int32} {spareDay : Nat → Int32} {cured : Int32} {cureOf : Nat → Int32} {shareOf : Nat → Int32} {big : Nat → Int32} {unitsOf : Int64} {spare : Int32} {halfFrom : Nat → Int32} {halfMany : Nat → Int32} {halfDone : Nat → Int32} {halfTotal : Nat → UInt64} {isFar : Int32} {p0 : Int32} {p1 : Int32} {K : UInt64 → (Nat → UInt64) → (Nat → UInt64) → (Nat → UInt64) → Int32 → Prop} (hlt : l.stackTraces = false) (h : wX3_carried p0 p1 many amountOf lefts rights results wide dn stepsAt keeps K) : SMd4 l D ta yX3_carried cX3_carried 14 FieldType.double 3 [.ref h0, .int p0, .int p1] (mW h0 ad ta thrown many isWide amountOf accountOf dayOf given givenOf runs runWide runWay runTotal runSteps lefts rights results wide dn stepsAt keeps order att spareAmount spareAccount spareDay cured cureOf shareOf big unitsOf spare halfFrom halfMany halfDone halfTotal isFar) (fun (lefts' : Nat → UInt64) (rights' : Nat → UInt64) (results' : Nat → UInt64) (dn' : Int32) => mW h0 ad ta thrown many isWide amountOf accountOf dayOf given givenOf runs runWide runWay runTotal runSteps lefts' rights' results' wide dn' stepsAt keeps order att spareAmount spareAccount spareDay cured cureOf shareOf big unitsOf spare halfFrom halfMany halfDone halfTotal isFar) 0 0 K := by
  refine x_std4 hlt (plainFor_of_name (by decide +kernel)) (Nat.le_of_ble_eq_true rfl) (fun g G hl hD hT Q => ?_)
  subst hl; subst hD; subst hT
  unfold wX3_carried at h
  show X g 14 0 [(0, .ref h0), (1, .int p0), (2, .int p1)] [] (mW h0 ad (xT g) thrown many isWide amountOf accountOf dayOf given givenOf runs runWide runWay runTotal runSteps lefts rights results wide dn stepsAt keeps order att spareAmount spareAccount spareDay cured cureOf shareOf big unitsOf spare halfFrom halfMany halfDone halfTotal isFar) 0 0
  refine x_aload_n G rfl dX3_carried_0 0 rfl ?_
  refine m_get_3 G dX3_carried_1 ?_
  refine x_bipush (v := (60 : Int32)) G dX3_carried_4 (by decide) ?_
  refine x_iload_n G rfl dX3_carried_6 1 rfl ?_
  refine x_imul G dX3_carried_7 ?_
  obtain ⟨hz, h⟩ := h
  refine m_ald_3 G hz dX3_carried_8 ?_
  refine x_topd (fun r_1 er_1 => ?_)
  replace h := h r_1 er_1
  refine x_dstore_n (lv' := [(3, .double r_1), (0, .ref h0), (1, .int p0), (2, .int p1)]) G rfl dX3_carried_9 (by decide) rfl ?_
  refine x_dconst0 G dX3_carried_10 ?_
  refine x_dstore (lv' := [(5, .double FP.dconst0), (3, .double r_1), (0, .ref h0), (1, .int p0), (2, .int p1)]) G dX3_carried_11 (by decide) rfl ?_
  refine x_iconst (v := (1 : Int32)) G dX3_carried_13 (by decide) ?_
  refine x_istore (lv' := [(7, .int (1 : Int32)), (5, .double FP.dconst0), (3, .double r_1), (0, .ref h0), (1, .int p0), (2, .int p1)]) G dX3_carried_14 (by decide) rfl ?_
  obtain ⟨n0, h⟩ := h
  refine kX3_carried_L16 G (fun v3_45 v5_46 v7_47 lefts_48 rights_49 results_50 dn_51 h => ?_) n0 _ _ _ _ _ _ _ h
  · refine x_iload_n G rfl dX3_carried_158 5 rfl ?_
    refine x_if_eq (tgt := 172) G dX3_carried_159 rfl (fun c => ?_) (fun c => ?_)
    · replace h := h.1 c
      refine x_dload_n G rfl dX3_carried_172 2 rfl ?_
      exact x_retd4 G Q dX3_carried_173 lefts_48 rights_49 results_50 dn_51 h XSub.rf (Nat.le_refl _) (Nat.le_refl _)
    · replace h := h.2 c
      refine x_aload_n G rfl dX3_carried_162 3 rfl ?_
      refine x_dload_n G rfl dX3_carried_163 2 rfl ?_
      refine x_dload G dX3_carried_164 1 rfl ?_
      refine x_cVd0 (As := [.double v3_45, .double v5_46]) (rest := []) G [] XSub.rf (tX3_sum G.noTraces h) (lw_V q1818 q1820 qs31 q70 q1821) cdX3_sum 3 0 rfl rfl rfl (by decide) (by decide) rfl (Nat.le_of_ble_eq_true rfl) (Nat.zero_le _) (Nat.zero_le _) dX3_carried_166 (fun r_52 h => ?_)
      show X g 14 169 [(7, .int v7_47), (5, .double v5_46), (3, .double v3_45), (0, .ref h0), (1, .int p0), (2, .int p1)] [.double r_52] (mW h0 ad (xT g) thrown many isWide amountOf accountOf dayOf given givenOf runs runWide runWay runTotal runSteps lefts_48 rights_49 results_50 wide dn_51 stepsAt keeps order att spareAmount spareAccount spareDay cured cureOf shareOf big unitsOf spare halfFrom halfMany halfDone halfTotal isFar) 0 0
      refine x_goto (tgt := 173) G dX3_carried_169 rfl ?_
      exact x_retd4 G Q dX3_carried_173 lefts_48 rights_49 results_50 dn_51 h XSub.rf (Nat.le_refl _) (Nat.le_refl _)
theorem cdX3_goesAhead : yX3_goesAhead.cls = RX3 ∧ yX3_goesAhead.cls ≠ "java/lang/invoke/MethodHandle" ∧ yX3_goesAhead.cls ≠ "java/lang/invoke/VarHandle" ∧ (parseMethodDescriptor yX3_goesAhead.desc).map (fun d => d.parameters.length) = some 4 := by decide +kernel
def wX3_goesAhead (p0 : Int32) (p1 : Int32) (p2 : Int32) (p3 : Int32) (amountOf : Nat → UInt64) (accountOf : Nat → Int32) (dayOf : Nat → Int32) (K : Int32 → Prop) : Prop := (vp_in (((60 : Int32) * p0) + p2) 720 ∧ (wX3_sizeOf (amountOf (((60 : Int32) * p0) + p2).toNatClampNeg) (fun (r_1 : UInt64) => (vp_in (((60 : Int32) * p0) + p3) 720 ∧ (wX3_sizeOf (amountOf (((60 : Int32) * p0) + p3).toNatClampNeg) (fun (r_2 : UInt64) => ((p1 = (2 : Int32) → ((¬ dlt r_1 r_2 → K (0 : Int32)) ∧ (dlt r_1 r_2 → K (1 : Int32)))) ∧ (¬ p1 = (2 : Int32) → ((p1 = (3 : Int32) → ((¬ dgt r_1 r_2 → K (0 : Int32)) ∧ (dgt r_1 r_2 → K (1 : Int32)))) ∧ (¬ p1 = (3 : Int32) → ((p1 = (4 : Int32) → (vp_in (((60 : Int32) * p0) + p2) 720 ∧ (vp_in (((60 : Int32) * p0) + p3) 720 ∧ (((accountOf (((60 : Int32) * p0) + p3).toNatClampNeg) ≤ (accountOf (((60 : Int32) * p0) + p2).toNatClampNeg) → K (0 : Int32)) ∧ (¬ (accountOf (((60 : Int32) * p0) + p3).toNatClampNeg) ≤ (accountOf (((60 : Int32) * p0) + p2).toNatClampNeg) → K (1 : Int32)))))) ∧ (¬ p1 = (4 : Int32) → (vp_in (((60 : Int32) * p0) + p2) 720 ∧ (vp_in (((60 : Int32) * p0) + p3) 720 ∧ (((dayOf (((60 : Int32) * p0) + p3).toNatClampNeg) ≤ (dayOf (((60 : Int32) * p0) + p2).toNatClampNeg) → K (0 : Int32)) ∧ (¬ (dayOf (((60 : Int32) * p0) + p3).toNatClampNeg) ≤ (dayOf (((60 : Int32) * p0) + p2).toNatClampNeg) → K (1 : Int32)))))))))))))))))
set_option maxRecDepth 20000 in
theorem tX3_goesAhead {l : Launch} {D : va_G} {ta : Nat → ClassId} {h0 : Nat} {ad : Nat → Nat} {thrown : Int32} {many : Nat → Int32} {isWide : Nat → Int32} {amountOf : Nat → UInt64} {accountOf : Nat → Int32} {dayOf : Nat → Int32} {given : Nat → Int32} {givenOf : Nat → Int32} {runs : Int32} {runWide : Nat → Int32} {runWay : Nat → Int32} {runTotal : Nat → UInt64} {runSteps : Nat → Int32} {lefts : Nat → UInt64} {rights : Nat → UInt64} {results : Nat → UInt64} {wide : Int32} {dn : Int32} {stepsAt : Int32} {keeps : Int32} {order : Nat → Int32} {att : Nat → UInt64} {spareAmount : Nat → UInt64} {spareAccount : Nat → Int32} {spareDay : Nat → Int32} {cured : Int32} {cureOf : Nat → Int32} {shareOf : Nat → Int32} {big : Nat → Int32} {unitsOf : Int64} {spare : Int32} {halfFrom : Nat → Int32} {halfMany : Nat → Int32} {halfDone : Nat → Int32} {halfTotal : Nat → UInt64} {isFar : Int32} {p0 : Int32} {p1 : Int32} {p2 : Int32} {p3 : Int32} {K : Int32 → Prop} (hlt : l.stackTraces = false) (h : wX3_goesAhead p0 p1 p2 p3 amountOf accountOf dayOf K) : SMi0 l D ta yX3_goesAhead cX3_goesAhead 9 FieldType.boolean 2 [.ref h0, .int p0, .int p1, .int p2, .int p3] (mW h0 ad ta thrown many isWide amountOf accountOf dayOf given givenOf runs runWide runWay runTotal runSteps lefts rights results wide dn stepsAt keeps order att spareAmount spareAccount spareDay cured cureOf shareOf big unitsOf spare halfFrom halfMany halfDone halfTotal isFar) (mW h0 ad ta thrown many isWide amountOf accountOf dayOf given givenOf runs runWide runWay runTotal runSteps lefts rights results wide dn stepsAt keeps order att spareAmount spareAccount spareDay cured cureOf shareOf big unitsOf spare halfFrom halfMany halfDone halfTotal isFar) 0 0 K := by
  refine x_sti0 hlt (plainFor_of_name (by decide +kernel)) (Nat.le_of_ble_eq_true rfl) (fun g G hl hD hT Q => ?_)
  subst hl; subst hD; subst hT
  unfold wX3_goesAhead at h
  show X g 9 0 [(0, .ref h0), (1, .int p0), (2, .int p1), (3, .int p2), (4, .int p3)] [] (mW h0 ad (xT g) thrown many isWide amountOf accountOf dayOf given givenOf runs runWide runWay runTotal runSteps lefts rights results wide dn stepsAt keeps order att spareAmount spareAccount spareDay cured cureOf shareOf big unitsOf spare halfFrom halfMany halfDone halfTotal isFar) 0 0
  refine x_aload_n G rfl dX3_goesAhead_0 0 rfl ?_
  refine m_get_3 G dX3_goesAhead_1 ?_
  refine x_bipush (v := (60 : Int32)) G dX3_goesAhead_4 (by decide) ?_
  refine x_iload_n G rfl dX3_goesAhead_6 1 rfl ?_
  refine x_imul G dX3_goesAhead_7 ?_
  refine x_iload_n G rfl dX3_goesAhead_8 3 rfl ?_
  refine x_iadd G dX3_goesAhead_9 ?_
  obtain ⟨hz, h⟩ := h
  refine m_ald_3 G hz dX3_goesAhead_10 ?_
  refine x_cPd (As := [.double (amountOf (((60 : Int32) * p0) + p2).toNatClampNeg)]) (rest := []) G (tX3_sizeOf G.noTraces h) (lw_S q1714 q1715 q70 q1716) cdX3_sizeOf (by decide) (by decide) rfl (Nat.le_of_ble_eq_true rfl) (Nat.zero_le _) (Nat.zero_le _) dX3_goesAhead_11 (fun r_1 h => ?_)
  refine x_dstore (lv' := [(5, .double r_1), (0, .ref h0), (1, .int p0), (2, .int p1), (3, .int p2), (4, .int p3)]) G dX3_goesAhead_14 (by decide) rfl ?_
  refine x_aload_n G rfl dX3_goesAhead_16 1 rfl ?_
  refine m_get_3 G dX3_goesAhead_17 ?_
  refine x_bipush (v := (60 : Int32)) G dX3_goesAhead_20 (by decide) ?_
  refine x_iload_n G rfl dX3_goesAhead_22 2 rfl ?_
  refine x_imul G dX3_goesAhead_23 ?_
  refine x_iload G dX3_goesAhead_24 5 rfl ?_
  refine x_iadd G dX3_goesAhead_26 ?_
  obtain ⟨hz, h⟩ := h
  refine m_ald_3 G hz dX3_goesAhead_27 ?_
  refine x_cPd (As := [.double (amountOf (((60 : Int32) * p0) + p3).toNatClampNeg)]) (rest := []) G (tX3_sizeOf G.noTraces h) (lw_S q1714 q1715 q70 q1716) cdX3_sizeOf (by decide) (by decide) rfl (Nat.le_of_ble_eq_true rfl) (Nat.zero_le _) (Nat.zero_le _) dX3_goesAhead_28 (fun r_2 h => ?_)
  refine x_dstore (lv' := [(7, .double r_2), (5, .double r_1), (0, .ref h0), (1, .int p0), (2, .int p1), (3, .int p2), (4, .int p3)]) G dX3_goesAhead_31 (by decide) rfl ?_
  refine x_iload_n G rfl dX3_goesAhead_33 4 rfl ?_
  by_cases c0 : p1 = (2 : Int32)
  · replace h := h.1 c0
    refine x_tableAt (off := 26) (tgt := 60) G dX3_goesAhead_34 c0 (by decide) rfl ?_
    refine x_dload G dX3_goesAhead_60 1 rfl ?_
    refine x_dload G dX3_goesAhead_62 0 rfl ?_
    refine x_dcmpg_ge (tgt := 72) G dX3_goesAhead_64 dX3_goesAhead_65 rfl (fun c => ?_) (fun c => ?_)
    · replace h := h.1 c
      refine x_iconst (v := (0 : Int32)) G dX3_goesAhead_72 (by decide) ?_
      exact x_reti0 G Q dX3_goesAhead_73 rfl  h XSub.rf (Nat.le_refl _) (Nat.le_refl _)
    · replace h := h.2 c
      refine x_iconst (v := (1 : Int32)) G dX3_goesAhead_68 (by decide) ?_
      refine x_goto (tgt := 73) G dX3_goesAhead_69 rfl ?_
      exact x_reti0 G Q dX3_goesAhead_73 rfl  h XSub.rf (Nat.le_refl _) (Nat.le_refl _)
  replace h := h.2 c0
  by_cases c1 : p1 = (3 : Int32)
  · replace h := h.1 c1
    refine x_tableAt (off := 40) (tgt := 74) G dX3_goesAhead_34 c1 (by decide) rfl ?_
    refine x_dload G dX3_goesAhead_74 1 rfl ?_
    refine x_dload G dX3_goesAhead_76 0 rfl ?_
    refine x_dcmpl_le (tgt := 86) G dX3_goesAhead_78 dX3_goesAhead_79 rfl (fun c => ?_) (fun c => ?_)
    · replace h := h.1 c
      refine x_iconst (v := (0 : Int32)) G dX3_goesAhead_86 (by decide) ?_
      exact x_reti0 G Q dX3_goesAhead_87 rfl  h XSub.rf (Nat.le_refl _) (Nat.le_refl _)
    · replace h := h.2 c
      refine x_iconst (v := (1 : Int32)) G dX3_goesAhead_82 (by decide) ?_
      refine x_goto (tgt := 87) G dX3_goesAhead_83 rfl ?_
      exact x_reti0 G Q dX3_goesAhead_87 rfl  h XSub.rf (Nat.le_refl _) (Nat.le_refl _)
  replace h := h.2 c1
  by_cases c2 : p1 = (4 : Int32)
  · replace h := h.1 c2
    refine x_tableAt (off := 54) (tgt := 88) G dX3_goesAhead_34 c2 (by decide) rfl ?_
    refine x_aload_n G rfl dX3_goesAhead_88 2 rfl ?_
    refine m_get_4 G dX3_goesAhead_89 ?_
    refine x_bipush (v := (60 : Int32)) G dX3_goesAhead_92 (by decide) ?_
    refine x_iload_n G rfl dX3_goesAhead_94 3 rfl ?_
    refine x_imul G dX3_goesAhead_95 ?_
    refine x_iload_n G rfl dX3_goesAhead_96 5 rfl ?_
    refine x_iadd G dX3_goesAhead_97 ?_
    obtain ⟨hz, h⟩ := h
    refine m_ald_4 G hz dX3_goesAhead_98 ?_
    refine x_aload_n G rfl dX3_goesAhead_99 2 rfl ?_
    refine m_get_4 G dX3_goesAhead_100 ?_
    refine x_bipush (v := (60 : Int32)) G dX3_goesAhead_103 (by decide) ?_
    refine x_iload_n G rfl dX3_goesAhead_105 3 rfl ?_
    refine x_imul G dX3_goesAhead_106 ?_
    refine x_iload G dX3_goesAhead_107 6 rfl ?_
    refine x_iadd G dX3_goesAhead_109 ?_
    obtain ⟨hz, h⟩ := h
    refine m_ald_4 G hz dX3_goesAhead_110 ?_
    refine x_icmp_ge (tgt := 118) G dX3_goesAhead_111 rfl (fun c => ?_) (fun c => ?_)
    · replace h := h.1 c
      refine x_iconst (v := (0 : Int32)) G dX3_goesAhead_118 (by decide) ?_
      exact x_reti0 G Q dX3_goesAhead_119 rfl  h XSub.rf (Nat.le_refl _) (Nat.le_refl _)
    · replace h := h.2 c
      refine x_iconst (v := (1 : Int32)) G dX3_goesAhead_114 (by decide) ?_
      refine x_goto (tgt := 119) G dX3_goesAhead_115 rfl ?_
      exact x_reti0 G Q dX3_goesAhead_119 rfl  h XSub.rf (Nat.le_refl _) (Nat.le_refl _)
  replace h := h.2 c2
  refine x_tableNo (tgt := 120) G dX3_goesAhead_34 [(2 : Int32), (3 : Int32), (4 : Int32)] (by decide) (by decide) (List.forall_mem_cons.mpr ⟨c0, (List.forall_mem_cons.mpr ⟨c1, (List.forall_mem_cons.mpr ⟨c2, (fun _ h => absurd h List.not_mem_nil)⟩)⟩)⟩) rfl ?_
  refine x_aload_n G rfl dX3_goesAhead_120 2 rfl ?_
  refine m_get_5 G dX3_goesAhead_121 ?_
  refine x_bipush (v := (60 : Int32)) G dX3_goesAhead_124 (by decide) ?_
  refine x_iload_n G rfl dX3_goesAhead_126 3 rfl ?_
  refine x_imul G dX3_goesAhead_127 ?_
  refine x_iload_n G rfl dX3_goesAhead_128 5 rfl ?_
  refine x_iadd G dX3_goesAhead_129 ?_
  obtain ⟨hz, h⟩ := h
  refine m_ald_5 G hz dX3_goesAhead_130 ?_
  refine x_aload_n G rfl dX3_goesAhead_131 2 rfl ?_
  refine m_get_5 G dX3_goesAhead_132 ?_
  refine x_bipush (v := (60 : Int32)) G dX3_goesAhead_135 (by decide) ?_
  refine x_iload_n G rfl dX3_goesAhead_137 3 rfl ?_
  refine x_imul G dX3_goesAhead_138 ?_
  refine x_iload G dX3_goesAhead_139 6 rfl ?_
  refine x_iadd G dX3_goesAhead_141 ?_
  obtain ⟨hz, h⟩ := h
  refine m_ald_5 G hz dX3_goesAhead_142 ?_
  refine x_icmp_ge (tgt := 150) G dX3_goesAhead_143 rfl (fun c => ?_) (fun c => ?_)
  · replace h := h.1 c
    refine x_iconst (v := (0 : Int32)) G dX3_goesAhead_150 (by decide) ?_
    exact x_reti0 G Q dX3_goesAhead_151 rfl  h XSub.rf (Nat.le_refl _) (Nat.le_refl _)
  · replace h := h.2 c
    refine x_iconst (v := (1 : Int32)) G dX3_goesAhead_146 (by decide) ?_
    refine x_goto (tgt := 151) G dX3_goesAhead_147 rfl ?_
    exact x_reti0 G Q dX3_goesAhead_151 rfl  h XSub.rf (Nat.le_refl _) (Nat.le_refl _)
theorem cdX3_orderBy : yX3_orderBy.cls = RX3 ∧ yX3_orderBy.cls ≠ "java/lang/invoke/MethodHandle" ∧ yX3_orderBy.cls ≠ "java/lang/invoke/VarHandle" ∧ (parseMethodDescriptor yX3_orderBy.desc).map (fun d => d.parameters.length) = some 2 := by decide +kernel
def wX3_orderBy_L56 (amountOf : Nat → UInt64) (accountOf : Nat → Int32) (dayOf : Nat → Int32) (p0 : Int32) (p1 : Int32) (s_3 : Int32) (X117 : Int32 → (Nat → Int32) → Prop) : Nat → Int32 → (Nat → Int32) → Prop
  | 0, _, _ => False
  | n + 1, v5_4, order_5 => (wX3_in p1.toInt64 (2 : Int64) (5 : Int64) (fun (r_6 : Int32) => ((r_6 = (0 : Int32) → X117 v5_4 order_5) ∧ (¬ r_6 = (0 : Int32) → ((v5_4 ≤ (0 : Int32) → X117 v5_4 order_5) ∧ (¬ v5_4 ≤ (0 : Int32) → (vp_in (v5_4 - (1 : Int32)) 60 ∧ (wX3_goesAhead p0 p1 s_3 (order_5 (v5_4 - (1 : Int32)).toNatClampNeg) amountOf accountOf dayOf (fun (r_7 : Int32) => ((r_7 = (0 : Int32) → X117 v5_4 order_5) ∧ (¬ r_7 = (0 : Int32) → (vp_in (v5_4 - (1 : Int32)) 60 ∧ (∀ x_8 : Int32, x_8 = (order_5 (v5_4 - (1 : Int32)).toNatClampNeg) → (vp_in v5_4 60 ∧ (∀ order_9 : Nat → Int32, order_9 = upd order_5 v5_4.toNatClampNeg x_8 → (∀ x_10 : Int32, x_10 = (v5_4 + (-1 : Int32)) → wX3_orderBy_L56 amountOf accountOf dayOf p0 p1 s_3 X117 n x_10 order_9))))))))))))))))
def wX3_orderBy_J51 (amountOf : Nat → UInt64) (accountOf : Nat → Int32) (dayOf : Nat → Int32) (p0 : Int32) (p1 : Int32) (v3_1 : Int32) (order_2 : Nat → Int32) (X2 : Int32 → (Nat → Int32) → Prop) : Int32 → Prop := fun (s_3 : Int32) => (∃ m56 : Nat, wX3_orderBy_L56 amountOf accountOf dayOf p0 p1 s_3 (fun (v5_13 : Int32) (order_14 : Nat → Int32) => (vp_in v5_13 60 ∧ (∀ order_15 : Nat → Int32, order_15 = upd order_14 v5_13.toNatClampNeg s_3 → (∀ x_16 : Int32, x_16 = (v3_1 + (1 : Int32)) → X2 x_16 order_15)))) m56 v3_1 order_2)
def wX3_orderBy_L2 (many : Nat → Int32) (amountOf : Nat → UInt64) (accountOf : Nat → Int32) (dayOf : Nat → Int32) (givenOf : Nat → Int32) (p0 : Int32) (p1 : Int32) (X132 : Int32 → (Nat → Int32) → Prop) : Nat → Int32 → (Nat → Int32) → Prop
  | 0, _, _ => False
  | n + 1, v3_1, order_2 => (vp_in p0 12 ∧ (((many p0.toNatClampNeg) ≤ v3_1 → X132 v3_1 order_2) ∧ (¬ (many p0.toNatClampNeg) ≤ v3_1 → ((¬ p1 = (1 : Int32) → ((¬ p1 = (6 : Int32) → (wX3_orderBy_J51 amountOf accountOf dayOf p0 p1 v3_1 order_2 (wX3_orderBy_L2 many amountOf accountOf dayOf givenOf p0 p1 X132 n) v3_1)) ∧ (p1 = (6 : Int32) → (vp_in (((60 : Int32) * p0) + v3_1) 720 ∧ (wX3_orderBy_J51 amountOf accountOf dayOf p0 p1 v3_1 order_2 (wX3_orderBy_L2 many amountOf accountOf dayOf givenOf p0 p1 X132 n) (givenOf (((60 : Int32) * p0) + v3_1).toNatClampNeg)))))) ∧ (p1 = (1 : Int32) → (vp_in p0 12 ∧ (wX3_orderBy_J51 amountOf accountOf dayOf p0 p1 v3_1 order_2 (wX3_orderBy_L2 many amountOf accountOf dayOf givenOf p0 p1 X132 n) (((many p0.toNatClampNeg) - (1 : Int32)) - v3_1))))))))
def wX3_orderBy (p0 : Int32) (p1 : Int32) (many : Nat → Int32) (amountOf : Nat → UInt64) (accountOf : Nat → Int32) (dayOf : Nat → Int32) (givenOf : Nat → Int32) (order : Nat → Int32) (K : (Nat → Int32) → Prop) : Prop := (∃ m2 : Nat, wX3_orderBy_L2 many amountOf accountOf dayOf givenOf p0 p1 (fun (v3_21 : Int32) (order_22 : Nat → Int32) => K order_22) m2 (0 : Int32) order)
set_option maxRecDepth 20000 in
theorem kX3_orderBy_L56 {g : XG} {h0 : Nat} {ad : Nat → Nat} {thrown : Int32} {many : Nat → Int32} {isWide : Nat → Int32} {amountOf : Nat → UInt64} {accountOf : Nat → Int32} {dayOf : Nat → Int32} {given : Nat → Int32} {givenOf : Nat → Int32} {runs : Int32} {runWide : Nat → Int32} {runWay : Nat → Int32} {runTotal : Nat → UInt64} {runSteps : Nat → Int32} {lefts : Nat → UInt64} {rights : Nat → UInt64} {results : Nat → UInt64} {wide : Int32} {dn : Int32} {stepsAt : Int32} {keeps : Int32} {att : Nat → UInt64} {spareAmount : Nat → UInt64} {spareAccount : Nat → Int32} {spareDay : Nat → Int32} {cured : Int32} {cureOf : Nat → Int32} {shareOf : Nat → Int32} {big : Nat → Int32} {unitsOf : Int64} {spare : Int32} {halfFrom : Nat → Int32} {halfMany : Nat → Int32} {halfDone : Nat → Int32} {halfTotal : Nat → UInt64} {isFar : Int32} {p0 : Int32} {p1 : Int32} {v3_1 : Int32} {s_3 : Int32} {X117 : Int32 → (Nat → Int32) → Prop} (G : XO g RX3 cX3_orderBy 6 3 0 0) (hX117 : ∀ (v5_11 : Int32) (order_12 : Nat → Int32), X117 v5_11 order_12 → X g 6 117 [(5, .int v5_11), (4, .int s_3), (0, .ref h0), (1, .int p0), (2, .int p1), (3, .int v3_1)] [] (mW h0 ad (xT g) thrown many isWide amountOf accountOf dayOf given givenOf runs runWide runWay runTotal runSteps lefts rights results wide dn stepsAt keeps order_12 att spareAmount spareAccount spareDay cured cureOf shareOf big unitsOf spare halfFrom halfMany halfDone halfTotal isFar) 0 0) : ∀ (n : Nat) (v5_4 : Int32) (order_5 : Nat → Int32), wX3_orderBy_L56 amountOf accountOf dayOf p0 p1 s_3 X117 n v5_4 order_5 → X g 6 56 [(5, .int v5_4), (4, .int s_3), (0, .ref h0), (1, .int p0), (2, .int p1), (3, .int v3_1)] [] (mW h0 ad (xT g) thrown many isWide amountOf accountOf dayOf given givenOf runs runWide runWay runTotal runSteps lefts rights results wide dn stepsAt keeps order_5 att spareAmount spareAccount spareDay cured cureOf shareOf big unitsOf spare halfFrom halfMany halfDone halfTotal isFar) 0 0 := by
  intro n
  induction n with
  | zero => intro _ _ h; exact h.elim
  | succ n ih =>
    intro v5_4 order_5 h
    unfold wX3_orderBy_L56 at h
    refine x_iload_n G rfl dX3_orderBy_56 4 rfl ?_
    refine x_i2l G dX3_orderBy_57 ?_
    refine x_ldc2 G q1789 dX3_orderBy_58 ?_
    refine x_ldc2 G q1858 dX3_orderBy_61 ?_
    refine x_cPi (As := [.long p1.toInt64, .long (2 : Int64), .long (5 : Int64)]) (rest := []) G (tX3_in G.noTraces h) (lw_S q1650 q1651 q70 q1652) cdX3_in (by decide) (by decide) rfl (Nat.le_of_ble_eq_true rfl) (Nat.zero_le _) (Nat.zero_le _) dX3_orderBy_64 (fun r_6 h => ?_)
    refine x_if_eq (tgt := 117) G dX3_orderBy_67 rfl (fun c => ?_) (fun c => ?_)
    · replace h := h.1 c
      exact hX117 v5_4 order_5 h
    · replace h := h.2 c
      refine x_iload G dX3_orderBy_70 0 rfl ?_
      refine x_if_le (tgt := 117) G dX3_orderBy_72 rfl (fun c => ?_) (fun c => ?_)
      · replace h := h.1 c
        exact hX117 v5_4 order_5 h
      · replace h := h.2 c
        refine x_aload_n G rfl dX3_orderBy_75 2 rfl ?_
        refine x_iload_n G rfl dX3_orderBy_76 3 rfl ?_
        refine x_iload_n G rfl dX3_orderBy_77 4 rfl ?_
        refine x_iload G dX3_orderBy_78 1 rfl ?_
        refine x_aload_n G rfl dX3_orderBy_80 2 rfl ?_
        refine m_get_20 G dX3_orderBy_81 ?_
        refine x_iload G dX3_orderBy_84 0 rfl ?_
        refine x_iconst (v := (1 : Int32)) G dX3_orderBy_86 (by decide) ?_
        refine x_isub G dX3_orderBy_87 ?_
        obtain ⟨hz, h⟩ := h
        refine m_ald_20 G hz dX3_orderBy_88 ?_
        refine x_cVi0 (As := [.int p0, .int p1, .int s_3, .int (order_5 (v5_4 - (1 : Int32)).toNatClampNeg)]) (rest := []) G [] XSub.rf (tX3_goesAhead G.noTraces h) (lw_V q1859 q1861 qs41 q70 q1862) cdX3_goesAhead 3 0 rfl rfl rfl (by decide) (by decide) rfl (Nat.le_of_ble_eq_true rfl) (Nat.zero_le _) (Nat.zero_le _) dX3_orderBy_89 (fun r_7 h => ?_)
        show X g 6 92 [(5, .int v5_4), (4, .int s_3), (0, .ref h0), (1, .int p0), (2, .int p1), (3, .int v3_1)] [.int r_7] (mW h0 ad (xT g) thrown many isWide amountOf accountOf dayOf given givenOf runs runWide runWay runTotal runSteps lefts rights results wide dn stepsAt keeps order_5 att spareAmount spareAccount spareDay cured cureOf shareOf big unitsOf spare halfFrom halfMany halfDone halfTotal isFar) 0 0
        refine x_if_eq (tgt := 117) G dX3_orderBy_92 rfl (fun c => ?_) (fun c => ?_)
        · replace h := h.1 c
          exact hX117 v5_4 order_5 h
        · replace h := h.2 c
          refine x_aload_n G rfl dX3_orderBy_95 2 rfl ?_
          refine m_get_20 G dX3_orderBy_96 ?_
          refine x_iload G dX3_orderBy_99 0 rfl ?_
          refine x_aload_n G rfl dX3_orderBy_101 2 rfl ?_
          refine m_get_20 G dX3_orderBy_102 ?_
          refine x_iload G dX3_orderBy_105 0 rfl ?_
          refine x_iconst (v := (1 : Int32)) G dX3_orderBy_107 (by decide) ?_
          refine x_isub G dX3_orderBy_108 ?_
          obtain ⟨hz, h⟩ := h
          refine m_ald_20 G hz dX3_orderBy_109 ?_
          refine x_topi (fun x_8 ex_8 => ?_)
          replace h := h x_8 ex_8
          obtain ⟨hz, h⟩ := h
          refine m_ast_20 G hz dX3_orderBy_110 (fun order_9 eorder_9 => ?_)
          replace h := h order_9 eorder_9
          obtain ⟨x_10, ex_10⟩ : ∃ z : Int32, z = (v5_4 + (-1 : Int32)) := ⟨_, rfl⟩
          replace h := h x_10 ex_10
          refine x_iinc (v := x_10) (lv' := [(5, .int x_10), (4, .int s_3), (0, .ref h0), (1, .int p0), (2, .int p1), (3, .int v3_1)]) G dX3_orderBy_111 0 rfl (by rw [ex_10]; rfl) (by decide) rfl ?_
          refine x_goto (tgt := 56) G dX3_orderBy_114 rfl ?_
          exact ih x_10 order_9 h
set_option maxRecDepth 20000 in
theorem kX3_orderBy_J51 {g : XG} {h0 : Nat} {ad : Nat → Nat} {thrown : Int32} {many : Nat → Int32} {isWide : Nat → Int32} {amountOf : Nat → UInt64} {accountOf : Nat → Int32} {dayOf : Nat → Int32} {given : Nat → Int32} {givenOf : Nat → Int32} {runs : Int32} {runWide : Nat → Int32} {runWay : Nat → Int32} {runTotal : Nat → UInt64} {runSteps : Nat → Int32} {lefts : Nat → UInt64} {rights : Nat → UInt64} {results : Nat → UInt64} {wide : Int32} {dn : Int32} {stepsAt : Int32} {keeps : Int32} {att : Nat → UInt64} {spareAmount : Nat → UInt64} {spareAccount : Nat → Int32} {spareDay : Nat → Int32} {cured : Int32} {cureOf : Nat → Int32} {shareOf : Nat → Int32} {big : Nat → Int32} {unitsOf : Int64} {spare : Int32} {halfFrom : Nat → Int32} {halfMany : Nat → Int32} {halfDone : Nat → Int32} {halfTotal : Nat → UInt64} {isFar : Int32} {p0 : Int32} {p1 : Int32} {v3_1 : Int32} {order_2 : Nat → Int32} {X2 : Int32 → (Nat → Int32) → Prop} (G : XO g RX3 cX3_orderBy 6 3 0 0) (hX2 : ∀ (v3_17 : Int32) (order_18 : Nat → Int32), X2 v3_17 order_18 → X g 6 2 [(3, .int v3_17), (0, .ref h0), (1, .int p0), (2, .int p1)] [] (mW h0 ad (xT g) thrown many isWide amountOf accountOf dayOf given givenOf runs runWide runWay runTotal runSteps lefts rights results wide dn stepsAt keeps order_18 att spareAmount spareAccount spareDay cured cureOf shareOf big unitsOf spare halfFrom halfMany halfDone halfTotal isFar) 0 0) : ∀ (s_3 : Int32), wX3_orderBy_J51 amountOf accountOf dayOf p0 p1 v3_1 order_2 X2 s_3 → X g 6 51 [(0, .ref h0), (1, .int p0), (2, .int p1), (3, .int v3_1)] [.int s_3] (mW h0 ad (xT g) thrown many isWide amountOf accountOf dayOf given givenOf runs runWide runWay runTotal runSteps lefts rights results wide dn stepsAt keeps order_2 att spareAmount spareAccount spareDay cured cureOf shareOf big unitsOf spare halfFrom halfMany halfDone halfTotal isFar) 0 0 := by
  intro s_3 h
  unfold wX3_orderBy_J51 at h
  refine x_istore (lv' := [(4, .int s_3), (0, .ref h0), (1, .int p0), (2, .int p1), (3, .int v3_1)]) G dX3_orderBy_51 (by decide) rfl ?_
  refine x_iload_n G rfl dX3_orderBy_53 4 rfl ?_
  refine x_istore (lv' := [(5, .int v3_1), (4, .int s_3), (0, .ref h0), (1, .int p0), (2, .int p1), (3, .int v3_1)]) G dX3_orderBy_54 (by decide) rfl ?_
  obtain ⟨n0, h⟩ := h
  refine kX3_orderBy_L56 G (fun v5_13 order_14 h => ?_) n0 _ _ h
  · refine x_aload_n G rfl dX3_orderBy_117 2 rfl ?_
    refine m_get_20 G dX3_orderBy_118 ?_
    refine x_iload G dX3_orderBy_121 0 rfl ?_
    refine x_iload G dX3_orderBy_123 1 rfl ?_
    obtain ⟨hz, h⟩ := h
    refine m_ast_20 G hz dX3_orderBy_125 (fun order_15 eorder_15 => ?_)
    replace h := h order_15 eorder_15
    obtain ⟨x_16, ex_16⟩ : ∃ z : Int32, z = (v3_1 + (1 : Int32)) := ⟨_, rfl⟩
    replace h := h x_16 ex_16
    refine x_iinc (v := x_16) (lv' := [(3, .int x_16), (5, .int v5_13), (4, .int s_3), (0, .ref h0), (1, .int p0), (2, .int p1)]) G dX3_orderBy_126 5 rfl (by rw [ex_16]; rfl) (by decide) rfl ?_
    refine x_goto (tgt := 2) G dX3_orderBy_129 rfl ?_
    refine x_lv (lv' := [(3, .int x_16), (0, .ref h0), (1, .int p0), (2, .int p1)]) [0, 3, 4, 5] rfl ?_
    exact hX2 x_16 order_15 h
set_option maxRecDepth 20000 in
theorem kX3_orderBy_L2 {g : XG} {h0 : Nat} {ad : Nat → Nat} {thrown : Int32} {many : Nat → Int32} {isWide : Nat → Int32} {amountOf : Nat → UInt64} {accountOf : Nat → Int32} {dayOf : Nat → Int32} {given : Nat → Int32} {givenOf : Nat → Int32} {runs : Int32} {runWide : Nat → Int32} {runWay : Nat → Int32} {runTotal : Nat → UInt64} {runSteps : Nat → Int32} {lefts : Nat → UInt64} {rights : Nat → UInt64} {results : Nat → UInt64} {wide : Int32} {dn : Int32} {stepsAt : Int32} {keeps : Int32} {att : Nat → UInt64} {spareAmount : Nat → UInt64} {spareAccount : Nat → Int32} {spareDay : Nat → Int32} {cured : Int32} {cureOf : Nat → Int32} {shareOf : Nat → Int32} {big : Nat → Int32} {unitsOf : Int64} {spare : Int32} {halfFrom : Nat → Int32} {halfMany : Nat → Int32} {halfDone : Nat → Int32} {halfTotal : Nat → UInt64} {isFar : Int32} {p0 : Int32} {p1 : Int32} {X132 : Int32 → (Nat → Int32) → Prop} (G : XO g RX3 cX3_orderBy 6 3 0 0) (hX132 : ∀ (v3_19 : Int32) (order_20 : Nat → Int32), X132 v3_19 order_20 → X g 6 132 [(3, .int v3_19), (0, .ref h0), (1, .int p0), (2, .int p1)] [] (mW h0 ad (xT g) thrown many isWide amountOf accountOf dayOf given givenOf runs runWide runWay runTotal runSteps lefts rights results wide dn stepsAt keeps order_20 att spareAmount spareAccount spareDay cured cureOf shareOf big unitsOf spare halfFrom halfMany halfDone halfTotal isFar) 0 0) : ∀ (n : Nat) (v3_1 : Int32) (order_2 : Nat → Int32), wX3_orderBy_L2 many amountOf accountOf dayOf givenOf p0 p1 X132 n v3_1 order_2 → X g 6 2 [(3, .int v3_1), (0, .ref h0), (1, .int p0), (2, .int p1)] [] (mW h0 ad (xT g) thrown many isWide amountOf accountOf dayOf given givenOf runs runWide runWay runTotal runSteps lefts rights results wide dn stepsAt keeps order_2 att spareAmount spareAccount spareDay cured cureOf shareOf big unitsOf spare halfFrom halfMany halfDone halfTotal isFar) 0 0 := by
  intro n
  induction n with
  | zero => intro _ _ h; exact h.elim
  | succ n ih =>
    intro v3_1 order_2 h
    unfold wX3_orderBy_L2 at h
    refine x_iload_n G rfl dX3_orderBy_2 0 rfl ?_
    refine x_aload_n G rfl dX3_orderBy_3 1 rfl ?_
    refine m_get_1 G dX3_orderBy_4 ?_
    refine x_iload_n G rfl dX3_orderBy_7 2 rfl ?_
    obtain ⟨hz, h⟩ := h
    refine m_ald_1 G hz dX3_orderBy_8 ?_
    refine x_icmp_ge (tgt := 132) G dX3_orderBy_9 rfl (fun c => ?_) (fun c => ?_)
    · replace h := h.1 c
      exact hX132 v3_1 order_2 h
    · replace h := h.2 c
      refine x_iload_n G rfl dX3_orderBy_12 3 rfl ?_
      refine x_iconst (v := (1 : Int32)) G dX3_orderBy_13 (by decide) ?_
      refine x_icmp_ne (tgt := 30) G dX3_orderBy_14 rfl (fun c => ?_) (fun c => ?_)
      · replace h := h.1 c
        refine x_iload_n G rfl dX3_orderBy_30 3 rfl ?_
        refine x_bipush (v := (6 : Int32)) G dX3_orderBy_31 (by decide) ?_
        refine x_icmp_ne (tgt := 50) G dX3_orderBy_33 rfl (fun c => ?_) (fun c => ?_)
        · replace h := h.1 c
          refine x_iload_n G rfl dX3_orderBy_50 0 rfl ?_
          refine x_lv (lv' := [(0, .ref h0), (1, .int p0), (2, .int p1), (3, .int v3_1)]) [1, 2, 3, 0] rfl ?_
          refine kX3_orderBy_J51 G ih _ h
        · replace h := h.2 c
          refine x_aload_n G rfl dX3_orderBy_36 1 rfl ?_
          refine m_get_7 G dX3_orderBy_37 ?_
          refine x_bipush (v := (60 : Int32)) G dX3_orderBy_40 (by decide) ?_
          refine x_iload_n G rfl dX3_orderBy_42 2 rfl ?_
          refine x_imul G dX3_orderBy_43 ?_
          refine x_iload_n G rfl dX3_orderBy_44 0 rfl ?_
          refine x_iadd G dX3_orderBy_45 ?_
          obtain ⟨hz, h⟩ := h
          refine m_ald_7 G hz dX3_orderBy_46 ?_
          refine x_goto (tgt := 51) G dX3_orderBy_47 rfl ?_
          refine x_lv (lv' := [(0, .ref h0), (1, .int p0), (2, .int p1), (3, .int v3_1)]) [1, 2, 3, 0] rfl ?_
          refine kX3_orderBy_J51 G ih _ h
      · replace h := h.2 c
        refine x_aload_n G rfl dX3_orderBy_17 1 rfl ?_
        refine m_get_1 G dX3_orderBy_18 ?_
        refine x_iload_n G rfl dX3_orderBy_21 2 rfl ?_
        obtain ⟨hz, h⟩ := h
        refine m_ald_1 G hz dX3_orderBy_22 ?_
        refine x_iconst (v := (1 : Int32)) G dX3_orderBy_23 (by decide) ?_
        refine x_isub G dX3_orderBy_24 ?_
        refine x_iload_n G rfl dX3_orderBy_25 0 rfl ?_
        refine x_isub G dX3_orderBy_26 ?_
        refine x_goto (tgt := 51) G dX3_orderBy_27 rfl ?_
        refine x_lv (lv' := [(0, .ref h0), (1, .int p0), (2, .int p1), (3, .int v3_1)]) [1, 2, 3, 0] rfl ?_
        refine kX3_orderBy_J51 G ih _ h
set_option maxRecDepth 20000 in
theorem tX3_orderBy {l : Launch} {D : va_G} {ta : Nat → ClassId} {h0 : Nat} {ad : Nat → Nat} {thrown : Int32} {many : Nat → Int32} {isWide : Nat → Int32} {amountOf : Nat → UInt64} {accountOf : Nat → Int32} {dayOf : Nat → Int32} {given : Nat → Int32} {givenOf : Nat → Int32} {runs : Int32} {runWide : Nat → Int32} {runWay : Nat → Int32} {runTotal : Nat → UInt64} {runSteps : Nat → Int32} {lefts : Nat → UInt64} {rights : Nat → UInt64} {results : Nat → UInt64} {wide : Int32} {dn : Int32} {stepsAt : Int32} {keeps : Int32} {order : Nat → Int32} {att : Nat → UInt64} {spareAmount : Nat → UInt64} {spareAccount : Nat → Int32} {spareDay : Nat → Int32} {cured : Int32} {cureOf : Nat → Int32} {shareOf : Nat → Int32} {big : Nat → Int32} {unitsOf : Int64} {spare : Int32} {halfFrom : Nat → Int32} {halfMany : Nat → Int32} {halfDone : Nat → Int32} {halfTotal : Nat → UInt64} {isFar : Int32} {p0 : Int32} {p1 : Int32} {K : (Nat → Int32) → Prop} (hlt : l.stackTraces = false) (h : wX3_orderBy p0 p1 many amountOf accountOf dayOf givenOf order K) : SMv1 l D ta yX3_orderBy cX3_orderBy 6 3 [.ref h0, .int p0, .int p1] (mW h0 ad ta thrown many isWide amountOf accountOf dayOf given givenOf runs runWide runWay runTotal runSteps lefts rights results wide dn stepsAt keeps order att spareAmount spareAccount spareDay cured cureOf shareOf big unitsOf spare halfFrom halfMany halfDone halfTotal isFar) (fun (order' : Nat → Int32) => mW h0 ad ta thrown many isWide amountOf accountOf dayOf given givenOf runs runWide runWay runTotal runSteps lefts rights results wide dn stepsAt keeps order' att spareAmount spareAccount spareDay cured cureOf shareOf big unitsOf spare halfFrom halfMany halfDone halfTotal isFar) 0 0 K := by
  refine x_stv1 hlt (plainFor_of_name (by decide +kernel)) (Nat.le_of_ble_eq_true rfl) (fun g G hl hD hT Q => ?_)
  subst hl; subst hD; subst hT
  unfold wX3_orderBy at h
  show X g 6 0 [(0, .ref h0), (1, .int p0), (2, .int p1)] [] (mW h0 ad (xT g) thrown many isWide amountOf accountOf dayOf given givenOf runs runWide runWay runTotal runSteps lefts rights results wide dn stepsAt keeps order att spareAmount spareAccount spareDay cured cureOf shareOf big unitsOf spare halfFrom halfMany halfDone halfTotal isFar) 0 0
  refine x_iconst (v := (0 : Int32)) G dX3_orderBy_0 (by decide) ?_
  refine x_istore_n (lv' := [(3, .int (0 : Int32)), (0, .ref h0), (1, .int p0), (2, .int p1)]) G rfl dX3_orderBy_1 (by decide) rfl ?_
  obtain ⟨n0, h⟩ := h
  refine kX3_orderBy_L2 G (fun v3_21 order_22 h => ?_) n0 _ _ h
  · exact x_retv1 G Q dX3_orderBy_132 order_22 h XSub.rf (Nat.le_refl _) (Nat.le_refl _)
theorem cdX3_inOrder : yX3_inOrder.cls = RX3 ∧ yX3_inOrder.cls ≠ "java/lang/invoke/MethodHandle" ∧ yX3_inOrder.cls ≠ "java/lang/invoke/VarHandle" ∧ (parseMethodDescriptor yX3_inOrder.desc).map (fun d => d.parameters.length) = some 2 := by decide +kernel
def wX3_inOrder_L26 (many : Nat → Int32) (amountOf : Nat → UInt64) (wide : Int32) (stepsAt : Int32) (keeps : Int32) (p0 : Int32) (p1 : Int32) (order_1 : Nat → Int32) (X99 : UInt64 → Int32 → (Nat → UInt64) → (Nat → UInt64) → (Nat → UInt64) → Int32 → Prop) : Nat → UInt64 → Int32 → (Nat → UInt64) → (Nat → UInt64) → (Nat → UInt64) → Int32 → Prop
  | 0, _, _, _, _, _, _ => False
  | n + 1, v3_3, v5_4, lefts_5, rights_6, results_7, dn_8 => (vp_in p0 12 ∧ (((many p0.toNatClampNeg) ≤ v5_4 → X99 v3_3 v5_4 lefts_5 rights_6 results_7 dn_8) ∧ (¬ (many p0.toNatClampNeg) ≤ v5_4 → (vp_in v5_4 60 ∧ (vp_in (((60 : Int32) * p0) + (order_1 v5_4.toNatClampNeg)) 720 ∧ (∀ r_9 : UInt64, r_9 = (amountOf (((60 : Int32) * p0) + (order_1 v5_4.toNatClampNeg)).toNatClampNeg) → ((¬ p1 = (7 : Int32) → (wX3_adds v3_3 r_9 lefts_5 rights_6 results_7 wide dn_8 stepsAt keeps (fun (r_10 : UInt64) (lefts_11 : Nat → UInt64) (rights_12 : Nat → UInt64) (results_13 : Nat → UInt64) (dn_14 : Int32) => (∀ x_15 : Int32, x_15 = (v5_4 + (1 : Int32)) → wX3_inOrder_L26 many amountOf wide stepsAt keeps p0 p1 order_1 X99 n r_10 x_15 lefts_11 rights_12 results_13 dn_14)))) ∧ (p1 = (7 : Int32) → ((wide = (0 : Int32) → (wX3_adds v3_3 r_9 lefts_5 rights_6 results_7 wide dn_8 stepsAt keeps (fun (r_16 : UInt64) (lefts_17 : Nat → UInt64) (rights_18 : Nat → UInt64) (results_19 : Nat → UInt64) (dn_20 : Int32) => (∀ x_21 : Int32, x_21 = (v5_4 + (1 : Int32)) → wX3_inOrder_L26 many amountOf wide stepsAt keeps p0 p1 order_1 X99 n r_16 x_21 lefts_17 rights_18 results_19 dn_20)))) ∧ (¬ wide = (0 : Int32) → (vf_n64 (FP.dadd v3_3 r_9) ∧ (vf_n32 (FP.d2f (FP.dadd v3_3 r_9)) ∧ (vf_n64 (FP.f2d (FP.d2f (FP.dadd v3_3 r_9))) ∧ (wX3_stepped v3_3 r_9 (FP.f2d (FP.d2f (FP.dadd v3_3 r_9))) lefts_5 rights_6 results_7 dn_8 stepsAt keeps (fun (r_22 : UInt64) (lefts_23 : Nat → UInt64) (rights_24 : Nat → UInt64) (results_25 : Nat → UInt64) (dn_26 : Int32) => (∀ x_27 : Int32, x_27 = (v5_4 + (1 : Int32)) → wX3_inOrder_L26 many amountOf wide stepsAt keeps p0 p1 order_1 X99 n r_22 x_27 lefts_23 rights_24 results_25 dn_26))))))))))))))))
def wX3_inOrder (p0 : Int32) (p1 : Int32) (many : Nat → Int32) (amountOf : Nat → UInt64) (accountOf : Nat → Int32) (dayOf : Nat → Int32) (givenOf : Nat → Int32) (lefts : Nat → UInt64) (rights : Nat → UInt64) (results : Nat → UInt64) (wide : Int32) (dn : Int32) (stepsAt : Int32) (keeps : Int32) (order : Nat → Int32) (K : UInt64 → (Nat → UInt64) → (Nat → UInt64) → (Nat → UInt64) → Int32 → (Nat → Int32) → Prop) : Prop := (wX3_orderBy p0 p1 many amountOf accountOf dayOf givenOf order (fun (order_1 : Nat → Int32) => (vp_in (0 : Int32) 60 ∧ (vp_in (((60 : Int32) * p0) + (order_1 (0 : Int32).toNatClampNeg)) 720 ∧ (∀ r_2 : UInt64, r_2 = (amountOf (((60 : Int32) * p0) + (order_1 (0 : Int32).toNatClampNeg)).toNatClampNeg) → (∃ m26 : Nat, wX3_inOrder_L26 many amountOf wide stepsAt keeps p0 p1 order_1 (fun (v3_34 : UInt64) (v5_35 : Int32) (lefts_36 : Nat → UInt64) (rights_37 : Nat → UInt64) (results_38 : Nat → UInt64) (dn_39 : Int32) => K v3_34 lefts_36 rights_37 results_38 dn_39 order_1) m26 r_2 (1 : Int32) lefts rights results dn))))))
set_option maxRecDepth 20000 in
theorem kX3_inOrder_L26 {g : XG} {h0 : Nat} {ad : Nat → Nat} {thrown : Int32} {many : Nat → Int32} {isWide : Nat → Int32} {amountOf : Nat → UInt64} {accountOf : Nat → Int32} {dayOf : Nat → Int32} {given : Nat → Int32} {givenOf : Nat → Int32} {runs : Int32} {runWide : Nat → Int32} {runWay : Nat → Int32} {runTotal : Nat → UInt64} {runSteps : Nat → Int32} {wide : Int32} {stepsAt : Int32} {keeps : Int32} {att : Nat → UInt64} {spareAmount : Nat → UInt64} {spareAccount : Nat → Int32} {spareDay : Nat → Int32} {cured : Int32} {cureOf : Nat → Int32} {shareOf : Nat → Int32} {big : Nat → Int32} {unitsOf : Int64} {spare : Int32} {halfFrom : Nat → Int32} {halfMany : Nat → Int32} {halfDone : Nat → Int32} {halfTotal : Nat → UInt64} {isFar : Int32} {p0 : Int32} {p1 : Int32} {order_1 : Nat → Int32} {X99 : UInt64 → Int32 → (Nat → UInt64) → (Nat → UInt64) → (Nat → UInt64) → Int32 → Prop} (G : XO g RX3 cX3_inOrder 8 4 0 0) (hX99 : ∀ (v3_28 : UInt64) (v5_29 : Int32) (lefts_30 : Nat → UInt64) (rights_31 : Nat → UInt64) (results_32 : Nat → UInt64) (dn_33 : Int32), X99 v3_28 v5_29 lefts_30 rights_31 results_32 dn_33 → X g 8 99 [(5, .int v5_29), (3, .double v3_28), (0, .ref h0), (1, .int p0), (2, .int p1)] [] (mW h0 ad (xT g) thrown many isWide amountOf accountOf dayOf given givenOf runs runWide runWay runTotal runSteps lefts_30 rights_31 results_32 wide dn_33 stepsAt keeps order_1 att spareAmount spareAccount spareDay cured cureOf shareOf big unitsOf spare halfFrom halfMany halfDone halfTotal isFar) 0 0) : ∀ (n : Nat) (v3_3 : UInt64) (v5_4 : Int32) (lefts_5 : Nat → UInt64) (rights_6 : Nat → UInt64) (results_7 : Nat → UInt64) (dn_8 : Int32), wX3_inOrder_L26 many amountOf wide stepsAt keeps p0 p1 order_1 X99 n v3_3 v5_4 lefts_5 rights_6 results_7 dn_8 → X g 8 26 [(5, .int v5_4), (3, .double v3_3), (0, .ref h0), (1, .int p0), (2, .int p1)] [] (mW h0 ad (xT g) thrown many isWide amountOf accountOf dayOf given givenOf runs runWide runWay runTotal runSteps lefts_5 rights_6 results_7 wide dn_8 stepsAt keeps order_1 att spareAmount spareAccount spareDay cured cureOf shareOf big unitsOf spare halfFrom halfMany halfDone halfTotal isFar) 0 0 := by
  intro n
  induction n with
  | zero => intro _ _ _ _ _ _ h; exact h.elim
  | succ n ih =>
    intro v3_3 v5_4 lefts_5 rights_6 results_7 dn_8 h
    unfold wX3_inOrder_L26 at h
    refine x_iload G dX3_inOrder_26 0 rfl ?_
    refine x_aload_n G rfl dX3_inOrder_28 2 rfl ?_
    refine m_get_1 G dX3_inOrder_29 ?_
    refine x_iload_n G rfl dX3_inOrder_32 3 rfl ?_
    obtain ⟨hz, h⟩ := h
    refine m_ald_1 G hz dX3_inOrder_33 ?_
    refine x_icmp_ge (tgt := 99) G dX3_inOrder_34 rfl (fun c => ?_) (fun c => ?_)
    · replace h := h.1 c
      exact hX99 v3_3 v5_4 lefts_5 rights_6 results_7 dn_8 h
    · replace h := h.2 c
      refine x_aload_n G rfl dX3_inOrder_37 2 rfl ?_
      refine m_get_3 G dX3_inOrder_38 ?_
      refine x_bipush (v := (60 : Int32)) G dX3_inOrder_41 (by decide) ?_
      refine x_iload_n G rfl dX3_inOrder_43 3 rfl ?_
      refine x_imul G dX3_inOrder_44 ?_
      refine x_aload_n G rfl dX3_inOrder_45 2 rfl ?_
      refine m_get_20 G dX3_inOrder_46 ?_
      refine x_iload G dX3_inOrder_49 0 rfl ?_
      obtain ⟨hz, h⟩ := h
      refine m_ald_20 G hz dX3_inOrder_51 ?_
      refine x_iadd G dX3_inOrder_52 ?_
      obtain ⟨hz, h⟩ := h
      refine m_ald_3 G hz dX3_inOrder_53 ?_
      refine x_topd (fun r_9 er_9 => ?_)
      replace h := h r_9 er_9
      refine x_dstore (lv' := [(6, .double r_9), (5, .int v5_4), (3, .double v3_3), (0, .ref h0), (1, .int p0), (2, .int p1)]) G dX3_inOrder_54 (by decide) rfl ?_
      refine x_iload_n G rfl dX3_inOrder_56 5 rfl ?_
      refine x_bipush (v := (7 : Int32)) G dX3_inOrder_57 (by decide) ?_
      refine x_icmp_ne (tgt := 85) G dX3_inOrder_59 rfl (fun c => ?_) (fun c => ?_)
      · replace h := h.1 c
        refine x_aload_n G rfl dX3_inOrder_85 3 rfl ?_
        refine x_dload_n G rfl dX3_inOrder_86 2 rfl ?_
        refine x_dload G dX3_inOrder_87 0 rfl ?_
        refine x_cVd4 (As := [.double v3_3, .double r_9]) (rest := []) G [] XSub.rf (tX3_adds G.noTraces h) (lw_V q1814 q1816 qs30 q70 q1817) cdX3_adds 3 0 rfl rfl rfl (by decide) (by decide) rfl (Nat.le_of_ble_eq_true rfl) (Nat.zero_le _) (Nat.zero_le _) dX3_inOrder_89 (fun r_10 lefts_11 rights_12 results_13 dn_14 h => ?_)
        show X g 8 92 [(6, .double r_9), (5, .int v5_4), (3, .double v3_3), (0, .ref h0), (1, .int p0), (2, .int p1)] [.double r_10] (mW h0 ad (xT g) thrown many isWide amountOf accountOf dayOf given givenOf runs runWide runWay runTotal runSteps lefts_11 rights_12 results_13 wide dn_14 stepsAt keeps order_1 att spareAmount spareAccount spareDay cured cureOf shareOf big unitsOf spare halfFrom halfMany halfDone halfTotal isFar) 0 0
        refine x_dstore_n (lv' := [(3, .double r_10), (6, .double r_9), (5, .int v5_4), (0, .ref h0), (1, .int p0), (2, .int p1)]) G rfl dX3_inOrder_92 (by decide) rfl ?_
        obtain ⟨x_15, ex_15⟩ : ∃ z : Int32, z = (v5_4 + (1 : Int32)) := ⟨_, rfl⟩
        replace h := h x_15 ex_15
        refine x_iinc (v := x_15) (lv' := [(5, .int x_15), (3, .double r_10), (6, .double r_9), (0, .ref h0), (1, .int p0), (2, .int p1)]) G dX3_inOrder_93 2 rfl (by rw [ex_15]; rfl) (by decide) rfl ?_
        refine x_goto (tgt := 26) G dX3_inOrder_96 rfl ?_
        refine x_lv (lv' := [(5, .int x_15), (3, .double r_10), (0, .ref h0), (1, .int p0), (2, .int p1)]) [0, 1, 3, 4, 5] rfl ?_
        exact ih r_10 x_15 lefts_11 rights_12 results_13 dn_14 h
      · replace h := h.2 c
        refine x_aload_n G rfl dX3_inOrder_62 3 rfl ?_
        refine m_get_16 G dX3_inOrder_63 ?_
        refine x_if_eq (tgt := 85) G dX3_inOrder_66 rfl (fun c => ?_) (fun c => ?_)
        · replace h := h.1 c
          refine x_aload_n G rfl dX3_inOrder_85 3 rfl ?_
          refine x_dload_n G rfl dX3_inOrder_86 2 rfl ?_
          refine x_dload G dX3_inOrder_87 0 rfl ?_
          refine x_cVd4 (As := [.double v3_3, .double r_9]) (rest := []) G [] XSub.rf (tX3_adds G.noTraces h) (lw_V q1814 q1816 qs30 q70 q1817) cdX3_adds 3 0 rfl rfl rfl (by decide) (by decide) rfl (Nat.le_of_ble_eq_true rfl) (Nat.zero_le _) (Nat.zero_le _) dX3_inOrder_89 (fun r_16 lefts_17 rights_18 results_19 dn_20 h => ?_)
          show X g 8 92 [(6, .double r_9), (5, .int v5_4), (3, .double v3_3), (0, .ref h0), (1, .int p0), (2, .int p1)] [.double r_16] (mW h0 ad (xT g) thrown many isWide amountOf accountOf dayOf given givenOf runs runWide runWay runTotal runSteps lefts_17 rights_18 results_19 wide dn_20 stepsAt keeps order_1 att spareAmount spareAccount spareDay cured cureOf shareOf big unitsOf spare halfFrom halfMany halfDone halfTotal isFar) 0 0
          refine x_dstore_n (lv' := [(3, .double r_16), (6, .double r_9), (5, .int v5_4), (0, .ref h0), (1, .int p0), (2, .int p1)]) G rfl dX3_inOrder_92 (by decide) rfl ?_
          obtain ⟨x_21, ex_21⟩ : ∃ z : Int32, z = (v5_4 + (1 : Int32)) := ⟨_, rfl⟩
          replace h := h x_21 ex_21
          refine x_iinc (v := x_21) (lv' := [(5, .int x_21), (3, .double r_16), (6, .double r_9), (0, .ref h0), (1, .int p0), (2, .int p1)]) G dX3_inOrder_93 2 rfl (by rw [ex_21]; rfl) (by decide) rfl ?_
          refine x_goto (tgt := 26) G dX3_inOrder_96 rfl ?_
          refine x_lv (lv' := [(5, .int x_21), (3, .double r_16), (0, .ref h0), (1, .int p0), (2, .int p1)]) [0, 1, 3, 4, 5] rfl ?_
          exact ih r_16 x_21 lefts_17 rights_18 results_19 dn_20 h
        · replace h := h.2 c
          refine x_aload_n G rfl dX3_inOrder_69 3 rfl ?_
          refine x_dload_n G rfl dX3_inOrder_70 2 rfl ?_
          refine x_dload G dX3_inOrder_71 0 rfl ?_
          refine x_dload_n G rfl dX3_inOrder_73 2 rfl ?_
          refine x_dload G dX3_inOrder_74 0 rfl ?_
          obtain ⟨hz, h⟩ := h
          refine x_dadd G dX3_inOrder_76 hz ?_
          obtain ⟨hz, h⟩ := h
          refine x_d2f G dX3_inOrder_77 hz ?_
          obtain ⟨hz, h⟩ := h
          refine x_f2d G dX3_inOrder_78 hz ?_
          refine x_cVd4 (As := [.double v3_3, .double r_9, .double (FP.f2d (FP.d2f (FP.dadd v3_3 r_9)))]) (rest := []) G [] XSub.rf (tX3_stepped G.noTraces h) (lw_V q1822 q1824 qs32 q70 q1825) cdX3_stepped 3 0 rfl rfl rfl (by decide) (by decide) rfl (Nat.le_of_ble_eq_true rfl) (Nat.zero_le _) (Nat.zero_le _) dX3_inOrder_79 (fun r_22 lefts_23 rights_24 results_25 dn_26 h => ?_)
          show X g 8 82 [(6, .double r_9), (5, .int v5_4), (3, .double v3_3), (0, .ref h0), (1, .int p0), (2, .int p1)] [.double r_22] (mW h0 ad (xT g) thrown many isWide amountOf accountOf dayOf given givenOf runs runWide runWay runTotal runSteps lefts_23 rights_24 results_25 wide dn_26 stepsAt keeps order_1 att spareAmount spareAccount spareDay cured cureOf shareOf big unitsOf spare halfFrom halfMany halfDone halfTotal isFar) 0 0
          refine x_goto (tgt := 92) G dX3_inOrder_82 rfl ?_
          refine x_dstore_n (lv' := [(3, .double r_22), (6, .double r_9), (5, .int v5_4), (0, .ref h0), (1, .int p0), (2, .int p1)]) G rfl dX3_inOrder_92 (by decide) rfl ?_
          obtain ⟨x_27, ex_27⟩ : ∃ z : Int32, z = (v5_4 + (1 : Int32)) := ⟨_, rfl⟩
          replace h := h x_27 ex_27
          refine x_iinc (v := x_27) (lv' := [(5, .int x_27), (3, .double r_22), (6, .double r_9), (0, .ref h0), (1, .int p0), (2, .int p1)]) G dX3_inOrder_93 2 rfl (by rw [ex_27]; rfl) (by decide) rfl ?_
          refine x_goto (tgt := 26) G dX3_inOrder_96 rfl ?_
          refine x_lv (lv' := [(5, .int x_27), (3, .double r_22), (0, .ref h0), (1, .int p0), (2, .int p1)]) [0, 1, 3, 4, 5] rfl ?_
          exact ih r_22 x_27 lefts_23 rights_24 results_25 dn_26 h
set_option maxRecDepth 20000 in
theorem tX3_inOrder {l : Launch} {D : va_G} {ta : Nat → ClassId} {h0 : Nat} {ad : Nat → Nat} {thrown : Int32} {many : Nat → Int32} {isWide : Nat → Int32} {amountOf : Nat → UInt64} {accountOf : Nat → Int32} {dayOf : Nat → Int32} {given : Nat → Int32} {givenOf : Nat → Int32} {runs : Int32} {runWide : Nat → Int32} {runWay : Nat → Int32} {runTotal : Nat → UInt64} {runSteps : Nat → Int32} {lefts : Nat → UInt64} {rights : Nat → UInt64} {results : Nat → UInt64} {wide : Int32} {dn : Int32} {stepsAt : Int32} {keeps : Int32} {order : Nat → Int32} {att : Nat → UInt64} {spareAmount : Nat → UInt64} {spareAccount : Nat → Int32} {spareDay : Nat → Int32} {cured : Int32} {cureOf : Nat → Int32} {shareOf : Nat → Int32} {big : Nat → Int32} {unitsOf : Int64} {spare : Int32} {halfFrom : Nat → Int32} {halfMany : Nat → Int32} {halfDone : Nat → Int32} {halfTotal : Nat → UInt64} {isFar : Int32} {p0 : Int32} {p1 : Int32} {K : UInt64 → (Nat → UInt64) → (Nat → UInt64) → (Nat → UInt64) → Int32 → (Nat → Int32) → Prop} (hlt : l.stackTraces = false) (h : wX3_inOrder p0 p1 many amountOf accountOf dayOf givenOf lefts rights results wide dn stepsAt keeps order K) : SMd5 l D ta yX3_inOrder cX3_inOrder 8 FieldType.double 4 [.ref h0, .int p0, .int p1] (mW h0 ad ta thrown many isWide amountOf accountOf dayOf given givenOf runs runWide runWay runTotal runSteps lefts rights results wide dn stepsAt keeps order att spareAmount spareAccount spareDay cured cureOf shareOf big unitsOf spare halfFrom halfMany halfDone halfTotal isFar) (fun (lefts' : Nat → UInt64) (rights' : Nat → UInt64) (results' : Nat → UInt64) (dn' : Int32) (order' : Nat → Int32) => mW h0 ad ta thrown many isWide amountOf accountOf dayOf given givenOf runs runWide runWay runTotal runSteps lefts' rights' results' wide dn' stepsAt keeps order' att spareAmount spareAccount spareDay cured cureOf shareOf big unitsOf spare halfFrom halfMany halfDone halfTotal isFar) 0 0 K := by
  refine x_std5 hlt (plainFor_of_name (by decide +kernel)) (Nat.le_of_ble_eq_true rfl) (fun g G hl hD hT Q => ?_)
  subst hl; subst hD; subst hT
  unfold wX3_inOrder at h
  show X g 8 0 [(0, .ref h0), (1, .int p0), (2, .int p1)] [] (mW h0 ad (xT g) thrown many isWide amountOf accountOf dayOf given givenOf runs runWide runWay runTotal runSteps lefts rights results wide dn stepsAt keeps order att spareAmount spareAccount spareDay cured cureOf shareOf big unitsOf spare halfFrom halfMany halfDone halfTotal isFar) 0 0
  refine x_aload_n G rfl dX3_inOrder_0 0 rfl ?_
  refine x_iload_n G rfl dX3_inOrder_1 1 rfl ?_
  refine x_iload_n G rfl dX3_inOrder_2 2 rfl ?_
  refine x_cVv1 (As := [.int p0, .int p1]) (rest := []) G [] XSub.rf (tX3_orderBy G.noTraces h) (lw_V q1854 q1856 qs40 q70 q1857) cdX3_orderBy 3 0 rfl rfl rfl (by decide) (by decide) rfl (Nat.le_of_ble_eq_true rfl) (Nat.zero_le _) (Nat.zero_le _) dX3_inOrder_3 (fun order_1 h => ?_)
  show X g 8 6 [(0, .ref h0), (1, .int p0), (2, .int p1)] [] (mW h0 ad (xT g) thrown many isWide amountOf accountOf dayOf given givenOf runs runWide runWay runTotal runSteps lefts rights results wide dn stepsAt keeps order_1 att spareAmount spareAccount spareDay cured cureOf shareOf big unitsOf spare halfFrom halfMany halfDone halfTotal isFar) 0 0
  refine x_aload_n G rfl dX3_inOrder_6 0 rfl ?_
  refine m_get_3 G dX3_inOrder_7 ?_
  refine x_bipush (v := (60 : Int32)) G dX3_inOrder_10 (by decide) ?_
  refine x_iload_n G rfl dX3_inOrder_12 1 rfl ?_
  refine x_imul G dX3_inOrder_13 ?_
  refine x_aload_n G rfl dX3_inOrder_14 0 rfl ?_
  refine m_get_20 G dX3_inOrder_15 ?_
  refine x_iconst (v := (0 : Int32)) G dX3_inOrder_18 (by decide) ?_
  obtain ⟨hz, h⟩ := h
  refine m_ald_20 G hz dX3_inOrder_19 ?_
  refine x_iadd G dX3_inOrder_20 ?_
  obtain ⟨hz, h⟩ := h
  refine m_ald_3 G hz dX3_inOrder_21 ?_
  refine x_topd (fun r_2 er_2 => ?_)
  replace h := h r_2 er_2
  refine x_dstore_n (lv' := [(3, .double r_2), (0, .ref h0), (1, .int p0), (2, .int p1)]) G rfl dX3_inOrder_22 (by decide) rfl ?_
  refine x_iconst (v := (1 : Int32)) G dX3_inOrder_23 (by decide) ?_
  refine x_istore (lv' := [(5, .int (1 : Int32)), (3, .double r_2), (0, .ref h0), (1, .int p0), (2, .int p1)]) G dX3_inOrder_24 (by decide) rfl ?_
  obtain ⟨n0, h⟩ := h
  refine kX3_inOrder_L26 G (fun v3_34 v5_35 lefts_36 rights_37 results_38 dn_39 h => ?_) n0 _ _ _ _ _ _ h
  · refine x_dload_n G rfl dX3_inOrder_99 1 rfl ?_
    exact x_retd5 G Q dX3_inOrder_100 lefts_36 rights_37 results_38 dn_39 order_1 h XSub.rf (Nat.le_refl _) (Nat.le_refl _)
theorem cdX3_totalOf : yX3_totalOf.cls = RX3 ∧ yX3_totalOf.cls ≠ "java/lang/invoke/MethodHandle" ∧ yX3_totalOf.cls ≠ "java/lang/invoke/VarHandle" ∧ (parseMethodDescriptor yX3_totalOf.desc).map (fun d => d.parameters.length) = some 3 := by decide +kernel
def wX3_totalOf (p0 : Int32) (p1 : Int32) (p2 : Int32) (many : Nat → Int32) (isWide : Nat → Int32) (amountOf : Nat → UInt64) (accountOf : Nat → Int32) (dayOf : Nat → Int32) (givenOf : Nat → Int32) (lefts : Nat → UInt64) (rights : Nat → UInt64) (results : Nat → UInt64) (wide : Int32) (dn : Int32) (stepsAt : Int32) (keeps : Int32) (order : Nat → Int32) (att : Nat → UInt64) (unitsOf : Int64) (halfFrom : Nat → Int32) (halfMany : Nat → Int32) (halfDone : Nat → Int32) (halfTotal : Nat → UInt64) (isFar : Int32) (K : UInt64 → (Nat → UInt64) → (Nat → UInt64) → (Nat → UInt64) → Int32 → Int32 → (Nat → Int32) → (Nat → UInt64) → Int64 → (Nat → Int32) → (Nat → Int32) → (Nat → Int32) → (Nat → UInt64) → Int32 → Prop) : Prop := (vp_in p0 12 ∧ (∀ x_1 : Int32, x_1 = (isWide p0.toNatClampNeg) → (isB x_1 ∧ ((¬ p1 = (13 : Int32) → (vp_in p0 12 ∧ (((2 : Int32) ≤ (many p0.toNatClampNeg) → ((p1 = (8 : Int32) → (wX3_halves p0 many amountOf lefts rights results x_1 (0 : Int32) stepsAt keeps halfFrom halfMany halfDone halfTotal (fun (r_2 : UInt64) (lefts_3 : Nat → UInt64) (rights_4 : Nat → UInt64) (results_5 : Nat → UInt64) (dn_6 : Int32) (halfFrom_7 : Nat → Int32) (halfMany_8 : Nat → Int32) (halfDone_9 : Nat → Int32) (halfTotal_10 : Nat → UInt64) => K r_2 lefts_3 rights_4 results_5 x_1 dn_6 order att unitsOf halfFrom_7 halfMany_8 halfDone_9 halfTotal_10 (0 : Int32)))) ∧ (¬ p1 = (8 : Int32) → ((p1 = (9 : Int32) → (wX3_blocks p0 p2 many amountOf lefts rights results x_1 (0 : Int32) stepsAt keeps att (fun (r_11 : UInt64) (lefts_12 : Nat → UInt64) (rights_13 : Nat → UInt64) (results_14 : Nat → UInt64) (dn_15 : Int32) (att_16 : Nat → UInt64) => K r_11 lefts_12 rights_13 results_14 x_1 dn_15 order att_16 unitsOf halfFrom halfMany halfDone halfTotal (0 : Int32)))) ∧ (¬ p1 = (9 : Int32) → ((p1 = (10 : Int32) → (wX3_queue p0 many amountOf lefts rights results x_1 (0 : Int32) stepsAt keeps att (fun (r_17 : UInt64) (lefts_18 : Nat → UInt64) (rights_19 : Nat → UInt64) (results_20 : Nat → UInt64) (dn_21 : Int32) (att_22 : Nat → UInt64) => K r_17 lefts_18 rights_19 results_20 x_1 dn_21 order att_22 unitsOf halfFrom halfMany halfDone halfTotal (0 : Int32)))) ∧ (¬ p1 = (10 : Int32) → ((p1 = (11 : Int32) → (wX3_carried p0 (0 : Int32) many amountOf lefts rights results x_1 (0 : Int32) stepsAt keeps (fun (r_23 : UInt64) (lefts_24 : Nat → UInt64) (rights_25 : Nat → UInt64) (results_26 : Nat → UInt64) (dn_27 : Int32) => K r_23 lefts_24 rights_25 results_26 x_1 dn_27 order att unitsOf halfFrom halfMany halfDone halfTotal (0 : Int32)))) ∧ (¬ p1 = (11 : Int32) → ((p1 = (12 : Int32) → (wX3_carried p0 (1 : Int32) many amountOf lefts rights results x_1 (0 : Int32) stepsAt keeps (fun (r_28 : UInt64) (lefts_29 : Nat → UInt64) (rights_30 : Nat → UInt64) (results_31 : Nat → UInt64) (dn_32 : Int32) => K r_28 lefts_29 rights_30 results_31 x_1 dn_32 order att unitsOf halfFrom halfMany halfDone halfTotal (0 : Int32)))) ∧ (¬ p1 = (12 : Int32) → (wX3_inOrder p0 p1 many amountOf accountOf dayOf givenOf lefts rights results x_1 (0 : Int32) stepsAt keeps order (fun (r_33 : UInt64) (lefts_34 : Nat → UInt64) (rights_35 : Nat → UInt64) (results_36 : Nat → UInt64) (dn_37 : Int32) (order_38 : Nat → Int32) => K r_33 lefts_34 rights_35 results_36 x_1 dn_37 order_38 att unitsOf halfFrom halfMany halfDone halfTotal (0 : Int32)))))))))))))) ∧ (¬ (2 : Int32) ≤ (many p0.toNatClampNeg) → (vp_in p0 12 ∧ ((¬ (many p0.toNatClampNeg) = (0 : Int32) → (vp_in ((60 : Int32) * p0) 720 ∧ K (amountOf ((60 : Int32) * p0).toNatClampNeg) lefts rights results x_1 (0 : Int32) order att unitsOf halfFrom halfMany halfDone halfTotal (0 : Int32))) ∧ ((many p0.toNatClampNeg) = (0 : Int32) → K FP.dconst0 lefts rights results x_1 (0 : Int32) order att unitsOf halfFrom halfMany halfDone halfTotal (0 : Int32)))))))) ∧ (p1 = (13 : Int32) → (wX3_byUnits p0 p2 many amountOf x_1 unitsOf (0 : Int32) (fun (r_39 : UInt64) (unitsOf_40 : Int64) (isFar_41 : Int32) => K r_39 lefts rights results x_1 (0 : Int32) order att unitsOf_40 halfFrom halfMany halfDone halfTotal isFar_41)))))))
set_option maxRecDepth 20000 in
theorem tX3_totalOf {l : Launch} {D : va_G} {ta : Nat → ClassId} {h0 : Nat} {ad : Nat → Nat} {thrown : Int32} {many : Nat → Int32} {isWide : Nat → Int32} {amountOf : Nat → UInt64} {accountOf : Nat → Int32} {dayOf : Nat → Int32} {given : Nat → Int32} {givenOf : Nat → Int32} {runs : Int32} {runWide : Nat → Int32} {runWay : Nat → Int32} {runTotal : Nat → UInt64} {runSteps : Nat → Int32} {lefts : Nat → UInt64} {rights : Nat → UInt64} {results : Nat → UInt64} {wide : Int32} {dn : Int32} {stepsAt : Int32} {keeps : Int32} {order : Nat → Int32} {att : Nat → UInt64} {spareAmount : Nat → UInt64} {spareAccount : Nat → Int32} {spareDay : Nat → Int32} {cured : Int32} {cureOf : Nat → Int32} {shareOf : Nat → Int32} {big : Nat → Int32} {unitsOf : Int64} {spare : Int32} {halfFrom : Nat → Int32} {halfMany : Nat → Int32} {halfDone : Nat → Int32} {halfTotal : Nat → UInt64} {isFar : Int32} {p0 : Int32} {p1 : Int32} {p2 : Int32} {K : UInt64 → (Nat → UInt64) → (Nat → UInt64) → (Nat → UInt64) → Int32 → Int32 → (Nat → Int32) → (Nat → UInt64) → Int64 → (Nat → Int32) → (Nat → Int32) → (Nat → Int32) → (Nat → UInt64) → Int32 → Prop} (hlt : l.stackTraces = false) (h : wX3_totalOf p0 p1 p2 many isWide amountOf accountOf dayOf givenOf lefts rights results wide dn stepsAt keeps order att unitsOf halfFrom halfMany halfDone halfTotal isFar K) : SMd13 l D ta yX3_totalOf cX3_totalOf 4 FieldType.double 5 [.ref h0, .int p0, .int p1, .int p2] (mW h0 ad ta thrown many isWide amountOf accountOf dayOf given givenOf runs runWide runWay runTotal runSteps lefts rights results wide dn stepsAt keeps order att spareAmount spareAccount spareDay cured cureOf shareOf big unitsOf spare halfFrom halfMany halfDone halfTotal isFar) (fun (lefts' : Nat → UInt64) (rights' : Nat → UInt64) (results' : Nat → UInt64) (wide' : Int32) (dn' : Int32) (order' : Nat → Int32) (att' : Nat → UInt64) (unitsOf' : Int64) (halfFrom' : Nat → Int32) (halfMany' : Nat → Int32) (halfDone' : Nat → Int32) (halfTotal' : Nat → UInt64) (isFar' : Int32) => mW h0 ad ta thrown many isWide amountOf accountOf dayOf given givenOf runs runWide runWay runTotal runSteps lefts' rights' results' wide' dn' stepsAt keeps order' att' spareAmount spareAccount spareDay cured cureOf shareOf big unitsOf' spare halfFrom' halfMany' halfDone' halfTotal' isFar') 0 0 K := by
  refine x_std13 hlt (plainFor_of_name (by decide +kernel)) (Nat.le_of_ble_eq_true rfl) (fun g G hl hD hT Q => ?_)
  subst hl; subst hD; subst hT
  unfold wX3_totalOf at h
  show X g 4 0 [(0, .ref h0), (1, .int p0), (2, .int p1), (3, .int p2)] [] (mW h0 ad (xT g) thrown many isWide amountOf accountOf dayOf given givenOf runs runWide runWay runTotal runSteps lefts rights results wide dn stepsAt keeps order att spareAmount spareAccount spareDay cured cureOf shareOf big unitsOf spare halfFrom halfMany halfDone halfTotal isFar) 0 0
  refine x_aload_n G rfl dX3_totalOf_0 0 rfl ?_
  refine x_aload_n G rfl dX3_totalOf_1 0 rfl ?_
  refine m_get_2 G dX3_totalOf_2 ?_
  refine x_iload_n G rfl dX3_totalOf_5 1 rfl ?_
  obtain ⟨hz, h⟩ := h
  refine m_ald_2 G hz dX3_totalOf_6 ?_
  refine x_topi (fun x_1 ex_1 => ?_)
  replace h := h x_1 ex_1
  obtain ⟨hb, h⟩ := h
  refine m_put_16 G hb dX3_totalOf_7 ?_
  refine x_aload_n G rfl dX3_totalOf_10 0 rfl ?_
  refine x_iconst (v := (0 : Int32)) G dX3_totalOf_11 (by decide) ?_
  refine m_put_17 G dX3_totalOf_12 ?_
  refine x_aload_n G rfl dX3_totalOf_15 0 rfl ?_
  refine x_iconst (v := (0 : Int32)) G dX3_totalOf_16 (by decide) ?_
  refine m_put_35 G isB_0 dX3_totalOf_17 ?_
  refine x_iload_n G rfl dX3_totalOf_20 2 rfl ?_
  refine x_bipush (v := (13 : Int32)) G dX3_totalOf_21 (by decide) ?_
  refine x_icmp_ne (tgt := 33) G dX3_totalOf_23 rfl (fun c => ?_) (fun c => ?_)
  · replace h := h.1 c
    refine x_aload_n G rfl dX3_totalOf_33 0 rfl ?_
    refine m_get_1 G dX3_totalOf_34 ?_
    refine x_iload_n G rfl dX3_totalOf_37 1 rfl ?_
    obtain ⟨hz, h⟩ := h
    refine m_ald_1 G hz dX3_totalOf_38 ?_
    refine x_iconst (v := (2 : Int32)) G dX3_totalOf_39 (by decide) ?_
    refine x_icmp_ge (tgt := 66) G dX3_totalOf_40 rfl (fun c => ?_) (fun c => ?_)
    · replace h := h.1 c
      refine x_iload_n G rfl dX3_totalOf_66 2 rfl ?_
      by_cases c0 : p1 = (8 : Int32)
      · replace h := h.1 c0
        refine x_tableAt (off := 33) (tgt := 100) G dX3_totalOf_67 c0 (by decide) rfl ?_
        refine x_aload_n G rfl dX3_totalOf_100 0 rfl ?_
        refine x_iload_n G rfl dX3_totalOf_101 1 rfl ?_
        refine x_cVd8 (As := [.int p0]) (rest := []) G [] XSub.rf (tX3_halves G.noTraces h) (lw_V q1810 q1812 qs29 q70 q1813) cdX3_halves 3 0 rfl rfl rfl (by decide) (by decide) rfl (Nat.le_of_ble_eq_true rfl) (Nat.zero_le _) (Nat.zero_le _) dX3_totalOf_102 (fun r_2 lefts_3 rights_4 results_5 dn_6 halfFrom_7 halfMany_8 halfDone_9 halfTotal_10 h => ?_)
        show X g 4 105 [(0, .ref h0), (1, .int p0), (2, .int p1), (3, .int p2)] [.double r_2] (mW h0 ad (xT g) thrown many isWide amountOf accountOf dayOf given givenOf runs runWide runWay runTotal runSteps lefts_3 rights_4 results_5 x_1 dn_6 stepsAt keeps order att spareAmount spareAccount spareDay cured cureOf shareOf big unitsOf spare halfFrom_7 halfMany_8 halfDone_9 halfTotal_10 (0 : Int32)) 0 0
        exact x_retd13 G Q dX3_totalOf_105 lefts_3 rights_4 results_5 x_1 dn_6 order att unitsOf halfFrom_7 halfMany_8 halfDone_9 halfTotal_10 (0 : Int32) h XSub.rf (Nat.le_refl _) (Nat.le_refl _)
      replace h := h.2 c0
      by_cases c1 : p1 = (9 : Int32)
      · replace h := h.1 c1
        refine x_tableAt (off := 39) (tgt := 106) G dX3_totalOf_67 c1 (by decide) rfl ?_
        refine x_aload_n G rfl dX3_totalOf_106 0 rfl ?_
        refine x_iload_n G rfl dX3_totalOf_107 1 rfl ?_
        refine x_iload_n G rfl dX3_totalOf_108 3 rfl ?_
        refine x_cVd5 (As := [.int p0, .int p2]) (rest := []) G [] XSub.rf (tX3_blocks G.noTraces h) (lw_V q1826 q1828 qs33 q70 q1829) cdX3_blocks 3 0 rfl rfl rfl (by decide) (by decide) rfl (Nat.le_of_ble_eq_true rfl) (Nat.zero_le _) (Nat.zero_le _) dX3_totalOf_109 (fun r_11 lefts_12 rights_13 results_14 dn_15 att_16 h => ?_)
        show X g 4 112 [(0, .ref h0), (1, .int p0), (2, .int p1), (3, .int p2)] [.double r_11] (mW h0 ad (xT g) thrown many isWide amountOf accountOf dayOf given givenOf runs runWide runWay runTotal runSteps lefts_12 rights_13 results_14 x_1 dn_15 stepsAt keeps order att_16 spareAmount spareAccount spareDay cured cureOf shareOf big unitsOf spare halfFrom halfMany halfDone halfTotal (0 : Int32)) 0 0
        exact x_retd13 G Q dX3_totalOf_112 lefts_12 rights_13 results_14 x_1 dn_15 order att_16 unitsOf halfFrom halfMany halfDone halfTotal (0 : Int32) h XSub.rf (Nat.le_refl _) (Nat.le_refl _)
      replace h := h.2 c1
      by_cases c2 : p1 = (10 : Int32)
      · replace h := h.1 c2
        refine x_tableAt (off := 46) (tgt := 113) G dX3_totalOf_67 c2 (by decide) rfl ?_
        refine x_aload_n G rfl dX3_totalOf_113 0 rfl ?_
        refine x_iload_n G rfl dX3_totalOf_114 1 rfl ?_
        refine x_cVd5 (As := [.int p0]) (rest := []) G [] XSub.rf (tX3_queue G.noTraces h) (lw_V q1830 q1832 qs34 q70 q1833) cdX3_queue 3 0 rfl rfl rfl (by decide) (by decide) rfl (Nat.le_of_ble_eq_true rfl) (Nat.zero_le _) (Nat.zero_le _) dX3_totalOf_115 (fun r_17 lefts_18 rights_19 results_20 dn_21 att_22 h => ?_)
        show X g 4 118 [(0, .ref h0), (1, .int p0), (2, .int p1), (3, .int p2)] [.double r_17] (mW h0 ad (xT g) thrown many isWide amountOf accountOf dayOf given givenOf runs runWide runWay runTotal runSteps lefts_18 rights_19 results_20 x_1 dn_21 stepsAt keeps order att_22 spareAmount spareAccount spareDay cured cureOf shareOf big unitsOf spare halfFrom halfMany halfDone halfTotal (0 : Int32)) 0 0
        exact x_retd13 G Q dX3_totalOf_118 lefts_18 rights_19 results_20 x_1 dn_21 order att_22 unitsOf halfFrom halfMany halfDone halfTotal (0 : Int32) h XSub.rf (Nat.le_refl _) (Nat.le_refl _)
      replace h := h.2 c2
      by_cases c3 : p1 = (11 : Int32)
      · replace h := h.1 c3
        refine x_tableAt (off := 52) (tgt := 119) G dX3_totalOf_67 c3 (by decide) rfl ?_
        refine x_aload_n G rfl dX3_totalOf_119 0 rfl ?_
        refine x_iload_n G rfl dX3_totalOf_120 1 rfl ?_
        refine x_iconst (v := (0 : Int32)) G dX3_totalOf_121 (by decide) ?_
        refine x_cVd4 (As := [.int p0, .int (0 : Int32)]) (rest := []) G [] XSub.rf (tX3_carried G.noTraces h) (lw_V q1842 q1844 qs37 q70 q1845) cdX3_carried 3 0 rfl rfl rfl (by decide) (by decide) rfl (Nat.le_of_ble_eq_true rfl) (Nat.zero_le _) (Nat.zero_le _) dX3_totalOf_122 (fun r_23 lefts_24 rights_25 results_26 dn_27 h => ?_)
        show X g 4 125 [(0, .ref h0), (1, .int p0), (2, .int p1), (3, .int p2)] [.double r_23] (mW h0 ad (xT g) thrown many isWide amountOf accountOf dayOf given givenOf runs runWide runWay runTotal runSteps lefts_24 rights_25 results_26 x_1 dn_27 stepsAt keeps order att spareAmount spareAccount spareDay cured cureOf shareOf big unitsOf spare halfFrom halfMany halfDone halfTotal (0 : Int32)) 0 0
        exact x_retd13 G Q dX3_totalOf_125 lefts_24 rights_25 results_26 x_1 dn_27 order att unitsOf halfFrom halfMany halfDone halfTotal (0 : Int32) h XSub.rf (Nat.le_refl _) (Nat.le_refl _)
      replace h := h.2 c3
      by_cases c4 : p1 = (12 : Int32)
      · replace h := h.1 c4
        refine x_tableAt (off := 59) (tgt := 126) G dX3_totalOf_67 c4 (by decide) rfl ?_
        refine x_aload_n G rfl dX3_totalOf_126 0 rfl ?_
        refine x_iload_n G rfl dX3_totalOf_127 1 rfl ?_
        refine x_iconst (v := (1 : Int32)) G dX3_totalOf_128 (by decide) ?_
        refine x_cVd4 (As := [.int p0, .int (1 : Int32)]) (rest := []) G [] XSub.rf (tX3_carried G.noTraces h) (lw_V q1842 q1844 qs37 q70 q1845) cdX3_carried 3 0 rfl rfl rfl (by decide) (by decide) rfl (Nat.le_of_ble_eq_true rfl) (Nat.zero_le _) (Nat.zero_le _) dX3_totalOf_129 (fun r_28 lefts_29 rights_30 results_31 dn_32 h => ?_)
        show X g 4 132 [(0, .ref h0), (1, .int p0), (2, .int p1), (3, .int p2)] [.double r_28] (mW h0 ad (xT g) thrown many isWide amountOf accountOf dayOf given givenOf runs runWide runWay runTotal runSteps lefts_29 rights_30 results_31 x_1 dn_32 stepsAt keeps order att spareAmount spareAccount spareDay cured cureOf shareOf big unitsOf spare halfFrom halfMany halfDone halfTotal (0 : Int32)) 0 0
        exact x_retd13 G Q dX3_totalOf_132 lefts_29 rights_30 results_31 x_1 dn_32 order att unitsOf halfFrom halfMany halfDone halfTotal (0 : Int32) h XSub.rf (Nat.le_refl _) (Nat.le_refl _)
      replace h := h.2 c4
      refine x_tableNo (tgt := 133) G dX3_totalOf_67 [(8 : Int32), (9 : Int32), (10 : Int32), (11 : Int32), (12 : Int32)] (by decide) (by decide) (List.forall_mem_cons.mpr ⟨c0, (List.forall_mem_cons.mpr ⟨c1, (List.forall_mem_cons.mpr ⟨c2, (List.forall_mem_cons.mpr ⟨c3, (List.forall_mem_cons.mpr ⟨c4, (fun _ h => absurd h List.not_mem_nil)⟩)⟩)⟩)⟩)⟩) rfl ?_
      refine x_aload_n G rfl dX3_totalOf_133 0 rfl ?_
      refine x_iload_n G rfl dX3_totalOf_134 1 rfl ?_
      refine x_iload_n G rfl dX3_totalOf_135 2 rfl ?_
      refine x_cVd5 (As := [.int p0, .int p1]) (rest := []) G [] XSub.rf (tX3_inOrder G.noTraces h) (lw_V q1850 q1852 qs39 q70 q1853) cdX3_inOrder 3 0 rfl rfl rfl (by decide) (by decide) rfl (Nat.le_of_ble_eq_true rfl) (Nat.zero_le _) (Nat.zero_le _) dX3_totalOf_136 (fun r_33 lefts_34 rights_35 results_36 dn_37 order_38 h => ?_)
      show X g 4 139 [(0, .ref h0), (1, .int p0), (2, .int p1), (3, .int p2)] [.double r_33] (mW h0 ad (xT g) thrown many isWide amountOf accountOf dayOf given givenOf runs runWide runWay runTotal runSteps lefts_34 rights_35 results_36 x_1 dn_37 stepsAt keeps order_38 att spareAmount spareAccount spareDay cured cureOf shareOf big unitsOf spare halfFrom halfMany halfDone halfTotal (0 : Int32)) 0 0
      exact x_retd13 G Q dX3_totalOf_139 lefts_34 rights_35 results_36 x_1 dn_37 order_38 att unitsOf halfFrom halfMany halfDone halfTotal (0 : Int32) h XSub.rf (Nat.le_refl _) (Nat.le_refl _)
    · replace h := h.2 c
      refine x_aload_n G rfl dX3_totalOf_43 0 rfl ?_
      refine m_get_1 G dX3_totalOf_44 ?_
      refine x_iload_n G rfl dX3_totalOf_47 1 rfl ?_
      obtain ⟨hz, h⟩ := h
      refine m_ald_1 G hz dX3_totalOf_48 ?_
      refine x_if_ne (tgt := 56) G dX3_totalOf_49 rfl (fun c => ?_) (fun c => ?_)
      · replace h := h.1 c
        refine x_aload_n G rfl dX3_totalOf_56 0 rfl ?_
        refine m_get_3 G dX3_totalOf_57 ?_
        refine x_bipush (v := (60 : Int32)) G dX3_totalOf_60 (by decide) ?_
        refine x_iload_n G rfl dX3_totalOf_62 1 rfl ?_
        refine x_imul G dX3_totalOf_63 ?_
        obtain ⟨hz, h⟩ := h
        refine m_ald_3 G hz dX3_totalOf_64 ?_
        exact x_retd13 G Q dX3_totalOf_65 lefts rights results x_1 (0 : Int32) order att unitsOf halfFrom halfMany halfDone halfTotal (0 : Int32) h XSub.rf (Nat.le_refl _) (Nat.le_refl _)
      · replace h := h.2 c
        refine x_dconst0 G dX3_totalOf_52 ?_
        refine x_goto (tgt := 65) G dX3_totalOf_53 rfl ?_
        exact x_retd13 G Q dX3_totalOf_65 lefts rights results x_1 (0 : Int32) order att unitsOf halfFrom halfMany halfDone halfTotal (0 : Int32) h XSub.rf (Nat.le_refl _) (Nat.le_refl _)
  · replace h := h.2 c
    refine x_aload_n G rfl dX3_totalOf_26 0 rfl ?_
    refine x_iload_n G rfl dX3_totalOf_27 1 rfl ?_
    refine x_iload_n G rfl dX3_totalOf_28 3 rfl ?_
    refine x_cVd2 (As := [.int p0, .int p2]) (rest := []) G [] XSub.rf (tX3_byUnits G.noTraces h) (lw_V q1806 q1808 qs28 q70 q1809) cdX3_byUnits 3 0 rfl rfl rfl (by decide) (by decide) rfl (Nat.le_of_ble_eq_true rfl) (Nat.zero_le _) (Nat.zero_le _) dX3_totalOf_29 (fun r_39 unitsOf_40 isFar_41 h => ?_)
    show X g 4 32 [(0, .ref h0), (1, .int p0), (2, .int p1), (3, .int p2)] [.double r_39] (mW h0 ad (xT g) thrown many isWide amountOf accountOf dayOf given givenOf runs runWide runWay runTotal runSteps lefts rights results x_1 (0 : Int32) stepsAt keeps order att spareAmount spareAccount spareDay cured cureOf shareOf big unitsOf_40 spare halfFrom halfMany halfDone halfTotal isFar_41) 0 0
    exact x_retd13 G Q dX3_totalOf_32 lefts rights results x_1 (0 : Int32) order att unitsOf_40 halfFrom halfMany halfDone halfTotal isFar_41 h XSub.rf (Nat.le_refl _) (Nat.le_refl _)
theorem cdX3_run : yX3_run.cls = RX3 ∧ yX3_run.cls ≠ "java/lang/invoke/MethodHandle" ∧ yX3_run.cls ≠ "java/lang/invoke/VarHandle" ∧ (parseMethodDescriptor yX3_run.desc).map (fun d => d.parameters.length) = some 3 := by decide +kernel
def wX3_run_J113 (many : Nat → Int32) (isWide : Nat → Int32) (amountOf : Nat → UInt64) (accountOf : Nat → Int32) (dayOf : Nat → Int32) (givenOf : Nat → Int32) (runs : Int32) (runWide : Nat → Int32) (runWay : Nat → Int32) (runTotal : Nat → UInt64) (runSteps : Nat → Int32) (lefts : Nat → UInt64) (rights : Nat → UInt64) (results : Nat → UInt64) (wide : Int32) (dn : Int32) (order : Nat → Int32) (att : Nat → UInt64) (unitsOf : Int64) (halfFrom : Nat → Int32) (halfMany : Nat → Int32) (halfDone : Nat → Int32) (halfTotal : Nat → UInt64) (isFar : Int32) (p0 : Int32) (p1 : Int32) (p2 : Int32) (K : Int32 → Int32 → Int32 → (Nat → Int32) → (Nat → Int32) → (Nat → UInt64) → (Nat → Int32) → (Nat → UInt64) → (Nat → UInt64) → (Nat → UInt64) → Int32 → Int32 → Int32 → Int32 → (Nat → Int32) → (Nat → UInt64) → Int64 → (Nat → Int32) → (Nat → Int32) → (Nat → Int32) → (Nat → UInt64) → Int32 → Prop) : Int32 → Int32 → Prop := fun (s_4 : Int32) (thrown_5 : Int32) => (isB s_4 ∧ (∀ x_6 : Int32, x_6 = ((60 : Int32) * runs) → (wX3_totalOf p0 p1 p2 many isWide amountOf accountOf dayOf givenOf lefts rights results wide dn x_6 s_4 order att unitsOf halfFrom halfMany halfDone halfTotal isFar (fun (r_7 : UInt64) (lefts_8 : Nat → UInt64) (rights_9 : Nat → UInt64) (results_10 : Nat → UInt64) (wide_11 : Int32) (dn_12 : Int32) (order_13 : Nat → Int32) (att_14 : Nat → UInt64) (unitsOf_15 : Int64) (halfFrom_16 : Nat → Int32) (halfMany_17 : Nat → Int32) (halfDone_18 : Nat → Int32) (halfTotal_19 : Nat → UInt64) (isFar_20 : Int32) => ((isFar_20 = (0 : Int32) → ((¬ runs = (60 : Int32) → (vp_in runs 60 ∧ (∀ runWide_21 : Nat → Int32, runWide_21 = upd runWide runs.toNatClampNeg (vp_nar .boolean wide_11) → (vp_in runs 60 ∧ (∀ runWay_22 : Nat → Int32, runWay_22 = upd runWay runs.toNatClampNeg p1 → (vp_in runs 60 ∧ (∀ runTotal_23 : Nat → UInt64, runTotal_23 = vf_upd runTotal runs.toNatClampNeg r_7 → (vp_in runs 60 ∧ (∀ runSteps_24 : Nat → Int32, runSteps_24 = upd runSteps runs.toNatClampNeg dn_12 → (∀ x_25 : Int32, x_25 = (runs + (1 : Int32)) → K (x_25 - (1 : Int32)) thrown_5 x_25 runWide_21 runWay_22 runTotal_23 runSteps_24 lefts_8 rights_9 results_10 wide_11 dn_12 x_6 (0 : Int32) order_13 att_14 unitsOf_15 halfFrom_16 halfMany_17 halfDone_18 halfTotal_19 isFar_20)))))))))) ∧ (runs = (60 : Int32) → K (-103 : Int32) thrown_5 runs runWide runWay runTotal runSteps lefts_8 rights_9 results_10 wide_11 dn_12 x_6 (0 : Int32) order_13 att_14 unitsOf_15 halfFrom_16 halfMany_17 halfDone_18 halfTotal_19 isFar_20))) ∧ (¬ isFar_20 = (0 : Int32) → K (-105 : Int32) thrown_5 runs runWide runWay runTotal runSteps lefts_8 rights_9 results_10 wide_11 dn_12 x_6 (0 : Int32) order_13 att_14 unitsOf_15 halfFrom_16 halfMany_17 halfDone_18 halfTotal_19 isFar_20))))))
def wX3_run_J56 (many : Nat → Int32) (isWide : Nat → Int32) (amountOf : Nat → UInt64) (accountOf : Nat → Int32) (dayOf : Nat → Int32) (given : Nat → Int32) (givenOf : Nat → Int32) (runs : Int32) (runWide : Nat → Int32) (runWay : Nat → Int32) (runTotal : Nat → UInt64) (runSteps : Nat → Int32) (lefts : Nat → UInt64) (rights : Nat → UInt64) (results : Nat → UInt64) (wide : Int32) (dn : Int32) (stepsAt : Int32) (keeps : Int32) (order : Nat → Int32) (att : Nat → UInt64) (unitsOf : Int64) (halfFrom : Nat → Int32) (halfMany : Nat → Int32) (halfDone : Nat → Int32) (halfTotal : Nat → UInt64) (isFar : Int32) (p0 : Int32) (p1 : Int32) (p2 : Int32) (K : Int32 → Int32 → Int32 → (Nat → Int32) → (Nat → Int32) → (Nat → UInt64) → (Nat → Int32) → (Nat → UInt64) → (Nat → UInt64) → (Nat → UInt64) → Int32 → Int32 → Int32 → Int32 → (Nat → Int32) → (Nat → UInt64) → Int64 → (Nat → Int32) → (Nat → Int32) → (Nat → Int32) → (Nat → UInt64) → Int32 → Prop) : Int32 → Prop := fun (thrown_2 : Int32) => (wX3_faultOf p0 many (fun (r_3 : Int32) => ((r_3 = (0 : Int32) → ((¬ p1 = (6 : Int32) → (((60 : Int32) ≤ runs → (wX3_run_J113 many isWide amountOf accountOf dayOf givenOf runs runWide runWay runTotal runSteps lefts rights results wide dn order att unitsOf halfFrom halfMany halfDone halfTotal isFar p0 p1 p2 K (0 : Int32) r_3)) ∧ (¬ (60 : Int32) ≤ runs → (wX3_run_J113 many isWide amountOf accountOf dayOf givenOf runs runWide runWay runTotal runSteps lefts rights results wide dn order att unitsOf halfFrom halfMany halfDone halfTotal isFar p0 p1 p2 K (1 : Int32) r_3)))) ∧ (p1 = (6 : Int32) → (vp_in p0 12 ∧ (vp_in p0 12 ∧ (((many p0.toNatClampNeg) ≤ (given p0.toNatClampNeg) → (((60 : Int32) ≤ runs → (wX3_run_J113 many isWide amountOf accountOf dayOf givenOf runs runWide runWay runTotal runSteps lefts rights results wide dn order att unitsOf halfFrom halfMany halfDone halfTotal isFar p0 p1 p2 K (0 : Int32) r_3)) ∧ (¬ (60 : Int32) ≤ runs → (wX3_run_J113 many isWide amountOf accountOf dayOf givenOf runs runWide runWay runTotal runSteps lefts rights results wide dn order att unitsOf halfFrom halfMany halfDone halfTotal isFar p0 p1 p2 K (1 : Int32) r_3)))) ∧ (¬ (many p0.toNatClampNeg) ≤ (given p0.toNatClampNeg) → K (-104 : Int32) r_3 runs runWide runWay runTotal runSteps lefts rights results wide dn stepsAt keeps order att unitsOf halfFrom halfMany halfDone halfTotal isFar))))))) ∧ (¬ r_3 = (0 : Int32) → K (0 : Int32) r_3 runs runWide runWay runTotal runSteps lefts rights results wide dn stepsAt keeps order att unitsOf halfFrom halfMany halfDone halfTotal isFar))))
def wX3_run (p0 : Int32) (p1 : Int32) (p2 : Int32) (thrown : Int32) (many : Nat → Int32) (isWide : Nat → Int32) (amountOf : Nat → UInt64) (accountOf : Nat → Int32) (dayOf : Nat → Int32) (given : Nat → Int32) (givenOf : Nat → Int32) (runs : Int32) (runWide : Nat → Int32) (runWay : Nat → Int32) (runTotal : Nat → UInt64) (runSteps : Nat → Int32) (lefts : Nat → UInt64) (rights : Nat → UInt64) (results : Nat → UInt64) (wide : Int32) (dn : Int32) (stepsAt : Int32) (keeps : Int32) (order : Nat → Int32) (att : Nat → UInt64) (unitsOf : Int64) (halfFrom : Nat → Int32) (halfMany : Nat → Int32) (halfDone : Nat → Int32) (halfTotal : Nat → UInt64) (isFar : Int32) (K : Int32 → Int32 → Int32 → (Nat → Int32) → (Nat → Int32) → (Nat → UInt64) → (Nat → Int32) → (Nat → UInt64) → (Nat → UInt64) → (Nat → UInt64) → Int32 → Int32 → Int32 → Int32 → (Nat → Int32) → (Nat → UInt64) → Int64 → (Nat → Int32) → (Nat → Int32) → (Nat → Int32) → (Nat → UInt64) → Int32 → Prop) : Prop := (wX3_in p1.toInt64 (0 : Int64) (13 : Int64) (fun (r_1 : Int32) => ((r_1 = (0 : Int32) → K (-102 : Int32) (0 : Int32) runs runWide runWay runTotal runSteps lefts rights results wide dn stepsAt keeps order att unitsOf halfFrom halfMany halfDone halfTotal isFar) ∧ (¬ r_1 = (0 : Int32) → ((¬ p1 = (9 : Int32) → ((¬ p1 = (13 : Int32) → (wX3_run_J56 many isWide amountOf accountOf dayOf given givenOf runs runWide runWay runTotal runSteps lefts rights results wide dn stepsAt keeps order att unitsOf halfFrom halfMany halfDone halfTotal isFar p0 p1 p2 K (0 : Int32))) ∧ (p1 = (13 : Int32) → (wX3_in p2.toInt64 (0 : Int64) (6 : Int64) (fun (r_26 : Int32) => ((¬ r_26 = (0 : Int32) → (wX3_run_J56 many isWide amountOf accountOf dayOf given givenOf runs runWide runWay runTotal runSteps lefts rights results wide dn stepsAt keeps order att unitsOf halfFrom halfMany halfDone halfTotal isFar p0 p1 p2 K (0 : Int32))) ∧ (r_26 = (0 : Int32) → K (-102 : Int32) (0 : Int32) runs runWide runWay runTotal runSteps lefts rights results wide dn stepsAt keeps order att unitsOf halfFrom halfMany halfDone halfTotal isFar))))))) ∧ (p1 = (9 : Int32) → (wX3_in p2.toInt64 (1 : Int64) (60 : Int64) (fun (r_27 : Int32) => ((r_27 = (0 : Int32) → K (-102 : Int32) (0 : Int32) runs runWide runWay runTotal runSteps lefts rights results wide dn stepsAt keeps order att unitsOf halfFrom halfMany halfDone halfTotal isFar) ∧ (¬ r_27 = (0 : Int32) → ((¬ p1 = (13 : Int32) → (wX3_run_J56 many isWide amountOf accountOf dayOf given givenOf runs runWide runWay runTotal runSteps lefts rights results wide dn stepsAt keeps order att unitsOf halfFrom halfMany halfDone halfTotal isFar p0 p1 p2 K (0 : Int32))) ∧ (p1 = (13 : Int32) → (wX3_in p2.toInt64 (0 : Int64) (6 : Int64) (fun (r_28 : Int32) => ((¬ r_28 = (0 : Int32) → (wX3_run_J56 many isWide amountOf accountOf dayOf given givenOf runs runWide runWay runTotal runSteps lefts rights results wide dn stepsAt keeps order att unitsOf halfFrom halfMany halfDone halfTotal isFar p0 p1 p2 K (0 : Int32))) ∧ (r_28 = (0 : Int32) → K (-102 : Int32) (0 : Int32) runs runWide runWay runTotal runSteps lefts rights results wide dn stepsAt keeps order att unitsOf halfFrom halfMany halfDone halfTotal isFar))))))))))))))))
set_option maxRecDepth 20000 in
theorem kX3_run_J113 {g : XG} {h0 : Nat} {ad : Nat → Nat} {many : Nat → Int32} {isWide : Nat → Int32} {amountOf : Nat → UInt64} {accountOf : Nat → Int32} {dayOf : Nat → Int32} {given : Nat → Int32} {givenOf : Nat → Int32} {runs : Int32} {runWide : Nat → Int32} {runWay : Nat → Int32} {runTotal : Nat → UInt64} {runSteps : Nat → Int32} {lefts : Nat → UInt64} {rights : Nat → UInt64} {results : Nat → UInt64} {wide : Int32} {dn : Int32} {stepsAt : Int32} {keeps : Int32} {order : Nat → Int32} {att : Nat → UInt64} {spareAmount : Nat → UInt64} {spareAccount : Nat → Int32} {spareDay : Nat → Int32} {cured : Int32} {cureOf : Nat → Int32} {shareOf : Nat → Int32} {big : Nat → Int32} {unitsOf : Int64} {spare : Int32} {halfFrom : Nat → Int32} {halfMany : Nat → Int32} {halfDone : Nat → Int32} {halfTotal : Nat → UInt64} {isFar : Int32} {p0 : Int32} {p1 : Int32} {p2 : Int32} {K : Int32 → Int32 → Int32 → (Nat → Int32) → (Nat → Int32) → (Nat → UInt64) → (Nat → Int32) → (Nat → UInt64) → (Nat → UInt64) → (Nat → UInt64) → Int32 → Int32 → Int32 → Int32 → (Nat → Int32) → (Nat → UInt64) → Int64 → (Nat → Int32) → (Nat → Int32) → (Nat → Int32) → (Nat → UInt64) → Int32 → Prop} (G : XO g RX3 cX3_run 6 6 0 0) (Q : XQi21 g FieldType.int 0 0 (fun (thrown' : Int32) (runs' : Int32) (runWide' : Nat → Int32) (runWay' : Nat → Int32) (runTotal' : Nat → UInt64) (runSteps' : Nat → Int32) (lefts' : Nat → UInt64) (rights' : Nat → UInt64) (results' : Nat → UInt64) (wide' : Int32) (dn' : Int32) (stepsAt' : Int32) (keeps' : Int32) (order' : Nat → Int32) (att' : Nat → UInt64) (unitsOf' : Int64) (halfFrom' : Nat → Int32) (halfMany' : Nat → Int32) (halfDone' : Nat → Int32) (halfTotal' : Nat → UInt64) (isFar' : Int32) => mW h0 ad (xT g) thrown' many isWide amountOf accountOf dayOf given givenOf runs' runWide' runWay' runTotal' runSteps' lefts' rights' results' wide' dn' stepsAt' keeps' order' att' spareAmount spareAccount spareDay cured cureOf shareOf big unitsOf' spare halfFrom' halfMany' halfDone' halfTotal' isFar') K) : ∀ (s_4 : Int32) (thrown_5 : Int32), wX3_run_J113 many isWide amountOf accountOf dayOf givenOf runs runWide runWay runTotal runSteps lefts rights results wide dn order att unitsOf halfFrom halfMany halfDone halfTotal isFar p0 p1 p2 K s_4 thrown_5 → X g 6 113 [(0, .ref h0), (1, .int p0), (2, .int p1), (3, .int p2)] [.int s_4, .ref h0] (mW h0 ad (xT g) thrown_5 many isWide amountOf accountOf dayOf given givenOf runs runWide runWay runTotal runSteps lefts rights results wide dn stepsAt keeps order att spareAmount spareAccount spareDay cured cureOf shareOf big unitsOf spare halfFrom halfMany halfDone halfTotal isFar) 0 0 := by
  intro s_4 thrown_5 h
  unfold wX3_run_J113 at h
  obtain ⟨hb, h⟩ := h
  refine m_put_19 G hb dX3_run_113 ?_
  refine x_aload_n G rfl dX3_run_116 0 rfl ?_
  refine x_bipush (v := (60 : Int32)) G dX3_run_117 (by decide) ?_
  refine x_aload_n G rfl dX3_run_119 0 rfl ?_
  refine m_get_8 G dX3_run_120 ?_
  refine x_imul G dX3_run_123 ?_
  refine x_topi (fun x_6 ex_6 => ?_)
  replace h := h x_6 ex_6
  refine m_put_18 G dX3_run_124 ?_
  refine x_aload_n G rfl dX3_run_127 0 rfl ?_
  refine x_iload_n G rfl dX3_run_128 1 rfl ?_
  refine x_iload_n G rfl dX3_run_129 2 rfl ?_
  refine x_iload_n G rfl dX3_run_130 3 rfl ?_
  refine x_cVd13 (As := [.int p0, .int p1, .int p2]) (rest := []) G [] XSub.rf (tX3_totalOf G.noTraces h) (lw_V q1802 q1804 qs27 q70 q1805) cdX3_totalOf 3 0 rfl rfl rfl (by decide) (by decide) rfl (Nat.le_of_ble_eq_true rfl) (Nat.zero_le _) (Nat.zero_le _) dX3_run_131 (fun r_7 lefts_8 rights_9 results_10 wide_11 dn_12 order_13 att_14 unitsOf_15 halfFrom_16 halfMany_17 halfDone_18 halfTotal_19 isFar_20 h => ?_)
  show X g 6 134 [(0, .ref h0), (1, .int p0), (2, .int p1), (3, .int p2)] [.double r_7] (mW h0 ad (xT g) thrown_5 many isWide amountOf accountOf dayOf given givenOf runs runWide runWay runTotal runSteps lefts_8 rights_9 results_10 wide_11 dn_12 x_6 s_4 order_13 att_14 spareAmount spareAccount spareDay cured cureOf shareOf big unitsOf_15 spare halfFrom_16 halfMany_17 halfDone_18 halfTotal_19 isFar_20) 0 0
  refine x_dstore (lv' := [(4, .double r_7), (0, .ref h0), (1, .int p0), (2, .int p1), (3, .int p2)]) G dX3_run_134 (by decide) rfl ?_
  refine x_aload_n G rfl dX3_run_136 1 rfl ?_
  refine x_iconst (v := (0 : Int32)) G dX3_run_137 (by decide) ?_
  refine m_put_19 G isB_0 dX3_run_138 ?_
  refine x_aload_n G rfl dX3_run_141 1 rfl ?_
  refine m_get_35 G dX3_run_142 ?_
  refine x_if_eq (tgt := 151) G dX3_run_145 rfl (fun c => ?_) (fun c => ?_)
  · replace h := h.1 c
    refine x_aload_n G rfl dX3_run_151 1 rfl ?_
    refine m_get_8 G dX3_run_152 ?_
    refine x_bipush (v := (60 : Int32)) G dX3_run_155 (by decide) ?_
    refine x_icmp_ne (tgt := 163) G dX3_run_157 rfl (fun c => ?_) (fun c => ?_)
    · replace h := h.1 c
      refine x_aload_n G rfl dX3_run_163 1 rfl ?_
      refine m_get_9 G dX3_run_164 ?_
      refine x_aload_n G rfl dX3_run_167 1 rfl ?_
      refine m_get_8 G dX3_run_168 ?_
      refine x_aload_n G rfl dX3_run_171 1 rfl ?_
      refine m_get_16 G dX3_run_172 ?_
      obtain ⟨hz, h⟩ := h
      refine m_ast_9 G hz dX3_run_175 (fun runWide_21 erunWide_21 => ?_)
      replace h := h runWide_21 erunWide_21
      refine x_aload_n G rfl dX3_run_176 1 rfl ?_
      refine m_get_10 G dX3_run_177 ?_
      refine x_aload_n G rfl dX3_run_180 1 rfl ?_
      refine m_get_8 G dX3_run_181 ?_
      refine x_iload_n G rfl dX3_run_184 3 rfl ?_
      obtain ⟨hz, h⟩ := h
      refine m_ast_10 G hz dX3_run_185 (fun runWay_22 erunWay_22 => ?_)
      replace h := h runWay_22 erunWay_22
      refine x_aload_n G rfl dX3_run_186 1 rfl ?_
      refine m_get_11 G dX3_run_187 ?_
      refine x_aload_n G rfl dX3_run_190 1 rfl ?_
      refine m_get_8 G dX3_run_191 ?_
      refine x_dload G dX3_run_194 0 rfl ?_
      obtain ⟨hz, h⟩ := h
      refine m_ast_11 G hz dX3_run_196 (fun runTotal_23 erunTotal_23 => ?_)
      replace h := h runTotal_23 erunTotal_23
      refine x_aload_n G rfl dX3_run_197 1 rfl ?_
      refine m_get_12 G dX3_run_198 ?_
      refine x_aload_n G rfl dX3_run_201 1 rfl ?_
      refine m_get_8 G dX3_run_202 ?_
      refine x_aload_n G rfl dX3_run_205 1 rfl ?_
      refine m_get_17 G dX3_run_206 ?_
      obtain ⟨hz, h⟩ := h
      refine m_ast_12 G hz dX3_run_209 (fun runSteps_24 erunSteps_24 => ?_)
      replace h := h runSteps_24 erunSteps_24
      refine x_aload_n G rfl dX3_run_210 1 rfl ?_
      refine x_dup G dX3_run_211 rfl ?_
      refine m_get_8 G dX3_run_212 ?_
      refine x_iconst (v := (1 : Int32)) G dX3_run_215 (by decide) ?_
      refine x_iadd G dX3_run_216 ?_
      refine x_topi (fun x_25 ex_25 => ?_)
      replace h := h x_25 ex_25
      refine m_put_8 G dX3_run_217 ?_
      refine x_aload_n G rfl dX3_run_220 1 rfl ?_
      refine m_get_8 G dX3_run_221 ?_
      refine x_iconst (v := (1 : Int32)) G dX3_run_224 (by decide) ?_
      refine x_isub G dX3_run_225 ?_
      exact x_reti21 G Q dX3_run_226 rfl thrown_5 x_25 runWide_21 runWay_22 runTotal_23 runSteps_24 lefts_8 rights_9 results_10 wide_11 dn_12 x_6 (0 : Int32) order_13 att_14 unitsOf_15 halfFrom_16 halfMany_17 halfDone_18 halfTotal_19 isFar_20 h XSub.rf (Nat.le_refl _) (Nat.le_refl _)
    · replace h := h.2 c
      refine x_bipush (v := (-103 : Int32)) G dX3_run_160 (by decide) ?_
      exact x_reti21 G Q dX3_run_162 rfl thrown_5 runs runWide runWay runTotal runSteps lefts_8 rights_9 results_10 wide_11 dn_12 x_6 (0 : Int32) order_13 att_14 unitsOf_15 halfFrom_16 halfMany_17 halfDone_18 halfTotal_19 isFar_20 h XSub.rf (Nat.le_refl _) (Nat.le_refl _)
  · replace h := h.2 c
    refine x_bipush (v := (-105 : Int32)) G dX3_run_148 (by decide) ?_
    exact x_reti21 G Q dX3_run_150 rfl thrown_5 runs runWide runWay runTotal runSteps lefts_8 rights_9 results_10 wide_11 dn_12 x_6 (0 : Int32) order_13 att_14 unitsOf_15 halfFrom_16 halfMany_17 halfDone_18 halfTotal_19 isFar_20 h XSub.rf (Nat.le_refl _) (Nat.le_refl _)
set_option maxRecDepth 20000 in
theorem kX3_run_J56 {g : XG} {h0 : Nat} {ad : Nat → Nat} {many : Nat → Int32} {isWide : Nat → Int32} {amountOf : Nat → UInt64} {accountOf : Nat → Int32} {dayOf : Nat → Int32} {given : Nat → Int32} {givenOf : Nat → Int32} {runs : Int32} {runWide : Nat → Int32} {runWay : Nat → Int32} {runTotal : Nat → UInt64} {runSteps : Nat → Int32} {lefts : Nat → UInt64} {rights : Nat → UInt64} {results : Nat → UInt64} {wide : Int32} {dn : Int32} {stepsAt : Int32} {keeps : Int32} {order : Nat → Int32} {att : Nat → UInt64} {spareAmount : Nat → UInt64} {spareAccount : Nat → Int32} {spareDay : Nat → Int32} {cured : Int32} {cureOf : Nat → Int32} {shareOf : Nat → Int32} {big : Nat → Int32} {unitsOf : Int64} {spare : Int32} {halfFrom : Nat → Int32} {halfMany : Nat → Int32} {halfDone : Nat → Int32} {halfTotal : Nat → UInt64} {isFar : Int32} {p0 : Int32} {p1 : Int32} {p2 : Int32} {K : Int32 → Int32 → Int32 → (Nat → Int32) → (Nat → Int32) → (Nat → UInt64) → (Nat → Int32) → (Nat → UInt64) → (Nat → UInt64) → (Nat → UInt64) → Int32 → Int32 → Int32 → Int32 → (Nat → Int32) → (Nat → UInt64) → Int64 → (Nat → Int32) → (Nat → Int32) → (Nat → Int32) → (Nat → UInt64) → Int32 → Prop} (G : XO g RX3 cX3_run 6 6 0 0) (Q : XQi21 g FieldType.int 0 0 (fun (thrown' : Int32) (runs' : Int32) (runWide' : Nat → Int32) (runWay' : Nat → Int32) (runTotal' : Nat → UInt64) (runSteps' : Nat → Int32) (lefts' : Nat → UInt64) (rights' : Nat → UInt64) (results' : Nat → UInt64) (wide' : Int32) (dn' : Int32) (stepsAt' : Int32) (keeps' : Int32) (order' : Nat → Int32) (att' : Nat → UInt64) (unitsOf' : Int64) (halfFrom' : Nat → Int32) (halfMany' : Nat → Int32) (halfDone' : Nat → Int32) (halfTotal' : Nat → UInt64) (isFar' : Int32) => mW h0 ad (xT g) thrown' many isWide amountOf accountOf dayOf given givenOf runs' runWide' runWay' runTotal' runSteps' lefts' rights' results' wide' dn' stepsAt' keeps' order' att' spareAmount spareAccount spareDay cured cureOf shareOf big unitsOf' spare halfFrom' halfMany' halfDone' halfTotal' isFar') K) : ∀ (thrown_2 : Int32), wX3_run_J56 many isWide amountOf accountOf dayOf given givenOf runs runWide runWay runTotal runSteps lefts rights results wide dn stepsAt keeps order att unitsOf halfFrom halfMany halfDone halfTotal isFar p0 p1 p2 K thrown_2 → X g 6 56 [(0, .ref h0), (1, .int p0), (2, .int p1), (3, .int p2)] [] (mW h0 ad (xT g) thrown_2 many isWide amountOf accountOf dayOf given givenOf runs runWide runWay runTotal runSteps lefts rights results wide dn stepsAt keeps order att spareAmount spareAccount spareDay cured cureOf shareOf big unitsOf spare halfFrom halfMany halfDone halfTotal isFar) 0 0 := by
  intro thrown_2 h
  unfold wX3_run_J56 at h
  refine x_aload_n G rfl dX3_run_56 0 rfl ?_
  refine x_aload_n G rfl dX3_run_57 0 rfl ?_
  refine x_iload_n G rfl dX3_run_58 1 rfl ?_
  refine x_cVi0 (As := [.int p0]) (rest := [.ref h0]) G [] XSub.rf (tX3_faultOf G.noTraces h) (lw_V q1669 q1671 qs21 q70 q1672) cdX3_faultOf 3 0 rfl rfl rfl (by decide) (by decide) rfl (Nat.le_of_ble_eq_true rfl) (Nat.zero_le _) (Nat.zero_le _) dX3_run_59 (fun r_3 h => ?_)
  show X g 6 62 [(0, .ref h0), (1, .int p0), (2, .int p1), (3, .int p2)] [.int r_3, .ref h0] (mW h0 ad (xT g) thrown_2 many isWide amountOf accountOf dayOf given givenOf runs runWide runWay runTotal runSteps lefts rights results wide dn stepsAt keeps order att spareAmount spareAccount spareDay cured cureOf shareOf big unitsOf spare halfFrom halfMany halfDone halfTotal isFar) 0 0
  refine m_put_0 G dX3_run_62 ?_
  refine x_aload_n G rfl dX3_run_65 0 rfl ?_
  refine m_get_0 G dX3_run_66 ?_
  refine x_if_eq (tgt := 74) G dX3_run_69 rfl (fun c => ?_) (fun c => ?_)
  · replace h := h.1 c
    refine x_iload_n G rfl dX3_run_74 2 rfl ?_
    refine x_bipush (v := (6 : Int32)) G dX3_run_75 (by decide) ?_
    refine x_icmp_ne (tgt := 98) G dX3_run_77 rfl (fun c => ?_) (fun c => ?_)
    · replace h := h.1 c
      refine x_aload_n G rfl dX3_run_98 0 rfl ?_
      refine x_aload_n G rfl dX3_run_99 0 rfl ?_
      refine m_get_8 G dX3_run_100 ?_
      refine x_bipush (v := (60 : Int32)) G dX3_run_103 (by decide) ?_
      refine x_icmp_ge (tgt := 112) G dX3_run_105 rfl (fun c => ?_) (fun c => ?_)
      · replace h := h.1 c
        refine x_iconst (v := (0 : Int32)) G dX3_run_112 (by decide) ?_
        refine kX3_run_J113 G Q  _ _ h
      · replace h := h.2 c
        refine x_iconst (v := (1 : Int32)) G dX3_run_108 (by decide) ?_
        refine x_goto (tgt := 113) G dX3_run_109 rfl ?_
        refine kX3_run_J113 G Q  _ _ h
    · replace h := h.2 c
      refine x_aload_n G rfl dX3_run_80 0 rfl ?_
      refine m_get_6 G dX3_run_81 ?_
      refine x_iload_n G rfl dX3_run_84 1 rfl ?_
      obtain ⟨hz, h⟩ := h
      refine m_ald_6 G hz dX3_run_85 ?_
      refine x_aload_n G rfl dX3_run_86 0 rfl ?_
      refine m_get_1 G dX3_run_87 ?_
      refine x_iload_n G rfl dX3_run_90 1 rfl ?_
      obtain ⟨hz, h⟩ := h
      refine m_ald_1 G hz dX3_run_91 ?_
      refine x_icmp_ge (tgt := 98) G dX3_run_92 rfl (fun c => ?_) (fun c => ?_)
      · replace h := h.1 c
        refine x_aload_n G rfl dX3_run_98 0 rfl ?_
        refine x_aload_n G rfl dX3_run_99 0 rfl ?_
        refine m_get_8 G dX3_run_100 ?_
        refine x_bipush (v := (60 : Int32)) G dX3_run_103 (by decide) ?_
        refine x_icmp_ge (tgt := 112) G dX3_run_105 rfl (fun c => ?_) (fun c => ?_)
        · replace h := h.1 c
          refine x_iconst (v := (0 : Int32)) G dX3_run_112 (by decide) ?_
          refine kX3_run_J113 G Q  _ _ h
        · replace h := h.2 c
          refine x_iconst (v := (1 : Int32)) G dX3_run_108 (by decide) ?_
          refine x_goto (tgt := 113) G dX3_run_109 rfl ?_
          refine kX3_run_J113 G Q  _ _ h
      · replace h := h.2 c
        refine x_bipush (v := (-104 : Int32)) G dX3_run_95 (by decide) ?_
        exact x_reti21 G Q dX3_run_97 rfl r_3 runs runWide runWay runTotal runSteps lefts rights results wide dn stepsAt keeps order att unitsOf halfFrom halfMany halfDone halfTotal isFar h XSub.rf (Nat.le_refl _) (Nat.le_refl _)
  · replace h := h.2 c
    refine x_iconst (v := (0 : Int32)) G dX3_run_72 (by decide) ?_
    exact x_reti21 G Q dX3_run_73 rfl r_3 runs runWide runWay runTotal runSteps lefts rights results wide dn stepsAt keeps order att unitsOf halfFrom halfMany halfDone halfTotal isFar h XSub.rf (Nat.le_refl _) (Nat.le_refl _)
set_option maxRecDepth 20000 in
theorem tX3_run {l : Launch} {D : va_G} {ta : Nat → ClassId} {h0 : Nat} {ad : Nat → Nat} {thrown : Int32} {many : Nat → Int32} {isWide : Nat → Int32} {amountOf : Nat → UInt64} {accountOf : Nat → Int32} {dayOf : Nat → Int32} {given : Nat → Int32} {givenOf : Nat → Int32} {runs : Int32} {runWide : Nat → Int32} {runWay : Nat → Int32} {runTotal : Nat → UInt64} {runSteps : Nat → Int32} {lefts : Nat → UInt64} {rights : Nat → UInt64} {results : Nat → UInt64} {wide : Int32} {dn : Int32} {stepsAt : Int32} {keeps : Int32} {order : Nat → Int32} {att : Nat → UInt64} {spareAmount : Nat → UInt64} {spareAccount : Nat → Int32} {spareDay : Nat → Int32} {cured : Int32} {cureOf : Nat → Int32} {shareOf : Nat → Int32} {big : Nat → Int32} {unitsOf : Int64} {spare : Int32} {halfFrom : Nat → Int32} {halfMany : Nat → Int32} {halfDone : Nat → Int32} {halfTotal : Nat → UInt64} {isFar : Int32} {p0 : Int32} {p1 : Int32} {p2 : Int32} {K : Int32 → Int32 → Int32 → (Nat → Int32) → (Nat → Int32) → (Nat → UInt64) → (Nat → Int32) → (Nat → UInt64) → (Nat → UInt64) → (Nat → UInt64) → Int32 → Int32 → Int32 → Int32 → (Nat → Int32) → (Nat → UInt64) → Int64 → (Nat → Int32) → (Nat → Int32) → (Nat → Int32) → (Nat → UInt64) → Int32 → Prop} (hlt : l.stackTraces = false) (h : wX3_run p0 p1 p2 thrown many isWide amountOf accountOf dayOf given givenOf runs runWide runWay runTotal runSteps lefts rights results wide dn stepsAt keeps order att unitsOf halfFrom halfMany halfDone halfTotal isFar K) : SMi21 l D ta yX3_run cX3_run 6 FieldType.int 6 [.ref h0, .int p0, .int p1, .int p2] (mW h0 ad ta thrown many isWide amountOf accountOf dayOf given givenOf runs runWide runWay runTotal runSteps lefts rights results wide dn stepsAt keeps order att spareAmount spareAccount spareDay cured cureOf shareOf big unitsOf spare halfFrom halfMany halfDone halfTotal isFar) (fun (thrown' : Int32) (runs' : Int32) (runWide' : Nat → Int32) (runWay' : Nat → Int32) (runTotal' : Nat → UInt64) (runSteps' : Nat → Int32) (lefts' : Nat → UInt64) (rights' : Nat → UInt64) (results' : Nat → UInt64) (wide' : Int32) (dn' : Int32) (stepsAt' : Int32) (keeps' : Int32) (order' : Nat → Int32) (att' : Nat → UInt64) (unitsOf' : Int64) (halfFrom' : Nat → Int32) (halfMany' : Nat → Int32) (halfDone' : Nat → Int32) (halfTotal' : Nat → UInt64) (isFar' : Int32) => mW h0 ad ta thrown' many isWide amountOf accountOf dayOf given givenOf runs' runWide' runWay' runTotal' runSteps' lefts' rights' results' wide' dn' stepsAt' keeps' order' att' spareAmount spareAccount spareDay cured cureOf shareOf big unitsOf' spare halfFrom' halfMany' halfDone' halfTotal' isFar') 0 0 K := by
  refine x_sti21 hlt (plainFor_of_name (by decide +kernel)) (Nat.le_of_ble_eq_true rfl) (fun g G hl hD hT Q => ?_)
  subst hl; subst hD; subst hT
  unfold wX3_run at h
  show X g 6 0 [(0, .ref h0), (1, .int p0), (2, .int p1), (3, .int p2)] [] (mW h0 ad (xT g) thrown many isWide amountOf accountOf dayOf given givenOf runs runWide runWay runTotal runSteps lefts rights results wide dn stepsAt keeps order att spareAmount spareAccount spareDay cured cureOf shareOf big unitsOf spare halfFrom halfMany halfDone halfTotal isFar) 0 0
  refine x_aload_n G rfl dX3_run_0 0 rfl ?_
  refine x_iconst (v := (0 : Int32)) G dX3_run_1 (by decide) ?_
  refine m_put_0 G dX3_run_2 ?_
  refine x_iload_n G rfl dX3_run_5 2 rfl ?_
  refine x_i2l G dX3_run_6 ?_
  refine x_lconst (v := (0 : Int64)) G dX3_run_7 (by decide) ?_
  refine x_ldc2 G q1800 dX3_run_8 ?_
  refine x_cPi (As := [.long p1.toInt64, .long (0 : Int64), .long (13 : Int64)]) (rest := []) G (tX3_in G.noTraces h) (lw_S q1650 q1651 q70 q1652) cdX3_in (by decide) (by decide) rfl (Nat.le_of_ble_eq_true rfl) (Nat.zero_le _) (Nat.zero_le _) dX3_run_11 (fun r_1 h => ?_)
  refine x_if_eq (tgt := 53) G dX3_run_14 rfl (fun c => ?_) (fun c => ?_)
  · replace h := h.1 c
    refine x_bipush (v := (-102 : Int32)) G dX3_run_53 (by decide) ?_
    exact x_reti21 G Q dX3_run_55 rfl (0 : Int32) runs runWide runWay runTotal runSteps lefts rights results wide dn stepsAt keeps order att unitsOf halfFrom halfMany halfDone halfTotal isFar h XSub.rf (Nat.le_refl _) (Nat.le_refl _)
  · replace h := h.2 c
    refine x_iload_n G rfl dX3_run_17 2 rfl ?_
    refine x_bipush (v := (9 : Int32)) G dX3_run_18 (by decide) ?_
    refine x_icmp_ne (tgt := 35) G dX3_run_20 rfl (fun c => ?_) (fun c => ?_)
    · replace h := h.1 c
      refine x_iload_n G rfl dX3_run_35 2 rfl ?_
      refine x_bipush (v := (13 : Int32)) G dX3_run_36 (by decide) ?_
      refine x_icmp_ne (tgt := 56) G dX3_run_38 rfl (fun c => ?_) (fun c => ?_)
      · replace h := h.1 c
        refine kX3_run_J56 G Q  _ h
      · replace h := h.2 c
        refine x_iload_n G rfl dX3_run_41 3 rfl ?_
        refine x_i2l G dX3_run_42 ?_
        refine x_lconst (v := (0 : Int64)) G dX3_run_43 (by decide) ?_
        refine x_ldc2 G q1701 dX3_run_44 ?_
        refine x_cPi (As := [.long p2.toInt64, .long (0 : Int64), .long (6 : Int64)]) (rest := []) G (tX3_in G.noTraces h) (lw_S q1650 q1651 q70 q1652) cdX3_in (by decide) (by decide) rfl (Nat.le_of_ble_eq_true rfl) (Nat.zero_le _) (Nat.zero_le _) dX3_run_47 (fun r_26 h => ?_)
        refine x_if_ne (tgt := 56) G dX3_run_50 rfl (fun c => ?_) (fun c => ?_)
        · replace h := h.1 c
          refine kX3_run_J56 G Q  _ h
        · replace h := h.2 c
          refine x_bipush (v := (-102 : Int32)) G dX3_run_53 (by decide) ?_
          exact x_reti21 G Q dX3_run_55 rfl (0 : Int32) runs runWide runWay runTotal runSteps lefts rights results wide dn stepsAt keeps order att unitsOf halfFrom halfMany halfDone halfTotal isFar h XSub.rf (Nat.le_refl _) (Nat.le_refl _)
    · replace h := h.2 c
      refine x_iload_n G rfl dX3_run_23 3 rfl ?_
      refine x_i2l G dX3_run_24 ?_
      refine x_lconst (v := (1 : Int64)) G dX3_run_25 (by decide) ?_
      refine x_ldc2 G q1801 dX3_run_26 ?_
      refine x_cPi (As := [.long p2.toInt64, .long (1 : Int64), .long (60 : Int64)]) (rest := []) G (tX3_in G.noTraces h) (lw_S q1650 q1651 q70 q1652) cdX3_in (by decide) (by decide) rfl (Nat.le_of_ble_eq_true rfl) (Nat.zero_le _) (Nat.zero_le _) dX3_run_29 (fun r_27 h => ?_)
      refine x_if_eq (tgt := 53) G dX3_run_32 rfl (fun c => ?_) (fun c => ?_)
      · replace h := h.1 c
        refine x_bipush (v := (-102 : Int32)) G dX3_run_53 (by decide) ?_
        exact x_reti21 G Q dX3_run_55 rfl (0 : Int32) runs runWide runWay runTotal runSteps lefts rights results wide dn stepsAt keeps order att unitsOf halfFrom halfMany halfDone halfTotal isFar h XSub.rf (Nat.le_refl _) (Nat.le_refl _)
      · replace h := h.2 c
        refine x_iload_n G rfl dX3_run_35 2 rfl ?_
        refine x_bipush (v := (13 : Int32)) G dX3_run_36 (by decide) ?_
        refine x_icmp_ne (tgt := 56) G dX3_run_38 rfl (fun c => ?_) (fun c => ?_)
        · replace h := h.1 c
          refine kX3_run_J56 G Q  _ h
        · replace h := h.2 c
          refine x_iload_n G rfl dX3_run_41 3 rfl ?_
          refine x_i2l G dX3_run_42 ?_
          refine x_lconst (v := (0 : Int64)) G dX3_run_43 (by decide) ?_
          refine x_ldc2 G q1701 dX3_run_44 ?_
          refine x_cPi (As := [.long p2.toInt64, .long (0 : Int64), .long (6 : Int64)]) (rest := []) G (tX3_in G.noTraces h) (lw_S q1650 q1651 q70 q1652) cdX3_in (by decide) (by decide) rfl (Nat.le_of_ble_eq_true rfl) (Nat.zero_le _) (Nat.zero_le _) dX3_run_47 (fun r_28 h => ?_)
          refine x_if_ne (tgt := 56) G dX3_run_50 rfl (fun c => ?_) (fun c => ?_)
          · replace h := h.1 c
            refine kX3_run_J56 G Q  _ h
          · replace h := h.2 c
            refine x_bipush (v := (-102 : Int32)) G dX3_run_53 (by decide) ?_
            exact x_reti21 G Q dX3_run_55 rfl (0 : Int32) runs runWide runWay runTotal runSteps lefts rights results wide dn stepsAt keeps order att unitsOf halfFrom halfMany halfDone halfTotal isFar h XSub.rf (Nat.le_refl _) (Nat.le_refl _)
theorem cdX3_noRun : yX3_noRun.cls = RX3 ∧ yX3_noRun.cls ≠ "java/lang/invoke/MethodHandle" ∧ yX3_noRun.cls ≠ "java/lang/invoke/VarHandle" ∧ (parseMethodDescriptor yX3_noRun.desc).map (fun d => d.parameters.length) = some 1 := by decide +kernel
def wX3_noRun (p0 : Int32) (runs : Int32) (K : Int32 → Prop) : Prop := (wX3_in p0.toInt64 (0 : Int64) ((runs - (1 : Int32)).toInt64) (fun (r_1 : Int32) => ((¬ r_1 = (0 : Int32) → K (0 : Int32)) ∧ (r_1 = (0 : Int32) → K (1 : Int32)))))
set_option maxRecDepth 20000 in
theorem tX3_noRun {l : Launch} {D : va_G} {ta : Nat → ClassId} {h0 : Nat} {ad : Nat → Nat} {thrown : Int32} {many : Nat → Int32} {isWide : Nat → Int32} {amountOf : Nat → UInt64} {accountOf : Nat → Int32} {dayOf : Nat → Int32} {given : Nat → Int32} {givenOf : Nat → Int32} {runs : Int32} {runWide : Nat → Int32} {runWay : Nat → Int32} {runTotal : Nat → UInt64} {runSteps : Nat → Int32} {lefts : Nat → UInt64} {rights : Nat → UInt64} {results : Nat → UInt64} {wide : Int32} {dn : Int32} {stepsAt : Int32} {keeps : Int32} {order : Nat → Int32} {att : Nat → UInt64} {spareAmount : Nat → UInt64} {spareAccount : Nat → Int32} {spareDay : Nat → Int32} {cured : Int32} {cureOf : Nat → Int32} {shareOf : Nat → Int32} {big : Nat → Int32} {unitsOf : Int64} {spare : Int32} {halfFrom : Nat → Int32} {halfMany : Nat → Int32} {halfDone : Nat → Int32} {halfTotal : Nat → UInt64} {isFar : Int32} {p0 : Int32} {K : Int32 → Prop} (hlt : l.stackTraces = false) (h : wX3_noRun p0 runs K) : SMi0 l D ta yX3_noRun cX3_noRun 2 FieldType.boolean 2 [.ref h0, .int p0] (mW h0 ad ta thrown many isWide amountOf accountOf dayOf given givenOf runs runWide runWay runTotal runSteps lefts rights results wide dn stepsAt keeps order att spareAmount spareAccount spareDay cured cureOf shareOf big unitsOf spare halfFrom halfMany halfDone halfTotal isFar) (mW h0 ad ta thrown many isWide amountOf accountOf dayOf given givenOf runs runWide runWay runTotal runSteps lefts rights results wide dn stepsAt keeps order att spareAmount spareAccount spareDay cured cureOf shareOf big unitsOf spare halfFrom halfMany halfDone halfTotal isFar) 0 0 K := by
  refine x_sti0 hlt (plainFor_of_name (by decide +kernel)) (Nat.le_of_ble_eq_true rfl) (fun g G hl hD hT Q => ?_)
  subst hl; subst hD; subst hT
  unfold wX3_noRun at h
  show X g 2 0 [(0, .ref h0), (1, .int p0)] [] (mW h0 ad (xT g) thrown many isWide amountOf accountOf dayOf given givenOf runs runWide runWay runTotal runSteps lefts rights results wide dn stepsAt keeps order att spareAmount spareAccount spareDay cured cureOf shareOf big unitsOf spare halfFrom halfMany halfDone halfTotal isFar) 0 0
  refine x_iload_n G rfl dX3_noRun_0 1 rfl ?_
  refine x_i2l G dX3_noRun_1 ?_
  refine x_lconst (v := (0 : Int64)) G dX3_noRun_2 (by decide) ?_
  refine x_aload_n G rfl dX3_noRun_3 0 rfl ?_
  refine m_get_8 G dX3_noRun_4 ?_
  refine x_iconst (v := (1 : Int32)) G dX3_noRun_7 (by decide) ?_
  refine x_isub G dX3_noRun_8 ?_
  refine x_i2l G dX3_noRun_9 ?_
  refine x_cPi (As := [.long p0.toInt64, .long (0 : Int64), .long (runs - (1 : Int32)).toInt64]) (rest := []) G (tX3_in G.noTraces h) (lw_S q1650 q1651 q70 q1652) cdX3_in (by decide) (by decide) rfl (Nat.le_of_ble_eq_true rfl) (Nat.zero_le _) (Nat.zero_le _) dX3_noRun_10 (fun r_1 h => ?_)
  refine x_if_ne (tgt := 20) G dX3_noRun_13 rfl (fun c => ?_) (fun c => ?_)
  · replace h := h.1 c
    refine x_iconst (v := (0 : Int32)) G dX3_noRun_20 (by decide) ?_
    exact x_reti0 G Q dX3_noRun_21 rfl  h XSub.rf (Nat.le_refl _) (Nat.le_refl _)
  · replace h := h.2 c
    refine x_iconst (v := (1 : Int32)) G dX3_noRun_16 (by decide) ?_
    refine x_goto (tgt := 21) G dX3_noRun_17 rfl ?_
    exact x_reti0 G Q dX3_noRun_21 rfl  h XSub.rf (Nat.le_refl _) (Nat.le_refl _)
theorem cdX3_total : yX3_total.cls = RX3 ∧ yX3_total.cls ≠ "java/lang/invoke/MethodHandle" ∧ yX3_total.cls ≠ "java/lang/invoke/VarHandle" ∧ (parseMethodDescriptor yX3_total.desc).map (fun d => d.parameters.length) = some 1 := by decide +kernel
def wX3_total (p0 : Int32) (thrown : Int32) (runs : Int32) (runWide : Nat → Int32) (runTotal : Nat → UInt64) (K : Int64 → Int32 → Prop) : Prop := (wX3_noRun p0 runs (fun (r_1 : Int32) => ((r_1 = (0 : Int32) → (vp_in p0 60 ∧ (vp_in p0 60 ∧ (wX3_bitsOf (runWide p0.toNatClampNeg) (runTotal p0.toNatClampNeg) (fun (r_2 : Int64) => K r_2 (0 : Int32)))))) ∧ (¬ r_1 = (0 : Int32) → K (-101 : Int64) (0 : Int32)))))
set_option maxRecDepth 20000 in
theorem tX3_total {l : Launch} {D : va_G} {ta : Nat → ClassId} {h0 : Nat} {ad : Nat → Nat} {thrown : Int32} {many : Nat → Int32} {isWide : Nat → Int32} {amountOf : Nat → UInt64} {accountOf : Nat → Int32} {dayOf : Nat → Int32} {given : Nat → Int32} {givenOf : Nat → Int32} {runs : Int32} {runWide : Nat → Int32} {runWay : Nat → Int32} {runTotal : Nat → UInt64} {runSteps : Nat → Int32} {lefts : Nat → UInt64} {rights : Nat → UInt64} {results : Nat → UInt64} {wide : Int32} {dn : Int32} {stepsAt : Int32} {keeps : Int32} {order : Nat → Int32} {att : Nat → UInt64} {spareAmount : Nat → UInt64} {spareAccount : Nat → Int32} {spareDay : Nat → Int32} {cured : Int32} {cureOf : Nat → Int32} {shareOf : Nat → Int32} {big : Nat → Int32} {unitsOf : Int64} {spare : Int32} {halfFrom : Nat → Int32} {halfMany : Nat → Int32} {halfDone : Nat → Int32} {halfTotal : Nat → UInt64} {isFar : Int32} {p0 : Int32} {K : Int64 → Int32 → Prop} (hlt : l.stackTraces = false) (h : wX3_total p0 thrown runs runWide runTotal K) : SMl1 l D ta yX3_total cX3_total 2 FieldType.long 4 [.ref h0, .int p0] (mW h0 ad ta thrown many isWide amountOf accountOf dayOf given givenOf runs runWide runWay runTotal runSteps lefts rights results wide dn stepsAt keeps order att spareAmount spareAccount spareDay cured cureOf shareOf big unitsOf spare halfFrom halfMany halfDone halfTotal isFar) (fun (thrown' : Int32) => mW h0 ad ta thrown' many isWide amountOf accountOf dayOf given givenOf runs runWide runWay runTotal runSteps lefts rights results wide dn stepsAt keeps order att spareAmount spareAccount spareDay cured cureOf shareOf big unitsOf spare halfFrom halfMany halfDone halfTotal isFar) 0 0 K := by
  refine x_stl1 hlt (plainFor_of_name (by decide +kernel)) (Nat.le_of_ble_eq_true rfl) (fun g G hl hD hT Q => ?_)
  subst hl; subst hD; subst hT
  unfold wX3_total at h
  show X g 2 0 [(0, .ref h0), (1, .int p0)] [] (mW h0 ad (xT g) thrown many isWide amountOf accountOf dayOf given givenOf runs runWide runWay runTotal runSteps lefts rights results wide dn stepsAt keeps order att spareAmount spareAccount spareDay cured cureOf shareOf big unitsOf spare halfFrom halfMany halfDone halfTotal isFar) 0 0
  refine x_aload_n G rfl dX3_total_0 0 rfl ?_
  refine x_iconst (v := (0 : Int32)) G dX3_total_1 (by decide) ?_
  refine m_put_0 G dX3_total_2 ?_
  refine x_aload_n G rfl dX3_total_5 0 rfl ?_
  refine x_iload_n G rfl dX3_total_6 1 rfl ?_
  refine x_cVi0 (As := [.int p0]) (rest := []) G [] XSub.rf (tX3_noRun G.noTraces h) (lw_V q1867 q1869 qs42 q70 q1870) cdX3_noRun 3 0 rfl rfl rfl (by decide) (by decide) rfl (Nat.le_of_ble_eq_true rfl) (Nat.zero_le _) (Nat.zero_le _) dX3_total_7 (fun r_1 h => ?_)
  show X g 2 10 [(0, .ref h0), (1, .int p0)] [.int r_1] (mW h0 ad (xT g) (0 : Int32) many isWide amountOf accountOf dayOf given givenOf runs runWide runWay runTotal runSteps lefts rights results wide dn stepsAt keeps order att spareAmount spareAccount spareDay cured cureOf shareOf big unitsOf spare halfFrom halfMany halfDone halfTotal isFar) 0 0
  refine x_if_eq (tgt := 19) G dX3_total_10 rfl (fun c => ?_) (fun c => ?_)
  · replace h := h.1 c
    refine x_aload_n G rfl dX3_total_19 0 rfl ?_
    refine m_get_9 G dX3_total_20 ?_
    refine x_iload_n G rfl dX3_total_23 1 rfl ?_
    obtain ⟨hz, h⟩ := h
    refine m_ald_9 G hz dX3_total_24 ?_
    refine x_aload_n G rfl dX3_total_25 0 rfl ?_
    refine m_get_11 G dX3_total_26 ?_
    refine x_iload_n G rfl dX3_total_29 1 rfl ?_
    obtain ⟨hz, h⟩ := h
    refine m_ald_11 G hz dX3_total_30 ?_
    refine x_cPl (As := [.int (runWide p0.toNatClampNeg), .double (runTotal p0.toNatClampNeg)]) (rest := []) G (tX3_bitsOf G.noTraces h) (lw_S q1688 q1689 q70 q1690) cdX3_bitsOf (by decide) (by decide) rfl (Nat.le_of_ble_eq_true rfl) (Nat.zero_le _) (Nat.zero_le _) dX3_total_31 (fun r_2 h => ?_)
    exact x_retl1 G Q dX3_total_34 (0 : Int32) h XSub.rf (Nat.le_refl _) (Nat.le_refl _)
  · replace h := h.2 c
    refine x_ldc2 G q1871 dX3_total_13 ?_
    refine x_goto (tgt := 34) G dX3_total_16 rfl ?_
    exact x_retl1 G Q dX3_total_34 (0 : Int32) h XSub.rf (Nat.le_refl _) (Nat.le_refl _)
