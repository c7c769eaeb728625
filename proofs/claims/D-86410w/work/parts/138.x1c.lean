/-! RoundingAuditor: units, sums, orders, shares. Printed by gen/x1.py -/
theorem cdX1_unitsOf : yX1_unitsOf.cls = RX1 ∧ yX1_unitsOf.cls ≠ "java/lang/invoke/MethodHandle" ∧ yX1_unitsOf.cls ≠ "java/lang/invoke/VarHandle" ∧ (parseMethodDescriptor yX1_unitsOf.desc).map (fun d => d.parameters.length) = some 2 := by decide +kernel
def wX1_unitsOf_N (p0 : UInt64) (p1 : Int32) (w1 : Nat → Int32) (K : Int64 → (Nat → Int32) → Prop) : Prop := (wX2_clear w1 (fun (w_1 : Nat → Int32) => (vf_n64 p0 ∧ (wX2_add (mAbs p0) (0 : Int32) w_1 (fun (w_2 : Nat → Int32) => (vp_in p1 7 ∧ (wX2_times (xTens p1.toNatClampNeg) w_2 (fun (w_4 : Nat → Int32) => (wX2_length w_4 (fun (r_5 : Int32) => ((r_5 ≤ (1134 : Int32) → (wX2_rounded (1074 : Int32) w_4 (fun (r_6 : Int64) => ((r_6 ≤ (1000000000000000 : Int64) → ((¬ dlt p0 FP.dconst0 → K r_6 w_4) ∧ (dlt p0 FP.dconst0 → K (-r_6) w_4))) ∧ (¬ r_6 ≤ (1000000000000000 : Int64) → False))))) ∧ (¬ r_5 ≤ (1134 : Int32) → False))))))))))))
set_option maxRecDepth 20000 in
theorem tX1_unitsOf_N {l : Launch} {D : va_G} {ta : Nat → ClassId} {h0 : Nat} {lg : Nat} {e1 : Nat} {e2 : Nat} {e3 : Nat} {rl : Nat} {cur : Int32} {sh : Nat} {e1w : Nat} {w1 : Nat → Int32} {p0 : UInt64} {p1 : Int32} {K : Int64 → (Nat → Int32) → Prop} (hlt : l.stackTraces = false) (h : wX1_unitsOf_N p0 p1 w1 K) : SMl1 l D ta yX1_unitsOf cX1_unitsOf 6 FieldType.long 5 [.ref h0, .double p0, .int p1] [(h0, .inr (0, [.ref lg, .ref e1, .ref e2, .ref e3, .ref rl, .int cur, .ref sh])), (e1, .inr (1, [.ref e1w])), (e1w, .inl (ta 2, 40, .inl w1))] (fun (w1' : Nat → Int32) => [(h0, .inr (0, [.ref lg, .ref e1, .ref e2, .ref e3, .ref rl, .int cur, .ref sh])), (e1, .inr (1, [.ref e1w])), (e1w, .inl (ta 2, 40, .inl w1'))]) 0 0 K := by
  refine x_stl1 hlt (plainFor_of_name (by decide +kernel)) (Nat.le_of_ble_eq_true rfl) (fun g G hl hD hT Q => ?_)
  subst hl; subst hD; subst hT
  unfold wX1_unitsOf_N at h
  show X g 6 0 [(0, .ref h0), (1, .double p0), (3, .int p1)] [] [(h0, .inr (0, [.ref lg, .ref e1, .ref e2, .ref e3, .ref rl, .int cur, .ref sh])), (e1, .inr (1, [.ref e1w])), (e1w, .inl ((xT g) 2, 40, .inl w1))] 0 0
  refine x_aload_n G rfl dX1_unitsOf_0 0 rfl ?_
  refine x_get G in_X1 0 rfl rfl 1 (by decide) q160 (fun _ h => h) rfl dX1_unitsOf_1 ?_
  refine x_cVv1 (wc := [(e1, .inr (1, [.ref e1w])), (e1w, .inl ((xT g) 2, 40, .inl w1))]) (As := []) (rest := []) G [(h0, .inr (0, [.ref lg, .ref e1, .ref e2, .ref e3, .ref rl, .int cur, .ref sh]))] (XSub.of [0, 1, 2] rfl (by decide)) (tX2_clear G.noTraces h) (lw_V q265 q266 q267 q66 q268) cdX2_clear 1 1 rfl rfl rfl (by decide) (by decide) rfl (Nat.le_of_ble_eq_true rfl) (Nat.le_of_ble_eq_true rfl) (Nat.le_of_ble_eq_true rfl) dX1_unitsOf_4 (fun w_1 h => ?_)
  show X g 6 7 [(0, .ref h0), (1, .double p0), (3, .int p1)] [] [(h0, .inr (0, [.ref lg, .ref e1, .ref e2, .ref e3, .ref rl, .int cur, .ref sh])), (e1, .inr (1, [.ref e1w])), (e1w, .inl ((xT g) 2, 40, .inl w_1))] 0 0
  refine x_aload_n G rfl dX1_unitsOf_7 0 rfl ?_
  refine x_get G in_X1 0 rfl rfl 1 (by decide) q160 (fun _ h => h) rfl dX1_unitsOf_8 ?_
  refine x_dload_n G rfl dX1_unitsOf_11 1 rfl ?_
  obtain ⟨hz0, h⟩ := h
  refine x_ovD1 G q321 q322 q85 q323 rfl rfl rmAbs_row (rmAbs_run hz0) (by decide) (Nat.le_of_ble_eq_true rfl) dX1_unitsOf_12 ?_
  refine x_iconst (v := (0 : Int32)) G dX1_unitsOf_15 (by decide) ?_
  refine x_cVv1 (wc := [(e1, .inr (1, [.ref e1w])), (e1w, .inl ((xT g) 2, 40, .inl w_1))]) (As := [.double (mAbs p0), .int (0 : Int32)]) (rest := []) G [(h0, .inr (0, [.ref lg, .ref e1, .ref e2, .ref e3, .ref rl, .int cur, .ref sh]))] (XSub.of [0, 1, 2] rfl (by decide)) (tX2_add G.noTraces h) (lw_V q269 q270 q271 q66 q272) cdX2_add 1 1 rfl rfl rfl (by decide) (by decide) rfl (Nat.le_of_ble_eq_true rfl) (Nat.le_of_ble_eq_true rfl) (Nat.le_of_ble_eq_true rfl) dX1_unitsOf_16 (fun w_2 h => ?_)
  show X g 6 19 [(0, .ref h0), (1, .double p0), (3, .int p1)] [] [(h0, .inr (0, [.ref lg, .ref e1, .ref e2, .ref e3, .ref rl, .int cur, .ref sh])), (e1, .inr (1, [.ref e1w])), (e1w, .inl ((xT g) 2, 40, .inl w_2))] 0 0
  refine x_aload_n G rfl dX1_unitsOf_19 0 rfl ?_
  refine x_get G in_X1 0 rfl rfl 1 (by decide) q160 (fun _ h => h) rfl dX1_unitsOf_20 ?_
  refine x_tens G q356 dX1_unitsOf_23 (fun t_3 hTt_3 => ?_)
  show X g 6 26 [(0, .ref h0), (1, .double p0), (3, .int p1)] [.ref t_3, .ref e1] [(h0, .inr (0, [.ref lg, .ref e1, .ref e2, .ref e3, .ref rl, .int cur, .ref sh])), (e1, .inr (1, [.ref e1w])), (e1w, .inl ((xT g) 2, 40, .inl w_2))] 0 0
  refine x_iload_n G rfl dX1_unitsOf_26 2 rfl ?_
  obtain ⟨hz, h⟩ := h
  refine x_tensld G hTt_3 hz dX1_unitsOf_27 ?_
  refine x_cVv1 (wc := [(e1, .inr (1, [.ref e1w])), (e1w, .inl ((xT g) 2, 40, .inl w_2))]) (As := [.long (xTens p1.toNatClampNeg)]) (rest := []) G [(h0, .inr (0, [.ref lg, .ref e1, .ref e2, .ref e3, .ref rl, .int cur, .ref sh]))] (XSub.of [0, 1, 2] rfl (by decide)) (tX2_times G.noTraces h) (lw_V q358 q359 q360 q66 q361) cdX2_times 1 1 rfl rfl rfl (by decide) (by decide) rfl (Nat.le_of_ble_eq_true rfl) (Nat.le_of_ble_eq_true rfl) (Nat.le_of_ble_eq_true rfl) dX1_unitsOf_28 (fun w_4 h => ?_)
  show X g 6 31 [(0, .ref h0), (1, .double p0), (3, .int p1)] [] [(h0, .inr (0, [.ref lg, .ref e1, .ref e2, .ref e3, .ref rl, .int cur, .ref sh])), (e1, .inr (1, [.ref e1w])), (e1w, .inl ((xT g) 2, 40, .inl w_4))] 0 0
  refine x_aload_n G rfl dX1_unitsOf_31 0 rfl ?_
  refine x_get G in_X1 0 rfl rfl 1 (by decide) q160 (fun _ h => h) rfl dX1_unitsOf_32 ?_
  refine x_cVi0 (wc := [(e1, .inr (1, [.ref e1w])), (e1w, .inl ((xT g) 2, 40, .inl w_4))]) (As := []) (rest := []) G [(h0, .inr (0, [.ref lg, .ref e1, .ref e2, .ref e3, .ref rl, .int cur, .ref sh]))] (XSub.of [0, 1, 2] rfl (by decide)) (tX2_length G.noTraces h) (lw_V q889 q298 q299 q66 q300) cdX2_length 1 1 rfl rfl rfl (by decide) (by decide) rfl (Nat.le_of_ble_eq_true rfl) (Nat.le_of_ble_eq_true rfl) (Nat.le_of_ble_eq_true rfl) dX1_unitsOf_35 (fun r_5 h => ?_)
  show X g 6 38 [(0, .ref h0), (1, .double p0), (3, .int p1)] [.int r_5] [(h0, .inr (0, [.ref lg, .ref e1, .ref e2, .ref e3, .ref rl, .int cur, .ref sh])), (e1, .inr (1, [.ref e1w])), (e1w, .inl ((xT g) 2, 40, .inl w_4))] 0 0
  refine x_sipush (v := (1134 : Int32)) G dX1_unitsOf_38 (by decide) ?_
  refine x_icmp_le (tgt := 52) G dX1_unitsOf_41 rfl (fun c => ?_) (fun c => ?_)
  · replace h := h.1 c
    refine x_aload_n G rfl dX1_unitsOf_52 0 rfl ?_
    refine x_get G in_X1 0 rfl rfl 1 (by decide) q160 (fun _ h => h) rfl dX1_unitsOf_53 ?_
    refine x_sipush (v := (1074 : Int32)) G dX1_unitsOf_56 (by decide) ?_
    refine x_cVl0 (wc := [(e1, .inr (1, [.ref e1w])), (e1w, .inl ((xT g) 2, 40, .inl w_4))]) (As := [.int (1074 : Int32)]) (rest := []) G [(h0, .inr (0, [.ref lg, .ref e1, .ref e2, .ref e3, .ref rl, .int cur, .ref sh]))] (XSub.of [0, 1, 2] rfl (by decide)) (tX2_rounded G.noTraces h) (lw_V q909 q309 q310 q66 q311) cdX2_rounded 1 1 rfl rfl rfl (by decide) (by decide) rfl (Nat.le_of_ble_eq_true rfl) (Nat.le_of_ble_eq_true rfl) (Nat.le_of_ble_eq_true rfl) dX1_unitsOf_59 (fun r_6 h => ?_)
    show X g 6 62 [(0, .ref h0), (1, .double p0), (3, .int p1)] [.long r_6] [(h0, .inr (0, [.ref lg, .ref e1, .ref e2, .ref e3, .ref rl, .int cur, .ref sh])), (e1, .inr (1, [.ref e1w])), (e1w, .inl ((xT g) 2, 40, .inl w_4))] 0 0
    refine x_lstore (lv' := [(4, .long r_6), (0, .ref h0), (1, .double p0), (3, .int p1)]) G dX1_unitsOf_62 (by decide) rfl ?_
    refine x_lload G dX1_unitsOf_64 0 rfl ?_
    refine x_ldc2 G q910 dX1_unitsOf_66 ?_
    refine x_lcmp_le (tgt := 81) G dX1_unitsOf_69 dX1_unitsOf_70 rfl (fun c => ?_) (fun c => ?_)
    · replace h := h.1 c
      refine x_dload_n G rfl dX1_unitsOf_81 2 rfl ?_
      refine x_dconst0 G dX1_unitsOf_82 ?_
      refine x_dcmpg_ge (tgt := 93) G dX1_unitsOf_83 dX1_unitsOf_84 rfl (fun c => ?_) (fun c => ?_)
      · replace h := h.1 c
        refine x_lload G dX1_unitsOf_93 0 rfl ?_
        exact x_retl1 G Q dX1_unitsOf_95 w_4 h XSub.rf (Nat.le_of_ble_eq_true rfl) (Nat.le_of_ble_eq_true rfl)
      · replace h := h.2 c
        refine x_lload G dX1_unitsOf_87 0 rfl ?_
        refine x_lneg G dX1_unitsOf_89 ?_
        refine x_goto (tgt := 95) G dX1_unitsOf_90 rfl ?_
        exact x_retl1 G Q dX1_unitsOf_95 w_4 h XSub.rf (Nat.le_of_ble_eq_true rfl) (Nat.le_of_ble_eq_true rfl)
    · replace h := h.2 c
      exact h.elim
  · replace h := h.2 c
    exact h.elim
def wX1_unitsOf_X (p0 : UInt64) (p1 : Int32) (w1 : Nat → Int32) (K : Int64 → (Nat → Int32) → Prop) (E : String → (Nat → Int32) → Prop) : Prop := (wX2_clear w1 (fun (w_1 : Nat → Int32) => (vf_n64 p0 ∧ (wX2_add (mAbs p0) (0 : Int32) w_1 (fun (w_2 : Nat → Int32) => (vp_in p1 7 ∧ (wX2_times (xTens p1.toNatClampNeg) w_2 (fun (w_4 : Nat → Int32) => (wX2_length w_4 (fun (r_5 : Int32) => ((r_5 ≤ (1134 : Int32) → (wX2_rounded (1074 : Int32) w_4 (fun (r_6 : Int64) => ((r_6 ≤ (1000000000000000 : Int64) → False) ∧ (¬ r_6 ≤ (1000000000000000 : Int64) → (∀ a_7 : Nat, (wX7_init (E "RoundingAuditor$Far" w_4)))))))) ∧ (¬ r_5 ≤ (1134 : Int32) → (∀ a_8 : Nat, (wX7_init (E "RoundingAuditor$Far" w_4)))))))))))))))
set_option maxRecDepth 20000 in
theorem tX1_unitsOf_X {l : Launch} {D : va_G} {ta : Nat → ClassId} {h0 : Nat} {lg : Nat} {e1 : Nat} {e2 : Nat} {e3 : Nat} {rl : Nat} {cur : Int32} {sh : Nat} {e1w : Nat} {w1 : Nat → Int32} {p0 : UInt64} {p1 : Int32} {K : Int64 → (Nat → Int32) → Prop} {E : String → (Nat → Int32) → Prop} (hlt : l.stackTraces = false) (h : wX1_unitsOf_X p0 p1 w1 K E) : SXl1 l D ta yX1_unitsOf cX1_unitsOf 6 FieldType.long 5 [.ref h0, .double p0, .int p1] [(h0, .inr (0, [.ref lg, .ref e1, .ref e2, .ref e3, .ref rl, .int cur, .ref sh])), (e1, .inr (1, [.ref e1w])), (e1w, .inl (ta 2, 40, .inl w1))] (fun (w1' : Nat → Int32) => [(h0, .inr (0, [.ref lg, .ref e1, .ref e2, .ref e3, .ref rl, .int cur, .ref sh])), (e1, .inr (1, [.ref e1w])), (e1w, .inl (ta 2, 40, .inl w1'))]) 1 6 K E := by
  refine x_sxl1 hlt (by decide +kernel) (Nat.le_of_ble_eq_true rfl) (fun g G hl hD hT hN Q => ?_)
  subst hl; subst hD; subst hT
  unfold wX1_unitsOf_X at h
  show X g 6 0 [(0, .ref h0), (1, .double p0), (3, .int p1)] [] [(h0, .inr (0, [.ref lg, .ref e1, .ref e2, .ref e3, .ref rl, .int cur, .ref sh])), (e1, .inr (1, [.ref e1w])), (e1w, .inl ((xT g) 2, 40, .inl w1))] 0 0
  refine x_aload_n G rfl dX1_unitsOf_0 0 rfl ?_
  refine x_get G in_X1 0 rfl rfl 1 (by decide) q160 (fun _ h => h) rfl dX1_unitsOf_1 ?_
  refine x_cVv1 (wc := [(e1, .inr (1, [.ref e1w])), (e1w, .inl ((xT g) 2, 40, .inl w1))]) (As := []) (rest := []) G [(h0, .inr (0, [.ref lg, .ref e1, .ref e2, .ref e3, .ref rl, .int cur, .ref sh]))] (XSub.of [0, 1, 2] rfl (by decide)) (tX2_clear G.noTraces h) (lw_V q265 q266 q267 q66 q268) cdX2_clear 1 1 rfl rfl rfl (by decide) (by decide) rfl (Nat.le_of_ble_eq_true rfl) (Nat.le_of_ble_eq_true rfl) (Nat.le_of_ble_eq_true rfl) dX1_unitsOf_4 (fun w_1 h => ?_)
  show X g 6 7 [(0, .ref h0), (1, .double p0), (3, .int p1)] [] [(h0, .inr (0, [.ref lg, .ref e1, .ref e2, .ref e3, .ref rl, .int cur, .ref sh])), (e1, .inr (1, [.ref e1w])), (e1w, .inl ((xT g) 2, 40, .inl w_1))] 0 0
  refine x_aload_n G rfl dX1_unitsOf_7 0 rfl ?_
  refine x_get G in_X1 0 rfl rfl 1 (by decide) q160 (fun _ h => h) rfl dX1_unitsOf_8 ?_
  refine x_dload_n G rfl dX1_unitsOf_11 1 rfl ?_
  obtain ⟨hz0, h⟩ := h
  refine x_ovD1 G q321 q322 q85 q323 rfl rfl rmAbs_row (rmAbs_run hz0) (by decide) (Nat.le_of_ble_eq_true rfl) dX1_unitsOf_12 ?_
  refine x_iconst (v := (0 : Int32)) G dX1_unitsOf_15 (by decide) ?_
  refine x_cVv1 (wc := [(e1, .inr (1, [.ref e1w])), (e1w, .inl ((xT g) 2, 40, .inl w_1))]) (As := [.double (mAbs p0), .int (0 : Int32)]) (rest := []) G [(h0, .inr (0, [.ref lg, .ref e1, .ref e2, .ref e3, .ref rl, .int cur, .ref sh]))] (XSub.of [0, 1, 2] rfl (by decide)) (tX2_add G.noTraces h) (lw_V q269 q270 q271 q66 q272) cdX2_add 1 1 rfl rfl rfl (by decide) (by decide) rfl (Nat.le_of_ble_eq_true rfl) (Nat.le_of_ble_eq_true rfl) (Nat.le_of_ble_eq_true rfl) dX1_unitsOf_16 (fun w_2 h => ?_)
  show X g 6 19 [(0, .ref h0), (1, .double p0), (3, .int p1)] [] [(h0, .inr (0, [.ref lg, .ref e1, .ref e2, .ref e3, .ref rl, .int cur, .ref sh])), (e1, .inr (1, [.ref e1w])), (e1w, .inl ((xT g) 2, 40, .inl w_2))] 0 0
  refine x_aload_n G rfl dX1_unitsOf_19 0 rfl ?_
  refine x_get G in_X1 0 rfl rfl 1 (by decide) q160 (fun _ h => h) rfl dX1_unitsOf_20 ?_
  refine x_tens G q356 dX1_unitsOf_23 (fun t_3 hTt_3 => ?_)
  show X g 6 26 [(0, .ref h0), (1, .double p0), (3, .int p1)] [.ref t_3, .ref e1] [(h0, .inr (0, [.ref lg, .ref e1, .ref e2, .ref e3, .ref rl, .int cur, .ref sh])), (e1, .inr (1, [.ref e1w])), (e1w, .inl ((xT g) 2, 40, .inl w_2))] 0 0
  refine x_iload_n G rfl dX1_unitsOf_26 2 rfl ?_
  obtain ⟨hz, h⟩ := h
  refine x_tensld G hTt_3 hz dX1_unitsOf_27 ?_
  refine x_cVv1 (wc := [(e1, .inr (1, [.ref e1w])), (e1w, .inl ((xT g) 2, 40, .inl w_2))]) (As := [.long (xTens p1.toNatClampNeg)]) (rest := []) G [(h0, .inr (0, [.ref lg, .ref e1, .ref e2, .ref e3, .ref rl, .int cur, .ref sh]))] (XSub.of [0, 1, 2] rfl (by decide)) (tX2_times G.noTraces h) (lw_V q358 q359 q360 q66 q361) cdX2_times 1 1 rfl rfl rfl (by decide) (by decide) rfl (Nat.le_of_ble_eq_true rfl) (Nat.le_of_ble_eq_true rfl) (Nat.le_of_ble_eq_true rfl) dX1_unitsOf_28 (fun w_4 h => ?_)
  show X g 6 31 [(0, .ref h0), (1, .double p0), (3, .int p1)] [] [(h0, .inr (0, [.ref lg, .ref e1, .ref e2, .ref e3, .ref rl, .int cur, .ref sh])), (e1, .inr (1, [.ref e1w])), (e1w, .inl ((xT g) 2, 40, .inl w_4))] 0 0
  refine x_aload_n G rfl dX1_unitsOf_31 0 rfl ?_
  refine x_get G in_X1 0 rfl rfl 1 (by decide) q160 (fun _ h => h) rfl dX1_unitsOf_32 ?_
  refine x_cVi0 (wc := [(e1, .inr (1, [.ref e1w])), (e1w, .inl ((xT g) 2, 40, .inl w_4))]) (As := []) (rest := []) G [(h0, .inr (0, [.ref lg, .ref e1, .ref e2, .ref e3, .ref rl, .int cur, .ref sh]))] (XSub.of [0, 1, 2] rfl (by decide)) (tX2_length G.noTraces h) (lw_V q889 q298 q299 q66 q300) cdX2_length 1 1 rfl rfl rfl (by decide) (by decide) rfl (Nat.le_of_ble_eq_true rfl) (Nat.le_of_ble_eq_true rfl) (Nat.le_of_ble_eq_true rfl) dX1_unitsOf_35 (fun r_5 h => ?_)
  show X g 6 38 [(0, .ref h0), (1, .double p0), (3, .int p1)] [.int r_5] [(h0, .inr (0, [.ref lg, .ref e1, .ref e2, .ref e3, .ref rl, .int cur, .ref sh])), (e1, .inr (1, [.ref e1w])), (e1w, .inl ((xT g) 2, 40, .inl w_4))] 0 0
  refine x_sipush (v := (1134 : Int32)) G dX1_unitsOf_38 (by decide) ?_
  refine x_icmp_le (tgt := 52) G dX1_unitsOf_41 rfl (fun c => ?_) (fun c => ?_)
  · replace h := h.1 c
    refine x_aload_n G rfl dX1_unitsOf_52 0 rfl ?_
    refine x_get G in_X1 0 rfl rfl 1 (by decide) q160 (fun _ h => h) rfl dX1_unitsOf_53 ?_
    refine x_sipush (v := (1074 : Int32)) G dX1_unitsOf_56 (by decide) ?_
    refine x_cVl0 (wc := [(e1, .inr (1, [.ref e1w])), (e1w, .inl ((xT g) 2, 40, .inl w_4))]) (As := [.int (1074 : Int32)]) (rest := []) G [(h0, .inr (0, [.ref lg, .ref e1, .ref e2, .ref e3, .ref rl, .int cur, .ref sh]))] (XSub.of [0, 1, 2] rfl (by decide)) (tX2_rounded G.noTraces h) (lw_V q909 q309 q310 q66 q311) cdX2_rounded 1 1 rfl rfl rfl (by decide) (by decide) rfl (Nat.le_of_ble_eq_true rfl) (Nat.le_of_ble_eq_true rfl) (Nat.le_of_ble_eq_true rfl) dX1_unitsOf_59 (fun r_6 h => ?_)
    show X g 6 62 [(0, .ref h0), (1, .double p0), (3, .int p1)] [.long r_6] [(h0, .inr (0, [.ref lg, .ref e1, .ref e2, .ref e3, .ref rl, .int cur, .ref sh])), (e1, .inr (1, [.ref e1w])), (e1w, .inl ((xT g) 2, 40, .inl w_4))] 0 0
    refine x_lstore (lv' := [(4, .long r_6), (0, .ref h0), (1, .double p0), (3, .int p1)]) G dX1_unitsOf_62 (by decide) rfl ?_
    refine x_lload G dX1_unitsOf_64 0 rfl ?_
    refine x_ldc2 G q910 dX1_unitsOf_66 ?_
    refine x_lcmp_le (tgt := 81) G dX1_unitsOf_69 dX1_unitsOf_70 rfl (fun c => ?_) (fun c => ?_)
    · replace h := h.1 c
      exact h.elim
    · replace h := h.2 c
      refine x_new (ci := 6) G in_X7 tyX7 tyX7_ok q884 q890 q88 rfl [.null, .null, .null, .null, .null, .int (0 : Int32)] dfX7 (Nat.le_of_ble_eq_true rfl) (Nat.le_of_ble_eq_true rfl) dX1_unitsOf_73 (fun a_7 => ?_)
      replace h := h a_7
      show X g 6 76 [(4, .long r_6), (0, .ref h0), (1, .double p0), (3, .int p1)] [.ref a_7] [(h0, .inr (0, [.ref lg, .ref e1, .ref e2, .ref e3, .ref rl, .int cur, .ref sh])), (e1, .inr (1, [.ref e1w])), (e1w, .inl ((xT g) 2, 40, .inl w_4)), (a_7, .inr (6, [.null, .null, .null, .null, .null, .int (0 : Int32)]))] 1 6
      refine x_dup G dX1_unitsOf_76 rfl ?_
      refine x_cIv0 (wc := [(a_7, .inr (6, [.null, .null, .null, .null, .null, .int (0 : Int32)]))]) (As := []) (rest := [.ref a_7]) G [(h0, .inr (0, [.ref lg, .ref e1, .ref e2, .ref e3, .ref rl, .int cur, .ref sh])), (e1, .inr (1, [.ref e1w])), (e1w, .inl ((xT g) 2, 40, .inl w_4))] (XSub.of [0, 1, 2, 3] rfl (by decide)) (tX7_init G.noTraces h) (lw_meth q900) q88 q898 q899 rfl cdX7_init.2 (by decide) (by decide) rfl (Nat.le_of_ble_eq_true rfl) (Nat.le_of_ble_eq_true rfl) (Nat.le_of_ble_eq_true rfl) dX1_unitsOf_77 (fun h => ?_)
      show X g 6 80 [(4, .long r_6), (0, .ref h0), (1, .double p0), (3, .int p1)] [.ref a_7] [(h0, .inr (0, [.ref lg, .ref e1, .ref e2, .ref e3, .ref rl, .int cur, .ref sh])), (e1, .inr (1, [.ref e1w])), (e1w, .inl ((xT g) 2, 40, .inl w_4)), (a_7, .inr (6, [.null, .null, .null, .null, .null, .int (0 : Int32)]))] 1 6
      refine x_athrow G 3 rfl rfl dX1_unitsOf_80 ?_
      exact x_ol1 G Q w_4 h (XSub.of [0, 1, 2] rfl (by decide)) (Nat.le_of_ble_eq_true rfl) (Nat.le_of_ble_eq_true rfl)
  · replace h := h.2 c
    refine x_new (ci := 6) G in_X7 tyX7 tyX7_ok q884 q890 q88 rfl [.null, .null, .null, .null, .null, .int (0 : Int32)] dfX7 (Nat.le_of_ble_eq_true rfl) (Nat.le_of_ble_eq_true rfl) dX1_unitsOf_44 (fun a_8 => ?_)
    replace h := h a_8
    show X g 6 47 [(0, .ref h0), (1, .double p0), (3, .int p1)] [.ref a_8] [(h0, .inr (0, [.ref lg, .ref e1, .ref e2, .ref e3, .ref rl, .int cur, .ref sh])), (e1, .inr (1, [.ref e1w])), (e1w, .inl ((xT g) 2, 40, .inl w_4)), (a_8, .inr (6, [.null, .null, .null, .null, .null, .int (0 : Int32)]))] 1 6
    refine x_dup G dX1_unitsOf_47 rfl ?_
    refine x_cIv0 (wc := [(a_8, .inr (6, [.null, .null, .null, .null, .null, .int (0 : Int32)]))]) (As := []) (rest := [.ref a_8]) G [(h0, .inr (0, [.ref lg, .ref e1, .ref e2, .ref e3, .ref rl, .int cur, .ref sh])), (e1, .inr (1, [.ref e1w])), (e1w, .inl ((xT g) 2, 40, .inl w_4))] (XSub.of [0, 1, 2, 3] rfl (by decide)) (tX7_init G.noTraces h) (lw_meth q900) q88 q898 q899 rfl cdX7_init.2 (by decide) (by decide) rfl (Nat.le_of_ble_eq_true rfl) (Nat.le_of_ble_eq_true rfl) (Nat.le_of_ble_eq_true rfl) dX1_unitsOf_48 (fun h => ?_)
    show X g 6 51 [(0, .ref h0), (1, .double p0), (3, .int p1)] [.ref a_8] [(h0, .inr (0, [.ref lg, .ref e1, .ref e2, .ref e3, .ref rl, .int cur, .ref sh])), (e1, .inr (1, [.ref e1w])), (e1w, .inl ((xT g) 2, 40, .inl w_4)), (a_8, .inr (6, [.null, .null, .null, .null, .null, .int (0 : Int32)]))] 1 6
    refine x_athrow G 3 rfl rfl dX1_unitsOf_51 ?_
    exact x_ol1 G Q w_4 h (XSub.of [0, 1, 2] rfl (by decide)) (Nat.le_of_ble_eq_true rfl) (Nat.le_of_ble_eq_true rfl)
theorem cdX1_units : yX1_units.cls = RX1 ∧ yX1_units.cls ≠ "java/lang/invoke/MethodHandle" ∧ yX1_units.cls ≠ "java/lang/invoke/VarHandle" ∧ (parseMethodDescriptor yX1_units.desc).map (fun d => d.parameters.length) = some 3 := by decide +kernel
def wX1_units_F (p0 : Int32) (p1 : Int32) (p2 : Int32) (lgf : Nat → Option Nat) (K : Int64 → Prop) (E : String → Prop) : Prop := (wX1_isIn p2.toInt64 (0 : Int64) (6 : Int64) (fun (r_1 : Int32) => ((¬ r_1 = (0 : Int32) → ((¬ vp_in p0 12 → E "java/lang/ArrayIndexOutOfBoundsException") ∧ (vp_in p0 12 → ((lgf p0.toNatClampNeg) = none ∧ E "java/lang/NullPointerException")))) ∧ (r_1 = (0 : Int32) → K (-102 : Int64)))))
set_option maxRecDepth 20000 in
theorem tX1_units_F {l : Launch} {D : va_G} {ta : Nat → ClassId} {h0 : Nat} {lg : Nat} {e1 : Nat} {e2 : Nat} {e3 : Nat} {rl : Nat} {cur : Int32} {sh : Nat} {lgf : Nat → Option Nat} {p0 : Int32} {p1 : Int32} {p2 : Int32} {K : Int64 → Prop} {E : String → Prop} (hlt : l.stackTraces = false) (h : wX1_units_F p0 p1 p2 lgf K E) : SHl0 l D ta yX1_units cX1_units 7 FieldType.long  [(28, 35, 36, 164)] 6 [.ref h0, .int p0, .int p1, .int p2] [(h0, .inr (0, [.ref lg, .ref e1, .ref e2, .ref e3, .ref rl, .int cur, .ref sh])), (lg, .inl (ta 6, 12, .inr (.inr (.inr (.inr lgf)))))] ([(h0, .inr (0, [.ref lg, .ref e1, .ref e2, .ref e3, .ref rl, .int cur, .ref sh])), (lg, .inl (ta 6, 12, .inr (.inr (.inr (.inr lgf)))))]) 3 222 K E := by
  refine x_shl0 hlt (by decide +kernel) (Nat.le_of_ble_eq_true rfl) (fun g G hl hD hT Q => ?_)
  subst hl; subst hD; subst hT
  unfold wX1_units_F at h
  show X g 7 0 [(0, .ref h0), (1, .int p0), (2, .int p1), (3, .int p2)] [] [(h0, .inr (0, [.ref lg, .ref e1, .ref e2, .ref e3, .ref rl, .int cur, .ref sh])), (lg, .inl ((xT g) 6, 12, .inr (.inr (.inr (.inr lgf)))))] 0 0
  refine x_iload_n G rfl dX1_units_0 3 rfl ?_
  refine x_i2l G dX1_units_1 ?_
  refine x_lconst (v := (0 : Int64)) G dX1_units_2 (by decide) ?_
  refine x_ldc2 G q354 dX1_units_3 ?_
  refine x_cPi (As := [.long p2.toInt64, .long (0 : Int64), .long (6 : Int64)]) (rest := []) G (tX1_isIn G.noTraces h) (lw_S q199 q200 q65 q201) cdX1_isIn (by decide) (by decide) rfl (Nat.le_of_ble_eq_true rfl) (Nat.le_of_ble_eq_true rfl) (Nat.le_of_ble_eq_true rfl) dX1_units_6 (fun r_1 h => ?_)
  refine x_if_ne (tgt := 16) G dX1_units_9 rfl (fun c => ?_) (fun c => ?_)
  · replace h := h.1 c
    refine x_aload_n G rfl dX1_units_16 0 rfl ?_
    refine x_get G in_X1 0 rfl rfl 0 (by decide) q159 (fun _ h => h) rfl dX1_units_17 ?_
    refine x_iload_n G rfl dX1_units_20 1 rfl ?_
    by_cases hz : vp_in p0 12
    case neg =>
      replace h := h.1 hz
      refine x_aaldZ G 1 rfl rfl (by decide) hz (Nat.le_of_ble_eq_true rfl) (Nat.le_of_ble_eq_true rfl) (Nat.le_of_ble_eq_true rfl) dX1_units_21 ?_
      exact x_ohl0 G Q (by decide) h XSub.rf (Nat.le_of_ble_eq_true rfl) (Nat.le_of_ble_eq_true rfl)
    replace h := h.2 hz
    obtain ⟨hq, h⟩ := h
    refine x_aald G 1 6 rfl rfl hz dX1_units_21 ?_
    rw [hq]
    show X g 7 22 [(0, .ref h0), (1, .int p0), (2, .int p1), (3, .int p2)] [.null] [(h0, .inr (0, [.ref lg, .ref e1, .ref e2, .ref e3, .ref rl, .int cur, .ref sh])), (lg, .inl ((xT g) 6, 12, .inr (.inr (.inr (.inr lgf)))))] 0 0
    refine x_iload_n G rfl dX1_units_22 2 rfl ?_
    refine x_invN (z := ⟨"RoundingAuditor$Ledger", "length", "()I"⟩) (As := [.int p1]) (rest := []) G q617 (va_Decl.abs (G.E.2.1.2.2.1 _ (by decide +kernel))) rfl q665 (show ("RoundingAuditor$Ledger" : String) ≠ "java/lang/invoke/MethodHandle" ∧ ("RoundingAuditor$Ledger" : String) ≠ "java/lang/invoke/VarHandle" ∧ (parseMethodDescriptor "(I)D").map (fun d => d.parameters.length) = some 1 from by decide +kernel) rfl (Nat.le_of_ble_eq_true rfl) (Nat.le_of_ble_eq_true rfl) (Nat.le_of_ble_eq_true rfl) dX1_units_23 ?_
    exact x_ohl0 G Q (by decide) h XSub.rf (Nat.le_of_ble_eq_true rfl) (Nat.le_of_ble_eq_true rfl)
  · replace h := h.2 c
    refine x_ldc2 G q260 dX1_units_12 ?_
    exact x_hl0 G Q dX1_units_15  h XSub.rf (Nat.le_of_ble_eq_true rfl) (Nat.le_of_ble_eq_true rfl)
def wX1_units (p0 : Int32) (p1 : Int32) (p2 : Int32) (lgf : Nat → Option Nat) (u0 : Nat) (kd : Bool) (ln : Nat) (am : Nat → UInt64) (w1 : Nat → Int32) (K : Int64 → (Nat → Int32) → Prop) (E : String → (Nat → Int32) → Prop) : Prop := (wX1_isIn p2.toInt64 (0 : Int64) (6 : Int64) (fun (r_1 : Int32) => ((¬ r_1 = (0 : Int32) → (vp_in p0 12 ∧ ((lgf p0.toNatClampNeg) = some u0 ∧ (wL_at_X kd p1 ln am (fun (r_2 : UInt64) => ((wX1_unitsOf_X r_2 p2 w1 (fun (r_3 : Int64) (w1_4 : Nat → Int32) => False) (fun (En : String) (w1_4 : Nat → Int32) => ((En = "RoundingAuditor$Far" ∧ K (-105 : Int64) w1_4)))) ∨ (wX1_unitsOf_N r_2 p2 w1 (fun (r_6 : Int64) (w1_7 : Nat → Int32) => K r_6 w1_7)))) (fun (En : String) => E En w1))))) ∧ (r_1 = (0 : Int32) → K (-102 : Int64) w1))))
set_option maxRecDepth 20000 in
theorem tX1_units {l : Launch} {D : va_G} {ta : Nat → ClassId} {h0 : Nat} {lg : Nat} {e1 : Nat} {e2 : Nat} {e3 : Nat} {rl : Nat} {cur : Int32} {sh : Nat} {lgf : Nat → Option Nat} {u0 : Nat} {kd : Bool} {u0a : Nat} {u0d : Nat} {u0g : Nat} {gc : Int32} {u0m : Nat} {ln : Nat} {am : Nat → UInt64} {e1w : Nat} {w1 : Nat → Int32} {p0 : Int32} {p1 : Int32} {p2 : Int32} {K : Int64 → (Nat → Int32) → Prop} {E : String → (Nat → Int32) → Prop} (hlt : l.stackTraces = false) (h : wX1_units p0 p1 p2 lgf u0 kd ln am w1 K E) : SHl1 l D ta yX1_units cX1_units 7 FieldType.long  [(28, 35, 36, 164)] 6 [.ref h0, .int p0, .int p1, .int p2] [(h0, .inr (0, [.ref lg, .ref e1, .ref e2, .ref e3, .ref rl, .int cur, .ref sh])), (lg, .inl (ta 6, 12, .inr (.inr (.inr (.inr lgf))))), (u0, .inr (lci kd, [.ref u0a, .ref u0d, .ref u0g, .int gc, .ref u0m])), (u0m, .inl (lamC kd ta ln am)), (e1, .inr (1, [.ref e1w])), (e1w, .inl (ta 2, 40, .inl w1))] (fun (w1' : Nat → Int32) => [(h0, .inr (0, [.ref lg, .ref e1, .ref e2, .ref e3, .ref rl, .int cur, .ref sh])), (lg, .inl (ta 6, 12, .inr (.inr (.inr (.inr lgf))))), (u0, .inr (lci kd, [.ref u0a, .ref u0d, .ref u0g, .int gc, .ref u0m])), (u0m, .inl (lamC kd ta ln am)), (e1, .inr (1, [.ref e1w])), (e1w, .inl (ta 2, 40, .inl w1'))]) 4 228 K E := by
  refine x_shl1 hlt (by decide +kernel) (Nat.le_of_ble_eq_true rfl) (fun g G hl hD hT Q => ?_)
  subst hl; subst hD; subst hT
  unfold wX1_units at h
  show X g 7 0 [(0, .ref h0), (1, .int p0), (2, .int p1), (3, .int p2)] [] [(h0, .inr (0, [.ref lg, .ref e1, .ref e2, .ref e3, .ref rl, .int cur, .ref sh])), (lg, .inl ((xT g) 6, 12, .inr (.inr (.inr (.inr lgf))))), (u0, .inr (lci kd, [.ref u0a, .ref u0d, .ref u0g, .int gc, .ref u0m])), (u0m, .inl (lamC kd (xT g) ln am)), (e1, .inr (1, [.ref e1w])), (e1w, .inl ((xT g) 2, 40, .inl w1))] 0 0
  refine x_iload_n G rfl dX1_units_0 3 rfl ?_
  refine x_i2l G dX1_units_1 ?_
  refine x_lconst (v := (0 : Int64)) G dX1_units_2 (by decide) ?_
  refine x_ldc2 G q354 dX1_units_3 ?_
  refine x_cPi (As := [.long p2.toInt64, .long (0 : Int64), .long (6 : Int64)]) (rest := []) G (tX1_isIn G.noTraces h) (lw_S q199 q200 q65 q201) cdX1_isIn (by decide) (by decide) rfl (Nat.le_of_ble_eq_true rfl) (Nat.le_of_ble_eq_true rfl) (Nat.le_of_ble_eq_true rfl) dX1_units_6 (fun r_1 h => ?_)
  refine x_if_ne (tgt := 16) G dX1_units_9 rfl (fun c => ?_) (fun c => ?_)
  · replace h := h.1 c
    refine x_aload_n G rfl dX1_units_16 0 rfl ?_
    refine x_get G in_X1 0 rfl rfl 0 (by decide) q159 (fun _ h => h) rfl dX1_units_17 ?_
    refine x_iload_n G rfl dX1_units_20 1 rfl ?_
    obtain ⟨hz, hq, h⟩ := h
    refine x_aald G 1 6 rfl rfl hz dX1_units_21 ?_
    rw [hq]
    show X g 7 22 [(0, .ref h0), (1, .int p0), (2, .int p1), (3, .int p2)] [.ref u0] [(h0, .inr (0, [.ref lg, .ref e1, .ref e2, .ref e3, .ref rl, .int cur, .ref sh])), (lg, .inl ((xT g) 6, 12, .inr (.inr (.inr (.inr lgf))))), (u0, .inr (lci kd, [.ref u0a, .ref u0d, .ref u0g, .int gc, .ref u0m])), (u0m, .inl (lamC kd (xT g) ln am)), (e1, .inr (1, [.ref e1w])), (e1w, .inl ((xT g) 2, 40, .inl w1))] 0 0
    refine x_iload_n G rfl dX1_units_22 2 rfl ?_
    refine x_cXUd0 (C := lnm kd) (owner := "RoundingAuditor$Ledger") (x := ⟨"RoundingAuditor$Ledger", "at", "(I)D"⟩) (wc := [(u0, .inr (lci kd, [.ref u0a, .ref u0d, .ref u0g, .int gc, .ref u0m])), (u0m, .inl (lamC kd (xT g) ln am))]) (As := [.int p1]) (rest := []) G [(h0, .inr (0, [.ref lg, .ref e1, .ref e2, .ref e3, .ref rl, .int cur, .ref sh])), (lg, .inl ((xT g) 6, 12, .inr (.inr (.inr (.inr lgf))))), (e1, .inr (1, [.ref e1w])), (e1w, .inl ((xT g) 2, 40, .inl w1))] (XSub.of [0, 1, 4, 5, 2, 3] rfl (by decide)) (tL_at_X kd G.noTraces h) q617 q619 (va_Decl.abs (G.E.2.1.2.2.1 _ (by decide +kernel))) (sL_at kd) (hL_at kd).1 (hL_at kd).2.1 (hL_at kd).2.2.1 cdL_at (lci kd) 2 (lci_at kd) rfl rfl (by decide) (hL_at _).2.2.2 rfl (Nat.le_of_ble_eq_true rfl) (Nat.le_of_ble_eq_true rfl) (Nat.le_of_ble_eq_true rfl) dX1_units_23 (fun En h => ?_) (fun r_2 h => ?_)
    · exact x_ohl1 G Q (by decide) w1 h (XSub.of [0, 1, 4, 5, 2, 3] rfl (by decide)) (Nat.le_of_ble_eq_true rfl) (Nat.le_of_ble_eq_true rfl)
    show X g 7 26 [(0, .ref h0), (1, .int p0), (2, .int p1), (3, .int p2)] [.double r_2] [(h0, .inr (0, [.ref lg, .ref e1, .ref e2, .ref e3, .ref rl, .int cur, .ref sh])), (lg, .inl ((xT g) 6, 12, .inr (.inr (.inr (.inr lgf))))), (e1, .inr (1, [.ref e1w])), (e1w, .inl ((xT g) 2, 40, .inl w1)), (u0, .inr (lci kd, [.ref u0a, .ref u0d, .ref u0g, .int gc, .ref u0m])), (u0m, .inl (lamC kd (xT g) ln am))] 3 222
    refine x_dstore (lv' := [(4, .double r_2), (0, .ref h0), (1, .int p0), (2, .int p1), (3, .int p2)]) G dX1_units_26 (by decide) rfl ?_
    refine x_aload_n G rfl dX1_units_28 1 rfl ?_
    refine x_dload G dX1_units_29 0 rfl ?_
    refine x_iload_n G rfl dX1_units_31 4 rfl ?_
    rcases h with h | h
    · refine x_cXVl1 (wc := [(h0, .inr (0, [.ref lg, .ref e1, .ref e2, .ref e3, .ref rl, .int cur, .ref sh])), (e1, .inr (1, [.ref e1w])), (e1w, .inl ((xT g) 2, 40, .inl w1))]) (As := [.double r_2, .int p2]) (rest := []) G [(lg, .inl ((xT g) 6, 12, .inr (.inr (.inr (.inr lgf))))), (u0, .inr (lci kd, [.ref u0a, .ref u0d, .ref u0g, .int gc, .ref u0m])), (u0m, .inl (lamC kd (xT g) ln am))] (XSub.of [1, 4, 5, 0, 2, 3] rfl (by decide)) (tX1_unitsOf_X G.noTraces h) (lw_V q885 q887 qs8 q65 q888) cdX1_unitsOf 0 0 rfl rfl rfl (by decide) (by decide) rfl (Nat.le_of_ble_eq_true rfl) (Nat.le_of_ble_eq_true rfl) (Nat.le_of_ble_eq_true rfl) dX1_units_32 (fun En w1_4 h => ?_) (fun r_3 w1_4 h => ?_)
      · obtain ⟨rfl, h⟩ := h
        · refine x_catch G Q.2 (tableOf []) ⟨28, 35, 36, 164⟩ (tableOf []) rfl (fun _ h => absurd h List.not_mem_nil) (by decide) (by decide) q884 (by decide) rfl (fun q_5 => ?_)
          refine x_astore (lv' := [(6, .ref q_5), (4, .double r_2), (0, .ref h0), (1, .int p0), (2, .int p1), (3, .int p2)]) G dX1_units_36 (by decide) rfl ?_
          refine x_ldc2 G q911 dX1_units_38 ?_
          exact x_hl1 G Q dX1_units_41 w1_4 h (XSub.of [3, 0, 1, 2, 4, 5] rfl (by decide)) (Nat.le_of_ble_eq_true rfl) (Nat.le_of_ble_eq_true rfl)
      exact h.elim
    refine x_cVl1 (wc := [(h0, .inr (0, [.ref lg, .ref e1, .ref e2, .ref e3, .ref rl, .int cur, .ref sh])), (e1, .inr (1, [.ref e1w])), (e1w, .inl ((xT g) 2, 40, .inl w1))]) (As := [.double r_2, .int p2]) (rest := []) G [(lg, .inl ((xT g) 6, 12, .inr (.inr (.inr (.inr lgf))))), (u0, .inr (lci kd, [.ref u0a, .ref u0d, .ref u0g, .int gc, .ref u0m])), (u0m, .inl (lamC kd (xT g) ln am))] (XSub.of [1, 4, 5, 0, 2, 3] rfl (by decide)) (tX1_unitsOf_N G.noTraces h) (lw_V q885 q887 qs8 q65 q888) cdX1_unitsOf 0 0 rfl rfl rfl (by decide) (by decide) rfl (Nat.le_of_ble_eq_true rfl) (Nat.le_of_ble_eq_true rfl) (Nat.le_of_ble_eq_true rfl) dX1_units_32 (fun r_6 w1_7 h => ?_)
    show X g 7 35 [(4, .double r_2), (0, .ref h0), (1, .int p0), (2, .int p1), (3, .int p2)] [.long r_6] [(lg, .inl ((xT g) 6, 12, .inr (.inr (.inr (.inr lgf))))), (u0, .inr (lci kd, [.ref u0a, .ref u0d, .ref u0g, .int gc, .ref u0m])), (u0m, .inl (lamC kd (xT g) ln am)), (h0, .inr (0, [.ref lg, .ref e1, .ref e2, .ref e3, .ref rl, .int cur, .ref sh])), (e1, .inr (1, [.ref e1w])), (e1w, .inl ((xT g) 2, 40, .inl w1_7))] 3 222
    exact x_hl1 G Q dX1_units_35 w1_7 h (XSub.of [3, 0, 1, 2, 4, 5] rfl (by decide)) (Nat.le_of_ble_eq_true rfl) (Nat.le_of_ble_eq_true rfl)
  · replace h := h.2 c
    refine x_ldc2 G q260 dX1_units_12 ?_
    exact x_hl1 G Q dX1_units_15 w1 h XSub.rf (Nat.le_of_ble_eq_true rfl) (Nat.le_of_ble_eq_true rfl)
theorem cdX1_unitTotal : yX1_unitTotal.cls = RX1 ∧ yX1_unitTotal.cls ≠ "java/lang/invoke/MethodHandle" ∧ yX1_unitTotal.cls ≠ "java/lang/invoke/VarHandle" ∧ (parseMethodDescriptor yX1_unitTotal.desc).map (fun d => d.parameters.length) = some 2 := by decide +kernel
def wX1_unitTotal_N_L5 (kd : Bool) (ln : Nat) (am : Nat → UInt64) (p1 : Int32) (X34 : Int64 → Int32 → (Nat → Int32) → Prop) : Nat → Int64 → Int32 → (Nat → Int32) → Prop
  | 0, _, _, _ => False
  | n + 1, v3_1, v5_2, w1_3 => (wX4_length ln (fun (r_4 : Int32) => ((r_4 ≤ v5_2 → X34 v3_1 v5_2 w1_3) ∧ (¬ r_4 ≤ v5_2 → (wL_at kd v5_2 ln am (fun (r_5 : UInt64) => (wX1_unitsOf_N r_5 p1 w1_3 (fun (r_6 : Int64) (w1_7 : Nat → Int32) => (∀ y_8 : Int64, y_8 = (v3_1 + r_6) → (∀ x_9 : Int32, x_9 = (v5_2 + (1 : Int32)) → wX1_unitTotal_N_L5 kd ln am p1 X34 n y_8 x_9 w1_7))))))))))
def wX1_unitTotal_N (p1 : Int32) (w1 : Nat → Int32) (kd : Bool) (ln : Nat) (am : Nat → UInt64) (K : UInt64 → (Nat → Int32) → Prop) : Prop := (∃ m5 : Nat, wX1_unitTotal_N_L5 kd ln am p1 (fun (v3_13 : Int64) (v5_14 : Int32) (w1_15 : Nat → Int32) => (vp_in p1 7 ∧ (vf_n64 (FP.ddiv (FP.l2d v3_13) (FP.l2d (xTens p1.toNatClampNeg))) ∧ (∀ r_17 : UInt64, r_17 = (FP.ddiv (FP.l2d v3_13) (FP.l2d (xTens p1.toNatClampNeg))) → (wL_isWide kd (fun (r_18 : Int32) => ((r_18 = (0 : Int32) → (vf_n32 (FP.d2f r_17) ∧ (vf_n64 (FP.f2d (FP.d2f r_17)) ∧ K (FP.f2d (FP.d2f r_17)) w1_15))) ∧ (¬ r_18 = (0 : Int32) → K r_17 w1_15)))))))) m5 (0 : Int64) (0 : Int32) w1)
set_option maxRecDepth 20000 in
theorem kX1_unitTotal_N_L5 {g : XG} {h0 : Nat} {lg : Nat} {e1 : Nat} {e2 : Nat} {e3 : Nat} {rl : Nat} {cur : Int32} {sh : Nat} {e1w : Nat} {q0 : Nat} {kd : Bool} {q0a : Nat} {q0d : Nat} {q0g : Nat} {gc : Int32} {q0m : Nat} {ln : Nat} {acc : Nat → Int32} {am : Nat → UInt64} {p1 : Int32} {X34 : Int64 → Int32 → (Nat → Int32) → Prop} (G : XO g RX1 cX1_unitTotal 7 6 0 0) (hX34 : ∀ (v3_10 : Int64) (v5_11 : Int32) (w1_12 : Nat → Int32), X34 v3_10 v5_11 w1_12 → X g 7 34 [(5, .int v5_11), (3, .long v3_10), (0, .ref h0), (1, .ref q0), (2, .int p1)] [] [(h0, .inr (0, [.ref lg, .ref e1, .ref e2, .ref e3, .ref rl, .int cur, .ref sh])), (e1, .inr (1, [.ref e1w])), (e1w, .inl ((xT g) 2, 40, .inl w1_12)), (q0, .inr (lci kd, [.ref q0a, .ref q0d, .ref q0g, .int gc, .ref q0m])), (q0a, .inl ((xT g) 1, ln, .inl acc)), (q0m, .inl (lamC kd (xT g) ln am))] 0 0) : ∀ (n : Nat) (v3_1 : Int64) (v5_2 : Int32) (w1_3 : Nat → Int32), wX1_unitTotal_N_L5 kd ln am p1 X34 n v3_1 v5_2 w1_3 → X g 7 5 [(5, .int v5_2), (3, .long v3_1), (0, .ref h0), (1, .ref q0), (2, .int p1)] [] [(h0, .inr (0, [.ref lg, .ref e1, .ref e2, .ref e3, .ref rl, .int cur, .ref sh])), (e1, .inr (1, [.ref e1w])), (e1w, .inl ((xT g) 2, 40, .inl w1_3)), (q0, .inr (lci kd, [.ref q0a, .ref q0d, .ref q0g, .int gc, .ref q0m])), (q0a, .inl ((xT g) 1, ln, .inl acc)), (q0m, .inl (lamC kd (xT g) ln am))] 0 0 := by
  intro n
  induction n with
  | zero => intro _ _ _ h; exact h.elim
  | succ n ih =>
    intro v3_1 v5_2 w1_3 h
    unfold wX1_unitTotal_N_L5 at h
    refine x_iload G dX1_unitTotal_5 0 rfl ?_
    refine x_aload_n G rfl dX1_unitTotal_7 3 rfl ?_
    refine x_cUi0 (C := lnm kd) (owner := "RoundingAuditor$Ledger") (x := ⟨"RoundingAuditor$Ledger", "length", "()I"⟩) (wc := [(q0, .inr (lci kd, [.ref q0a, .ref q0d, .ref q0g, .int gc, .ref q0m])), (q0a, .inl ((xT g) 1, ln, .inl acc))]) (As := []) (rest := [.int v5_2]) G [(h0, .inr (0, [.ref lg, .ref e1, .ref e2, .ref e3, .ref rl, .int cur, .ref sh])), (e1, .inr (1, [.ref e1w])), (e1w, .inl ((xT g) 2, 40, .inl w1_3)), (q0m, .inl (lamC kd (xT g) ln am))] (XSub.of [0, 1, 2, 5, 3, 4] rfl (by decide)) (tX4_length G.noTraces h) q661 q663 (va_Decl.of (G.hts _ q662) (G.hts _ q666)) (sL_length kd) q662 q78 q666 cdL_length (lci kd) 3 (lci_at kd) rfl rfl (by decide) (by decide) rfl (Nat.le_of_ble_eq_true rfl) (Nat.le_of_ble_eq_true rfl) (Nat.le_of_ble_eq_true rfl) dX1_unitTotal_8 (fun r_4 h => ?_)
    show X g 7 11 [(5, .int v5_2), (3, .long v3_1), (0, .ref h0), (1, .ref q0), (2, .int p1)] [.int r_4, .int v5_2] [(h0, .inr (0, [.ref lg, .ref e1, .ref e2, .ref e3, .ref rl, .int cur, .ref sh])), (e1, .inr (1, [.ref e1w])), (e1w, .inl ((xT g) 2, 40, .inl w1_3)), (q0m, .inl (lamC kd (xT g) ln am)), (q0, .inr (lci kd, [.ref q0a, .ref q0d, .ref q0g, .int gc, .ref q0m])), (q0a, .inl ((xT g) 1, ln, .inl acc))] 0 0
    refine x_icmp_ge (tgt := 34) G dX1_unitTotal_11 rfl (fun c => ?_) (fun c => ?_)
    · replace h := h.1 c
      refine x_ws (ws' := [(h0, .inr (0, [.ref lg, .ref e1, .ref e2, .ref e3, .ref rl, .int cur, .ref sh])), (e1, .inr (1, [.ref e1w])), (e1w, .inl ((xT g) 2, 40, .inl w1_3)), (q0, .inr (lci kd, [.ref q0a, .ref q0d, .ref q0g, .int gc, .ref q0m])), (q0a, .inl ((xT g) 1, ln, .inl acc)), (q0m, .inl (lamC kd (xT g) ln am))]) (XSub.of [0, 1, 2, 4, 5, 3] rfl (by decide)) ?_
      exact hX34 v3_1 v5_2 w1_3 h
    · replace h := h.2 c
      refine x_lload_n G rfl dX1_unitTotal_14 1 rfl ?_
      refine x_aload_n G rfl dX1_unitTotal_15 2 rfl ?_
      refine x_aload_n G rfl dX1_unitTotal_16 3 rfl ?_
      refine x_iload G dX1_unitTotal_17 0 rfl ?_
      refine x_cUd0 (C := lnm kd) (owner := "RoundingAuditor$Ledger") (x := ⟨"RoundingAuditor$Ledger", "at", "(I)D"⟩) (wc := [(q0, .inr (lci kd, [.ref q0a, .ref q0d, .ref q0g, .int gc, .ref q0m])), (q0m, .inl (lamC kd (xT g) ln am))]) (As := [.int v5_2]) (rest := [.ref h0, .long v3_1]) G [(h0, .inr (0, [.ref lg, .ref e1, .ref e2, .ref e3, .ref rl, .int cur, .ref sh])), (e1, .inr (1, [.ref e1w])), (e1w, .inl ((xT g) 2, 40, .inl w1_3)), (q0a, .inl ((xT g) 1, ln, .inl acc))] (XSub.of [0, 1, 2, 5, 4, 3] rfl (by decide)) (tL_at kd G.noTraces h) q617 q619 (va_Decl.abs (G.E.2.1.2.2.1 _ (by decide +kernel))) (sL_at kd) (hL_at kd).1 (hL_at kd).2.1 (hL_at kd).2.2.1 cdL_at (lci kd) 4 (lci_at kd) rfl rfl (by decide) (hL_at _).2.2.2 rfl (Nat.le_of_ble_eq_true rfl) (Nat.le_of_ble_eq_true rfl) (Nat.le_of_ble_eq_true rfl) dX1_unitTotal_19 (fun r_5 h => ?_)
      show X g 7 22 [(5, .int v5_2), (3, .long v3_1), (0, .ref h0), (1, .ref q0), (2, .int p1)] [.double r_5, .ref h0, .long v3_1] [(h0, .inr (0, [.ref lg, .ref e1, .ref e2, .ref e3, .ref rl, .int cur, .ref sh])), (e1, .inr (1, [.ref e1w])), (e1w, .inl ((xT g) 2, 40, .inl w1_3)), (q0a, .inl ((xT g) 1, ln, .inl acc)), (q0, .inr (lci kd, [.ref q0a, .ref q0d, .ref q0g, .int gc, .ref q0m])), (q0m, .inl (lamC kd (xT g) ln am))] 0 0
      refine x_iload_n G rfl dX1_unitTotal_22 4 rfl ?_
      refine x_cVl1 (wc := [(h0, .inr (0, [.ref lg, .ref e1, .ref e2, .ref e3, .ref rl, .int cur, .ref sh])), (e1, .inr (1, [.ref e1w])), (e1w, .inl ((xT g) 2, 40, .inl w1_3))]) (As := [.double r_5, .int p1]) (rest := [.long v3_1]) G [(q0a, .inl ((xT g) 1, ln, .inl acc)), (q0, .inr (lci kd, [.ref q0a, .ref q0d, .ref q0g, .int gc, .ref q0m])), (q0m, .inl (lamC kd (xT g) ln am))] (XSub.of [3, 4, 5, 0, 1, 2] rfl (by decide)) (tX1_unitsOf_N G.noTraces h) (lw_V q885 q887 qs8 q65 q888) cdX1_unitsOf 0 0 rfl rfl rfl (by decide) (by decide) rfl (Nat.le_of_ble_eq_true rfl) (Nat.le_of_ble_eq_true rfl) (Nat.le_of_ble_eq_true rfl) dX1_unitTotal_23 (fun r_6 w1_7 h => ?_)
      show X g 7 26 [(5, .int v5_2), (3, .long v3_1), (0, .ref h0), (1, .ref q0), (2, .int p1)] [.long r_6, .long v3_1] [(q0a, .inl ((xT g) 1, ln, .inl acc)), (q0, .inr (lci kd, [.ref q0a, .ref q0d, .ref q0g, .int gc, .ref q0m])), (q0m, .inl (lamC kd (xT g) ln am)), (h0, .inr (0, [.ref lg, .ref e1, .ref e2, .ref e3, .ref rl, .int cur, .ref sh])), (e1, .inr (1, [.ref e1w])), (e1w, .inl ((xT g) 2, 40, .inl w1_7))] 0 0
      refine x_ladd G dX1_unitTotal_26 ?_
      refine x_topl (fun y_8 ey_8 => ?_)
      replace h := h y_8 ey_8
      refine x_lstore_n (lv' := [(3, .long y_8), (5, .int v5_2), (0, .ref h0), (1, .ref q0), (2, .int p1)]) G rfl dX1_unitTotal_27 (by decide) rfl ?_
      obtain ⟨x_9, ex_9⟩ : ∃ z : Int32, z = (v5_2 + (1 : Int32)) := ⟨_, rfl⟩
      replace h := h x_9 ex_9
      refine x_iinc (v := x_9) (lv' := [(5, .int x_9), (3, .long y_8), (0, .ref h0), (1, .ref q0), (2, .int p1)]) G dX1_unitTotal_28 1 rfl (by rw [ex_9]; rfl) (by decide) rfl ?_
      refine x_goto (tgt := 5) G dX1_unitTotal_31 rfl ?_
      refine x_ws (ws' := [(h0, .inr (0, [.ref lg, .ref e1, .ref e2, .ref e3, .ref rl, .int cur, .ref sh])), (e1, .inr (1, [.ref e1w])), (e1w, .inl ((xT g) 2, 40, .inl w1_7)), (q0, .inr (lci kd, [.ref q0a, .ref q0d, .ref q0g, .int gc, .ref q0m])), (q0a, .inl ((xT g) 1, ln, .inl acc)), (q0m, .inl (lamC kd (xT g) ln am))]) (XSub.of [3, 4, 5, 1, 0, 2] rfl (by decide)) ?_
      exact ih y_8 x_9 w1_7 h
set_option maxRecDepth 20000 in
theorem tX1_unitTotal_N {l : Launch} {D : va_G} {ta : Nat → ClassId} {h0 : Nat} {lg : Nat} {e1 : Nat} {e2 : Nat} {e3 : Nat} {rl : Nat} {cur : Int32} {sh : Nat} {e1w : Nat} {w1 : Nat → Int32} {q0 : Nat} {kd : Bool} {q0a : Nat} {q0d : Nat} {q0g : Nat} {gc : Int32} {q0m : Nat} {ln : Nat} {acc : Nat → Int32} {am : Nat → UInt64} {p1 : Int32} {K : UInt64 → (Nat → Int32) → Prop} (hlt : l.stackTraces = false) (h : wX1_unitTotal_N p1 w1 kd ln am K) : SMd1 l D ta yX1_unitTotal cX1_unitTotal 7 FieldType.double 6 [.ref h0, .ref q0, .int p1] [(h0, .inr (0, [.ref lg, .ref e1, .ref e2, .ref e3, .ref rl, .int cur, .ref sh])), (e1, .inr (1, [.ref e1w])), (e1w, .inl (ta 2, 40, .inl w1)), (q0, .inr (lci kd, [.ref q0a, .ref q0d, .ref q0g, .int gc, .ref q0m])), (q0a, .inl (ta 1, ln, .inl acc)), (q0m, .inl (lamC kd ta ln am))] (fun (w1' : Nat → Int32) => [(h0, .inr (0, [.ref lg, .ref e1, .ref e2, .ref e3, .ref rl, .int cur, .ref sh])), (e1, .inr (1, [.ref e1w])), (e1w, .inl (ta 2, 40, .inl w1')), (q0, .inr (lci kd, [.ref q0a, .ref q0d, .ref q0g, .int gc, .ref q0m])), (q0a, .inl (ta 1, ln, .inl acc)), (q0m, .inl (lamC kd ta ln am))]) 0 0 K := by
  refine x_std1 hlt (plainFor_of_name (by decide +kernel)) (Nat.le_of_ble_eq_true rfl) (fun g G hl hD hT Q => ?_)
  subst hl; subst hD; subst hT
  unfold wX1_unitTotal_N at h
  show X g 7 0 [(0, .ref h0), (1, .ref q0), (2, .int p1)] [] [(h0, .inr (0, [.ref lg, .ref e1, .ref e2, .ref e3, .ref rl, .int cur, .ref sh])), (e1, .inr (1, [.ref e1w])), (e1w, .inl ((xT g) 2, 40, .inl w1)), (q0, .inr (lci kd, [.ref q0a, .ref q0d, .ref q0g, .int gc, .ref q0m])), (q0a, .inl ((xT g) 1, ln, .inl acc)), (q0m, .inl (lamC kd (xT g) ln am))] 0 0
  refine x_lconst (v := (0 : Int64)) G dX1_unitTotal_0 (by decide) ?_
  refine x_lstore_n (lv' := [(3, .long (0 : Int64)), (0, .ref h0), (1, .ref q0), (2, .int p1)]) G rfl dX1_unitTotal_1 (by decide) rfl ?_
  refine x_iconst (v := (0 : Int32)) G dX1_unitTotal_2 (by decide) ?_
  refine x_istore (lv' := [(5, .int (0 : Int32)), (3, .long (0 : Int64)), (0, .ref h0), (1, .ref q0), (2, .int p1)]) G dX1_unitTotal_3 (by decide) rfl ?_
  obtain ⟨n0, h⟩ := h
  refine kX1_unitTotal_N_L5 G (fun v3_13 v5_14 w1_15 h => ?_) n0 _ _ _ h
  · refine x_lload_n G rfl dX1_unitTotal_34 1 rfl ?_
    refine x_l2d G dX1_unitTotal_35 ?_
    refine x_tens G q356 dX1_unitTotal_36 (fun t_16 hTt_16 => ?_)
    show X g 7 39 [(5, .int v5_14), (3, .long v3_13), (0, .ref h0), (1, .ref q0), (2, .int p1)] [.ref t_16, .double (FP.l2d v3_13)] [(h0, .inr (0, [.ref lg, .ref e1, .ref e2, .ref e3, .ref rl, .int cur, .ref sh])), (e1, .inr (1, [.ref e1w])), (e1w, .inl ((xT g) 2, 40, .inl w1_15)), (q0, .inr (lci kd, [.ref q0a, .ref q0d, .ref q0g, .int gc, .ref q0m])), (q0a, .inl ((xT g) 1, ln, .inl acc)), (q0m, .inl (lamC kd (xT g) ln am))] 0 0
    refine x_iload_n G rfl dX1_unitTotal_39 4 rfl ?_
    obtain ⟨hz, h⟩ := h
    refine x_tensld G hTt_16 hz dX1_unitTotal_40 ?_
    refine x_l2d G dX1_unitTotal_41 ?_
    obtain ⟨hz, h⟩ := h
    refine x_ddiv G dX1_unitTotal_42 hz ?_
    refine x_topd (fun r_17 er_17 => ?_)
    replace h := h r_17 er_17
    refine x_dstore (lv' := [(5, .double r_17), (3, .long v3_13), (0, .ref h0), (1, .ref q0), (2, .int p1)]) G dX1_unitTotal_43 (by decide) rfl ?_
    refine x_aload_n G rfl dX1_unitTotal_45 3 rfl ?_
    refine x_cUi0 (C := lnm kd) (owner := "RoundingAuditor$Ledger") (x := ⟨"RoundingAuditor$Ledger", "isWide", "()Z"⟩) (wc := []) (As := []) (rest := []) G [(h0, .inr (0, [.ref lg, .ref e1, .ref e2, .ref e3, .ref rl, .int cur, .ref sh])), (e1, .inr (1, [.ref e1w])), (e1w, .inl ((xT g) 2, 40, .inl w1_15)), (q0, .inr (lci kd, [.ref q0a, .ref q0d, .ref q0g, .int gc, .ref q0m])), (q0a, .inl ((xT g) 1, ln, .inl acc)), (q0m, .inl (lamC kd (xT g) ln am))] (XSub.of [0, 1, 2, 3, 4, 5] rfl (by decide)) (tL_isWide kd G.noTraces h) q667 q669 (va_Decl.abs (G.E.2.1.2.2.1 _ (by decide +kernel))) (sL_isWide kd) (hL_isWide kd).1 (hL_isWide kd).2.1 (hL_isWide kd).2.2.1 cdL_isWide (lci kd) 3 (lci_at kd) rfl rfl (by decide) (hL_isWide _).2.2.2 rfl (Nat.le_of_ble_eq_true rfl) (Nat.le_of_ble_eq_true rfl) (Nat.le_of_ble_eq_true rfl) dX1_unitTotal_46 (fun r_18 h => ?_)
    show X g 7 49 [(5, .double r_17), (3, .long v3_13), (0, .ref h0), (1, .ref q0), (2, .int p1)] [.int r_18] [(h0, .inr (0, [.ref lg, .ref e1, .ref e2, .ref e3, .ref rl, .int cur, .ref sh])), (e1, .inr (1, [.ref e1w])), (e1w, .inl ((xT g) 2, 40, .inl w1_15)), (q0, .inr (lci kd, [.ref q0a, .ref q0d, .ref q0g, .int gc, .ref q0m])), (q0a, .inl ((xT g) 1, ln, .inl acc)), (q0m, .inl (lamC kd (xT g) ln am))] 0 0
    refine x_if_eq (tgt := 57) G dX1_unitTotal_49 rfl (fun c => ?_) (fun c => ?_)
    · replace h := h.1 c
      refine x_dload G dX1_unitTotal_57 0 rfl ?_
      obtain ⟨hz, h⟩ := h
      refine x_d2f G dX1_unitTotal_59 hz ?_
      obtain ⟨hz, h⟩ := h
      refine x_f2d G dX1_unitTotal_60 hz ?_
      exact x_retd1 G Q dX1_unitTotal_61 w1_15 h XSub.rf (Nat.le_of_ble_eq_true rfl) (Nat.le_of_ble_eq_true rfl)
    · replace h := h.2 c
      refine x_dload G dX1_unitTotal_52 0 rfl ?_
      refine x_goto (tgt := 61) G dX1_unitTotal_54 rfl ?_
      exact x_retd1 G Q dX1_unitTotal_61 w1_15 h XSub.rf (Nat.le_of_ble_eq_true rfl) (Nat.le_of_ble_eq_true rfl)
def wX1_unitTotal_X_L5 (kd : Bool) (ln : Nat) (am : Nat → UInt64) (p1 : Int32) (X34 : Int64 → Int32 → (Nat → Int32) → Prop) (K : UInt64 → (Nat → Int32) → Prop) (E : String → (Nat → Int32) → Prop) : Nat → Int64 → Int32 → (Nat → Int32) → Prop
  | 0, _, _, _ => False
  | n + 1, v3_1, v5_2, w1_3 => (wX4_length ln (fun (r_4 : Int32) => ((r_4 ≤ v5_2 → X34 v3_1 v5_2 w1_3) ∧ (¬ r_4 ≤ v5_2 → (wL_at kd v5_2 ln am (fun (r_5 : UInt64) => ((wX1_unitsOf_X r_5 p1 w1_3 (fun (r_6 : Int64) (w1_7 : Nat → Int32) => False) (fun (En : String) (w1_7 : Nat → Int32) => E En w1_7)) ∨ (wX1_unitsOf_N r_5 p1 w1_3 (fun (r_8 : Int64) (w1_9 : Nat → Int32) => (∀ y_10 : Int64, y_10 = (v3_1 + r_8) → (∀ x_11 : Int32, x_11 = (v5_2 + (1 : Int32)) → wX1_unitTotal_X_L5 kd ln am p1 X34 K E n y_10 x_11 w1_9)))))))))))
def wX1_unitTotal_X (p1 : Int32) (w1 : Nat → Int32) (kd : Bool) (ln : Nat) (am : Nat → UInt64) (K : UInt64 → (Nat → Int32) → Prop) (E : String → (Nat → Int32) → Prop) : Prop := (∃ m5 : Nat, wX1_unitTotal_X_L5 kd ln am p1 (fun (v3_15 : Int64) (v5_16 : Int32) (w1_17 : Nat → Int32) => False) K E m5 (0 : Int64) (0 : Int32) w1)
set_option maxRecDepth 20000 in
theorem kX1_unitTotal_X_L5 {g : XG} {h0 : Nat} {lg : Nat} {e1 : Nat} {e2 : Nat} {e3 : Nat} {rl : Nat} {cur : Int32} {sh : Nat} {e1w : Nat} {q0 : Nat} {kd : Bool} {q0a : Nat} {q0d : Nat} {q0g : Nat} {gc : Int32} {q0m : Nat} {ln : Nat} {acc : Nat → Int32} {am : Nat → UInt64} {p1 : Int32} {X34 : Int64 → Int32 → (Nat → Int32) → Prop} {K : UInt64 → (Nat → Int32) → Prop} {E : String → (Nat → Int32) → Prop} (G : XO g RX1 cX1_unitTotal 7 6 1 6) (Q : XYd1 g FieldType.double 1 6 (fun (w1' : Nat → Int32) => [(h0, .inr (0, [.ref lg, .ref e1, .ref e2, .ref e3, .ref rl, .int cur, .ref sh])), (e1, .inr (1, [.ref e1w])), (e1w, .inl ((xT g) 2, 40, .inl w1')), (q0, .inr (lci kd, [.ref q0a, .ref q0d, .ref q0g, .int gc, .ref q0m])), (q0a, .inl ((xT g) 1, ln, .inl acc)), (q0m, .inl (lamC kd (xT g) ln am))]) K E) (hX34 : ∀ (v3_12 : Int64) (v5_13 : Int32) (w1_14 : Nat → Int32), X34 v3_12 v5_13 w1_14 → X g 7 34 [(5, .int v5_13), (3, .long v3_12), (0, .ref h0), (1, .ref q0), (2, .int p1)] [] [(h0, .inr (0, [.ref lg, .ref e1, .ref e2, .ref e3, .ref rl, .int cur, .ref sh])), (e1, .inr (1, [.ref e1w])), (e1w, .inl ((xT g) 2, 40, .inl w1_14)), (q0, .inr (lci kd, [.ref q0a, .ref q0d, .ref q0g, .int gc, .ref q0m])), (q0a, .inl ((xT g) 1, ln, .inl acc)), (q0m, .inl (lamC kd (xT g) ln am))] 0 0) : ∀ (n : Nat) (v3_1 : Int64) (v5_2 : Int32) (w1_3 : Nat → Int32), wX1_unitTotal_X_L5 kd ln am p1 X34 K E n v3_1 v5_2 w1_3 → X g 7 5 [(5, .int v5_2), (3, .long v3_1), (0, .ref h0), (1, .ref q0), (2, .int p1)] [] [(h0, .inr (0, [.ref lg, .ref e1, .ref e2, .ref e3, .ref rl, .int cur, .ref sh])), (e1, .inr (1, [.ref e1w])), (e1w, .inl ((xT g) 2, 40, .inl w1_3)), (q0, .inr (lci kd, [.ref q0a, .ref q0d, .ref q0g, .int gc, .ref q0m])), (q0a, .inl ((xT g) 1, ln, .inl acc)), (q0m, .inl (lamC kd (xT g) ln am))] 0 0 := by
  intro n
  induction n with
  | zero => intro _ _ _ h; exact h.elim
  | succ n ih =>
    intro v3_1 v5_2 w1_3 h
    unfold wX1_unitTotal_X_L5 at h
    refine x_iload G dX1_unitTotal_5 0 rfl ?_
    refine x_aload_n G rfl dX1_unitTotal_7 3 rfl ?_
    refine x_cUi0 (C := lnm kd) (owner := "RoundingAuditor$Ledger") (x := ⟨"RoundingAuditor$Ledger", "length", "()I"⟩) (wc := [(q0, .inr (lci kd, [.ref q0a, .ref q0d, .ref q0g, .int gc, .ref q0m])), (q0a, .inl ((xT g) 1, ln, .inl acc))]) (As := []) (rest := [.int v5_2]) G [(h0, .inr (0, [.ref lg, .ref e1, .ref e2, .ref e3, .ref rl, .int cur, .ref sh])), (e1, .inr (1, [.ref e1w])), (e1w, .inl ((xT g) 2, 40, .inl w1_3)), (q0m, .inl (lamC kd (xT g) ln am))] (XSub.of [0, 1, 2, 5, 3, 4] rfl (by decide)) (tX4_length G.noTraces h) q661 q663 (va_Decl.of (G.hts _ q662) (G.hts _ q666)) (sL_length kd) q662 q78 q666 cdL_length (lci kd) 3 (lci_at kd) rfl rfl (by decide) (by decide) rfl (Nat.le_of_ble_eq_true rfl) (Nat.le_of_ble_eq_true rfl) (Nat.le_of_ble_eq_true rfl) dX1_unitTotal_8 (fun r_4 h => ?_)
    show X g 7 11 [(5, .int v5_2), (3, .long v3_1), (0, .ref h0), (1, .ref q0), (2, .int p1)] [.int r_4, .int v5_2] [(h0, .inr (0, [.ref lg, .ref e1, .ref e2, .ref e3, .ref rl, .int cur, .ref sh])), (e1, .inr (1, [.ref e1w])), (e1w, .inl ((xT g) 2, 40, .inl w1_3)), (q0m, .inl (lamC kd (xT g) ln am)), (q0, .inr (lci kd, [.ref q0a, .ref q0d, .ref q0g, .int gc, .ref q0m])), (q0a, .inl ((xT g) 1, ln, .inl acc))] 0 0
    refine x_icmp_ge (tgt := 34) G dX1_unitTotal_11 rfl (fun c => ?_) (fun c => ?_)
    · replace h := h.1 c
      refine x_ws (ws' := [(h0, .inr (0, [.ref lg, .ref e1, .ref e2, .ref e3, .ref rl, .int cur, .ref sh])), (e1, .inr (1, [.ref e1w])), (e1w, .inl ((xT g) 2, 40, .inl w1_3)), (q0, .inr (lci kd, [.ref q0a, .ref q0d, .ref q0g, .int gc, .ref q0m])), (q0a, .inl ((xT g) 1, ln, .inl acc)), (q0m, .inl (lamC kd (xT g) ln am))]) (XSub.of [0, 1, 2, 4, 5, 3] rfl (by decide)) ?_
      exact hX34 v3_1 v5_2 w1_3 h
    · replace h := h.2 c
      refine x_lload_n G rfl dX1_unitTotal_14 1 rfl ?_
      refine x_aload_n G rfl dX1_unitTotal_15 2 rfl ?_
      refine x_aload_n G rfl dX1_unitTotal_16 3 rfl ?_
      refine x_iload G dX1_unitTotal_17 0 rfl ?_
      refine x_cUd0 (C := lnm kd) (owner := "RoundingAuditor$Ledger") (x := ⟨"RoundingAuditor$Ledger", "at", "(I)D"⟩) (wc := [(q0, .inr (lci kd, [.ref q0a, .ref q0d, .ref q0g, .int gc, .ref q0m])), (q0m, .inl (lamC kd (xT g) ln am))]) (As := [.int v5_2]) (rest := [.ref h0, .long v3_1]) G [(h0, .inr (0, [.ref lg, .ref e1, .ref e2, .ref e3, .ref rl, .int cur, .ref sh])), (e1, .inr (1, [.ref e1w])), (e1w, .inl ((xT g) 2, 40, .inl w1_3)), (q0a, .inl ((xT g) 1, ln, .inl acc))] (XSub.of [0, 1, 2, 5, 4, 3] rfl (by decide)) (tL_at kd G.noTraces h) q617 q619 (va_Decl.abs (G.E.2.1.2.2.1 _ (by decide +kernel))) (sL_at kd) (hL_at kd).1 (hL_at kd).2.1 (hL_at kd).2.2.1 cdL_at (lci kd) 4 (lci_at kd) rfl rfl (by decide) (hL_at _).2.2.2 rfl (Nat.le_of_ble_eq_true rfl) (Nat.le_of_ble_eq_true rfl) (Nat.le_of_ble_eq_true rfl) dX1_unitTotal_19 (fun r_5 h => ?_)
      show X g 7 22 [(5, .int v5_2), (3, .long v3_1), (0, .ref h0), (1, .ref q0), (2, .int p1)] [.double r_5, .ref h0, .long v3_1] [(h0, .inr (0, [.ref lg, .ref e1, .ref e2, .ref e3, .ref rl, .int cur, .ref sh])), (e1, .inr (1, [.ref e1w])), (e1w, .inl ((xT g) 2, 40, .inl w1_3)), (q0a, .inl ((xT g) 1, ln, .inl acc)), (q0, .inr (lci kd, [.ref q0a, .ref q0d, .ref q0g, .int gc, .ref q0m])), (q0m, .inl (lamC kd (xT g) ln am))] 0 0
      refine x_iload_n G rfl dX1_unitTotal_22 4 rfl ?_
      rcases h with h | h
      · refine x_cXVl1 (wc := [(h0, .inr (0, [.ref lg, .ref e1, .ref e2, .ref e3, .ref rl, .int cur, .ref sh])), (e1, .inr (1, [.ref e1w])), (e1w, .inl ((xT g) 2, 40, .inl w1_3))]) (As := [.double r_5, .int p1]) (rest := [.long v3_1]) G [(q0a, .inl ((xT g) 1, ln, .inl acc)), (q0, .inr (lci kd, [.ref q0a, .ref q0d, .ref q0g, .int gc, .ref q0m])), (q0m, .inl (lamC kd (xT g) ln am))] (XSub.of [3, 4, 5, 0, 1, 2] rfl (by decide)) (tX1_unitsOf_X G.noTraces h) (lw_V q885 q887 qs8 q65 q888) cdX1_unitsOf 0 0 rfl rfl rfl (by decide) (by decide) rfl (Nat.le_of_ble_eq_true rfl) (Nat.le_of_ble_eq_true rfl) (Nat.le_of_ble_eq_true rfl) dX1_unitTotal_23 (fun En w1_7 h => ?_) (fun r_6 w1_7 h => ?_)
        · exact x_od1 G Q w1_7 h (XSub.of [3, 4, 5, 1, 0, 2] rfl (by decide)) (Nat.le_of_ble_eq_true rfl) (Nat.le_of_ble_eq_true rfl)
        exact h.elim
      refine x_cVl1 (wc := [(h0, .inr (0, [.ref lg, .ref e1, .ref e2, .ref e3, .ref rl, .int cur, .ref sh])), (e1, .inr (1, [.ref e1w])), (e1w, .inl ((xT g) 2, 40, .inl w1_3))]) (As := [.double r_5, .int p1]) (rest := [.long v3_1]) G [(q0a, .inl ((xT g) 1, ln, .inl acc)), (q0, .inr (lci kd, [.ref q0a, .ref q0d, .ref q0g, .int gc, .ref q0m])), (q0m, .inl (lamC kd (xT g) ln am))] (XSub.of [3, 4, 5, 0, 1, 2] rfl (by decide)) (tX1_unitsOf_N G.noTraces h) (lw_V q885 q887 qs8 q65 q888) cdX1_unitsOf 0 0 rfl rfl rfl (by decide) (by decide) rfl (Nat.le_of_ble_eq_true rfl) (Nat.le_of_ble_eq_true rfl) (Nat.le_of_ble_eq_true rfl) dX1_unitTotal_23 (fun r_8 w1_9 h => ?_)
      show X g 7 26 [(5, .int v5_2), (3, .long v3_1), (0, .ref h0), (1, .ref q0), (2, .int p1)] [.long r_8, .long v3_1] [(q0a, .inl ((xT g) 1, ln, .inl acc)), (q0, .inr (lci kd, [.ref q0a, .ref q0d, .ref q0g, .int gc, .ref q0m])), (q0m, .inl (lamC kd (xT g) ln am)), (h0, .inr (0, [.ref lg, .ref e1, .ref e2, .ref e3, .ref rl, .int cur, .ref sh])), (e1, .inr (1, [.ref e1w])), (e1w, .inl ((xT g) 2, 40, .inl w1_9))] 0 0
      refine x_ladd G dX1_unitTotal_26 ?_
      refine x_topl (fun y_10 ey_10 => ?_)
      replace h := h y_10 ey_10
      refine x_lstore_n (lv' := [(3, .long y_10), (5, .int v5_2), (0, .ref h0), (1, .ref q0), (2, .int p1)]) G rfl dX1_unitTotal_27 (by decide) rfl ?_
      obtain ⟨x_11, ex_11⟩ : ∃ z : Int32, z = (v5_2 + (1 : Int32)) := ⟨_, rfl⟩
      replace h := h x_11 ex_11
      refine x_iinc (v := x_11) (lv' := [(5, .int x_11), (3, .long y_10), (0, .ref h0), (1, .ref q0), (2, .int p1)]) G dX1_unitTotal_28 1 rfl (by rw [ex_11]; rfl) (by decide) rfl ?_
      refine x_goto (tgt := 5) G dX1_unitTotal_31 rfl ?_
      refine x_ws (ws' := [(h0, .inr (0, [.ref lg, .ref e1, .ref e2, .ref e3, .ref rl, .int cur, .ref sh])), (e1, .inr (1, [.ref e1w])), (e1w, .inl ((xT g) 2, 40, .inl w1_9)), (q0, .inr (lci kd, [.ref q0a, .ref q0d, .ref q0g, .int gc, .ref q0m])), (q0a, .inl ((xT g) 1, ln, .inl acc)), (q0m, .inl (lamC kd (xT g) ln am))]) (XSub.of [3, 4, 5, 1, 0, 2] rfl (by decide)) ?_
      exact ih y_10 x_11 w1_9 h
set_option maxRecDepth 20000 in
theorem tX1_unitTotal_X {l : Launch} {D : va_G} {ta : Nat → ClassId} {h0 : Nat} {lg : Nat} {e1 : Nat} {e2 : Nat} {e3 : Nat} {rl : Nat} {cur : Int32} {sh : Nat} {e1w : Nat} {w1 : Nat → Int32} {q0 : Nat} {kd : Bool} {q0a : Nat} {q0d : Nat} {q0g : Nat} {gc : Int32} {q0m : Nat} {ln : Nat} {acc : Nat → Int32} {am : Nat → UInt64} {p1 : Int32} {K : UInt64 → (Nat → Int32) → Prop} {E : String → (Nat → Int32) → Prop} (hlt : l.stackTraces = false) (h : wX1_unitTotal_X p1 w1 kd ln am K E) : SXd1 l D ta yX1_unitTotal cX1_unitTotal 7 FieldType.double 6 [.ref h0, .ref q0, .int p1] [(h0, .inr (0, [.ref lg, .ref e1, .ref e2, .ref e3, .ref rl, .int cur, .ref sh])), (e1, .inr (1, [.ref e1w])), (e1w, .inl (ta 2, 40, .inl w1)), (q0, .inr (lci kd, [.ref q0a, .ref q0d, .ref q0g, .int gc, .ref q0m])), (q0a, .inl (ta 1, ln, .inl acc)), (q0m, .inl (lamC kd ta ln am))] (fun (w1' : Nat → Int32) => [(h0, .inr (0, [.ref lg, .ref e1, .ref e2, .ref e3, .ref rl, .int cur, .ref sh])), (e1, .inr (1, [.ref e1w])), (e1w, .inl (ta 2, 40, .inl w1')), (q0, .inr (lci kd, [.ref q0a, .ref q0d, .ref q0g, .int gc, .ref q0m])), (q0a, .inl (ta 1, ln, .inl acc)), (q0m, .inl (lamC kd ta ln am))]) 1 6 K E := by
  refine x_sxd1 hlt (by decide +kernel) (Nat.le_of_ble_eq_true rfl) (fun g G hl hD hT hN Q => ?_)
  subst hl; subst hD; subst hT
  unfold wX1_unitTotal_X at h
  show X g 7 0 [(0, .ref h0), (1, .ref q0), (2, .int p1)] [] [(h0, .inr (0, [.ref lg, .ref e1, .ref e2, .ref e3, .ref rl, .int cur, .ref sh])), (e1, .inr (1, [.ref e1w])), (e1w, .inl ((xT g) 2, 40, .inl w1)), (q0, .inr (lci kd, [.ref q0a, .ref q0d, .ref q0g, .int gc, .ref q0m])), (q0a, .inl ((xT g) 1, ln, .inl acc)), (q0m, .inl (lamC kd (xT g) ln am))] 0 0
  refine x_lconst (v := (0 : Int64)) G dX1_unitTotal_0 (by decide) ?_
  refine x_lstore_n (lv' := [(3, .long (0 : Int64)), (0, .ref h0), (1, .ref q0), (2, .int p1)]) G rfl dX1_unitTotal_1 (by decide) rfl ?_
  refine x_iconst (v := (0 : Int32)) G dX1_unitTotal_2 (by decide) ?_
  refine x_istore (lv' := [(5, .int (0 : Int32)), (3, .long (0 : Int64)), (0, .ref h0), (1, .ref q0), (2, .int p1)]) G dX1_unitTotal_3 (by decide) rfl ?_
  obtain ⟨n0, h⟩ := h
  refine kX1_unitTotal_X_L5 G Q (fun v3_15 v5_16 w1_17 h => ?_) n0 _ _ _ h
  · exact h.elim
theorem cdX1_give : yX1_give.cls = RX1 ∧ yX1_give.cls ≠ "java/lang/invoke/MethodHandle" ∧ yX1_give.cls ≠ "java/lang/invoke/VarHandle" ∧ (parseMethodDescriptor yX1_give.desc).map (fun d => d.parameters.length) = some 2 := by decide +kernel
set_option maxRecDepth 20000 in
theorem tX1_give_F {l : Launch} {D : va_G} {ta : Nat → ClassId} {h0 : Nat} {lg : Nat} {e1 : Nat} {e2 : Nat} {e3 : Nat} {rl : Nat} {cur : Int32} {sh : Nat} {lgf : Nat → Option Nat} {p0 : Int32} {p1 : Int32} {K : Int32 → Prop} {E : String → Prop} (hlt : l.stackTraces = false) (h : wX1_same_F p0 p1 lgf K E) : SXi0 l D ta yX1_give cX1_give 6 FieldType.int 2 [.ref h0, .int p0, .int p1] [(h0, .inr (0, [.ref lg, .ref e1, .ref e2, .ref e3, .ref rl, .int cur, .ref sh])), (lg, .inl (ta 6, 12, .inr (.inr (.inr (.inr lgf)))))] ([(h0, .inr (0, [.ref lg, .ref e1, .ref e2, .ref e3, .ref rl, .int cur, .ref sh])), (lg, .inl (ta 6, 12, .inr (.inr (.inr (.inr lgf)))))]) 3 222 K E := by
  refine x_sxi0 hlt (by decide +kernel) (Nat.le_of_ble_eq_true rfl) (fun g G hl hD hT hN Q => ?_)
  subst hl; subst hD; subst hT
  unfold wX1_same_F at h
  show X g 6 0 [(0, .ref h0), (1, .int p0), (2, .int p1)] [] [(h0, .inr (0, [.ref lg, .ref e1, .ref e2, .ref e3, .ref rl, .int cur, .ref sh])), (lg, .inl ((xT g) 6, 12, .inr (.inr (.inr (.inr lgf)))))] 0 0
  refine x_aload_n G rfl dX1_give_0 0 rfl ?_
  refine x_get G in_X1 0 rfl rfl 0 (by decide) q159 (fun _ h => h) rfl dX1_give_1 ?_
  refine x_iload_n G rfl dX1_give_4 1 rfl ?_
  by_cases hz : vp_in p0 12
  case neg =>
    replace h := h.1 hz
    refine x_aaldZ G 1 rfl rfl (by decide) hz (Nat.le_of_ble_eq_true rfl) (Nat.le_of_ble_eq_true rfl) (Nat.le_of_ble_eq_true rfl) dX1_give_5 ?_
    exact x_oi0 G Q h XSub.rf (Nat.le_of_ble_eq_true rfl) (Nat.le_of_ble_eq_true rfl)
  replace h := h.2 hz
  obtain ⟨hq, h⟩ := h
  refine x_aald G 1 6 rfl rfl hz dX1_give_5 ?_
  rw [hq]
  show X g 6 6 [(0, .ref h0), (1, .int p0), (2, .int p1)] [.null] [(h0, .inr (0, [.ref lg, .ref e1, .ref e2, .ref e3, .ref rl, .int cur, .ref sh])), (lg, .inl ((xT g) 6, 12, .inr (.inr (.inr (.inr lgf)))))] 0 0
  refine x_astore_nN (lv' := [(3, .null), (0, .ref h0), (1, .int p0), (2, .int p1)]) G rfl dX1_give_6 (by decide) rfl ?_
  refine x_aload_nN G rfl dX1_give_7 0 rfl ?_
  refine x_iload_n G rfl dX1_give_8 3 rfl ?_
  refine x_invN (z := ⟨"RoundingAuditor$Ledger", "length", "()I"⟩) (As := [.int p1]) (rest := []) G q617 (va_Decl.abs (G.E.2.1.2.2.1 _ (by decide +kernel))) rfl q665 (show ("RoundingAuditor$Ledger" : String) ≠ "java/lang/invoke/MethodHandle" ∧ ("RoundingAuditor$Ledger" : String) ≠ "java/lang/invoke/VarHandle" ∧ (parseMethodDescriptor "(I)D").map (fun d => d.parameters.length) = some 1 from by decide +kernel) rfl (Nat.le_of_ble_eq_true rfl) (Nat.le_of_ble_eq_true rfl) (Nat.le_of_ble_eq_true rfl) dX1_give_9 ?_
  exact x_oi0 G Q h XSub.rf (Nat.le_of_ble_eq_true rfl) (Nat.le_of_ble_eq_true rfl)
def wX1_give (p0 : Int32) (p1 : Int32) (lgf : Nat → Option Nat) (u0 : Nat) (kd : Bool) (gc : Int32) (ln : Nat) (giv : Nat → Int32) (am : Nat → UInt64) (K : Int32 → Int32 → (Nat → Int32) → Prop) (E : String → Int32 → (Nat → Int32) → Prop) : Prop := (vp_in p0 12 ∧ ((lgf p0.toNatClampNeg) = some u0 ∧ (wL_at_X kd p1 ln am (fun (r_1 : UInt64) => (wX4_give p1 gc ln giv (fun (r_2 : Int32) (gc_3 : Int32) (giv_4 : Nat → Int32) => ((r_2 = (0 : Int32) → K (-104 : Int32) gc_3 giv_4) ∧ (¬ r_2 = (0 : Int32) → (wX4_givenCount gc_3 (fun (r_5 : Int32) => K r_5 gc_3 giv_4))))))) (fun (En : String) => E En gc giv))))
set_option maxRecDepth 20000 in
theorem tX1_give {l : Launch} {D : va_G} {ta : Nat → ClassId} {h0 : Nat} {lg : Nat} {e1 : Nat} {e2 : Nat} {e3 : Nat} {rl : Nat} {cur : Int32} {sh : Nat} {lgf : Nat → Option Nat} {u0 : Nat} {kd : Bool} {u0a : Nat} {u0d : Nat} {u0g : Nat} {gc : Int32} {u0m : Nat} {ln : Nat} {giv : Nat → Int32} {am : Nat → UInt64} {p0 : Int32} {p1 : Int32} {K : Int32 → Int32 → (Nat → Int32) → Prop} {E : String → Int32 → (Nat → Int32) → Prop} (hlt : l.stackTraces = false) (h : wX1_give p0 p1 lgf u0 kd gc ln giv am K E) : SXi2 l D ta yX1_give cX1_give 6 FieldType.int 2 [.ref h0, .int p0, .int p1] [(h0, .inr (0, [.ref lg, .ref e1, .ref e2, .ref e3, .ref rl, .int cur, .ref sh])), (lg, .inl (ta 6, 12, .inr (.inr (.inr (.inr lgf))))), (u0, .inr (lci kd, [.ref u0a, .ref u0d, .ref u0g, .int gc, .ref u0m])), (u0g, .inl (ta 1, ln, .inl giv)), (u0m, .inl (lamC kd ta ln am))] (fun (gc' : Int32) (giv' : Nat → Int32) => [(h0, .inr (0, [.ref lg, .ref e1, .ref e2, .ref e3, .ref rl, .int cur, .ref sh])), (lg, .inl (ta 6, 12, .inr (.inr (.inr (.inr lgf))))), (u0, .inr (lci kd, [.ref u0a, .ref u0d, .ref u0g, .int gc', .ref u0m])), (u0g, .inl (ta 1, ln, .inl giv')), (u0m, .inl (lamC kd ta ln am))]) 3 222 K E := by
  refine x_sxi2 hlt (by decide +kernel) (Nat.le_of_ble_eq_true rfl) (fun g G hl hD hT hN Q => ?_)
  subst hl; subst hD; subst hT
  unfold wX1_give at h
  show X g 6 0 [(0, .ref h0), (1, .int p0), (2, .int p1)] [] [(h0, .inr (0, [.ref lg, .ref e1, .ref e2, .ref e3, .ref rl, .int cur, .ref sh])), (lg, .inl ((xT g) 6, 12, .inr (.inr (.inr (.inr lgf))))), (u0, .inr (lci kd, [.ref u0a, .ref u0d, .ref u0g, .int gc, .ref u0m])), (u0g, .inl ((xT g) 1, ln, .inl giv)), (u0m, .inl (lamC kd (xT g) ln am))] 0 0
  refine x_aload_n G rfl dX1_give_0 0 rfl ?_
  refine x_get G in_X1 0 rfl rfl 0 (by decide) q159 (fun _ h => h) rfl dX1_give_1 ?_
  refine x_iload_n G rfl dX1_give_4 1 rfl ?_
  obtain ⟨hz, hq, h⟩ := h
  refine x_aald G 1 6 rfl rfl hz dX1_give_5 ?_
  rw [hq]
  show X g 6 6 [(0, .ref h0), (1, .int p0), (2, .int p1)] [.ref u0] [(h0, .inr (0, [.ref lg, .ref e1, .ref e2, .ref e3, .ref rl, .int cur, .ref sh])), (lg, .inl ((xT g) 6, 12, .inr (.inr (.inr (.inr lgf))))), (u0, .inr (lci kd, [.ref u0a, .ref u0d, .ref u0g, .int gc, .ref u0m])), (u0g, .inl ((xT g) 1, ln, .inl giv)), (u0m, .inl (lamC kd (xT g) ln am))] 0 0
  refine x_astore_n (lv' := [(3, .ref u0), (0, .ref h0), (1, .int p0), (2, .int p1)]) G rfl dX1_give_6 (by decide) rfl ?_
  refine x_aload_n G rfl dX1_give_7 0 rfl ?_
  refine x_iload_n G rfl dX1_give_8 3 rfl ?_
  refine x_cXUd0 (C := lnm kd) (owner := "RoundingAuditor$Ledger") (x := ⟨"RoundingAuditor$Ledger", "at", "(I)D"⟩) (wc := [(u0, .inr (lci kd, [.ref u0a, .ref u0d, .ref u0g, .int gc, .ref u0m])), (u0m, .inl (lamC kd (xT g) ln am))]) (As := [.int p1]) (rest := []) G [(h0, .inr (0, [.ref lg, .ref e1, .ref e2, .ref e3, .ref rl, .int cur, .ref sh])), (lg, .inl ((xT g) 6, 12, .inr (.inr (.inr (.inr lgf))))), (u0g, .inl ((xT g) 1, ln, .inl giv))] (XSub.of [0, 1, 3, 2, 4] rfl (by decide)) (tL_at_X kd G.noTraces h) q617 q619 (va_Decl.abs (G.E.2.1.2.2.1 _ (by decide +kernel))) (sL_at kd) (hL_at kd).1 (hL_at kd).2.1 (hL_at kd).2.2.1 cdL_at (lci kd) 2 (lci_at kd) rfl rfl (by decide) (hL_at _).2.2.2 rfl (Nat.le_of_ble_eq_true rfl) (Nat.le_of_ble_eq_true rfl) (Nat.le_of_ble_eq_true rfl) dX1_give_9 (fun En h => ?_) (fun r_1 h => ?_)
  · exact x_oi2 G Q gc giv h (XSub.of [0, 1, 3, 2, 4] rfl (by decide)) (Nat.le_of_ble_eq_true rfl) (Nat.le_of_ble_eq_true rfl)
  show X g 6 12 [(3, .ref u0), (0, .ref h0), (1, .int p0), (2, .int p1)] [.double r_1] [(h0, .inr (0, [.ref lg, .ref e1, .ref e2, .ref e3, .ref rl, .int cur, .ref sh])), (lg, .inl ((xT g) 6, 12, .inr (.inr (.inr (.inr lgf))))), (u0g, .inl ((xT g) 1, ln, .inl giv)), (u0, .inr (lci kd, [.ref u0a, .ref u0d, .ref u0g, .int gc, .ref u0m])), (u0m, .inl (lamC kd (xT g) ln am))] 3 222
  refine x_dstore (lv' := [(4, .double r_1), (3, .ref u0), (0, .ref h0), (1, .int p0), (2, .int p1)]) G dX1_give_12 (by decide) rfl ?_
  refine x_aload_n G rfl dX1_give_14 1 rfl ?_
  refine x_iload_n G rfl dX1_give_15 4 rfl ?_
  refine x_cUi2 (C := lnm kd) (owner := "RoundingAuditor$Ledger") (x := ⟨"RoundingAuditor$Ledger", "give", "(I)Z"⟩) (wc := [(u0, .inr (lci kd, [.ref u0a, .ref u0d, .ref u0g, .int gc, .ref u0m])), (u0g, .inl ((xT g) 1, ln, .inl giv))]) (As := [.int p1]) (rest := []) G [(h0, .inr (0, [.ref lg, .ref e1, .ref e2, .ref e3, .ref rl, .int cur, .ref sh])), (lg, .inl ((xT g) 6, 12, .inr (.inr (.inr (.inr lgf))))), (u0m, .inl (lamC kd (xT g) ln am))] (XSub.of [0, 1, 4, 3, 2] rfl (by decide)) (tX4_give G.noTraces h) q919 q921 (va_Decl.of (G.hts _ q920) (G.hts _ q924)) (sL_give kd) q920 q78 q924 cdL_give (lci kd) 3 (lci_at kd) rfl rfl (by decide) (by decide) rfl (Nat.le_of_ble_eq_true rfl) (Nat.le_of_ble_eq_true rfl) (Nat.le_of_ble_eq_true rfl) dX1_give_16 (fun r_2 gc_3 giv_4 h => ?_)
  show X g 6 19 [(4, .double r_1), (3, .ref u0), (0, .ref h0), (1, .int p0), (2, .int p1)] [.int r_2] [(h0, .inr (0, [.ref lg, .ref e1, .ref e2, .ref e3, .ref rl, .int cur, .ref sh])), (lg, .inl ((xT g) 6, 12, .inr (.inr (.inr (.inr lgf))))), (u0m, .inl (lamC kd (xT g) ln am)), (u0, .inr (lci kd, [.ref u0a, .ref u0d, .ref u0g, .int gc_3, .ref u0m])), (u0g, .inl ((xT g) 1, ln, .inl giv_4))] 3 222
  refine x_if_eq (tgt := 29) G dX1_give_19 rfl (fun c => ?_) (fun c => ?_)
  · replace h := h.1 c
    refine x_bipush (v := (-104 : Int32)) G dX1_give_29 (by decide) ?_
    exact x_yi2 G Q dX1_give_31 rfl gc_3 giv_4 h (XSub.of [0, 1, 3, 4, 2] rfl (by decide)) (Nat.le_of_ble_eq_true rfl) (Nat.le_of_ble_eq_true rfl)
  · replace h := h.2 c
    refine x_aload_n G rfl dX1_give_22 1 rfl ?_
    refine x_cUi0 (C := lnm kd) (owner := "RoundingAuditor$Ledger") (x := ⟨"RoundingAuditor$Ledger", "givenCount", "()I"⟩) (wc := [(u0, .inr (lci kd, [.ref u0a, .ref u0d, .ref u0g, .int gc_3, .ref u0m]))]) (As := []) (rest := []) G [(h0, .inr (0, [.ref lg, .ref e1, .ref e2, .ref e3, .ref rl, .int cur, .ref sh])), (lg, .inl ((xT g) 6, 12, .inr (.inr (.inr (.inr lgf))))), (u0m, .inl (lamC kd (xT g) ln am)), (u0g, .inl ((xT g) 1, ln, .inl giv_4))] (XSub.of [0, 1, 2, 4, 3] rfl (by decide)) (tX4_givenCount G.noTraces h) q925 q927 (va_Decl.of (G.hts _ q926) (G.hts _ q930)) (sL_givenCount kd) q926 q78 q930 cdL_givenCount (lci kd) 3 (lci_at kd) rfl rfl (by decide) (by decide) rfl (Nat.le_of_ble_eq_true rfl) (Nat.le_of_ble_eq_true rfl) (Nat.le_of_ble_eq_true rfl) dX1_give_23 (fun r_5 h => ?_)
    show X g 6 26 [(4, .double r_1), (3, .ref u0), (0, .ref h0), (1, .int p0), (2, .int p1)] [.int r_5] [(h0, .inr (0, [.ref lg, .ref e1, .ref e2, .ref e3, .ref rl, .int cur, .ref sh])), (lg, .inl ((xT g) 6, 12, .inr (.inr (.inr (.inr lgf))))), (u0m, .inl (lamC kd (xT g) ln am)), (u0g, .inl ((xT g) 1, ln, .inl giv_4)), (u0, .inr (lci kd, [.ref u0a, .ref u0d, .ref u0g, .int gc_3, .ref u0m]))] 3 222
    refine x_goto (tgt := 31) G dX1_give_26 rfl ?_
    exact x_yi2 G Q dX1_give_31 rfl gc_3 giv_4 h (XSub.of [0, 1, 4, 3, 2] rfl (by decide)) (Nat.le_of_ble_eq_true rfl) (Nat.le_of_ble_eq_true rfl)
theorem cdX1_sum : yX1_sum.cls ≠ "java/lang/invoke/MethodHandle" ∧ yX1_sum.cls ≠ "java/lang/invoke/VarHandle" ∧ (parseMethodDescriptor yX1_sum.desc).map (fun d => d.parameters.length) = some 4 := by decide +kernel
def wX1_sum_0_J7x0 (w_1 : Nat → Int32) (K : (Nat → Int32) → Prop) (E : String → (Nat → Int32) → Prop) : Prop := E "java/lang/NullPointerException" w_1
def wX1_sum_0 (p2 : Int32) (p3 : Int32) (w : Nat → Int32) (K : (Nat → Int32) → Prop) (E : String → (Nat → Int32) → Prop) : Prop := (wX2_clear w (fun (w_1 : Nat → Int32) => (wX1_sum_0_J7x0 w_1 K E )))
set_option maxRecDepth 20000 in
theorem kX1_sum_0_J7x0 {g : XG} {q0 : Nat} {q0w : Nat} {p2 : Int32} {p3 : Int32} {w_1 : Nat → Int32} {K : (Nat → Int32) → Prop} {E : String → (Nat → Int32) → Prop} (G : XO g RX1 cX1_sum 5 4 1 8) (Q : XYv1 g 1 8 (fun (w' : Nat → Int32) => [(q0, .inr (1, [.ref q0w])), (q0w, .inl ((xT g) 2, 40, .inl w'))]) K E) : wX1_sum_0_J7x0 w_1 K E  → X g 5 7 [(0, .ref q0), (1, .null), (2, .int p2), (3, .int p3), (4, .int (0 : Int32))] [] [(q0, .inr (1, [.ref q0w])), (q0w, .inl ((xT g) 2, 40, .inl w_1))] 0 0 := by
  intro  h
  unfold wX1_sum_0_J7x0 at h
  refine x_iload G dX1_sum_7 4 rfl ?_
  refine x_aload_nN G rfl dX1_sum_9 1 rfl ?_
  refine x_invN (z := ⟨"RoundingAuditor$Ledger", "length", "()I"⟩) (As := []) (rest := [.int (0 : Int32)]) G q661 (va_Decl.of (G.hts _ q662) (G.hts _ q666)) rfl q665 (show ("RoundingAuditor$Ledger" : String) ≠ "java/lang/invoke/MethodHandle" ∧ ("RoundingAuditor$Ledger" : String) ≠ "java/lang/invoke/VarHandle" ∧ (parseMethodDescriptor "()I").map (fun d => d.parameters.length) = some 0 from by decide +kernel) rfl (Nat.le_of_ble_eq_true rfl) (Nat.le_of_ble_eq_true rfl) (Nat.le_of_ble_eq_true rfl) dX1_sum_10 ?_
  exact x_ov1 G Q w_1 h XSub.rf (Nat.le_of_ble_eq_true rfl) (Nat.le_of_ble_eq_true rfl)
set_option maxRecDepth 20000 in
theorem tX1_sum_0 {l : Launch} {D : va_G} {ta : Nat → ClassId} {q0 : Nat} {q0w : Nat} {w : Nat → Int32} {p2 : Int32} {p3 : Int32} {K : (Nat → Int32) → Prop} {E : String → (Nat → Int32) → Prop} (hlt : l.stackTraces = false) (h : wX1_sum_0 p2 p3 w K E) : SXv1 l D ta yX1_sum cX1_sum 5 4 [.ref q0, .null, .int p2, .int p3] [(q0, .inr (1, [.ref q0w])), (q0w, .inl (ta 2, 40, .inl w))] (fun (w' : Nat → Int32) => [(q0, .inr (1, [.ref q0w])), (q0w, .inl (ta 2, 40, .inl w'))]) 1 8 K E := by
  refine x_sxv1 hlt (by decide +kernel) (Nat.le_of_ble_eq_true rfl) (fun g G hl hD hT hN Q => ?_)
  subst hl; subst hD; subst hT
  unfold wX1_sum_0 at h
  show X g 5 0 [(0, .ref q0), (1, .null), (2, .int p2), (3, .int p3)] [] [(q0, .inr (1, [.ref q0w])), (q0w, .inl ((xT g) 2, 40, .inl w))] 0 0
  refine x_aload_n G rfl dX1_sum_0 0 rfl ?_
  refine x_cVv1 (wc := [(q0, .inr (1, [.ref q0w])), (q0w, .inl ((xT g) 2, 40, .inl w))]) (As := []) (rest := []) G [] (XSub.of [0, 1] rfl (by decide)) (tX2_clear G.noTraces h) (lw_V q265 q266 q267 q66 q268) cdX2_clear 1 0 rfl rfl rfl (by decide) (by decide) rfl (Nat.le_of_ble_eq_true rfl) (Nat.le_of_ble_eq_true rfl) (Nat.le_of_ble_eq_true rfl) dX1_sum_1 (fun w_1 h => ?_)
  show X g 5 4 [(0, .ref q0), (1, .null), (2, .int p2), (3, .int p3)] [] [(q0, .inr (1, [.ref q0w])), (q0w, .inl ((xT g) 2, 40, .inl w_1))] 0 0
  refine x_iconst (v := (0 : Int32)) G dX1_sum_4 (by decide) ?_
  refine x_istore (lv' := [(4, .int (0 : Int32)), (0, .ref q0), (1, .null), (2, .int p2), (3, .int p3)]) G dX1_sum_5 (by decide) rfl ?_
  refine x_lv (lv' := [(0, .ref q0), (1, .null), (2, .int p2), (3, .int p3), (4, .int (0 : Int32))]) [1, 2, 3, 4, 0] rfl ?_
  refine kX1_sum_0_J7x0 G Q   h
def wX1_sum_J31 (kd : Bool) (ln : Nat) (day : Nat → Int32) (am : Nat → UInt64) (p3 : Int32) (w_3 : Nat → Int32) (X7 : Int32 → (Nat → Int32) → Prop) : Int32 → Prop := fun (v4_5 : Int32) => ((p3 = (-1 : Int32) → (wL_at kd v4_5 ln am (fun (r_6 : UInt64) => (wX2_add r_6 (0 : Int32) w_3 (fun (w_7 : Nat → Int32) => (∀ x_8 : Int32, x_8 = (v4_5 + (1 : Int32)) → X7 x_8 w_7)))))) ∧ (¬ p3 = (-1 : Int32) → (wX4_day v4_5 ln day (fun (r_9 : Int32) => ((¬ r_9 = p3 → (∀ x_10 : Int32, x_10 = (v4_5 + (1 : Int32)) → X7 x_10 w_3)) ∧ (r_9 = p3 → (wL_at kd v4_5 ln am (fun (r_11 : UInt64) => (wX2_add r_11 (0 : Int32) w_3 (fun (w_12 : Nat → Int32) => (∀ x_13 : Int32, x_13 = (v4_5 + (1 : Int32)) → X7 x_13 w_12)))))))))))
def wX1_sum_L7 (kd : Bool) (ln : Nat) (acc : Nat → Int32) (day : Nat → Int32) (am : Nat → UInt64) (p2 : Int32) (p3 : Int32) (X63 : Int32 → (Nat → Int32) → Prop) : Nat → Int32 → (Nat → Int32) → Prop
  | 0, _, _ => False
  | n + 1, v4_2, w_3 => (wX4_length ln (fun (r_4 : Int32) => ((r_4 ≤ v4_2 → X63 v4_2 w_3) ∧ (¬ r_4 ≤ v4_2 → ((p2 = (-1 : Int32) → (wX1_sum_J31 kd ln day am p3 w_3 (wX1_sum_L7 kd ln acc day am p2 p3 X63 n) v4_2)) ∧ (¬ p2 = (-1 : Int32) → (wX4_account v4_2 ln acc (fun (r_16 : Int32) => ((¬ r_16 = p2 → (∀ x_17 : Int32, x_17 = (v4_2 + (1 : Int32)) → wX1_sum_L7 kd ln acc day am p2 p3 X63 n x_17 w_3)) ∧ (r_16 = p2 → (wX1_sum_J31 kd ln day am p3 w_3 (wX1_sum_L7 kd ln acc day am p2 p3 X63 n) v4_2)))))))))))
def wX1_sum (p2 : Int32) (p3 : Int32) (w : Nat → Int32) (kd : Bool) (ln : Nat) (acc : Nat → Int32) (day : Nat → Int32) (am : Nat → UInt64) (K : (Nat → Int32) → Prop) : Prop := (wX2_clear w (fun (w_1 : Nat → Int32) => (∃ m7 : Nat, wX1_sum_L7 kd ln acc day am p2 p3 (fun (v4_20 : Int32) (w_21 : Nat → Int32) => K w_21) m7 (0 : Int32) w_1)))
set_option maxRecDepth 20000 in
theorem kX1_sum_J31 {g : XG} {q0 : Nat} {q0w : Nat} {q1 : Nat} {kd : Bool} {q1a : Nat} {q1d : Nat} {q1g : Nat} {gc : Int32} {q1m : Nat} {ln : Nat} {acc : Nat → Int32} {day : Nat → Int32} {am : Nat → UInt64} {p2 : Int32} {p3 : Int32} {w_3 : Nat → Int32} {X7 : Int32 → (Nat → Int32) → Prop} (G : XO g RX1 cX1_sum 5 4 0 0) (hX7 : ∀ (v4_14 : Int32) (w_15 : Nat → Int32), X7 v4_14 w_15 → X g 5 7 [(4, .int v4_14), (0, .ref q0), (1, .ref q1), (2, .int p2), (3, .int p3)] [] [(q1, .inr (lci kd, [.ref q1a, .ref q1d, .ref q1g, .int gc, .ref q1m])), (q1a, .inl ((xT g) 1, ln, .inl acc)), (q1d, .inl ((xT g) 1, ln, .inl day)), (q1m, .inl (lamC kd (xT g) ln am)), (q0, .inr (1, [.ref q0w])), (q0w, .inl ((xT g) 2, 40, .inl w_15))] 0 0) : ∀ (v4_5 : Int32), wX1_sum_J31 kd ln day am p3 w_3 X7 v4_5 → X g 5 31 [(0, .ref q0), (1, .ref q1), (2, .int p2), (3, .int p3), (4, .int v4_5)] [] [(q1d, .inl ((xT g) 1, ln, .inl day)), (q1m, .inl (lamC kd (xT g) ln am)), (q0, .inr (1, [.ref q0w])), (q0w, .inl ((xT g) 2, 40, .inl w_3)), (q1, .inr (lci kd, [.ref q1a, .ref q1d, .ref q1g, .int gc, .ref q1m])), (q1a, .inl ((xT g) 1, ln, .inl acc))] 0 0 := by
  intro v4_5 h
  unfold wX1_sum_J31 at h
  refine x_iload_n G rfl dX1_sum_31 3 rfl ?_
  refine x_iconst (v := (-1 : Int32)) G dX1_sum_32 (by decide) ?_
  refine x_icmp_eq (tgt := 46) G dX1_sum_33 rfl (fun c => ?_) (fun c => ?_)
  · replace h := h.1 c
    refine x_aload_n G rfl dX1_sum_46 0 rfl ?_
    refine x_aload_n G rfl dX1_sum_47 1 rfl ?_
    refine x_iload G dX1_sum_48 4 rfl ?_
    refine x_cUd0 (C := lnm kd) (owner := "RoundingAuditor$Ledger") (x := ⟨"RoundingAuditor$Ledger", "at", "(I)D"⟩) (wc := [(q1, .inr (lci kd, [.ref q1a, .ref q1d, .ref q1g, .int gc, .ref q1m])), (q1m, .inl (lamC kd (xT g) ln am))]) (As := [.int v4_5]) (rest := [.ref q0]) G [(q1d, .inl ((xT g) 1, ln, .inl day)), (q0, .inr (1, [.ref q0w])), (q0w, .inl ((xT g) 2, 40, .inl w_3)), (q1a, .inl ((xT g) 1, ln, .inl acc))] (XSub.of [0, 2, 3, 5, 4, 1] rfl (by decide)) (tL_at kd G.noTraces h) q617 q619 (va_Decl.abs (G.E.2.1.2.2.1 _ (by decide +kernel))) (sL_at kd) (hL_at kd).1 (hL_at kd).2.1 (hL_at kd).2.2.1 cdL_at (lci kd) 4 (lci_at kd) rfl rfl (by decide) (hL_at _).2.2.2 rfl (Nat.le_of_ble_eq_true rfl) (Nat.le_of_ble_eq_true rfl) (Nat.le_of_ble_eq_true rfl) dX1_sum_50 (fun r_6 h => ?_)
    show X g 5 53 [(0, .ref q0), (1, .ref q1), (2, .int p2), (3, .int p3), (4, .int v4_5)] [.double r_6, .ref q0] [(q1d, .inl ((xT g) 1, ln, .inl day)), (q0, .inr (1, [.ref q0w])), (q0w, .inl ((xT g) 2, 40, .inl w_3)), (q1a, .inl ((xT g) 1, ln, .inl acc)), (q1, .inr (lci kd, [.ref q1a, .ref q1d, .ref q1g, .int gc, .ref q1m])), (q1m, .inl (lamC kd (xT g) ln am))] 0 0
    refine x_iconst (v := (0 : Int32)) G dX1_sum_53 (by decide) ?_
    refine x_cVv1 (wc := [(q0, .inr (1, [.ref q0w])), (q0w, .inl ((xT g) 2, 40, .inl w_3))]) (As := [.double r_6, .int (0 : Int32)]) (rest := []) G [(q1d, .inl ((xT g) 1, ln, .inl day)), (q1a, .inl ((xT g) 1, ln, .inl acc)), (q1, .inr (lci kd, [.ref q1a, .ref q1d, .ref q1g, .int gc, .ref q1m])), (q1m, .inl (lamC kd (xT g) ln am))] (XSub.of [0, 3, 4, 5, 1, 2] rfl (by decide)) (tX2_add G.noTraces h) (lw_V q269 q270 q271 q66 q272) cdX2_add 1 1 rfl rfl rfl (by decide) (by decide) rfl (Nat.le_of_ble_eq_true rfl) (Nat.le_of_ble_eq_true rfl) (Nat.le_of_ble_eq_true rfl) dX1_sum_54 (fun w_7 h => ?_)
    show X g 5 57 [(0, .ref q0), (1, .ref q1), (2, .int p2), (3, .int p3), (4, .int v4_5)] [] [(q1d, .inl ((xT g) 1, ln, .inl day)), (q1a, .inl ((xT g) 1, ln, .inl acc)), (q1, .inr (lci kd, [.ref q1a, .ref q1d, .ref q1g, .int gc, .ref q1m])), (q1m, .inl (lamC kd (xT g) ln am)), (q0, .inr (1, [.ref q0w])), (q0w, .inl ((xT g) 2, 40, .inl w_7))] 0 0
    obtain ⟨x_8, ex_8⟩ : ∃ z : Int32, z = (v4_5 + (1 : Int32)) := ⟨_, rfl⟩
    replace h := h x_8 ex_8
    refine x_iinc (v := x_8) (lv' := [(4, .int x_8), (0, .ref q0), (1, .ref q1), (2, .int p2), (3, .int p3)]) G dX1_sum_57 4 rfl (by rw [ex_8]; rfl) (by decide) rfl ?_
    refine x_goto (tgt := 7) G dX1_sum_60 rfl ?_
    refine x_ws (ws' := [(q1, .inr (lci kd, [.ref q1a, .ref q1d, .ref q1g, .int gc, .ref q1m])), (q1a, .inl ((xT g) 1, ln, .inl acc)), (q1d, .inl ((xT g) 1, ln, .inl day)), (q1m, .inl (lamC kd (xT g) ln am)), (q0, .inr (1, [.ref q0w])), (q0w, .inl ((xT g) 2, 40, .inl w_7))]) (XSub.of [2, 1, 0, 3, 4, 5] rfl (by decide)) ?_
    exact hX7 x_8 w_7 h
  · replace h := h.2 c
    refine x_aload_n G rfl dX1_sum_36 1 rfl ?_
    refine x_iload G dX1_sum_37 4 rfl ?_
    refine x_cUi0 (C := lnm kd) (owner := "RoundingAuditor$Ledger") (x := ⟨"RoundingAuditor$Ledger", "day", "(I)I"⟩) (wc := [(q1, .inr (lci kd, [.ref q1a, .ref q1d, .ref q1g, .int gc, .ref q1m])), (q1d, .inl ((xT g) 1, ln, .inl day))]) (As := [.int v4_5]) (rest := []) G [(q1m, .inl (lamC kd (xT g) ln am)), (q0, .inr (1, [.ref q0w])), (q0w, .inl ((xT g) 2, 40, .inl w_3)), (q1a, .inl ((xT g) 1, ln, .inl acc))] (XSub.of [1, 2, 3, 5, 4, 0] rfl (by decide)) (tX4_day G.noTraces h) q648 q650 (va_Decl.of (G.hts _ q649) (G.hts _ q653)) (sL_day kd) q649 q78 q653 cdL_day (lci kd) 4 (lci_at kd) rfl rfl (by decide) (by decide) rfl (Nat.le_of_ble_eq_true rfl) (Nat.le_of_ble_eq_true rfl) (Nat.le_of_ble_eq_true rfl) dX1_sum_39 (fun r_9 h => ?_)
    show X g 5 42 [(0, .ref q0), (1, .ref q1), (2, .int p2), (3, .int p3), (4, .int v4_5)] [.int r_9] [(q1m, .inl (lamC kd (xT g) ln am)), (q0, .inr (1, [.ref q0w])), (q0w, .inl ((xT g) 2, 40, .inl w_3)), (q1a, .inl ((xT g) 1, ln, .inl acc)), (q1, .inr (lci kd, [.ref q1a, .ref q1d, .ref q1g, .int gc, .ref q1m])), (q1d, .inl ((xT g) 1, ln, .inl day))] 0 0
    refine x_iload_n G rfl dX1_sum_42 3 rfl ?_
    refine x_icmp_ne (tgt := 57) G dX1_sum_43 rfl (fun c => ?_) (fun c => ?_)
    · replace h := h.1 c
      obtain ⟨x_10, ex_10⟩ : ∃ z : Int32, z = (v4_5 + (1 : Int32)) := ⟨_, rfl⟩
      replace h := h x_10 ex_10
      refine x_iinc (v := x_10) (lv' := [(4, .int x_10), (0, .ref q0), (1, .ref q1), (2, .int p2), (3, .int p3)]) G dX1_sum_57 4 rfl (by rw [ex_10]; rfl) (by decide) rfl ?_
      refine x_goto (tgt := 7) G dX1_sum_60 rfl ?_
      refine x_ws (ws' := [(q1, .inr (lci kd, [.ref q1a, .ref q1d, .ref q1g, .int gc, .ref q1m])), (q1a, .inl ((xT g) 1, ln, .inl acc)), (q1d, .inl ((xT g) 1, ln, .inl day)), (q1m, .inl (lamC kd (xT g) ln am)), (q0, .inr (1, [.ref q0w])), (q0w, .inl ((xT g) 2, 40, .inl w_3))]) (XSub.of [4, 3, 5, 0, 1, 2] rfl (by decide)) ?_
      exact hX7 x_10 w_3 h
    · replace h := h.2 c
      refine x_aload_n G rfl dX1_sum_46 0 rfl ?_
      refine x_aload_n G rfl dX1_sum_47 1 rfl ?_
      refine x_iload G dX1_sum_48 4 rfl ?_
      refine x_cUd0 (C := lnm kd) (owner := "RoundingAuditor$Ledger") (x := ⟨"RoundingAuditor$Ledger", "at", "(I)D"⟩) (wc := [(q1, .inr (lci kd, [.ref q1a, .ref q1d, .ref q1g, .int gc, .ref q1m])), (q1m, .inl (lamC kd (xT g) ln am))]) (As := [.int v4_5]) (rest := [.ref q0]) G [(q0, .inr (1, [.ref q0w])), (q0w, .inl ((xT g) 2, 40, .inl w_3)), (q1a, .inl ((xT g) 1, ln, .inl acc)), (q1d, .inl ((xT g) 1, ln, .inl day))] (XSub.of [1, 2, 3, 5, 4, 0] rfl (by decide)) (tL_at kd G.noTraces h) q617 q619 (va_Decl.abs (G.E.2.1.2.2.1 _ (by decide +kernel))) (sL_at kd) (hL_at kd).1 (hL_at kd).2.1 (hL_at kd).2.2.1 cdL_at (lci kd) 4 (lci_at kd) rfl rfl (by decide) (hL_at _).2.2.2 rfl (Nat.le_of_ble_eq_true rfl) (Nat.le_of_ble_eq_true rfl) (Nat.le_of_ble_eq_true rfl) dX1_sum_50 (fun r_11 h => ?_)
      show X g 5 53 [(0, .ref q0), (1, .ref q1), (2, .int p2), (3, .int p3), (4, .int v4_5)] [.double r_11, .ref q0] [(q0, .inr (1, [.ref q0w])), (q0w, .inl ((xT g) 2, 40, .inl w_3)), (q1a, .inl ((xT g) 1, ln, .inl acc)), (q1d, .inl ((xT g) 1, ln, .inl day)), (q1, .inr (lci kd, [.ref q1a, .ref q1d, .ref q1g, .int gc, .ref q1m])), (q1m, .inl (lamC kd (xT g) ln am))] 0 0
      refine x_iconst (v := (0 : Int32)) G dX1_sum_53 (by decide) ?_
      refine x_cVv1 (wc := [(q0, .inr (1, [.ref q0w])), (q0w, .inl ((xT g) 2, 40, .inl w_3))]) (As := [.double r_11, .int (0 : Int32)]) (rest := []) G [(q1a, .inl ((xT g) 1, ln, .inl acc)), (q1d, .inl ((xT g) 1, ln, .inl day)), (q1, .inr (lci kd, [.ref q1a, .ref q1d, .ref q1g, .int gc, .ref q1m])), (q1m, .inl (lamC kd (xT g) ln am))] (XSub.of [2, 3, 4, 5, 0, 1] rfl (by decide)) (tX2_add G.noTraces h) (lw_V q269 q270 q271 q66 q272) cdX2_add 1 0 rfl rfl rfl (by decide) (by decide) rfl (Nat.le_of_ble_eq_true rfl) (Nat.le_of_ble_eq_true rfl) (Nat.le_of_ble_eq_true rfl) dX1_sum_54 (fun w_12 h => ?_)
      show X g 5 57 [(0, .ref q0), (1, .ref q1), (2, .int p2), (3, .int p3), (4, .int v4_5)] [] [(q1a, .inl ((xT g) 1, ln, .inl acc)), (q1d, .inl ((xT g) 1, ln, .inl day)), (q1, .inr (lci kd, [.ref q1a, .ref q1d, .ref q1g, .int gc, .ref q1m])), (q1m, .inl (lamC kd (xT g) ln am)), (q0, .inr (1, [.ref q0w])), (q0w, .inl ((xT g) 2, 40, .inl w_12))] 0 0
      obtain ⟨x_13, ex_13⟩ : ∃ z : Int32, z = (v4_5 + (1 : Int32)) := ⟨_, rfl⟩
      replace h := h x_13 ex_13
      refine x_iinc (v := x_13) (lv' := [(4, .int x_13), (0, .ref q0), (1, .ref q1), (2, .int p2), (3, .int p3)]) G dX1_sum_57 4 rfl (by rw [ex_13]; rfl) (by decide) rfl ?_
      refine x_goto (tgt := 7) G dX1_sum_60 rfl ?_
      refine x_ws (ws' := [(q1, .inr (lci kd, [.ref q1a, .ref q1d, .ref q1g, .int gc, .ref q1m])), (q1a, .inl ((xT g) 1, ln, .inl acc)), (q1d, .inl ((xT g) 1, ln, .inl day)), (q1m, .inl (lamC kd (xT g) ln am)), (q0, .inr (1, [.ref q0w])), (q0w, .inl ((xT g) 2, 40, .inl w_12))]) (XSub.of [2, 0, 1, 3, 4, 5] rfl (by decide)) ?_
      exact hX7 x_13 w_12 h
set_option maxRecDepth 20000 in
theorem kX1_sum_L7 {g : XG} {q0 : Nat} {q0w : Nat} {q1 : Nat} {kd : Bool} {q1a : Nat} {q1d : Nat} {q1g : Nat} {gc : Int32} {q1m : Nat} {ln : Nat} {acc : Nat → Int32} {day : Nat → Int32} {am : Nat → UInt64} {p2 : Int32} {p3 : Int32} {X63 : Int32 → (Nat → Int32) → Prop} (G : XO g RX1 cX1_sum 5 4 0 0) (hX63 : ∀ (v4_18 : Int32) (w_19 : Nat → Int32), X63 v4_18 w_19 → X g 5 63 [(4, .int v4_18), (0, .ref q0), (1, .ref q1), (2, .int p2), (3, .int p3)] [] [(q1, .inr (lci kd, [.ref q1a, .ref q1d, .ref q1g, .int gc, .ref q1m])), (q1a, .inl ((xT g) 1, ln, .inl acc)), (q1d, .inl ((xT g) 1, ln, .inl day)), (q1m, .inl (lamC kd (xT g) ln am)), (q0, .inr (1, [.ref q0w])), (q0w, .inl ((xT g) 2, 40, .inl w_19))] 0 0) : ∀ (n : Nat) (v4_2 : Int32) (w_3 : Nat → Int32), wX1_sum_L7 kd ln acc day am p2 p3 X63 n v4_2 w_3 → X g 5 7 [(4, .int v4_2), (0, .ref q0), (1, .ref q1), (2, .int p2), (3, .int p3)] [] [(q1, .inr (lci kd, [.ref q1a, .ref q1d, .ref q1g, .int gc, .ref q1m])), (q1a, .inl ((xT g) 1, ln, .inl acc)), (q1d, .inl ((xT g) 1, ln, .inl day)), (q1m, .inl (lamC kd (xT g) ln am)), (q0, .inr (1, [.ref q0w])), (q0w, .inl ((xT g) 2, 40, .inl w_3))] 0 0 := by
  intro n
  induction n with
  | zero => intro _ _ h; exact h.elim
  | succ n ih =>
    intro v4_2 w_3 h
    unfold wX1_sum_L7 at h
    refine x_iload G dX1_sum_7 0 rfl ?_
    refine x_aload_n G rfl dX1_sum_9 2 rfl ?_
    refine x_cUi0 (C := lnm kd) (owner := "RoundingAuditor$Ledger") (x := ⟨"RoundingAuditor$Ledger", "length", "()I"⟩) (wc := [(q1, .inr (lci kd, [.ref q1a, .ref q1d, .ref q1g, .int gc, .ref q1m])), (q1a, .inl ((xT g) 1, ln, .inl acc))]) (As := []) (rest := [.int v4_2]) G [(q1d, .inl ((xT g) 1, ln, .inl day)), (q1m, .inl (lamC kd (xT g) ln am)), (q0, .inr (1, [.ref q0w])), (q0w, .inl ((xT g) 2, 40, .inl w_3))] (XSub.of [2, 3, 4, 5, 0, 1] rfl (by decide)) (tX4_length G.noTraces h) q661 q663 (va_Decl.of (G.hts _ q662) (G.hts _ q666)) (sL_length kd) q662 q78 q666 cdL_length (lci kd) 0 (lci_at kd) rfl rfl (by decide) (by decide) rfl (Nat.le_of_ble_eq_true rfl) (Nat.le_of_ble_eq_true rfl) (Nat.le_of_ble_eq_true rfl) dX1_sum_10 (fun r_4 h => ?_)
    show X g 5 13 [(4, .int v4_2), (0, .ref q0), (1, .ref q1), (2, .int p2), (3, .int p3)] [.int r_4, .int v4_2] [(q1d, .inl ((xT g) 1, ln, .inl day)), (q1m, .inl (lamC kd (xT g) ln am)), (q0, .inr (1, [.ref q0w])), (q0w, .inl ((xT g) 2, 40, .inl w_3)), (q1, .inr (lci kd, [.ref q1a, .ref q1d, .ref q1g, .int gc, .ref q1m])), (q1a, .inl ((xT g) 1, ln, .inl acc))] 0 0
    refine x_icmp_ge (tgt := 63) G dX1_sum_13 rfl (fun c => ?_) (fun c => ?_)
    · replace h := h.1 c
      refine x_ws (ws' := [(q1, .inr (lci kd, [.ref q1a, .ref q1d, .ref q1g, .int gc, .ref q1m])), (q1a, .inl ((xT g) 1, ln, .inl acc)), (q1d, .inl ((xT g) 1, ln, .inl day)), (q1m, .inl (lamC kd (xT g) ln am)), (q0, .inr (1, [.ref q0w])), (q0w, .inl ((xT g) 2, 40, .inl w_3))]) (XSub.of [4, 5, 0, 1, 2, 3] rfl (by decide)) ?_
      exact hX63 v4_2 w_3 h
    · replace h := h.2 c
      refine x_iload_n G rfl dX1_sum_16 3 rfl ?_
      refine x_iconst (v := (-1 : Int32)) G dX1_sum_17 (by decide) ?_
      refine x_icmp_eq (tgt := 31) G dX1_sum_18 rfl (fun c => ?_) (fun c => ?_)
      · replace h := h.1 c
        refine x_lv (lv' := [(0, .ref q0), (1, .ref q1), (2, .int p2), (3, .int p3), (4, .int v4_2)]) [1, 2, 3, 4, 0] rfl ?_
        refine kX1_sum_J31 G ih _ h
      · replace h := h.2 c
        refine x_aload_n G rfl dX1_sum_21 2 rfl ?_
        refine x_iload G dX1_sum_22 0 rfl ?_
        refine x_cUi0 (C := lnm kd) (owner := "RoundingAuditor$Ledger") (x := ⟨"RoundingAuditor$Ledger", "account", "(I)I"⟩) (wc := [(q1, .inr (lci kd, [.ref q1a, .ref q1d, .ref q1g, .int gc, .ref q1m])), (q1a, .inl ((xT g) 1, ln, .inl acc))]) (As := [.int v4_2]) (rest := []) G [(q1d, .inl ((xT g) 1, ln, .inl day)), (q1m, .inl (lamC kd (xT g) ln am)), (q0, .inr (1, [.ref q0w])), (q0w, .inl ((xT g) 2, 40, .inl w_3))] (XSub.of [0, 1, 2, 3, 4, 5] rfl (by decide)) (tX4_account G.noTraces h) q642 q644 (va_Decl.of (G.hts _ q643) (G.hts _ q647)) (sL_account kd) q643 q78 q647 cdL_account (lci kd) 4 (lci_at kd) rfl rfl (by decide) (by decide) rfl (Nat.le_of_ble_eq_true rfl) (Nat.le_of_ble_eq_true rfl) (Nat.le_of_ble_eq_true rfl) dX1_sum_24 (fun r_16 h => ?_)
        show X g 5 27 [(4, .int v4_2), (0, .ref q0), (1, .ref q1), (2, .int p2), (3, .int p3)] [.int r_16] [(q1d, .inl ((xT g) 1, ln, .inl day)), (q1m, .inl (lamC kd (xT g) ln am)), (q0, .inr (1, [.ref q0w])), (q0w, .inl ((xT g) 2, 40, .inl w_3)), (q1, .inr (lci kd, [.ref q1a, .ref q1d, .ref q1g, .int gc, .ref q1m])), (q1a, .inl ((xT g) 1, ln, .inl acc))] 0 0
        refine x_iload_n G rfl dX1_sum_27 3 rfl ?_
        refine x_icmp_ne (tgt := 57) G dX1_sum_28 rfl (fun c => ?_) (fun c => ?_)
        · replace h := h.1 c
          obtain ⟨x_17, ex_17⟩ : ∃ z : Int32, z = (v4_2 + (1 : Int32)) := ⟨_, rfl⟩
          replace h := h x_17 ex_17
          refine x_iinc (v := x_17) (lv' := [(4, .int x_17), (0, .ref q0), (1, .ref q1), (2, .int p2), (3, .int p3)]) G dX1_sum_57 0 rfl (by rw [ex_17]; rfl) (by decide) rfl ?_
          refine x_goto (tgt := 7) G dX1_sum_60 rfl ?_
          refine x_ws (ws' := [(q1, .inr (lci kd, [.ref q1a, .ref q1d, .ref q1g, .int gc, .ref q1m])), (q1a, .inl ((xT g) 1, ln, .inl acc)), (q1d, .inl ((xT g) 1, ln, .inl day)), (q1m, .inl (lamC kd (xT g) ln am)), (q0, .inr (1, [.ref q0w])), (q0w, .inl ((xT g) 2, 40, .inl w_3))]) (XSub.of [4, 5, 0, 1, 2, 3] rfl (by decide)) ?_
          exact ih x_17 w_3 h
        · replace h := h.2 c
          refine x_lv (lv' := [(0, .ref q0), (1, .ref q1), (2, .int p2), (3, .int p3), (4, .int v4_2)]) [1, 2, 3, 4, 0] rfl ?_
          refine kX1_sum_J31 G ih _ h
set_option maxRecDepth 20000 in
theorem tX1_sum {l : Launch} {D : va_G} {ta : Nat → ClassId} {q0 : Nat} {q0w : Nat} {w : Nat → Int32} {q1 : Nat} {kd : Bool} {q1a : Nat} {q1d : Nat} {q1g : Nat} {gc : Int32} {q1m : Nat} {ln : Nat} {acc : Nat → Int32} {day : Nat → Int32} {am : Nat → UInt64} {p2 : Int32} {p3 : Int32} {K : (Nat → Int32) → Prop} (hlt : l.stackTraces = false) (h : wX1_sum p2 p3 w kd ln acc day am K) : SMv1 l D ta yX1_sum cX1_sum 5 4 [.ref q0, .ref q1, .int p2, .int p3] [(q0, .inr (1, [.ref q0w])), (q0w, .inl (ta 2, 40, .inl w)), (q1, .inr (lci kd, [.ref q1a, .ref q1d, .ref q1g, .int gc, .ref q1m])), (q1a, .inl (ta 1, ln, .inl acc)), (q1d, .inl (ta 1, ln, .inl day)), (q1m, .inl (lamC kd ta ln am))] (fun (w' : Nat → Int32) => [(q0, .inr (1, [.ref q0w])), (q0w, .inl (ta 2, 40, .inl w')), (q1, .inr (lci kd, [.ref q1a, .ref q1d, .ref q1g, .int gc, .ref q1m])), (q1a, .inl (ta 1, ln, .inl acc)), (q1d, .inl (ta 1, ln, .inl day)), (q1m, .inl (lamC kd ta ln am))]) 0 0 K := by
  refine x_stv1 hlt (plainFor_of_name (by decide +kernel)) (Nat.le_of_ble_eq_true rfl) (fun g G hl hD hT Q => ?_)
  subst hl; subst hD; subst hT
  unfold wX1_sum at h
  show X g 5 0 [(0, .ref q0), (1, .ref q1), (2, .int p2), (3, .int p3)] [] [(q0, .inr (1, [.ref q0w])), (q0w, .inl ((xT g) 2, 40, .inl w)), (q1, .inr (lci kd, [.ref q1a, .ref q1d, .ref q1g, .int gc, .ref q1m])), (q1a, .inl ((xT g) 1, ln, .inl acc)), (q1d, .inl ((xT g) 1, ln, .inl day)), (q1m, .inl (lamC kd (xT g) ln am))] 0 0
  refine x_aload_n G rfl dX1_sum_0 0 rfl ?_
  refine x_cVv1 (wc := [(q0, .inr (1, [.ref q0w])), (q0w, .inl ((xT g) 2, 40, .inl w))]) (As := []) (rest := []) G [(q1, .inr (lci kd, [.ref q1a, .ref q1d, .ref q1g, .int gc, .ref q1m])), (q1a, .inl ((xT g) 1, ln, .inl acc)), (q1d, .inl ((xT g) 1, ln, .inl day)), (q1m, .inl (lamC kd (xT g) ln am))] (XSub.of [2, 3, 4, 5, 0, 1] rfl (by decide)) (tX2_clear G.noTraces h) (lw_V q265 q266 q267 q66 q268) cdX2_clear 1 0 rfl rfl rfl (by decide) (by decide) rfl (Nat.le_of_ble_eq_true rfl) (Nat.le_of_ble_eq_true rfl) (Nat.le_of_ble_eq_true rfl) dX1_sum_1 (fun w_1 h => ?_)
  show X g 5 4 [(0, .ref q0), (1, .ref q1), (2, .int p2), (3, .int p3)] [] [(q1, .inr (lci kd, [.ref q1a, .ref q1d, .ref q1g, .int gc, .ref q1m])), (q1a, .inl ((xT g) 1, ln, .inl acc)), (q1d, .inl ((xT g) 1, ln, .inl day)), (q1m, .inl (lamC kd (xT g) ln am)), (q0, .inr (1, [.ref q0w])), (q0w, .inl ((xT g) 2, 40, .inl w_1))] 0 0
  refine x_iconst (v := (0 : Int32)) G dX1_sum_4 (by decide) ?_
  refine x_istore (lv' := [(4, .int (0 : Int32)), (0, .ref q0), (1, .ref q1), (2, .int p2), (3, .int p3)]) G dX1_sum_5 (by decide) rfl ?_
  obtain ⟨n0, h⟩ := h
  refine kX1_sum_L7 G (fun v4_20 w_21 h => ?_) n0 _ _ h
  · exact x_retv1 G Q dX1_sum_63 w_21 h (XSub.of [4, 5, 0, 1, 2, 3] rfl (by decide)) (Nat.le_of_ble_eq_true rfl) (Nat.le_of_ble_eq_true rfl)
theorem cdX1_roundedOf : yX1_roundedOf.cls = RX1 ∧ yX1_roundedOf.cls ≠ "java/lang/invoke/MethodHandle" ∧ yX1_roundedOf.cls ≠ "java/lang/invoke/VarHandle" ∧ (parseMethodDescriptor yX1_roundedOf.desc).map (fun d => d.parameters.length) = some 1 := by decide +kernel
def wX1_roundedOf_0 (w1 : Nat → Int32) (K : UInt64 → (Nat → Int32) → Prop) (E : String → (Nat → Int32) → Prop) : Prop := (wX1_sum_0 (-1 : Int32) (-1 : Int32) w1 (fun (w_1 : Nat → Int32) => False) (fun (En : String) (w_1 : Nat → Int32) => E En w_1))
set_option maxRecDepth 20000 in
theorem tX1_roundedOf_0 {l : Launch} {D : va_G} {ta : Nat → ClassId} {h0 : Nat} {lg : Nat} {e1 : Nat} {e2 : Nat} {e3 : Nat} {rl : Nat} {cur : Int32} {sh : Nat} {e1w : Nat} {w1 : Nat → Int32} {K : UInt64 → (Nat → Int32) → Prop} {E : String → (Nat → Int32) → Prop} (hlt : l.stackTraces = false) (h : wX1_roundedOf_0 w1 K E) : SXd1 l D ta yX1_roundedOf cX1_roundedOf 2 FieldType.double 5 [.ref h0, .null] [(h0, .inr (0, [.ref lg, .ref e1, .ref e2, .ref e3, .ref rl, .int cur, .ref sh])), (e1, .inr (1, [.ref e1w])), (e1w, .inl (ta 2, 40, .inl w1))] (fun (w1' : Nat → Int32) => [(h0, .inr (0, [.ref lg, .ref e1, .ref e2, .ref e3, .ref rl, .int cur, .ref sh])), (e1, .inr (1, [.ref e1w])), (e1w, .inl (ta 2, 40, .inl w1'))]) 1 8 K E := by
  refine x_sxd1 hlt (by decide +kernel) (Nat.le_of_ble_eq_true rfl) (fun g G hl hD hT hN Q => ?_)
  subst hl; subst hD; subst hT
  unfold wX1_roundedOf_0 at h
  show X g 2 0 [(0, .ref h0), (1, .null)] [] [(h0, .inr (0, [.ref lg, .ref e1, .ref e2, .ref e3, .ref rl, .int cur, .ref sh])), (e1, .inr (1, [.ref e1w])), (e1w, .inl ((xT g) 2, 40, .inl w1))] 0 0
  refine x_aload_n G rfl dX1_roundedOf_0 0 rfl ?_
  refine x_get G in_X1 0 rfl rfl 1 (by decide) q160 (fun _ h => h) rfl dX1_roundedOf_1 ?_
  refine x_aload_nN G rfl dX1_roundedOf_4 1 rfl ?_
  refine x_iconst (v := (-1 : Int32)) G dX1_roundedOf_5 (by decide) ?_
  refine x_iconst (v := (-1 : Int32)) G dX1_roundedOf_6 (by decide) ?_
  refine x_cXSv1 (wc := [(e1, .inr (1, [.ref e1w])), (e1w, .inl ((xT g) 2, 40, .inl w1))]) (As := [.ref e1, .null, .int (-1 : Int32), .int (-1 : Int32)]) (rest := []) G [(h0, .inr (0, [.ref lg, .ref e1, .ref e2, .ref e3, .ref rl, .int cur, .ref sh]))] (XSub.of [0, 1, 2] rfl (by decide)) (tX1_sum_0 G.noTraces h) (lw_S q1375 q1376 q65 q1377) cdX1_sum (by decide) (by decide) rfl (Nat.le_of_ble_eq_true rfl) (Nat.le_of_ble_eq_true rfl) (Nat.le_of_ble_eq_true rfl) dX1_roundedOf_7 (fun En w_1 h => ?_) (fun w_1 h => ?_)
  · exact x_od1 G Q w_1 h XSub.rf (Nat.le_of_ble_eq_true rfl) (Nat.le_of_ble_eq_true rfl)
  exact h.elim
def wX1_roundedOf (w1 : Nat → Int32) (kd : Bool) (ln : Nat) (acc : Nat → Int32) (day : Nat → Int32) (am : Nat → UInt64) (K : UInt64 → (Nat → Int32) → Prop) : Prop := (wX1_sum (-1 : Int32) (-1 : Int32) w1 kd ln acc day am (fun (w_1 : Nat → Int32) => (wL_nearest kd w_1 (fun (r_2 : UInt64) (w_3 : Nat → Int32) => K r_2 w_3))))
set_option maxRecDepth 20000 in
theorem tX1_roundedOf {l : Launch} {D : va_G} {ta : Nat → ClassId} {h0 : Nat} {lg : Nat} {e1 : Nat} {e2 : Nat} {e3 : Nat} {rl : Nat} {cur : Int32} {sh : Nat} {e1w : Nat} {w1 : Nat → Int32} {q0 : Nat} {kd : Bool} {q0a : Nat} {q0d : Nat} {q0g : Nat} {gc : Int32} {q0m : Nat} {ln : Nat} {acc : Nat → Int32} {day : Nat → Int32} {am : Nat → UInt64} {K : UInt64 → (Nat → Int32) → Prop} (hlt : l.stackTraces = false) (h : wX1_roundedOf w1 kd ln acc day am K) : SMd1 l D ta yX1_roundedOf cX1_roundedOf 2 FieldType.double 7 [.ref h0, .ref q0] [(h0, .inr (0, [.ref lg, .ref e1, .ref e2, .ref e3, .ref rl, .int cur, .ref sh])), (e1, .inr (1, [.ref e1w])), (e1w, .inl (ta 2, 40, .inl w1)), (q0, .inr (lci kd, [.ref q0a, .ref q0d, .ref q0g, .int gc, .ref q0m])), (q0a, .inl (ta 1, ln, .inl acc)), (q0d, .inl (ta 1, ln, .inl day)), (q0m, .inl (lamC kd ta ln am))] (fun (w1' : Nat → Int32) => [(h0, .inr (0, [.ref lg, .ref e1, .ref e2, .ref e3, .ref rl, .int cur, .ref sh])), (e1, .inr (1, [.ref e1w])), (e1w, .inl (ta 2, 40, .inl w1')), (q0, .inr (lci kd, [.ref q0a, .ref q0d, .ref q0g, .int gc, .ref q0m])), (q0a, .inl (ta 1, ln, .inl acc)), (q0d, .inl (ta 1, ln, .inl day)), (q0m, .inl (lamC kd ta ln am))]) 0 0 K := by
  refine x_std1 hlt (plainFor_of_name (by decide +kernel)) (Nat.le_of_ble_eq_true rfl) (fun g G hl hD hT Q => ?_)
  subst hl; subst hD; subst hT
  unfold wX1_roundedOf at h
  show X g 2 0 [(0, .ref h0), (1, .ref q0)] [] [(h0, .inr (0, [.ref lg, .ref e1, .ref e2, .ref e3, .ref rl, .int cur, .ref sh])), (e1, .inr (1, [.ref e1w])), (e1w, .inl ((xT g) 2, 40, .inl w1)), (q0, .inr (lci kd, [.ref q0a, .ref q0d, .ref q0g, .int gc, .ref q0m])), (q0a, .inl ((xT g) 1, ln, .inl acc)), (q0d, .inl ((xT g) 1, ln, .inl day)), (q0m, .inl (lamC kd (xT g) ln am))] 0 0
  refine x_aload_n G rfl dX1_roundedOf_0 0 rfl ?_
  refine x_get G in_X1 0 rfl rfl 1 (by decide) q160 (fun _ h => h) rfl dX1_roundedOf_1 ?_
  refine x_aload_n G rfl dX1_roundedOf_4 1 rfl ?_
  refine x_iconst (v := (-1 : Int32)) G dX1_roundedOf_5 (by decide) ?_
  refine x_iconst (v := (-1 : Int32)) G dX1_roundedOf_6 (by decide) ?_
  refine x_cSv1 (wc := [(e1, .inr (1, [.ref e1w])), (e1w, .inl ((xT g) 2, 40, .inl w1)), (q0, .inr (lci kd, [.ref q0a, .ref q0d, .ref q0g, .int gc, .ref q0m])), (q0a, .inl ((xT g) 1, ln, .inl acc)), (q0d, .inl ((xT g) 1, ln, .inl day)), (q0m, .inl (lamC kd (xT g) ln am))]) (As := [.ref e1, .ref q0, .int (-1 : Int32), .int (-1 : Int32)]) (rest := []) G [(h0, .inr (0, [.ref lg, .ref e1, .ref e2, .ref e3, .ref rl, .int cur, .ref sh]))] (XSub.of [0, 1, 2, 3, 4, 5, 6] rfl (by decide)) (tX1_sum G.noTraces h) (lw_S q1375 q1376 q65 q1377) cdX1_sum (by decide) (by decide) rfl (Nat.le_of_ble_eq_true rfl) (Nat.le_of_ble_eq_true rfl) (Nat.le_of_ble_eq_true rfl) dX1_roundedOf_7 (fun w_1 h => ?_)
  show X g 2 10 [(0, .ref h0), (1, .ref q0)] [] [(h0, .inr (0, [.ref lg, .ref e1, .ref e2, .ref e3, .ref rl, .int cur, .ref sh])), (e1, .inr (1, [.ref e1w])), (e1w, .inl ((xT g) 2, 40, .inl w_1)), (q0, .inr (lci kd, [.ref q0a, .ref q0d, .ref q0g, .int gc, .ref q0m])), (q0a, .inl ((xT g) 1, ln, .inl acc)), (q0d, .inl ((xT g) 1, ln, .inl day)), (q0m, .inl (lamC kd (xT g) ln am))] 0 0
  refine x_aload_n G rfl dX1_roundedOf_10 1 rfl ?_
  refine x_aload_n G rfl dX1_roundedOf_11 0 rfl ?_
  refine x_get G in_X1 0 rfl rfl 1 (by decide) q160 (fun _ h => h) rfl dX1_roundedOf_12 ?_
  refine x_cUd1 (C := lnm kd) (owner := "RoundingAuditor$Ledger") (x := ⟨"RoundingAuditor$Ledger", "nearest", "(LRoundingAuditor$Exact;)D"⟩) (wc := [(e1, .inr (1, [.ref e1w])), (e1w, .inl ((xT g) 2, 40, .inl w_1))]) (As := [.ref e1]) (rest := []) G [(h0, .inr (0, [.ref lg, .ref e1, .ref e2, .ref e3, .ref rl, .int cur, .ref sh])), (q0, .inr (lci kd, [.ref q0a, .ref q0d, .ref q0g, .int gc, .ref q0m])), (q0a, .inl ((xT g) 1, ln, .inl acc)), (q0d, .inl ((xT g) 1, ln, .inl day)), (q0m, .inl (lamC kd (xT g) ln am))] (XSub.of [0, 3, 4, 5, 6, 1, 2] rfl (by decide)) (tL_nearest kd G.noTraces h) q1390 q1392 (va_Decl.abs (G.E.2.1.2.2.1 _ (by decide +kernel))) (sL_nearest kd) (hL_nearest kd).1 (hL_nearest kd).2.1 (hL_nearest kd).2.2.1 cdL_nearest (lci kd) 3 (lci_at kd) rfl rfl (by decide) (hL_nearest _).2.2.2 rfl (Nat.le_of_ble_eq_true rfl) (Nat.le_of_ble_eq_true rfl) (Nat.le_of_ble_eq_true rfl) dX1_roundedOf_15 (fun r_2 w_3 h => ?_)
  show X g 2 18 [(0, .ref h0), (1, .ref q0)] [.double r_2] [(h0, .inr (0, [.ref lg, .ref e1, .ref e2, .ref e3, .ref rl, .int cur, .ref sh])), (q0, .inr (lci kd, [.ref q0a, .ref q0d, .ref q0g, .int gc, .ref q0m])), (q0a, .inl ((xT g) 1, ln, .inl acc)), (q0d, .inl ((xT g) 1, ln, .inl day)), (q0m, .inl (lamC kd (xT g) ln am)), (e1, .inr (1, [.ref e1w])), (e1w, .inl ((xT g) 2, 40, .inl w_3))] 0 0
  exact x_retd1 G Q dX1_roundedOf_18 w_3 h (XSub.of [0, 5, 6, 1, 2, 3, 4] rfl (by decide)) (Nat.le_of_ble_eq_true rfl) (Nat.le_of_ble_eq_true rfl)
theorem cdX1_compare : yX1_compare.cls = RX1 ∧ yX1_compare.cls ≠ "java/lang/invoke/MethodHandle" ∧ yX1_compare.cls ≠ "java/lang/invoke/VarHandle" ∧ (parseMethodDescriptor yX1_compare.desc).map (fun d => d.parameters.length) = some 2 := by decide +kernel
def wX1_compare_F (p0 : Int32) (p1 : Int64) (lgf : Nat → Option Nat) (w1 : Nat → Int32) (K : Int32 → (Nat → Int32) → Prop) (E : String → (Nat → Int32) → Prop) : Prop := (wJ12_doubleToLongBits (5102578377810771968 : UInt64) (fun (r_1 : Int64) => (((p1 &&& (9223372036854775807 : Int64)) ≤ r_1 → ((¬ vp_in p0 12 → E "java/lang/ArrayIndexOutOfBoundsException" w1) ∧ (vp_in p0 12 → ((lgf p0.toNatClampNeg) = none ∧ (wX1_sum_0 (-1 : Int32) (-1 : Int32) w1 (fun (w_2 : Nat → Int32) => False) (fun (En : String) (w_2 : Nat → Int32) => E En w_2)))))) ∧ (¬ (p1 &&& (9223372036854775807 : Int64)) ≤ r_1 → K (-102 : Int32) w1))))
set_option maxRecDepth 20000 in
theorem tX1_compare_F {l : Launch} {D : va_G} {ta : Nat → ClassId} {h0 : Nat} {lg : Nat} {e1 : Nat} {e2 : Nat} {e3 : Nat} {rl : Nat} {cur : Int32} {sh : Nat} {lgf : Nat → Option Nat} {e1w : Nat} {w1 : Nat → Int32} {p0 : Int32} {p1 : Int64} {K : Int32 → (Nat → Int32) → Prop} {E : String → (Nat → Int32) → Prop} (hlt : l.stackTraces = false) (h : wX1_compare_F p0 p1 lgf w1 K E) : SXi1 l D ta yX1_compare cX1_compare 5 FieldType.int 5 [.ref h0, .int p0, .long p1] [(h0, .inr (0, [.ref lg, .ref e1, .ref e2, .ref e3, .ref rl, .int cur, .ref sh])), (lg, .inl (ta 6, 12, .inr (.inr (.inr (.inr lgf))))), (e1, .inr (1, [.ref e1w])), (e1w, .inl (ta 2, 40, .inl w1))] (fun (w1' : Nat → Int32) => [(h0, .inr (0, [.ref lg, .ref e1, .ref e2, .ref e3, .ref rl, .int cur, .ref sh])), (lg, .inl (ta 6, 12, .inr (.inr (.inr (.inr lgf))))), (e1, .inr (1, [.ref e1w])), (e1w, .inl (ta 2, 40, .inl w1'))]) 3 222 K E := by
  refine x_sxi1 hlt (by decide +kernel) (Nat.le_of_ble_eq_true rfl) (fun g G hl hD hT hN Q => ?_)
  subst hl; subst hD; subst hT
  unfold wX1_compare_F at h
  show X g 5 0 [(0, .ref h0), (1, .int p0), (2, .long p1)] [] [(h0, .inr (0, [.ref lg, .ref e1, .ref e2, .ref e3, .ref rl, .int cur, .ref sh])), (lg, .inl ((xT g) 6, 12, .inr (.inr (.inr (.inr lgf))))), (e1, .inr (1, [.ref e1w])), (e1w, .inl ((xT g) 2, 40, .inl w1))] 0 0
  refine x_lload_n G rfl dX1_compare_0 2 rfl ?_
  refine x_ldc2 G q1373 dX1_compare_1 ?_
  refine x_land G dX1_compare_4 ?_
  refine x_ldc2d G q1374 dX1_compare_5 ?_
  refine x_cPl (As := [.double (5102578377810771968 : UInt64)]) (rest := [.long (p1 &&& (9223372036854775807 : Int64))]) G (tJ12_doubleToLongBits G.noTraces h) (lw_S q315 q227 q84 q228) cdJ12_doubleToLongBits (by decide) (by decide) rfl (Nat.le_of_ble_eq_true rfl) (Nat.le_of_ble_eq_true rfl) (Nat.le_of_ble_eq_true rfl) dX1_compare_8 (fun r_1 h => ?_)
  refine x_lcmp_le (tgt := 18) G dX1_compare_11 dX1_compare_12 rfl (fun c => ?_) (fun c => ?_)
  · replace h := h.1 c
    refine x_aload_n G rfl dX1_compare_18 0 rfl ?_
    refine x_get G in_X1 0 rfl rfl 0 (by decide) q159 (fun _ h => h) rfl dX1_compare_19 ?_
    refine x_iload_n G rfl dX1_compare_22 1 rfl ?_
    by_cases hz : vp_in p0 12
    case neg =>
      replace h := h.1 hz
      refine x_aaldZ G 1 rfl rfl (by decide) hz (Nat.le_of_ble_eq_true rfl) (Nat.le_of_ble_eq_true rfl) (Nat.le_of_ble_eq_true rfl) dX1_compare_23 ?_
      exact x_oi1 G Q w1 h XSub.rf (Nat.le_of_ble_eq_true rfl) (Nat.le_of_ble_eq_true rfl)
    replace h := h.2 hz
    obtain ⟨hq, h⟩ := h
    refine x_aald G 1 6 rfl rfl hz dX1_compare_23 ?_
    rw [hq]
    show X g 5 24 [(0, .ref h0), (1, .int p0), (2, .long p1)] [.null] [(h0, .inr (0, [.ref lg, .ref e1, .ref e2, .ref e3, .ref rl, .int cur, .ref sh])), (lg, .inl ((xT g) 6, 12, .inr (.inr (.inr (.inr lgf))))), (e1, .inr (1, [.ref e1w])), (e1w, .inl ((xT g) 2, 40, .inl w1))] 0 0
    refine x_astoreN (lv' := [(4, .null), (0, .ref h0), (1, .int p0), (2, .long p1)]) G dX1_compare_24 (by decide) rfl ?_
    refine x_aload_n G rfl dX1_compare_26 1 rfl ?_
    refine x_get G in_X1 0 rfl rfl 1 (by decide) q160 (fun _ h => h) rfl dX1_compare_27 ?_
    refine x_aloadNN G dX1_compare_30 0 rfl ?_
    refine x_iconst (v := (-1 : Int32)) G dX1_compare_32 (by decide) ?_
    refine x_iconst (v := (-1 : Int32)) G dX1_compare_33 (by decide) ?_
    refine x_cXSv1 (wc := [(e1, .inr (1, [.ref e1w])), (e1w, .inl ((xT g) 2, 40, .inl w1))]) (As := [.ref e1, .null, .int (-1 : Int32), .int (-1 : Int32)]) (rest := []) G [(h0, .inr (0, [.ref lg, .ref e1, .ref e2, .ref e3, .ref rl, .int cur, .ref sh])), (lg, .inl ((xT g) 6, 12, .inr (.inr (.inr (.inr lgf)))))] (XSub.of [0, 1, 2, 3] rfl (by decide)) (tX1_sum_0 G.noTraces h) (lw_S q1375 q1376 q65 q1377) cdX1_sum (by decide) (by decide) rfl (Nat.le_of_ble_eq_true rfl) (Nat.le_of_ble_eq_true rfl) (Nat.le_of_ble_eq_true rfl) dX1_compare_34 (fun En w_2 h => ?_) (fun w_2 h => ?_)
    · exact x_oi1 G Q w_2 h XSub.rf (Nat.le_of_ble_eq_true rfl) (Nat.le_of_ble_eq_true rfl)
    exact h.elim
  · replace h := h.2 c
    refine x_bipush (v := (-102 : Int32)) G dX1_compare_15 (by decide) ?_
    exact x_yi1 G Q dX1_compare_17 rfl w1 h XSub.rf (Nat.le_of_ble_eq_true rfl) (Nat.le_of_ble_eq_true rfl)
def wX1_compare (p0 : Int32) (p1 : Int64) (lgf : Nat → Option Nat) (u0 : Nat) (kd : Bool) (ln : Nat) (acc : Nat → Int32) (day : Nat → Int32) (am : Nat → UInt64) (w1 : Nat → Int32) (K : Int32 → (Nat → Int32) → Prop) : Prop := (wJ12_doubleToLongBits (5102578377810771968 : UInt64) (fun (r_1 : Int64) => (((p1 &&& (9223372036854775807 : Int64)) ≤ r_1 → (vp_in p0 12 ∧ ((lgf p0.toNatClampNeg) = some u0 ∧ (wX1_sum (-1 : Int32) (-1 : Int32) w1 kd ln acc day am (fun (w_2 : Nat → Int32) => (vn_snl2d p1 = false ∧ (wX2_add p1.toUInt64 (1 : Int32) w_2 (fun (w_3 : Nat → Int32) => (wX2_sign w_3 (fun (r_4 : Int32) => K r_4 w_3)))))))))) ∧ (¬ (p1 &&& (9223372036854775807 : Int64)) ≤ r_1 → K (-102 : Int32) w1))))
set_option maxRecDepth 20000 in
theorem tX1_compare {l : Launch} {D : va_G} {ta : Nat → ClassId} {h0 : Nat} {lg : Nat} {e1 : Nat} {e2 : Nat} {e3 : Nat} {rl : Nat} {cur : Int32} {sh : Nat} {lgf : Nat → Option Nat} {u0 : Nat} {kd : Bool} {u0a : Nat} {u0d : Nat} {u0g : Nat} {gc : Int32} {u0m : Nat} {ln : Nat} {acc : Nat → Int32} {day : Nat → Int32} {am : Nat → UInt64} {e1w : Nat} {w1 : Nat → Int32} {p0 : Int32} {p1 : Int64} {K : Int32 → (Nat → Int32) → Prop} (hlt : l.stackTraces = false) (h : wX1_compare p0 p1 lgf u0 kd ln acc day am w1 K) : SMi1 l D ta yX1_compare cX1_compare 5 FieldType.int 5 [.ref h0, .int p0, .long p1] [(h0, .inr (0, [.ref lg, .ref e1, .ref e2, .ref e3, .ref rl, .int cur, .ref sh])), (lg, .inl (ta 6, 12, .inr (.inr (.inr (.inr lgf))))), (u0, .inr (lci kd, [.ref u0a, .ref u0d, .ref u0g, .int gc, .ref u0m])), (u0a, .inl (ta 1, ln, .inl acc)), (u0d, .inl (ta 1, ln, .inl day)), (u0m, .inl (lamC kd ta ln am)), (e1, .inr (1, [.ref e1w])), (e1w, .inl (ta 2, 40, .inl w1))] (fun (w1' : Nat → Int32) => [(h0, .inr (0, [.ref lg, .ref e1, .ref e2, .ref e3, .ref rl, .int cur, .ref sh])), (lg, .inl (ta 6, 12, .inr (.inr (.inr (.inr lgf))))), (u0, .inr (lci kd, [.ref u0a, .ref u0d, .ref u0g, .int gc, .ref u0m])), (u0a, .inl (ta 1, ln, .inl acc)), (u0d, .inl (ta 1, ln, .inl day)), (u0m, .inl (lamC kd ta ln am)), (e1, .inr (1, [.ref e1w])), (e1w, .inl (ta 2, 40, .inl w1'))]) 0 0 K := by
  refine x_sti1 hlt (plainFor_of_name (by decide +kernel)) (Nat.le_of_ble_eq_true rfl) (fun g G hl hD hT Q => ?_)
  subst hl; subst hD; subst hT
  unfold wX1_compare at h
  show X g 5 0 [(0, .ref h0), (1, .int p0), (2, .long p1)] [] [(h0, .inr (0, [.ref lg, .ref e1, .ref e2, .ref e3, .ref rl, .int cur, .ref sh])), (lg, .inl ((xT g) 6, 12, .inr (.inr (.inr (.inr lgf))))), (u0, .inr (lci kd, [.ref u0a, .ref u0d, .ref u0g, .int gc, .ref u0m])), (u0a, .inl ((xT g) 1, ln, .inl acc)), (u0d, .inl ((xT g) 1, ln, .inl day)), (u0m, .inl (lamC kd (xT g) ln am)), (e1, .inr (1, [.ref e1w])), (e1w, .inl ((xT g) 2, 40, .inl w1))] 0 0
  refine x_lload_n G rfl dX1_compare_0 2 rfl ?_
  refine x_ldc2 G q1373 dX1_compare_1 ?_
  refine x_land G dX1_compare_4 ?_
  refine x_ldc2d G q1374 dX1_compare_5 ?_
  refine x_cPl (As := [.double (5102578377810771968 : UInt64)]) (rest := [.long (p1 &&& (9223372036854775807 : Int64))]) G (tJ12_doubleToLongBits G.noTraces h) (lw_S q315 q227 q84 q228) cdJ12_doubleToLongBits (by decide) (by decide) rfl (Nat.le_of_ble_eq_true rfl) (Nat.le_of_ble_eq_true rfl) (Nat.le_of_ble_eq_true rfl) dX1_compare_8 (fun r_1 h => ?_)
  refine x_lcmp_le (tgt := 18) G dX1_compare_11 dX1_compare_12 rfl (fun c => ?_) (fun c => ?_)
  · replace h := h.1 c
    refine x_aload_n G rfl dX1_compare_18 0 rfl ?_
    refine x_get G in_X1 0 rfl rfl 0 (by decide) q159 (fun _ h => h) rfl dX1_compare_19 ?_
    refine x_iload_n G rfl dX1_compare_22 1 rfl ?_
    obtain ⟨hz, hq, h⟩ := h
    refine x_aald G 1 6 rfl rfl hz dX1_compare_23 ?_
    rw [hq]
    show X g 5 24 [(0, .ref h0), (1, .int p0), (2, .long p1)] [.ref u0] [(h0, .inr (0, [.ref lg, .ref e1, .ref e2, .ref e3, .ref rl, .int cur, .ref sh])), (lg, .inl ((xT g) 6, 12, .inr (.inr (.inr (.inr lgf))))), (u0, .inr (lci kd, [.ref u0a, .ref u0d, .ref u0g, .int gc, .ref u0m])), (u0a, .inl ((xT g) 1, ln, .inl acc)), (u0d, .inl ((xT g) 1, ln, .inl day)), (u0m, .inl (lamC kd (xT g) ln am)), (e1, .inr (1, [.ref e1w])), (e1w, .inl ((xT g) 2, 40, .inl w1))] 0 0
    refine x_astore (lv' := [(4, .ref u0), (0, .ref h0), (1, .int p0), (2, .long p1)]) G dX1_compare_24 (by decide) rfl ?_
    refine x_aload_n G rfl dX1_compare_26 1 rfl ?_
    refine x_get G in_X1 0 rfl rfl 1 (by decide) q160 (fun _ h => h) rfl dX1_compare_27 ?_
    refine x_aload G dX1_compare_30 0 rfl ?_
    refine x_iconst (v := (-1 : Int32)) G dX1_compare_32 (by decide) ?_
    refine x_iconst (v := (-1 : Int32)) G dX1_compare_33 (by decide) ?_
    refine x_cSv1 (wc := [(e1, .inr (1, [.ref e1w])), (e1w, .inl ((xT g) 2, 40, .inl w1)), (u0, .inr (lci kd, [.ref u0a, .ref u0d, .ref u0g, .int gc, .ref u0m])), (u0a, .inl ((xT g) 1, ln, .inl acc)), (u0d, .inl ((xT g) 1, ln, .inl day)), (u0m, .inl (lamC kd (xT g) ln am))]) (As := [.ref e1, .ref u0, .int (-1 : Int32), .int (-1 : Int32)]) (rest := []) G [(h0, .inr (0, [.ref lg, .ref e1, .ref e2, .ref e3, .ref rl, .int cur, .ref sh])), (lg, .inl ((xT g) 6, 12, .inr (.inr (.inr (.inr lgf)))))] (XSub.of [0, 1, 6, 7, 2, 3, 4, 5] rfl (by decide)) (tX1_sum G.noTraces h) (lw_S q1375 q1376 q65 q1377) cdX1_sum (by decide) (by decide) rfl (Nat.le_of_ble_eq_true rfl) (Nat.le_of_ble_eq_true rfl) (Nat.le_of_ble_eq_true rfl) dX1_compare_34 (fun w_2 h => ?_)
    show X g 5 37 [(4, .ref u0), (0, .ref h0), (1, .int p0), (2, .long p1)] [] [(h0, .inr (0, [.ref lg, .ref e1, .ref e2, .ref e3, .ref rl, .int cur, .ref sh])), (lg, .inl ((xT g) 6, 12, .inr (.inr (.inr (.inr lgf))))), (e1, .inr (1, [.ref e1w])), (e1w, .inl ((xT g) 2, 40, .inl w_2)), (u0, .inr (lci kd, [.ref u0a, .ref u0d, .ref u0g, .int gc, .ref u0m])), (u0a, .inl ((xT g) 1, ln, .inl acc)), (u0d, .inl ((xT g) 1, ln, .inl day)), (u0m, .inl (lamC kd (xT g) ln am))] 0 0
    refine x_aload_n G rfl dX1_compare_37 1 rfl ?_
    refine x_get G in_X1 0 rfl rfl 1 (by decide) q160 (fun _ h => h) rfl dX1_compare_38 ?_
    refine x_lload_n G rfl dX1_compare_41 3 rfl ?_
    obtain ⟨hz, h⟩ := h
    refine x_nl2d G q1378 q314 q313 q84 hz (by decide) (Nat.le_of_ble_eq_true rfl) dX1_compare_42 ?_
    refine x_iconst (v := (1 : Int32)) G dX1_compare_45 (by decide) ?_
    refine x_cVv1 (wc := [(e1, .inr (1, [.ref e1w])), (e1w, .inl ((xT g) 2, 40, .inl w_2))]) (As := [.double p1.toUInt64, .int (1 : Int32)]) (rest := []) G [(h0, .inr (0, [.ref lg, .ref e1, .ref e2, .ref e3, .ref rl, .int cur, .ref sh])), (lg, .inl ((xT g) 6, 12, .inr (.inr (.inr (.inr lgf))))), (u0, .inr (lci kd, [.ref u0a, .ref u0d, .ref u0g, .int gc, .ref u0m])), (u0a, .inl ((xT g) 1, ln, .inl acc)), (u0d, .inl ((xT g) 1, ln, .inl day)), (u0m, .inl (lamC kd (xT g) ln am))] (XSub.of [0, 1, 4, 5, 6, 7, 2, 3] rfl (by decide)) (tX2_add G.noTraces h) (lw_V q269 q270 q271 q66 q272) cdX2_add 1 2 rfl rfl rfl (by decide) (by decide) rfl (Nat.le_of_ble_eq_true rfl) (Nat.le_of_ble_eq_true rfl) (Nat.le_of_ble_eq_true rfl) dX1_compare_46 (fun w_3 h => ?_)
    show X g 5 49 [(4, .ref u0), (0, .ref h0), (1, .int p0), (2, .long p1)] [] [(h0, .inr (0, [.ref lg, .ref e1, .ref e2, .ref e3, .ref rl, .int cur, .ref sh])), (lg, .inl ((xT g) 6, 12, .inr (.inr (.inr (.inr lgf))))), (u0, .inr (lci kd, [.ref u0a, .ref u0d, .ref u0g, .int gc, .ref u0m])), (u0a, .inl ((xT g) 1, ln, .inl acc)), (u0d, .inl ((xT g) 1, ln, .inl day)), (u0m, .inl (lamC kd (xT g) ln am)), (e1, .inr (1, [.ref e1w])), (e1w, .inl ((xT g) 2, 40, .inl w_3))] 0 0
    refine x_aload_n G rfl dX1_compare_49 1 rfl ?_
    refine x_get G in_X1 0 rfl rfl 1 (by decide) q160 (fun _ h => h) rfl dX1_compare_50 ?_
    refine x_cVi0 (wc := [(e1, .inr (1, [.ref e1w])), (e1w, .inl ((xT g) 2, 40, .inl w_3))]) (As := []) (rest := []) G [(h0, .inr (0, [.ref lg, .ref e1, .ref e2, .ref e3, .ref rl, .int cur, .ref sh])), (lg, .inl ((xT g) 6, 12, .inr (.inr (.inr (.inr lgf))))), (u0, .inr (lci kd, [.ref u0a, .ref u0d, .ref u0g, .int gc, .ref u0m])), (u0a, .inl ((xT g) 1, ln, .inl acc)), (u0d, .inl ((xT g) 1, ln, .inl day)), (u0m, .inl (lamC kd (xT g) ln am))] (XSub.of [0, 1, 2, 3, 4, 5, 6, 7] rfl (by decide)) (tX2_sign G.noTraces h) (lw_V q332 q286 q287 q66 q288) cdX2_sign 1 6 rfl rfl rfl (by decide) (by decide) rfl (Nat.le_of_ble_eq_true rfl) (Nat.le_of_ble_eq_true rfl) (Nat.le_of_ble_eq_true rfl) dX1_compare_53 (fun r_4 h => ?_)
    show X g 5 56 [(4, .ref u0), (0, .ref h0), (1, .int p0), (2, .long p1)] [.int r_4] [(h0, .inr (0, [.ref lg, .ref e1, .ref e2, .ref e3, .ref rl, .int cur, .ref sh])), (lg, .inl ((xT g) 6, 12, .inr (.inr (.inr (.inr lgf))))), (u0, .inr (lci kd, [.ref u0a, .ref u0d, .ref u0g, .int gc, .ref u0m])), (u0a, .inl ((xT g) 1, ln, .inl acc)), (u0d, .inl ((xT g) 1, ln, .inl day)), (u0m, .inl (lamC kd (xT g) ln am)), (e1, .inr (1, [.ref e1w])), (e1w, .inl ((xT g) 2, 40, .inl w_3))] 0 0
    exact x_reti1 G Q dX1_compare_56 rfl w_3 h XSub.rf (Nat.le_of_ble_eq_true rfl) (Nat.le_of_ble_eq_true rfl)
  · replace h := h.2 c
    refine x_bipush (v := (-102 : Int32)) G dX1_compare_15 (by decide) ?_
    exact x_reti1 G Q dX1_compare_17 rfl w1 h XSub.rf (Nat.le_of_ble_eq_true rfl) (Nat.le_of_ble_eq_true rfl)
theorem cdX1_rounded : yX1_rounded.cls = RX1 ∧ yX1_rounded.cls ≠ "java/lang/invoke/MethodHandle" ∧ yX1_rounded.cls ≠ "java/lang/invoke/VarHandle" ∧ (parseMethodDescriptor yX1_rounded.desc).map (fun d => d.parameters.length) = some 1 := by decide +kernel
def wX1_rounded_F (p0 : Int32) (lgf : Nat → Option Nat) (w1 : Nat → Int32) (K : Int64 → (Nat → Int32) → Prop) (E : String → (Nat → Int32) → Prop) : Prop := ((¬ vp_in p0 12 → E "java/lang/ArrayIndexOutOfBoundsException" w1) ∧ (vp_in p0 12 → ((lgf p0.toNatClampNeg) = none ∧ (wX1_roundedOf_0 w1 (fun (r_1 : UInt64) (w1_2 : Nat → Int32) => False) (fun (En : String) (w1_2 : Nat → Int32) => E En w1_2)))))
set_option maxRecDepth 20000 in
theorem tX1_rounded_F {l : Launch} {D : va_G} {ta : Nat → ClassId} {h0 : Nat} {lg : Nat} {e1 : Nat} {e2 : Nat} {e3 : Nat} {rl : Nat} {cur : Int32} {sh : Nat} {lgf : Nat → Option Nat} {e1w : Nat} {w1 : Nat → Int32} {p0 : Int32} {K : Int64 → (Nat → Int32) → Prop} {E : String → (Nat → Int32) → Prop} (hlt : l.stackTraces = false) (h : wX1_rounded_F p0 lgf w1 K E) : SXl1 l D ta yX1_rounded cX1_rounded 3 FieldType.long 6 [.ref h0, .int p0] [(h0, .inr (0, [.ref lg, .ref e1, .ref e2, .ref e3, .ref rl, .int cur, .ref sh])), (lg, .inl (ta 6, 12, .inr (.inr (.inr (.inr lgf))))), (e1, .inr (1, [.ref e1w])), (e1w, .inl (ta 2, 40, .inl w1))] (fun (w1' : Nat → Int32) => [(h0, .inr (0, [.ref lg, .ref e1, .ref e2, .ref e3, .ref rl, .int cur, .ref sh])), (lg, .inl (ta 6, 12, .inr (.inr (.inr (.inr lgf))))), (e1, .inr (1, [.ref e1w])), (e1w, .inl (ta 2, 40, .inl w1'))]) 3 222 K E := by
  refine x_sxl1 hlt (by decide +kernel) (Nat.le_of_ble_eq_true rfl) (fun g G hl hD hT hN Q => ?_)
  subst hl; subst hD; subst hT
  unfold wX1_rounded_F at h
  show X g 3 0 [(0, .ref h0), (1, .int p0)] [] [(h0, .inr (0, [.ref lg, .ref e1, .ref e2, .ref e3, .ref rl, .int cur, .ref sh])), (lg, .inl ((xT g) 6, 12, .inr (.inr (.inr (.inr lgf))))), (e1, .inr (1, [.ref e1w])), (e1w, .inl ((xT g) 2, 40, .inl w1))] 0 0
  refine x_aload_n G rfl dX1_rounded_0 0 rfl ?_
  refine x_get G in_X1 0 rfl rfl 0 (by decide) q159 (fun _ h => h) rfl dX1_rounded_1 ?_
  refine x_iload_n G rfl dX1_rounded_4 1 rfl ?_
  by_cases hz : vp_in p0 12
  case neg =>
    replace h := h.1 hz
    refine x_aaldZ G 1 rfl rfl (by decide) hz (Nat.le_of_ble_eq_true rfl) (Nat.le_of_ble_eq_true rfl) (Nat.le_of_ble_eq_true rfl) dX1_rounded_5 ?_
    exact x_ol1 G Q w1 h XSub.rf (Nat.le_of_ble_eq_true rfl) (Nat.le_of_ble_eq_true rfl)
  replace h := h.2 hz
  obtain ⟨hq, h⟩ := h
  refine x_aald G 1 6 rfl rfl hz dX1_rounded_5 ?_
  rw [hq]
  show X g 3 6 [(0, .ref h0), (1, .int p0)] [.null] [(h0, .inr (0, [.ref lg, .ref e1, .ref e2, .ref e3, .ref rl, .int cur, .ref sh])), (lg, .inl ((xT g) 6, 12, .inr (.inr (.inr (.inr lgf))))), (e1, .inr (1, [.ref e1w])), (e1w, .inl ((xT g) 2, 40, .inl w1))] 0 0
  refine x_astore_nN (lv' := [(2, .null), (0, .ref h0), (1, .int p0)]) G rfl dX1_rounded_6 (by decide) rfl ?_
  refine x_aload_nN G rfl dX1_rounded_7 0 rfl ?_
  refine x_aload_n G rfl dX1_rounded_8 1 rfl ?_
  refine x_aload_nN G rfl dX1_rounded_9 0 rfl ?_
  refine x_cXVd1 (wc := [(h0, .inr (0, [.ref lg, .ref e1, .ref e2, .ref e3, .ref rl, .int cur, .ref sh])), (e1, .inr (1, [.ref e1w])), (e1w, .inl ((xT g) 2, 40, .inl w1))]) (As := [.null]) (rest := [.null]) G [(lg, .inl ((xT g) 6, 12, .inr (.inr (.inr (.inr lgf)))))] (XSub.of [1, 0, 2, 3] rfl (by decide)) (tX1_roundedOf_0 G.noTraces h) (lw_V q1386 q1388 qs15 q65 q1389) cdX1_roundedOf 0 0 rfl rfl rfl (by decide) (by decide) rfl (Nat.le_of_ble_eq_true rfl) (Nat.le_of_ble_eq_true rfl) (Nat.le_of_ble_eq_true rfl) dX1_rounded_10 (fun En w1_2 h => ?_) (fun r_1 w1_2 h => ?_)
  · exact x_ol1 G Q w1_2 h (XSub.of [1, 0, 2, 3] rfl (by decide)) (Nat.le_of_ble_eq_true rfl) (Nat.le_of_ble_eq_true rfl)
  exact h.elim
def wX1_rounded (p0 : Int32) (lgf : Nat → Option Nat) (u0 : Nat) (kd : Bool) (ln : Nat) (acc : Nat → Int32) (day : Nat → Int32) (am : Nat → UInt64) (w1 : Nat → Int32) (K : Int64 → (Nat → Int32) → Prop) : Prop := (vp_in p0 12 ∧ ((lgf p0.toNatClampNeg) = some u0 ∧ (wX1_roundedOf w1 kd ln acc day am (fun (r_1 : UInt64) (w1_2 : Nat → Int32) => (wL_bits kd r_1 (fun (r_3 : Int64) => K r_3 w1_2))))))
set_option maxRecDepth 20000 in
theorem tX1_rounded {l : Launch} {D : va_G} {ta : Nat → ClassId} {h0 : Nat} {lg : Nat} {e1 : Nat} {e2 : Nat} {e3 : Nat} {rl : Nat} {cur : Int32} {sh : Nat} {lgf : Nat → Option Nat} {u0 : Nat} {kd : Bool} {u0a : Nat} {u0d : Nat} {u0g : Nat} {gc : Int32} {u0m : Nat} {ln : Nat} {acc : Nat → Int32} {day : Nat → Int32} {am : Nat → UInt64} {e1w : Nat} {w1 : Nat → Int32} {p0 : Int32} {K : Int64 → (Nat → Int32) → Prop} (hlt : l.stackTraces = false) (h : wX1_rounded p0 lgf u0 kd ln acc day am w1 K) : SMl1 l D ta yX1_rounded cX1_rounded 3 FieldType.long 8 [.ref h0, .int p0] [(h0, .inr (0, [.ref lg, .ref e1, .ref e2, .ref e3, .ref rl, .int cur, .ref sh])), (lg, .inl (ta 6, 12, .inr (.inr (.inr (.inr lgf))))), (u0, .inr (lci kd, [.ref u0a, .ref u0d, .ref u0g, .int gc, .ref u0m])), (u0a, .inl (ta 1, ln, .inl acc)), (u0d, .inl (ta 1, ln, .inl day)), (u0m, .inl (lamC kd ta ln am)), (e1, .inr (1, [.ref e1w])), (e1w, .inl (ta 2, 40, .inl w1))] (fun (w1' : Nat → Int32) => [(h0, .inr (0, [.ref lg, .ref e1, .ref e2, .ref e3, .ref rl, .int cur, .ref sh])), (lg, .inl (ta 6, 12, .inr (.inr (.inr (.inr lgf))))), (u0, .inr (lci kd, [.ref u0a, .ref u0d, .ref u0g, .int gc, .ref u0m])), (u0a, .inl (ta 1, ln, .inl acc)), (u0d, .inl (ta 1, ln, .inl day)), (u0m, .inl (lamC kd ta ln am)), (e1, .inr (1, [.ref e1w])), (e1w, .inl (ta 2, 40, .inl w1'))]) 0 0 K := by
  refine x_stl1 hlt (plainFor_of_name (by decide +kernel)) (Nat.le_of_ble_eq_true rfl) (fun g G hl hD hT Q => ?_)
  subst hl; subst hD; subst hT
  unfold wX1_rounded at h
  show X g 3 0 [(0, .ref h0), (1, .int p0)] [] [(h0, .inr (0, [.ref lg, .ref e1, .ref e2, .ref e3, .ref rl, .int cur, .ref sh])), (lg, .inl ((xT g) 6, 12, .inr (.inr (.inr (.inr lgf))))), (u0, .inr (lci kd, [.ref u0a, .ref u0d, .ref u0g, .int gc, .ref u0m])), (u0a, .inl ((xT g) 1, ln, .inl acc)), (u0d, .inl ((xT g) 1, ln, .inl day)), (u0m, .inl (lamC kd (xT g) ln am)), (e1, .inr (1, [.ref e1w])), (e1w, .inl ((xT g) 2, 40, .inl w1))] 0 0
  refine x_aload_n G rfl dX1_rounded_0 0 rfl ?_
  refine x_get G in_X1 0 rfl rfl 0 (by decide) q159 (fun _ h => h) rfl dX1_rounded_1 ?_
  refine x_iload_n G rfl dX1_rounded_4 1 rfl ?_
  obtain ⟨hz, hq, h⟩ := h
  refine x_aald G 1 6 rfl rfl hz dX1_rounded_5 ?_
  rw [hq]
  show X g 3 6 [(0, .ref h0), (1, .int p0)] [.ref u0] [(h0, .inr (0, [.ref lg, .ref e1, .ref e2, .ref e3, .ref rl, .int cur, .ref sh])), (lg, .inl ((xT g) 6, 12, .inr (.inr (.inr (.inr lgf))))), (u0, .inr (lci kd, [.ref u0a, .ref u0d, .ref u0g, .int gc, .ref u0m])), (u0a, .inl ((xT g) 1, ln, .inl acc)), (u0d, .inl ((xT g) 1, ln, .inl day)), (u0m, .inl (lamC kd (xT g) ln am)), (e1, .inr (1, [.ref e1w])), (e1w, .inl ((xT g) 2, 40, .inl w1))] 0 0
  refine x_astore_n (lv' := [(2, .ref u0), (0, .ref h0), (1, .int p0)]) G rfl dX1_rounded_6 (by decide) rfl ?_
  refine x_aload_n G rfl dX1_rounded_7 0 rfl ?_
  refine x_aload_n G rfl dX1_rounded_8 1 rfl ?_
  refine x_aload_n G rfl dX1_rounded_9 0 rfl ?_
  refine x_cVd1 (wc := [(h0, .inr (0, [.ref lg, .ref e1, .ref e2, .ref e3, .ref rl, .int cur, .ref sh])), (e1, .inr (1, [.ref e1w])), (e1w, .inl ((xT g) 2, 40, .inl w1)), (u0, .inr (lci kd, [.ref u0a, .ref u0d, .ref u0g, .int gc, .ref u0m])), (u0a, .inl ((xT g) 1, ln, .inl acc)), (u0d, .inl ((xT g) 1, ln, .inl day)), (u0m, .inl (lamC kd (xT g) ln am))]) (As := [.ref u0]) (rest := [.ref u0]) G [(lg, .inl ((xT g) 6, 12, .inr (.inr (.inr (.inr lgf)))))] (XSub.of [1, 0, 6, 7, 2, 3, 4, 5] rfl (by decide)) (tX1_roundedOf G.noTraces h) (lw_V q1386 q1388 qs15 q65 q1389) cdX1_roundedOf 0 0 rfl rfl rfl (by decide) (by decide) rfl (Nat.le_of_ble_eq_true rfl) (Nat.le_of_ble_eq_true rfl) (Nat.le_of_ble_eq_true rfl) dX1_rounded_10 (fun r_1 w1_2 h => ?_)
  show X g 3 13 [(2, .ref u0), (0, .ref h0), (1, .int p0)] [.double r_1, .ref u0] [(lg, .inl ((xT g) 6, 12, .inr (.inr (.inr (.inr lgf))))), (h0, .inr (0, [.ref lg, .ref e1, .ref e2, .ref e3, .ref rl, .int cur, .ref sh])), (e1, .inr (1, [.ref e1w])), (e1w, .inl ((xT g) 2, 40, .inl w1_2)), (u0, .inr (lci kd, [.ref u0a, .ref u0d, .ref u0g, .int gc, .ref u0m])), (u0a, .inl ((xT g) 1, ln, .inl acc)), (u0d, .inl ((xT g) 1, ln, .inl day)), (u0m, .inl (lamC kd (xT g) ln am))] 0 0
  refine x_cUl0 (C := lnm kd) (owner := "RoundingAuditor$Ledger") (x := ⟨"RoundingAuditor$Ledger", "bits", "(D)J"⟩) (wc := []) (As := [.double r_1]) (rest := []) G [(lg, .inl ((xT g) 6, 12, .inr (.inr (.inr (.inr lgf))))), (h0, .inr (0, [.ref lg, .ref e1, .ref e2, .ref e3, .ref rl, .int cur, .ref sh])), (e1, .inr (1, [.ref e1w])), (e1w, .inl ((xT g) 2, 40, .inl w1_2)), (u0, .inr (lci kd, [.ref u0a, .ref u0d, .ref u0g, .int gc, .ref u0m])), (u0a, .inl ((xT g) 1, ln, .inl acc)), (u0d, .inl ((xT g) 1, ln, .inl day)), (u0m, .inl (lamC kd (xT g) ln am))] (XSub.of [0, 1, 2, 3, 4, 5, 6, 7] rfl (by decide)) (tL_bits kd G.noTraces h) q626 q628 (va_Decl.abs (G.E.2.1.2.2.1 _ (by decide +kernel))) (sL_bits kd) (hL_bits kd).1 (hL_bits kd).2.1 (hL_bits kd).2.2.1 cdL_bits (lci kd) 4 (lci_at kd) rfl rfl (by decide) (hL_bits _).2.2.2 rfl (Nat.le_of_ble_eq_true rfl) (Nat.le_of_ble_eq_true rfl) (Nat.le_of_ble_eq_true rfl) dX1_rounded_13 (fun r_3 h => ?_)
  show X g 3 16 [(2, .ref u0), (0, .ref h0), (1, .int p0)] [.long r_3] [(lg, .inl ((xT g) 6, 12, .inr (.inr (.inr (.inr lgf))))), (h0, .inr (0, [.ref lg, .ref e1, .ref e2, .ref e3, .ref rl, .int cur, .ref sh])), (e1, .inr (1, [.ref e1w])), (e1w, .inl ((xT g) 2, 40, .inl w1_2)), (u0, .inr (lci kd, [.ref u0a, .ref u0d, .ref u0g, .int gc, .ref u0m])), (u0a, .inl ((xT g) 1, ln, .inl acc)), (u0d, .inl ((xT g) 1, ln, .inl day)), (u0m, .inl (lamC kd (xT g) ln am))] 0 0
  exact x_retl1 G Q dX1_rounded_16 w1_2 h (XSub.of [1, 0, 4, 5, 6, 7, 2, 3] rfl (by decide)) (Nat.le_of_ble_eq_true rfl) (Nat.le_of_ble_eq_true rfl)
theorem cdX1_word : yX1_word.cls = RX1 ∧ yX1_word.cls ≠ "java/lang/invoke/MethodHandle" ∧ yX1_word.cls ≠ "java/lang/invoke/VarHandle" ∧ (parseMethodDescriptor yX1_word.desc).map (fun d => d.parameters.length) = some 2 := by decide +kernel
def wX1_word_F (p0 : Int32) (p1 : Int32) (lgf : Nat → Option Nat) (w1 : Nat → Int32) (K : Int32 → (Nat → Int32) → Prop) (E : String → (Nat → Int32) → Prop) : Prop := (wX1_isIn p1.toInt64 (0 : Int64) (39 : Int64) (fun (r_1 : Int32) => ((¬ r_1 = (0 : Int32) → ((¬ vp_in p0 12 → E "java/lang/ArrayIndexOutOfBoundsException" w1) ∧ (vp_in p0 12 → ((lgf p0.toNatClampNeg) = none ∧ (wX1_sum_0 (-1 : Int32) (-1 : Int32) w1 (fun (w_2 : Nat → Int32) => False) (fun (En : String) (w_2 : Nat → Int32) => E En w_2)))))) ∧ (r_1 = (0 : Int32) → K (-102 : Int32) w1))))
set_option maxRecDepth 20000 in
theorem tX1_word_F {l : Launch} {D : va_G} {ta : Nat → ClassId} {h0 : Nat} {lg : Nat} {e1 : Nat} {e2 : Nat} {e3 : Nat} {rl : Nat} {cur : Int32} {sh : Nat} {lgf : Nat → Option Nat} {e1w : Nat} {w1 : Nat → Int32} {p0 : Int32} {p1 : Int32} {K : Int32 → (Nat → Int32) → Prop} {E : String → (Nat → Int32) → Prop} (hlt : l.stackTraces = false) (h : wX1_word_F p0 p1 lgf w1 K E) : SXi1 l D ta yX1_word cX1_word 4 FieldType.int 5 [.ref h0, .int p0, .int p1] [(h0, .inr (0, [.ref lg, .ref e1, .ref e2, .ref e3, .ref rl, .int cur, .ref sh])), (lg, .inl (ta 6, 12, .inr (.inr (.inr (.inr lgf))))), (e1, .inr (1, [.ref e1w])), (e1w, .inl (ta 2, 40, .inl w1))] (fun (w1' : Nat → Int32) => [(h0, .inr (0, [.ref lg, .ref e1, .ref e2, .ref e3, .ref rl, .int cur, .ref sh])), (lg, .inl (ta 6, 12, .inr (.inr (.inr (.inr lgf))))), (e1, .inr (1, [.ref e1w])), (e1w, .inl (ta 2, 40, .inl w1'))]) 3 222 K E := by
  refine x_sxi1 hlt (by decide +kernel) (Nat.le_of_ble_eq_true rfl) (fun g G hl hD hT hN Q => ?_)
  subst hl; subst hD; subst hT
  unfold wX1_word_F at h
  show X g 4 0 [(0, .ref h0), (1, .int p0), (2, .int p1)] [] [(h0, .inr (0, [.ref lg, .ref e1, .ref e2, .ref e3, .ref rl, .int cur, .ref sh])), (lg, .inl ((xT g) 6, 12, .inr (.inr (.inr (.inr lgf))))), (e1, .inr (1, [.ref e1w])), (e1w, .inl ((xT g) 2, 40, .inl w1))] 0 0
  refine x_iload_n G rfl dX1_word_0 2 rfl ?_
  refine x_i2l G dX1_word_1 ?_
  refine x_lconst (v := (0 : Int64)) G dX1_word_2 (by decide) ?_
  refine x_ldc2 G q1416 dX1_word_3 ?_
  refine x_cPi (As := [.long p1.toInt64, .long (0 : Int64), .long (39 : Int64)]) (rest := []) G (tX1_isIn G.noTraces h) (lw_S q199 q200 q65 q201) cdX1_isIn (by decide) (by decide) rfl (Nat.le_of_ble_eq_true rfl) (Nat.le_of_ble_eq_true rfl) (Nat.le_of_ble_eq_true rfl) dX1_word_6 (fun r_1 h => ?_)
  refine x_if_ne (tgt := 15) G dX1_word_9 rfl (fun c => ?_) (fun c => ?_)
  · replace h := h.1 c
    refine x_aload_n G rfl dX1_word_15 0 rfl ?_
    refine x_get G in_X1 0 rfl rfl 0 (by decide) q159 (fun _ h => h) rfl dX1_word_16 ?_
    refine x_iload_n G rfl dX1_word_19 1 rfl ?_
    by_cases hz : vp_in p0 12
    case neg =>
      replace h := h.1 hz
      refine x_aaldZ G 1 rfl rfl (by decide) hz (Nat.le_of_ble_eq_true rfl) (Nat.le_of_ble_eq_true rfl) (Nat.le_of_ble_eq_true rfl) dX1_word_20 ?_
      exact x_oi1 G Q w1 h XSub.rf (Nat.le_of_ble_eq_true rfl) (Nat.le_of_ble_eq_true rfl)
    replace h := h.2 hz
    obtain ⟨hq, h⟩ := h
    refine x_aald G 1 6 rfl rfl hz dX1_word_20 ?_
    rw [hq]
    show X g 4 21 [(0, .ref h0), (1, .int p0), (2, .int p1)] [.null] [(h0, .inr (0, [.ref lg, .ref e1, .ref e2, .ref e3, .ref rl, .int cur, .ref sh])), (lg, .inl ((xT g) 6, 12, .inr (.inr (.inr (.inr lgf))))), (e1, .inr (1, [.ref e1w])), (e1w, .inl ((xT g) 2, 40, .inl w1))] 0 0
    refine x_astore_nN (lv' := [(3, .null), (0, .ref h0), (1, .int p0), (2, .int p1)]) G rfl dX1_word_21 (by decide) rfl ?_
    refine x_aload_n G rfl dX1_word_22 1 rfl ?_
    refine x_get G in_X1 0 rfl rfl 1 (by decide) q160 (fun _ h => h) rfl dX1_word_23 ?_
    refine x_aload_nN G rfl dX1_word_26 0 rfl ?_
    refine x_iconst (v := (-1 : Int32)) G dX1_word_27 (by decide) ?_
    refine x_iconst (v := (-1 : Int32)) G dX1_word_28 (by decide) ?_
    refine x_cXSv1 (wc := [(e1, .inr (1, [.ref e1w])), (e1w, .inl ((xT g) 2, 40, .inl w1))]) (As := [.ref e1, .null, .int (-1 : Int32), .int (-1 : Int32)]) (rest := []) G [(h0, .inr (0, [.ref lg, .ref e1, .ref e2, .ref e3, .ref rl, .int cur, .ref sh])), (lg, .inl ((xT g) 6, 12, .inr (.inr (.inr (.inr lgf)))))] (XSub.of [0, 1, 2, 3] rfl (by decide)) (tX1_sum_0 G.noTraces h) (lw_S q1375 q1376 q65 q1377) cdX1_sum (by decide) (by decide) rfl (Nat.le_of_ble_eq_true rfl) (Nat.le_of_ble_eq_true rfl) (Nat.le_of_ble_eq_true rfl) dX1_word_29 (fun En w_2 h => ?_) (fun w_2 h => ?_)
    · exact x_oi1 G Q w_2 h XSub.rf (Nat.le_of_ble_eq_true rfl) (Nat.le_of_ble_eq_true rfl)
    exact h.elim
  · replace h := h.2 c
    refine x_bipush (v := (-102 : Int32)) G dX1_word_12 (by decide) ?_
    exact x_yi1 G Q dX1_word_14 rfl w1 h XSub.rf (Nat.le_of_ble_eq_true rfl) (Nat.le_of_ble_eq_true rfl)
def wX1_word (p0 : Int32) (p1 : Int32) (lgf : Nat → Option Nat) (u0 : Nat) (kd : Bool) (ln : Nat) (acc : Nat → Int32) (day : Nat → Int32) (am : Nat → UInt64) (w1 : Nat → Int32) (K : Int32 → (Nat → Int32) → Prop) : Prop := (wX1_isIn p1.toInt64 (0 : Int64) (39 : Int64) (fun (r_1 : Int32) => ((¬ r_1 = (0 : Int32) → (vp_in p0 12 ∧ ((lgf p0.toNatClampNeg) = some u0 ∧ (wX1_sum (-1 : Int32) (-1 : Int32) w1 kd ln acc day am (fun (w_2 : Nat → Int32) => (wX2_word p1 w_2 (fun (r_3 : Int32) => K r_3 w_2))))))) ∧ (r_1 = (0 : Int32) → K (-102 : Int32) w1))))
set_option maxRecDepth 20000 in
theorem tX1_word {l : Launch} {D : va_G} {ta : Nat → ClassId} {h0 : Nat} {lg : Nat} {e1 : Nat} {e2 : Nat} {e3 : Nat} {rl : Nat} {cur : Int32} {sh : Nat} {lgf : Nat → Option Nat} {u0 : Nat} {kd : Bool} {u0a : Nat} {u0d : Nat} {u0g : Nat} {gc : Int32} {u0m : Nat} {ln : Nat} {acc : Nat → Int32} {day : Nat → Int32} {am : Nat → UInt64} {e1w : Nat} {w1 : Nat → Int32} {p0 : Int32} {p1 : Int32} {K : Int32 → (Nat → Int32) → Prop} (hlt : l.stackTraces = false) (h : wX1_word p0 p1 lgf u0 kd ln acc day am w1 K) : SMi1 l D ta yX1_word cX1_word 4 FieldType.int 5 [.ref h0, .int p0, .int p1] [(h0, .inr (0, [.ref lg, .ref e1, .ref e2, .ref e3, .ref rl, .int cur, .ref sh])), (lg, .inl (ta 6, 12, .inr (.inr (.inr (.inr lgf))))), (u0, .inr (lci kd, [.ref u0a, .ref u0d, .ref u0g, .int gc, .ref u0m])), (u0a, .inl (ta 1, ln, .inl acc)), (u0d, .inl (ta 1, ln, .inl day)), (u0m, .inl (lamC kd ta ln am)), (e1, .inr (1, [.ref e1w])), (e1w, .inl (ta 2, 40, .inl w1))] (fun (w1' : Nat → Int32) => [(h0, .inr (0, [.ref lg, .ref e1, .ref e2, .ref e3, .ref rl, .int cur, .ref sh])), (lg, .inl (ta 6, 12, .inr (.inr (.inr (.inr lgf))))), (u0, .inr (lci kd, [.ref u0a, .ref u0d, .ref u0g, .int gc, .ref u0m])), (u0a, .inl (ta 1, ln, .inl acc)), (u0d, .inl (ta 1, ln, .inl day)), (u0m, .inl (lamC kd ta ln am)), (e1, .inr (1, [.ref e1w])), (e1w, .inl (ta 2, 40, .inl w1'))]) 0 0 K := by
  refine x_sti1 hlt (plainFor_of_name (by decide +kernel)) (Nat.le_of_ble_eq_true rfl) (fun g G hl hD hT Q => ?_)
  subst hl; subst hD; subst hT
  unfold wX1_word at h
  show X g 4 0 [(0, .ref h0), (1, .int p0), (2, .int p1)] [] [(h0, .inr (0, [.ref lg, .ref e1, .ref e2, .ref e3, .ref rl, .int cur, .ref sh])), (lg, .inl ((xT g) 6, 12, .inr (.inr (.inr (.inr lgf))))), (u0, .inr (lci kd, [.ref u0a, .ref u0d, .ref u0g, .int gc, .ref u0m])), (u0a, .inl ((xT g) 1, ln, .inl acc)), (u0d, .inl ((xT g) 1, ln, .inl day)), (u0m, .inl (lamC kd (xT g) ln am)), (e1, .inr (1, [.ref e1w])), (e1w, .inl ((xT g) 2, 40, .inl w1))] 0 0
  refine x_iload_n G rfl dX1_word_0 2 rfl ?_
  refine x_i2l G dX1_word_1 ?_
  refine x_lconst (v := (0 : Int64)) G dX1_word_2 (by decide) ?_
  refine x_ldc2 G q1416 dX1_word_3 ?_
  refine x_cPi (As := [.long p1.toInt64, .long (0 : Int64), .long (39 : Int64)]) (rest := []) G (tX1_isIn G.noTraces h) (lw_S q199 q200 q65 q201) cdX1_isIn (by decide) (by decide) rfl (Nat.le_of_ble_eq_true rfl) (Nat.le_of_ble_eq_true rfl) (Nat.le_of_ble_eq_true rfl) dX1_word_6 (fun r_1 h => ?_)
  refine x_if_ne (tgt := 15) G dX1_word_9 rfl (fun c => ?_) (fun c => ?_)
  · replace h := h.1 c
    refine x_aload_n G rfl dX1_word_15 0 rfl ?_
    refine x_get G in_X1 0 rfl rfl 0 (by decide) q159 (fun _ h => h) rfl dX1_word_16 ?_
    refine x_iload_n G rfl dX1_word_19 1 rfl ?_
    obtain ⟨hz, hq, h⟩ := h
    refine x_aald G 1 6 rfl rfl hz dX1_word_20 ?_
    rw [hq]
    show X g 4 21 [(0, .ref h0), (1, .int p0), (2, .int p1)] [.ref u0] [(h0, .inr (0, [.ref lg, .ref e1, .ref e2, .ref e3, .ref rl, .int cur, .ref sh])), (lg, .inl ((xT g) 6, 12, .inr (.inr (.inr (.inr lgf))))), (u0, .inr (lci kd, [.ref u0a, .ref u0d, .ref u0g, .int gc, .ref u0m])), (u0a, .inl ((xT g) 1, ln, .inl acc)), (u0d, .inl ((xT g) 1, ln, .inl day)), (u0m, .inl (lamC kd (xT g) ln am)), (e1, .inr (1, [.ref e1w])), (e1w, .inl ((xT g) 2, 40, .inl w1))] 0 0
    refine x_astore_n (lv' := [(3, .ref u0), (0, .ref h0), (1, .int p0), (2, .int p1)]) G rfl dX1_word_21 (by decide) rfl ?_
    refine x_aload_n G rfl dX1_word_22 1 rfl ?_
    refine x_get G in_X1 0 rfl rfl 1 (by decide) q160 (fun _ h => h) rfl dX1_word_23 ?_
    refine x_aload_n G rfl dX1_word_26 0 rfl ?_
    refine x_iconst (v := (-1 : Int32)) G dX1_word_27 (by decide) ?_
    refine x_iconst (v := (-1 : Int32)) G dX1_word_28 (by decide) ?_
    refine x_cSv1 (wc := [(e1, .inr (1, [.ref e1w])), (e1w, .inl ((xT g) 2, 40, .inl w1)), (u0, .inr (lci kd, [.ref u0a, .ref u0d, .ref u0g, .int gc, .ref u0m])), (u0a, .inl ((xT g) 1, ln, .inl acc)), (u0d, .inl ((xT g) 1, ln, .inl day)), (u0m, .inl (lamC kd (xT g) ln am))]) (As := [.ref e1, .ref u0, .int (-1 : Int32), .int (-1 : Int32)]) (rest := []) G [(h0, .inr (0, [.ref lg, .ref e1, .ref e2, .ref e3, .ref rl, .int cur, .ref sh])), (lg, .inl ((xT g) 6, 12, .inr (.inr (.inr (.inr lgf)))))] (XSub.of [0, 1, 6, 7, 2, 3, 4, 5] rfl (by decide)) (tX1_sum G.noTraces h) (lw_S q1375 q1376 q65 q1377) cdX1_sum (by decide) (by decide) rfl (Nat.le_of_ble_eq_true rfl) (Nat.le_of_ble_eq_true rfl) (Nat.le_of_ble_eq_true rfl) dX1_word_29 (fun w_2 h => ?_)
    show X g 4 32 [(3, .ref u0), (0, .ref h0), (1, .int p0), (2, .int p1)] [] [(h0, .inr (0, [.ref lg, .ref e1, .ref e2, .ref e3, .ref rl, .int cur, .ref sh])), (lg, .inl ((xT g) 6, 12, .inr (.inr (.inr (.inr lgf))))), (e1, .inr (1, [.ref e1w])), (e1w, .inl ((xT g) 2, 40, .inl w_2)), (u0, .inr (lci kd, [.ref u0a, .ref u0d, .ref u0g, .int gc, .ref u0m])), (u0a, .inl ((xT g) 1, ln, .inl acc)), (u0d, .inl ((xT g) 1, ln, .inl day)), (u0m, .inl (lamC kd (xT g) ln am))] 0 0
    refine x_aload_n G rfl dX1_word_32 1 rfl ?_
    refine x_get G in_X1 0 rfl rfl 1 (by decide) q160 (fun _ h => h) rfl dX1_word_33 ?_
    refine x_iload_n G rfl dX1_word_36 3 rfl ?_
    refine x_cVi0 (wc := [(e1, .inr (1, [.ref e1w])), (e1w, .inl ((xT g) 2, 40, .inl w_2))]) (As := [.int p1]) (rest := []) G [(h0, .inr (0, [.ref lg, .ref e1, .ref e2, .ref e3, .ref rl, .int cur, .ref sh])), (lg, .inl ((xT g) 6, 12, .inr (.inr (.inr (.inr lgf))))), (u0, .inr (lci kd, [.ref u0a, .ref u0d, .ref u0g, .int gc, .ref u0m])), (u0a, .inl ((xT g) 1, ln, .inl acc)), (u0d, .inl ((xT g) 1, ln, .inl day)), (u0m, .inl (lamC kd (xT g) ln am))] (XSub.of [0, 1, 4, 5, 6, 7, 2, 3] rfl (by decide)) (tX2_word G.noTraces h) (lw_V q1417 q1418 q1419 q66 q1420) cdX2_word 1 2 rfl rfl rfl (by decide) (by decide) rfl (Nat.le_of_ble_eq_true rfl) (Nat.le_of_ble_eq_true rfl) (Nat.le_of_ble_eq_true rfl) dX1_word_37 (fun r_3 h => ?_)
    show X g 4 40 [(3, .ref u0), (0, .ref h0), (1, .int p0), (2, .int p1)] [.int r_3] [(h0, .inr (0, [.ref lg, .ref e1, .ref e2, .ref e3, .ref rl, .int cur, .ref sh])), (lg, .inl ((xT g) 6, 12, .inr (.inr (.inr (.inr lgf))))), (u0, .inr (lci kd, [.ref u0a, .ref u0d, .ref u0g, .int gc, .ref u0m])), (u0a, .inl ((xT g) 1, ln, .inl acc)), (u0d, .inl ((xT g) 1, ln, .inl day)), (u0m, .inl (lamC kd (xT g) ln am)), (e1, .inr (1, [.ref e1w])), (e1w, .inl ((xT g) 2, 40, .inl w_2))] 0 0
    exact x_reti1 G Q dX1_word_40 rfl w_2 h XSub.rf (Nat.le_of_ble_eq_true rfl) (Nat.le_of_ble_eq_true rfl)
  · replace h := h.2 c
    refine x_bipush (v := (-102 : Int32)) G dX1_word_12 (by decide) ?_
    exact x_reti1 G Q dX1_word_14 rfl w1 h XSub.rf (Nat.le_of_ble_eq_true rfl) (Nat.le_of_ble_eq_true rfl)
theorem cdX1_sign : yX1_sign.cls = RX1 ∧ yX1_sign.cls ≠ "java/lang/invoke/MethodHandle" ∧ yX1_sign.cls ≠ "java/lang/invoke/VarHandle" ∧ (parseMethodDescriptor yX1_sign.desc).map (fun d => d.parameters.length) = some 3 := by decide +kernel
def wX1_sign_F_J58 (w1 : Nat → Int32) (p1 : Int32) (p2 : Int32) (K : Int32 → (Nat → Int32) → Prop) (E : String → (Nat → Int32) → Prop) : Int32 → Prop := fun (s_6 : Int32) => ((¬ p1 = (1 : Int32) → (wX1_sum_0 s_6 (-1 : Int32) w1 (fun (w_7 : Nat → Int32) => False) (fun (En : String) (w_7 : Nat → Int32) => E En w_7))) ∧ (p1 = (1 : Int32) → (wX1_sum_0 s_6 p2 w1 (fun (w_8 : Nat → Int32) => False) (fun (En : String) (w_8 : Nat → Int32) => E En w_8))))
def wX1_sign_F_J26 (lgf : Nat → Option Nat) (w1 : Nat → Int32) (p0 : Int32) (p1 : Int32) (p2 : Int32) (K : Int32 → (Nat → Int32) → Prop) (E : String → (Nat → Int32) → Prop) : Int64 → Int64 → Int64 → Prop := fun (s_2 : Int64) (s_3 : Int64) (s_4 : Int64) => (wX1_isIn s_2 s_3 s_4 (fun (r_5 : Int32) => ((¬ r_5 = (0 : Int32) → ((¬ vp_in p0 12 → E "java/lang/ArrayIndexOutOfBoundsException" w1) ∧ (vp_in p0 12 → ((lgf p0.toNatClampNeg) = none ∧ ((¬ p1 = (0 : Int32) → (wX1_sign_F_J58 w1 p1 p2 K E (-1 : Int32))) ∧ (p1 = (0 : Int32) → (wX1_sign_F_J58 w1 p1 p2 K E p2))))))) ∧ (r_5 = (0 : Int32) → K (-102 : Int32) w1))))
def wX1_sign_F (p0 : Int32) (p1 : Int32) (p2 : Int32) (lgf : Nat → Option Nat) (w1 : Nat → Int32) (K : Int32 → (Nat → Int32) → Prop) (E : String → (Nat → Int32) → Prop) : Prop := (wX1_isIn p1.toInt64 (0 : Int64) (1 : Int64) (fun (r_1 : Int32) => ((r_1 = (0 : Int32) → K (-102 : Int32) w1) ∧ (¬ r_1 = (0 : Int32) → ((¬ p1 = (0 : Int32) → (wX1_sign_F_J26 lgf w1 p0 p1 p2 K E p2.toInt64 (0 : Int64) (30 : Int64))) ∧ (p1 = (0 : Int32) → (wX1_sign_F_J26 lgf w1 p0 p1 p2 K E p2.toInt64 (0 : Int64) (9 : Int64))))))))
set_option maxRecDepth 20000 in
theorem kX1_sign_F_J58 {g : XG} {h0 : Nat} {lg : Nat} {e1 : Nat} {e2 : Nat} {e3 : Nat} {rl : Nat} {cur : Int32} {sh : Nat} {lgf : Nat → Option Nat} {e1w : Nat} {w1 : Nat → Int32} {p1 : Int32} {p2 : Int32} {K : Int32 → (Nat → Int32) → Prop} {E : String → (Nat → Int32) → Prop} (G : XO g RX1 cX1_sign 5 5 3 222) (Q : XYi1 g FieldType.int 3 222 (fun (w1' : Nat → Int32) => [(h0, .inr (0, [.ref lg, .ref e1, .ref e2, .ref e3, .ref rl, .int cur, .ref sh])), (lg, .inl ((xT g) 6, 12, .inr (.inr (.inr (.inr lgf))))), (e1, .inr (1, [.ref e1w])), (e1w, .inl ((xT g) 2, 40, .inl w1'))]) K E) : ∀ (s_6 : Int32), wX1_sign_F_J58 w1 p1 p2 K E s_6 → X g 5 58 [(0, .ref h0), (2, .int p1), (3, .int p2)] [.int s_6, .null, .ref e1] [(h0, .inr (0, [.ref lg, .ref e1, .ref e2, .ref e3, .ref rl, .int cur, .ref sh])), (lg, .inl ((xT g) 6, 12, .inr (.inr (.inr (.inr lgf))))), (e1, .inr (1, [.ref e1w])), (e1w, .inl ((xT g) 2, 40, .inl w1))] 0 0 := by
  intro s_6 h
  unfold wX1_sign_F_J58 at h
  refine x_iload_n G rfl dX1_sign_58 1 rfl ?_
  refine x_iconst (v := (1 : Int32)) G dX1_sign_59 (by decide) ?_
  refine x_icmp_ne (tgt := 67) G dX1_sign_60 rfl (fun c => ?_) (fun c => ?_)
  · replace h := h.1 c
    refine x_iconst (v := (-1 : Int32)) G dX1_sign_67 (by decide) ?_
    refine x_cXSv1 (wc := [(e1, .inr (1, [.ref e1w])), (e1w, .inl ((xT g) 2, 40, .inl w1))]) (As := [.ref e1, .null, .int s_6, .int (-1 : Int32)]) (rest := []) G [(h0, .inr (0, [.ref lg, .ref e1, .ref e2, .ref e3, .ref rl, .int cur, .ref sh])), (lg, .inl ((xT g) 6, 12, .inr (.inr (.inr (.inr lgf)))))] (XSub.of [0, 1, 2, 3] rfl (by decide)) (tX1_sum_0 G.noTraces h) (lw_S q1375 q1376 q65 q1377) cdX1_sum (by decide) (by decide) rfl (Nat.le_of_ble_eq_true rfl) (Nat.le_of_ble_eq_true rfl) (Nat.le_of_ble_eq_true rfl) dX1_sign_68 (fun En w_7 h => ?_) (fun w_7 h => ?_)
    · exact x_oi1 G Q w_7 h XSub.rf (Nat.le_of_ble_eq_true rfl) (Nat.le_of_ble_eq_true rfl)
    exact h.elim
  · replace h := h.2 c
    refine x_iload_n G rfl dX1_sign_63 2 rfl ?_
    refine x_goto (tgt := 68) G dX1_sign_64 rfl ?_
    refine x_cXSv1 (wc := [(e1, .inr (1, [.ref e1w])), (e1w, .inl ((xT g) 2, 40, .inl w1))]) (As := [.ref e1, .null, .int s_6, .int p2]) (rest := []) G [(h0, .inr (0, [.ref lg, .ref e1, .ref e2, .ref e3, .ref rl, .int cur, .ref sh])), (lg, .inl ((xT g) 6, 12, .inr (.inr (.inr (.inr lgf)))))] (XSub.of [0, 1, 2, 3] rfl (by decide)) (tX1_sum_0 G.noTraces h) (lw_S q1375 q1376 q65 q1377) cdX1_sum (by decide) (by decide) rfl (Nat.le_of_ble_eq_true rfl) (Nat.le_of_ble_eq_true rfl) (Nat.le_of_ble_eq_true rfl) dX1_sign_68 (fun En w_8 h => ?_) (fun w_8 h => ?_)
    · exact x_oi1 G Q w_8 h XSub.rf (Nat.le_of_ble_eq_true rfl) (Nat.le_of_ble_eq_true rfl)
    exact h.elim
set_option maxRecDepth 20000 in
theorem kX1_sign_F_J26 {g : XG} {h0 : Nat} {lg : Nat} {e1 : Nat} {e2 : Nat} {e3 : Nat} {rl : Nat} {cur : Int32} {sh : Nat} {lgf : Nat → Option Nat} {e1w : Nat} {w1 : Nat → Int32} {p0 : Int32} {p1 : Int32} {p2 : Int32} {K : Int32 → (Nat → Int32) → Prop} {E : String → (Nat → Int32) → Prop} (G : XO g RX1 cX1_sign 5 5 3 222) (Q : XYi1 g FieldType.int 3 222 (fun (w1' : Nat → Int32) => [(h0, .inr (0, [.ref lg, .ref e1, .ref e2, .ref e3, .ref rl, .int cur, .ref sh])), (lg, .inl ((xT g) 6, 12, .inr (.inr (.inr (.inr lgf))))), (e1, .inr (1, [.ref e1w])), (e1w, .inl ((xT g) 2, 40, .inl w1'))]) K E) : ∀ (s_2 : Int64) (s_3 : Int64) (s_4 : Int64), wX1_sign_F_J26 lgf w1 p0 p1 p2 K E s_2 s_3 s_4 → X g 5 26 [(0, .ref h0), (1, .int p0), (2, .int p1), (3, .int p2)] [.long s_4, .long s_3, .long s_2] [(h0, .inr (0, [.ref lg, .ref e1, .ref e2, .ref e3, .ref rl, .int cur, .ref sh])), (lg, .inl ((xT g) 6, 12, .inr (.inr (.inr (.inr lgf))))), (e1, .inr (1, [.ref e1w])), (e1w, .inl ((xT g) 2, 40, .inl w1))] 0 0 := by
  intro s_2 s_3 s_4 h
  unfold wX1_sign_F_J26 at h
  refine x_cPi (As := [.long s_2, .long s_3, .long s_4]) (rest := []) G (tX1_isIn G.noTraces h) (lw_S q199 q200 q65 q201) cdX1_isIn (by decide) (by decide) rfl (Nat.le_of_ble_eq_true rfl) (Nat.le_of_ble_eq_true rfl) (Nat.le_of_ble_eq_true rfl) dX1_sign_26 (fun r_5 h => ?_)
  refine x_if_ne (tgt := 35) G dX1_sign_29 rfl (fun c => ?_) (fun c => ?_)
  · replace h := h.1 c
    refine x_aload_n G rfl dX1_sign_35 0 rfl ?_
    refine x_get G in_X1 0 rfl rfl 0 (by decide) q159 (fun _ h => h) rfl dX1_sign_36 ?_
    refine x_iload_n G rfl dX1_sign_39 1 rfl ?_
    by_cases hz : vp_in p0 12
    case neg =>
      replace h := h.1 hz
      refine x_aaldZ G 1 rfl rfl (by decide) hz (Nat.le_of_ble_eq_true rfl) (Nat.le_of_ble_eq_true rfl) (Nat.le_of_ble_eq_true rfl) dX1_sign_40 ?_
      exact x_oi1 G Q w1 h XSub.rf (Nat.le_of_ble_eq_true rfl) (Nat.le_of_ble_eq_true rfl)
    replace h := h.2 hz
    obtain ⟨hq, h⟩ := h
    refine x_aald G 1 6 rfl rfl hz dX1_sign_40 ?_
    rw [hq]
    show X g 5 41 [(0, .ref h0), (1, .int p0), (2, .int p1), (3, .int p2)] [.null] [(h0, .inr (0, [.ref lg, .ref e1, .ref e2, .ref e3, .ref rl, .int cur, .ref sh])), (lg, .inl ((xT g) 6, 12, .inr (.inr (.inr (.inr lgf))))), (e1, .inr (1, [.ref e1w])), (e1w, .inl ((xT g) 2, 40, .inl w1))] 0 0
    refine x_astoreN (lv' := [(4, .null), (0, .ref h0), (1, .int p0), (2, .int p1), (3, .int p2)]) G dX1_sign_41 (by decide) rfl ?_
    refine x_aload_n G rfl dX1_sign_43 1 rfl ?_
    refine x_get G in_X1 0 rfl rfl 1 (by decide) q160 (fun _ h => h) rfl dX1_sign_44 ?_
    refine x_aloadNN G dX1_sign_47 0 rfl ?_
    refine x_iload_n G rfl dX1_sign_49 3 rfl ?_
    refine x_if_ne (tgt := 57) G dX1_sign_50 rfl (fun c => ?_) (fun c => ?_)
    · replace h := h.1 c
      refine x_iconst (v := (-1 : Int32)) G dX1_sign_57 (by decide) ?_
      refine x_lv (lv' := [(0, .ref h0), (2, .int p1), (3, .int p2)]) [1, 3, 4] rfl ?_
      refine kX1_sign_F_J58 G Q  _ h
    · replace h := h.2 c
      refine x_iload_n G rfl dX1_sign_53 4 rfl ?_
      refine x_goto (tgt := 58) G dX1_sign_54 rfl ?_
      refine x_lv (lv' := [(0, .ref h0), (2, .int p1), (3, .int p2)]) [1, 3, 4] rfl ?_
      refine kX1_sign_F_J58 G Q  _ h
  · replace h := h.2 c
    refine x_bipush (v := (-102 : Int32)) G dX1_sign_32 (by decide) ?_
    exact x_yi1 G Q dX1_sign_34 rfl w1 h XSub.rf (Nat.le_of_ble_eq_true rfl) (Nat.le_of_ble_eq_true rfl)
set_option maxRecDepth 20000 in
theorem tX1_sign_F {l : Launch} {D : va_G} {ta : Nat → ClassId} {h0 : Nat} {lg : Nat} {e1 : Nat} {e2 : Nat} {e3 : Nat} {rl : Nat} {cur : Int32} {sh : Nat} {lgf : Nat → Option Nat} {e1w : Nat} {w1 : Nat → Int32} {p0 : Int32} {p1 : Int32} {p2 : Int32} {K : Int32 → (Nat → Int32) → Prop} {E : String → (Nat → Int32) → Prop} (hlt : l.stackTraces = false) (h : wX1_sign_F p0 p1 p2 lgf w1 K E) : SXi1 l D ta yX1_sign cX1_sign 5 FieldType.int 5 [.ref h0, .int p0, .int p1, .int p2] [(h0, .inr (0, [.ref lg, .ref e1, .ref e2, .ref e3, .ref rl, .int cur, .ref sh])), (lg, .inl (ta 6, 12, .inr (.inr (.inr (.inr lgf))))), (e1, .inr (1, [.ref e1w])), (e1w, .inl (ta 2, 40, .inl w1))] (fun (w1' : Nat → Int32) => [(h0, .inr (0, [.ref lg, .ref e1, .ref e2, .ref e3, .ref rl, .int cur, .ref sh])), (lg, .inl (ta 6, 12, .inr (.inr (.inr (.inr lgf))))), (e1, .inr (1, [.ref e1w])), (e1w, .inl (ta 2, 40, .inl w1'))]) 3 222 K E := by
  refine x_sxi1 hlt (by decide +kernel) (Nat.le_of_ble_eq_true rfl) (fun g G hl hD hT hN Q => ?_)
  subst hl; subst hD; subst hT
  unfold wX1_sign_F at h
  show X g 5 0 [(0, .ref h0), (1, .int p0), (2, .int p1), (3, .int p2)] [] [(h0, .inr (0, [.ref lg, .ref e1, .ref e2, .ref e3, .ref rl, .int cur, .ref sh])), (lg, .inl ((xT g) 6, 12, .inr (.inr (.inr (.inr lgf))))), (e1, .inr (1, [.ref e1w])), (e1w, .inl ((xT g) 2, 40, .inl w1))] 0 0
  refine x_iload_n G rfl dX1_sign_0 2 rfl ?_
  refine x_i2l G dX1_sign_1 ?_
  refine x_lconst (v := (0 : Int64)) G dX1_sign_2 (by decide) ?_
  refine x_lconst (v := (1 : Int64)) G dX1_sign_3 (by decide) ?_
  refine x_cPi (As := [.long p1.toInt64, .long (0 : Int64), .long (1 : Int64)]) (rest := []) G (tX1_isIn G.noTraces h) (lw_S q199 q200 q65 q201) cdX1_isIn (by decide) (by decide) rfl (Nat.le_of_ble_eq_true rfl) (Nat.le_of_ble_eq_true rfl) (Nat.le_of_ble_eq_true rfl) dX1_sign_4 (fun r_1 h => ?_)
  refine x_if_eq (tgt := 32) G dX1_sign_7 rfl (fun c => ?_) (fun c => ?_)
  · replace h := h.1 c
    refine x_bipush (v := (-102 : Int32)) G dX1_sign_32 (by decide) ?_
    exact x_yi1 G Q dX1_sign_34 rfl w1 h XSub.rf (Nat.le_of_ble_eq_true rfl) (Nat.le_of_ble_eq_true rfl)
  · replace h := h.2 c
    refine x_iload_n G rfl dX1_sign_10 3 rfl ?_
    refine x_i2l G dX1_sign_11 ?_
    refine x_lconst (v := (0 : Int64)) G dX1_sign_12 (by decide) ?_
    refine x_iload_n G rfl dX1_sign_13 2 rfl ?_
    refine x_if_ne (tgt := 23) G dX1_sign_14 rfl (fun c => ?_) (fun c => ?_)
    · replace h := h.1 c
      refine x_ldc2 G q603 dX1_sign_23 ?_
      refine kX1_sign_F_J26 G Q  _ _ _ h
    · replace h := h.2 c
      refine x_ldc2 G q388 dX1_sign_17 ?_
      refine x_goto (tgt := 26) G dX1_sign_20 rfl ?_
      refine kX1_sign_F_J26 G Q  _ _ _ h
def wX1_sign_J58 (kd : Bool) (ln : Nat) (acc : Nat → Int32) (day : Nat → Int32) (am : Nat → UInt64) (w1 : Nat → Int32) (p1 : Int32) (p2 : Int32) (K : Int32 → (Nat → Int32) → Prop) : Int32 → Prop := fun (s_6 : Int32) => ((¬ p1 = (1 : Int32) → (wX1_sum s_6 (-1 : Int32) w1 kd ln acc day am (fun (w_7 : Nat → Int32) => (wX2_sign w_7 (fun (r_8 : Int32) => K r_8 w_7))))) ∧ (p1 = (1 : Int32) → (wX1_sum s_6 p2 w1 kd ln acc day am (fun (w_9 : Nat → Int32) => (wX2_sign w_9 (fun (r_10 : Int32) => K r_10 w_9))))))
def wX1_sign_J26 (lgf : Nat → Option Nat) (u0 : Nat) (kd : Bool) (ln : Nat) (acc : Nat → Int32) (day : Nat → Int32) (am : Nat → UInt64) (w1 : Nat → Int32) (p0 : Int32) (p1 : Int32) (p2 : Int32) (K : Int32 → (Nat → Int32) → Prop) : Int64 → Int64 → Int64 → Prop := fun (s_2 : Int64) (s_3 : Int64) (s_4 : Int64) => (wX1_isIn s_2 s_3 s_4 (fun (r_5 : Int32) => ((¬ r_5 = (0 : Int32) → (vp_in p0 12 ∧ ((lgf p0.toNatClampNeg) = some u0 ∧ ((¬ p1 = (0 : Int32) → (wX1_sign_J58 kd ln acc day am w1 p1 p2 K (-1 : Int32))) ∧ (p1 = (0 : Int32) → (wX1_sign_J58 kd ln acc day am w1 p1 p2 K p2)))))) ∧ (r_5 = (0 : Int32) → K (-102 : Int32) w1))))
def wX1_sign (p0 : Int32) (p1 : Int32) (p2 : Int32) (lgf : Nat → Option Nat) (u0 : Nat) (kd : Bool) (ln : Nat) (acc : Nat → Int32) (day : Nat → Int32) (am : Nat → UInt64) (w1 : Nat → Int32) (K : Int32 → (Nat → Int32) → Prop) : Prop := (wX1_isIn p1.toInt64 (0 : Int64) (1 : Int64) (fun (r_1 : Int32) => ((r_1 = (0 : Int32) → K (-102 : Int32) w1) ∧ (¬ r_1 = (0 : Int32) → ((¬ p1 = (0 : Int32) → (wX1_sign_J26 lgf u0 kd ln acc day am w1 p0 p1 p2 K p2.toInt64 (0 : Int64) (30 : Int64))) ∧ (p1 = (0 : Int32) → (wX1_sign_J26 lgf u0 kd ln acc day am w1 p0 p1 p2 K p2.toInt64 (0 : Int64) (9 : Int64))))))))
set_option maxRecDepth 20000 in
theorem kX1_sign_J58 {g : XG} {h0 : Nat} {lg : Nat} {e1 : Nat} {e2 : Nat} {e3 : Nat} {rl : Nat} {cur : Int32} {sh : Nat} {lgf : Nat → Option Nat} {u0 : Nat} {kd : Bool} {u0a : Nat} {u0d : Nat} {u0g : Nat} {gc : Int32} {u0m : Nat} {ln : Nat} {acc : Nat → Int32} {day : Nat → Int32} {am : Nat → UInt64} {e1w : Nat} {w1 : Nat → Int32} {p1 : Int32} {p2 : Int32} {K : Int32 → (Nat → Int32) → Prop} (G : XO g RX1 cX1_sign 5 5 0 0) (Q : XQi1 g FieldType.int 0 0 (fun (w1' : Nat → Int32) => [(h0, .inr (0, [.ref lg, .ref e1, .ref e2, .ref e3, .ref rl, .int cur, .ref sh])), (lg, .inl ((xT g) 6, 12, .inr (.inr (.inr (.inr lgf))))), (u0, .inr (lci kd, [.ref u0a, .ref u0d, .ref u0g, .int gc, .ref u0m])), (u0a, .inl ((xT g) 1, ln, .inl acc)), (u0d, .inl ((xT g) 1, ln, .inl day)), (u0m, .inl (lamC kd (xT g) ln am)), (e1, .inr (1, [.ref e1w])), (e1w, .inl ((xT g) 2, 40, .inl w1'))]) K) : ∀ (s_6 : Int32), wX1_sign_J58 kd ln acc day am w1 p1 p2 K s_6 → X g 5 58 [(0, .ref h0), (2, .int p1), (3, .int p2)] [.int s_6, .ref u0, .ref e1] [(h0, .inr (0, [.ref lg, .ref e1, .ref e2, .ref e3, .ref rl, .int cur, .ref sh])), (lg, .inl ((xT g) 6, 12, .inr (.inr (.inr (.inr lgf))))), (u0, .inr (lci kd, [.ref u0a, .ref u0d, .ref u0g, .int gc, .ref u0m])), (u0a, .inl ((xT g) 1, ln, .inl acc)), (u0d, .inl ((xT g) 1, ln, .inl day)), (u0m, .inl (lamC kd (xT g) ln am)), (e1, .inr (1, [.ref e1w])), (e1w, .inl ((xT g) 2, 40, .inl w1))] 0 0 := by
  intro s_6 h
  unfold wX1_sign_J58 at h
  refine x_iload_n G rfl dX1_sign_58 1 rfl ?_
  refine x_iconst (v := (1 : Int32)) G dX1_sign_59 (by decide) ?_
  refine x_icmp_ne (tgt := 67) G dX1_sign_60 rfl (fun c => ?_) (fun c => ?_)
  · replace h := h.1 c
    refine x_iconst (v := (-1 : Int32)) G dX1_sign_67 (by decide) ?_
    refine x_cSv1 (wc := [(e1, .inr (1, [.ref e1w])), (e1w, .inl ((xT g) 2, 40, .inl w1)), (u0, .inr (lci kd, [.ref u0a, .ref u0d, .ref u0g, .int gc, .ref u0m])), (u0a, .inl ((xT g) 1, ln, .inl acc)), (u0d, .inl ((xT g) 1, ln, .inl day)), (u0m, .inl (lamC kd (xT g) ln am))]) (As := [.ref e1, .ref u0, .int s_6, .int (-1 : Int32)]) (rest := []) G [(h0, .inr (0, [.ref lg, .ref e1, .ref e2, .ref e3, .ref rl, .int cur, .ref sh])), (lg, .inl ((xT g) 6, 12, .inr (.inr (.inr (.inr lgf)))))] (XSub.of [0, 1, 6, 7, 2, 3, 4, 5] rfl (by decide)) (tX1_sum G.noTraces h) (lw_S q1375 q1376 q65 q1377) cdX1_sum (by decide) (by decide) rfl (Nat.le_of_ble_eq_true rfl) (Nat.le_of_ble_eq_true rfl) (Nat.le_of_ble_eq_true rfl) dX1_sign_68 (fun w_7 h => ?_)
    show X g 5 71 [(0, .ref h0), (2, .int p1), (3, .int p2)] [] [(h0, .inr (0, [.ref lg, .ref e1, .ref e2, .ref e3, .ref rl, .int cur, .ref sh])), (lg, .inl ((xT g) 6, 12, .inr (.inr (.inr (.inr lgf))))), (e1, .inr (1, [.ref e1w])), (e1w, .inl ((xT g) 2, 40, .inl w_7)), (u0, .inr (lci kd, [.ref u0a, .ref u0d, .ref u0g, .int gc, .ref u0m])), (u0a, .inl ((xT g) 1, ln, .inl acc)), (u0d, .inl ((xT g) 1, ln, .inl day)), (u0m, .inl (lamC kd (xT g) ln am))] 0 0
    refine x_aload_n G rfl dX1_sign_71 0 rfl ?_
    refine x_get G in_X1 0 rfl rfl 1 (by decide) q160 (fun _ h => h) rfl dX1_sign_72 ?_
    refine x_cVi0 (wc := [(e1, .inr (1, [.ref e1w])), (e1w, .inl ((xT g) 2, 40, .inl w_7))]) (As := []) (rest := []) G [(h0, .inr (0, [.ref lg, .ref e1, .ref e2, .ref e3, .ref rl, .int cur, .ref sh])), (lg, .inl ((xT g) 6, 12, .inr (.inr (.inr (.inr lgf))))), (u0, .inr (lci kd, [.ref u0a, .ref u0d, .ref u0g, .int gc, .ref u0m])), (u0a, .inl ((xT g) 1, ln, .inl acc)), (u0d, .inl ((xT g) 1, ln, .inl day)), (u0m, .inl (lamC kd (xT g) ln am))] (XSub.of [0, 1, 4, 5, 6, 7, 2, 3] rfl (by decide)) (tX2_sign G.noTraces h) (lw_V q332 q286 q287 q66 q288) cdX2_sign 1 2 rfl rfl rfl (by decide) (by decide) rfl (Nat.le_of_ble_eq_true rfl) (Nat.le_of_ble_eq_true rfl) (Nat.le_of_ble_eq_true rfl) dX1_sign_75 (fun r_8 h => ?_)
    show X g 5 78 [(0, .ref h0), (2, .int p1), (3, .int p2)] [.int r_8] [(h0, .inr (0, [.ref lg, .ref e1, .ref e2, .ref e3, .ref rl, .int cur, .ref sh])), (lg, .inl ((xT g) 6, 12, .inr (.inr (.inr (.inr lgf))))), (u0, .inr (lci kd, [.ref u0a, .ref u0d, .ref u0g, .int gc, .ref u0m])), (u0a, .inl ((xT g) 1, ln, .inl acc)), (u0d, .inl ((xT g) 1, ln, .inl day)), (u0m, .inl (lamC kd (xT g) ln am)), (e1, .inr (1, [.ref e1w])), (e1w, .inl ((xT g) 2, 40, .inl w_7))] 0 0
    exact x_reti1 G Q dX1_sign_78 rfl w_7 h XSub.rf (Nat.le_of_ble_eq_true rfl) (Nat.le_of_ble_eq_true rfl)
  · replace h := h.2 c
    refine x_iload_n G rfl dX1_sign_63 2 rfl ?_
    refine x_goto (tgt := 68) G dX1_sign_64 rfl ?_
    refine x_cSv1 (wc := [(e1, .inr (1, [.ref e1w])), (e1w, .inl ((xT g) 2, 40, .inl w1)), (u0, .inr (lci kd, [.ref u0a, .ref u0d, .ref u0g, .int gc, .ref u0m])), (u0a, .inl ((xT g) 1, ln, .inl acc)), (u0d, .inl ((xT g) 1, ln, .inl day)), (u0m, .inl (lamC kd (xT g) ln am))]) (As := [.ref e1, .ref u0, .int s_6, .int p2]) (rest := []) G [(h0, .inr (0, [.ref lg, .ref e1, .ref e2, .ref e3, .ref rl, .int cur, .ref sh])), (lg, .inl ((xT g) 6, 12, .inr (.inr (.inr (.inr lgf)))))] (XSub.of [0, 1, 6, 7, 2, 3, 4, 5] rfl (by decide)) (tX1_sum G.noTraces h) (lw_S q1375 q1376 q65 q1377) cdX1_sum (by decide) (by decide) rfl (Nat.le_of_ble_eq_true rfl) (Nat.le_of_ble_eq_true rfl) (Nat.le_of_ble_eq_true rfl) dX1_sign_68 (fun w_9 h => ?_)
    show X g 5 71 [(0, .ref h0), (2, .int p1), (3, .int p2)] [] [(h0, .inr (0, [.ref lg, .ref e1, .ref e2, .ref e3, .ref rl, .int cur, .ref sh])), (lg, .inl ((xT g) 6, 12, .inr (.inr (.inr (.inr lgf))))), (e1, .inr (1, [.ref e1w])), (e1w, .inl ((xT g) 2, 40, .inl w_9)), (u0, .inr (lci kd, [.ref u0a, .ref u0d, .ref u0g, .int gc, .ref u0m])), (u0a, .inl ((xT g) 1, ln, .inl acc)), (u0d, .inl ((xT g) 1, ln, .inl day)), (u0m, .inl (lamC kd (xT g) ln am))] 0 0
    refine x_aload_n G rfl dX1_sign_71 0 rfl ?_
    refine x_get G in_X1 0 rfl rfl 1 (by decide) q160 (fun _ h => h) rfl dX1_sign_72 ?_
    refine x_cVi0 (wc := [(e1, .inr (1, [.ref e1w])), (e1w, .inl ((xT g) 2, 40, .inl w_9))]) (As := []) (rest := []) G [(h0, .inr (0, [.ref lg, .ref e1, .ref e2, .ref e3, .ref rl, .int cur, .ref sh])), (lg, .inl ((xT g) 6, 12, .inr (.inr (.inr (.inr lgf))))), (u0, .inr (lci kd, [.ref u0a, .ref u0d, .ref u0g, .int gc, .ref u0m])), (u0a, .inl ((xT g) 1, ln, .inl acc)), (u0d, .inl ((xT g) 1, ln, .inl day)), (u0m, .inl (lamC kd (xT g) ln am))] (XSub.of [0, 1, 4, 5, 6, 7, 2, 3] rfl (by decide)) (tX2_sign G.noTraces h) (lw_V q332 q286 q287 q66 q288) cdX2_sign 1 2 rfl rfl rfl (by decide) (by decide) rfl (Nat.le_of_ble_eq_true rfl) (Nat.le_of_ble_eq_true rfl) (Nat.le_of_ble_eq_true rfl) dX1_sign_75 (fun r_10 h => ?_)
    show X g 5 78 [(0, .ref h0), (2, .int p1), (3, .int p2)] [.int r_10] [(h0, .inr (0, [.ref lg, .ref e1, .ref e2, .ref e3, .ref rl, .int cur, .ref sh])), (lg, .inl ((xT g) 6, 12, .inr (.inr (.inr (.inr lgf))))), (u0, .inr (lci kd, [.ref u0a, .ref u0d, .ref u0g, .int gc, .ref u0m])), (u0a, .inl ((xT g) 1, ln, .inl acc)), (u0d, .inl ((xT g) 1, ln, .inl day)), (u0m, .inl (lamC kd (xT g) ln am)), (e1, .inr (1, [.ref e1w])), (e1w, .inl ((xT g) 2, 40, .inl w_9))] 0 0
    exact x_reti1 G Q dX1_sign_78 rfl w_9 h XSub.rf (Nat.le_of_ble_eq_true rfl) (Nat.le_of_ble_eq_true rfl)
set_option maxRecDepth 20000 in
theorem kX1_sign_J26 {g : XG} {h0 : Nat} {lg : Nat} {e1 : Nat} {e2 : Nat} {e3 : Nat} {rl : Nat} {cur : Int32} {sh : Nat} {lgf : Nat → Option Nat} {u0 : Nat} {kd : Bool} {u0a : Nat} {u0d : Nat} {u0g : Nat} {gc : Int32} {u0m : Nat} {ln : Nat} {acc : Nat → Int32} {day : Nat → Int32} {am : Nat → UInt64} {e1w : Nat} {w1 : Nat → Int32} {p0 : Int32} {p1 : Int32} {p2 : Int32} {K : Int32 → (Nat → Int32) → Prop} (G : XO g RX1 cX1_sign 5 5 0 0) (Q : XQi1 g FieldType.int 0 0 (fun (w1' : Nat → Int32) => [(h0, .inr (0, [.ref lg, .ref e1, .ref e2, .ref e3, .ref rl, .int cur, .ref sh])), (lg, .inl ((xT g) 6, 12, .inr (.inr (.inr (.inr lgf))))), (u0, .inr (lci kd, [.ref u0a, .ref u0d, .ref u0g, .int gc, .ref u0m])), (u0a, .inl ((xT g) 1, ln, .inl acc)), (u0d, .inl ((xT g) 1, ln, .inl day)), (u0m, .inl (lamC kd (xT g) ln am)), (e1, .inr (1, [.ref e1w])), (e1w, .inl ((xT g) 2, 40, .inl w1'))]) K) : ∀ (s_2 : Int64) (s_3 : Int64) (s_4 : Int64), wX1_sign_J26 lgf u0 kd ln acc day am w1 p0 p1 p2 K s_2 s_3 s_4 → X g 5 26 [(0, .ref h0), (1, .int p0), (2, .int p1), (3, .int p2)] [.long s_4, .long s_3, .long s_2] [(h0, .inr (0, [.ref lg, .ref e1, .ref e2, .ref e3, .ref rl, .int cur, .ref sh])), (lg, .inl ((xT g) 6, 12, .inr (.inr (.inr (.inr lgf))))), (u0, .inr (lci kd, [.ref u0a, .ref u0d, .ref u0g, .int gc, .ref u0m])), (u0a, .inl ((xT g) 1, ln, .inl acc)), (u0d, .inl ((xT g) 1, ln, .inl day)), (u0m, .inl (lamC kd (xT g) ln am)), (e1, .inr (1, [.ref e1w])), (e1w, .inl ((xT g) 2, 40, .inl w1))] 0 0 := by
  intro s_2 s_3 s_4 h
  unfold wX1_sign_J26 at h
  refine x_cPi (As := [.long s_2, .long s_3, .long s_4]) (rest := []) G (tX1_isIn G.noTraces h) (lw_S q199 q200 q65 q201) cdX1_isIn (by decide) (by decide) rfl (Nat.le_of_ble_eq_true rfl) (Nat.le_of_ble_eq_true rfl) (Nat.le_of_ble_eq_true rfl) dX1_sign_26 (fun r_5 h => ?_)
  refine x_if_ne (tgt := 35) G dX1_sign_29 rfl (fun c => ?_) (fun c => ?_)
  · replace h := h.1 c
    refine x_aload_n G rfl dX1_sign_35 0 rfl ?_
    refine x_get G in_X1 0 rfl rfl 0 (by decide) q159 (fun _ h => h) rfl dX1_sign_36 ?_
    refine x_iload_n G rfl dX1_sign_39 1 rfl ?_
    obtain ⟨hz, hq, h⟩ := h
    refine x_aald G 1 6 rfl rfl hz dX1_sign_40 ?_
    rw [hq]
    show X g 5 41 [(0, .ref h0), (1, .int p0), (2, .int p1), (3, .int p2)] [.ref u0] [(h0, .inr (0, [.ref lg, .ref e1, .ref e2, .ref e3, .ref rl, .int cur, .ref sh])), (lg, .inl ((xT g) 6, 12, .inr (.inr (.inr (.inr lgf))))), (u0, .inr (lci kd, [.ref u0a, .ref u0d, .ref u0g, .int gc, .ref u0m])), (u0a, .inl ((xT g) 1, ln, .inl acc)), (u0d, .inl ((xT g) 1, ln, .inl day)), (u0m, .inl (lamC kd (xT g) ln am)), (e1, .inr (1, [.ref e1w])), (e1w, .inl ((xT g) 2, 40, .inl w1))] 0 0
    refine x_astore (lv' := [(4, .ref u0), (0, .ref h0), (1, .int p0), (2, .int p1), (3, .int p2)]) G dX1_sign_41 (by decide) rfl ?_
    refine x_aload_n G rfl dX1_sign_43 1 rfl ?_
    refine x_get G in_X1 0 rfl rfl 1 (by decide) q160 (fun _ h => h) rfl dX1_sign_44 ?_
    refine x_aload G dX1_sign_47 0 rfl ?_
    refine x_iload_n G rfl dX1_sign_49 3 rfl ?_
    refine x_if_ne (tgt := 57) G dX1_sign_50 rfl (fun c => ?_) (fun c => ?_)
    · replace h := h.1 c
      refine x_iconst (v := (-1 : Int32)) G dX1_sign_57 (by decide) ?_
      refine x_lv (lv' := [(0, .ref h0), (2, .int p1), (3, .int p2)]) [1, 3, 4] rfl ?_
      refine kX1_sign_J58 G Q  _ h
    · replace h := h.2 c
      refine x_iload_n G rfl dX1_sign_53 4 rfl ?_
      refine x_goto (tgt := 58) G dX1_sign_54 rfl ?_
      refine x_lv (lv' := [(0, .ref h0), (2, .int p1), (3, .int p2)]) [1, 3, 4] rfl ?_
      refine kX1_sign_J58 G Q  _ h
  · replace h := h.2 c
    refine x_bipush (v := (-102 : Int32)) G dX1_sign_32 (by decide) ?_
    exact x_reti1 G Q dX1_sign_34 rfl w1 h XSub.rf (Nat.le_of_ble_eq_true rfl) (Nat.le_of_ble_eq_true rfl)
set_option maxRecDepth 20000 in
theorem tX1_sign {l : Launch} {D : va_G} {ta : Nat → ClassId} {h0 : Nat} {lg : Nat} {e1 : Nat} {e2 : Nat} {e3 : Nat} {rl : Nat} {cur : Int32} {sh : Nat} {lgf : Nat → Option Nat} {u0 : Nat} {kd : Bool} {u0a : Nat} {u0d : Nat} {u0g : Nat} {gc : Int32} {u0m : Nat} {ln : Nat} {acc : Nat → Int32} {day : Nat → Int32} {am : Nat → UInt64} {e1w : Nat} {w1 : Nat → Int32} {p0 : Int32} {p1 : Int32} {p2 : Int32} {K : Int32 → (Nat → Int32) → Prop} (hlt : l.stackTraces = false) (h : wX1_sign p0 p1 p2 lgf u0 kd ln acc day am w1 K) : SMi1 l D ta yX1_sign cX1_sign 5 FieldType.int 5 [.ref h0, .int p0, .int p1, .int p2] [(h0, .inr (0, [.ref lg, .ref e1, .ref e2, .ref e3, .ref rl, .int cur, .ref sh])), (lg, .inl (ta 6, 12, .inr (.inr (.inr (.inr lgf))))), (u0, .inr (lci kd, [.ref u0a, .ref u0d, .ref u0g, .int gc, .ref u0m])), (u0a, .inl (ta 1, ln, .inl acc)), (u0d, .inl (ta 1, ln, .inl day)), (u0m, .inl (lamC kd ta ln am)), (e1, .inr (1, [.ref e1w])), (e1w, .inl (ta 2, 40, .inl w1))] (fun (w1' : Nat → Int32) => [(h0, .inr (0, [.ref lg, .ref e1, .ref e2, .ref e3, .ref rl, .int cur, .ref sh])), (lg, .inl (ta 6, 12, .inr (.inr (.inr (.inr lgf))))), (u0, .inr (lci kd, [.ref u0a, .ref u0d, .ref u0g, .int gc, .ref u0m])), (u0a, .inl (ta 1, ln, .inl acc)), (u0d, .inl (ta 1, ln, .inl day)), (u0m, .inl (lamC kd ta ln am)), (e1, .inr (1, [.ref e1w])), (e1w, .inl (ta 2, 40, .inl w1'))]) 0 0 K := by
  refine x_sti1 hlt (plainFor_of_name (by decide +kernel)) (Nat.le_of_ble_eq_true rfl) (fun g G hl hD hT Q => ?_)
  subst hl; subst hD; subst hT
  unfold wX1_sign at h
  show X g 5 0 [(0, .ref h0), (1, .int p0), (2, .int p1), (3, .int p2)] [] [(h0, .inr (0, [.ref lg, .ref e1, .ref e2, .ref e3, .ref rl, .int cur, .ref sh])), (lg, .inl ((xT g) 6, 12, .inr (.inr (.inr (.inr lgf))))), (u0, .inr (lci kd, [.ref u0a, .ref u0d, .ref u0g, .int gc, .ref u0m])), (u0a, .inl ((xT g) 1, ln, .inl acc)), (u0d, .inl ((xT g) 1, ln, .inl day)), (u0m, .inl (lamC kd (xT g) ln am)), (e1, .inr (1, [.ref e1w])), (e1w, .inl ((xT g) 2, 40, .inl w1))] 0 0
  refine x_iload_n G rfl dX1_sign_0 2 rfl ?_
  refine x_i2l G dX1_sign_1 ?_
  refine x_lconst (v := (0 : Int64)) G dX1_sign_2 (by decide) ?_
  refine x_lconst (v := (1 : Int64)) G dX1_sign_3 (by decide) ?_
  refine x_cPi (As := [.long p1.toInt64, .long (0 : Int64), .long (1 : Int64)]) (rest := []) G (tX1_isIn G.noTraces h) (lw_S q199 q200 q65 q201) cdX1_isIn (by decide) (by decide) rfl (Nat.le_of_ble_eq_true rfl) (Nat.le_of_ble_eq_true rfl) (Nat.le_of_ble_eq_true rfl) dX1_sign_4 (fun r_1 h => ?_)
  refine x_if_eq (tgt := 32) G dX1_sign_7 rfl (fun c => ?_) (fun c => ?_)
  · replace h := h.1 c
    refine x_bipush (v := (-102 : Int32)) G dX1_sign_32 (by decide) ?_
    exact x_reti1 G Q dX1_sign_34 rfl w1 h XSub.rf (Nat.le_of_ble_eq_true rfl) (Nat.le_of_ble_eq_true rfl)
  · replace h := h.2 c
    refine x_iload_n G rfl dX1_sign_10 3 rfl ?_
    refine x_i2l G dX1_sign_11 ?_
    refine x_lconst (v := (0 : Int64)) G dX1_sign_12 (by decide) ?_
    refine x_iload_n G rfl dX1_sign_13 2 rfl ?_
    refine x_if_ne (tgt := 23) G dX1_sign_14 rfl (fun c => ?_) (fun c => ?_)
    · replace h := h.1 c
      refine x_ldc2 G q603 dX1_sign_23 ?_
      refine kX1_sign_J26 G Q  _ _ _ h
    · replace h := h.2 c
      refine x_ldc2 G q388 dX1_sign_17 ?_
      refine x_goto (tgt := 26) G dX1_sign_20 rfl ?_
      refine kX1_sign_J26 G Q  _ _ _ h
theorem cdX1_extreme : yX1_extreme.cls = RX1 ∧ yX1_extreme.cls ≠ "java/lang/invoke/MethodHandle" ∧ yX1_extreme.cls ≠ "java/lang/invoke/VarHandle" ∧ (parseMethodDescriptor yX1_extreme.desc).map (fun d => d.parameters.length) = some 2 := by decide +kernel
set_option maxRecDepth 20000 in
theorem tX1_extreme_F {l : Launch} {D : va_G} {ta : Nat → ClassId} {h0 : Nat} {lg : Nat} {e1 : Nat} {e2 : Nat} {e3 : Nat} {rl : Nat} {cur : Int32} {sh : Nat} {lgf : Nat → Option Nat} {p0 : Int32} {p1 : Int32} {K : Int64 → Prop} {E : String → Prop} (hlt : l.stackTraces = false) (h : wX1_amount_F p0 p1 lgf K E) : SXl0 l D ta yX1_extreme cX1_extreme 5 FieldType.long 3 [.ref h0, .int p0, .int p1] [(h0, .inr (0, [.ref lg, .ref e1, .ref e2, .ref e3, .ref rl, .int cur, .ref sh])), (lg, .inl (ta 6, 12, .inr (.inr (.inr (.inr lgf)))))] ([(h0, .inr (0, [.ref lg, .ref e1, .ref e2, .ref e3, .ref rl, .int cur, .ref sh])), (lg, .inl (ta 6, 12, .inr (.inr (.inr (.inr lgf)))))]) 3 222 K E := by
  refine x_sxl0 hlt (by decide +kernel) (Nat.le_of_ble_eq_true rfl) (fun g G hl hD hT hN Q => ?_)
  subst hl; subst hD; subst hT
  unfold wX1_amount_F at h
  show X g 5 0 [(0, .ref h0), (1, .int p0), (2, .int p1)] [] [(h0, .inr (0, [.ref lg, .ref e1, .ref e2, .ref e3, .ref rl, .int cur, .ref sh])), (lg, .inl ((xT g) 6, 12, .inr (.inr (.inr (.inr lgf)))))] 0 0
  refine x_aload_n G rfl dX1_extreme_0 0 rfl ?_
  refine x_get G in_X1 0 rfl rfl 0 (by decide) q159 (fun _ h => h) rfl dX1_extreme_1 ?_
  refine x_iload_n G rfl dX1_extreme_4 1 rfl ?_
  by_cases hz : vp_in p0 12
  case neg =>
    replace h := h.1 hz
    refine x_aaldZ G 1 rfl rfl (by decide) hz (Nat.le_of_ble_eq_true rfl) (Nat.le_of_ble_eq_true rfl) (Nat.le_of_ble_eq_true rfl) dX1_extreme_5 ?_
    exact x_ol0 G Q h XSub.rf (Nat.le_of_ble_eq_true rfl) (Nat.le_of_ble_eq_true rfl)
  replace h := h.2 hz
  obtain ⟨hq, h⟩ := h
  refine x_aald G 1 6 rfl rfl hz dX1_extreme_5 ?_
  rw [hq]
  show X g 5 6 [(0, .ref h0), (1, .int p0), (2, .int p1)] [.null] [(h0, .inr (0, [.ref lg, .ref e1, .ref e2, .ref e3, .ref rl, .int cur, .ref sh])), (lg, .inl ((xT g) 6, 12, .inr (.inr (.inr (.inr lgf)))))] 0 0
  refine x_astore_nN (lv' := [(3, .null), (0, .ref h0), (1, .int p0), (2, .int p1)]) G rfl dX1_extreme_6 (by decide) rfl ?_
  refine x_aload_nN G rfl dX1_extreme_7 0 rfl ?_
  refine x_invN (z := ⟨"RoundingAuditor$Ledger", "length", "()I"⟩) (As := []) (rest := []) G q661 (va_Decl.of (G.hts _ q662) (G.hts _ q666)) rfl q665 (show ("RoundingAuditor$Ledger" : String) ≠ "java/lang/invoke/MethodHandle" ∧ ("RoundingAuditor$Ledger" : String) ≠ "java/lang/invoke/VarHandle" ∧ (parseMethodDescriptor "()I").map (fun d => d.parameters.length) = some 0 from by decide +kernel) rfl (Nat.le_of_ble_eq_true rfl) (Nat.le_of_ble_eq_true rfl) (Nat.le_of_ble_eq_true rfl) dX1_extreme_8 ?_
  exact x_ol0 G Q h XSub.rf (Nat.le_of_ble_eq_true rfl) (Nat.le_of_ble_eq_true rfl)
def wX1_extreme (p0 : Int32) (p1 : Int32) (lgf : Nat → Option Nat) (u0 : Nat) (kd : Bool) (ln : Nat) (am : Nat → UInt64) (K : Int64 → Prop) : Prop := (vp_in p0 12 ∧ ((lgf p0.toNatClampNeg) = some u0 ∧ (wX4_length ln (fun (r_1 : Int32) => ((r_1 ≤ (7 : Int32) → (∀ a_2 : Nat, (wX25_init FP.dconst0 ln (fun (on_3 : Int32) (oi_4 : Nat) (owa_5 : UInt64) => (∃ m_11 : Nat, m_11 ≤ 9 ∧ (wX25_go m_11 (0 : Int32) FP.dconst0 on_3 FP.dconst0 FP.dconst0 (0 : Int32) owa_5 (0 : Int32) (fun _ => 0) kd ln am (fun (ole_6 : UInt64) (ogr_7 : UInt64) (oan_8 : Int32) (ore_9 : Int32) (ois_10 : Nat → Int32) => ((p1 = (0 : Int32) → (wL_bits kd ole_6 (fun (r_12 : Int64) => K r_12))) ∧ (¬ p1 = (0 : Int32) → (wL_bits kd ogr_7 (fun (r_13 : Int64) => K r_13))))))))))) ∧ (¬ r_1 ≤ (7 : Int32) → K (-104 : Int64)))))))
set_option maxRecDepth 20000 in
theorem tX1_extreme {l : Launch} {D : va_G} {ta : Nat → ClassId} {h0 : Nat} {lg : Nat} {e1 : Nat} {e2 : Nat} {e3 : Nat} {rl : Nat} {cur : Int32} {sh : Nat} {lgf : Nat → Option Nat} {u0 : Nat} {kd : Bool} {u0a : Nat} {u0d : Nat} {u0g : Nat} {gc : Int32} {u0m : Nat} {ln : Nat} {acc : Nat → Int32} {am : Nat → UInt64} {p0 : Int32} {p1 : Int32} {K : Int64 → Prop} (hlt : l.stackTraces = false) (h : wX1_extreme p0 p1 lgf u0 kd ln am K) : SMl0 l D ta yX1_extreme cX1_extreme 5 FieldType.long 18 [.ref h0, .int p0, .int p1] [(h0, .inr (0, [.ref lg, .ref e1, .ref e2, .ref e3, .ref rl, .int cur, .ref sh])), (lg, .inl (ta 6, 12, .inr (.inr (.inr (.inr lgf))))), (u0, .inr (lci kd, [.ref u0a, .ref u0d, .ref u0g, .int gc, .ref u0m])), (u0a, .inl (ta 1, ln, .inl acc)), (u0m, .inl (lamC kd ta ln am))] ([(h0, .inr (0, [.ref lg, .ref e1, .ref e2, .ref e3, .ref rl, .int cur, .ref sh])), (lg, .inl (ta 6, 12, .inr (.inr (.inr (.inr lgf))))), (u0, .inr (lci kd, [.ref u0a, .ref u0d, .ref u0g, .int gc, .ref u0m])), (u0a, .inl (ta 1, ln, .inl acc)), (u0m, .inl (lamC kd ta ln am))]) 2 15 K := by
  refine x_stl0 hlt (plainFor_of_name (by decide +kernel)) (Nat.le_of_ble_eq_true rfl) (fun g G hl hD hT Q => ?_)
  subst hl; subst hD; subst hT
  unfold wX1_extreme at h
  show X g 5 0 [(0, .ref h0), (1, .int p0), (2, .int p1)] [] [(h0, .inr (0, [.ref lg, .ref e1, .ref e2, .ref e3, .ref rl, .int cur, .ref sh])), (lg, .inl ((xT g) 6, 12, .inr (.inr (.inr (.inr lgf))))), (u0, .inr (lci kd, [.ref u0a, .ref u0d, .ref u0g, .int gc, .ref u0m])), (u0a, .inl ((xT g) 1, ln, .inl acc)), (u0m, .inl (lamC kd (xT g) ln am))] 0 0
  refine x_aload_n G rfl dX1_extreme_0 0 rfl ?_
  refine x_get G in_X1 0 rfl rfl 0 (by decide) q159 (fun _ h => h) rfl dX1_extreme_1 ?_
  refine x_iload_n G rfl dX1_extreme_4 1 rfl ?_
  obtain ⟨hz, hq, h⟩ := h
  refine x_aald G 1 6 rfl rfl hz dX1_extreme_5 ?_
  rw [hq]
  show X g 5 6 [(0, .ref h0), (1, .int p0), (2, .int p1)] [.ref u0] [(h0, .inr (0, [.ref lg, .ref e1, .ref e2, .ref e3, .ref rl, .int cur, .ref sh])), (lg, .inl ((xT g) 6, 12, .inr (.inr (.inr (.inr lgf))))), (u0, .inr (lci kd, [.ref u0a, .ref u0d, .ref u0g, .int gc, .ref u0m])), (u0a, .inl ((xT g) 1, ln, .inl acc)), (u0m, .inl (lamC kd (xT g) ln am))] 0 0
  refine x_astore_n (lv' := [(3, .ref u0), (0, .ref h0), (1, .int p0), (2, .int p1)]) G rfl dX1_extreme_6 (by decide) rfl ?_
  refine x_aload_n G rfl dX1_extreme_7 0 rfl ?_
  refine x_cUi0 (C := lnm kd) (owner := "RoundingAuditor$Ledger") (x := ⟨"RoundingAuditor$Ledger", "length", "()I"⟩) (wc := [(u0, .inr (lci kd, [.ref u0a, .ref u0d, .ref u0g, .int gc, .ref u0m])), (u0a, .inl ((xT g) 1, ln, .inl acc))]) (As := []) (rest := []) G [(h0, .inr (0, [.ref lg, .ref e1, .ref e2, .ref e3, .ref rl, .int cur, .ref sh])), (lg, .inl ((xT g) 6, 12, .inr (.inr (.inr (.inr lgf))))), (u0m, .inl (lamC kd (xT g) ln am))] (XSub.of [0, 1, 4, 2, 3] rfl (by decide)) (tX4_length G.noTraces h) q661 q663 (va_Decl.of (G.hts _ q662) (G.hts _ q666)) (sL_length kd) q662 q78 q666 cdL_length (lci kd) 2 (lci_at kd) rfl rfl (by decide) (by decide) rfl (Nat.le_of_ble_eq_true rfl) (Nat.le_of_ble_eq_true rfl) (Nat.le_of_ble_eq_true rfl) dX1_extreme_8 (fun r_1 h => ?_)
  show X g 5 11 [(3, .ref u0), (0, .ref h0), (1, .int p0), (2, .int p1)] [.int r_1] [(h0, .inr (0, [.ref lg, .ref e1, .ref e2, .ref e3, .ref rl, .int cur, .ref sh])), (lg, .inl ((xT g) 6, 12, .inr (.inr (.inr (.inr lgf))))), (u0m, .inl (lamC kd (xT g) ln am)), (u0, .inr (lci kd, [.ref u0a, .ref u0d, .ref u0g, .int gc, .ref u0m])), (u0a, .inl ((xT g) 1, ln, .inl acc))] 0 0
  refine x_bipush (v := (7 : Int32)) G dX1_extreme_11 (by decide) ?_
  refine x_icmp_le (tgt := 20) G dX1_extreme_13 rfl (fun c => ?_) (fun c => ?_)
  · replace h := h.1 c
    refine x_new (ci := 21) G in_X25 tyX25 tyX25_ok q1429 q1430 q111 rfl [.null, .int (0 : Int32), .null, .double FP.dconst0, .double FP.dconst0, .int (0 : Int32), .double FP.dconst0, .int (0 : Int32)] dfX25 (Nat.le_of_ble_eq_true rfl) (Nat.le_of_ble_eq_true rfl) dX1_extreme_20 (fun a_2 => ?_)
    replace h := h a_2
    show X g 5 23 [(3, .ref u0), (0, .ref h0), (1, .int p0), (2, .int p1)] [.ref a_2] [(h0, .inr (0, [.ref lg, .ref e1, .ref e2, .ref e3, .ref rl, .int cur, .ref sh])), (lg, .inl ((xT g) 6, 12, .inr (.inr (.inr (.inr lgf))))), (u0m, .inl (lamC kd (xT g) ln am)), (u0, .inr (lci kd, [.ref u0a, .ref u0d, .ref u0g, .int gc, .ref u0m])), (u0a, .inl ((xT g) 1, ln, .inl acc)), (a_2, .inr (21, [.null, .int (0 : Int32), .null, .double FP.dconst0, .double FP.dconst0, .int (0 : Int32), .double FP.dconst0, .int (0 : Int32)]))] 1 8
    refine x_dup G dX1_extreme_23 rfl ?_
    refine x_aload_n G rfl dX1_extreme_24 0 rfl ?_
    refine x_dconst0 G dX1_extreme_25 ?_
    refine x_cIv3 (wc := [(a_2, .inr (21, [.null, .int (0 : Int32), .null, .double FP.dconst0, .double FP.dconst0, .int (0 : Int32), .double FP.dconst0, .int (0 : Int32)])), (u0, .inr (lci kd, [.ref u0a, .ref u0d, .ref u0g, .int gc, .ref u0m])), (u0a, .inl ((xT g) 1, ln, .inl acc))]) (As := [.ref u0, .double FP.dconst0]) (rest := [.ref a_2]) G [(h0, .inr (0, [.ref lg, .ref e1, .ref e2, .ref e3, .ref rl, .int cur, .ref sh])), (lg, .inl ((xT g) 6, 12, .inr (.inr (.inr (.inr lgf))))), (u0m, .inl (lamC kd (xT g) ln am))] (XSub.of [0, 1, 2, 5, 3, 4] rfl (by decide)) (tX25_init G.noTraces h) (lw_meth q1433) q111 q1431 q1432 rfl cdX25_init.2 (by decide) (by decide) rfl (Nat.le_of_ble_eq_true rfl) (Nat.le_of_ble_eq_true rfl) (Nat.le_of_ble_eq_true rfl) dX1_extreme_26 (fun on_3 oi_4 owa_5 h => ?_)
    show X g 5 29 [(3, .ref u0), (0, .ref h0), (1, .int p0), (2, .int p1)] [.ref a_2] [(h0, .inr (0, [.ref lg, .ref e1, .ref e2, .ref e3, .ref rl, .int cur, .ref sh])), (lg, .inl ((xT g) 6, 12, .inr (.inr (.inr (.inr lgf))))), (u0m, .inl (lamC kd (xT g) ln am)), (a_2, .inr (21, [.ref u0, .int on_3, .ref oi_4, .double FP.dconst0, .double FP.dconst0, .int (0 : Int32), .double owa_5, .int (0 : Int32)])), (oi_4, .inl ((xT g) 0, 7, .inl (fun _ => 0))), (u0, .inr (lci kd, [.ref u0a, .ref u0d, .ref u0g, .int gc, .ref u0m])), (u0a, .inl ((xT g) 1, ln, .inl acc))] 2 15
    refine x_astore (lv' := [(4, .ref a_2), (3, .ref u0), (0, .ref h0), (1, .int p0), (2, .int p1)]) G dX1_extreme_29 (by decide) rfl ?_
    refine x_aload G dX1_extreme_31 0 rfl ?_
    refine x_iconst (v := (0 : Int32)) G dX1_extreme_33 (by decide) ?_
    refine x_dconst0 G dX1_extreme_34 ?_
    obtain ⟨m_11, hm9, h⟩ := h
    refine x_cVv5 (wc := [(a_2, .inr (21, [.ref u0, .int on_3, .ref oi_4, .double FP.dconst0, .double FP.dconst0, .int (0 : Int32), .double owa_5, .int (0 : Int32)])), (oi_4, .inl ((xT g) 0, 7, .inl (fun _ => 0))), (u0, .inr (lci kd, [.ref u0a, .ref u0d, .ref u0g, .int gc, .ref u0m])), (u0m, .inl (lamC kd (xT g) ln am))]) (As := [.int (0 : Int32), .double FP.dconst0]) (rest := []) G [(h0, .inr (0, [.ref lg, .ref e1, .ref e2, .ref e3, .ref rl, .int cur, .ref sh])), (lg, .inl ((xT g) 6, 12, .inr (.inr (.inr (.inr lgf))))), (u0a, .inl ((xT g) 1, ln, .inl acc))] (XSub.of [0, 1, 6, 3, 4, 5, 2] rfl (by decide)) (tX25_go m_11 G.noTraces h) (lw_V q1464 q1465 q1466 q111 q1467) cdX25_go 21 3 rfl rfl rfl (by omega) (by decide) rfl (Nat.le_of_ble_eq_true rfl) (Nat.le_of_ble_eq_true rfl) (Nat.le_of_ble_eq_true rfl) dX1_extreme_35 (fun ole_6 ogr_7 oan_8 ore_9 ois_10 h => ?_)
    show X g 5 38 [(4, .ref a_2), (3, .ref u0), (0, .ref h0), (1, .int p0), (2, .int p1)] [] [(h0, .inr (0, [.ref lg, .ref e1, .ref e2, .ref e3, .ref rl, .int cur, .ref sh])), (lg, .inl ((xT g) 6, 12, .inr (.inr (.inr (.inr lgf))))), (u0a, .inl ((xT g) 1, ln, .inl acc)), (a_2, .inr (21, [.ref u0, .int on_3, .ref oi_4, .double ole_6, .double ogr_7, .int oan_8, .double owa_5, .int ore_9])), (oi_4, .inl ((xT g) 0, 7, .inl ois_10)), (u0, .inr (lci kd, [.ref u0a, .ref u0d, .ref u0g, .int gc, .ref u0m])), (u0m, .inl (lamC kd (xT g) ln am))] 2 15
    refine x_aload_n G rfl dX1_extreme_38 1 rfl ?_
    refine x_iload_n G rfl dX1_extreme_39 4 rfl ?_
    refine x_if_eq (tgt := 51) G dX1_extreme_40 rfl (fun c => ?_) (fun c => ?_)
    · replace h := h.1 c
      refine x_aload G dX1_extreme_51 0 rfl ?_
      refine x_getN (host := "RoundingAuditor") G in_X25 3 rfl rfl 3 (by decide) (by decide) (fun _ h => h) rfl dX1_extreme_53 ?_
      refine x_cUl0 (C := lnm kd) (owner := "RoundingAuditor$Ledger") (x := ⟨"RoundingAuditor$Ledger", "bits", "(D)J"⟩) (wc := []) (As := [.double ole_6]) (rest := []) G [(h0, .inr (0, [.ref lg, .ref e1, .ref e2, .ref e3, .ref rl, .int cur, .ref sh])), (lg, .inl ((xT g) 6, 12, .inr (.inr (.inr (.inr lgf))))), (u0a, .inl ((xT g) 1, ln, .inl acc)), (a_2, .inr (21, [.ref u0, .int on_3, .ref oi_4, .double ole_6, .double ogr_7, .int oan_8, .double owa_5, .int ore_9])), (oi_4, .inl ((xT g) 0, 7, .inl ois_10)), (u0, .inr (lci kd, [.ref u0a, .ref u0d, .ref u0g, .int gc, .ref u0m])), (u0m, .inl (lamC kd (xT g) ln am))] (XSub.of [0, 1, 2, 3, 4, 5, 6] rfl (by decide)) (tL_bits kd G.noTraces h) q626 q628 (va_Decl.abs (G.E.2.1.2.2.1 _ (by decide +kernel))) (sL_bits kd) (hL_bits kd).1 (hL_bits kd).2.1 (hL_bits kd).2.2.1 cdL_bits (lci kd) 5 (lci_at kd) rfl rfl (by decide) (hL_bits _).2.2.2 rfl (Nat.le_of_ble_eq_true rfl) (Nat.le_of_ble_eq_true rfl) (Nat.le_of_ble_eq_true rfl) dX1_extreme_56 (fun r_12 h => ?_)
      show X g 5 59 [(4, .ref a_2), (3, .ref u0), (0, .ref h0), (1, .int p0), (2, .int p1)] [.long r_12] [(h0, .inr (0, [.ref lg, .ref e1, .ref e2, .ref e3, .ref rl, .int cur, .ref sh])), (lg, .inl ((xT g) 6, 12, .inr (.inr (.inr (.inr lgf))))), (u0a, .inl ((xT g) 1, ln, .inl acc)), (a_2, .inr (21, [.ref u0, .int on_3, .ref oi_4, .double ole_6, .double ogr_7, .int oan_8, .double owa_5, .int ore_9])), (oi_4, .inl ((xT g) 0, 7, .inl ois_10)), (u0, .inr (lci kd, [.ref u0a, .ref u0d, .ref u0g, .int gc, .ref u0m])), (u0m, .inl (lamC kd (xT g) ln am))] 2 15
      exact x_retl0 G Q dX1_extreme_59  h (XSub.of [0, 1, 5, 2, 6] rfl (by decide)) (Nat.le_of_ble_eq_true rfl) (Nat.le_of_ble_eq_true rfl)
    · replace h := h.2 c
      refine x_aload G dX1_extreme_43 0 rfl ?_
      refine x_getN (host := "RoundingAuditor") G in_X25 3 rfl rfl 4 (by decide) (by decide) (fun _ h => h) rfl dX1_extreme_45 ?_
      refine x_goto (tgt := 56) G dX1_extreme_48 rfl ?_
      refine x_cUl0 (C := lnm kd) (owner := "RoundingAuditor$Ledger") (x := ⟨"RoundingAuditor$Ledger", "bits", "(D)J"⟩) (wc := []) (As := [.double ogr_7]) (rest := []) G [(h0, .inr (0, [.ref lg, .ref e1, .ref e2, .ref e3, .ref rl, .int cur, .ref sh])), (lg, .inl ((xT g) 6, 12, .inr (.inr (.inr (.inr lgf))))), (u0a, .inl ((xT g) 1, ln, .inl acc)), (a_2, .inr (21, [.ref u0, .int on_3, .ref oi_4, .double ole_6, .double ogr_7, .int oan_8, .double owa_5, .int ore_9])), (oi_4, .inl ((xT g) 0, 7, .inl ois_10)), (u0, .inr (lci kd, [.ref u0a, .ref u0d, .ref u0g, .int gc, .ref u0m])), (u0m, .inl (lamC kd (xT g) ln am))] (XSub.of [0, 1, 2, 3, 4, 5, 6] rfl (by decide)) (tL_bits kd G.noTraces h) q626 q628 (va_Decl.abs (G.E.2.1.2.2.1 _ (by decide +kernel))) (sL_bits kd) (hL_bits kd).1 (hL_bits kd).2.1 (hL_bits kd).2.2.1 cdL_bits (lci kd) 5 (lci_at kd) rfl rfl (by decide) (hL_bits _).2.2.2 rfl (Nat.le_of_ble_eq_true rfl) (Nat.le_of_ble_eq_true rfl) (Nat.le_of_ble_eq_true rfl) dX1_extreme_56 (fun r_13 h => ?_)
      show X g 5 59 [(4, .ref a_2), (3, .ref u0), (0, .ref h0), (1, .int p0), (2, .int p1)] [.long r_13] [(h0, .inr (0, [.ref lg, .ref e1, .ref e2, .ref e3, .ref rl, .int cur, .ref sh])), (lg, .inl ((xT g) 6, 12, .inr (.inr (.inr (.inr lgf))))), (u0a, .inl ((xT g) 1, ln, .inl acc)), (a_2, .inr (21, [.ref u0, .int on_3, .ref oi_4, .double ole_6, .double ogr_7, .int oan_8, .double owa_5, .int ore_9])), (oi_4, .inl ((xT g) 0, 7, .inl ois_10)), (u0, .inr (lci kd, [.ref u0a, .ref u0d, .ref u0g, .int gc, .ref u0m])), (u0m, .inl (lamC kd (xT g) ln am))] 2 15
      exact x_retl0 G Q dX1_extreme_59  h (XSub.of [0, 1, 5, 2, 6] rfl (by decide)) (Nat.le_of_ble_eq_true rfl) (Nat.le_of_ble_eq_true rfl)
  · replace h := h.2 c
    refine x_ldc2 G q1428 dX1_extreme_16 ?_
    exact x_retl0 G Q dX1_extreme_19  h (XSub.of [0, 1, 3, 4, 2] rfl (by decide)) (Nat.le_of_ble_eq_true rfl) (Nat.le_of_ble_eq_true rfl)
theorem cdX1_reach : yX1_reach.cls = RX1 ∧ yX1_reach.cls ≠ "java/lang/invoke/MethodHandle" ∧ yX1_reach.cls ≠ "java/lang/invoke/VarHandle" ∧ (parseMethodDescriptor yX1_reach.desc).map (fun d => d.parameters.length) = some 1 := by decide +kernel
def wX1_reach_F (p0 : Int32) (lgf : Nat → Option Nat) (K : Int32 → Prop) (E : String → Prop) : Prop := ((¬ vp_in p0 12 → E "java/lang/ArrayIndexOutOfBoundsException") ∧ (vp_in p0 12 → ((lgf p0.toNatClampNeg) = none ∧ E "java/lang/NullPointerException")))
set_option maxRecDepth 20000 in
theorem tX1_reach_F {l : Launch} {D : va_G} {ta : Nat → ClassId} {h0 : Nat} {lg : Nat} {e1 : Nat} {e2 : Nat} {e3 : Nat} {rl : Nat} {cur : Int32} {sh : Nat} {lgf : Nat → Option Nat} {p0 : Int32} {K : Int32 → Prop} {E : String → Prop} (hlt : l.stackTraces = false) (h : wX1_reach_F p0 lgf K E) : SXi0 l D ta yX1_reach cX1_reach 4 FieldType.int 6 [.ref h0, .int p0] [(h0, .inr (0, [.ref lg, .ref e1, .ref e2, .ref e3, .ref rl, .int cur, .ref sh])), (lg, .inl (ta 6, 12, .inr (.inr (.inr (.inr lgf)))))] ([(h0, .inr (0, [.ref lg, .ref e1, .ref e2, .ref e3, .ref rl, .int cur, .ref sh])), (lg, .inl (ta 6, 12, .inr (.inr (.inr (.inr lgf)))))]) 3 222 K E := by
  refine x_sxi0 hlt (by decide +kernel) (Nat.le_of_ble_eq_true rfl) (fun g G hl hD hT hN Q => ?_)
  subst hl; subst hD; subst hT
  unfold wX1_reach_F at h
  show X g 4 0 [(0, .ref h0), (1, .int p0)] [] [(h0, .inr (0, [.ref lg, .ref e1, .ref e2, .ref e3, .ref rl, .int cur, .ref sh])), (lg, .inl ((xT g) 6, 12, .inr (.inr (.inr (.inr lgf)))))] 0 0
  refine x_aload_n G rfl dX1_reach_0 0 rfl ?_
  refine x_get G in_X1 0 rfl rfl 0 (by decide) q159 (fun _ h => h) rfl dX1_reach_1 ?_
  refine x_iload_n G rfl dX1_reach_4 1 rfl ?_
  by_cases hz : vp_in p0 12
  case neg =>
    replace h := h.1 hz
    refine x_aaldZ G 1 rfl rfl (by decide) hz (Nat.le_of_ble_eq_true rfl) (Nat.le_of_ble_eq_true rfl) (Nat.le_of_ble_eq_true rfl) dX1_reach_5 ?_
    exact x_oi0 G Q h XSub.rf (Nat.le_of_ble_eq_true rfl) (Nat.le_of_ble_eq_true rfl)
  replace h := h.2 hz
  obtain ⟨hq, h⟩ := h
  refine x_aald G 1 6 rfl rfl hz dX1_reach_5 ?_
  rw [hq]
  show X g 4 6 [(0, .ref h0), (1, .int p0)] [.null] [(h0, .inr (0, [.ref lg, .ref e1, .ref e2, .ref e3, .ref rl, .int cur, .ref sh])), (lg, .inl ((xT g) 6, 12, .inr (.inr (.inr (.inr lgf)))))] 0 0
  refine x_astore_nN (lv' := [(2, .null), (0, .ref h0), (1, .int p0)]) G rfl dX1_reach_6 (by decide) rfl ?_
  refine x_aload_nN G rfl dX1_reach_7 0 rfl ?_
  refine x_invN (z := ⟨"RoundingAuditor$Ledger", "length", "()I"⟩) (As := []) (rest := []) G q661 (va_Decl.of (G.hts _ q662) (G.hts _ q666)) rfl q665 (show ("RoundingAuditor$Ledger" : String) ≠ "java/lang/invoke/MethodHandle" ∧ ("RoundingAuditor$Ledger" : String) ≠ "java/lang/invoke/VarHandle" ∧ (parseMethodDescriptor "()I").map (fun d => d.parameters.length) = some 0 from by decide +kernel) rfl (Nat.le_of_ble_eq_true rfl) (Nat.le_of_ble_eq_true rfl) (Nat.le_of_ble_eq_true rfl) dX1_reach_8 ?_
  exact x_oi0 G Q h XSub.rf (Nat.le_of_ble_eq_true rfl) (Nat.le_of_ble_eq_true rfl)
def wX1_reach (p0 : Int32) (lgf : Nat → Option Nat) (u0 : Nat) (kd : Bool) (ln : Nat) (acc : Nat → Int32) (day : Nat → Int32) (am : Nat → UInt64) (w1 : Nat → Int32) (K : Int32 → (Nat → Int32) → Prop) : Prop := (vp_in p0 12 ∧ ((lgf p0.toNatClampNeg) = some u0 ∧ (wX4_length ln (fun (r_1 : Int32) => ((r_1 ≤ (7 : Int32) → (∀ a_2 : Nat, (wX1_roundedOf w1 kd ln acc day am (fun (r_3 : UInt64) (w1_4 : Nat → Int32) => (wX25_init r_3 ln (fun (on_5 : Int32) (oi_6 : Nat) (owa_7 : UInt64) => (∃ m_13 : Nat, m_13 ≤ 9 ∧ (wX25_go m_13 (0 : Int32) FP.dconst0 on_5 FP.dconst0 FP.dconst0 (0 : Int32) owa_7 (0 : Int32) (fun _ => 0) kd ln am (fun (ole_8 : UInt64) (ogr_9 : UInt64) (oan_10 : Int32) (ore_11 : Int32) (ois_12 : Nat → Int32) => ((ore_11 = (0 : Int32) → K (0 : Int32) w1_4) ∧ (¬ ore_11 = (0 : Int32) → K (1 : Int32) w1_4))))))))))) ∧ (¬ r_1 ≤ (7 : Int32) → K (-104 : Int32) w1))))))
set_option maxRecDepth 20000 in
theorem tX1_reach {l : Launch} {D : va_G} {ta : Nat → ClassId} {h0 : Nat} {lg : Nat} {e1 : Nat} {e2 : Nat} {e3 : Nat} {rl : Nat} {cur : Int32} {sh : Nat} {lgf : Nat → Option Nat} {u0 : Nat} {kd : Bool} {u0a : Nat} {u0d : Nat} {u0g : Nat} {gc : Int32} {u0m : Nat} {ln : Nat} {acc : Nat → Int32} {day : Nat → Int32} {am : Nat → UInt64} {e1w : Nat} {w1 : Nat → Int32} {p0 : Int32} {K : Int32 → (Nat → Int32) → Prop} (hlt : l.stackTraces = false) (h : wX1_reach p0 lgf u0 kd ln acc day am w1 K) : SMi1 l D ta yX1_reach cX1_reach 4 FieldType.int 18 [.ref h0, .int p0] [(h0, .inr (0, [.ref lg, .ref e1, .ref e2, .ref e3, .ref rl, .int cur, .ref sh])), (lg, .inl (ta 6, 12, .inr (.inr (.inr (.inr lgf))))), (u0, .inr (lci kd, [.ref u0a, .ref u0d, .ref u0g, .int gc, .ref u0m])), (u0a, .inl (ta 1, ln, .inl acc)), (u0d, .inl (ta 1, ln, .inl day)), (u0m, .inl (lamC kd ta ln am)), (e1, .inr (1, [.ref e1w])), (e1w, .inl (ta 2, 40, .inl w1))] (fun (w1' : Nat → Int32) => [(h0, .inr (0, [.ref lg, .ref e1, .ref e2, .ref e3, .ref rl, .int cur, .ref sh])), (lg, .inl (ta 6, 12, .inr (.inr (.inr (.inr lgf))))), (u0, .inr (lci kd, [.ref u0a, .ref u0d, .ref u0g, .int gc, .ref u0m])), (u0a, .inl (ta 1, ln, .inl acc)), (u0d, .inl (ta 1, ln, .inl day)), (u0m, .inl (lamC kd ta ln am)), (e1, .inr (1, [.ref e1w])), (e1w, .inl (ta 2, 40, .inl w1'))]) 2 15 K := by
  refine x_sti1 hlt (plainFor_of_name (by decide +kernel)) (Nat.le_of_ble_eq_true rfl) (fun g G hl hD hT Q => ?_)
  subst hl; subst hD; subst hT
  unfold wX1_reach at h
  show X g 4 0 [(0, .ref h0), (1, .int p0)] [] [(h0, .inr (0, [.ref lg, .ref e1, .ref e2, .ref e3, .ref rl, .int cur, .ref sh])), (lg, .inl ((xT g) 6, 12, .inr (.inr (.inr (.inr lgf))))), (u0, .inr (lci kd, [.ref u0a, .ref u0d, .ref u0g, .int gc, .ref u0m])), (u0a, .inl ((xT g) 1, ln, .inl acc)), (u0d, .inl ((xT g) 1, ln, .inl day)), (u0m, .inl (lamC kd (xT g) ln am)), (e1, .inr (1, [.ref e1w])), (e1w, .inl ((xT g) 2, 40, .inl w1))] 0 0
  refine x_aload_n G rfl dX1_reach_0 0 rfl ?_
  refine x_get G in_X1 0 rfl rfl 0 (by decide) q159 (fun _ h => h) rfl dX1_reach_1 ?_
  refine x_iload_n G rfl dX1_reach_4 1 rfl ?_
  obtain ⟨hz, hq, h⟩ := h
  refine x_aald G 1 6 rfl rfl hz dX1_reach_5 ?_
  rw [hq]
  show X g 4 6 [(0, .ref h0), (1, .int p0)] [.ref u0] [(h0, .inr (0, [.ref lg, .ref e1, .ref e2, .ref e3, .ref rl, .int cur, .ref sh])), (lg, .inl ((xT g) 6, 12, .inr (.inr (.inr (.inr lgf))))), (u0, .inr (lci kd, [.ref u0a, .ref u0d, .ref u0g, .int gc, .ref u0m])), (u0a, .inl ((xT g) 1, ln, .inl acc)), (u0d, .inl ((xT g) 1, ln, .inl day)), (u0m, .inl (lamC kd (xT g) ln am)), (e1, .inr (1, [.ref e1w])), (e1w, .inl ((xT g) 2, 40, .inl w1))] 0 0
  refine x_astore_n (lv' := [(2, .ref u0), (0, .ref h0), (1, .int p0)]) G rfl dX1_reach_6 (by decide) rfl ?_
  refine x_aload_n G rfl dX1_reach_7 0 rfl ?_
  refine x_cUi0 (C := lnm kd) (owner := "RoundingAuditor$Ledger") (x := ⟨"RoundingAuditor$Ledger", "length", "()I"⟩) (wc := [(u0, .inr (lci kd, [.ref u0a, .ref u0d, .ref u0g, .int gc, .ref u0m])), (u0a, .inl ((xT g) 1, ln, .inl acc))]) (As := []) (rest := []) G [(h0, .inr (0, [.ref lg, .ref e1, .ref e2, .ref e3, .ref rl, .int cur, .ref sh])), (lg, .inl ((xT g) 6, 12, .inr (.inr (.inr (.inr lgf))))), (u0d, .inl ((xT g) 1, ln, .inl day)), (u0m, .inl (lamC kd (xT g) ln am)), (e1, .inr (1, [.ref e1w])), (e1w, .inl ((xT g) 2, 40, .inl w1))] (XSub.of [0, 1, 4, 5, 6, 7, 2, 3] rfl (by decide)) (tX4_length G.noTraces h) q661 q663 (va_Decl.of (G.hts _ q662) (G.hts _ q666)) (sL_length kd) q662 q78 q666 cdL_length (lci kd) 2 (lci_at kd) rfl rfl (by decide) (by decide) rfl (Nat.le_of_ble_eq_true rfl) (Nat.le_of_ble_eq_true rfl) (Nat.le_of_ble_eq_true rfl) dX1_reach_8 (fun r_1 h => ?_)
  show X g 4 11 [(2, .ref u0), (0, .ref h0), (1, .int p0)] [.int r_1] [(h0, .inr (0, [.ref lg, .ref e1, .ref e2, .ref e3, .ref rl, .int cur, .ref sh])), (lg, .inl ((xT g) 6, 12, .inr (.inr (.inr (.inr lgf))))), (u0d, .inl ((xT g) 1, ln, .inl day)), (u0m, .inl (lamC kd (xT g) ln am)), (e1, .inr (1, [.ref e1w])), (e1w, .inl ((xT g) 2, 40, .inl w1)), (u0, .inr (lci kd, [.ref u0a, .ref u0d, .ref u0g, .int gc, .ref u0m])), (u0a, .inl ((xT g) 1, ln, .inl acc))] 0 0
  refine x_bipush (v := (7 : Int32)) G dX1_reach_11 (by decide) ?_
  refine x_icmp_le (tgt := 19) G dX1_reach_13 rfl (fun c => ?_) (fun c => ?_)
  · replace h := h.1 c
    refine x_new (ci := 21) G in_X25 tyX25 tyX25_ok q1429 q1430 q111 rfl [.null, .int (0 : Int32), .null, .double FP.dconst0, .double FP.dconst0, .int (0 : Int32), .double FP.dconst0, .int (0 : Int32)] dfX25 (Nat.le_of_ble_eq_true rfl) (Nat.le_of_ble_eq_true rfl) dX1_reach_19 (fun a_2 => ?_)
    replace h := h a_2
    show X g 4 22 [(2, .ref u0), (0, .ref h0), (1, .int p0)] [.ref a_2] [(h0, .inr (0, [.ref lg, .ref e1, .ref e2, .ref e3, .ref rl, .int cur, .ref sh])), (lg, .inl ((xT g) 6, 12, .inr (.inr (.inr (.inr lgf))))), (u0d, .inl ((xT g) 1, ln, .inl day)), (u0m, .inl (lamC kd (xT g) ln am)), (e1, .inr (1, [.ref e1w])), (e1w, .inl ((xT g) 2, 40, .inl w1)), (u0, .inr (lci kd, [.ref u0a, .ref u0d, .ref u0g, .int gc, .ref u0m])), (u0a, .inl ((xT g) 1, ln, .inl acc)), (a_2, .inr (21, [.null, .int (0 : Int32), .null, .double FP.dconst0, .double FP.dconst0, .int (0 : Int32), .double FP.dconst0, .int (0 : Int32)]))] 1 8
    refine x_dup G dX1_reach_22 rfl ?_
    refine x_aload_n G rfl dX1_reach_23 0 rfl ?_
    refine x_aload_n G rfl dX1_reach_24 1 rfl ?_
    refine x_aload_n G rfl dX1_reach_25 0 rfl ?_
    refine x_cVd1 (wc := [(h0, .inr (0, [.ref lg, .ref e1, .ref e2, .ref e3, .ref rl, .int cur, .ref sh])), (e1, .inr (1, [.ref e1w])), (e1w, .inl ((xT g) 2, 40, .inl w1)), (u0, .inr (lci kd, [.ref u0a, .ref u0d, .ref u0g, .int gc, .ref u0m])), (u0a, .inl ((xT g) 1, ln, .inl acc)), (u0d, .inl ((xT g) 1, ln, .inl day)), (u0m, .inl (lamC kd (xT g) ln am))]) (As := [.ref u0]) (rest := [.ref u0, .ref a_2, .ref a_2]) G [(lg, .inl ((xT g) 6, 12, .inr (.inr (.inr (.inr lgf))))), (a_2, .inr (21, [.null, .int (0 : Int32), .null, .double FP.dconst0, .double FP.dconst0, .int (0 : Int32), .double FP.dconst0, .int (0 : Int32)]))] (XSub.of [1, 8, 0, 4, 5, 6, 7, 2, 3] rfl (by decide)) (tX1_roundedOf G.noTraces h) (lw_V q1386 q1388 qs15 q65 q1389) cdX1_roundedOf 0 0 rfl rfl rfl (by decide) (by decide) rfl (Nat.le_of_ble_eq_true rfl) (Nat.le_of_ble_eq_true rfl) (Nat.le_of_ble_eq_true rfl) dX1_reach_26 (fun r_3 w1_4 h => ?_)
    show X g 4 29 [(2, .ref u0), (0, .ref h0), (1, .int p0)] [.double r_3, .ref u0, .ref a_2, .ref a_2] [(lg, .inl ((xT g) 6, 12, .inr (.inr (.inr (.inr lgf))))), (a_2, .inr (21, [.null, .int (0 : Int32), .null, .double FP.dconst0, .double FP.dconst0, .int (0 : Int32), .double FP.dconst0, .int (0 : Int32)])), (h0, .inr (0, [.ref lg, .ref e1, .ref e2, .ref e3, .ref rl, .int cur, .ref sh])), (e1, .inr (1, [.ref e1w])), (e1w, .inl ((xT g) 2, 40, .inl w1_4)), (u0, .inr (lci kd, [.ref u0a, .ref u0d, .ref u0g, .int gc, .ref u0m])), (u0a, .inl ((xT g) 1, ln, .inl acc)), (u0d, .inl ((xT g) 1, ln, .inl day)), (u0m, .inl (lamC kd (xT g) ln am))] 1 8
    refine x_cIv3 (wc := [(a_2, .inr (21, [.null, .int (0 : Int32), .null, .double FP.dconst0, .double FP.dconst0, .int (0 : Int32), .double FP.dconst0, .int (0 : Int32)])), (u0, .inr (lci kd, [.ref u0a, .ref u0d, .ref u0g, .int gc, .ref u0m])), (u0a, .inl ((xT g) 1, ln, .inl acc))]) (As := [.ref u0, .double r_3]) (rest := [.ref a_2]) G [(lg, .inl ((xT g) 6, 12, .inr (.inr (.inr (.inr lgf))))), (h0, .inr (0, [.ref lg, .ref e1, .ref e2, .ref e3, .ref rl, .int cur, .ref sh])), (e1, .inr (1, [.ref e1w])), (e1w, .inl ((xT g) 2, 40, .inl w1_4)), (u0d, .inl ((xT g) 1, ln, .inl day)), (u0m, .inl (lamC kd (xT g) ln am))] (XSub.of [0, 2, 3, 4, 7, 8, 1, 5, 6] rfl (by decide)) (tX25_init G.noTraces h) (lw_meth q1433) q111 q1431 q1432 rfl cdX25_init.2 (by decide) (by decide) rfl (Nat.le_of_ble_eq_true rfl) (Nat.le_of_ble_eq_true rfl) (Nat.le_of_ble_eq_true rfl) dX1_reach_29 (fun on_5 oi_6 owa_7 h => ?_)
    show X g 4 32 [(2, .ref u0), (0, .ref h0), (1, .int p0)] [.ref a_2] [(lg, .inl ((xT g) 6, 12, .inr (.inr (.inr (.inr lgf))))), (h0, .inr (0, [.ref lg, .ref e1, .ref e2, .ref e3, .ref rl, .int cur, .ref sh])), (e1, .inr (1, [.ref e1w])), (e1w, .inl ((xT g) 2, 40, .inl w1_4)), (u0d, .inl ((xT g) 1, ln, .inl day)), (u0m, .inl (lamC kd (xT g) ln am)), (a_2, .inr (21, [.ref u0, .int on_5, .ref oi_6, .double FP.dconst0, .double FP.dconst0, .int (0 : Int32), .double owa_7, .int (0 : Int32)])), (oi_6, .inl ((xT g) 0, 7, .inl (fun _ => 0))), (u0, .inr (lci kd, [.ref u0a, .ref u0d, .ref u0g, .int gc, .ref u0m])), (u0a, .inl ((xT g) 1, ln, .inl acc))] 2 15
    refine x_astore_n (lv' := [(3, .ref a_2), (2, .ref u0), (0, .ref h0), (1, .int p0)]) G rfl dX1_reach_32 (by decide) rfl ?_
    refine x_aload_n G rfl dX1_reach_33 0 rfl ?_
    refine x_iconst (v := (0 : Int32)) G dX1_reach_34 (by decide) ?_
    refine x_dconst0 G dX1_reach_35 ?_
    obtain ⟨m_13, hm9, h⟩ := h
    refine x_cVv5 (wc := [(a_2, .inr (21, [.ref u0, .int on_5, .ref oi_6, .double FP.dconst0, .double FP.dconst0, .int (0 : Int32), .double owa_7, .int (0 : Int32)])), (oi_6, .inl ((xT g) 0, 7, .inl (fun _ => 0))), (u0, .inr (lci kd, [.ref u0a, .ref u0d, .ref u0g, .int gc, .ref u0m])), (u0m, .inl (lamC kd (xT g) ln am))]) (As := [.int (0 : Int32), .double FP.dconst0]) (rest := []) G [(lg, .inl ((xT g) 6, 12, .inr (.inr (.inr (.inr lgf))))), (h0, .inr (0, [.ref lg, .ref e1, .ref e2, .ref e3, .ref rl, .int cur, .ref sh])), (e1, .inr (1, [.ref e1w])), (e1w, .inl ((xT g) 2, 40, .inl w1_4)), (u0d, .inl ((xT g) 1, ln, .inl day)), (u0a, .inl ((xT g) 1, ln, .inl acc))] (XSub.of [0, 1, 2, 3, 4, 9, 6, 7, 8, 5] rfl (by decide)) (tX25_go m_13 G.noTraces h) (lw_V q1464 q1465 q1466 q111 q1467) cdX25_go 21 6 rfl rfl rfl (by omega) (by decide) rfl (Nat.le_of_ble_eq_true rfl) (Nat.le_of_ble_eq_true rfl) (Nat.le_of_ble_eq_true rfl) dX1_reach_36 (fun ole_8 ogr_9 oan_10 ore_11 ois_12 h => ?_)
    show X g 4 39 [(3, .ref a_2), (2, .ref u0), (0, .ref h0), (1, .int p0)] [] [(lg, .inl ((xT g) 6, 12, .inr (.inr (.inr (.inr lgf))))), (h0, .inr (0, [.ref lg, .ref e1, .ref e2, .ref e3, .ref rl, .int cur, .ref sh])), (e1, .inr (1, [.ref e1w])), (e1w, .inl ((xT g) 2, 40, .inl w1_4)), (u0d, .inl ((xT g) 1, ln, .inl day)), (u0a, .inl ((xT g) 1, ln, .inl acc)), (a_2, .inr (21, [.ref u0, .int on_5, .ref oi_6, .double ole_8, .double ogr_9, .int oan_10, .double owa_7, .int ore_11])), (oi_6, .inl ((xT g) 0, 7, .inl ois_12)), (u0, .inr (lci kd, [.ref u0a, .ref u0d, .ref u0g, .int gc, .ref u0m])), (u0m, .inl (lamC kd (xT g) ln am))] 2 15
    refine x_aload_n G rfl dX1_reach_39 0 rfl ?_
    refine x_getN (host := "RoundingAuditor") G in_X25 6 rfl rfl 7 (by decide) (by decide) (fun _ h => h) rfl dX1_reach_40 ?_
    refine x_if_eq (tgt := 50) G dX1_reach_43 rfl (fun c => ?_) (fun c => ?_)
    · replace h := h.1 c
      refine x_iconst (v := (0 : Int32)) G dX1_reach_50 (by decide) ?_
      exact x_reti1 G Q dX1_reach_51 rfl w1_4 h (XSub.of [1, 0, 8, 5, 4, 9, 2, 3] rfl (by decide)) (Nat.le_of_ble_eq_true rfl) (Nat.le_of_ble_eq_true rfl)
    · replace h := h.2 c
      refine x_iconst (v := (1 : Int32)) G dX1_reach_46 (by decide) ?_
      refine x_goto (tgt := 51) G dX1_reach_47 rfl ?_
      exact x_reti1 G Q dX1_reach_51 rfl w1_4 h (XSub.of [1, 0, 8, 5, 4, 9, 2, 3] rfl (by decide)) (Nat.le_of_ble_eq_true rfl) (Nat.le_of_ble_eq_true rfl)
  · replace h := h.2 c
    refine x_bipush (v := (-104 : Int32)) G dX1_reach_16 (by decide) ?_
    exact x_reti1 G Q dX1_reach_18 rfl w1 h (XSub.of [0, 1, 6, 7, 2, 3, 4, 5] rfl (by decide)) (Nat.le_of_ble_eq_true rfl) (Nat.le_of_ble_eq_true rfl)
theorem cdX1_curedTotal : yX1_curedTotal.cls ≠ "java/lang/invoke/MethodHandle" ∧ yX1_curedTotal.cls ≠ "java/lang/invoke/VarHandle" ∧ (parseMethodDescriptor yX1_curedTotal.desc).map (fun d => d.parameters.length) = some 2 := by decide +kernel
def wX1_curedTotal_L17 (kd : Bool) (ln : Nat) (am : Nat → UInt64) (p1 : Int32) (v5_3 : Int32) (X72 : UInt64 → Int32 → Int32 → Prop) : Nat → UInt64 → Int32 → Int32 → Prop
  | 0, _, _, _ => False
  | n + 1, v2_4, v4_5, v6_6 => (wX4_length ln (fun (r_7 : Int32) => ((r_7 ≤ v6_6 → X72 v2_4 v4_5 v6_6) ∧ (¬ r_7 ≤ v6_6 → ((¬ ((jishr p1 v6_6) &&& (1 : Int32)) = v5_3 → (∀ x_8 : Int32, x_8 = (v6_6 + (1 : Int32)) → wX1_curedTotal_L17 kd ln am p1 v5_3 X72 n v2_4 v4_5 x_8)) ∧ (((jishr p1 v6_6) &&& (1 : Int32)) = v5_3 → ((v4_5 = (0 : Int32) → (wL_at kd v6_6 ln am (fun (r_9 : UInt64) => (∀ x_10 : Int32, x_10 = (v6_6 + (1 : Int32)) → wX1_curedTotal_L17 kd ln am p1 v5_3 X72 n r_9 (1 : Int32) x_10)))) ∧ (¬ v4_5 = (0 : Int32) → (wL_at kd v6_6 ln am (fun (r_11 : UInt64) => (wL_add kd v2_4 r_11 (fun (r_12 : UInt64) => (∀ x_13 : Int32, x_13 = (v6_6 + (1 : Int32)) → wX1_curedTotal_L17 kd ln am p1 v5_3 X72 n r_12 (1 : Int32) x_13)))))))))))))
def wX1_curedTotal_L8 (kd : Bool) (ln : Nat) (am : Nat → UInt64) (p1 : Int32) (X78 : UInt64 → Int32 → Int32 → Prop) : Nat → UInt64 → Int32 → Int32 → Prop
  | 0, _, _, _ => False
  | n + 1, v2_1, v4_2, v5_3 => (((2 : Int32) ≤ v5_3 → X78 v2_1 v4_2 v5_3) ∧ (¬ (2 : Int32) ≤ v5_3 → (∃ m17 : Nat, wX1_curedTotal_L17 kd ln am p1 v5_3 (fun (v2_17 : UInt64) (v4_18 : Int32) (v6_19 : Int32) => (∀ x_20 : Int32, x_20 = (v5_3 + (1 : Int32)) → wX1_curedTotal_L8 kd ln am p1 X78 n v2_17 v4_18 x_20)) m17 v2_1 v4_2 (0 : Int32))))
def wX1_curedTotal (p1 : Int32) (kd : Bool) (ln : Nat) (am : Nat → UInt64) (K : UInt64 → Prop) : Prop := (∃ m8 : Nat, wX1_curedTotal_L8 kd ln am p1 (fun (v2_24 : UInt64) (v4_25 : Int32) (v5_26 : Int32) => K v2_24) m8 FP.dconst0 (0 : Int32) (0 : Int32))
set_option maxRecDepth 20000 in
theorem kX1_curedTotal_L17 {g : XG} {q0 : Nat} {kd : Bool} {q0a : Nat} {q0d : Nat} {q0g : Nat} {gc : Int32} {q0m : Nat} {ln : Nat} {acc : Nat → Int32} {am : Nat → UInt64} {p1 : Int32} {v5_3 : Int32} {X72 : UInt64 → Int32 → Int32 → Prop} (G : XO g RX1 cX1_curedTotal 7 2 0 0) (hX72 : ∀ (v2_14 : UInt64) (v4_15 : Int32) (v6_16 : Int32), X72 v2_14 v4_15 v6_16 → X g 7 72 [(6, .int v6_16), (5, .int v5_3), (4, .int v4_15), (2, .double v2_14), (0, .ref q0), (1, .int p1)] [] [(q0, .inr (lci kd, [.ref q0a, .ref q0d, .ref q0g, .int gc, .ref q0m])), (q0a, .inl ((xT g) 1, ln, .inl acc)), (q0m, .inl (lamC kd (xT g) ln am))] 0 0) : ∀ (n : Nat) (v2_4 : UInt64) (v4_5 : Int32) (v6_6 : Int32), wX1_curedTotal_L17 kd ln am p1 v5_3 X72 n v2_4 v4_5 v6_6 → X g 7 17 [(6, .int v6_6), (5, .int v5_3), (4, .int v4_5), (2, .double v2_4), (0, .ref q0), (1, .int p1)] [] [(q0, .inr (lci kd, [.ref q0a, .ref q0d, .ref q0g, .int gc, .ref q0m])), (q0a, .inl ((xT g) 1, ln, .inl acc)), (q0m, .inl (lamC kd (xT g) ln am))] 0 0 := by
  intro n
  induction n with
  | zero => intro _ _ _ h; exact h.elim
  | succ n ih =>
    intro v2_4 v4_5 v6_6 h
    unfold wX1_curedTotal_L17 at h
    refine x_iload G dX1_curedTotal_17 0 rfl ?_
    refine x_aload_n G rfl dX1_curedTotal_19 4 rfl ?_
    refine x_cUi0 (C := lnm kd) (owner := "RoundingAuditor$Ledger") (x := ⟨"RoundingAuditor$Ledger", "length", "()I"⟩) (wc := [(q0, .inr (lci kd, [.ref q0a, .ref q0d, .ref q0g, .int gc, .ref q0m])), (q0a, .inl ((xT g) 1, ln, .inl acc))]) (As := []) (rest := [.int v6_6]) G [(q0m, .inl (lamC kd (xT g) ln am))] (XSub.of [2, 0, 1] rfl (by decide)) (tX4_length G.noTraces h) q661 q663 (va_Decl.of (G.hts _ q662) (G.hts _ q666)) (sL_length kd) q662 q78 q666 cdL_length (lci kd) 0 (lci_at kd) rfl rfl (by decide) (by decide) rfl (Nat.le_of_ble_eq_true rfl) (Nat.le_of_ble_eq_true rfl) (Nat.le_of_ble_eq_true rfl) dX1_curedTotal_20 (fun r_7 h => ?_)
    show X g 7 23 [(6, .int v6_6), (5, .int v5_3), (4, .int v4_5), (2, .double v2_4), (0, .ref q0), (1, .int p1)] [.int r_7, .int v6_6] [(q0m, .inl (lamC kd (xT g) ln am)), (q0, .inr (lci kd, [.ref q0a, .ref q0d, .ref q0g, .int gc, .ref q0m])), (q0a, .inl ((xT g) 1, ln, .inl acc))] 0 0
    refine x_icmp_ge (tgt := 72) G dX1_curedTotal_23 rfl (fun c => ?_) (fun c => ?_)
    · replace h := h.1 c
      refine x_ws (ws' := [(q0, .inr (lci kd, [.ref q0a, .ref q0d, .ref q0g, .int gc, .ref q0m])), (q0a, .inl ((xT g) 1, ln, .inl acc)), (q0m, .inl (lamC kd (xT g) ln am))]) (XSub.of [1, 2, 0] rfl (by decide)) ?_
      exact hX72 v2_4 v4_5 v6_6 h
    · replace h := h.2 c
      refine x_iload_n G rfl dX1_curedTotal_26 5 rfl ?_
      refine x_iload G dX1_curedTotal_27 0 rfl ?_
      refine x_ishr G dX1_curedTotal_29 ?_
      refine x_iconst (v := (1 : Int32)) G dX1_curedTotal_30 (by decide) ?_
      refine x_iand G dX1_curedTotal_31 ?_
      refine x_iload G dX1_curedTotal_32 1 rfl ?_
      refine x_icmp_ne (tgt := 66) G dX1_curedTotal_34 rfl (fun c => ?_) (fun c => ?_)
      · replace h := h.1 c
        obtain ⟨x_8, ex_8⟩ : ∃ z : Int32, z = (v6_6 + (1 : Int32)) := ⟨_, rfl⟩
        replace h := h x_8 ex_8
        refine x_iinc (v := x_8) (lv' := [(6, .int x_8), (5, .int v5_3), (4, .int v4_5), (2, .double v2_4), (0, .ref q0), (1, .int p1)]) G dX1_curedTotal_66 0 rfl (by rw [ex_8]; rfl) (by decide) rfl ?_
        refine x_goto (tgt := 17) G dX1_curedTotal_69 rfl ?_
        refine x_ws (ws' := [(q0, .inr (lci kd, [.ref q0a, .ref q0d, .ref q0g, .int gc, .ref q0m])), (q0a, .inl ((xT g) 1, ln, .inl acc)), (q0m, .inl (lamC kd (xT g) ln am))]) (XSub.of [1, 2, 0] rfl (by decide)) ?_
        exact ih v2_4 v4_5 x_8 h
      · replace h := h.2 c
        refine x_iload G dX1_curedTotal_37 2 rfl ?_
        refine x_if_eq (tgt := 56) G dX1_curedTotal_39 rfl (fun c => ?_) (fun c => ?_)
        · replace h := h.1 c
          refine x_aload_n G rfl dX1_curedTotal_56 4 rfl ?_
          refine x_iload G dX1_curedTotal_57 0 rfl ?_
          refine x_cUd0 (C := lnm kd) (owner := "RoundingAuditor$Ledger") (x := ⟨"RoundingAuditor$Ledger", "at", "(I)D"⟩) (wc := [(q0, .inr (lci kd, [.ref q0a, .ref q0d, .ref q0g, .int gc, .ref q0m])), (q0m, .inl (lamC kd (xT g) ln am))]) (As := [.int v6_6]) (rest := []) G [(q0a, .inl ((xT g) 1, ln, .inl acc))] (XSub.of [2, 1, 0] rfl (by decide)) (tL_at kd G.noTraces h) q617 q619 (va_Decl.abs (G.E.2.1.2.2.1 _ (by decide +kernel))) (sL_at kd) (hL_at kd).1 (hL_at kd).2.1 (hL_at kd).2.2.1 cdL_at (lci kd) 1 (lci_at kd) rfl rfl (by decide) (hL_at _).2.2.2 rfl (Nat.le_of_ble_eq_true rfl) (Nat.le_of_ble_eq_true rfl) (Nat.le_of_ble_eq_true rfl) dX1_curedTotal_59 (fun r_9 h => ?_)
          show X g 7 62 [(6, .int v6_6), (5, .int v5_3), (4, .int v4_5), (2, .double v2_4), (0, .ref q0), (1, .int p1)] [.double r_9] [(q0a, .inl ((xT g) 1, ln, .inl acc)), (q0, .inr (lci kd, [.ref q0a, .ref q0d, .ref q0g, .int gc, .ref q0m])), (q0m, .inl (lamC kd (xT g) ln am))] 0 0
          refine x_dstore_n (lv' := [(2, .double r_9), (6, .int v6_6), (5, .int v5_3), (4, .int v4_5), (0, .ref q0), (1, .int p1)]) G rfl dX1_curedTotal_62 (by decide) rfl ?_
          refine x_iconst (v := (1 : Int32)) G dX1_curedTotal_63 (by decide) ?_
          refine x_istore (lv' := [(4, .int (1 : Int32)), (2, .double r_9), (6, .int v6_6), (5, .int v5_3), (0, .ref q0), (1, .int p1)]) G dX1_curedTotal_64 (by decide) rfl ?_
          obtain ⟨x_10, ex_10⟩ : ∃ z : Int32, z = (v6_6 + (1 : Int32)) := ⟨_, rfl⟩
          replace h := h x_10 ex_10
          refine x_iinc (v := x_10) (lv' := [(6, .int x_10), (4, .int (1 : Int32)), (2, .double r_9), (5, .int v5_3), (0, .ref q0), (1, .int p1)]) G dX1_curedTotal_66 2 rfl (by rw [ex_10]; rfl) (by decide) rfl ?_
          refine x_goto (tgt := 17) G dX1_curedTotal_69 rfl ?_
          refine x_lv (lv' := [(6, .int x_10), (5, .int v5_3), (4, .int (1 : Int32)), (2, .double r_9), (0, .ref q0), (1, .int p1)]) [0, 3, 1, 2, 4, 5] rfl ?_
          refine x_ws (ws' := [(q0, .inr (lci kd, [.ref q0a, .ref q0d, .ref q0g, .int gc, .ref q0m])), (q0a, .inl ((xT g) 1, ln, .inl acc)), (q0m, .inl (lamC kd (xT g) ln am))]) (XSub.of [1, 0, 2] rfl (by decide)) ?_
          exact ih r_9 (1 : Int32) x_10 h
        · replace h := h.2 c
          refine x_aload_n G rfl dX1_curedTotal_42 4 rfl ?_
          refine x_dload_n G rfl dX1_curedTotal_43 3 rfl ?_
          refine x_aload_n G rfl dX1_curedTotal_44 4 rfl ?_
          refine x_iload G dX1_curedTotal_45 0 rfl ?_
          refine x_cUd0 (C := lnm kd) (owner := "RoundingAuditor$Ledger") (x := ⟨"RoundingAuditor$Ledger", "at", "(I)D"⟩) (wc := [(q0, .inr (lci kd, [.ref q0a, .ref q0d, .ref q0g, .int gc, .ref q0m])), (q0m, .inl (lamC kd (xT g) ln am))]) (As := [.int v6_6]) (rest := [.double v2_4, .ref q0]) G [(q0a, .inl ((xT g) 1, ln, .inl acc))] (XSub.of [2, 1, 0] rfl (by decide)) (tL_at kd G.noTraces h) q617 q619 (va_Decl.abs (G.E.2.1.2.2.1 _ (by decide +kernel))) (sL_at kd) (hL_at kd).1 (hL_at kd).2.1 (hL_at kd).2.2.1 cdL_at (lci kd) 1 (lci_at kd) rfl rfl (by decide) (hL_at _).2.2.2 rfl (Nat.le_of_ble_eq_true rfl) (Nat.le_of_ble_eq_true rfl) (Nat.le_of_ble_eq_true rfl) dX1_curedTotal_47 (fun r_11 h => ?_)
          show X g 7 50 [(6, .int v6_6), (5, .int v5_3), (4, .int v4_5), (2, .double v2_4), (0, .ref q0), (1, .int p1)] [.double r_11, .double v2_4, .ref q0] [(q0a, .inl ((xT g) 1, ln, .inl acc)), (q0, .inr (lci kd, [.ref q0a, .ref q0d, .ref q0g, .int gc, .ref q0m])), (q0m, .inl (lamC kd (xT g) ln am))] 0 0
          refine x_cU9d0 (C := lnm kd) (owner := "RoundingAuditor$Adder") (x := ⟨"RoundingAuditor$Ledger", "add", "(DD)D"⟩) (wc := []) (As := [.double v2_4, .double r_11]) (rest := []) G [(q0a, .inl ((xT g) 1, ln, .inl acc)), (q0, .inr (lci kd, [.ref q0a, .ref q0d, .ref q0g, .int gc, .ref q0m])), (q0m, .inl (lamC kd (xT g) ln am))] (XSub.of [0, 1, 2] rfl (by decide)) (tL_add kd G.noTraces h) (G.E.2.1.2.2.2.2.2.2.2.2.2.2 _ (by decide +kernel)) (G.E.2.1.2.2.2.2.2.2.2.2.2.2 _ (by decide +kernel)) (lnm_add kd) (va_Decl.abs (G.E.2.1.2.2.1 _ (by decide +kernel))) (sL_Add kd) (hL_add kd).1 (hL_add kd).2.1 (hL_add kd).2.2.1 cdL_Add (lci kd) 1 (lci_at kd) rfl rfl (by decide) (hL_add _).2.2.2 rfl (Nat.le_of_ble_eq_true rfl) (Nat.le_of_ble_eq_true rfl) (Nat.le_of_ble_eq_true rfl) dX1_curedTotal_50 (fun r_12 h => ?_)
          show X g 7 53 [(6, .int v6_6), (5, .int v5_3), (4, .int v4_5), (2, .double v2_4), (0, .ref q0), (1, .int p1)] [.double r_12] [(q0a, .inl ((xT g) 1, ln, .inl acc)), (q0, .inr (lci kd, [.ref q0a, .ref q0d, .ref q0g, .int gc, .ref q0m])), (q0m, .inl (lamC kd (xT g) ln am))] 0 0
          refine x_goto (tgt := 62) G dX1_curedTotal_53 rfl ?_
          refine x_dstore_n (lv' := [(2, .double r_12), (6, .int v6_6), (5, .int v5_3), (4, .int v4_5), (0, .ref q0), (1, .int p1)]) G rfl dX1_curedTotal_62 (by decide) rfl ?_
          refine x_iconst (v := (1 : Int32)) G dX1_curedTotal_63 (by decide) ?_
          refine x_istore (lv' := [(4, .int (1 : Int32)), (2, .double r_12), (6, .int v6_6), (5, .int v5_3), (0, .ref q0), (1, .int p1)]) G dX1_curedTotal_64 (by decide) rfl ?_
          obtain ⟨x_13, ex_13⟩ : ∃ z : Int32, z = (v6_6 + (1 : Int32)) := ⟨_, rfl⟩
          replace h := h x_13 ex_13
          refine x_iinc (v := x_13) (lv' := [(6, .int x_13), (4, .int (1 : Int32)), (2, .double r_12), (5, .int v5_3), (0, .ref q0), (1, .int p1)]) G dX1_curedTotal_66 2 rfl (by rw [ex_13]; rfl) (by decide) rfl ?_
          refine x_goto (tgt := 17) G dX1_curedTotal_69 rfl ?_
          refine x_lv (lv' := [(6, .int x_13), (5, .int v5_3), (4, .int (1 : Int32)), (2, .double r_12), (0, .ref q0), (1, .int p1)]) [0, 3, 1, 2, 4, 5] rfl ?_
          refine x_ws (ws' := [(q0, .inr (lci kd, [.ref q0a, .ref q0d, .ref q0g, .int gc, .ref q0m])), (q0a, .inl ((xT g) 1, ln, .inl acc)), (q0m, .inl (lamC kd (xT g) ln am))]) (XSub.of [1, 0, 2] rfl (by decide)) ?_
          exact ih r_12 (1 : Int32) x_13 h
set_option maxRecDepth 20000 in
theorem kX1_curedTotal_L8 {g : XG} {q0 : Nat} {kd : Bool} {q0a : Nat} {q0d : Nat} {q0g : Nat} {gc : Int32} {q0m : Nat} {ln : Nat} {acc : Nat → Int32} {am : Nat → UInt64} {p1 : Int32} {X78 : UInt64 → Int32 → Int32 → Prop} (G : XO g RX1 cX1_curedTotal 7 2 0 0) (hX78 : ∀ (v2_21 : UInt64) (v4_22 : Int32) (v5_23 : Int32), X78 v2_21 v4_22 v5_23 → X g 7 78 [(5, .int v5_23), (4, .int v4_22), (2, .double v2_21), (0, .ref q0), (1, .int p1)] [] [(q0, .inr (lci kd, [.ref q0a, .ref q0d, .ref q0g, .int gc, .ref q0m])), (q0a, .inl ((xT g) 1, ln, .inl acc)), (q0m, .inl (lamC kd (xT g) ln am))] 0 0) : ∀ (n : Nat) (v2_1 : UInt64) (v4_2 : Int32) (v5_3 : Int32), wX1_curedTotal_L8 kd ln am p1 X78 n v2_1 v4_2 v5_3 → X g 7 8 [(5, .int v5_3), (4, .int v4_2), (2, .double v2_1), (0, .ref q0), (1, .int p1)] [] [(q0, .inr (lci kd, [.ref q0a, .ref q0d, .ref q0g, .int gc, .ref q0m])), (q0a, .inl ((xT g) 1, ln, .inl acc)), (q0m, .inl (lamC kd (xT g) ln am))] 0 0 := by
  intro n
  induction n with
  | zero => intro _ _ _ h; exact h.elim
  | succ n ih =>
    intro v2_1 v4_2 v5_3 h
    unfold wX1_curedTotal_L8 at h
    refine x_iload G dX1_curedTotal_8 0 rfl ?_
    refine x_iconst (v := (2 : Int32)) G dX1_curedTotal_10 (by decide) ?_
    refine x_icmp_ge (tgt := 78) G dX1_curedTotal_11 rfl (fun c => ?_) (fun c => ?_)
    · replace h := h.1 c
      exact hX78 v2_1 v4_2 v5_3 h
    · replace h := h.2 c
      refine x_iconst (v := (0 : Int32)) G dX1_curedTotal_14 (by decide) ?_
      refine x_istore (lv' := [(6, .int (0 : Int32)), (5, .int v5_3), (4, .int v4_2), (2, .double v2_1), (0, .ref q0), (1, .int p1)]) G dX1_curedTotal_15 (by decide) rfl ?_
      obtain ⟨n0, h⟩ := h
      refine kX1_curedTotal_L17 G (fun v2_17 v4_18 v6_19 h => ?_) n0 _ _ _ h
      · obtain ⟨x_20, ex_20⟩ : ∃ z : Int32, z = (v5_3 + (1 : Int32)) := ⟨_, rfl⟩
        replace h := h x_20 ex_20
        refine x_iinc (v := x_20) (lv' := [(5, .int x_20), (6, .int v6_19), (4, .int v4_18), (2, .double v2_17), (0, .ref q0), (1, .int p1)]) G dX1_curedTotal_72 1 rfl (by rw [ex_20]; rfl) (by decide) rfl ?_
        refine x_goto (tgt := 8) G dX1_curedTotal_75 rfl ?_
        refine x_lv (lv' := [(5, .int x_20), (4, .int v4_18), (2, .double v2_17), (0, .ref q0), (1, .int p1)]) [0, 2, 3, 4, 5] rfl ?_
        exact ih v2_17 v4_18 x_20 h
set_option maxRecDepth 20000 in
theorem tX1_curedTotal {l : Launch} {D : va_G} {ta : Nat → ClassId} {q0 : Nat} {kd : Bool} {q0a : Nat} {q0d : Nat} {q0g : Nat} {gc : Int32} {q0m : Nat} {ln : Nat} {acc : Nat → Int32} {am : Nat → UInt64} {p1 : Int32} {K : UInt64 → Prop} (hlt : l.stackTraces = false) (h : wX1_curedTotal p1 kd ln am K) : SMd0 l D ta yX1_curedTotal cX1_curedTotal 7 FieldType.double 2 [.ref q0, .int p1] [(q0, .inr (lci kd, [.ref q0a, .ref q0d, .ref q0g, .int gc, .ref q0m])), (q0a, .inl (ta 1, ln, .inl acc)), (q0m, .inl (lamC kd ta ln am))] ([(q0, .inr (lci kd, [.ref q0a, .ref q0d, .ref q0g, .int gc, .ref q0m])), (q0a, .inl (ta 1, ln, .inl acc)), (q0m, .inl (lamC kd ta ln am))]) 0 0 K := by
  refine x_std0 hlt (plainFor_of_name (by decide +kernel)) (Nat.le_of_ble_eq_true rfl) (fun g G hl hD hT Q => ?_)
  subst hl; subst hD; subst hT
  unfold wX1_curedTotal at h
  show X g 7 0 [(0, .ref q0), (1, .int p1)] [] [(q0, .inr (lci kd, [.ref q0a, .ref q0d, .ref q0g, .int gc, .ref q0m])), (q0a, .inl ((xT g) 1, ln, .inl acc)), (q0m, .inl (lamC kd (xT g) ln am))] 0 0
  refine x_dconst0 G dX1_curedTotal_0 ?_
  refine x_dstore_n (lv' := [(2, .double FP.dconst0), (0, .ref q0), (1, .int p1)]) G rfl dX1_curedTotal_1 (by decide) rfl ?_
  refine x_iconst (v := (0 : Int32)) G dX1_curedTotal_2 (by decide) ?_
  refine x_istore (lv' := [(4, .int (0 : Int32)), (2, .double FP.dconst0), (0, .ref q0), (1, .int p1)]) G dX1_curedTotal_3 (by decide) rfl ?_
  refine x_iconst (v := (0 : Int32)) G dX1_curedTotal_5 (by decide) ?_
  refine x_istore (lv' := [(5, .int (0 : Int32)), (4, .int (0 : Int32)), (2, .double FP.dconst0), (0, .ref q0), (1, .int p1)]) G dX1_curedTotal_6 (by decide) rfl ?_
  obtain ⟨n0, h⟩ := h
  refine kX1_curedTotal_L8 G (fun v2_24 v4_25 v5_26 h => ?_) n0 _ _ _ h
  · refine x_dload_n G rfl dX1_curedTotal_78 2 rfl ?_
    exact x_retd0 G Q dX1_curedTotal_79  h XSub.rf (Nat.le_of_ble_eq_true rfl) (Nat.le_of_ble_eq_true rfl)
theorem cdX1_cure : yX1_cure.cls = RX1 ∧ yX1_cure.cls ≠ "java/lang/invoke/MethodHandle" ∧ yX1_cure.cls ≠ "java/lang/invoke/VarHandle" ∧ (parseMethodDescriptor yX1_cure.desc).map (fun d => d.parameters.length) = some 1 := by decide +kernel
set_option maxRecDepth 20000 in
theorem tX1_cure_F {l : Launch} {D : va_G} {ta : Nat → ClassId} {h0 : Nat} {lg : Nat} {e1 : Nat} {e2 : Nat} {e3 : Nat} {rl : Nat} {cur : Int32} {sh : Nat} {lgf : Nat → Option Nat} {p0 : Int32} {K : Int32 → Prop} {E : String → Prop} (hlt : l.stackTraces = false) (h : wX1_reach_F p0 lgf K E) : SXi0 l D ta yX1_cure cX1_cure 8 FieldType.int 6 [.ref h0, .int p0] [(h0, .inr (0, [.ref lg, .ref e1, .ref e2, .ref e3, .ref rl, .int cur, .ref sh])), (lg, .inl (ta 6, 12, .inr (.inr (.inr (.inr lgf)))))] ([(h0, .inr (0, [.ref lg, .ref e1, .ref e2, .ref e3, .ref rl, .int cur, .ref sh])), (lg, .inl (ta 6, 12, .inr (.inr (.inr (.inr lgf)))))]) 3 222 K E := by
  refine x_sxi0 hlt (by decide +kernel) (Nat.le_of_ble_eq_true rfl) (fun g G hl hD hT hN Q => ?_)
  subst hl; subst hD; subst hT
  unfold wX1_reach_F at h
  show X g 8 0 [(0, .ref h0), (1, .int p0)] [] [(h0, .inr (0, [.ref lg, .ref e1, .ref e2, .ref e3, .ref rl, .int cur, .ref sh])), (lg, .inl ((xT g) 6, 12, .inr (.inr (.inr (.inr lgf)))))] 0 0
  refine x_aload_n G rfl dX1_cure_0 0 rfl ?_
  refine x_get G in_X1 0 rfl rfl 0 (by decide) q159 (fun _ h => h) rfl dX1_cure_1 ?_
  refine x_iload_n G rfl dX1_cure_4 1 rfl ?_
  by_cases hz : vp_in p0 12
  case neg =>
    replace h := h.1 hz
    refine x_aaldZ G 1 rfl rfl (by decide) hz (Nat.le_of_ble_eq_true rfl) (Nat.le_of_ble_eq_true rfl) (Nat.le_of_ble_eq_true rfl) dX1_cure_5 ?_
    exact x_oi0 G Q h XSub.rf (Nat.le_of_ble_eq_true rfl) (Nat.le_of_ble_eq_true rfl)
  replace h := h.2 hz
  obtain ⟨hq, h⟩ := h
  refine x_aald G 1 6 rfl rfl hz dX1_cure_5 ?_
  rw [hq]
  show X g 8 6 [(0, .ref h0), (1, .int p0)] [.null] [(h0, .inr (0, [.ref lg, .ref e1, .ref e2, .ref e3, .ref rl, .int cur, .ref sh])), (lg, .inl ((xT g) 6, 12, .inr (.inr (.inr (.inr lgf)))))] 0 0
  refine x_astore_nN (lv' := [(2, .null), (0, .ref h0), (1, .int p0)]) G rfl dX1_cure_6 (by decide) rfl ?_
  refine x_aload_nN G rfl dX1_cure_7 0 rfl ?_
  refine x_invN (z := ⟨"RoundingAuditor$Ledger", "length", "()I"⟩) (As := []) (rest := []) G q661 (va_Decl.of (G.hts _ q662) (G.hts _ q666)) rfl q665 (show ("RoundingAuditor$Ledger" : String) ≠ "java/lang/invoke/MethodHandle" ∧ ("RoundingAuditor$Ledger" : String) ≠ "java/lang/invoke/VarHandle" ∧ (parseMethodDescriptor "()I").map (fun d => d.parameters.length) = some 0 from by decide +kernel) rfl (Nat.le_of_ble_eq_true rfl) (Nat.le_of_ble_eq_true rfl) (Nat.le_of_ble_eq_true rfl) dX1_cure_8 ?_
  exact x_oi0 G Q h XSub.rf (Nat.le_of_ble_eq_true rfl) (Nat.le_of_ble_eq_true rfl)
def wX1_cure_L34 (kd : Bool) (ln : Nat) (am : Nat → UInt64) (r_1 : Int32) (r_2 : UInt64) (X80 : Int32 → Int32 → Prop) : Nat → Int32 → Int32 → Prop
  | 0, _, _ => False
  | n + 1, v6_4, v7_5 => (((jishl (1 : Int32) r_1) ≤ v7_5 → X80 v6_4 v7_5) ∧ (¬ (jishl (1 : Int32) r_1) ≤ v7_5 → ((v6_4 = (-1 : Int32) → (wX1_curedTotal v7_5 kd ln am (fun (r_6 : UInt64) => ((¬ deq r_6 r_2 → (∀ x_7 : Int32, x_7 = (v7_5 + (1 : Int32)) → wX1_cure_L34 kd ln am r_1 r_2 X80 n v6_4 x_7)) ∧ (deq r_6 r_2 → (∀ x_8 : Int32, x_8 = (v7_5 + (1 : Int32)) → wX1_cure_L34 kd ln am r_1 r_2 X80 n v7_5 x_8)))))) ∧ (¬ v6_4 = (-1 : Int32) → (wX1_isAhead v7_5 v6_4 (fun (r_9 : Int32) => ((r_9 = (0 : Int32) → (∀ x_10 : Int32, x_10 = (v7_5 + (1 : Int32)) → wX1_cure_L34 kd ln am r_1 r_2 X80 n v6_4 x_10)) ∧ (¬ r_9 = (0 : Int32) → (wX1_curedTotal v7_5 kd ln am (fun (r_11 : UInt64) => ((¬ deq r_11 r_2 → (∀ x_12 : Int32, x_12 = (v7_5 + (1 : Int32)) → wX1_cure_L34 kd ln am r_1 r_2 X80 n v6_4 x_12)) ∧ (deq r_11 r_2 → (∀ x_13 : Int32, x_13 = (v7_5 + (1 : Int32)) → wX1_cure_L34 kd ln am r_1 r_2 X80 n v7_5 x_13)))))))))))))
def wX1_cure (p0 : Int32) (cur : Int32) (lgf : Nat → Option Nat) (u0 : Nat) (kd : Bool) (ln : Nat) (acc : Nat → Int32) (day : Nat → Int32) (am : Nat → UInt64) (w1 : Nat → Int32) (K : Int32 → Int32 → (Nat → Int32) → Prop) : Prop := (vp_in p0 12 ∧ ((lgf p0.toNatClampNeg) = some u0 ∧ (wX4_length ln (fun (r_1 : Int32) => ((r_1 ≤ (10 : Int32) → (wX1_roundedOf w1 kd ln acc day am (fun (r_2 : UInt64) (w1_3 : Nat → Int32) => (∃ m34 : Nat, wX1_cure_L34 kd ln am r_1 r_2 (fun (v6_16 : Int32) (v7_17 : Int32) => ((¬ v6_16 = (-1 : Int32) → ((¬ v6_16 = (-1 : Int32) → (wX1_many v6_16 (fun (r_18 : Int32) => K r_18 v6_16 w1_3))) ∧ (v6_16 = (-1 : Int32) → K (-1 : Int32) v6_16 w1_3))) ∧ (v6_16 = (-1 : Int32) → ((¬ v6_16 = (-1 : Int32) → (wX1_many v6_16 (fun (r_19 : Int32) => K r_19 (0 : Int32) w1_3))) ∧ (v6_16 = (-1 : Int32) → K (-1 : Int32) (0 : Int32) w1_3))))) m34 (-1 : Int32) (0 : Int32))))) ∧ (¬ r_1 ≤ (10 : Int32) → K (-104 : Int32) cur w1))))))
set_option maxRecDepth 20000 in
theorem kX1_cure_L34 {g : XG} {h0 : Nat} {lg : Nat} {e1 : Nat} {e2 : Nat} {e3 : Nat} {rl : Nat} {cur : Int32} {sh : Nat} {lgf : Nat → Option Nat} {u0 : Nat} {kd : Bool} {u0a : Nat} {u0d : Nat} {u0g : Nat} {gc : Int32} {u0m : Nat} {ln : Nat} {acc : Nat → Int32} {day : Nat → Int32} {am : Nat → UInt64} {e1w : Nat} {p0 : Int32} {r_1 : Int32} {r_2 : UInt64} {w1_3 : Nat → Int32} {X80 : Int32 → Int32 → Prop} (G : XO g RX1 cX1_cure 8 8 0 0) (hX80 : ∀ (v6_14 : Int32) (v7_15 : Int32), X80 v6_14 v7_15 → X g 8 80 [(7, .int v7_15), (6, .int v6_14), (4, .double r_2), (3, .int r_1), (2, .ref u0), (0, .ref h0), (1, .int p0)] [] [(lg, .inl ((xT g) 6, 12, .inr (.inr (.inr (.inr lgf))))), (h0, .inr (0, [.ref lg, .ref e1, .ref e2, .ref e3, .ref rl, .int cur, .ref sh])), (e1, .inr (1, [.ref e1w])), (e1w, .inl ((xT g) 2, 40, .inl w1_3)), (u0, .inr (lci kd, [.ref u0a, .ref u0d, .ref u0g, .int gc, .ref u0m])), (u0a, .inl ((xT g) 1, ln, .inl acc)), (u0d, .inl ((xT g) 1, ln, .inl day)), (u0m, .inl (lamC kd (xT g) ln am))] 0 0) : ∀ (n : Nat) (v6_4 : Int32) (v7_5 : Int32), wX1_cure_L34 kd ln am r_1 r_2 X80 n v6_4 v7_5 → X g 8 34 [(7, .int v7_5), (6, .int v6_4), (4, .double r_2), (3, .int r_1), (2, .ref u0), (0, .ref h0), (1, .int p0)] [] [(lg, .inl ((xT g) 6, 12, .inr (.inr (.inr (.inr lgf))))), (h0, .inr (0, [.ref lg, .ref e1, .ref e2, .ref e3, .ref rl, .int cur, .ref sh])), (e1, .inr (1, [.ref e1w])), (e1w, .inl ((xT g) 2, 40, .inl w1_3)), (u0, .inr (lci kd, [.ref u0a, .ref u0d, .ref u0g, .int gc, .ref u0m])), (u0a, .inl ((xT g) 1, ln, .inl acc)), (u0d, .inl ((xT g) 1, ln, .inl day)), (u0m, .inl (lamC kd (xT g) ln am))] 0 0 := by
  intro n
  induction n with
  | zero => intro _ _ h; exact h.elim
  | succ n ih =>
    intro v6_4 v7_5 h
    unfold wX1_cure_L34 at h
    refine x_iload G dX1_cure_34 0 rfl ?_
    refine x_iconst (v := (1 : Int32)) G dX1_cure_36 (by decide) ?_
    refine x_iload_n G rfl dX1_cure_37 3 rfl ?_
    refine x_ishl G dX1_cure_38 ?_
    refine x_icmp_ge (tgt := 80) G dX1_cure_39 rfl (fun c => ?_) (fun c => ?_)
    · replace h := h.1 c
      exact hX80 v6_4 v7_5 h
    · replace h := h.2 c
      refine x_iload G dX1_cure_42 1 rfl ?_
      refine x_iconst (v := (-1 : Int32)) G dX1_cure_44 (by decide) ?_
      refine x_icmp_eq (tgt := 58) G dX1_cure_45 rfl (fun c => ?_) (fun c => ?_)
      · replace h := h.1 c
        refine x_aload_n G rfl dX1_cure_58 4 rfl ?_
        refine x_iload G dX1_cure_59 0 rfl ?_
        refine x_cSd0 (wc := [(u0, .inr (lci kd, [.ref u0a, .ref u0d, .ref u0g, .int gc, .ref u0m])), (u0a, .inl ((xT g) 1, ln, .inl acc)), (u0m, .inl (lamC kd (xT g) ln am))]) (As := [.ref u0, .int v7_5]) (rest := []) G [(lg, .inl ((xT g) 6, 12, .inr (.inr (.inr (.inr lgf))))), (h0, .inr (0, [.ref lg, .ref e1, .ref e2, .ref e3, .ref rl, .int cur, .ref sh])), (e1, .inr (1, [.ref e1w])), (e1w, .inl ((xT g) 2, 40, .inl w1_3)), (u0d, .inl ((xT g) 1, ln, .inl day))] (XSub.of [0, 1, 2, 3, 6, 4, 5, 7] rfl (by decide)) (tX1_curedTotal G.noTraces h) (lw_S q1492 q1493 q65 q1494) cdX1_curedTotal (by decide) (by decide) rfl (Nat.le_of_ble_eq_true rfl) (Nat.le_of_ble_eq_true rfl) (Nat.le_of_ble_eq_true rfl) dX1_cure_61 (fun r_6 h => ?_)
        show X g 8 64 [(7, .int v7_5), (6, .int v6_4), (4, .double r_2), (3, .int r_1), (2, .ref u0), (0, .ref h0), (1, .int p0)] [.double r_6] [(lg, .inl ((xT g) 6, 12, .inr (.inr (.inr (.inr lgf))))), (h0, .inr (0, [.ref lg, .ref e1, .ref e2, .ref e3, .ref rl, .int cur, .ref sh])), (e1, .inr (1, [.ref e1w])), (e1w, .inl ((xT g) 2, 40, .inl w1_3)), (u0d, .inl ((xT g) 1, ln, .inl day)), (u0, .inr (lci kd, [.ref u0a, .ref u0d, .ref u0g, .int gc, .ref u0m])), (u0a, .inl ((xT g) 1, ln, .inl acc)), (u0m, .inl (lamC kd (xT g) ln am))] 0 0
        refine x_dload G dX1_cure_64 2 rfl ?_
        refine x_dcmpl_ne (tgt := 74) G dX1_cure_66 dX1_cure_67 rfl (fun c => ?_) (fun c => ?_)
        · replace h := h.1 c
          obtain ⟨x_7, ex_7⟩ : ∃ z : Int32, z = (v7_5 + (1 : Int32)) := ⟨_, rfl⟩
          replace h := h x_7 ex_7
          refine x_iinc (v := x_7) (lv' := [(7, .int x_7), (6, .int v6_4), (4, .double r_2), (3, .int r_1), (2, .ref u0), (0, .ref h0), (1, .int p0)]) G dX1_cure_74 0 rfl (by rw [ex_7]; rfl) (by decide) rfl ?_
          refine x_goto (tgt := 34) G dX1_cure_77 rfl ?_
          refine x_ws (ws' := [(lg, .inl ((xT g) 6, 12, .inr (.inr (.inr (.inr lgf))))), (h0, .inr (0, [.ref lg, .ref e1, .ref e2, .ref e3, .ref rl, .int cur, .ref sh])), (e1, .inr (1, [.ref e1w])), (e1w, .inl ((xT g) 2, 40, .inl w1_3)), (u0, .inr (lci kd, [.ref u0a, .ref u0d, .ref u0g, .int gc, .ref u0m])), (u0a, .inl ((xT g) 1, ln, .inl acc)), (u0d, .inl ((xT g) 1, ln, .inl day)), (u0m, .inl (lamC kd (xT g) ln am))]) (XSub.of [0, 1, 2, 3, 5, 6, 4, 7] rfl (by decide)) ?_
          exact ih v6_4 x_7 h
        · replace h := h.2 c
          refine x_iload G dX1_cure_70 0 rfl ?_
          refine x_istore (lv' := [(6, .int v7_5), (7, .int v7_5), (4, .double r_2), (3, .int r_1), (2, .ref u0), (0, .ref h0), (1, .int p0)]) G dX1_cure_72 (by decide) rfl ?_
          obtain ⟨x_8, ex_8⟩ : ∃ z : Int32, z = (v7_5 + (1 : Int32)) := ⟨_, rfl⟩
          replace h := h x_8 ex_8
          refine x_iinc (v := x_8) (lv' := [(7, .int x_8), (6, .int v7_5), (4, .double r_2), (3, .int r_1), (2, .ref u0), (0, .ref h0), (1, .int p0)]) G dX1_cure_74 1 rfl (by rw [ex_8]; rfl) (by decide) rfl ?_
          refine x_goto (tgt := 34) G dX1_cure_77 rfl ?_
          refine x_ws (ws' := [(lg, .inl ((xT g) 6, 12, .inr (.inr (.inr (.inr lgf))))), (h0, .inr (0, [.ref lg, .ref e1, .ref e2, .ref e3, .ref rl, .int cur, .ref sh])), (e1, .inr (1, [.ref e1w])), (e1w, .inl ((xT g) 2, 40, .inl w1_3)), (u0, .inr (lci kd, [.ref u0a, .ref u0d, .ref u0g, .int gc, .ref u0m])), (u0a, .inl ((xT g) 1, ln, .inl acc)), (u0d, .inl ((xT g) 1, ln, .inl day)), (u0m, .inl (lamC kd (xT g) ln am))]) (XSub.of [0, 1, 2, 3, 5, 6, 4, 7] rfl (by decide)) ?_
          exact ih v7_5 x_8 h
      · replace h := h.2 c
        refine x_iload G dX1_cure_48 0 rfl ?_
        refine x_iload G dX1_cure_50 1 rfl ?_
        refine x_cPi (As := [.int v7_5, .int v6_4]) (rest := []) G (tX1_isAhead G.noTraces h) (lw_S q1486 q1487 q65 q1488) cdX1_isAhead (by decide) (by decide) rfl (Nat.le_of_ble_eq_true rfl) (Nat.le_of_ble_eq_true rfl) (Nat.le_of_ble_eq_true rfl) dX1_cure_52 (fun r_9 h => ?_)
        refine x_if_eq (tgt := 74) G dX1_cure_55 rfl (fun c => ?_) (fun c => ?_)
        · replace h := h.1 c
          obtain ⟨x_10, ex_10⟩ : ∃ z : Int32, z = (v7_5 + (1 : Int32)) := ⟨_, rfl⟩
          replace h := h x_10 ex_10
          refine x_iinc (v := x_10) (lv' := [(7, .int x_10), (6, .int v6_4), (4, .double r_2), (3, .int r_1), (2, .ref u0), (0, .ref h0), (1, .int p0)]) G dX1_cure_74 0 rfl (by rw [ex_10]; rfl) (by decide) rfl ?_
          refine x_goto (tgt := 34) G dX1_cure_77 rfl ?_
          exact ih v6_4 x_10 h
        · replace h := h.2 c
          refine x_aload_n G rfl dX1_cure_58 4 rfl ?_
          refine x_iload G dX1_cure_59 0 rfl ?_
          refine x_cSd0 (wc := [(u0, .inr (lci kd, [.ref u0a, .ref u0d, .ref u0g, .int gc, .ref u0m])), (u0a, .inl ((xT g) 1, ln, .inl acc)), (u0m, .inl (lamC kd (xT g) ln am))]) (As := [.ref u0, .int v7_5]) (rest := []) G [(lg, .inl ((xT g) 6, 12, .inr (.inr (.inr (.inr lgf))))), (h0, .inr (0, [.ref lg, .ref e1, .ref e2, .ref e3, .ref rl, .int cur, .ref sh])), (e1, .inr (1, [.ref e1w])), (e1w, .inl ((xT g) 2, 40, .inl w1_3)), (u0d, .inl ((xT g) 1, ln, .inl day))] (XSub.of [0, 1, 2, 3, 6, 4, 5, 7] rfl (by decide)) (tX1_curedTotal G.noTraces h) (lw_S q1492 q1493 q65 q1494) cdX1_curedTotal (by decide) (by decide) rfl (Nat.le_of_ble_eq_true rfl) (Nat.le_of_ble_eq_true rfl) (Nat.le_of_ble_eq_true rfl) dX1_cure_61 (fun r_11 h => ?_)
          show X g 8 64 [(7, .int v7_5), (6, .int v6_4), (4, .double r_2), (3, .int r_1), (2, .ref u0), (0, .ref h0), (1, .int p0)] [.double r_11] [(lg, .inl ((xT g) 6, 12, .inr (.inr (.inr (.inr lgf))))), (h0, .inr (0, [.ref lg, .ref e1, .ref e2, .ref e3, .ref rl, .int cur, .ref sh])), (e1, .inr (1, [.ref e1w])), (e1w, .inl ((xT g) 2, 40, .inl w1_3)), (u0d, .inl ((xT g) 1, ln, .inl day)), (u0, .inr (lci kd, [.ref u0a, .ref u0d, .ref u0g, .int gc, .ref u0m])), (u0a, .inl ((xT g) 1, ln, .inl acc)), (u0m, .inl (lamC kd (xT g) ln am))] 0 0
          refine x_dload G dX1_cure_64 2 rfl ?_
          refine x_dcmpl_ne (tgt := 74) G dX1_cure_66 dX1_cure_67 rfl (fun c => ?_) (fun c => ?_)
          · replace h := h.1 c
            obtain ⟨x_12, ex_12⟩ : ∃ z : Int32, z = (v7_5 + (1 : Int32)) := ⟨_, rfl⟩
            replace h := h x_12 ex_12
            refine x_iinc (v := x_12) (lv' := [(7, .int x_12), (6, .int v6_4), (4, .double r_2), (3, .int r_1), (2, .ref u0), (0, .ref h0), (1, .int p0)]) G dX1_cure_74 0 rfl (by rw [ex_12]; rfl) (by decide) rfl ?_
            refine x_goto (tgt := 34) G dX1_cure_77 rfl ?_
            refine x_ws (ws' := [(lg, .inl ((xT g) 6, 12, .inr (.inr (.inr (.inr lgf))))), (h0, .inr (0, [.ref lg, .ref e1, .ref e2, .ref e3, .ref rl, .int cur, .ref sh])), (e1, .inr (1, [.ref e1w])), (e1w, .inl ((xT g) 2, 40, .inl w1_3)), (u0, .inr (lci kd, [.ref u0a, .ref u0d, .ref u0g, .int gc, .ref u0m])), (u0a, .inl ((xT g) 1, ln, .inl acc)), (u0d, .inl ((xT g) 1, ln, .inl day)), (u0m, .inl (lamC kd (xT g) ln am))]) (XSub.of [0, 1, 2, 3, 5, 6, 4, 7] rfl (by decide)) ?_
            exact ih v6_4 x_12 h
          · replace h := h.2 c
            refine x_iload G dX1_cure_70 0 rfl ?_
            refine x_istore (lv' := [(6, .int v7_5), (7, .int v7_5), (4, .double r_2), (3, .int r_1), (2, .ref u0), (0, .ref h0), (1, .int p0)]) G dX1_cure_72 (by decide) rfl ?_
            obtain ⟨x_13, ex_13⟩ : ∃ z : Int32, z = (v7_5 + (1 : Int32)) := ⟨_, rfl⟩
            replace h := h x_13 ex_13
            refine x_iinc (v := x_13) (lv' := [(7, .int x_13), (6, .int v7_5), (4, .double r_2), (3, .int r_1), (2, .ref u0), (0, .ref h0), (1, .int p0)]) G dX1_cure_74 1 rfl (by rw [ex_13]; rfl) (by decide) rfl ?_
            refine x_goto (tgt := 34) G dX1_cure_77 rfl ?_
            refine x_ws (ws' := [(lg, .inl ((xT g) 6, 12, .inr (.inr (.inr (.inr lgf))))), (h0, .inr (0, [.ref lg, .ref e1, .ref e2, .ref e3, .ref rl, .int cur, .ref sh])), (e1, .inr (1, [.ref e1w])), (e1w, .inl ((xT g) 2, 40, .inl w1_3)), (u0, .inr (lci kd, [.ref u0a, .ref u0d, .ref u0g, .int gc, .ref u0m])), (u0a, .inl ((xT g) 1, ln, .inl acc)), (u0d, .inl ((xT g) 1, ln, .inl day)), (u0m, .inl (lamC kd (xT g) ln am))]) (XSub.of [0, 1, 2, 3, 5, 6, 4, 7] rfl (by decide)) ?_
            exact ih v7_5 x_13 h
set_option maxRecDepth 20000 in
theorem tX1_cure {l : Launch} {D : va_G} {ta : Nat → ClassId} {h0 : Nat} {lg : Nat} {e1 : Nat} {e2 : Nat} {e3 : Nat} {rl : Nat} {cur : Int32} {sh : Nat} {lgf : Nat → Option Nat} {u0 : Nat} {kd : Bool} {u0a : Nat} {u0d : Nat} {u0g : Nat} {gc : Int32} {u0m : Nat} {ln : Nat} {acc : Nat → Int32} {day : Nat → Int32} {am : Nat → UInt64} {e1w : Nat} {w1 : Nat → Int32} {p0 : Int32} {K : Int32 → Int32 → (Nat → Int32) → Prop} (hlt : l.stackTraces = false) (h : wX1_cure p0 cur lgf u0 kd ln acc day am w1 K) : SMi2 l D ta yX1_cure cX1_cure 8 FieldType.int 8 [.ref h0, .int p0] [(h0, .inr (0, [.ref lg, .ref e1, .ref e2, .ref e3, .ref rl, .int cur, .ref sh])), (lg, .inl (ta 6, 12, .inr (.inr (.inr (.inr lgf))))), (u0, .inr (lci kd, [.ref u0a, .ref u0d, .ref u0g, .int gc, .ref u0m])), (u0a, .inl (ta 1, ln, .inl acc)), (u0d, .inl (ta 1, ln, .inl day)), (u0m, .inl (lamC kd ta ln am)), (e1, .inr (1, [.ref e1w])), (e1w, .inl (ta 2, 40, .inl w1))] (fun (cur' : Int32) (w1' : Nat → Int32) => [(h0, .inr (0, [.ref lg, .ref e1, .ref e2, .ref e3, .ref rl, .int cur', .ref sh])), (lg, .inl (ta 6, 12, .inr (.inr (.inr (.inr lgf))))), (u0, .inr (lci kd, [.ref u0a, .ref u0d, .ref u0g, .int gc, .ref u0m])), (u0a, .inl (ta 1, ln, .inl acc)), (u0d, .inl (ta 1, ln, .inl day)), (u0m, .inl (lamC kd ta ln am)), (e1, .inr (1, [.ref e1w])), (e1w, .inl (ta 2, 40, .inl w1'))]) 0 0 K := by
  refine x_sti2 hlt (plainFor_of_name (by decide +kernel)) (Nat.le_of_ble_eq_true rfl) (fun g G hl hD hT Q => ?_)
  subst hl; subst hD; subst hT
  unfold wX1_cure at h
  show X g 8 0 [(0, .ref h0), (1, .int p0)] [] [(h0, .inr (0, [.ref lg, .ref e1, .ref e2, .ref e3, .ref rl, .int cur, .ref sh])), (lg, .inl ((xT g) 6, 12, .inr (.inr (.inr (.inr lgf))))), (u0, .inr (lci kd, [.ref u0a, .ref u0d, .ref u0g, .int gc, .ref u0m])), (u0a, .inl ((xT g) 1, ln, .inl acc)), (u0d, .inl ((xT g) 1, ln, .inl day)), (u0m, .inl (lamC kd (xT g) ln am)), (e1, .inr (1, [.ref e1w])), (e1w, .inl ((xT g) 2, 40, .inl w1))] 0 0
  refine x_aload_n G rfl dX1_cure_0 0 rfl ?_
  refine x_get G in_X1 0 rfl rfl 0 (by decide) q159 (fun _ h => h) rfl dX1_cure_1 ?_
  refine x_iload_n G rfl dX1_cure_4 1 rfl ?_
  obtain ⟨hz, hq, h⟩ := h
  refine x_aald G 1 6 rfl rfl hz dX1_cure_5 ?_
  rw [hq]
  show X g 8 6 [(0, .ref h0), (1, .int p0)] [.ref u0] [(h0, .inr (0, [.ref lg, .ref e1, .ref e2, .ref e3, .ref rl, .int cur, .ref sh])), (lg, .inl ((xT g) 6, 12, .inr (.inr (.inr (.inr lgf))))), (u0, .inr (lci kd, [.ref u0a, .ref u0d, .ref u0g, .int gc, .ref u0m])), (u0a, .inl ((xT g) 1, ln, .inl acc)), (u0d, .inl ((xT g) 1, ln, .inl day)), (u0m, .inl (lamC kd (xT g) ln am)), (e1, .inr (1, [.ref e1w])), (e1w, .inl ((xT g) 2, 40, .inl w1))] 0 0
  refine x_astore_n (lv' := [(2, .ref u0), (0, .ref h0), (1, .int p0)]) G rfl dX1_cure_6 (by decide) rfl ?_
  refine x_aload_n G rfl dX1_cure_7 0 rfl ?_
  refine x_cUi0 (C := lnm kd) (owner := "RoundingAuditor$Ledger") (x := ⟨"RoundingAuditor$Ledger", "length", "()I"⟩) (wc := [(u0, .inr (lci kd, [.ref u0a, .ref u0d, .ref u0g, .int gc, .ref u0m])), (u0a, .inl ((xT g) 1, ln, .inl acc))]) (As := []) (rest := []) G [(h0, .inr (0, [.ref lg, .ref e1, .ref e2, .ref e3, .ref rl, .int cur, .ref sh])), (lg, .inl ((xT g) 6, 12, .inr (.inr (.inr (.inr lgf))))), (u0d, .inl ((xT g) 1, ln, .inl day)), (u0m, .inl (lamC kd (xT g) ln am)), (e1, .inr (1, [.ref e1w])), (e1w, .inl ((xT g) 2, 40, .inl w1))] (XSub.of [0, 1, 4, 5, 6, 7, 2, 3] rfl (by decide)) (tX4_length G.noTraces h) q661 q663 (va_Decl.of (G.hts _ q662) (G.hts _ q666)) (sL_length kd) q662 q78 q666 cdL_length (lci kd) 2 (lci_at kd) rfl rfl (by decide) (by decide) rfl (Nat.le_of_ble_eq_true rfl) (Nat.le_of_ble_eq_true rfl) (Nat.le_of_ble_eq_true rfl) dX1_cure_8 (fun r_1 h => ?_)
  show X g 8 11 [(2, .ref u0), (0, .ref h0), (1, .int p0)] [.int r_1] [(h0, .inr (0, [.ref lg, .ref e1, .ref e2, .ref e3, .ref rl, .int cur, .ref sh])), (lg, .inl ((xT g) 6, 12, .inr (.inr (.inr (.inr lgf))))), (u0d, .inl ((xT g) 1, ln, .inl day)), (u0m, .inl (lamC kd (xT g) ln am)), (e1, .inr (1, [.ref e1w])), (e1w, .inl ((xT g) 2, 40, .inl w1)), (u0, .inr (lci kd, [.ref u0a, .ref u0d, .ref u0g, .int gc, .ref u0m])), (u0a, .inl ((xT g) 1, ln, .inl acc))] 0 0
  refine x_istore_n (lv' := [(3, .int r_1), (2, .ref u0), (0, .ref h0), (1, .int p0)]) G rfl dX1_cure_11 (by decide) rfl ?_
  refine x_iload_n G rfl dX1_cure_12 0 rfl ?_
  refine x_bipush (v := (10 : Int32)) G dX1_cure_13 (by decide) ?_
  refine x_icmp_le (tgt := 21) G dX1_cure_15 rfl (fun c => ?_) (fun c => ?_)
  · replace h := h.1 c
    refine x_aload_n G rfl dX1_cure_21 2 rfl ?_
    refine x_aload_n G rfl dX1_cure_22 1 rfl ?_
    refine x_cVd1 (wc := [(h0, .inr (0, [.ref lg, .ref e1, .ref e2, .ref e3, .ref rl, .int cur, .ref sh])), (e1, .inr (1, [.ref e1w])), (e1w, .inl ((xT g) 2, 40, .inl w1)), (u0, .inr (lci kd, [.ref u0a, .ref u0d, .ref u0g, .int gc, .ref u0m])), (u0a, .inl ((xT g) 1, ln, .inl acc)), (u0d, .inl ((xT g) 1, ln, .inl day)), (u0m, .inl (lamC kd (xT g) ln am))]) (As := [.ref u0]) (rest := []) G [(lg, .inl ((xT g) 6, 12, .inr (.inr (.inr (.inr lgf)))))] (XSub.of [1, 0, 4, 5, 6, 7, 2, 3] rfl (by decide)) (tX1_roundedOf G.noTraces h) (lw_V q1386 q1388 qs15 q65 q1389) cdX1_roundedOf 0 0 rfl rfl rfl (by decide) (by decide) rfl (Nat.le_of_ble_eq_true rfl) (Nat.le_of_ble_eq_true rfl) (Nat.le_of_ble_eq_true rfl) dX1_cure_23 (fun r_2 w1_3 h => ?_)
    show X g 8 26 [(3, .int r_1), (2, .ref u0), (0, .ref h0), (1, .int p0)] [.double r_2] [(lg, .inl ((xT g) 6, 12, .inr (.inr (.inr (.inr lgf))))), (h0, .inr (0, [.ref lg, .ref e1, .ref e2, .ref e3, .ref rl, .int cur, .ref sh])), (e1, .inr (1, [.ref e1w])), (e1w, .inl ((xT g) 2, 40, .inl w1_3)), (u0, .inr (lci kd, [.ref u0a, .ref u0d, .ref u0g, .int gc, .ref u0m])), (u0a, .inl ((xT g) 1, ln, .inl acc)), (u0d, .inl ((xT g) 1, ln, .inl day)), (u0m, .inl (lamC kd (xT g) ln am))] 0 0
    refine x_dstore (lv' := [(4, .double r_2), (3, .int r_1), (2, .ref u0), (0, .ref h0), (1, .int p0)]) G dX1_cure_26 (by decide) rfl ?_
    refine x_iconst (v := (-1 : Int32)) G dX1_cure_28 (by decide) ?_
    refine x_istore (lv' := [(6, .int (-1 : Int32)), (4, .double r_2), (3, .int r_1), (2, .ref u0), (0, .ref h0), (1, .int p0)]) G dX1_cure_29 (by decide) rfl ?_
    refine x_iconst (v := (0 : Int32)) G dX1_cure_31 (by decide) ?_
    refine x_istore (lv' := [(7, .int (0 : Int32)), (6, .int (-1 : Int32)), (4, .double r_2), (3, .int r_1), (2, .ref u0), (0, .ref h0), (1, .int p0)]) G dX1_cure_32 (by decide) rfl ?_
    obtain ⟨n0, h⟩ := h
    refine kX1_cure_L34 G (fun v6_16 v7_17 h => ?_) n0 _ _ h
    · refine x_aload_n G rfl dX1_cure_80 5 rfl ?_
      refine x_iload G dX1_cure_81 1 rfl ?_
      refine x_iconst (v := (-1 : Int32)) G dX1_cure_83 (by decide) ?_
      refine x_icmp_ne (tgt := 91) G dX1_cure_84 rfl (fun c => ?_) (fun c => ?_)
      · replace h := h.1 c
        refine x_iload G dX1_cure_91 1 rfl ?_
        refine x_put G in_X1 tyX1 tyX1_ok nmX1 1 rfl rfl 5 (by decide) q164 (fun _ h => h) rfl rfl rfl (Nat.le_of_ble_eq_true rfl) rfl dX1_cure_93 ?_
        show X g 8 96 [(7, .int v7_17), (6, .int v6_16), (4, .double r_2), (3, .int r_1), (2, .ref u0), (0, .ref h0), (1, .int p0)] [] [(lg, .inl ((xT g) 6, 12, .inr (.inr (.inr (.inr lgf))))), (h0, .inr (0, [.ref lg, .ref e1, .ref e2, .ref e3, .ref rl, .int v6_16, .ref sh])), (e1, .inr (1, [.ref e1w])), (e1w, .inl ((xT g) 2, 40, .inl w1_3)), (u0, .inr (lci kd, [.ref u0a, .ref u0d, .ref u0g, .int gc, .ref u0m])), (u0a, .inl ((xT g) 1, ln, .inl acc)), (u0d, .inl ((xT g) 1, ln, .inl day)), (u0m, .inl (lamC kd (xT g) ln am))] 0 0
        refine x_iload G dX1_cure_96 1 rfl ?_
        refine x_iconst (v := (-1 : Int32)) G dX1_cure_98 (by decide) ?_
        refine x_icmp_ne (tgt := 106) G dX1_cure_99 rfl (fun c => ?_) (fun c => ?_)
        · replace h := h.1 c
          refine x_iload G dX1_cure_106 1 rfl ?_
          refine x_cPi (As := [.int v6_16]) (rest := []) G (tX1_many G.noTraces h) (lw_S q1489 q1490 q65 q1491) cdX1_many (by decide) (by decide) rfl (Nat.le_of_ble_eq_true rfl) (Nat.le_of_ble_eq_true rfl) (Nat.le_of_ble_eq_true rfl) dX1_cure_108 (fun r_18 h => ?_)
          exact x_reti2 G Q dX1_cure_111 rfl v6_16 w1_3 h (XSub.of [1, 0, 4, 5, 6, 7, 2, 3] rfl (by decide)) (Nat.le_of_ble_eq_true rfl) (Nat.le_of_ble_eq_true rfl)
        · replace h := h.2 c
          refine x_iconst (v := (-1 : Int32)) G dX1_cure_102 (by decide) ?_
          refine x_goto (tgt := 111) G dX1_cure_103 rfl ?_
          exact x_reti2 G Q dX1_cure_111 rfl v6_16 w1_3 h (XSub.of [1, 0, 4, 5, 6, 7, 2, 3] rfl (by decide)) (Nat.le_of_ble_eq_true rfl) (Nat.le_of_ble_eq_true rfl)
      · replace h := h.2 c
        refine x_iconst (v := (0 : Int32)) G dX1_cure_87 (by decide) ?_
        refine x_goto (tgt := 93) G dX1_cure_88 rfl ?_
        refine x_put G in_X1 tyX1 tyX1_ok nmX1 1 rfl rfl 5 (by decide) q164 (fun _ h => h) rfl rfl rfl (Nat.le_of_ble_eq_true rfl) rfl dX1_cure_93 ?_
        show X g 8 96 [(7, .int v7_17), (6, .int v6_16), (4, .double r_2), (3, .int r_1), (2, .ref u0), (0, .ref h0), (1, .int p0)] [] [(lg, .inl ((xT g) 6, 12, .inr (.inr (.inr (.inr lgf))))), (h0, .inr (0, [.ref lg, .ref e1, .ref e2, .ref e3, .ref rl, .int (0 : Int32), .ref sh])), (e1, .inr (1, [.ref e1w])), (e1w, .inl ((xT g) 2, 40, .inl w1_3)), (u0, .inr (lci kd, [.ref u0a, .ref u0d, .ref u0g, .int gc, .ref u0m])), (u0a, .inl ((xT g) 1, ln, .inl acc)), (u0d, .inl ((xT g) 1, ln, .inl day)), (u0m, .inl (lamC kd (xT g) ln am))] 0 0
        refine x_iload G dX1_cure_96 1 rfl ?_
        refine x_iconst (v := (-1 : Int32)) G dX1_cure_98 (by decide) ?_
        refine x_icmp_ne (tgt := 106) G dX1_cure_99 rfl (fun c => ?_) (fun c => ?_)
        · replace h := h.1 c
          refine x_iload G dX1_cure_106 1 rfl ?_
          refine x_cPi (As := [.int v6_16]) (rest := []) G (tX1_many G.noTraces h) (lw_S q1489 q1490 q65 q1491) cdX1_many (by decide) (by decide) rfl (Nat.le_of_ble_eq_true rfl) (Nat.le_of_ble_eq_true rfl) (Nat.le_of_ble_eq_true rfl) dX1_cure_108 (fun r_19 h => ?_)
          exact x_reti2 G Q dX1_cure_111 rfl (0 : Int32) w1_3 h (XSub.of [1, 0, 4, 5, 6, 7, 2, 3] rfl (by decide)) (Nat.le_of_ble_eq_true rfl) (Nat.le_of_ble_eq_true rfl)
        · replace h := h.2 c
          refine x_iconst (v := (-1 : Int32)) G dX1_cure_102 (by decide) ?_
          refine x_goto (tgt := 111) G dX1_cure_103 rfl ?_
          exact x_reti2 G Q dX1_cure_111 rfl (0 : Int32) w1_3 h (XSub.of [1, 0, 4, 5, 6, 7, 2, 3] rfl (by decide)) (Nat.le_of_ble_eq_true rfl) (Nat.le_of_ble_eq_true rfl)
  · replace h := h.2 c
    refine x_bipush (v := (-104 : Int32)) G dX1_cure_18 (by decide) ?_
    exact x_reti2 G Q dX1_cure_20 rfl cur w1 h (XSub.of [0, 1, 6, 7, 2, 3, 4, 5] rfl (by decide)) (Nat.le_of_ble_eq_true rfl) (Nat.le_of_ble_eq_true rfl)
theorem cdX1_quotient : yX1_quotient.cls = RX1 ∧ yX1_quotient.cls ≠ "java/lang/invoke/MethodHandle" ∧ yX1_quotient.cls ≠ "java/lang/invoke/VarHandle" ∧ (parseMethodDescriptor yX1_quotient.desc).map (fun d => d.parameters.length) = some 3 := by decide +kernel
def wX1_quotient_L25 (w1 : Nat → Int32) (w_2 : Nat → Int32) (X94 : Int32 → Int32 → (Nat → Int32) → Prop) : Nat → Int32 → Int32 → (Nat → Int32) → Prop
  | 0, _, _, _ => False
  | n + 1, v4_3, v5_4, w3_5 => ((v5_4 ≤ v4_3 → X94 v4_3 v5_4 w3_5) ∧ (¬ v5_4 ≤ v4_3 → (∀ x_6 : Int32, x_6 = (((v4_3 + v5_4) + (1 : Int32)) / (2 : Int32)) → (wX2_set w3_5 w1 (fun (w_7 : Nat → Int32) => (wX2_times x_6.toInt64 w_7 (fun (w_8 : Nat → Int32) => (wX2_compare w_8 w_2 (fun (r_9 : Int32) => (((0 : Int32) < r_9 → (∀ x_10 : Int32, x_10 = (x_6 - (1 : Int32)) → wX1_quotient_L25 w1 w_2 X94 n v4_3 x_10 w_8)) ∧ (¬ (0 : Int32) < r_9 → wX1_quotient_L25 w1 w_2 X94 n x_6 v5_4 w_8)))))))))))
def wX1_quotient (p1 : Int32) (p2 : Int32) (w1 : Nat → Int32) (w2 : Nat → Int32) (w3 : Nat → Int32) (kd : Bool) (ln : Nat) (acc : Nat → Int32) (day : Nat → Int32) (am : Nat → UInt64) (K : Int32 → (Nat → Int32) → (Nat → Int32) → Prop) : Prop := (wX1_sum p1 (-1 : Int32) w2 kd ln acc day am (fun (w_1 : Nat → Int32) => (wX2_times p2.toInt64 w_1 (fun (w_2 : Nat → Int32) => (∃ m25 : Nat, wX1_quotient_L25 w1 w_2 (fun (v4_14 : Int32) (v5_15 : Int32) (w3_16 : Nat → Int32) => (wX2_set w3_16 w1 (fun (w_17 : Nat → Int32) => (wX2_times v4_14.toInt64 w_17 (fun (w_18 : Nat → Int32) => (wX2_negate w_18 (fun (w_19 : Nat → Int32) => (wX2_add_2 w_2 w_19 (fun (w_20 : Nat → Int32) => K v4_14 w_20 w_19))))))))) m25 (0 : Int32) p2 w3)))))
set_option maxRecDepth 20000 in
theorem kX1_quotient_L25 {g : XG} {h0 : Nat} {lg : Nat} {e1 : Nat} {e2 : Nat} {e3 : Nat} {rl : Nat} {cur : Int32} {sh : Nat} {e1w : Nat} {w1 : Nat → Int32} {e2w : Nat} {e3w : Nat} {q0 : Nat} {kd : Bool} {q0a : Nat} {q0d : Nat} {q0g : Nat} {gc : Int32} {q0m : Nat} {ln : Nat} {acc : Nat → Int32} {day : Nat → Int32} {am : Nat → UInt64} {p1 : Int32} {p2 : Int32} {w_2 : Nat → Int32} {X94 : Int32 → Int32 → (Nat → Int32) → Prop} (G : XO g RX1 cX1_quotient 7 5 0 0) (hX94 : ∀ (v4_11 : Int32) (v5_12 : Int32) (w3_13 : Nat → Int32), X94 v4_11 v5_12 w3_13 → X g 7 94 [(5, .int v5_12), (4, .int v4_11), (0, .ref h0), (1, .ref q0), (2, .int p1), (3, .int p2)] [] [(h0, .inr (0, [.ref lg, .ref e1, .ref e2, .ref e3, .ref rl, .int cur, .ref sh])), (e1, .inr (1, [.ref e1w])), (e1w, .inl ((xT g) 2, 40, .inl w1)), (e3, .inr (1, [.ref e3w])), (e3w, .inl ((xT g) 2, 40, .inl w3_13)), (q0, .inr (lci kd, [.ref q0a, .ref q0d, .ref q0g, .int gc, .ref q0m])), (q0a, .inl ((xT g) 1, ln, .inl acc)), (q0d, .inl ((xT g) 1, ln, .inl day)), (q0m, .inl (lamC kd (xT g) ln am)), (e2, .inr (1, [.ref e2w])), (e2w, .inl ((xT g) 2, 40, .inl w_2))] 0 0) : ∀ (n : Nat) (v4_3 : Int32) (v5_4 : Int32) (w3_5 : Nat → Int32), wX1_quotient_L25 w1 w_2 X94 n v4_3 v5_4 w3_5 → X g 7 25 [(5, .int v5_4), (4, .int v4_3), (0, .ref h0), (1, .ref q0), (2, .int p1), (3, .int p2)] [] [(h0, .inr (0, [.ref lg, .ref e1, .ref e2, .ref e3, .ref rl, .int cur, .ref sh])), (e1, .inr (1, [.ref e1w])), (e1w, .inl ((xT g) 2, 40, .inl w1)), (e3, .inr (1, [.ref e3w])), (e3w, .inl ((xT g) 2, 40, .inl w3_5)), (q0, .inr (lci kd, [.ref q0a, .ref q0d, .ref q0g, .int gc, .ref q0m])), (q0a, .inl ((xT g) 1, ln, .inl acc)), (q0d, .inl ((xT g) 1, ln, .inl day)), (q0m, .inl (lamC kd (xT g) ln am)), (e2, .inr (1, [.ref e2w])), (e2w, .inl ((xT g) 2, 40, .inl w_2))] 0 0 := by
  intro n
  induction n with
  | zero => intro _ _ _ h; exact h.elim
  | succ n ih =>
    intro v4_3 v5_4 w3_5 h
    unfold wX1_quotient_L25 at h
    refine x_iload G dX1_quotient_25 1 rfl ?_
    refine x_iload G dX1_quotient_27 0 rfl ?_
    refine x_icmp_ge (tgt := 94) G dX1_quotient_29 rfl (fun c => ?_) (fun c => ?_)
    · replace h := h.1 c
      exact hX94 v4_3 v5_4 w3_5 h
    · replace h := h.2 c
      refine x_iload G dX1_quotient_32 1 rfl ?_
      refine x_iload G dX1_quotient_34 0 rfl ?_
      refine x_iadd G dX1_quotient_36 ?_
      refine x_iconst (v := (1 : Int32)) G dX1_quotient_37 (by decide) ?_
      refine x_iadd G dX1_quotient_38 ?_
      refine x_iconst (v := (2 : Int32)) G dX1_quotient_39 (by decide) ?_
      refine x_idiv G dX1_quotient_40 (by decide) ?_
      refine x_topi (fun x_6 ex_6 => ?_)
      replace h := h x_6 ex_6
      refine x_istore (lv' := [(6, .int x_6), (5, .int v5_4), (4, .int v4_3), (0, .ref h0), (1, .ref q0), (2, .int p1), (3, .int p2)]) G dX1_quotient_41 (by decide) rfl ?_
      refine x_aload_n G rfl dX1_quotient_43 3 rfl ?_
      refine x_get G in_X1 0 rfl rfl 3 (by decide) q162 (fun _ h => h) rfl dX1_quotient_44 ?_
      refine x_aload_n G rfl dX1_quotient_47 3 rfl ?_
      refine x_get G in_X1 0 rfl rfl 1 (by decide) q160 (fun _ h => h) rfl dX1_quotient_48 ?_
      refine x_cVv1 (wc := [(e3, .inr (1, [.ref e3w])), (e3w, .inl ((xT g) 2, 40, .inl w3_5)), (e1, .inr (1, [.ref e1w])), (e1w, .inl ((xT g) 2, 40, .inl w1))]) (As := [.ref e1]) (rest := []) G [(h0, .inr (0, [.ref lg, .ref e1, .ref e2, .ref e3, .ref rl, .int cur, .ref sh])), (q0, .inr (lci kd, [.ref q0a, .ref q0d, .ref q0g, .int gc, .ref q0m])), (q0a, .inl ((xT g) 1, ln, .inl acc)), (q0d, .inl ((xT g) 1, ln, .inl day)), (q0m, .inl (lamC kd (xT g) ln am)), (e2, .inr (1, [.ref e2w])), (e2w, .inl ((xT g) 2, 40, .inl w_2))] (XSub.of [0, 5, 6, 7, 8, 9, 10, 3, 4, 1, 2] rfl (by decide)) (tX2_set G.noTraces h) (lw_V q343 q344 q345 q66 q346) cdX2_set 1 3 rfl rfl rfl (by decide) (by decide) rfl (Nat.le_of_ble_eq_true rfl) (Nat.le_of_ble_eq_true rfl) (Nat.le_of_ble_eq_true rfl) dX1_quotient_51 (fun w_7 h => ?_)
      show X g 7 54 [(6, .int x_6), (5, .int v5_4), (4, .int v4_3), (0, .ref h0), (1, .ref q0), (2, .int p1), (3, .int p2)] [] [(h0, .inr (0, [.ref lg, .ref e1, .ref e2, .ref e3, .ref rl, .int cur, .ref sh])), (q0, .inr (lci kd, [.ref q0a, .ref q0d, .ref q0g, .int gc, .ref q0m])), (q0a, .inl ((xT g) 1, ln, .inl acc)), (q0d, .inl ((xT g) 1, ln, .inl day)), (q0m, .inl (lamC kd (xT g) ln am)), (e2, .inr (1, [.ref e2w])), (e2w, .inl ((xT g) 2, 40, .inl w_2)), (e3, .inr (1, [.ref e3w])), (e3w, .inl ((xT g) 2, 40, .inl w_7)), (e1, .inr (1, [.ref e1w])), (e1w, .inl ((xT g) 2, 40, .inl w1))] 0 0
      refine x_aload_n G rfl dX1_quotient_54 3 rfl ?_
      refine x_get G in_X1 0 rfl rfl 3 (by decide) q162 (fun _ h => h) rfl dX1_quotient_55 ?_
      refine x_iload G dX1_quotient_58 0 rfl ?_
      refine x_i2l G dX1_quotient_60 ?_
      refine x_cVv1 (wc := [(e3, .inr (1, [.ref e3w])), (e3w, .inl ((xT g) 2, 40, .inl w_7))]) (As := [.long x_6.toInt64]) (rest := []) G [(h0, .inr (0, [.ref lg, .ref e1, .ref e2, .ref e3, .ref rl, .int cur, .ref sh])), (q0, .inr (lci kd, [.ref q0a, .ref q0d, .ref q0g, .int gc, .ref q0m])), (q0a, .inl ((xT g) 1, ln, .inl acc)), (q0d, .inl ((xT g) 1, ln, .inl day)), (q0m, .inl (lamC kd (xT g) ln am)), (e2, .inr (1, [.ref e2w])), (e2w, .inl ((xT g) 2, 40, .inl w_2)), (e1, .inr (1, [.ref e1w])), (e1w, .inl ((xT g) 2, 40, .inl w1))] (XSub.of [0, 1, 2, 3, 4, 5, 6, 9, 10, 7, 8] rfl (by decide)) (tX2_times G.noTraces h) (lw_V q358 q359 q360 q66 q361) cdX2_times 1 7 rfl rfl rfl (by decide) (by decide) rfl (Nat.le_of_ble_eq_true rfl) (Nat.le_of_ble_eq_true rfl) (Nat.le_of_ble_eq_true rfl) dX1_quotient_61 (fun w_8 h => ?_)
      show X g 7 64 [(6, .int x_6), (5, .int v5_4), (4, .int v4_3), (0, .ref h0), (1, .ref q0), (2, .int p1), (3, .int p2)] [] [(h0, .inr (0, [.ref lg, .ref e1, .ref e2, .ref e3, .ref rl, .int cur, .ref sh])), (q0, .inr (lci kd, [.ref q0a, .ref q0d, .ref q0g, .int gc, .ref q0m])), (q0a, .inl ((xT g) 1, ln, .inl acc)), (q0d, .inl ((xT g) 1, ln, .inl day)), (q0m, .inl (lamC kd (xT g) ln am)), (e2, .inr (1, [.ref e2w])), (e2w, .inl ((xT g) 2, 40, .inl w_2)), (e1, .inr (1, [.ref e1w])), (e1w, .inl ((xT g) 2, 40, .inl w1)), (e3, .inr (1, [.ref e3w])), (e3w, .inl ((xT g) 2, 40, .inl w_8))] 0 0
      refine x_aload_n G rfl dX1_quotient_64 3 rfl ?_
      refine x_get G in_X1 0 rfl rfl 3 (by decide) q162 (fun _ h => h) rfl dX1_quotient_65 ?_
      refine x_aload_n G rfl dX1_quotient_68 3 rfl ?_
      refine x_get G in_X1 0 rfl rfl 2 (by decide) q161 (fun _ h => h) rfl dX1_quotient_69 ?_
      refine x_cVi0 (wc := [(e3, .inr (1, [.ref e3w])), (e3w, .inl ((xT g) 2, 40, .inl w_8)), (e2, .inr (1, [.ref e2w])), (e2w, .inl ((xT g) 2, 40, .inl w_2))]) (As := [.ref e2]) (rest := []) G [(h0, .inr (0, [.ref lg, .ref e1, .ref e2, .ref e3, .ref rl, .int cur, .ref sh])), (q0, .inr (lci kd, [.ref q0a, .ref q0d, .ref q0g, .int gc, .ref q0m])), (q0a, .inl ((xT g) 1, ln, .inl acc)), (q0d, .inl ((xT g) 1, ln, .inl day)), (q0m, .inl (lamC kd (xT g) ln am)), (e1, .inr (1, [.ref e1w])), (e1w, .inl ((xT g) 2, 40, .inl w1))] (XSub.of [0, 1, 2, 3, 4, 7, 8, 9, 10, 5, 6] rfl (by decide)) (tX2_compare G.noTraces h) (lw_V q338 q339 q340 q66 q341) cdX2_compare 1 9 rfl rfl rfl (by decide) (by decide) rfl (Nat.le_of_ble_eq_true rfl) (Nat.le_of_ble_eq_true rfl) (Nat.le_of_ble_eq_true rfl) dX1_quotient_72 (fun r_9 h => ?_)
      show X g 7 75 [(6, .int x_6), (5, .int v5_4), (4, .int v4_3), (0, .ref h0), (1, .ref q0), (2, .int p1), (3, .int p2)] [.int r_9] [(h0, .inr (0, [.ref lg, .ref e1, .ref e2, .ref e3, .ref rl, .int cur, .ref sh])), (q0, .inr (lci kd, [.ref q0a, .ref q0d, .ref q0g, .int gc, .ref q0m])), (q0a, .inl ((xT g) 1, ln, .inl acc)), (q0d, .inl ((xT g) 1, ln, .inl day)), (q0m, .inl (lamC kd (xT g) ln am)), (e1, .inr (1, [.ref e1w])), (e1w, .inl ((xT g) 2, 40, .inl w1)), (e3, .inr (1, [.ref e3w])), (e3w, .inl ((xT g) 2, 40, .inl w_8)), (e2, .inr (1, [.ref e2w])), (e2w, .inl ((xT g) 2, 40, .inl w_2))] 0 0
      refine x_if_gt (tgt := 85) G dX1_quotient_75 rfl (fun c => ?_) (fun c => ?_)
      · replace h := h.1 c
        refine x_iload G dX1_quotient_85 0 rfl ?_
        refine x_iconst (v := (1 : Int32)) G dX1_quotient_87 (by decide) ?_
        refine x_isub G dX1_quotient_88 ?_
        refine x_topi (fun x_10 ex_10 => ?_)
        replace h := h x_10 ex_10
        refine x_istore (lv' := [(5, .int x_10), (6, .int x_6), (4, .int v4_3), (0, .ref h0), (1, .ref q0), (2, .int p1), (3, .int p2)]) G dX1_quotient_89 (by decide) rfl ?_
        refine x_goto (tgt := 25) G dX1_quotient_91 rfl ?_
        refine x_lv (lv' := [(5, .int x_10), (4, .int v4_3), (0, .ref h0), (1, .ref q0), (2, .int p1), (3, .int p2)]) [0, 2, 3, 4, 5, 6] rfl ?_
        refine x_ws (ws' := [(h0, .inr (0, [.ref lg, .ref e1, .ref e2, .ref e3, .ref rl, .int cur, .ref sh])), (e1, .inr (1, [.ref e1w])), (e1w, .inl ((xT g) 2, 40, .inl w1)), (e3, .inr (1, [.ref e3w])), (e3w, .inl ((xT g) 2, 40, .inl w_8)), (q0, .inr (lci kd, [.ref q0a, .ref q0d, .ref q0g, .int gc, .ref q0m])), (q0a, .inl ((xT g) 1, ln, .inl acc)), (q0d, .inl ((xT g) 1, ln, .inl day)), (q0m, .inl (lamC kd (xT g) ln am)), (e2, .inr (1, [.ref e2w])), (e2w, .inl ((xT g) 2, 40, .inl w_2))]) (XSub.of [0, 5, 6, 7, 8, 1, 2, 3, 4, 9, 10] rfl (by decide)) ?_
        exact ih v4_3 x_10 w_8 h
      · replace h := h.2 c
        refine x_iload G dX1_quotient_78 0 rfl ?_
        refine x_istore (lv' := [(4, .int x_6), (6, .int x_6), (5, .int v5_4), (0, .ref h0), (1, .ref q0), (2, .int p1), (3, .int p2)]) G dX1_quotient_80 (by decide) rfl ?_
        refine x_goto (tgt := 91) G dX1_quotient_82 rfl ?_
        refine x_goto (tgt := 25) G dX1_quotient_91 rfl ?_
        refine x_lv (lv' := [(5, .int v5_4), (4, .int x_6), (0, .ref h0), (1, .ref q0), (2, .int p1), (3, .int p2)]) [2, 0, 3, 4, 5, 6] rfl ?_
        refine x_ws (ws' := [(h0, .inr (0, [.ref lg, .ref e1, .ref e2, .ref e3, .ref rl, .int cur, .ref sh])), (e1, .inr (1, [.ref e1w])), (e1w, .inl ((xT g) 2, 40, .inl w1)), (e3, .inr (1, [.ref e3w])), (e3w, .inl ((xT g) 2, 40, .inl w_8)), (q0, .inr (lci kd, [.ref q0a, .ref q0d, .ref q0g, .int gc, .ref q0m])), (q0a, .inl ((xT g) 1, ln, .inl acc)), (q0d, .inl ((xT g) 1, ln, .inl day)), (q0m, .inl (lamC kd (xT g) ln am)), (e2, .inr (1, [.ref e2w])), (e2w, .inl ((xT g) 2, 40, .inl w_2))]) (XSub.of [0, 5, 6, 7, 8, 1, 2, 3, 4, 9, 10] rfl (by decide)) ?_
        exact ih x_6 v5_4 w_8 h
set_option maxRecDepth 20000 in
theorem tX1_quotient {l : Launch} {D : va_G} {ta : Nat → ClassId} {h0 : Nat} {lg : Nat} {e1 : Nat} {e2 : Nat} {e3 : Nat} {rl : Nat} {cur : Int32} {sh : Nat} {e1w : Nat} {w1 : Nat → Int32} {e2w : Nat} {w2 : Nat → Int32} {e3w : Nat} {w3 : Nat → Int32} {q0 : Nat} {kd : Bool} {q0a : Nat} {q0d : Nat} {q0g : Nat} {gc : Int32} {q0m : Nat} {ln : Nat} {acc : Nat → Int32} {day : Nat → Int32} {am : Nat → UInt64} {p1 : Int32} {p2 : Int32} {K : Int32 → (Nat → Int32) → (Nat → Int32) → Prop} (hlt : l.stackTraces = false) (h : wX1_quotient p1 p2 w1 w2 w3 kd ln acc day am K) : SMi2 l D ta yX1_quotient cX1_quotient 7 FieldType.int 5 [.ref h0, .ref q0, .int p1, .int p2] [(h0, .inr (0, [.ref lg, .ref e1, .ref e2, .ref e3, .ref rl, .int cur, .ref sh])), (e1, .inr (1, [.ref e1w])), (e1w, .inl (ta 2, 40, .inl w1)), (e2, .inr (1, [.ref e2w])), (e2w, .inl (ta 2, 40, .inl w2)), (e3, .inr (1, [.ref e3w])), (e3w, .inl (ta 2, 40, .inl w3)), (q0, .inr (lci kd, [.ref q0a, .ref q0d, .ref q0g, .int gc, .ref q0m])), (q0a, .inl (ta 1, ln, .inl acc)), (q0d, .inl (ta 1, ln, .inl day)), (q0m, .inl (lamC kd ta ln am))] (fun (w2' : Nat → Int32) (w3' : Nat → Int32) => [(h0, .inr (0, [.ref lg, .ref e1, .ref e2, .ref e3, .ref rl, .int cur, .ref sh])), (e1, .inr (1, [.ref e1w])), (e1w, .inl (ta 2, 40, .inl w1)), (e2, .inr (1, [.ref e2w])), (e2w, .inl (ta 2, 40, .inl w2')), (e3, .inr (1, [.ref e3w])), (e3w, .inl (ta 2, 40, .inl w3')), (q0, .inr (lci kd, [.ref q0a, .ref q0d, .ref q0g, .int gc, .ref q0m])), (q0a, .inl (ta 1, ln, .inl acc)), (q0d, .inl (ta 1, ln, .inl day)), (q0m, .inl (lamC kd ta ln am))]) 0 0 K := by
  refine x_sti2 hlt (plainFor_of_name (by decide +kernel)) (Nat.le_of_ble_eq_true rfl) (fun g G hl hD hT Q => ?_)
  subst hl; subst hD; subst hT
  unfold wX1_quotient at h
  show X g 7 0 [(0, .ref h0), (1, .ref q0), (2, .int p1), (3, .int p2)] [] [(h0, .inr (0, [.ref lg, .ref e1, .ref e2, .ref e3, .ref rl, .int cur, .ref sh])), (e1, .inr (1, [.ref e1w])), (e1w, .inl ((xT g) 2, 40, .inl w1)), (e2, .inr (1, [.ref e2w])), (e2w, .inl ((xT g) 2, 40, .inl w2)), (e3, .inr (1, [.ref e3w])), (e3w, .inl ((xT g) 2, 40, .inl w3)), (q0, .inr (lci kd, [.ref q0a, .ref q0d, .ref q0g, .int gc, .ref q0m])), (q0a, .inl ((xT g) 1, ln, .inl acc)), (q0d, .inl ((xT g) 1, ln, .inl day)), (q0m, .inl (lamC kd (xT g) ln am))] 0 0
  refine x_aload_n G rfl dX1_quotient_0 0 rfl ?_
  refine x_get G in_X1 0 rfl rfl 2 (by decide) q161 (fun _ h => h) rfl dX1_quotient_1 ?_
  refine x_aload_n G rfl dX1_quotient_4 1 rfl ?_
  refine x_iload_n G rfl dX1_quotient_5 2 rfl ?_
  refine x_iconst (v := (-1 : Int32)) G dX1_quotient_6 (by decide) ?_
  refine x_cSv1 (wc := [(e2, .inr (1, [.ref e2w])), (e2w, .inl ((xT g) 2, 40, .inl w2)), (q0, .inr (lci kd, [.ref q0a, .ref q0d, .ref q0g, .int gc, .ref q0m])), (q0a, .inl ((xT g) 1, ln, .inl acc)), (q0d, .inl ((xT g) 1, ln, .inl day)), (q0m, .inl (lamC kd (xT g) ln am))]) (As := [.ref e2, .ref q0, .int p1, .int (-1 : Int32)]) (rest := []) G [(h0, .inr (0, [.ref lg, .ref e1, .ref e2, .ref e3, .ref rl, .int cur, .ref sh])), (e1, .inr (1, [.ref e1w])), (e1w, .inl ((xT g) 2, 40, .inl w1)), (e3, .inr (1, [.ref e3w])), (e3w, .inl ((xT g) 2, 40, .inl w3))] (XSub.of [0, 1, 2, 5, 6, 3, 4, 7, 8, 9, 10] rfl (by decide)) (tX1_sum G.noTraces h) (lw_S q1375 q1376 q65 q1377) cdX1_sum (by decide) (by decide) rfl (Nat.le_of_ble_eq_true rfl) (Nat.le_of_ble_eq_true rfl) (Nat.le_of_ble_eq_true rfl) dX1_quotient_7 (fun w_1 h => ?_)
  show X g 7 10 [(0, .ref h0), (1, .ref q0), (2, .int p1), (3, .int p2)] [] [(h0, .inr (0, [.ref lg, .ref e1, .ref e2, .ref e3, .ref rl, .int cur, .ref sh])), (e1, .inr (1, [.ref e1w])), (e1w, .inl ((xT g) 2, 40, .inl w1)), (e3, .inr (1, [.ref e3w])), (e3w, .inl ((xT g) 2, 40, .inl w3)), (e2, .inr (1, [.ref e2w])), (e2w, .inl ((xT g) 2, 40, .inl w_1)), (q0, .inr (lci kd, [.ref q0a, .ref q0d, .ref q0g, .int gc, .ref q0m])), (q0a, .inl ((xT g) 1, ln, .inl acc)), (q0d, .inl ((xT g) 1, ln, .inl day)), (q0m, .inl (lamC kd (xT g) ln am))] 0 0
  refine x_aload_n G rfl dX1_quotient_10 0 rfl ?_
  refine x_get G in_X1 0 rfl rfl 2 (by decide) q161 (fun _ h => h) rfl dX1_quotient_11 ?_
  refine x_iload_n G rfl dX1_quotient_14 3 rfl ?_
  refine x_i2l G dX1_quotient_15 ?_
  refine x_cVv1 (wc := [(e2, .inr (1, [.ref e2w])), (e2w, .inl ((xT g) 2, 40, .inl w_1))]) (As := [.long p2.toInt64]) (rest := []) G [(h0, .inr (0, [.ref lg, .ref e1, .ref e2, .ref e3, .ref rl, .int cur, .ref sh])), (e1, .inr (1, [.ref e1w])), (e1w, .inl ((xT g) 2, 40, .inl w1)), (e3, .inr (1, [.ref e3w])), (e3w, .inl ((xT g) 2, 40, .inl w3)), (q0, .inr (lci kd, [.ref q0a, .ref q0d, .ref q0g, .int gc, .ref q0m])), (q0a, .inl ((xT g) 1, ln, .inl acc)), (q0d, .inl ((xT g) 1, ln, .inl day)), (q0m, .inl (lamC kd (xT g) ln am))] (XSub.of [0, 1, 2, 3, 4, 7, 8, 9, 10, 5, 6] rfl (by decide)) (tX2_times G.noTraces h) (lw_V q358 q359 q360 q66 q361) cdX2_times 1 5 rfl rfl rfl (by decide) (by decide) rfl (Nat.le_of_ble_eq_true rfl) (Nat.le_of_ble_eq_true rfl) (Nat.le_of_ble_eq_true rfl) dX1_quotient_16 (fun w_2 h => ?_)
  show X g 7 19 [(0, .ref h0), (1, .ref q0), (2, .int p1), (3, .int p2)] [] [(h0, .inr (0, [.ref lg, .ref e1, .ref e2, .ref e3, .ref rl, .int cur, .ref sh])), (e1, .inr (1, [.ref e1w])), (e1w, .inl ((xT g) 2, 40, .inl w1)), (e3, .inr (1, [.ref e3w])), (e3w, .inl ((xT g) 2, 40, .inl w3)), (q0, .inr (lci kd, [.ref q0a, .ref q0d, .ref q0g, .int gc, .ref q0m])), (q0a, .inl ((xT g) 1, ln, .inl acc)), (q0d, .inl ((xT g) 1, ln, .inl day)), (q0m, .inl (lamC kd (xT g) ln am)), (e2, .inr (1, [.ref e2w])), (e2w, .inl ((xT g) 2, 40, .inl w_2))] 0 0
  refine x_iconst (v := (0 : Int32)) G dX1_quotient_19 (by decide) ?_
  refine x_istore (lv' := [(4, .int (0 : Int32)), (0, .ref h0), (1, .ref q0), (2, .int p1), (3, .int p2)]) G dX1_quotient_20 (by decide) rfl ?_
  refine x_iload_n G rfl dX1_quotient_22 4 rfl ?_
  refine x_istore (lv' := [(5, .int p2), (4, .int (0 : Int32)), (0, .ref h0), (1, .ref q0), (2, .int p1), (3, .int p2)]) G dX1_quotient_23 (by decide) rfl ?_
  obtain ⟨n0, h⟩ := h
  refine kX1_quotient_L25 G (fun v4_14 v5_15 w3_16 h => ?_) n0 _ _ _ h
  · refine x_aload_n G rfl dX1_quotient_94 2 rfl ?_
    refine x_get G in_X1 0 rfl rfl 3 (by decide) q162 (fun _ h => h) rfl dX1_quotient_95 ?_
    refine x_aload_n G rfl dX1_quotient_98 2 rfl ?_
    refine x_get G in_X1 0 rfl rfl 1 (by decide) q160 (fun _ h => h) rfl dX1_quotient_99 ?_
    refine x_cVv1 (wc := [(e3, .inr (1, [.ref e3w])), (e3w, .inl ((xT g) 2, 40, .inl w3_16)), (e1, .inr (1, [.ref e1w])), (e1w, .inl ((xT g) 2, 40, .inl w1))]) (As := [.ref e1]) (rest := []) G [(h0, .inr (0, [.ref lg, .ref e1, .ref e2, .ref e3, .ref rl, .int cur, .ref sh])), (q0, .inr (lci kd, [.ref q0a, .ref q0d, .ref q0g, .int gc, .ref q0m])), (q0a, .inl ((xT g) 1, ln, .inl acc)), (q0d, .inl ((xT g) 1, ln, .inl day)), (q0m, .inl (lamC kd (xT g) ln am)), (e2, .inr (1, [.ref e2w])), (e2w, .inl ((xT g) 2, 40, .inl w_2))] (XSub.of [0, 5, 6, 7, 8, 9, 10, 3, 4, 1, 2] rfl (by decide)) (tX2_set G.noTraces h) (lw_V q343 q344 q345 q66 q346) cdX2_set 1 3 rfl rfl rfl (by decide) (by decide) rfl (Nat.le_of_ble_eq_true rfl) (Nat.le_of_ble_eq_true rfl) (Nat.le_of_ble_eq_true rfl) dX1_quotient_102 (fun w_17 h => ?_)
    show X g 7 105 [(5, .int v5_15), (4, .int v4_14), (0, .ref h0), (1, .ref q0), (2, .int p1), (3, .int p2)] [] [(h0, .inr (0, [.ref lg, .ref e1, .ref e2, .ref e3, .ref rl, .int cur, .ref sh])), (q0, .inr (lci kd, [.ref q0a, .ref q0d, .ref q0g, .int gc, .ref q0m])), (q0a, .inl ((xT g) 1, ln, .inl acc)), (q0d, .inl ((xT g) 1, ln, .inl day)), (q0m, .inl (lamC kd (xT g) ln am)), (e2, .inr (1, [.ref e2w])), (e2w, .inl ((xT g) 2, 40, .inl w_2)), (e3, .inr (1, [.ref e3w])), (e3w, .inl ((xT g) 2, 40, .inl w_17)), (e1, .inr (1, [.ref e1w])), (e1w, .inl ((xT g) 2, 40, .inl w1))] 0 0
    refine x_aload_n G rfl dX1_quotient_105 2 rfl ?_
    refine x_get G in_X1 0 rfl rfl 3 (by decide) q162 (fun _ h => h) rfl dX1_quotient_106 ?_
    refine x_iload G dX1_quotient_109 1 rfl ?_
    refine x_i2l G dX1_quotient_111 ?_
    refine x_cVv1 (wc := [(e3, .inr (1, [.ref e3w])), (e3w, .inl ((xT g) 2, 40, .inl w_17))]) (As := [.long v4_14.toInt64]) (rest := []) G [(h0, .inr (0, [.ref lg, .ref e1, .ref e2, .ref e3, .ref rl, .int cur, .ref sh])), (q0, .inr (lci kd, [.ref q0a, .ref q0d, .ref q0g, .int gc, .ref q0m])), (q0a, .inl ((xT g) 1, ln, .inl acc)), (q0d, .inl ((xT g) 1, ln, .inl day)), (q0m, .inl (lamC kd (xT g) ln am)), (e2, .inr (1, [.ref e2w])), (e2w, .inl ((xT g) 2, 40, .inl w_2)), (e1, .inr (1, [.ref e1w])), (e1w, .inl ((xT g) 2, 40, .inl w1))] (XSub.of [0, 1, 2, 3, 4, 5, 6, 9, 10, 7, 8] rfl (by decide)) (tX2_times G.noTraces h) (lw_V q358 q359 q360 q66 q361) cdX2_times 1 7 rfl rfl rfl (by decide) (by decide) rfl (Nat.le_of_ble_eq_true rfl) (Nat.le_of_ble_eq_true rfl) (Nat.le_of_ble_eq_true rfl) dX1_quotient_112 (fun w_18 h => ?_)
    show X g 7 115 [(5, .int v5_15), (4, .int v4_14), (0, .ref h0), (1, .ref q0), (2, .int p1), (3, .int p2)] [] [(h0, .inr (0, [.ref lg, .ref e1, .ref e2, .ref e3, .ref rl, .int cur, .ref sh])), (q0, .inr (lci kd, [.ref q0a, .ref q0d, .ref q0g, .int gc, .ref q0m])), (q0a, .inl ((xT g) 1, ln, .inl acc)), (q0d, .inl ((xT g) 1, ln, .inl day)), (q0m, .inl (lamC kd (xT g) ln am)), (e2, .inr (1, [.ref e2w])), (e2w, .inl ((xT g) 2, 40, .inl w_2)), (e1, .inr (1, [.ref e1w])), (e1w, .inl ((xT g) 2, 40, .inl w1)), (e3, .inr (1, [.ref e3w])), (e3w, .inl ((xT g) 2, 40, .inl w_18))] 0 0
    refine x_aload_n G rfl dX1_quotient_115 2 rfl ?_
    refine x_get G in_X1 0 rfl rfl 3 (by decide) q162 (fun _ h => h) rfl dX1_quotient_116 ?_
    refine x_cVv1 (wc := [(e3, .inr (1, [.ref e3w])), (e3w, .inl ((xT g) 2, 40, .inl w_18))]) (As := []) (rest := []) G [(h0, .inr (0, [.ref lg, .ref e1, .ref e2, .ref e3, .ref rl, .int cur, .ref sh])), (q0, .inr (lci kd, [.ref q0a, .ref q0d, .ref q0g, .int gc, .ref q0m])), (q0a, .inl ((xT g) 1, ln, .inl acc)), (q0d, .inl ((xT g) 1, ln, .inl day)), (q0m, .inl (lamC kd (xT g) ln am)), (e2, .inr (1, [.ref e2w])), (e2w, .inl ((xT g) 2, 40, .inl w_2)), (e1, .inr (1, [.ref e1w])), (e1w, .inl ((xT g) 2, 40, .inl w1))] (XSub.of [0, 1, 2, 3, 4, 5, 6, 7, 8, 9, 10] rfl (by decide)) (tX2_negate G.noTraces h) (lw_V q337 q290 q291 q66 q292) cdX2_negate 1 9 rfl rfl rfl (by decide) (by decide) rfl (Nat.le_of_ble_eq_true rfl) (Nat.le_of_ble_eq_true rfl) (Nat.le_of_ble_eq_true rfl) dX1_quotient_119 (fun w_19 h => ?_)
    show X g 7 122 [(5, .int v5_15), (4, .int v4_14), (0, .ref h0), (1, .ref q0), (2, .int p1), (3, .int p2)] [] [(h0, .inr (0, [.ref lg, .ref e1, .ref e2, .ref e3, .ref rl, .int cur, .ref sh])), (q0, .inr (lci kd, [.ref q0a, .ref q0d, .ref q0g, .int gc, .ref q0m])), (q0a, .inl ((xT g) 1, ln, .inl acc)), (q0d, .inl ((xT g) 1, ln, .inl day)), (q0m, .inl (lamC kd (xT g) ln am)), (e2, .inr (1, [.ref e2w])), (e2w, .inl ((xT g) 2, 40, .inl w_2)), (e1, .inr (1, [.ref e1w])), (e1w, .inl ((xT g) 2, 40, .inl w1)), (e3, .inr (1, [.ref e3w])), (e3w, .inl ((xT g) 2, 40, .inl w_19))] 0 0
    refine x_aload_n G rfl dX1_quotient_122 2 rfl ?_
    refine x_get G in_X1 0 rfl rfl 2 (by decide) q161 (fun _ h => h) rfl dX1_quotient_123 ?_
    refine x_aload_n G rfl dX1_quotient_126 2 rfl ?_
    refine x_get G in_X1 0 rfl rfl 3 (by decide) q162 (fun _ h => h) rfl dX1_quotient_127 ?_
    refine x_cVv1 (wc := [(e2, .inr (1, [.ref e2w])), (e2w, .inl ((xT g) 2, 40, .inl w_2)), (e3, .inr (1, [.ref e3w])), (e3w, .inl ((xT g) 2, 40, .inl w_19))]) (As := [.ref e3]) (rest := []) G [(h0, .inr (0, [.ref lg, .ref e1, .ref e2, .ref e3, .ref rl, .int cur, .ref sh])), (q0, .inr (lci kd, [.ref q0a, .ref q0d, .ref q0g, .int gc, .ref q0m])), (q0a, .inl ((xT g) 1, ln, .inl acc)), (q0d, .inl ((xT g) 1, ln, .inl day)), (q0m, .inl (lamC kd (xT g) ln am)), (e1, .inr (1, [.ref e1w])), (e1w, .inl ((xT g) 2, 40, .inl w1))] (XSub.of [0, 1, 2, 3, 4, 7, 8, 5, 6, 9, 10] rfl (by decide)) (tX2_add_2 G.noTraces h) (lw_V q1515 q1516 q1517 q66 q1518) cdX2_add_2 1 5 rfl rfl rfl (by decide) (by decide) rfl (Nat.le_of_ble_eq_true rfl) (Nat.le_of_ble_eq_true rfl) (Nat.le_of_ble_eq_true rfl) dX1_quotient_130 (fun w_20 h => ?_)
    show X g 7 133 [(5, .int v5_15), (4, .int v4_14), (0, .ref h0), (1, .ref q0), (2, .int p1), (3, .int p2)] [] [(h0, .inr (0, [.ref lg, .ref e1, .ref e2, .ref e3, .ref rl, .int cur, .ref sh])), (q0, .inr (lci kd, [.ref q0a, .ref q0d, .ref q0g, .int gc, .ref q0m])), (q0a, .inl ((xT g) 1, ln, .inl acc)), (q0d, .inl ((xT g) 1, ln, .inl day)), (q0m, .inl (lamC kd (xT g) ln am)), (e1, .inr (1, [.ref e1w])), (e1w, .inl ((xT g) 2, 40, .inl w1)), (e2, .inr (1, [.ref e2w])), (e2w, .inl ((xT g) 2, 40, .inl w_20)), (e3, .inr (1, [.ref e3w])), (e3w, .inl ((xT g) 2, 40, .inl w_19))] 0 0
    refine x_iload G dX1_quotient_133 1 rfl ?_
    exact x_reti2 G Q dX1_quotient_135 rfl w_20 w_19 h (XSub.of [0, 5, 6, 7, 8, 9, 10, 1, 2, 3, 4] rfl (by decide)) (Nat.le_of_ble_eq_true rfl) (Nat.le_of_ble_eq_true rfl)
