/-! the ways: makers, orders. Printed by gen/ways.py -/
theorem cdX26_less : yX26_less.cls = RX26 ∧ yX26_less.cls ≠ "java/lang/invoke/MethodHandle" ∧ yX26_less.cls ≠ "java/lang/invoke/VarHandle" ∧ (parseMethodDescriptor yX26_less.desc).map (fun d => d.parameters.length) = some 2 := by decide +kernel
def wX26_less (p0 : UInt64) (p1 : UInt64) (kd : Bool) (K : UInt64 → Prop) : Prop := (wL_add kd p0 (FP.dneg p1) (fun (r_1 : UInt64) => K r_1))
set_option maxRecDepth 20000 in
theorem tX26_less {l : Launch} {D : va_G} {ta : Nat → ClassId} {h0 : Nat} {kd : Bool} {h0a : Nat} {h0d : Nat} {h0g : Nat} {gc : Int32} {h0m : Nat} {p0 : UInt64} {p1 : UInt64} {K : UInt64 → Prop} (hlt : l.stackTraces = false) (h : wX26_less p0 p1 kd K) : SMd0 l D ta yX26_less cX26_less 5 FieldType.double 2 [.ref h0, .double p0, .double p1] [(h0, .inr (lci kd, [.ref h0a, .ref h0d, .ref h0g, .int gc, .ref h0m]))] ([(h0, .inr (lci kd, [.ref h0a, .ref h0d, .ref h0g, .int gc, .ref h0m]))]) 0 0 K := by
  refine x_std0 hlt (plainFor_of_name (by decide +kernel)) (Nat.le_of_ble_eq_true rfl) (fun g G hl hD hT Q => ?_)
  subst hl; subst hD; subst hT
  unfold wX26_less at h
  show X g 5 0 [(0, .ref h0), (1, .double p0), (3, .double p1)] [] [(h0, .inr (lci kd, [.ref h0a, .ref h0d, .ref h0g, .int gc, .ref h0m]))] 0 0
  refine x_aload_n G rfl dX26_less_0 0 rfl ?_
  refine x_dload_n G rfl dX26_less_1 1 rfl ?_
  refine x_dload_n G rfl dX26_less_2 2 rfl ?_
  refine x_dneg G dX26_less_3 ?_
  refine x_cFd0 (C := lnm kd) (x := ⟨"RoundingAuditor$Adder", "add", "(DD)D"⟩) (wc := []) (As := [.double p0, .double (FP.dneg p1)]) (rest := []) G [(h0, .inr (lci kd, [.ref h0a, .ref h0d, .ref h0g, .int gc, .ref h0m]))] (XSub.of [0] rfl (by decide)) (tL_add kd G.noTraces h) q1239 (sL_Add kd) (hL_add kd).1 (hL_add kd).2.1 (hL_add kd).2.2.1 (lnm_add kd) cdL_Add (lci kd) 0 (lci_at kd) rfl rfl (by decide) (hL_add _).2.2.2 rfl (Nat.le_of_ble_eq_true rfl) (Nat.le_of_ble_eq_true rfl) (Nat.le_of_ble_eq_true rfl) dX26_less_4 (fun r_1 h => ?_)
  show X g 5 9 [(0, .ref h0), (1, .double p0), (3, .double p1)] [.double r_1] [(h0, .inr (lci kd, [.ref h0a, .ref h0d, .ref h0g, .int gc, .ref h0m]))] 0 0
  exact x_retd0 G Q dX26_less_9  h XSub.rf (Nat.le_of_ble_eq_true rfl) (Nat.le_of_ble_eq_true rfl)
theorem cdX9_add : yX9_add.cls = RX9 ∧ yX9_add.cls ≠ "java/lang/invoke/MethodHandle" ∧ yX9_add.cls ≠ "java/lang/invoke/VarHandle" ∧ (parseMethodDescriptor yX9_add.desc).map (fun d => d.parameters.length) = some 4 := by decide +kernel
def wX9_add (p1 : UInt64) (p2 : UInt64) (kd : Bool) (tc : Int32) (tn : Nat) (tl : Nat → UInt64) (tr : Nat → UInt64) (ts : Nat → UInt64) (K : UInt64 → Int32 → (Nat → UInt64) → (Nat → UInt64) → (Nat → UInt64) → Prop) : Prop := (wL_add kd p1 p2 (fun (r_1 : UInt64) => (wX8_tell p1 p2 r_1 tc tn tl tr ts (fun (r_2 : UInt64) (tc_3 : Int32) (tl_4 : Nat → UInt64) (tr_5 : Nat → UInt64) (ts_6 : Nat → UInt64) => K r_2 tc_3 tl_4 tr_5 ts_6))))
set_option maxRecDepth 20000 in
theorem tX9_add {l : Launch} {D : va_G} {ta : Nat → ClassId} {q0 : Nat} {kd : Bool} {q0a : Nat} {q0d : Nat} {q0g : Nat} {gc : Int32} {q0m : Nat} {q3 : Nat} {tw : Int32} {ty : Int32} {q3l : Nat} {q3r : Nat} {q3s : Nat} {tc : Int32} {tt : UInt64} {tn : Nat} {tl : Nat → UInt64} {tr : Nat → UInt64} {ts : Nat → UInt64} {h0 : Nat} {p1 : UInt64} {p2 : UInt64} {K : UInt64 → Int32 → (Nat → UInt64) → (Nat → UInt64) → (Nat → UInt64) → Prop} (hlt : l.stackTraces = false) (h : wX9_add p1 p2 kd tc tn tl tr ts K) : SMd4 l D ta yX9_add cX9_add 7 FieldType.double 2 [.ref h0, .ref q0, .double p1, .double p2, .ref q3] [(q0, .inr (lci kd, [.ref q0a, .ref q0d, .ref q0g, .int gc, .ref q0m])), (q3, .inr (7, [.int tw, .int ty, .ref q3l, .ref q3r, .ref q3s, .int tc, .double tt])), (q3l, .inl (ta 5, tn, .inr (.inr (.inr (.inl tl))))), (q3r, .inl (ta 5, tn, .inr (.inr (.inr (.inl tr))))), (q3s, .inl (ta 5, tn, .inr (.inr (.inr (.inl ts)))))] (fun (tc' : Int32) (tl' : Nat → UInt64) (tr' : Nat → UInt64) (ts' : Nat → UInt64) => [(q0, .inr (lci kd, [.ref q0a, .ref q0d, .ref q0g, .int gc, .ref q0m])), (q3, .inr (7, [.int tw, .int ty, .ref q3l, .ref q3r, .ref q3s, .int tc', .double tt])), (q3l, .inl (ta 5, tn, .inr (.inr (.inr (.inl tl'))))), (q3r, .inl (ta 5, tn, .inr (.inr (.inr (.inl tr'))))), (q3s, .inl (ta 5, tn, .inr (.inr (.inr (.inl ts')))))]) 0 0 K := by
  refine x_std4 hlt (plainFor_of_name (by decide +kernel)) (Nat.le_of_ble_eq_true rfl) (fun g G hl hD hT Q => ?_)
  subst hl; subst hD; subst hT
  unfold wX9_add at h
  show X g 7 0 [(0, .ref h0), (1, .ref q0), (2, .double p1), (4, .double p2), (6, .ref q3)] [] [(q0, .inr (lci kd, [.ref q0a, .ref q0d, .ref q0g, .int gc, .ref q0m])), (q3, .inr (7, [.int tw, .int ty, .ref q3l, .ref q3r, .ref q3s, .int tc, .double tt])), (q3l, .inl ((xT g) 5, tn, .inr (.inr (.inr (.inl tl))))), (q3r, .inl ((xT g) 5, tn, .inr (.inr (.inr (.inl tr))))), (q3s, .inl ((xT g) 5, tn, .inr (.inr (.inr (.inl ts)))))] 0 0
  refine x_aload G dX9_add_0 4 rfl ?_
  refine x_dload_n G rfl dX9_add_2 2 rfl ?_
  refine x_dload G dX9_add_3 3 rfl ?_
  refine x_aload_n G rfl dX9_add_5 1 rfl ?_
  refine x_dload_n G rfl dX9_add_6 2 rfl ?_
  refine x_dload G dX9_add_7 3 rfl ?_
  refine x_cU9d0 (C := lnm kd) (owner := "RoundingAuditor$Adder") (x := ⟨"RoundingAuditor$Ledger", "add", "(DD)D"⟩) (wc := []) (As := [.double p1, .double p2]) (rest := [.double p2, .double p1, .ref q3]) G [(q0, .inr (lci kd, [.ref q0a, .ref q0d, .ref q0g, .int gc, .ref q0m])), (q3, .inr (7, [.int tw, .int ty, .ref q3l, .ref q3r, .ref q3s, .int tc, .double tt])), (q3l, .inl ((xT g) 5, tn, .inr (.inr (.inr (.inl tl))))), (q3r, .inl ((xT g) 5, tn, .inr (.inr (.inr (.inl tr))))), (q3s, .inl ((xT g) 5, tn, .inr (.inr (.inr (.inl ts)))))] (XSub.of [0, 1, 2, 3, 4] rfl (by decide)) (tL_add kd G.noTraces h) (G.E.2.1.2.2.2.2.2.2.2.2.2.2 _ (by decide +kernel)) (G.E.2.1.2.2.2.2.2.2.2.2.2.2 _ (by decide +kernel)) (lnm_add kd) (va_Decl.abs (G.E.2.1.2.2.1 _ (by decide +kernel))) (sL_Add kd) (hL_add kd).1 (hL_add kd).2.1 (hL_add kd).2.2.1 cdL_Add (lci kd) 0 (lci_at kd) rfl rfl (by decide) (hL_add _).2.2.2 rfl (Nat.le_of_ble_eq_true rfl) (Nat.le_of_ble_eq_true rfl) (Nat.le_of_ble_eq_true rfl) dX9_add_9 (fun r_1 h => ?_)
  show X g 7 12 [(0, .ref h0), (1, .ref q0), (2, .double p1), (4, .double p2), (6, .ref q3)] [.double r_1, .double p2, .double p1, .ref q3] [(q0, .inr (lci kd, [.ref q0a, .ref q0d, .ref q0g, .int gc, .ref q0m])), (q3, .inr (7, [.int tw, .int ty, .ref q3l, .ref q3r, .ref q3s, .int tc, .double tt])), (q3l, .inl ((xT g) 5, tn, .inr (.inr (.inr (.inl tl))))), (q3r, .inl ((xT g) 5, tn, .inr (.inr (.inr (.inl tr))))), (q3s, .inl ((xT g) 5, tn, .inr (.inr (.inr (.inl ts)))))] 0 0
  refine x_cVd4 (wc := [(q3, .inr (7, [.int tw, .int ty, .ref q3l, .ref q3r, .ref q3s, .int tc, .double tt])), (q3l, .inl ((xT g) 5, tn, .inr (.inr (.inr (.inl tl))))), (q3r, .inl ((xT g) 5, tn, .inr (.inr (.inr (.inl tr))))), (q3s, .inl ((xT g) 5, tn, .inr (.inr (.inr (.inl ts)))))]) (As := [.double p1, .double p2, .double r_1]) (rest := []) G [(q0, .inr (lci kd, [.ref q0a, .ref q0d, .ref q0g, .int gc, .ref q0m]))] (XSub.of [0, 1, 2, 3, 4] rfl (by decide)) (tX8_tell G.noTraces h) (lw_V q1154 q1155 q1156 q89 q1157) cdX8_tell 7 1 rfl rfl rfl (by decide) (by decide) rfl (Nat.le_of_ble_eq_true rfl) (Nat.le_of_ble_eq_true rfl) (Nat.le_of_ble_eq_true rfl) dX9_add_12 (fun r_2 tc_3 tl_4 tr_5 ts_6 h => ?_)
  show X g 7 15 [(0, .ref h0), (1, .ref q0), (2, .double p1), (4, .double p2), (6, .ref q3)] [.double r_2] [(q0, .inr (lci kd, [.ref q0a, .ref q0d, .ref q0g, .int gc, .ref q0m])), (q3, .inr (7, [.int tw, .int ty, .ref q3l, .ref q3r, .ref q3s, .int tc_3, .double tt])), (q3l, .inl ((xT g) 5, tn, .inr (.inr (.inr (.inl tl_4))))), (q3r, .inl ((xT g) 5, tn, .inr (.inr (.inr (.inl tr_5))))), (q3s, .inl ((xT g) 5, tn, .inr (.inr (.inr (.inl ts_6)))))] 0 0
  exact x_retd4 G Q dX9_add_15 tc_3 tl_4 tr_5 ts_6 h XSub.rf (Nat.le_of_ble_eq_true rfl) (Nat.le_of_ble_eq_true rfl)
theorem cdX19_add : yX19_add.cls = RX19 ∧ yX19_add.cls ≠ "java/lang/invoke/MethodHandle" ∧ yX19_add.cls ≠ "java/lang/invoke/VarHandle" ∧ (parseMethodDescriptor yX19_add.desc).map (fun d => d.parameters.length) = some 4 := by decide +kernel
def wX19_add (p1 : UInt64) (p2 : UInt64) (kd : Bool) (tc : Int32) (tn : Nat) (tl : Nat → UInt64) (tr : Nat → UInt64) (ts : Nat → UInt64) (K : UInt64 → Int32 → (Nat → UInt64) → (Nat → UInt64) → (Nat → UInt64) → Prop) : Prop := (wL_add kd p1 p2 (fun (r_1 : UInt64) => (vf_n32 (FP.d2f r_1) ∧ (vf_n64 (FP.f2d (FP.d2f r_1)) ∧ (wX8_tell p1 p2 (FP.f2d (FP.d2f r_1)) tc tn tl tr ts (fun (r_2 : UInt64) (tc_3 : Int32) (tl_4 : Nat → UInt64) (tr_5 : Nat → UInt64) (ts_6 : Nat → UInt64) => K r_2 tc_3 tl_4 tr_5 ts_6))))))
set_option maxRecDepth 20000 in
theorem tX19_add {l : Launch} {D : va_G} {ta : Nat → ClassId} {q0 : Nat} {kd : Bool} {q0a : Nat} {q0d : Nat} {q0g : Nat} {gc : Int32} {q0m : Nat} {q3 : Nat} {tw : Int32} {ty : Int32} {q3l : Nat} {q3r : Nat} {q3s : Nat} {tc : Int32} {tt : UInt64} {tn : Nat} {tl : Nat → UInt64} {tr : Nat → UInt64} {ts : Nat → UInt64} {h0 : Nat} {p1 : UInt64} {p2 : UInt64} {K : UInt64 → Int32 → (Nat → UInt64) → (Nat → UInt64) → (Nat → UInt64) → Prop} (hlt : l.stackTraces = false) (h : wX19_add p1 p2 kd tc tn tl tr ts K) : SMd4 l D ta yX19_add cX19_add 7 FieldType.double 2 [.ref h0, .ref q0, .double p1, .double p2, .ref q3] [(q0, .inr (lci kd, [.ref q0a, .ref q0d, .ref q0g, .int gc, .ref q0m])), (q3, .inr (7, [.int tw, .int ty, .ref q3l, .ref q3r, .ref q3s, .int tc, .double tt])), (q3l, .inl (ta 5, tn, .inr (.inr (.inr (.inl tl))))), (q3r, .inl (ta 5, tn, .inr (.inr (.inr (.inl tr))))), (q3s, .inl (ta 5, tn, .inr (.inr (.inr (.inl ts)))))] (fun (tc' : Int32) (tl' : Nat → UInt64) (tr' : Nat → UInt64) (ts' : Nat → UInt64) => [(q0, .inr (lci kd, [.ref q0a, .ref q0d, .ref q0g, .int gc, .ref q0m])), (q3, .inr (7, [.int tw, .int ty, .ref q3l, .ref q3r, .ref q3s, .int tc', .double tt])), (q3l, .inl (ta 5, tn, .inr (.inr (.inr (.inl tl'))))), (q3r, .inl (ta 5, tn, .inr (.inr (.inr (.inl tr'))))), (q3s, .inl (ta 5, tn, .inr (.inr (.inr (.inl ts')))))]) 0 0 K := by
  refine x_std4 hlt (plainFor_of_name (by decide +kernel)) (Nat.le_of_ble_eq_true rfl) (fun g G hl hD hT Q => ?_)
  subst hl; subst hD; subst hT
  unfold wX19_add at h
  show X g 7 0 [(0, .ref h0), (1, .ref q0), (2, .double p1), (4, .double p2), (6, .ref q3)] [] [(q0, .inr (lci kd, [.ref q0a, .ref q0d, .ref q0g, .int gc, .ref q0m])), (q3, .inr (7, [.int tw, .int ty, .ref q3l, .ref q3r, .ref q3s, .int tc, .double tt])), (q3l, .inl ((xT g) 5, tn, .inr (.inr (.inr (.inl tl))))), (q3r, .inl ((xT g) 5, tn, .inr (.inr (.inr (.inl tr))))), (q3s, .inl ((xT g) 5, tn, .inr (.inr (.inr (.inl ts)))))] 0 0
  refine x_aload G dX19_add_0 4 rfl ?_
  refine x_dload_n G rfl dX19_add_2 2 rfl ?_
  refine x_dload G dX19_add_3 3 rfl ?_
  refine x_aload_n G rfl dX19_add_5 1 rfl ?_
  refine x_dload_n G rfl dX19_add_6 2 rfl ?_
  refine x_dload G dX19_add_7 3 rfl ?_
  refine x_cU9d0 (C := lnm kd) (owner := "RoundingAuditor$Adder") (x := ⟨"RoundingAuditor$Ledger", "add", "(DD)D"⟩) (wc := []) (As := [.double p1, .double p2]) (rest := [.double p2, .double p1, .ref q3]) G [(q0, .inr (lci kd, [.ref q0a, .ref q0d, .ref q0g, .int gc, .ref q0m])), (q3, .inr (7, [.int tw, .int ty, .ref q3l, .ref q3r, .ref q3s, .int tc, .double tt])), (q3l, .inl ((xT g) 5, tn, .inr (.inr (.inr (.inl tl))))), (q3r, .inl ((xT g) 5, tn, .inr (.inr (.inr (.inl tr))))), (q3s, .inl ((xT g) 5, tn, .inr (.inr (.inr (.inl ts)))))] (XSub.of [0, 1, 2, 3, 4] rfl (by decide)) (tL_add kd G.noTraces h) (G.E.2.1.2.2.2.2.2.2.2.2.2.2 _ (by decide +kernel)) (G.E.2.1.2.2.2.2.2.2.2.2.2.2 _ (by decide +kernel)) (lnm_add kd) (va_Decl.abs (G.E.2.1.2.2.1 _ (by decide +kernel))) (sL_Add kd) (hL_add kd).1 (hL_add kd).2.1 (hL_add kd).2.2.1 cdL_Add (lci kd) 0 (lci_at kd) rfl rfl (by decide) (hL_add _).2.2.2 rfl (Nat.le_of_ble_eq_true rfl) (Nat.le_of_ble_eq_true rfl) (Nat.le_of_ble_eq_true rfl) dX19_add_9 (fun r_1 h => ?_)
  show X g 7 12 [(0, .ref h0), (1, .ref q0), (2, .double p1), (4, .double p2), (6, .ref q3)] [.double r_1, .double p2, .double p1, .ref q3] [(q0, .inr (lci kd, [.ref q0a, .ref q0d, .ref q0g, .int gc, .ref q0m])), (q3, .inr (7, [.int tw, .int ty, .ref q3l, .ref q3r, .ref q3s, .int tc, .double tt])), (q3l, .inl ((xT g) 5, tn, .inr (.inr (.inr (.inl tl))))), (q3r, .inl ((xT g) 5, tn, .inr (.inr (.inr (.inl tr))))), (q3s, .inl ((xT g) 5, tn, .inr (.inr (.inr (.inl ts)))))] 0 0
  obtain ⟨hz, h⟩ := h
  refine x_d2f G dX19_add_12 hz ?_
  obtain ⟨hz, h⟩ := h
  refine x_f2d G dX19_add_13 hz ?_
  refine x_cVd4 (wc := [(q3, .inr (7, [.int tw, .int ty, .ref q3l, .ref q3r, .ref q3s, .int tc, .double tt])), (q3l, .inl ((xT g) 5, tn, .inr (.inr (.inr (.inl tl))))), (q3r, .inl ((xT g) 5, tn, .inr (.inr (.inr (.inl tr))))), (q3s, .inl ((xT g) 5, tn, .inr (.inr (.inr (.inl ts)))))]) (As := [.double p1, .double p2, .double (FP.f2d (FP.d2f r_1))]) (rest := []) G [(q0, .inr (lci kd, [.ref q0a, .ref q0d, .ref q0g, .int gc, .ref q0m]))] (XSub.of [0, 1, 2, 3, 4] rfl (by decide)) (tX8_tell G.noTraces h) (lw_V q1221 q1155 q1156 q89 q1157) cdX8_tell 7 1 rfl rfl rfl (by decide) (by decide) rfl (Nat.le_of_ble_eq_true rfl) (Nat.le_of_ble_eq_true rfl) (Nat.le_of_ble_eq_true rfl) dX19_add_14 (fun r_2 tc_3 tl_4 tr_5 ts_6 h => ?_)
  show X g 7 17 [(0, .ref h0), (1, .ref q0), (2, .double p1), (4, .double p2), (6, .ref q3)] [.double r_2] [(q0, .inr (lci kd, [.ref q0a, .ref q0d, .ref q0g, .int gc, .ref q0m])), (q3, .inr (7, [.int tw, .int ty, .ref q3l, .ref q3r, .ref q3s, .int tc_3, .double tt])), (q3l, .inl ((xT g) 5, tn, .inr (.inr (.inr (.inl tl_4))))), (q3r, .inl ((xT g) 5, tn, .inr (.inr (.inr (.inl tr_5))))), (q3s, .inl ((xT g) 5, tn, .inr (.inr (.inr (.inl ts_6)))))] 0 0
  exact x_retd4 G Q dX19_add_17 tc_3 tl_4 tr_5 ts_6 h XSub.rf (Nat.le_of_ble_eq_true rfl) (Nat.le_of_ble_eq_true rfl)
theorem cdX9_init : yX9_init.cls = RX9 ∧ yX9_init.cls ≠ "java/lang/invoke/MethodHandle" ∧ yX9_init.cls ≠ "java/lang/invoke/VarHandle" ∧ (parseMethodDescriptor yX9_init.desc).map (fun d => d.parameters.length) = some 0 := by decide +kernel
def wX9_init (K : Prop) : Prop := K
set_option maxRecDepth 20000 in
theorem tX9_init {l : Launch} {D : va_G} {ta : Nat → ClassId} {h0 : Nat} {K : Prop} (hlt : l.stackTraces = false) (h : wX9_init K) : SMv0 l D ta yX9_init cX9_init 1 2 [.ref h0] [] ([]) 0 0 K := by
  refine x_stI0 hlt (plainFor_of_name (by decide +kernel)) (Nat.le_of_ble_eq_true rfl) (fun g G hl hD hT hN Q => ?_)
  subst hl; subst hD; subst hT
  unfold wX9_init at h
  show X g 1 0 [(0, .ref h0)] [] [] 0 0
  refine x_aload_n G rfl dX9_init_0 0 rfl ?_
  refine x_objInit G q990 q118 q119 (by decide) dX9_init_1 ?_
  exact x_retv0 G Q dX9_init_4  h XSub.rf (Nat.le_of_ble_eq_true rfl) (Nat.le_of_ble_eq_true rfl)
theorem cdX10_init : yX10_init.cls = RX10 ∧ yX10_init.cls ≠ "java/lang/invoke/MethodHandle" ∧ yX10_init.cls ≠ "java/lang/invoke/VarHandle" ∧ (parseMethodDescriptor yX10_init.desc).map (fun d => d.parameters.length) = some 0 := by decide +kernel
def wX10_init_X11 (K : Nat → Prop) : Prop := (wX9_init ((∀ a_1 : Nat, K a_1)))
set_option maxRecDepth 20000 in
theorem tX10_init_X11 {l : Launch} {D : va_G} {ta : Nat → ClassId} {h0 : Nat} {K : Nat → Prop} (hlt : l.stackTraces = false) (h : wX10_init_X11 K) : SMv1 l D ta yX10_init cX10_init 1 3 [.ref h0] [(h0, .inr (8, [.null]))] (fun (o1 : Nat) => [(h0, .inr (8, [.ref o1])), (o1, .inl (ta 2, 60, .inl (fun _ => 0)))]) 1 60 K := by
  refine x_stI1 hlt (plainFor_of_name (by decide +kernel)) (Nat.le_of_ble_eq_true rfl) (fun g G hl hD hT hN Q => ?_)
  subst hl; subst hD; subst hT
  unfold wX10_init_X11 at h
  show X g 1 0 [(0, .ref h0)] [] [(h0, .inr (8, [.null]))] 0 0
  refine x_aload_n G rfl dX10_init_0 0 rfl ?_
  refine x_cNv0 (host := "RoundingAuditor") (wc := []) (As := []) (rest := []) G [(h0, .inr (8, [.null]))] (XSub.of [0] rfl (by decide)) (tX9_init G.noTraces h) (by decide) q988 q90 q989 rfl cdX9_init.2 (by decide) (by decide) rfl (Nat.le_of_ble_eq_true rfl) (Nat.le_of_ble_eq_true rfl) (Nat.le_of_ble_eq_true rfl) dX10_init_1 (fun h => ?_)
  show X g 1 4 [(0, .ref h0)] [] [(h0, .inr (8, [.null]))] 0 0
  refine x_aload_n G rfl dX10_init_4 0 rfl ?_
  refine x_bipush (v := (60 : Int32)) G dX10_init_5 (by decide) ?_
  refine x_newa (atype := .int) (ty := .int) (N' := 60) (t0 := 2) (x0 := .inl (fun _ => 0)) G q132 rfl rfl rfl (fun _ => rfl) (by decide) (by decide) (by decide) (Nat.le_of_ble_eq_true rfl) (Nat.le_of_ble_eq_true rfl) dX10_init_7 (fun a_1 => ?_)
  replace h := h a_1
  show X g 1 9 [(0, .ref h0)] [.ref a_1, .ref h0] [(h0, .inr (8, [.null])), (a_1, .inl ((xT g) 2, 60, .inl (fun _ => 0)))] 1 60
  refine x_putF G hN in_X11 tyX11 tyX11_ok nmX11 0 rfl rfl 0 (by decide) q991 (fun _ h => h) rfl rfl rfl rfl (Nat.le_of_ble_eq_true rfl) rfl dX10_init_9 ?_
  show X g 1 12 [(0, .ref h0)] [] [(h0, .inr (8, [.ref a_1])), (a_1, .inl ((xT g) 2, 60, .inl (fun _ => 0)))] 1 60
  exact x_retv1 G Q dX10_init_12 a_1 h XSub.rf (Nat.le_of_ble_eq_true rfl) (Nat.le_of_ble_eq_true rfl)
set_option maxRecDepth 20000 in
theorem tX10_init_X12 {l : Launch} {D : va_G} {ta : Nat → ClassId} {h0 : Nat} {K : Nat → Prop} (hlt : l.stackTraces = false) (h : wX10_init_X11 K) : SMv1 l D ta yX10_init cX10_init 1 3 [.ref h0] [(h0, .inr (9, [.null]))] (fun (o1 : Nat) => [(h0, .inr (9, [.ref o1])), (o1, .inl (ta 2, 60, .inl (fun _ => 0)))]) 1 60 K := by
  refine x_stI1 hlt (plainFor_of_name (by decide +kernel)) (Nat.le_of_ble_eq_true rfl) (fun g G hl hD hT hN Q => ?_)
  subst hl; subst hD; subst hT
  unfold wX10_init_X11 at h
  show X g 1 0 [(0, .ref h0)] [] [(h0, .inr (9, [.null]))] 0 0
  refine x_aload_n G rfl dX10_init_0 0 rfl ?_
  refine x_cNv0 (host := "RoundingAuditor") (wc := []) (As := []) (rest := []) G [(h0, .inr (9, [.null]))] (XSub.of [0] rfl (by decide)) (tX9_init G.noTraces h) (by decide) q988 q90 q989 rfl cdX9_init.2 (by decide) (by decide) rfl (Nat.le_of_ble_eq_true rfl) (Nat.le_of_ble_eq_true rfl) (Nat.le_of_ble_eq_true rfl) dX10_init_1 (fun h => ?_)
  show X g 1 4 [(0, .ref h0)] [] [(h0, .inr (9, [.null]))] 0 0
  refine x_aload_n G rfl dX10_init_4 0 rfl ?_
  refine x_bipush (v := (60 : Int32)) G dX10_init_5 (by decide) ?_
  refine x_newa (atype := .int) (ty := .int) (N' := 60) (t0 := 2) (x0 := .inl (fun _ => 0)) G q132 rfl rfl rfl (fun _ => rfl) (by decide) (by decide) (by decide) (Nat.le_of_ble_eq_true rfl) (Nat.le_of_ble_eq_true rfl) dX10_init_7 (fun a_1 => ?_)
  replace h := h a_1
  show X g 1 9 [(0, .ref h0)] [.ref a_1, .ref h0] [(h0, .inr (9, [.null])), (a_1, .inl ((xT g) 2, 60, .inl (fun _ => 0)))] 1 60
  refine x_putF G hN in_X12 tyX12 tyX12_ok nmX12 0 rfl rfl 0 (by decide) q991 (fun _ h => h) rfl rfl rfl rfl (Nat.le_of_ble_eq_true rfl) rfl dX10_init_9 ?_
  show X g 1 12 [(0, .ref h0)] [] [(h0, .inr (9, [.ref a_1])), (a_1, .inl ((xT g) 2, 60, .inl (fun _ => 0)))] 1 60
  exact x_retv1 G Q dX10_init_12 a_1 h XSub.rf (Nat.le_of_ble_eq_true rfl) (Nat.le_of_ble_eq_true rfl)
set_option maxRecDepth 20000 in
theorem tX10_init_X14 {l : Launch} {D : va_G} {ta : Nat → ClassId} {h0 : Nat} {K : Nat → Prop} (hlt : l.stackTraces = false) (h : wX10_init_X11 K) : SMv1 l D ta yX10_init cX10_init 1 3 [.ref h0] [(h0, .inr (10, [.null]))] (fun (o1 : Nat) => [(h0, .inr (10, [.ref o1])), (o1, .inl (ta 2, 60, .inl (fun _ => 0)))]) 1 60 K := by
  refine x_stI1 hlt (plainFor_of_name (by decide +kernel)) (Nat.le_of_ble_eq_true rfl) (fun g G hl hD hT hN Q => ?_)
  subst hl; subst hD; subst hT
  unfold wX10_init_X11 at h
  show X g 1 0 [(0, .ref h0)] [] [(h0, .inr (10, [.null]))] 0 0
  refine x_aload_n G rfl dX10_init_0 0 rfl ?_
  refine x_cNv0 (host := "RoundingAuditor") (wc := []) (As := []) (rest := []) G [(h0, .inr (10, [.null]))] (XSub.of [0] rfl (by decide)) (tX9_init G.noTraces h) (by decide) q988 q90 q989 rfl cdX9_init.2 (by decide) (by decide) rfl (Nat.le_of_ble_eq_true rfl) (Nat.le_of_ble_eq_true rfl) (Nat.le_of_ble_eq_true rfl) dX10_init_1 (fun h => ?_)
  show X g 1 4 [(0, .ref h0)] [] [(h0, .inr (10, [.null]))] 0 0
  refine x_aload_n G rfl dX10_init_4 0 rfl ?_
  refine x_bipush (v := (60 : Int32)) G dX10_init_5 (by decide) ?_
  refine x_newa (atype := .int) (ty := .int) (N' := 60) (t0 := 2) (x0 := .inl (fun _ => 0)) G q132 rfl rfl rfl (fun _ => rfl) (by decide) (by decide) (by decide) (Nat.le_of_ble_eq_true rfl) (Nat.le_of_ble_eq_true rfl) dX10_init_7 (fun a_1 => ?_)
  replace h := h a_1
  show X g 1 9 [(0, .ref h0)] [.ref a_1, .ref h0] [(h0, .inr (10, [.null])), (a_1, .inl ((xT g) 2, 60, .inl (fun _ => 0)))] 1 60
  refine x_putF G hN in_X14 tyX14 tyX14_ok nmX14 0 rfl rfl 0 (by decide) q991 (fun _ h => h) rfl rfl rfl rfl (Nat.le_of_ble_eq_true rfl) rfl dX10_init_9 ?_
  show X g 1 12 [(0, .ref h0)] [] [(h0, .inr (10, [.ref a_1])), (a_1, .inl ((xT g) 2, 60, .inl (fun _ => 0)))] 1 60
  exact x_retv1 G Q dX10_init_12 a_1 h XSub.rf (Nat.le_of_ble_eq_true rfl) (Nat.le_of_ble_eq_true rfl)
set_option maxRecDepth 20000 in
theorem tX10_init_X15 {l : Launch} {D : va_G} {ta : Nat → ClassId} {h0 : Nat} {K : Nat → Prop} (hlt : l.stackTraces = false) (h : wX10_init_X11 K) : SMv1 l D ta yX10_init cX10_init 1 3 [.ref h0] [(h0, .inr (11, [.null]))] (fun (o1 : Nat) => [(h0, .inr (11, [.ref o1])), (o1, .inl (ta 2, 60, .inl (fun _ => 0)))]) 1 60 K := by
  refine x_stI1 hlt (plainFor_of_name (by decide +kernel)) (Nat.le_of_ble_eq_true rfl) (fun g G hl hD hT hN Q => ?_)
  subst hl; subst hD; subst hT
  unfold wX10_init_X11 at h
  show X g 1 0 [(0, .ref h0)] [] [(h0, .inr (11, [.null]))] 0 0
  refine x_aload_n G rfl dX10_init_0 0 rfl ?_
  refine x_cNv0 (host := "RoundingAuditor") (wc := []) (As := []) (rest := []) G [(h0, .inr (11, [.null]))] (XSub.of [0] rfl (by decide)) (tX9_init G.noTraces h) (by decide) q988 q90 q989 rfl cdX9_init.2 (by decide) (by decide) rfl (Nat.le_of_ble_eq_true rfl) (Nat.le_of_ble_eq_true rfl) (Nat.le_of_ble_eq_true rfl) dX10_init_1 (fun h => ?_)
  show X g 1 4 [(0, .ref h0)] [] [(h0, .inr (11, [.null]))] 0 0
  refine x_aload_n G rfl dX10_init_4 0 rfl ?_
  refine x_bipush (v := (60 : Int32)) G dX10_init_5 (by decide) ?_
  refine x_newa (atype := .int) (ty := .int) (N' := 60) (t0 := 2) (x0 := .inl (fun _ => 0)) G q132 rfl rfl rfl (fun _ => rfl) (by decide) (by decide) (by decide) (Nat.le_of_ble_eq_true rfl) (Nat.le_of_ble_eq_true rfl) dX10_init_7 (fun a_1 => ?_)
  replace h := h a_1
  show X g 1 9 [(0, .ref h0)] [.ref a_1, .ref h0] [(h0, .inr (11, [.null])), (a_1, .inl ((xT g) 2, 60, .inl (fun _ => 0)))] 1 60
  refine x_putF G hN in_X15 tyX15 tyX15_ok nmX15 0 rfl rfl 0 (by decide) q991 (fun _ h => h) rfl rfl rfl rfl (Nat.le_of_ble_eq_true rfl) rfl dX10_init_9 ?_
  show X g 1 12 [(0, .ref h0)] [] [(h0, .inr (11, [.ref a_1])), (a_1, .inl ((xT g) 2, 60, .inl (fun _ => 0)))] 1 60
  exact x_retv1 G Q dX10_init_12 a_1 h XSub.rf (Nat.le_of_ble_eq_true rfl) (Nat.le_of_ble_eq_true rfl)
set_option maxRecDepth 20000 in
theorem tX10_init_X16 {l : Launch} {D : va_G} {ta : Nat → ClassId} {h0 : Nat} {K : Nat → Prop} (hlt : l.stackTraces = false) (h : wX10_init_X11 K) : SMv1 l D ta yX10_init cX10_init 1 3 [.ref h0] [(h0, .inr (12, [.null]))] (fun (o1 : Nat) => [(h0, .inr (12, [.ref o1])), (o1, .inl (ta 2, 60, .inl (fun _ => 0)))]) 1 60 K := by
  refine x_stI1 hlt (plainFor_of_name (by decide +kernel)) (Nat.le_of_ble_eq_true rfl) (fun g G hl hD hT hN Q => ?_)
  subst hl; subst hD; subst hT
  unfold wX10_init_X11 at h
  show X g 1 0 [(0, .ref h0)] [] [(h0, .inr (12, [.null]))] 0 0
  refine x_aload_n G rfl dX10_init_0 0 rfl ?_
  refine x_cNv0 (host := "RoundingAuditor") (wc := []) (As := []) (rest := []) G [(h0, .inr (12, [.null]))] (XSub.of [0] rfl (by decide)) (tX9_init G.noTraces h) (by decide) q988 q90 q989 rfl cdX9_init.2 (by decide) (by decide) rfl (Nat.le_of_ble_eq_true rfl) (Nat.le_of_ble_eq_true rfl) (Nat.le_of_ble_eq_true rfl) dX10_init_1 (fun h => ?_)
  show X g 1 4 [(0, .ref h0)] [] [(h0, .inr (12, [.null]))] 0 0
  refine x_aload_n G rfl dX10_init_4 0 rfl ?_
  refine x_bipush (v := (60 : Int32)) G dX10_init_5 (by decide) ?_
  refine x_newa (atype := .int) (ty := .int) (N' := 60) (t0 := 2) (x0 := .inl (fun _ => 0)) G q132 rfl rfl rfl (fun _ => rfl) (by decide) (by decide) (by decide) (Nat.le_of_ble_eq_true rfl) (Nat.le_of_ble_eq_true rfl) dX10_init_7 (fun a_1 => ?_)
  replace h := h a_1
  show X g 1 9 [(0, .ref h0)] [.ref a_1, .ref h0] [(h0, .inr (12, [.null])), (a_1, .inl ((xT g) 2, 60, .inl (fun _ => 0)))] 1 60
  refine x_putF G hN in_X16 tyX16 tyX16_ok nmX16 0 rfl rfl 0 (by decide) q991 (fun _ h => h) rfl rfl rfl rfl (Nat.le_of_ble_eq_true rfl) rfl dX10_init_9 ?_
  show X g 1 12 [(0, .ref h0)] [] [(h0, .inr (12, [.ref a_1])), (a_1, .inl ((xT g) 2, 60, .inl (fun _ => 0)))] 1 60
  exact x_retv1 G Q dX10_init_12 a_1 h XSub.rf (Nat.le_of_ble_eq_true rfl) (Nat.le_of_ble_eq_true rfl)
set_option maxRecDepth 20000 in
theorem tX10_init_X17 {l : Launch} {D : va_G} {ta : Nat → ClassId} {h0 : Nat} {K : Nat → Prop} (hlt : l.stackTraces = false) (h : wX10_init_X11 K) : SMv1 l D ta yX10_init cX10_init 1 3 [.ref h0] [(h0, .inr (13, [.null]))] (fun (o1 : Nat) => [(h0, .inr (13, [.ref o1])), (o1, .inl (ta 2, 60, .inl (fun _ => 0)))]) 1 60 K := by
  refine x_stI1 hlt (plainFor_of_name (by decide +kernel)) (Nat.le_of_ble_eq_true rfl) (fun g G hl hD hT hN Q => ?_)
  subst hl; subst hD; subst hT
  unfold wX10_init_X11 at h
  show X g 1 0 [(0, .ref h0)] [] [(h0, .inr (13, [.null]))] 0 0
  refine x_aload_n G rfl dX10_init_0 0 rfl ?_
  refine x_cNv0 (host := "RoundingAuditor") (wc := []) (As := []) (rest := []) G [(h0, .inr (13, [.null]))] (XSub.of [0] rfl (by decide)) (tX9_init G.noTraces h) (by decide) q988 q90 q989 rfl cdX9_init.2 (by decide) (by decide) rfl (Nat.le_of_ble_eq_true rfl) (Nat.le_of_ble_eq_true rfl) (Nat.le_of_ble_eq_true rfl) dX10_init_1 (fun h => ?_)
  show X g 1 4 [(0, .ref h0)] [] [(h0, .inr (13, [.null]))] 0 0
  refine x_aload_n G rfl dX10_init_4 0 rfl ?_
  refine x_bipush (v := (60 : Int32)) G dX10_init_5 (by decide) ?_
  refine x_newa (atype := .int) (ty := .int) (N' := 60) (t0 := 2) (x0 := .inl (fun _ => 0)) G q132 rfl rfl rfl (fun _ => rfl) (by decide) (by decide) (by decide) (Nat.le_of_ble_eq_true rfl) (Nat.le_of_ble_eq_true rfl) dX10_init_7 (fun a_1 => ?_)
  replace h := h a_1
  show X g 1 9 [(0, .ref h0)] [.ref a_1, .ref h0] [(h0, .inr (13, [.null])), (a_1, .inl ((xT g) 2, 60, .inl (fun _ => 0)))] 1 60
  refine x_putF G hN in_X17 tyX17 tyX17_ok nmX17 0 rfl rfl 0 (by decide) q991 (fun _ h => h) rfl rfl rfl rfl (Nat.le_of_ble_eq_true rfl) rfl dX10_init_9 ?_
  show X g 1 12 [(0, .ref h0)] [] [(h0, .inr (13, [.ref a_1])), (a_1, .inl ((xT g) 2, 60, .inl (fun _ => 0)))] 1 60
  exact x_retv1 G Q dX10_init_12 a_1 h XSub.rf (Nat.le_of_ble_eq_true rfl) (Nat.le_of_ble_eq_true rfl)
set_option maxRecDepth 20000 in
theorem tX10_init_X18 {l : Launch} {D : va_G} {ta : Nat → ClassId} {h0 : Nat} {K : Nat → Prop} (hlt : l.stackTraces = false) (h : wX10_init_X11 K) : SMv1 l D ta yX10_init cX10_init 1 3 [.ref h0] [(h0, .inr (14, [.null]))] (fun (o1 : Nat) => [(h0, .inr (14, [.ref o1])), (o1, .inl (ta 2, 60, .inl (fun _ => 0)))]) 1 60 K := by
  refine x_stI1 hlt (plainFor_of_name (by decide +kernel)) (Nat.le_of_ble_eq_true rfl) (fun g G hl hD hT hN Q => ?_)
  subst hl; subst hD; subst hT
  unfold wX10_init_X11 at h
  show X g 1 0 [(0, .ref h0)] [] [(h0, .inr (14, [.null]))] 0 0
  refine x_aload_n G rfl dX10_init_0 0 rfl ?_
  refine x_cNv0 (host := "RoundingAuditor") (wc := []) (As := []) (rest := []) G [(h0, .inr (14, [.null]))] (XSub.of [0] rfl (by decide)) (tX9_init G.noTraces h) (by decide) q988 q90 q989 rfl cdX9_init.2 (by decide) (by decide) rfl (Nat.le_of_ble_eq_true rfl) (Nat.le_of_ble_eq_true rfl) (Nat.le_of_ble_eq_true rfl) dX10_init_1 (fun h => ?_)
  show X g 1 4 [(0, .ref h0)] [] [(h0, .inr (14, [.null]))] 0 0
  refine x_aload_n G rfl dX10_init_4 0 rfl ?_
  refine x_bipush (v := (60 : Int32)) G dX10_init_5 (by decide) ?_
  refine x_newa (atype := .int) (ty := .int) (N' := 60) (t0 := 2) (x0 := .inl (fun _ => 0)) G q132 rfl rfl rfl (fun _ => rfl) (by decide) (by decide) (by decide) (Nat.le_of_ble_eq_true rfl) (Nat.le_of_ble_eq_true rfl) dX10_init_7 (fun a_1 => ?_)
  replace h := h a_1
  show X g 1 9 [(0, .ref h0)] [.ref a_1, .ref h0] [(h0, .inr (14, [.null])), (a_1, .inl ((xT g) 2, 60, .inl (fun _ => 0)))] 1 60
  refine x_putF G hN in_X18 tyX18 tyX18_ok nmX18 0 rfl rfl 0 (by decide) q991 (fun _ h => h) rfl rfl rfl rfl (Nat.le_of_ble_eq_true rfl) rfl dX10_init_9 ?_
  show X g 1 12 [(0, .ref h0)] [] [(h0, .inr (14, [.ref a_1])), (a_1, .inl ((xT g) 2, 60, .inl (fun _ => 0)))] 1 60
  exact x_retv1 G Q dX10_init_12 a_1 h XSub.rf (Nat.le_of_ble_eq_true rfl) (Nat.le_of_ble_eq_true rfl)
set_option maxRecDepth 20000 in
theorem tX10_init_X19 {l : Launch} {D : va_G} {ta : Nat → ClassId} {h0 : Nat} {K : Nat → Prop} (hlt : l.stackTraces = false) (h : wX10_init_X11 K) : SMv1 l D ta yX10_init cX10_init 1 3 [.ref h0] [(h0, .inr (15, [.null]))] (fun (o1 : Nat) => [(h0, .inr (15, [.ref o1])), (o1, .inl (ta 2, 60, .inl (fun _ => 0)))]) 1 60 K := by
  refine x_stI1 hlt (plainFor_of_name (by decide +kernel)) (Nat.le_of_ble_eq_true rfl) (fun g G hl hD hT hN Q => ?_)
  subst hl; subst hD; subst hT
  unfold wX10_init_X11 at h
  show X g 1 0 [(0, .ref h0)] [] [(h0, .inr (15, [.null]))] 0 0
  refine x_aload_n G rfl dX10_init_0 0 rfl ?_
  refine x_cNv0 (host := "RoundingAuditor") (wc := []) (As := []) (rest := []) G [(h0, .inr (15, [.null]))] (XSub.of [0] rfl (by decide)) (tX9_init G.noTraces h) (by decide) q988 q90 q989 rfl cdX9_init.2 (by decide) (by decide) rfl (Nat.le_of_ble_eq_true rfl) (Nat.le_of_ble_eq_true rfl) (Nat.le_of_ble_eq_true rfl) dX10_init_1 (fun h => ?_)
  show X g 1 4 [(0, .ref h0)] [] [(h0, .inr (15, [.null]))] 0 0
  refine x_aload_n G rfl dX10_init_4 0 rfl ?_
  refine x_bipush (v := (60 : Int32)) G dX10_init_5 (by decide) ?_
  refine x_newa (atype := .int) (ty := .int) (N' := 60) (t0 := 2) (x0 := .inl (fun _ => 0)) G q132 rfl rfl rfl (fun _ => rfl) (by decide) (by decide) (by decide) (Nat.le_of_ble_eq_true rfl) (Nat.le_of_ble_eq_true rfl) dX10_init_7 (fun a_1 => ?_)
  replace h := h a_1
  show X g 1 9 [(0, .ref h0)] [.ref a_1, .ref h0] [(h0, .inr (15, [.null])), (a_1, .inl ((xT g) 2, 60, .inl (fun _ => 0)))] 1 60
  refine x_putF G hN in_X19 tyX19 tyX19_ok nmX19 0 rfl rfl 0 (by decide) q991 (fun _ h => h) rfl rfl rfl rfl (Nat.le_of_ble_eq_true rfl) rfl dX10_init_9 ?_
  show X g 1 12 [(0, .ref h0)] [] [(h0, .inr (15, [.ref a_1])), (a_1, .inl ((xT g) 2, 60, .inl (fun _ => 0)))] 1 60
  exact x_retv1 G Q dX10_init_12 a_1 h XSub.rf (Nat.le_of_ble_eq_true rfl) (Nat.le_of_ble_eq_true rfl)
theorem cdX11_init : yX11_init.cls = RX11 ∧ yX11_init.cls ≠ "java/lang/invoke/MethodHandle" ∧ yX11_init.cls ≠ "java/lang/invoke/VarHandle" ∧ (parseMethodDescriptor yX11_init.desc).map (fun d => d.parameters.length) = some 0 := by decide +kernel
def wX11_init_X11 (K : Nat → Prop) : Prop := (wX10_init_X11 (fun (o1_1 : Nat) => K o1_1))
set_option maxRecDepth 20000 in
theorem tX11_init_X11 {l : Launch} {D : va_G} {ta : Nat → ClassId} {h0 : Nat} {K : Nat → Prop} (hlt : l.stackTraces = false) (h : wX11_init_X11 K) : SMv1 l D ta yX11_init cX11_init 1 4 [.ref h0] [(h0, .inr (8, [.null]))] (fun (o1 : Nat) => [(h0, .inr (8, [.ref o1])), (o1, .inl (ta 2, 60, .inl (fun _ => 0)))]) 1 60 K := by
  refine x_stI1 hlt (plainFor_of_name (by decide +kernel)) (Nat.le_of_ble_eq_true rfl) (fun g G hl hD hT hN Q => ?_)
  subst hl; subst hD; subst hT
  unfold wX11_init_X11 at h
  show X g 1 0 [(0, .ref h0)] [] [(h0, .inr (8, [.null]))] 0 0
  refine x_aload_n G rfl dX11_init_0 0 rfl ?_
  refine x_cNv1 (host := "RoundingAuditor") (wc := [(h0, .inr (8, [.null]))]) (As := []) (rest := []) G [] (XSub.of [0] rfl (by decide)) (tX10_init_X11 G.noTraces h) (by decide) q985 q91 q986 rfl cdX10_init.2 (by decide) (by decide) rfl (Nat.le_of_ble_eq_true rfl) (Nat.le_of_ble_eq_true rfl) (Nat.le_of_ble_eq_true rfl) dX11_init_1 (fun o1_1 h => ?_)
  show X g 1 4 [(0, .ref h0)] [] [(h0, .inr (8, [.ref o1_1])), (o1_1, .inl ((xT g) 2, 60, .inl (fun _ => 0)))] 1 60
  exact x_retv1 G Q dX11_init_4 o1_1 h XSub.rf (Nat.le_of_ble_eq_true rfl) (Nat.le_of_ble_eq_true rfl)
set_option maxRecDepth 20000 in
theorem tX11_init_X14 {l : Launch} {D : va_G} {ta : Nat → ClassId} {h0 : Nat} {K : Nat → Prop} (hlt : l.stackTraces = false) (h : wX11_init_X11 K) : SMv1 l D ta yX11_init cX11_init 1 4 [.ref h0] [(h0, .inr (10, [.null]))] (fun (o1 : Nat) => [(h0, .inr (10, [.ref o1])), (o1, .inl (ta 2, 60, .inl (fun _ => 0)))]) 1 60 K := by
  refine x_stI1 hlt (plainFor_of_name (by decide +kernel)) (Nat.le_of_ble_eq_true rfl) (fun g G hl hD hT hN Q => ?_)
  subst hl; subst hD; subst hT
  unfold wX11_init_X11 at h
  show X g 1 0 [(0, .ref h0)] [] [(h0, .inr (10, [.null]))] 0 0
  refine x_aload_n G rfl dX11_init_0 0 rfl ?_
  refine x_cNv1 (host := "RoundingAuditor") (wc := [(h0, .inr (10, [.null]))]) (As := []) (rest := []) G [] (XSub.of [0] rfl (by decide)) (tX10_init_X14 G.noTraces h) (by decide) q985 q91 q986 rfl cdX10_init.2 (by decide) (by decide) rfl (Nat.le_of_ble_eq_true rfl) (Nat.le_of_ble_eq_true rfl) (Nat.le_of_ble_eq_true rfl) dX11_init_1 (fun o1_1 h => ?_)
  show X g 1 4 [(0, .ref h0)] [] [(h0, .inr (10, [.ref o1_1])), (o1_1, .inl ((xT g) 2, 60, .inl (fun _ => 0)))] 1 60
  exact x_retv1 G Q dX11_init_4 o1_1 h XSub.rf (Nat.le_of_ble_eq_true rfl) (Nat.le_of_ble_eq_true rfl)
set_option maxRecDepth 20000 in
theorem tX11_init_X15 {l : Launch} {D : va_G} {ta : Nat → ClassId} {h0 : Nat} {K : Nat → Prop} (hlt : l.stackTraces = false) (h : wX11_init_X11 K) : SMv1 l D ta yX11_init cX11_init 1 4 [.ref h0] [(h0, .inr (11, [.null]))] (fun (o1 : Nat) => [(h0, .inr (11, [.ref o1])), (o1, .inl (ta 2, 60, .inl (fun _ => 0)))]) 1 60 K := by
  refine x_stI1 hlt (plainFor_of_name (by decide +kernel)) (Nat.le_of_ble_eq_true rfl) (fun g G hl hD hT hN Q => ?_)
  subst hl; subst hD; subst hT
  unfold wX11_init_X11 at h
  show X g 1 0 [(0, .ref h0)] [] [(h0, .inr (11, [.null]))] 0 0
  refine x_aload_n G rfl dX11_init_0 0 rfl ?_
  refine x_cNv1 (host := "RoundingAuditor") (wc := [(h0, .inr (11, [.null]))]) (As := []) (rest := []) G [] (XSub.of [0] rfl (by decide)) (tX10_init_X15 G.noTraces h) (by decide) q985 q91 q986 rfl cdX10_init.2 (by decide) (by decide) rfl (Nat.le_of_ble_eq_true rfl) (Nat.le_of_ble_eq_true rfl) (Nat.le_of_ble_eq_true rfl) dX11_init_1 (fun o1_1 h => ?_)
  show X g 1 4 [(0, .ref h0)] [] [(h0, .inr (11, [.ref o1_1])), (o1_1, .inl ((xT g) 2, 60, .inl (fun _ => 0)))] 1 60
  exact x_retv1 G Q dX11_init_4 o1_1 h XSub.rf (Nat.le_of_ble_eq_true rfl) (Nat.le_of_ble_eq_true rfl)
set_option maxRecDepth 20000 in
theorem tX11_init_X16 {l : Launch} {D : va_G} {ta : Nat → ClassId} {h0 : Nat} {K : Nat → Prop} (hlt : l.stackTraces = false) (h : wX11_init_X11 K) : SMv1 l D ta yX11_init cX11_init 1 4 [.ref h0] [(h0, .inr (12, [.null]))] (fun (o1 : Nat) => [(h0, .inr (12, [.ref o1])), (o1, .inl (ta 2, 60, .inl (fun _ => 0)))]) 1 60 K := by
  refine x_stI1 hlt (plainFor_of_name (by decide +kernel)) (Nat.le_of_ble_eq_true rfl) (fun g G hl hD hT hN Q => ?_)
  subst hl; subst hD; subst hT
  unfold wX11_init_X11 at h
  show X g 1 0 [(0, .ref h0)] [] [(h0, .inr (12, [.null]))] 0 0
  refine x_aload_n G rfl dX11_init_0 0 rfl ?_
  refine x_cNv1 (host := "RoundingAuditor") (wc := [(h0, .inr (12, [.null]))]) (As := []) (rest := []) G [] (XSub.of [0] rfl (by decide)) (tX10_init_X16 G.noTraces h) (by decide) q985 q91 q986 rfl cdX10_init.2 (by decide) (by decide) rfl (Nat.le_of_ble_eq_true rfl) (Nat.le_of_ble_eq_true rfl) (Nat.le_of_ble_eq_true rfl) dX11_init_1 (fun o1_1 h => ?_)
  show X g 1 4 [(0, .ref h0)] [] [(h0, .inr (12, [.ref o1_1])), (o1_1, .inl ((xT g) 2, 60, .inl (fun _ => 0)))] 1 60
  exact x_retv1 G Q dX11_init_4 o1_1 h XSub.rf (Nat.le_of_ble_eq_true rfl) (Nat.le_of_ble_eq_true rfl)
set_option maxRecDepth 20000 in
theorem tX11_init_X17 {l : Launch} {D : va_G} {ta : Nat → ClassId} {h0 : Nat} {K : Nat → Prop} (hlt : l.stackTraces = false) (h : wX11_init_X11 K) : SMv1 l D ta yX11_init cX11_init 1 4 [.ref h0] [(h0, .inr (13, [.null]))] (fun (o1 : Nat) => [(h0, .inr (13, [.ref o1])), (o1, .inl (ta 2, 60, .inl (fun _ => 0)))]) 1 60 K := by
  refine x_stI1 hlt (plainFor_of_name (by decide +kernel)) (Nat.le_of_ble_eq_true rfl) (fun g G hl hD hT hN Q => ?_)
  subst hl; subst hD; subst hT
  unfold wX11_init_X11 at h
  show X g 1 0 [(0, .ref h0)] [] [(h0, .inr (13, [.null]))] 0 0
  refine x_aload_n G rfl dX11_init_0 0 rfl ?_
  refine x_cNv1 (host := "RoundingAuditor") (wc := [(h0, .inr (13, [.null]))]) (As := []) (rest := []) G [] (XSub.of [0] rfl (by decide)) (tX10_init_X17 G.noTraces h) (by decide) q985 q91 q986 rfl cdX10_init.2 (by decide) (by decide) rfl (Nat.le_of_ble_eq_true rfl) (Nat.le_of_ble_eq_true rfl) (Nat.le_of_ble_eq_true rfl) dX11_init_1 (fun o1_1 h => ?_)
  show X g 1 4 [(0, .ref h0)] [] [(h0, .inr (13, [.ref o1_1])), (o1_1, .inl ((xT g) 2, 60, .inl (fun _ => 0)))] 1 60
  exact x_retv1 G Q dX11_init_4 o1_1 h XSub.rf (Nat.le_of_ble_eq_true rfl) (Nat.le_of_ble_eq_true rfl)
set_option maxRecDepth 20000 in
theorem tX11_init_X19 {l : Launch} {D : va_G} {ta : Nat → ClassId} {h0 : Nat} {K : Nat → Prop} (hlt : l.stackTraces = false) (h : wX11_init_X11 K) : SMv1 l D ta yX11_init cX11_init 1 4 [.ref h0] [(h0, .inr (15, [.null]))] (fun (o1 : Nat) => [(h0, .inr (15, [.ref o1])), (o1, .inl (ta 2, 60, .inl (fun _ => 0)))]) 1 60 K := by
  refine x_stI1 hlt (plainFor_of_name (by decide +kernel)) (Nat.le_of_ble_eq_true rfl) (fun g G hl hD hT hN Q => ?_)
  subst hl; subst hD; subst hT
  unfold wX11_init_X11 at h
  show X g 1 0 [(0, .ref h0)] [] [(h0, .inr (15, [.null]))] 0 0
  refine x_aload_n G rfl dX11_init_0 0 rfl ?_
  refine x_cNv1 (host := "RoundingAuditor") (wc := [(h0, .inr (15, [.null]))]) (As := []) (rest := []) G [] (XSub.of [0] rfl (by decide)) (tX10_init_X19 G.noTraces h) (by decide) q985 q91 q986 rfl cdX10_init.2 (by decide) (by decide) rfl (Nat.le_of_ble_eq_true rfl) (Nat.le_of_ble_eq_true rfl) (Nat.le_of_ble_eq_true rfl) dX11_init_1 (fun o1_1 h => ?_)
  show X g 1 4 [(0, .ref h0)] [] [(h0, .inr (15, [.ref o1_1])), (o1_1, .inl ((xT g) 2, 60, .inl (fun _ => 0)))] 1 60
  exact x_retv1 G Q dX11_init_4 o1_1 h XSub.rf (Nat.le_of_ble_eq_true rfl) (Nat.le_of_ble_eq_true rfl)
theorem cdX13_init : yX13_init.cls = RX13 ∧ yX13_init.cls ≠ "java/lang/invoke/MethodHandle" ∧ yX13_init.cls ≠ "java/lang/invoke/VarHandle" ∧ (parseMethodDescriptor yX13_init.desc).map (fun d => d.parameters.length) = some 0 := by decide +kernel
def wX13_init_X14 (K : Nat → Prop) : Prop := (wX11_init_X11 (fun (o1_1 : Nat) => K o1_1))
set_option maxRecDepth 20000 in
theorem tX13_init_X14 {l : Launch} {D : va_G} {ta : Nat → ClassId} {h0 : Nat} {K : Nat → Prop} (hlt : l.stackTraces = false) (h : wX13_init_X14 K) : SMv1 l D ta yX13_init cX13_init 1 5 [.ref h0] [(h0, .inr (10, [.null]))] (fun (o1 : Nat) => [(h0, .inr (10, [.ref o1])), (o1, .inl (ta 2, 60, .inl (fun _ => 0)))]) 1 60 K := by
  refine x_stI1 hlt (plainFor_of_name (by decide +kernel)) (Nat.le_of_ble_eq_true rfl) (fun g G hl hD hT hN Q => ?_)
  subst hl; subst hD; subst hT
  unfold wX13_init_X14 at h
  show X g 1 0 [(0, .ref h0)] [] [(h0, .inr (10, [.null]))] 0 0
  refine x_aload_n G rfl dX13_init_0 0 rfl ?_
  refine x_cNv1 (host := "RoundingAuditor") (wc := [(h0, .inr (10, [.null]))]) (As := []) (rest := []) G [] (XSub.of [0] rfl (by decide)) (tX11_init_X14 G.noTraces h) (by decide) q982 q92 q983 rfl cdX11_init.2 (by decide) (by decide) rfl (Nat.le_of_ble_eq_true rfl) (Nat.le_of_ble_eq_true rfl) (Nat.le_of_ble_eq_true rfl) dX13_init_1 (fun o1_1 h => ?_)
  show X g 1 4 [(0, .ref h0)] [] [(h0, .inr (10, [.ref o1_1])), (o1_1, .inl ((xT g) 2, 60, .inl (fun _ => 0)))] 1 60
  exact x_retv1 G Q dX13_init_4 o1_1 h XSub.rf (Nat.le_of_ble_eq_true rfl) (Nat.le_of_ble_eq_true rfl)
set_option maxRecDepth 20000 in
theorem tX13_init_X15 {l : Launch} {D : va_G} {ta : Nat → ClassId} {h0 : Nat} {K : Nat → Prop} (hlt : l.stackTraces = false) (h : wX13_init_X14 K) : SMv1 l D ta yX13_init cX13_init 1 5 [.ref h0] [(h0, .inr (11, [.null]))] (fun (o1 : Nat) => [(h0, .inr (11, [.ref o1])), (o1, .inl (ta 2, 60, .inl (fun _ => 0)))]) 1 60 K := by
  refine x_stI1 hlt (plainFor_of_name (by decide +kernel)) (Nat.le_of_ble_eq_true rfl) (fun g G hl hD hT hN Q => ?_)
  subst hl; subst hD; subst hT
  unfold wX13_init_X14 at h
  show X g 1 0 [(0, .ref h0)] [] [(h0, .inr (11, [.null]))] 0 0
  refine x_aload_n G rfl dX13_init_0 0 rfl ?_
  refine x_cNv1 (host := "RoundingAuditor") (wc := [(h0, .inr (11, [.null]))]) (As := []) (rest := []) G [] (XSub.of [0] rfl (by decide)) (tX11_init_X15 G.noTraces h) (by decide) q982 q92 q983 rfl cdX11_init.2 (by decide) (by decide) rfl (Nat.le_of_ble_eq_true rfl) (Nat.le_of_ble_eq_true rfl) (Nat.le_of_ble_eq_true rfl) dX13_init_1 (fun o1_1 h => ?_)
  show X g 1 4 [(0, .ref h0)] [] [(h0, .inr (11, [.ref o1_1])), (o1_1, .inl ((xT g) 2, 60, .inl (fun _ => 0)))] 1 60
  exact x_retv1 G Q dX13_init_4 o1_1 h XSub.rf (Nat.le_of_ble_eq_true rfl) (Nat.le_of_ble_eq_true rfl)
set_option maxRecDepth 20000 in
theorem tX13_init_X16 {l : Launch} {D : va_G} {ta : Nat → ClassId} {h0 : Nat} {K : Nat → Prop} (hlt : l.stackTraces = false) (h : wX13_init_X14 K) : SMv1 l D ta yX13_init cX13_init 1 5 [.ref h0] [(h0, .inr (12, [.null]))] (fun (o1 : Nat) => [(h0, .inr (12, [.ref o1])), (o1, .inl (ta 2, 60, .inl (fun _ => 0)))]) 1 60 K := by
  refine x_stI1 hlt (plainFor_of_name (by decide +kernel)) (Nat.le_of_ble_eq_true rfl) (fun g G hl hD hT hN Q => ?_)
  subst hl; subst hD; subst hT
  unfold wX13_init_X14 at h
  show X g 1 0 [(0, .ref h0)] [] [(h0, .inr (12, [.null]))] 0 0
  refine x_aload_n G rfl dX13_init_0 0 rfl ?_
  refine x_cNv1 (host := "RoundingAuditor") (wc := [(h0, .inr (12, [.null]))]) (As := []) (rest := []) G [] (XSub.of [0] rfl (by decide)) (tX11_init_X16 G.noTraces h) (by decide) q982 q92 q983 rfl cdX11_init.2 (by decide) (by decide) rfl (Nat.le_of_ble_eq_true rfl) (Nat.le_of_ble_eq_true rfl) (Nat.le_of_ble_eq_true rfl) dX13_init_1 (fun o1_1 h => ?_)
  show X g 1 4 [(0, .ref h0)] [] [(h0, .inr (12, [.ref o1_1])), (o1_1, .inl ((xT g) 2, 60, .inl (fun _ => 0)))] 1 60
  exact x_retv1 G Q dX13_init_4 o1_1 h XSub.rf (Nat.le_of_ble_eq_true rfl) (Nat.le_of_ble_eq_true rfl)
set_option maxRecDepth 20000 in
theorem tX13_init_X17 {l : Launch} {D : va_G} {ta : Nat → ClassId} {h0 : Nat} {K : Nat → Prop} (hlt : l.stackTraces = false) (h : wX13_init_X14 K) : SMv1 l D ta yX13_init cX13_init 1 5 [.ref h0] [(h0, .inr (13, [.null]))] (fun (o1 : Nat) => [(h0, .inr (13, [.ref o1])), (o1, .inl (ta 2, 60, .inl (fun _ => 0)))]) 1 60 K := by
  refine x_stI1 hlt (plainFor_of_name (by decide +kernel)) (Nat.le_of_ble_eq_true rfl) (fun g G hl hD hT hN Q => ?_)
  subst hl; subst hD; subst hT
  unfold wX13_init_X14 at h
  show X g 1 0 [(0, .ref h0)] [] [(h0, .inr (13, [.null]))] 0 0
  refine x_aload_n G rfl dX13_init_0 0 rfl ?_
  refine x_cNv1 (host := "RoundingAuditor") (wc := [(h0, .inr (13, [.null]))]) (As := []) (rest := []) G [] (XSub.of [0] rfl (by decide)) (tX11_init_X17 G.noTraces h) (by decide) q982 q92 q983 rfl cdX11_init.2 (by decide) (by decide) rfl (Nat.le_of_ble_eq_true rfl) (Nat.le_of_ble_eq_true rfl) (Nat.le_of_ble_eq_true rfl) dX13_init_1 (fun o1_1 h => ?_)
  show X g 1 4 [(0, .ref h0)] [] [(h0, .inr (13, [.ref o1_1])), (o1_1, .inl ((xT g) 2, 60, .inl (fun _ => 0)))] 1 60
  exact x_retv1 G Q dX13_init_4 o1_1 h XSub.rf (Nat.le_of_ble_eq_true rfl) (Nat.le_of_ble_eq_true rfl)
theorem cdX14_init : yX14_init.cls = RX14 ∧ yX14_init.cls ≠ "java/lang/invoke/MethodHandle" ∧ yX14_init.cls ≠ "java/lang/invoke/VarHandle" ∧ (parseMethodDescriptor yX14_init.desc).map (fun d => d.parameters.length) = some 0 := by decide +kernel
def wX14_init_X14 (K : Nat → Prop) : Prop := (wX13_init_X14 (fun (o1_1 : Nat) => K o1_1))
set_option maxRecDepth 20000 in
theorem tX14_init_X14 {l : Launch} {D : va_G} {ta : Nat → ClassId} {h0 : Nat} {K : Nat → Prop} (hlt : l.stackTraces = false) (h : wX14_init_X14 K) : SMv1 l D ta yX14_init cX14_init 1 6 [.ref h0] [(h0, .inr (10, [.null]))] (fun (o1 : Nat) => [(h0, .inr (10, [.ref o1])), (o1, .inl (ta 2, 60, .inl (fun _ => 0)))]) 1 60 K := by
  refine x_stI1 hlt (plainFor_of_name (by decide +kernel)) (Nat.le_of_ble_eq_true rfl) (fun g G hl hD hT hN Q => ?_)
  subst hl; subst hD; subst hT
  unfold wX14_init_X14 at h
  show X g 1 0 [(0, .ref h0)] [] [(h0, .inr (10, [.null]))] 0 0
  refine x_aload_n G rfl dX14_init_0 0 rfl ?_
  refine x_cNv1 (host := "RoundingAuditor") (wc := [(h0, .inr (10, [.null]))]) (As := []) (rest := []) G [] (XSub.of [0] rfl (by decide)) (tX13_init_X14 G.noTraces h) (by decide) q1017 q94 q1018 rfl cdX13_init.2 (by decide) (by decide) rfl (Nat.le_of_ble_eq_true rfl) (Nat.le_of_ble_eq_true rfl) (Nat.le_of_ble_eq_true rfl) dX14_init_1 (fun o1_1 h => ?_)
  show X g 1 4 [(0, .ref h0)] [] [(h0, .inr (10, [.ref o1_1])), (o1_1, .inl ((xT g) 2, 60, .inl (fun _ => 0)))] 1 60
  exact x_retv1 G Q dX14_init_4 o1_1 h XSub.rf (Nat.le_of_ble_eq_true rfl) (Nat.le_of_ble_eq_true rfl)
set_option maxRecDepth 20000 in
theorem tX14_init_X15 {l : Launch} {D : va_G} {ta : Nat → ClassId} {h0 : Nat} {K : Nat → Prop} (hlt : l.stackTraces = false) (h : wX14_init_X14 K) : SMv1 l D ta yX14_init cX14_init 1 6 [.ref h0] [(h0, .inr (11, [.null]))] (fun (o1 : Nat) => [(h0, .inr (11, [.ref o1])), (o1, .inl (ta 2, 60, .inl (fun _ => 0)))]) 1 60 K := by
  refine x_stI1 hlt (plainFor_of_name (by decide +kernel)) (Nat.le_of_ble_eq_true rfl) (fun g G hl hD hT hN Q => ?_)
  subst hl; subst hD; subst hT
  unfold wX14_init_X14 at h
  show X g 1 0 [(0, .ref h0)] [] [(h0, .inr (11, [.null]))] 0 0
  refine x_aload_n G rfl dX14_init_0 0 rfl ?_
  refine x_cNv1 (host := "RoundingAuditor") (wc := [(h0, .inr (11, [.null]))]) (As := []) (rest := []) G [] (XSub.of [0] rfl (by decide)) (tX13_init_X15 G.noTraces h) (by decide) q1017 q94 q1018 rfl cdX13_init.2 (by decide) (by decide) rfl (Nat.le_of_ble_eq_true rfl) (Nat.le_of_ble_eq_true rfl) (Nat.le_of_ble_eq_true rfl) dX14_init_1 (fun o1_1 h => ?_)
  show X g 1 4 [(0, .ref h0)] [] [(h0, .inr (11, [.ref o1_1])), (o1_1, .inl ((xT g) 2, 60, .inl (fun _ => 0)))] 1 60
  exact x_retv1 G Q dX14_init_4 o1_1 h XSub.rf (Nat.le_of_ble_eq_true rfl) (Nat.le_of_ble_eq_true rfl)
theorem cdX12_init : yX12_init.cls = RX12 ∧ yX12_init.cls ≠ "java/lang/invoke/MethodHandle" ∧ yX12_init.cls ≠ "java/lang/invoke/VarHandle" ∧ (parseMethodDescriptor yX12_init.desc).map (fun d => d.parameters.length) = some 0 := by decide +kernel
set_option maxRecDepth 20000 in
theorem tX12_init_X12 {l : Launch} {D : va_G} {ta : Nat → ClassId} {h0 : Nat} {K : Nat → Prop} (hlt : l.stackTraces = false) (h : wX11_init_X11 K) : SMv1 l D ta yX12_init cX12_init 1 4 [.ref h0] [(h0, .inr (9, [.null]))] (fun (o1 : Nat) => [(h0, .inr (9, [.ref o1])), (o1, .inl (ta 2, 60, .inl (fun _ => 0)))]) 1 60 K := by
  refine x_stI1 hlt (plainFor_of_name (by decide +kernel)) (Nat.le_of_ble_eq_true rfl) (fun g G hl hD hT hN Q => ?_)
  subst hl; subst hD; subst hT
  unfold wX11_init_X11 at h
  show X g 1 0 [(0, .ref h0)] [] [(h0, .inr (9, [.null]))] 0 0
  refine x_aload_n G rfl dX12_init_0 0 rfl ?_
  refine x_cNv1 (host := "RoundingAuditor") (wc := [(h0, .inr (9, [.null]))]) (As := []) (rest := []) G [] (XSub.of [0] rfl (by decide)) (tX10_init_X12 G.noTraces h) (by decide) q985 q91 q986 rfl cdX10_init.2 (by decide) (by decide) rfl (Nat.le_of_ble_eq_true rfl) (Nat.le_of_ble_eq_true rfl) (Nat.le_of_ble_eq_true rfl) dX12_init_1 (fun o1_1 h => ?_)
  show X g 1 4 [(0, .ref h0)] [] [(h0, .inr (9, [.ref o1_1])), (o1_1, .inl ((xT g) 2, 60, .inl (fun _ => 0)))] 1 60
  exact x_retv1 G Q dX12_init_4 o1_1 h XSub.rf (Nat.le_of_ble_eq_true rfl) (Nat.le_of_ble_eq_true rfl)
theorem cdX15_init : yX15_init.cls = RX15 ∧ yX15_init.cls ≠ "java/lang/invoke/MethodHandle" ∧ yX15_init.cls ≠ "java/lang/invoke/VarHandle" ∧ (parseMethodDescriptor yX15_init.desc).map (fun d => d.parameters.length) = some 0 := by decide +kernel
def wX15_init_X15 (K : Nat → Prop) : Prop := (wX14_init_X14 (fun (o1_1 : Nat) => K o1_1))
set_option maxRecDepth 20000 in
theorem tX15_init_X15 {l : Launch} {D : va_G} {ta : Nat → ClassId} {h0 : Nat} {K : Nat → Prop} (hlt : l.stackTraces = false) (h : wX15_init_X15 K) : SMv1 l D ta yX15_init cX15_init 1 7 [.ref h0] [(h0, .inr (11, [.null]))] (fun (o1 : Nat) => [(h0, .inr (11, [.ref o1])), (o1, .inl (ta 2, 60, .inl (fun _ => 0)))]) 1 60 K := by
  refine x_stI1 hlt (plainFor_of_name (by decide +kernel)) (Nat.le_of_ble_eq_true rfl) (fun g G hl hD hT hN Q => ?_)
  subst hl; subst hD; subst hT
  unfold wX15_init_X15 at h
  show X g 1 0 [(0, .ref h0)] [] [(h0, .inr (11, [.null]))] 0 0
  refine x_aload_n G rfl dX15_init_0 0 rfl ?_
  refine x_cNv1 (host := "RoundingAuditor") (wc := [(h0, .inr (11, [.null]))]) (As := []) (rest := []) G [] (XSub.of [0] rfl (by decide)) (tX14_init_X15 G.noTraces h) (by decide) q1014 q95 q1015 rfl cdX14_init.2 (by decide) (by decide) rfl (Nat.le_of_ble_eq_true rfl) (Nat.le_of_ble_eq_true rfl) (Nat.le_of_ble_eq_true rfl) dX15_init_1 (fun o1_1 h => ?_)
  show X g 1 4 [(0, .ref h0)] [] [(h0, .inr (11, [.ref o1_1])), (o1_1, .inl ((xT g) 2, 60, .inl (fun _ => 0)))] 1 60
  exact x_retv1 G Q dX15_init_4 o1_1 h XSub.rf (Nat.le_of_ble_eq_true rfl) (Nat.le_of_ble_eq_true rfl)
theorem cdX16_init : yX16_init.cls = RX16 ∧ yX16_init.cls ≠ "java/lang/invoke/MethodHandle" ∧ yX16_init.cls ≠ "java/lang/invoke/VarHandle" ∧ (parseMethodDescriptor yX16_init.desc).map (fun d => d.parameters.length) = some 0 := by decide +kernel
set_option maxRecDepth 20000 in
theorem tX16_init_X16 {l : Launch} {D : va_G} {ta : Nat → ClassId} {h0 : Nat} {K : Nat → Prop} (hlt : l.stackTraces = false) (h : wX14_init_X14 K) : SMv1 l D ta yX16_init cX16_init 1 6 [.ref h0] [(h0, .inr (12, [.null]))] (fun (o1 : Nat) => [(h0, .inr (12, [.ref o1])), (o1, .inl (ta 2, 60, .inl (fun _ => 0)))]) 1 60 K := by
  refine x_stI1 hlt (plainFor_of_name (by decide +kernel)) (Nat.le_of_ble_eq_true rfl) (fun g G hl hD hT hN Q => ?_)
  subst hl; subst hD; subst hT
  unfold wX14_init_X14 at h
  show X g 1 0 [(0, .ref h0)] [] [(h0, .inr (12, [.null]))] 0 0
  refine x_aload_n G rfl dX16_init_0 0 rfl ?_
  refine x_cNv1 (host := "RoundingAuditor") (wc := [(h0, .inr (12, [.null]))]) (As := []) (rest := []) G [] (XSub.of [0] rfl (by decide)) (tX13_init_X16 G.noTraces h) (by decide) q1017 q94 q1018 rfl cdX13_init.2 (by decide) (by decide) rfl (Nat.le_of_ble_eq_true rfl) (Nat.le_of_ble_eq_true rfl) (Nat.le_of_ble_eq_true rfl) dX16_init_1 (fun o1_1 h => ?_)
  show X g 1 4 [(0, .ref h0)] [] [(h0, .inr (12, [.ref o1_1])), (o1_1, .inl ((xT g) 2, 60, .inl (fun _ => 0)))] 1 60
  exact x_retv1 G Q dX16_init_4 o1_1 h XSub.rf (Nat.le_of_ble_eq_true rfl) (Nat.le_of_ble_eq_true rfl)
theorem cdX17_init : yX17_init.cls = RX17 ∧ yX17_init.cls ≠ "java/lang/invoke/MethodHandle" ∧ yX17_init.cls ≠ "java/lang/invoke/VarHandle" ∧ (parseMethodDescriptor yX17_init.desc).map (fun d => d.parameters.length) = some 0 := by decide +kernel
set_option maxRecDepth 20000 in
theorem tX17_init_X17 {l : Launch} {D : va_G} {ta : Nat → ClassId} {h0 : Nat} {K : Nat → Prop} (hlt : l.stackTraces = false) (h : wX14_init_X14 K) : SMv1 l D ta yX17_init cX17_init 1 6 [.ref h0] [(h0, .inr (13, [.null]))] (fun (o1 : Nat) => [(h0, .inr (13, [.ref o1])), (o1, .inl (ta 2, 60, .inl (fun _ => 0)))]) 1 60 K := by
  refine x_stI1 hlt (plainFor_of_name (by decide +kernel)) (Nat.le_of_ble_eq_true rfl) (fun g G hl hD hT hN Q => ?_)
  subst hl; subst hD; subst hT
  unfold wX14_init_X14 at h
  show X g 1 0 [(0, .ref h0)] [] [(h0, .inr (13, [.null]))] 0 0
  refine x_aload_n G rfl dX17_init_0 0 rfl ?_
  refine x_cNv1 (host := "RoundingAuditor") (wc := [(h0, .inr (13, [.null]))]) (As := []) (rest := []) G [] (XSub.of [0] rfl (by decide)) (tX13_init_X17 G.noTraces h) (by decide) q1017 q94 q1018 rfl cdX13_init.2 (by decide) (by decide) rfl (Nat.le_of_ble_eq_true rfl) (Nat.le_of_ble_eq_true rfl) (Nat.le_of_ble_eq_true rfl) dX17_init_1 (fun o1_1 h => ?_)
  show X g 1 4 [(0, .ref h0)] [] [(h0, .inr (13, [.ref o1_1])), (o1_1, .inl ((xT g) 2, 60, .inl (fun _ => 0)))] 1 60
  exact x_retv1 G Q dX17_init_4 o1_1 h XSub.rf (Nat.le_of_ble_eq_true rfl) (Nat.le_of_ble_eq_true rfl)
theorem cdX18_init : yX18_init.cls = RX18 ∧ yX18_init.cls ≠ "java/lang/invoke/MethodHandle" ∧ yX18_init.cls ≠ "java/lang/invoke/VarHandle" ∧ (parseMethodDescriptor yX18_init.desc).map (fun d => d.parameters.length) = some 0 := by decide +kernel
set_option maxRecDepth 20000 in
theorem tX18_init_X18 {l : Launch} {D : va_G} {ta : Nat → ClassId} {h0 : Nat} {K : Nat → Prop} (hlt : l.stackTraces = false) (h : wX11_init_X11 K) : SMv1 l D ta yX18_init cX18_init 1 4 [.ref h0] [(h0, .inr (14, [.null]))] (fun (o1 : Nat) => [(h0, .inr (14, [.ref o1])), (o1, .inl (ta 2, 60, .inl (fun _ => 0)))]) 1 60 K := by
  refine x_stI1 hlt (plainFor_of_name (by decide +kernel)) (Nat.le_of_ble_eq_true rfl) (fun g G hl hD hT hN Q => ?_)
  subst hl; subst hD; subst hT
  unfold wX11_init_X11 at h
  show X g 1 0 [(0, .ref h0)] [] [(h0, .inr (14, [.null]))] 0 0
  refine x_aload_n G rfl dX18_init_0 0 rfl ?_
  refine x_cNv1 (host := "RoundingAuditor") (wc := [(h0, .inr (14, [.null]))]) (As := []) (rest := []) G [] (XSub.of [0] rfl (by decide)) (tX10_init_X18 G.noTraces h) (by decide) q985 q91 q986 rfl cdX10_init.2 (by decide) (by decide) rfl (Nat.le_of_ble_eq_true rfl) (Nat.le_of_ble_eq_true rfl) (Nat.le_of_ble_eq_true rfl) dX18_init_1 (fun o1_1 h => ?_)
  show X g 1 4 [(0, .ref h0)] [] [(h0, .inr (14, [.ref o1_1])), (o1_1, .inl ((xT g) 2, 60, .inl (fun _ => 0)))] 1 60
  exact x_retv1 G Q dX18_init_4 o1_1 h XSub.rf (Nat.le_of_ble_eq_true rfl) (Nat.le_of_ble_eq_true rfl)
theorem cdX19_init : yX19_init.cls = RX19 ∧ yX19_init.cls ≠ "java/lang/invoke/MethodHandle" ∧ yX19_init.cls ≠ "java/lang/invoke/VarHandle" ∧ (parseMethodDescriptor yX19_init.desc).map (fun d => d.parameters.length) = some 0 := by decide +kernel
set_option maxRecDepth 20000 in
theorem tX19_init_X19 {l : Launch} {D : va_G} {ta : Nat → ClassId} {h0 : Nat} {K : Nat → Prop} (hlt : l.stackTraces = false) (h : wX13_init_X14 K) : SMv1 l D ta yX19_init cX19_init 1 5 [.ref h0] [(h0, .inr (15, [.null]))] (fun (o1 : Nat) => [(h0, .inr (15, [.ref o1])), (o1, .inl (ta 2, 60, .inl (fun _ => 0)))]) 1 60 K := by
  refine x_stI1 hlt (plainFor_of_name (by decide +kernel)) (Nat.le_of_ble_eq_true rfl) (fun g G hl hD hT hN Q => ?_)
  subst hl; subst hD; subst hT
  unfold wX13_init_X14 at h
  show X g 1 0 [(0, .ref h0)] [] [(h0, .inr (15, [.null]))] 0 0
  refine x_aload_n G rfl dX19_init_0 0 rfl ?_
  refine x_cNv1 (host := "RoundingAuditor") (wc := [(h0, .inr (15, [.null]))]) (As := []) (rest := []) G [] (XSub.of [0] rfl (by decide)) (tX11_init_X19 G.noTraces h) (by decide) q982 q92 q983 rfl cdX11_init.2 (by decide) (by decide) rfl (Nat.le_of_ble_eq_true rfl) (Nat.le_of_ble_eq_true rfl) (Nat.le_of_ble_eq_true rfl) dX19_init_1 (fun o1_1 h => ?_)
  show X g 1 4 [(0, .ref h0)] [] [(h0, .inr (15, [.ref o1_1])), (o1_1, .inl ((xT g) 2, 60, .inl (fun _ => 0)))] 1 60
  exact x_retv1 G Q dX19_init_4 o1_1 h XSub.rf (Nat.le_of_ble_eq_true rfl) (Nat.le_of_ble_eq_true rfl)
theorem cdX20_init : yX20_init.cls = RX20 ∧ yX20_init.cls ≠ "java/lang/invoke/MethodHandle" ∧ yX20_init.cls ≠ "java/lang/invoke/VarHandle" ∧ (parseMethodDescriptor yX20_init.desc).map (fun d => d.parameters.length) = some 0 := by decide +kernel
def wX20_init_X20 (K : Prop) : Prop := (wX9_init (K))
set_option maxRecDepth 20000 in
theorem tX20_init_X20 {l : Launch} {D : va_G} {ta : Nat → ClassId} {h0 : Nat} {K : Prop} (hlt : l.stackTraces = false) (h : wX20_init_X20 K) : SMv0 l D ta yX20_init cX20_init 1 3 [.ref h0] [(h0, .inr (16, []))] ([(h0, .inr (16, []))]) 0 0 K := by
  refine x_stI0 hlt (plainFor_of_name (by decide +kernel)) (Nat.le_of_ble_eq_true rfl) (fun g G hl hD hT hN Q => ?_)
  subst hl; subst hD; subst hT
  unfold wX20_init_X20 at h
  show X g 1 0 [(0, .ref h0)] [] [(h0, .inr (16, []))] 0 0
  refine x_aload_n G rfl dX20_init_0 0 rfl ?_
  refine x_cNv0 (host := "RoundingAuditor") (wc := []) (As := []) (rest := []) G [(h0, .inr (16, []))] (XSub.of [0] rfl (by decide)) (tX9_init G.noTraces h) (by decide) q988 q90 q989 rfl cdX9_init.2 (by decide) (by decide) rfl (Nat.le_of_ble_eq_true rfl) (Nat.le_of_ble_eq_true rfl) (Nat.le_of_ble_eq_true rfl) dX20_init_1 (fun h => ?_)
  show X g 1 4 [(0, .ref h0)] [] [(h0, .inr (16, []))] 0 0
  exact x_retv0 G Q dX20_init_4  h XSub.rf (Nat.le_of_ble_eq_true rfl) (Nat.le_of_ble_eq_true rfl)
theorem cdX21_init : yX21_init.cls = RX21 ∧ yX21_init.cls ≠ "java/lang/invoke/MethodHandle" ∧ yX21_init.cls ≠ "java/lang/invoke/VarHandle" ∧ (parseMethodDescriptor yX21_init.desc).map (fun d => d.parameters.length) = some 1 := by decide +kernel
def wX21_init_X21 (p0 : Int32) (K : Int32 → Nat → Prop) : Prop := (wX9_init ((∀ a_1 : Nat, K p0 a_1)))
set_option maxRecDepth 20000 in
theorem tX21_init_X21 {l : Launch} {D : va_G} {ta : Nat → ClassId} {h0 : Nat} {ba : Int32} {p0 : Int32} {K : Int32 → Nat → Prop} (hlt : l.stackTraces = false) (h : wX21_init_X21 p0 K) : SMv2 l D ta yX21_init cX21_init 2 3 [.ref h0, .int p0] [(h0, .inr (17, [.int ba, .null]))] (fun (ba' : Int32) (o1 : Nat) => [(h0, .inr (17, [.int ba', .ref o1])), (o1, .inl (ta 5, 60, .inr (.inr (.inr (.inl (fun _ => FP.dconst0))))))]) 1 60 K := by
  refine x_stI2 hlt (plainFor_of_name (by decide +kernel)) (Nat.le_of_ble_eq_true rfl) (fun g G hl hD hT hN Q => ?_)
  subst hl; subst hD; subst hT
  unfold wX21_init_X21 at h
  show X g 2 0 [(0, .ref h0), (1, .int p0)] [] [(h0, .inr (17, [.int ba, .null]))] 0 0
  refine x_aload_n G rfl dX21_init_0 0 rfl ?_
  refine x_cNv0 (host := "RoundingAuditor") (wc := []) (As := []) (rest := []) G [(h0, .inr (17, [.int ba, .null]))] (XSub.of [0] rfl (by decide)) (tX9_init G.noTraces h) (by decide) q988 q90 q989 rfl cdX9_init.2 (by decide) (by decide) rfl (Nat.le_of_ble_eq_true rfl) (Nat.le_of_ble_eq_true rfl) (Nat.le_of_ble_eq_true rfl) dX21_init_1 (fun h => ?_)
  show X g 2 4 [(0, .ref h0), (1, .int p0)] [] [(h0, .inr (17, [.int ba, .null]))] 0 0
  refine x_aload_n G rfl dX21_init_4 0 rfl ?_
  refine x_bipush (v := (60 : Int32)) G dX21_init_5 (by decide) ?_
  refine x_newa (atype := .double) (ty := .double) (N' := 60) (t0 := 5) (x0 := .inr (.inr (.inr (.inl (fun _ => FP.dconst0))))) G q529 rfl rfl rfl (fun _ => rfl) (by decide) (by decide) (by decide) (Nat.le_of_ble_eq_true rfl) (Nat.le_of_ble_eq_true rfl) dX21_init_7 (fun a_1 => ?_)
  replace h := h a_1
  show X g 2 9 [(0, .ref h0), (1, .int p0)] [.ref a_1, .ref h0] [(h0, .inr (17, [.int ba, .null])), (a_1, .inl ((xT g) 5, 60, .inr (.inr (.inr (.inl (fun _ => FP.dconst0))))))] 1 60
  refine x_putF G hN in_X21 tyX21 tyX21_ok nmX21 0 rfl rfl 1 (by decide) q1076 (fun _ h => h) rfl rfl rfl rfl (Nat.le_of_ble_eq_true rfl) rfl dX21_init_9 ?_
  show X g 2 12 [(0, .ref h0), (1, .int p0)] [] [(h0, .inr (17, [.int ba, .ref a_1])), (a_1, .inl ((xT g) 5, 60, .inr (.inr (.inr (.inl (fun _ => FP.dconst0))))))] 1 60
  refine x_aload_n G rfl dX21_init_12 0 rfl ?_
  refine x_iload_n G rfl dX21_init_13 1 rfl ?_
  refine x_putF G hN in_X21 tyX21 tyX21_ok nmX21 0 rfl rfl 0 (by decide) q1075 (fun _ h => h) rfl rfl rfl rfl (Nat.le_of_ble_eq_true rfl) rfl dX21_init_14 ?_
  show X g 2 17 [(0, .ref h0), (1, .int p0)] [] [(h0, .inr (17, [.int p0, .ref a_1])), (a_1, .inl ((xT g) 5, 60, .inr (.inr (.inr (.inl (fun _ => FP.dconst0))))))] 1 60
  exact x_retv2 G Q dX21_init_17 p0 a_1 h XSub.rf (Nat.le_of_ble_eq_true rfl) (Nat.le_of_ble_eq_true rfl)
theorem cdX22_init : yX22_init.cls = RX22 ∧ yX22_init.cls ≠ "java/lang/invoke/MethodHandle" ∧ yX22_init.cls ≠ "java/lang/invoke/VarHandle" ∧ (parseMethodDescriptor yX22_init.desc).map (fun d => d.parameters.length) = some 0 := by decide +kernel
def wX22_init_X22 (K : Nat → Nat → Prop) : Prop := (wX9_init ((∀ a_1 : Nat, (∀ a_2 : Nat, K a_1 a_2))))
set_option maxRecDepth 20000 in
theorem tX22_init_X22 {l : Launch} {D : va_G} {ta : Nat → ClassId} {h0 : Nat} {K : Nat → Nat → Prop} (hlt : l.stackTraces = false) (h : wX22_init_X22 K) : SMv2 l D ta yX22_init cX22_init 1 3 [.ref h0] [(h0, .inr (18, [.null, .null]))] (fun (o1 : Nat) (o2 : Nat) => [(h0, .inr (18, [.ref o1, .ref o2])), (o1, .inl (ta 5, 120, .inr (.inr (.inr (.inl (fun _ => FP.dconst0)))))), (o2, .inl (ta 0, 120, .inl (fun _ => 0)))]) 2 240 K := by
  refine x_stI2 hlt (plainFor_of_name (by decide +kernel)) (Nat.le_of_ble_eq_true rfl) (fun g G hl hD hT hN Q => ?_)
  subst hl; subst hD; subst hT
  unfold wX22_init_X22 at h
  show X g 1 0 [(0, .ref h0)] [] [(h0, .inr (18, [.null, .null]))] 0 0
  refine x_aload_n G rfl dX22_init_0 0 rfl ?_
  refine x_cNv0 (host := "RoundingAuditor") (wc := []) (As := []) (rest := []) G [(h0, .inr (18, [.null, .null]))] (XSub.of [0] rfl (by decide)) (tX9_init G.noTraces h) (by decide) q988 q90 q989 rfl cdX9_init.2 (by decide) (by decide) rfl (Nat.le_of_ble_eq_true rfl) (Nat.le_of_ble_eq_true rfl) (Nat.le_of_ble_eq_true rfl) dX22_init_1 (fun h => ?_)
  show X g 1 4 [(0, .ref h0)] [] [(h0, .inr (18, [.null, .null]))] 0 0
  refine x_aload_n G rfl dX22_init_4 0 rfl ?_
  refine x_bipush (v := (120 : Int32)) G dX22_init_5 (by decide) ?_
  refine x_newa (atype := .double) (ty := .double) (N' := 120) (t0 := 5) (x0 := .inr (.inr (.inr (.inl (fun _ => FP.dconst0))))) G q529 rfl rfl rfl (fun _ => rfl) (by decide) (by decide) (by decide) (Nat.le_of_ble_eq_true rfl) (Nat.le_of_ble_eq_true rfl) dX22_init_7 (fun a_1 => ?_)
  replace h := h a_1
  show X g 1 9 [(0, .ref h0)] [.ref a_1, .ref h0] [(h0, .inr (18, [.null, .null])), (a_1, .inl ((xT g) 5, 120, .inr (.inr (.inr (.inl (fun _ => FP.dconst0))))))] 1 120
  refine x_putF G hN in_X22 tyX22 tyX22_ok nmX22 0 rfl rfl 0 (by decide) q1088 (fun _ h => h) rfl rfl rfl rfl (Nat.le_of_ble_eq_true rfl) rfl dX22_init_9 ?_
  show X g 1 12 [(0, .ref h0)] [] [(h0, .inr (18, [.ref a_1, .null])), (a_1, .inl ((xT g) 5, 120, .inr (.inr (.inr (.inl (fun _ => FP.dconst0))))))] 1 120
  refine x_aload_n G rfl dX22_init_12 0 rfl ?_
  refine x_bipush (v := (120 : Int32)) G dX22_init_13 (by decide) ?_
  refine x_newa (atype := .boolean) (ty := .boolean) (N' := 120) (t0 := 0) (x0 := .inl (fun _ => 0)) G q1095 rfl rfl rfl (fun _ => rfl) (by decide) (by decide) (by decide) (Nat.le_of_ble_eq_true rfl) (Nat.le_of_ble_eq_true rfl) dX22_init_15 (fun a_2 => ?_)
  replace h := h a_2
  show X g 1 17 [(0, .ref h0)] [.ref a_2, .ref h0] [(h0, .inr (18, [.ref a_1, .null])), (a_1, .inl ((xT g) 5, 120, .inr (.inr (.inr (.inl (fun _ => FP.dconst0)))))), (a_2, .inl ((xT g) 0, 120, .inl (fun _ => 0)))] 2 240
  refine x_putF G hN in_X22 tyX22 tyX22_ok nmX22 0 rfl rfl 1 (by decide) q1089 (fun _ h => h) rfl rfl rfl rfl (Nat.le_of_ble_eq_true rfl) rfl dX22_init_17 ?_
  show X g 1 20 [(0, .ref h0)] [] [(h0, .inr (18, [.ref a_1, .ref a_2])), (a_1, .inl ((xT g) 5, 120, .inr (.inr (.inr (.inl (fun _ => FP.dconst0)))))), (a_2, .inl ((xT g) 0, 120, .inl (fun _ => 0)))] 2 240
  exact x_retv2 G Q dX22_init_20 a_1 a_2 h XSub.rf (Nat.le_of_ble_eq_true rfl) (Nat.le_of_ble_eq_true rfl)
theorem cdX23_init : yX23_init.cls = RX23 ∧ yX23_init.cls ≠ "java/lang/invoke/MethodHandle" ∧ yX23_init.cls ≠ "java/lang/invoke/VarHandle" ∧ (parseMethodDescriptor yX23_init.desc).map (fun d => d.parameters.length) = some 0 := by decide +kernel
set_option maxRecDepth 20000 in
theorem tX23_init_X23 {l : Launch} {D : va_G} {ta : Nat → ClassId} {h0 : Nat} {K : Prop} (hlt : l.stackTraces = false) (h : wX20_init_X20 K) : SMv0 l D ta yX23_init cX23_init 1 3 [.ref h0] [(h0, .inr (19, []))] ([(h0, .inr (19, []))]) 0 0 K := by
  refine x_stI0 hlt (plainFor_of_name (by decide +kernel)) (Nat.le_of_ble_eq_true rfl) (fun g G hl hD hT hN Q => ?_)
  subst hl; subst hD; subst hT
  unfold wX20_init_X20 at h
  show X g 1 0 [(0, .ref h0)] [] [(h0, .inr (19, []))] 0 0
  refine x_aload_n G rfl dX23_init_0 0 rfl ?_
  refine x_cNv0 (host := "RoundingAuditor") (wc := []) (As := []) (rest := []) G [(h0, .inr (19, []))] (XSub.of [0] rfl (by decide)) (tX9_init G.noTraces h) (by decide) q988 q90 q989 rfl cdX9_init.2 (by decide) (by decide) rfl (Nat.le_of_ble_eq_true rfl) (Nat.le_of_ble_eq_true rfl) (Nat.le_of_ble_eq_true rfl) dX23_init_1 (fun h => ?_)
  show X g 1 4 [(0, .ref h0)] [] [(h0, .inr (19, []))] 0 0
  exact x_retv0 G Q dX23_init_4  h XSub.rf (Nat.le_of_ble_eq_true rfl) (Nat.le_of_ble_eq_true rfl)
theorem cdX24_init : yX24_init.cls = RX24 ∧ yX24_init.cls ≠ "java/lang/invoke/MethodHandle" ∧ yX24_init.cls ≠ "java/lang/invoke/VarHandle" ∧ (parseMethodDescriptor yX24_init.desc).map (fun d => d.parameters.length) = some 0 := by decide +kernel
set_option maxRecDepth 20000 in
theorem tX24_init_X24 {l : Launch} {D : va_G} {ta : Nat → ClassId} {h0 : Nat} {K : Prop} (hlt : l.stackTraces = false) (h : wX20_init_X20 K) : SMv0 l D ta yX24_init cX24_init 1 3 [.ref h0] [(h0, .inr (20, []))] ([(h0, .inr (20, []))]) 0 0 K := by
  refine x_stI0 hlt (plainFor_of_name (by decide +kernel)) (Nat.le_of_ble_eq_true rfl) (fun g G hl hD hT hN Q => ?_)
  subst hl; subst hD; subst hT
  unfold wX20_init_X20 at h
  show X g 1 0 [(0, .ref h0)] [] [(h0, .inr (20, []))] 0 0
  refine x_aload_n G rfl dX24_init_0 0 rfl ?_
  refine x_cNv0 (host := "RoundingAuditor") (wc := []) (As := []) (rest := []) G [(h0, .inr (20, []))] (XSub.of [0] rfl (by decide)) (tX9_init G.noTraces h) (by decide) q988 q90 q989 rfl cdX9_init.2 (by decide) (by decide) rfl (Nat.le_of_ble_eq_true rfl) (Nat.le_of_ble_eq_true rfl) (Nat.le_of_ble_eq_true rfl) dX24_init_1 (fun h => ?_)
  show X g 1 4 [(0, .ref h0)] [] [(h0, .inr (20, []))] 0 0
  exact x_retv0 G Q dX24_init_4  h XSub.rf (Nat.le_of_ble_eq_true rfl) (Nat.le_of_ble_eq_true rfl)
theorem cdX11_put : yX11_put.cls = RX11 ∧ yX11_put.cls ≠ "java/lang/invoke/MethodHandle" ∧ yX11_put.cls ≠ "java/lang/invoke/VarHandle" ∧ (parseMethodDescriptor yX11_put.desc).map (fun d => d.parameters.length) = some 2 := by decide +kernel
def wX11_put_X11_L2 (p1 : Int32) (X20 : Int32 → (Nat → Int32) → Prop) : Nat → Int32 → (Nat → Int32) → Prop
  | 0, _, _ => False
  | n + 1, v3_1, ord_2 => ((p1 ≤ v3_1 → X20 v3_1 ord_2) ∧ (¬ p1 ≤ v3_1 → (vp_in v3_1 60 ∧ (∀ f_3 : Nat → Int32, f_3 = upd ord_2 v3_1.toNatClampNeg v3_1 → (∀ x_4 : Int32, x_4 = (v3_1 + (1 : Int32)) → wX11_put_X11_L2 p1 X20 n x_4 f_3)))))
def wX11_put_X11 (p1 : Int32) (ord : Nat → Int32) (K : (Nat → Int32) → Prop) : Prop := (∃ m2 : Nat, wX11_put_X11_L2 p1 (fun (v3_7 : Int32) (ord_8 : Nat → Int32) => K ord_8) m2 (0 : Int32) ord)
set_option maxRecDepth 20000 in
theorem kX11_put_X11_L2 {g : XG} {h0 : Nat} {h0o : Nat} {q0 : Nat} {p1 : Int32} {X20 : Int32 → (Nat → Int32) → Prop} (G : XO g RX11 cX11_put 4 1 0 0) (hX20 : ∀ (v3_5 : Int32) (ord_6 : Nat → Int32), X20 v3_5 ord_6 → X g 4 20 [(3, .int v3_5), (0, .ref h0), (1, .ref q0), (2, .int p1)] [] [(h0, .inr (8, [.ref h0o])), (h0o, .inl ((xT g) 2, 60, .inl ord_6))] 0 0) : ∀ (n : Nat) (v3_1 : Int32) (ord_2 : Nat → Int32), wX11_put_X11_L2 p1 X20 n v3_1 ord_2 → X g 4 2 [(3, .int v3_1), (0, .ref h0), (1, .ref q0), (2, .int p1)] [] [(h0, .inr (8, [.ref h0o])), (h0o, .inl ((xT g) 2, 60, .inl ord_2))] 0 0 := by
  intro n
  induction n with
  | zero => intro _ _ h; exact h.elim
  | succ n ih =>
    intro v3_1 ord_2 h
    unfold wX11_put_X11_L2 at h
    refine x_iload_n G rfl dX11_put_2 0 rfl ?_
    refine x_iload_n G rfl dX11_put_3 3 rfl ?_
    refine x_icmp_ge (tgt := 20) G dX11_put_4 rfl (fun c => ?_) (fun c => ?_)
    · replace h := h.1 c
      exact hX20 v3_1 ord_2 h
    · replace h := h.2 c
      refine x_aload_n G rfl dX11_put_7 1 rfl ?_
      refine x_get G in_X11 0 rfl rfl 0 (by decide) q992 (fun x9 h => u_same (G.hts _ q993) x9 h) rfl dX11_put_8 ?_
      refine x_iload_n G rfl dX11_put_11 0 rfl ?_
      refine x_iload_n G rfl dX11_put_12 0 rfl ?_
      obtain ⟨hz, h⟩ := h
      obtain ⟨f_3, ef_3⟩ : ∃ z : Nat → Int32, z = upd ord_2 v3_1.toNatClampNeg v3_1 := ⟨_, rfl⟩
      replace h := h f_3 ef_3
      refine x_iast G 1 rfl hz (by rw [← ef_3]) dX11_put_13 ?_
      show X g 4 14 [(3, .int v3_1), (0, .ref h0), (1, .ref q0), (2, .int p1)] [] [(h0, .inr (8, [.ref h0o])), (h0o, .inl ((xT g) 2, 60, .inl f_3))] 0 0
      obtain ⟨x_4, ex_4⟩ : ∃ z : Int32, z = (v3_1 + (1 : Int32)) := ⟨_, rfl⟩
      replace h := h x_4 ex_4
      refine x_iinc (v := x_4) (lv' := [(3, .int x_4), (0, .ref h0), (1, .ref q0), (2, .int p1)]) G dX11_put_14 0 rfl (by rw [ex_4]; rfl) (by decide) rfl ?_
      refine x_goto (tgt := 2) G dX11_put_17 rfl ?_
      exact ih x_4 f_3 h
set_option maxRecDepth 20000 in
theorem tX11_put_X11 {l : Launch} {D : va_G} {ta : Nat → ClassId} {h0 : Nat} {h0o : Nat} {ord : Nat → Int32} {q0 : Nat} {p1 : Int32} {K : (Nat → Int32) → Prop} (hlt : l.stackTraces = false) (h : wX11_put_X11 p1 ord K) : SMv1 l D ta yX11_put cX11_put 4 1 [.ref h0, .ref q0, .int p1] [(h0, .inr (8, [.ref h0o])), (h0o, .inl (ta 2, 60, .inl ord))] (fun (ord' : Nat → Int32) => [(h0, .inr (8, [.ref h0o])), (h0o, .inl (ta 2, 60, .inl ord'))]) 0 0 K := by
  refine x_stv1 hlt (plainFor_of_name (by decide +kernel)) (Nat.le_of_ble_eq_true rfl) (fun g G hl hD hT Q => ?_)
  subst hl; subst hD; subst hT
  unfold wX11_put_X11 at h
  show X g 4 0 [(0, .ref h0), (1, .ref q0), (2, .int p1)] [] [(h0, .inr (8, [.ref h0o])), (h0o, .inl ((xT g) 2, 60, .inl ord))] 0 0
  refine x_iconst (v := (0 : Int32)) G dX11_put_0 (by decide) ?_
  refine x_istore_n (lv' := [(3, .int (0 : Int32)), (0, .ref h0), (1, .ref q0), (2, .int p1)]) G rfl dX11_put_1 (by decide) rfl ?_
  obtain ⟨n0, h⟩ := h
  refine kX11_put_X11_L2 G (fun v3_7 ord_8 h => ?_) n0 _ _ h
  · exact x_retv1 G Q dX11_put_20 ord_8 h XSub.rf (Nat.le_of_ble_eq_true rfl) (Nat.le_of_ble_eq_true rfl)
set_option maxRecDepth 20000 in
theorem kX11_put_X14_L2 {g : XG} {h0 : Nat} {h0o : Nat} {q0 : Nat} {p1 : Int32} {X20 : Int32 → (Nat → Int32) → Prop} (G : XO g RX11 cX11_put 4 1 0 0) (hX20 : ∀ (v3_5 : Int32) (ord_6 : Nat → Int32), X20 v3_5 ord_6 → X g 4 20 [(3, .int v3_5), (0, .ref h0), (1, .ref q0), (2, .int p1)] [] [(h0, .inr (10, [.ref h0o])), (h0o, .inl ((xT g) 2, 60, .inl ord_6))] 0 0) : ∀ (n : Nat) (v3_1 : Int32) (ord_2 : Nat → Int32), wX11_put_X11_L2 p1 X20 n v3_1 ord_2 → X g 4 2 [(3, .int v3_1), (0, .ref h0), (1, .ref q0), (2, .int p1)] [] [(h0, .inr (10, [.ref h0o])), (h0o, .inl ((xT g) 2, 60, .inl ord_2))] 0 0 := by
  intro n
  induction n with
  | zero => intro _ _ h; exact h.elim
  | succ n ih =>
    intro v3_1 ord_2 h
    unfold wX11_put_X11_L2 at h
    refine x_iload_n G rfl dX11_put_2 0 rfl ?_
    refine x_iload_n G rfl dX11_put_3 3 rfl ?_
    refine x_icmp_ge (tgt := 20) G dX11_put_4 rfl (fun c => ?_) (fun c => ?_)
    · replace h := h.1 c
      exact hX20 v3_1 ord_2 h
    · replace h := h.2 c
      refine x_aload_n G rfl dX11_put_7 1 rfl ?_
      refine x_get G in_X14 0 rfl rfl 0 (by decide) q992 (fun x9 h => u_same (G.hts _ q993) x9 h) rfl dX11_put_8 ?_
      refine x_iload_n G rfl dX11_put_11 0 rfl ?_
      refine x_iload_n G rfl dX11_put_12 0 rfl ?_
      obtain ⟨hz, h⟩ := h
      obtain ⟨f_3, ef_3⟩ : ∃ z : Nat → Int32, z = upd ord_2 v3_1.toNatClampNeg v3_1 := ⟨_, rfl⟩
      replace h := h f_3 ef_3
      refine x_iast G 1 rfl hz (by rw [← ef_3]) dX11_put_13 ?_
      show X g 4 14 [(3, .int v3_1), (0, .ref h0), (1, .ref q0), (2, .int p1)] [] [(h0, .inr (10, [.ref h0o])), (h0o, .inl ((xT g) 2, 60, .inl f_3))] 0 0
      obtain ⟨x_4, ex_4⟩ : ∃ z : Int32, z = (v3_1 + (1 : Int32)) := ⟨_, rfl⟩
      replace h := h x_4 ex_4
      refine x_iinc (v := x_4) (lv' := [(3, .int x_4), (0, .ref h0), (1, .ref q0), (2, .int p1)]) G dX11_put_14 0 rfl (by rw [ex_4]; rfl) (by decide) rfl ?_
      refine x_goto (tgt := 2) G dX11_put_17 rfl ?_
      exact ih x_4 f_3 h
set_option maxRecDepth 20000 in
theorem tX11_put_X14 {l : Launch} {D : va_G} {ta : Nat → ClassId} {h0 : Nat} {h0o : Nat} {ord : Nat → Int32} {q0 : Nat} {p1 : Int32} {K : (Nat → Int32) → Prop} (hlt : l.stackTraces = false) (h : wX11_put_X11 p1 ord K) : SMv1 l D ta yX11_put cX11_put 4 1 [.ref h0, .ref q0, .int p1] [(h0, .inr (10, [.ref h0o])), (h0o, .inl (ta 2, 60, .inl ord))] (fun (ord' : Nat → Int32) => [(h0, .inr (10, [.ref h0o])), (h0o, .inl (ta 2, 60, .inl ord'))]) 0 0 K := by
  refine x_stv1 hlt (plainFor_of_name (by decide +kernel)) (Nat.le_of_ble_eq_true rfl) (fun g G hl hD hT Q => ?_)
  subst hl; subst hD; subst hT
  unfold wX11_put_X11 at h
  show X g 4 0 [(0, .ref h0), (1, .ref q0), (2, .int p1)] [] [(h0, .inr (10, [.ref h0o])), (h0o, .inl ((xT g) 2, 60, .inl ord))] 0 0
  refine x_iconst (v := (0 : Int32)) G dX11_put_0 (by decide) ?_
  refine x_istore_n (lv' := [(3, .int (0 : Int32)), (0, .ref h0), (1, .ref q0), (2, .int p1)]) G rfl dX11_put_1 (by decide) rfl ?_
  obtain ⟨n0, h⟩ := h
  refine kX11_put_X14_L2 G (fun v3_7 ord_8 h => ?_) n0 _ _ h
  · exact x_retv1 G Q dX11_put_20 ord_8 h XSub.rf (Nat.le_of_ble_eq_true rfl) (Nat.le_of_ble_eq_true rfl)
set_option maxRecDepth 20000 in
theorem kX11_put_X15_L2 {g : XG} {h0 : Nat} {h0o : Nat} {q0 : Nat} {p1 : Int32} {X20 : Int32 → (Nat → Int32) → Prop} (G : XO g RX11 cX11_put 4 1 0 0) (hX20 : ∀ (v3_5 : Int32) (ord_6 : Nat → Int32), X20 v3_5 ord_6 → X g 4 20 [(3, .int v3_5), (0, .ref h0), (1, .ref q0), (2, .int p1)] [] [(h0, .inr (11, [.ref h0o])), (h0o, .inl ((xT g) 2, 60, .inl ord_6))] 0 0) : ∀ (n : Nat) (v3_1 : Int32) (ord_2 : Nat → Int32), wX11_put_X11_L2 p1 X20 n v3_1 ord_2 → X g 4 2 [(3, .int v3_1), (0, .ref h0), (1, .ref q0), (2, .int p1)] [] [(h0, .inr (11, [.ref h0o])), (h0o, .inl ((xT g) 2, 60, .inl ord_2))] 0 0 := by
  intro n
  induction n with
  | zero => intro _ _ h; exact h.elim
  | succ n ih =>
    intro v3_1 ord_2 h
    unfold wX11_put_X11_L2 at h
    refine x_iload_n G rfl dX11_put_2 0 rfl ?_
    refine x_iload_n G rfl dX11_put_3 3 rfl ?_
    refine x_icmp_ge (tgt := 20) G dX11_put_4 rfl (fun c => ?_) (fun c => ?_)
    · replace h := h.1 c
      exact hX20 v3_1 ord_2 h
    · replace h := h.2 c
      refine x_aload_n G rfl dX11_put_7 1 rfl ?_
      refine x_get G in_X15 0 rfl rfl 0 (by decide) q992 (fun x9 h => u_same (G.hts _ q993) x9 h) rfl dX11_put_8 ?_
      refine x_iload_n G rfl dX11_put_11 0 rfl ?_
      refine x_iload_n G rfl dX11_put_12 0 rfl ?_
      obtain ⟨hz, h⟩ := h
      obtain ⟨f_3, ef_3⟩ : ∃ z : Nat → Int32, z = upd ord_2 v3_1.toNatClampNeg v3_1 := ⟨_, rfl⟩
      replace h := h f_3 ef_3
      refine x_iast G 1 rfl hz (by rw [← ef_3]) dX11_put_13 ?_
      show X g 4 14 [(3, .int v3_1), (0, .ref h0), (1, .ref q0), (2, .int p1)] [] [(h0, .inr (11, [.ref h0o])), (h0o, .inl ((xT g) 2, 60, .inl f_3))] 0 0
      obtain ⟨x_4, ex_4⟩ : ∃ z : Int32, z = (v3_1 + (1 : Int32)) := ⟨_, rfl⟩
      replace h := h x_4 ex_4
      refine x_iinc (v := x_4) (lv' := [(3, .int x_4), (0, .ref h0), (1, .ref q0), (2, .int p1)]) G dX11_put_14 0 rfl (by rw [ex_4]; rfl) (by decide) rfl ?_
      refine x_goto (tgt := 2) G dX11_put_17 rfl ?_
      exact ih x_4 f_3 h
set_option maxRecDepth 20000 in
theorem tX11_put_X15 {l : Launch} {D : va_G} {ta : Nat → ClassId} {h0 : Nat} {h0o : Nat} {ord : Nat → Int32} {q0 : Nat} {p1 : Int32} {K : (Nat → Int32) → Prop} (hlt : l.stackTraces = false) (h : wX11_put_X11 p1 ord K) : SMv1 l D ta yX11_put cX11_put 4 1 [.ref h0, .ref q0, .int p1] [(h0, .inr (11, [.ref h0o])), (h0o, .inl (ta 2, 60, .inl ord))] (fun (ord' : Nat → Int32) => [(h0, .inr (11, [.ref h0o])), (h0o, .inl (ta 2, 60, .inl ord'))]) 0 0 K := by
  refine x_stv1 hlt (plainFor_of_name (by decide +kernel)) (Nat.le_of_ble_eq_true rfl) (fun g G hl hD hT Q => ?_)
  subst hl; subst hD; subst hT
  unfold wX11_put_X11 at h
  show X g 4 0 [(0, .ref h0), (1, .ref q0), (2, .int p1)] [] [(h0, .inr (11, [.ref h0o])), (h0o, .inl ((xT g) 2, 60, .inl ord))] 0 0
  refine x_iconst (v := (0 : Int32)) G dX11_put_0 (by decide) ?_
  refine x_istore_n (lv' := [(3, .int (0 : Int32)), (0, .ref h0), (1, .ref q0), (2, .int p1)]) G rfl dX11_put_1 (by decide) rfl ?_
  obtain ⟨n0, h⟩ := h
  refine kX11_put_X15_L2 G (fun v3_7 ord_8 h => ?_) n0 _ _ h
  · exact x_retv1 G Q dX11_put_20 ord_8 h XSub.rf (Nat.le_of_ble_eq_true rfl) (Nat.le_of_ble_eq_true rfl)
set_option maxRecDepth 20000 in
theorem kX11_put_X16_L2 {g : XG} {h0 : Nat} {h0o : Nat} {q0 : Nat} {p1 : Int32} {X20 : Int32 → (Nat → Int32) → Prop} (G : XO g RX11 cX11_put 4 1 0 0) (hX20 : ∀ (v3_5 : Int32) (ord_6 : Nat → Int32), X20 v3_5 ord_6 → X g 4 20 [(3, .int v3_5), (0, .ref h0), (1, .ref q0), (2, .int p1)] [] [(h0, .inr (12, [.ref h0o])), (h0o, .inl ((xT g) 2, 60, .inl ord_6))] 0 0) : ∀ (n : Nat) (v3_1 : Int32) (ord_2 : Nat → Int32), wX11_put_X11_L2 p1 X20 n v3_1 ord_2 → X g 4 2 [(3, .int v3_1), (0, .ref h0), (1, .ref q0), (2, .int p1)] [] [(h0, .inr (12, [.ref h0o])), (h0o, .inl ((xT g) 2, 60, .inl ord_2))] 0 0 := by
  intro n
  induction n with
  | zero => intro _ _ h; exact h.elim
  | succ n ih =>
    intro v3_1 ord_2 h
    unfold wX11_put_X11_L2 at h
    refine x_iload_n G rfl dX11_put_2 0 rfl ?_
    refine x_iload_n G rfl dX11_put_3 3 rfl ?_
    refine x_icmp_ge (tgt := 20) G dX11_put_4 rfl (fun c => ?_) (fun c => ?_)
    · replace h := h.1 c
      exact hX20 v3_1 ord_2 h
    · replace h := h.2 c
      refine x_aload_n G rfl dX11_put_7 1 rfl ?_
      refine x_get G in_X16 0 rfl rfl 0 (by decide) q992 (fun x9 h => u_same (G.hts _ q993) x9 h) rfl dX11_put_8 ?_
      refine x_iload_n G rfl dX11_put_11 0 rfl ?_
      refine x_iload_n G rfl dX11_put_12 0 rfl ?_
      obtain ⟨hz, h⟩ := h
      obtain ⟨f_3, ef_3⟩ : ∃ z : Nat → Int32, z = upd ord_2 v3_1.toNatClampNeg v3_1 := ⟨_, rfl⟩
      replace h := h f_3 ef_3
      refine x_iast G 1 rfl hz (by rw [← ef_3]) dX11_put_13 ?_
      show X g 4 14 [(3, .int v3_1), (0, .ref h0), (1, .ref q0), (2, .int p1)] [] [(h0, .inr (12, [.ref h0o])), (h0o, .inl ((xT g) 2, 60, .inl f_3))] 0 0
      obtain ⟨x_4, ex_4⟩ : ∃ z : Int32, z = (v3_1 + (1 : Int32)) := ⟨_, rfl⟩
      replace h := h x_4 ex_4
      refine x_iinc (v := x_4) (lv' := [(3, .int x_4), (0, .ref h0), (1, .ref q0), (2, .int p1)]) G dX11_put_14 0 rfl (by rw [ex_4]; rfl) (by decide) rfl ?_
      refine x_goto (tgt := 2) G dX11_put_17 rfl ?_
      exact ih x_4 f_3 h
set_option maxRecDepth 20000 in
theorem tX11_put_X16 {l : Launch} {D : va_G} {ta : Nat → ClassId} {h0 : Nat} {h0o : Nat} {ord : Nat → Int32} {q0 : Nat} {p1 : Int32} {K : (Nat → Int32) → Prop} (hlt : l.stackTraces = false) (h : wX11_put_X11 p1 ord K) : SMv1 l D ta yX11_put cX11_put 4 1 [.ref h0, .ref q0, .int p1] [(h0, .inr (12, [.ref h0o])), (h0o, .inl (ta 2, 60, .inl ord))] (fun (ord' : Nat → Int32) => [(h0, .inr (12, [.ref h0o])), (h0o, .inl (ta 2, 60, .inl ord'))]) 0 0 K := by
  refine x_stv1 hlt (plainFor_of_name (by decide +kernel)) (Nat.le_of_ble_eq_true rfl) (fun g G hl hD hT Q => ?_)
  subst hl; subst hD; subst hT
  unfold wX11_put_X11 at h
  show X g 4 0 [(0, .ref h0), (1, .ref q0), (2, .int p1)] [] [(h0, .inr (12, [.ref h0o])), (h0o, .inl ((xT g) 2, 60, .inl ord))] 0 0
  refine x_iconst (v := (0 : Int32)) G dX11_put_0 (by decide) ?_
  refine x_istore_n (lv' := [(3, .int (0 : Int32)), (0, .ref h0), (1, .ref q0), (2, .int p1)]) G rfl dX11_put_1 (by decide) rfl ?_
  obtain ⟨n0, h⟩ := h
  refine kX11_put_X16_L2 G (fun v3_7 ord_8 h => ?_) n0 _ _ h
  · exact x_retv1 G Q dX11_put_20 ord_8 h XSub.rf (Nat.le_of_ble_eq_true rfl) (Nat.le_of_ble_eq_true rfl)
set_option maxRecDepth 20000 in
theorem kX11_put_X17_L2 {g : XG} {h0 : Nat} {h0o : Nat} {q0 : Nat} {p1 : Int32} {X20 : Int32 → (Nat → Int32) → Prop} (G : XO g RX11 cX11_put 4 1 0 0) (hX20 : ∀ (v3_5 : Int32) (ord_6 : Nat → Int32), X20 v3_5 ord_6 → X g 4 20 [(3, .int v3_5), (0, .ref h0), (1, .ref q0), (2, .int p1)] [] [(h0, .inr (13, [.ref h0o])), (h0o, .inl ((xT g) 2, 60, .inl ord_6))] 0 0) : ∀ (n : Nat) (v3_1 : Int32) (ord_2 : Nat → Int32), wX11_put_X11_L2 p1 X20 n v3_1 ord_2 → X g 4 2 [(3, .int v3_1), (0, .ref h0), (1, .ref q0), (2, .int p1)] [] [(h0, .inr (13, [.ref h0o])), (h0o, .inl ((xT g) 2, 60, .inl ord_2))] 0 0 := by
  intro n
  induction n with
  | zero => intro _ _ h; exact h.elim
  | succ n ih =>
    intro v3_1 ord_2 h
    unfold wX11_put_X11_L2 at h
    refine x_iload_n G rfl dX11_put_2 0 rfl ?_
    refine x_iload_n G rfl dX11_put_3 3 rfl ?_
    refine x_icmp_ge (tgt := 20) G dX11_put_4 rfl (fun c => ?_) (fun c => ?_)
    · replace h := h.1 c
      exact hX20 v3_1 ord_2 h
    · replace h := h.2 c
      refine x_aload_n G rfl dX11_put_7 1 rfl ?_
      refine x_get G in_X17 0 rfl rfl 0 (by decide) q992 (fun x9 h => u_same (G.hts _ q993) x9 h) rfl dX11_put_8 ?_
      refine x_iload_n G rfl dX11_put_11 0 rfl ?_
      refine x_iload_n G rfl dX11_put_12 0 rfl ?_
      obtain ⟨hz, h⟩ := h
      obtain ⟨f_3, ef_3⟩ : ∃ z : Nat → Int32, z = upd ord_2 v3_1.toNatClampNeg v3_1 := ⟨_, rfl⟩
      replace h := h f_3 ef_3
      refine x_iast G 1 rfl hz (by rw [← ef_3]) dX11_put_13 ?_
      show X g 4 14 [(3, .int v3_1), (0, .ref h0), (1, .ref q0), (2, .int p1)] [] [(h0, .inr (13, [.ref h0o])), (h0o, .inl ((xT g) 2, 60, .inl f_3))] 0 0
      obtain ⟨x_4, ex_4⟩ : ∃ z : Int32, z = (v3_1 + (1 : Int32)) := ⟨_, rfl⟩
      replace h := h x_4 ex_4
      refine x_iinc (v := x_4) (lv' := [(3, .int x_4), (0, .ref h0), (1, .ref q0), (2, .int p1)]) G dX11_put_14 0 rfl (by rw [ex_4]; rfl) (by decide) rfl ?_
      refine x_goto (tgt := 2) G dX11_put_17 rfl ?_
      exact ih x_4 f_3 h
set_option maxRecDepth 20000 in
theorem tX11_put_X17 {l : Launch} {D : va_G} {ta : Nat → ClassId} {h0 : Nat} {h0o : Nat} {ord : Nat → Int32} {q0 : Nat} {p1 : Int32} {K : (Nat → Int32) → Prop} (hlt : l.stackTraces = false) (h : wX11_put_X11 p1 ord K) : SMv1 l D ta yX11_put cX11_put 4 1 [.ref h0, .ref q0, .int p1] [(h0, .inr (13, [.ref h0o])), (h0o, .inl (ta 2, 60, .inl ord))] (fun (ord' : Nat → Int32) => [(h0, .inr (13, [.ref h0o])), (h0o, .inl (ta 2, 60, .inl ord'))]) 0 0 K := by
  refine x_stv1 hlt (plainFor_of_name (by decide +kernel)) (Nat.le_of_ble_eq_true rfl) (fun g G hl hD hT Q => ?_)
  subst hl; subst hD; subst hT
  unfold wX11_put_X11 at h
  show X g 4 0 [(0, .ref h0), (1, .ref q0), (2, .int p1)] [] [(h0, .inr (13, [.ref h0o])), (h0o, .inl ((xT g) 2, 60, .inl ord))] 0 0
  refine x_iconst (v := (0 : Int32)) G dX11_put_0 (by decide) ?_
  refine x_istore_n (lv' := [(3, .int (0 : Int32)), (0, .ref h0), (1, .ref q0), (2, .int p1)]) G rfl dX11_put_1 (by decide) rfl ?_
  obtain ⟨n0, h⟩ := h
  refine kX11_put_X17_L2 G (fun v3_7 ord_8 h => ?_) n0 _ _ h
  · exact x_retv1 G Q dX11_put_20 ord_8 h XSub.rf (Nat.le_of_ble_eq_true rfl) (Nat.le_of_ble_eq_true rfl)
set_option maxRecDepth 20000 in
theorem kX11_put_X19_L2 {g : XG} {h0 : Nat} {h0o : Nat} {q0 : Nat} {p1 : Int32} {X20 : Int32 → (Nat → Int32) → Prop} (G : XO g RX11 cX11_put 4 1 0 0) (hX20 : ∀ (v3_5 : Int32) (ord_6 : Nat → Int32), X20 v3_5 ord_6 → X g 4 20 [(3, .int v3_5), (0, .ref h0), (1, .ref q0), (2, .int p1)] [] [(h0, .inr (15, [.ref h0o])), (h0o, .inl ((xT g) 2, 60, .inl ord_6))] 0 0) : ∀ (n : Nat) (v3_1 : Int32) (ord_2 : Nat → Int32), wX11_put_X11_L2 p1 X20 n v3_1 ord_2 → X g 4 2 [(3, .int v3_1), (0, .ref h0), (1, .ref q0), (2, .int p1)] [] [(h0, .inr (15, [.ref h0o])), (h0o, .inl ((xT g) 2, 60, .inl ord_2))] 0 0 := by
  intro n
  induction n with
  | zero => intro _ _ h; exact h.elim
  | succ n ih =>
    intro v3_1 ord_2 h
    unfold wX11_put_X11_L2 at h
    refine x_iload_n G rfl dX11_put_2 0 rfl ?_
    refine x_iload_n G rfl dX11_put_3 3 rfl ?_
    refine x_icmp_ge (tgt := 20) G dX11_put_4 rfl (fun c => ?_) (fun c => ?_)
    · replace h := h.1 c
      exact hX20 v3_1 ord_2 h
    · replace h := h.2 c
      refine x_aload_n G rfl dX11_put_7 1 rfl ?_
      refine x_get G in_X19 0 rfl rfl 0 (by decide) q992 (fun x9 h => u_same (G.hts _ q993) x9 h) rfl dX11_put_8 ?_
      refine x_iload_n G rfl dX11_put_11 0 rfl ?_
      refine x_iload_n G rfl dX11_put_12 0 rfl ?_
      obtain ⟨hz, h⟩ := h
      obtain ⟨f_3, ef_3⟩ : ∃ z : Nat → Int32, z = upd ord_2 v3_1.toNatClampNeg v3_1 := ⟨_, rfl⟩
      replace h := h f_3 ef_3
      refine x_iast G 1 rfl hz (by rw [← ef_3]) dX11_put_13 ?_
      show X g 4 14 [(3, .int v3_1), (0, .ref h0), (1, .ref q0), (2, .int p1)] [] [(h0, .inr (15, [.ref h0o])), (h0o, .inl ((xT g) 2, 60, .inl f_3))] 0 0
      obtain ⟨x_4, ex_4⟩ : ∃ z : Int32, z = (v3_1 + (1 : Int32)) := ⟨_, rfl⟩
      replace h := h x_4 ex_4
      refine x_iinc (v := x_4) (lv' := [(3, .int x_4), (0, .ref h0), (1, .ref q0), (2, .int p1)]) G dX11_put_14 0 rfl (by rw [ex_4]; rfl) (by decide) rfl ?_
      refine x_goto (tgt := 2) G dX11_put_17 rfl ?_
      exact ih x_4 f_3 h
set_option maxRecDepth 20000 in
theorem tX11_put_X19 {l : Launch} {D : va_G} {ta : Nat → ClassId} {h0 : Nat} {h0o : Nat} {ord : Nat → Int32} {q0 : Nat} {p1 : Int32} {K : (Nat → Int32) → Prop} (hlt : l.stackTraces = false) (h : wX11_put_X11 p1 ord K) : SMv1 l D ta yX11_put cX11_put 4 1 [.ref h0, .ref q0, .int p1] [(h0, .inr (15, [.ref h0o])), (h0o, .inl (ta 2, 60, .inl ord))] (fun (ord' : Nat → Int32) => [(h0, .inr (15, [.ref h0o])), (h0o, .inl (ta 2, 60, .inl ord'))]) 0 0 K := by
  refine x_stv1 hlt (plainFor_of_name (by decide +kernel)) (Nat.le_of_ble_eq_true rfl) (fun g G hl hD hT Q => ?_)
  subst hl; subst hD; subst hT
  unfold wX11_put_X11 at h
  show X g 4 0 [(0, .ref h0), (1, .ref q0), (2, .int p1)] [] [(h0, .inr (15, [.ref h0o])), (h0o, .inl ((xT g) 2, 60, .inl ord))] 0 0
  refine x_iconst (v := (0 : Int32)) G dX11_put_0 (by decide) ?_
  refine x_istore_n (lv' := [(3, .int (0 : Int32)), (0, .ref h0), (1, .ref q0), (2, .int p1)]) G rfl dX11_put_1 (by decide) rfl ?_
  obtain ⟨n0, h⟩ := h
  refine kX11_put_X19_L2 G (fun v3_7 ord_8 h => ?_) n0 _ _ h
  · exact x_retv1 G Q dX11_put_20 ord_8 h XSub.rf (Nat.le_of_ble_eq_true rfl) (Nat.le_of_ble_eq_true rfl)
theorem cdX12_put : yX12_put.cls = RX12 ∧ yX12_put.cls ≠ "java/lang/invoke/MethodHandle" ∧ yX12_put.cls ≠ "java/lang/invoke/VarHandle" ∧ (parseMethodDescriptor yX12_put.desc).map (fun d => d.parameters.length) = some 2 := by decide +kernel
def wX12_put_X12_L2 (p1 : Int32) (X24 : Int32 → (Nat → Int32) → Prop) : Nat → Int32 → (Nat → Int32) → Prop
  | 0, _, _ => False
  | n + 1, v3_1, ord_2 => ((p1 ≤ v3_1 → X24 v3_1 ord_2) ∧ (¬ p1 ≤ v3_1 → (∀ x_3 : Int32, x_3 = ((p1 - (1 : Int32)) - v3_1) → (vp_in v3_1 60 ∧ (∀ f_4 : Nat → Int32, f_4 = upd ord_2 v3_1.toNatClampNeg x_3 → (∀ x_5 : Int32, x_5 = (v3_1 + (1 : Int32)) → wX12_put_X12_L2 p1 X24 n x_5 f_4))))))
def wX12_put_X12 (p1 : Int32) (ord : Nat → Int32) (K : (Nat → Int32) → Prop) : Prop := (∃ m2 : Nat, wX12_put_X12_L2 p1 (fun (v3_8 : Int32) (ord_9 : Nat → Int32) => K ord_9) m2 (0 : Int32) ord)
set_option maxRecDepth 20000 in
theorem kX12_put_X12_L2 {g : XG} {h0 : Nat} {h0o : Nat} {q0 : Nat} {p1 : Int32} {X24 : Int32 → (Nat → Int32) → Prop} (G : XO g RX12 cX12_put 4 1 0 0) (hX24 : ∀ (v3_6 : Int32) (ord_7 : Nat → Int32), X24 v3_6 ord_7 → X g 4 24 [(3, .int v3_6), (0, .ref h0), (1, .ref q0), (2, .int p1)] [] [(h0, .inr (9, [.ref h0o])), (h0o, .inl ((xT g) 2, 60, .inl ord_7))] 0 0) : ∀ (n : Nat) (v3_1 : Int32) (ord_2 : Nat → Int32), wX12_put_X12_L2 p1 X24 n v3_1 ord_2 → X g 4 2 [(3, .int v3_1), (0, .ref h0), (1, .ref q0), (2, .int p1)] [] [(h0, .inr (9, [.ref h0o])), (h0o, .inl ((xT g) 2, 60, .inl ord_2))] 0 0 := by
  intro n
  induction n with
  | zero => intro _ _ h; exact h.elim
  | succ n ih =>
    intro v3_1 ord_2 h
    unfold wX12_put_X12_L2 at h
    refine x_iload_n G rfl dX12_put_2 0 rfl ?_
    refine x_iload_n G rfl dX12_put_3 3 rfl ?_
    refine x_icmp_ge (tgt := 24) G dX12_put_4 rfl (fun c => ?_) (fun c => ?_)
    · replace h := h.1 c
      exact hX24 v3_1 ord_2 h
    · replace h := h.2 c
      refine x_aload_n G rfl dX12_put_7 1 rfl ?_
      refine x_get G in_X12 0 rfl rfl 0 (by decide) q994 (fun x9 h => u_same (G.hts _ q995) x9 h) rfl dX12_put_8 ?_
      refine x_iload_n G rfl dX12_put_11 0 rfl ?_
      refine x_iload_n G rfl dX12_put_12 3 rfl ?_
      refine x_iconst (v := (1 : Int32)) G dX12_put_13 (by decide) ?_
      refine x_isub G dX12_put_14 ?_
      refine x_iload_n G rfl dX12_put_15 0 rfl ?_
      refine x_isub G dX12_put_16 ?_
      refine x_topi (fun x_3 ex_3 => ?_)
      replace h := h x_3 ex_3
      obtain ⟨hz, h⟩ := h
      obtain ⟨f_4, ef_4⟩ : ∃ z : Nat → Int32, z = upd ord_2 v3_1.toNatClampNeg x_3 := ⟨_, rfl⟩
      replace h := h f_4 ef_4
      refine x_iast G 1 rfl hz (by rw [← ef_4]) dX12_put_17 ?_
      show X g 4 18 [(3, .int v3_1), (0, .ref h0), (1, .ref q0), (2, .int p1)] [] [(h0, .inr (9, [.ref h0o])), (h0o, .inl ((xT g) 2, 60, .inl f_4))] 0 0
      obtain ⟨x_5, ex_5⟩ : ∃ z : Int32, z = (v3_1 + (1 : Int32)) := ⟨_, rfl⟩
      replace h := h x_5 ex_5
      refine x_iinc (v := x_5) (lv' := [(3, .int x_5), (0, .ref h0), (1, .ref q0), (2, .int p1)]) G dX12_put_18 0 rfl (by rw [ex_5]; rfl) (by decide) rfl ?_
      refine x_goto (tgt := 2) G dX12_put_21 rfl ?_
      exact ih x_5 f_4 h
set_option maxRecDepth 20000 in
theorem tX12_put_X12 {l : Launch} {D : va_G} {ta : Nat → ClassId} {h0 : Nat} {h0o : Nat} {ord : Nat → Int32} {q0 : Nat} {p1 : Int32} {K : (Nat → Int32) → Prop} (hlt : l.stackTraces = false) (h : wX12_put_X12 p1 ord K) : SMv1 l D ta yX12_put cX12_put 4 1 [.ref h0, .ref q0, .int p1] [(h0, .inr (9, [.ref h0o])), (h0o, .inl (ta 2, 60, .inl ord))] (fun (ord' : Nat → Int32) => [(h0, .inr (9, [.ref h0o])), (h0o, .inl (ta 2, 60, .inl ord'))]) 0 0 K := by
  refine x_stv1 hlt (plainFor_of_name (by decide +kernel)) (Nat.le_of_ble_eq_true rfl) (fun g G hl hD hT Q => ?_)
  subst hl; subst hD; subst hT
  unfold wX12_put_X12 at h
  show X g 4 0 [(0, .ref h0), (1, .ref q0), (2, .int p1)] [] [(h0, .inr (9, [.ref h0o])), (h0o, .inl ((xT g) 2, 60, .inl ord))] 0 0
  refine x_iconst (v := (0 : Int32)) G dX12_put_0 (by decide) ?_
  refine x_istore_n (lv' := [(3, .int (0 : Int32)), (0, .ref h0), (1, .ref q0), (2, .int p1)]) G rfl dX12_put_1 (by decide) rfl ?_
  obtain ⟨n0, h⟩ := h
  refine kX12_put_X12_L2 G (fun v3_8 ord_9 h => ?_) n0 _ _ h
  · exact x_retv1 G Q dX12_put_24 ord_9 h XSub.rf (Nat.le_of_ble_eq_true rfl) (Nat.le_of_ble_eq_true rfl)
theorem cdX18_put : yX18_put.cls = RX18 ∧ yX18_put.cls ≠ "java/lang/invoke/MethodHandle" ∧ yX18_put.cls ≠ "java/lang/invoke/VarHandle" ∧ (parseMethodDescriptor yX18_put.desc).map (fun d => d.parameters.length) = some 2 := by decide +kernel
def wX18_put_X18_L2 (ln : Nat) (giv : Nat → Int32) (p1 : Int32) (X24 : Int32 → (Nat → Int32) → Prop) : Nat → Int32 → (Nat → Int32) → Prop
  | 0, _, _ => False
  | n + 1, v3_1, ord_2 => ((p1 ≤ v3_1 → X24 v3_1 ord_2) ∧ (¬ p1 ≤ v3_1 → (wX4_given v3_1 ln giv (fun (r_3 : Int32) => (vp_in v3_1 60 ∧ (∀ f_4 : Nat → Int32, f_4 = upd ord_2 v3_1.toNatClampNeg r_3 → (∀ x_5 : Int32, x_5 = (v3_1 + (1 : Int32)) → wX18_put_X18_L2 ln giv p1 X24 n x_5 f_4)))))))
def wX18_put_X18 (p1 : Int32) (ord : Nat → Int32) (ln : Nat) (giv : Nat → Int32) (K : (Nat → Int32) → Prop) : Prop := (∃ m2 : Nat, wX18_put_X18_L2 ln giv p1 (fun (v3_8 : Int32) (ord_9 : Nat → Int32) => K ord_9) m2 (0 : Int32) ord)
set_option maxRecDepth 20000 in
theorem kX18_put_X18_L2 {g : XG} {h0 : Nat} {h0o : Nat} {q0 : Nat} {kd : Bool} {q0a : Nat} {q0d : Nat} {q0g : Nat} {gc : Int32} {q0m : Nat} {ln : Nat} {giv : Nat → Int32} {p1 : Int32} {X24 : Int32 → (Nat → Int32) → Prop} (G : XO g RX18 cX18_put 4 2 0 0) (hX24 : ∀ (v3_6 : Int32) (ord_7 : Nat → Int32), X24 v3_6 ord_7 → X g 4 24 [(3, .int v3_6), (0, .ref h0), (1, .ref q0), (2, .int p1)] [] [(h0, .inr (14, [.ref h0o])), (h0o, .inl ((xT g) 2, 60, .inl ord_7)), (q0, .inr (lci kd, [.ref q0a, .ref q0d, .ref q0g, .int gc, .ref q0m])), (q0g, .inl ((xT g) 1, ln, .inl giv))] 0 0) : ∀ (n : Nat) (v3_1 : Int32) (ord_2 : Nat → Int32), wX18_put_X18_L2 ln giv p1 X24 n v3_1 ord_2 → X g 4 2 [(3, .int v3_1), (0, .ref h0), (1, .ref q0), (2, .int p1)] [] [(h0, .inr (14, [.ref h0o])), (h0o, .inl ((xT g) 2, 60, .inl ord_2)), (q0, .inr (lci kd, [.ref q0a, .ref q0d, .ref q0g, .int gc, .ref q0m])), (q0g, .inl ((xT g) 1, ln, .inl giv))] 0 0 := by
  intro n
  induction n with
  | zero => intro _ _ h; exact h.elim
  | succ n ih =>
    intro v3_1 ord_2 h
    unfold wX18_put_X18_L2 at h
    refine x_iload_n G rfl dX18_put_2 0 rfl ?_
    refine x_iload_n G rfl dX18_put_3 3 rfl ?_
    refine x_icmp_ge (tgt := 24) G dX18_put_4 rfl (fun c => ?_) (fun c => ?_)
    · replace h := h.1 c
      exact hX24 v3_1 ord_2 h
    · replace h := h.2 c
      refine x_aload_n G rfl dX18_put_7 1 rfl ?_
      refine x_get G in_X18 0 rfl rfl 0 (by decide) q996 (fun x9 h => u_same (G.hts _ q997) x9 h) rfl dX18_put_8 ?_
      refine x_iload_n G rfl dX18_put_11 0 rfl ?_
      refine x_aload_n G rfl dX18_put_12 2 rfl ?_
      refine x_iload_n G rfl dX18_put_13 0 rfl ?_
      refine x_cUi0 (C := lnm kd) (owner := "RoundingAuditor$Ledger") (x := ⟨"RoundingAuditor$Ledger", "given", "(I)I"⟩) (wc := [(q0, .inr (lci kd, [.ref q0a, .ref q0d, .ref q0g, .int gc, .ref q0m])), (q0g, .inl ((xT g) 1, ln, .inl giv))]) (As := [.int v3_1]) (rest := [.int v3_1, .ref h0o]) G [(h0, .inr (14, [.ref h0o])), (h0o, .inl ((xT g) 2, 60, .inl ord_2))] (XSub.of [0, 1, 2, 3] rfl (by decide)) (tX4_given G.noTraces h) q1201 q1203 (va_Decl.of (G.hts _ q1202) (G.hts _ q1206)) (sL_given kd) q1202 q78 q1206 cdL_given (lci kd) 2 (lci_at kd) rfl rfl (by decide) (by decide) rfl (Nat.le_of_ble_eq_true rfl) (Nat.le_of_ble_eq_true rfl) (Nat.le_of_ble_eq_true rfl) dX18_put_14 (fun r_3 h => ?_)
      show X g 4 17 [(3, .int v3_1), (0, .ref h0), (1, .ref q0), (2, .int p1)] [.int r_3, .int v3_1, .ref h0o] [(h0, .inr (14, [.ref h0o])), (h0o, .inl ((xT g) 2, 60, .inl ord_2)), (q0, .inr (lci kd, [.ref q0a, .ref q0d, .ref q0g, .int gc, .ref q0m])), (q0g, .inl ((xT g) 1, ln, .inl giv))] 0 0
      obtain ⟨hz, h⟩ := h
      obtain ⟨f_4, ef_4⟩ : ∃ z : Nat → Int32, z = upd ord_2 v3_1.toNatClampNeg r_3 := ⟨_, rfl⟩
      replace h := h f_4 ef_4
      refine x_iast G 1 rfl hz (by rw [← ef_4]) dX18_put_17 ?_
      show X g 4 18 [(3, .int v3_1), (0, .ref h0), (1, .ref q0), (2, .int p1)] [] [(h0, .inr (14, [.ref h0o])), (h0o, .inl ((xT g) 2, 60, .inl f_4)), (q0, .inr (lci kd, [.ref q0a, .ref q0d, .ref q0g, .int gc, .ref q0m])), (q0g, .inl ((xT g) 1, ln, .inl giv))] 0 0
      obtain ⟨x_5, ex_5⟩ : ∃ z : Int32, z = (v3_1 + (1 : Int32)) := ⟨_, rfl⟩
      replace h := h x_5 ex_5
      refine x_iinc (v := x_5) (lv' := [(3, .int x_5), (0, .ref h0), (1, .ref q0), (2, .int p1)]) G dX18_put_18 0 rfl (by rw [ex_5]; rfl) (by decide) rfl ?_
      refine x_goto (tgt := 2) G dX18_put_21 rfl ?_
      exact ih x_5 f_4 h
set_option maxRecDepth 20000 in
theorem tX18_put_X18 {l : Launch} {D : va_G} {ta : Nat → ClassId} {h0 : Nat} {h0o : Nat} {ord : Nat → Int32} {q0 : Nat} {kd : Bool} {q0a : Nat} {q0d : Nat} {q0g : Nat} {gc : Int32} {q0m : Nat} {ln : Nat} {giv : Nat → Int32} {p1 : Int32} {K : (Nat → Int32) → Prop} (hlt : l.stackTraces = false) (h : wX18_put_X18 p1 ord ln giv K) : SMv1 l D ta yX18_put cX18_put 4 2 [.ref h0, .ref q0, .int p1] [(h0, .inr (14, [.ref h0o])), (h0o, .inl (ta 2, 60, .inl ord)), (q0, .inr (lci kd, [.ref q0a, .ref q0d, .ref q0g, .int gc, .ref q0m])), (q0g, .inl (ta 1, ln, .inl giv))] (fun (ord' : Nat → Int32) => [(h0, .inr (14, [.ref h0o])), (h0o, .inl (ta 2, 60, .inl ord')), (q0, .inr (lci kd, [.ref q0a, .ref q0d, .ref q0g, .int gc, .ref q0m])), (q0g, .inl (ta 1, ln, .inl giv))]) 0 0 K := by
  refine x_stv1 hlt (plainFor_of_name (by decide +kernel)) (Nat.le_of_ble_eq_true rfl) (fun g G hl hD hT Q => ?_)
  subst hl; subst hD; subst hT
  unfold wX18_put_X18 at h
  show X g 4 0 [(0, .ref h0), (1, .ref q0), (2, .int p1)] [] [(h0, .inr (14, [.ref h0o])), (h0o, .inl ((xT g) 2, 60, .inl ord)), (q0, .inr (lci kd, [.ref q0a, .ref q0d, .ref q0g, .int gc, .ref q0m])), (q0g, .inl ((xT g) 1, ln, .inl giv))] 0 0
  refine x_iconst (v := (0 : Int32)) G dX18_put_0 (by decide) ?_
  refine x_istore_n (lv' := [(3, .int (0 : Int32)), (0, .ref h0), (1, .ref q0), (2, .int p1)]) G rfl dX18_put_1 (by decide) rfl ?_
  obtain ⟨n0, h⟩ := h
  refine kX18_put_X18_L2 G (fun v3_8 ord_9 h => ?_) n0 _ _ h
  · exact x_retv1 G Q dX18_put_24 ord_9 h XSub.rf (Nat.le_of_ble_eq_true rfl) (Nat.le_of_ble_eq_true rfl)
theorem cdX14_isAhead : yX14_isAhead.cls = RX14 ∧ yX14_isAhead.cls ≠ "java/lang/invoke/MethodHandle" ∧ yX14_isAhead.cls ≠ "java/lang/invoke/VarHandle" ∧ (parseMethodDescriptor yX14_isAhead.desc).map (fun d => d.parameters.length) = some 3 := by decide +kernel
def wX14_isAhead_X14 (p1 : Int32) (p2 : Int32) (kd : Bool) (ln : Nat) (am : Nat → UInt64) (K : Int32 → Prop) : Prop := (wL_at kd p1 ln am (fun (r_1 : UInt64) => (vf_n64 r_1 ∧ (wL_at kd p2 ln am (fun (r_2 : UInt64) => (vf_n64 r_2 ∧ ((¬ dlt (mAbs r_1) (mAbs r_2) → K (0 : Int32)) ∧ (dlt (mAbs r_1) (mAbs r_2) → K (1 : Int32)))))))))
set_option maxRecDepth 20000 in
theorem tX14_isAhead_X14 {l : Launch} {D : va_G} {ta : Nat → ClassId} {q0 : Nat} {kd : Bool} {q0a : Nat} {q0d : Nat} {q0g : Nat} {gc : Int32} {q0m : Nat} {ln : Nat} {am : Nat → UInt64} {h0 : Nat} {p1 : Int32} {p2 : Int32} {K : Int32 → Prop} (hlt : l.stackTraces = false) (h : wX14_isAhead_X14 p1 p2 kd ln am K) : SMi0 l D ta yX14_isAhead cX14_isAhead 4 FieldType.boolean 2 [.ref h0, .ref q0, .int p1, .int p2] [(q0, .inr (lci kd, [.ref q0a, .ref q0d, .ref q0g, .int gc, .ref q0m])), (q0m, .inl (lamC kd ta ln am))] ([(q0, .inr (lci kd, [.ref q0a, .ref q0d, .ref q0g, .int gc, .ref q0m])), (q0m, .inl (lamC kd ta ln am))]) 0 0 K := by
  refine x_sti0 hlt (plainFor_of_name (by decide +kernel)) (Nat.le_of_ble_eq_true rfl) (fun g G hl hD hT Q => ?_)
  subst hl; subst hD; subst hT
  unfold wX14_isAhead_X14 at h
  show X g 4 0 [(0, .ref h0), (1, .ref q0), (2, .int p1), (3, .int p2)] [] [(q0, .inr (lci kd, [.ref q0a, .ref q0d, .ref q0g, .int gc, .ref q0m])), (q0m, .inl (lamC kd (xT g) ln am))] 0 0
  refine x_aload_n G rfl dX14_isAhead_0 1 rfl ?_
  refine x_iload_n G rfl dX14_isAhead_1 2 rfl ?_
  refine x_cUd0 (C := lnm kd) (owner := "RoundingAuditor$Ledger") (x := ⟨"RoundingAuditor$Ledger", "at", "(I)D"⟩) (wc := [(q0, .inr (lci kd, [.ref q0a, .ref q0d, .ref q0g, .int gc, .ref q0m])), (q0m, .inl (lamC kd (xT g) ln am))]) (As := [.int p1]) (rest := []) G [] (XSub.of [0, 1] rfl (by decide)) (tL_at kd G.noTraces h) q1189 q619 (va_Decl.abs (G.E.2.1.2.2.1 _ (by decide +kernel))) (sL_at kd) (hL_at kd).1 (hL_at kd).2.1 (hL_at kd).2.2.1 cdL_at (lci kd) 0 (lci_at kd) rfl rfl (by decide) (hL_at _).2.2.2 rfl (Nat.le_of_ble_eq_true rfl) (Nat.le_of_ble_eq_true rfl) (Nat.le_of_ble_eq_true rfl) dX14_isAhead_2 (fun r_1 h => ?_)
  show X g 4 5 [(0, .ref h0), (1, .ref q0), (2, .int p1), (3, .int p2)] [.double r_1] [(q0, .inr (lci kd, [.ref q0a, .ref q0d, .ref q0g, .int gc, .ref q0m])), (q0m, .inl (lamC kd (xT g) ln am))] 0 0
  obtain ⟨hz0, h⟩ := h
  refine x_ovD1 G q1190 q322 q85 q323 rfl rfl rmAbs_row (rmAbs_run hz0) (by decide) (Nat.le_of_ble_eq_true rfl) dX14_isAhead_5 ?_
  refine x_aload_n G rfl dX14_isAhead_8 1 rfl ?_
  refine x_iload_n G rfl dX14_isAhead_9 3 rfl ?_
  refine x_cUd0 (C := lnm kd) (owner := "RoundingAuditor$Ledger") (x := ⟨"RoundingAuditor$Ledger", "at", "(I)D"⟩) (wc := [(q0, .inr (lci kd, [.ref q0a, .ref q0d, .ref q0g, .int gc, .ref q0m])), (q0m, .inl (lamC kd (xT g) ln am))]) (As := [.int p2]) (rest := [.double (mAbs r_1)]) G [] (XSub.of [0, 1] rfl (by decide)) (tL_at kd G.noTraces h) q1189 q619 (va_Decl.abs (G.E.2.1.2.2.1 _ (by decide +kernel))) (sL_at kd) (hL_at kd).1 (hL_at kd).2.1 (hL_at kd).2.2.1 cdL_at (lci kd) 0 (lci_at kd) rfl rfl (by decide) (hL_at _).2.2.2 rfl (Nat.le_of_ble_eq_true rfl) (Nat.le_of_ble_eq_true rfl) (Nat.le_of_ble_eq_true rfl) dX14_isAhead_10 (fun r_2 h => ?_)
  show X g 4 13 [(0, .ref h0), (1, .ref q0), (2, .int p1), (3, .int p2)] [.double r_2, .double (mAbs r_1)] [(q0, .inr (lci kd, [.ref q0a, .ref q0d, .ref q0g, .int gc, .ref q0m])), (q0m, .inl (lamC kd (xT g) ln am))] 0 0
  obtain ⟨hz0, h⟩ := h
  refine x_ovD1 G q1190 q322 q85 q323 rfl rfl rmAbs_row (rmAbs_run hz0) (by decide) (Nat.le_of_ble_eq_true rfl) dX14_isAhead_13 ?_
  refine x_dcmpg_ge (tgt := 24) G dX14_isAhead_16 dX14_isAhead_17 rfl (fun c => ?_) (fun c => ?_)
  · replace h := h.1 c
    refine x_iconst (v := (0 : Int32)) G dX14_isAhead_24 (by decide) ?_
    exact x_reti0 G Q dX14_isAhead_25 rfl  h XSub.rf (Nat.le_of_ble_eq_true rfl) (Nat.le_of_ble_eq_true rfl)
  · replace h := h.2 c
    refine x_iconst (v := (1 : Int32)) G dX14_isAhead_20 (by decide) ?_
    refine x_goto (tgt := 25) G dX14_isAhead_21 rfl ?_
    exact x_reti0 G Q dX14_isAhead_25 rfl  h XSub.rf (Nat.le_of_ble_eq_true rfl) (Nat.le_of_ble_eq_true rfl)
set_option maxRecDepth 20000 in
theorem tX14_isAhead_X15 {l : Launch} {D : va_G} {ta : Nat → ClassId} {q0 : Nat} {kd : Bool} {q0a : Nat} {q0d : Nat} {q0g : Nat} {gc : Int32} {q0m : Nat} {ln : Nat} {am : Nat → UInt64} {h0 : Nat} {p1 : Int32} {p2 : Int32} {K : Int32 → Prop} (hlt : l.stackTraces = false) (h : wX14_isAhead_X14 p1 p2 kd ln am K) : SMi0 l D ta yX14_isAhead cX14_isAhead 4 FieldType.boolean 2 [.ref h0, .ref q0, .int p1, .int p2] [(q0, .inr (lci kd, [.ref q0a, .ref q0d, .ref q0g, .int gc, .ref q0m])), (q0m, .inl (lamC kd ta ln am))] ([(q0, .inr (lci kd, [.ref q0a, .ref q0d, .ref q0g, .int gc, .ref q0m])), (q0m, .inl (lamC kd ta ln am))]) 0 0 K := by
  refine x_sti0 hlt (plainFor_of_name (by decide +kernel)) (Nat.le_of_ble_eq_true rfl) (fun g G hl hD hT Q => ?_)
  subst hl; subst hD; subst hT
  unfold wX14_isAhead_X14 at h
  show X g 4 0 [(0, .ref h0), (1, .ref q0), (2, .int p1), (3, .int p2)] [] [(q0, .inr (lci kd, [.ref q0a, .ref q0d, .ref q0g, .int gc, .ref q0m])), (q0m, .inl (lamC kd (xT g) ln am))] 0 0
  refine x_aload_n G rfl dX14_isAhead_0 1 rfl ?_
  refine x_iload_n G rfl dX14_isAhead_1 2 rfl ?_
  refine x_cUd0 (C := lnm kd) (owner := "RoundingAuditor$Ledger") (x := ⟨"RoundingAuditor$Ledger", "at", "(I)D"⟩) (wc := [(q0, .inr (lci kd, [.ref q0a, .ref q0d, .ref q0g, .int gc, .ref q0m])), (q0m, .inl (lamC kd (xT g) ln am))]) (As := [.int p1]) (rest := []) G [] (XSub.of [0, 1] rfl (by decide)) (tL_at kd G.noTraces h) q1189 q619 (va_Decl.abs (G.E.2.1.2.2.1 _ (by decide +kernel))) (sL_at kd) (hL_at kd).1 (hL_at kd).2.1 (hL_at kd).2.2.1 cdL_at (lci kd) 0 (lci_at kd) rfl rfl (by decide) (hL_at _).2.2.2 rfl (Nat.le_of_ble_eq_true rfl) (Nat.le_of_ble_eq_true rfl) (Nat.le_of_ble_eq_true rfl) dX14_isAhead_2 (fun r_1 h => ?_)
  show X g 4 5 [(0, .ref h0), (1, .ref q0), (2, .int p1), (3, .int p2)] [.double r_1] [(q0, .inr (lci kd, [.ref q0a, .ref q0d, .ref q0g, .int gc, .ref q0m])), (q0m, .inl (lamC kd (xT g) ln am))] 0 0
  obtain ⟨hz0, h⟩ := h
  refine x_ovD1 G q1190 q322 q85 q323 rfl rfl rmAbs_row (rmAbs_run hz0) (by decide) (Nat.le_of_ble_eq_true rfl) dX14_isAhead_5 ?_
  refine x_aload_n G rfl dX14_isAhead_8 1 rfl ?_
  refine x_iload_n G rfl dX14_isAhead_9 3 rfl ?_
  refine x_cUd0 (C := lnm kd) (owner := "RoundingAuditor$Ledger") (x := ⟨"RoundingAuditor$Ledger", "at", "(I)D"⟩) (wc := [(q0, .inr (lci kd, [.ref q0a, .ref q0d, .ref q0g, .int gc, .ref q0m])), (q0m, .inl (lamC kd (xT g) ln am))]) (As := [.int p2]) (rest := [.double (mAbs r_1)]) G [] (XSub.of [0, 1] rfl (by decide)) (tL_at kd G.noTraces h) q1189 q619 (va_Decl.abs (G.E.2.1.2.2.1 _ (by decide +kernel))) (sL_at kd) (hL_at kd).1 (hL_at kd).2.1 (hL_at kd).2.2.1 cdL_at (lci kd) 0 (lci_at kd) rfl rfl (by decide) (hL_at _).2.2.2 rfl (Nat.le_of_ble_eq_true rfl) (Nat.le_of_ble_eq_true rfl) (Nat.le_of_ble_eq_true rfl) dX14_isAhead_10 (fun r_2 h => ?_)
  show X g 4 13 [(0, .ref h0), (1, .ref q0), (2, .int p1), (3, .int p2)] [.double r_2, .double (mAbs r_1)] [(q0, .inr (lci kd, [.ref q0a, .ref q0d, .ref q0g, .int gc, .ref q0m])), (q0m, .inl (lamC kd (xT g) ln am))] 0 0
  obtain ⟨hz0, h⟩ := h
  refine x_ovD1 G q1190 q322 q85 q323 rfl rfl rmAbs_row (rmAbs_run hz0) (by decide) (Nat.le_of_ble_eq_true rfl) dX14_isAhead_13 ?_
  refine x_dcmpg_ge (tgt := 24) G dX14_isAhead_16 dX14_isAhead_17 rfl (fun c => ?_) (fun c => ?_)
  · replace h := h.1 c
    refine x_iconst (v := (0 : Int32)) G dX14_isAhead_24 (by decide) ?_
    exact x_reti0 G Q dX14_isAhead_25 rfl  h XSub.rf (Nat.le_of_ble_eq_true rfl) (Nat.le_of_ble_eq_true rfl)
  · replace h := h.2 c
    refine x_iconst (v := (1 : Int32)) G dX14_isAhead_20 (by decide) ?_
    refine x_goto (tgt := 25) G dX14_isAhead_21 rfl ?_
    exact x_reti0 G Q dX14_isAhead_25 rfl  h XSub.rf (Nat.le_of_ble_eq_true rfl) (Nat.le_of_ble_eq_true rfl)
theorem cdX15_isAhead : yX15_isAhead.cls = RX15 ∧ yX15_isAhead.cls ≠ "java/lang/invoke/MethodHandle" ∧ yX15_isAhead.cls ≠ "java/lang/invoke/VarHandle" ∧ (parseMethodDescriptor yX15_isAhead.desc).map (fun d => d.parameters.length) = some 3 := by decide +kernel
def wX15_isAhead_X15 (p1 : Int32) (p2 : Int32) (kd : Bool) (ln : Nat) (am : Nat → UInt64) (K : Int32 → Prop) : Prop := (wX14_isAhead_X14 p2 p1 kd ln am (fun (r_1 : Int32) => (isB r_1 ∧ K r_1)))
set_option maxRecDepth 20000 in
theorem tX15_isAhead_X15 {l : Launch} {D : va_G} {ta : Nat → ClassId} {h0 : Nat} {h0o : Nat} {q0 : Nat} {kd : Bool} {q0a : Nat} {q0d : Nat} {q0g : Nat} {gc : Int32} {q0m : Nat} {ln : Nat} {am : Nat → UInt64} {p1 : Int32} {p2 : Int32} {K : Int32 → Prop} (hlt : l.stackTraces = false) (h : wX15_isAhead_X15 p1 p2 kd ln am K) : SMi0 l D ta yX15_isAhead cX15_isAhead 4 FieldType.boolean 3 [.ref h0, .ref q0, .int p1, .int p2] [(h0, .inr (11, [.ref h0o])), (q0, .inr (lci kd, [.ref q0a, .ref q0d, .ref q0g, .int gc, .ref q0m])), (q0m, .inl (lamC kd ta ln am))] ([(h0, .inr (11, [.ref h0o])), (q0, .inr (lci kd, [.ref q0a, .ref q0d, .ref q0g, .int gc, .ref q0m])), (q0m, .inl (lamC kd ta ln am))]) 0 0 K := by
  refine x_sti0 hlt (plainFor_of_name (by decide +kernel)) (Nat.le_of_ble_eq_true rfl) (fun g G hl hD hT Q => ?_)
  subst hl; subst hD; subst hT
  unfold wX15_isAhead_X15 at h
  show X g 4 0 [(0, .ref h0), (1, .ref q0), (2, .int p1), (3, .int p2)] [] [(h0, .inr (11, [.ref h0o])), (q0, .inr (lci kd, [.ref q0a, .ref q0d, .ref q0g, .int gc, .ref q0m])), (q0m, .inl (lamC kd (xT g) ln am))] 0 0
  refine x_aload_n G rfl dX15_isAhead_0 0 rfl ?_
  refine x_aload_n G rfl dX15_isAhead_1 1 rfl ?_
  refine x_iload_n G rfl dX15_isAhead_2 3 rfl ?_
  refine x_iload_n G rfl dX15_isAhead_3 2 rfl ?_
  refine x_cWi0 (wc := [(q0, .inr (lci kd, [.ref q0a, .ref q0d, .ref q0g, .int gc, .ref q0m])), (q0m, .inl (lamC kd (xT g) ln am))]) (As := [.ref q0, .int p2, .int p1]) (rest := []) G [(h0, .inr (11, [.ref h0o]))] (XSub.of [0, 1, 2] rfl (by decide)) (tX14_isAhead_X15 G.noTraces h) q1186 q2051 q1029 q1187 q95 q1188 ⟨by decide, cdX14_isAhead.2.2.2⟩ 11 0 rfl rfl (by decide) (by decide) rfl (Nat.le_of_ble_eq_true rfl) (Nat.le_of_ble_eq_true rfl) (Nat.le_of_ble_eq_true rfl) dX15_isAhead_4 (fun r_1 h => ?_)
  show X g 4 7 [(0, .ref h0), (1, .ref q0), (2, .int p1), (3, .int p2)] [.int r_1] [(h0, .inr (11, [.ref h0o])), (q0, .inr (lci kd, [.ref q0a, .ref q0d, .ref q0g, .int gc, .ref q0m])), (q0m, .inl (lamC kd (xT g) ln am))] 0 0
  obtain ⟨hb, h⟩ := h
  exact x_reti0 G Q dX15_isAhead_7 hb.nar  h XSub.rf (Nat.le_of_ble_eq_true rfl) (Nat.le_of_ble_eq_true rfl)
theorem cdX16_isAhead : yX16_isAhead.cls = RX16 ∧ yX16_isAhead.cls ≠ "java/lang/invoke/MethodHandle" ∧ yX16_isAhead.cls ≠ "java/lang/invoke/VarHandle" ∧ (parseMethodDescriptor yX16_isAhead.desc).map (fun d => d.parameters.length) = some 3 := by decide +kernel
def wX16_isAhead_X16 (p1 : Int32) (p2 : Int32) (ln : Nat) (acc : Nat → Int32) (K : Int32 → Prop) : Prop := (wX4_account p1 ln acc (fun (r_1 : Int32) => (wX4_account p2 ln acc (fun (r_2 : Int32) => ((r_2 ≤ r_1 → K (0 : Int32)) ∧ (¬ r_2 ≤ r_1 → K (1 : Int32)))))))
set_option maxRecDepth 20000 in
theorem tX16_isAhead_X16 {l : Launch} {D : va_G} {ta : Nat → ClassId} {q0 : Nat} {kd : Bool} {q0a : Nat} {q0d : Nat} {q0g : Nat} {gc : Int32} {q0m : Nat} {ln : Nat} {acc : Nat → Int32} {h0 : Nat} {p1 : Int32} {p2 : Int32} {K : Int32 → Prop} (hlt : l.stackTraces = false) (h : wX16_isAhead_X16 p1 p2 ln acc K) : SMi0 l D ta yX16_isAhead cX16_isAhead 4 FieldType.boolean 2 [.ref h0, .ref q0, .int p1, .int p2] [(q0, .inr (lci kd, [.ref q0a, .ref q0d, .ref q0g, .int gc, .ref q0m])), (q0a, .inl (ta 1, ln, .inl acc))] ([(q0, .inr (lci kd, [.ref q0a, .ref q0d, .ref q0g, .int gc, .ref q0m])), (q0a, .inl (ta 1, ln, .inl acc))]) 0 0 K := by
  refine x_sti0 hlt (plainFor_of_name (by decide +kernel)) (Nat.le_of_ble_eq_true rfl) (fun g G hl hD hT Q => ?_)
  subst hl; subst hD; subst hT
  unfold wX16_isAhead_X16 at h
  show X g 4 0 [(0, .ref h0), (1, .ref q0), (2, .int p1), (3, .int p2)] [] [(q0, .inr (lci kd, [.ref q0a, .ref q0d, .ref q0g, .int gc, .ref q0m])), (q0a, .inl ((xT g) 1, ln, .inl acc))] 0 0
  refine x_aload_n G rfl dX16_isAhead_0 1 rfl ?_
  refine x_iload_n G rfl dX16_isAhead_1 2 rfl ?_
  refine x_cUi0 (C := lnm kd) (owner := "RoundingAuditor$Ledger") (x := ⟨"RoundingAuditor$Ledger", "account", "(I)I"⟩) (wc := [(q0, .inr (lci kd, [.ref q0a, .ref q0d, .ref q0g, .int gc, .ref q0m])), (q0a, .inl ((xT g) 1, ln, .inl acc))]) (As := [.int p1]) (rest := []) G [] (XSub.of [0, 1] rfl (by decide)) (tX4_account G.noTraces h) q1178 q644 (va_Decl.of (G.hts _ q643) (G.hts _ q647)) (sL_account kd) q643 q78 q647 cdL_account (lci kd) 0 (lci_at kd) rfl rfl (by decide) (by decide) rfl (Nat.le_of_ble_eq_true rfl) (Nat.le_of_ble_eq_true rfl) (Nat.le_of_ble_eq_true rfl) dX16_isAhead_2 (fun r_1 h => ?_)
  show X g 4 5 [(0, .ref h0), (1, .ref q0), (2, .int p1), (3, .int p2)] [.int r_1] [(q0, .inr (lci kd, [.ref q0a, .ref q0d, .ref q0g, .int gc, .ref q0m])), (q0a, .inl ((xT g) 1, ln, .inl acc))] 0 0
  refine x_aload_n G rfl dX16_isAhead_5 1 rfl ?_
  refine x_iload_n G rfl dX16_isAhead_6 3 rfl ?_
  refine x_cUi0 (C := lnm kd) (owner := "RoundingAuditor$Ledger") (x := ⟨"RoundingAuditor$Ledger", "account", "(I)I"⟩) (wc := [(q0, .inr (lci kd, [.ref q0a, .ref q0d, .ref q0g, .int gc, .ref q0m])), (q0a, .inl ((xT g) 1, ln, .inl acc))]) (As := [.int p2]) (rest := [.int r_1]) G [] (XSub.of [0, 1] rfl (by decide)) (tX4_account G.noTraces h) q1178 q644 (va_Decl.of (G.hts _ q643) (G.hts _ q647)) (sL_account kd) q643 q78 q647 cdL_account (lci kd) 0 (lci_at kd) rfl rfl (by decide) (by decide) rfl (Nat.le_of_ble_eq_true rfl) (Nat.le_of_ble_eq_true rfl) (Nat.le_of_ble_eq_true rfl) dX16_isAhead_7 (fun r_2 h => ?_)
  show X g 4 10 [(0, .ref h0), (1, .ref q0), (2, .int p1), (3, .int p2)] [.int r_2, .int r_1] [(q0, .inr (lci kd, [.ref q0a, .ref q0d, .ref q0g, .int gc, .ref q0m])), (q0a, .inl ((xT g) 1, ln, .inl acc))] 0 0
  refine x_icmp_ge (tgt := 17) G dX16_isAhead_10 rfl (fun c => ?_) (fun c => ?_)
  · replace h := h.1 c
    refine x_iconst (v := (0 : Int32)) G dX16_isAhead_17 (by decide) ?_
    exact x_reti0 G Q dX16_isAhead_18 rfl  h XSub.rf (Nat.le_of_ble_eq_true rfl) (Nat.le_of_ble_eq_true rfl)
  · replace h := h.2 c
    refine x_iconst (v := (1 : Int32)) G dX16_isAhead_13 (by decide) ?_
    refine x_goto (tgt := 18) G dX16_isAhead_14 rfl ?_
    exact x_reti0 G Q dX16_isAhead_18 rfl  h XSub.rf (Nat.le_of_ble_eq_true rfl) (Nat.le_of_ble_eq_true rfl)
theorem cdX17_isAhead : yX17_isAhead.cls = RX17 ∧ yX17_isAhead.cls ≠ "java/lang/invoke/MethodHandle" ∧ yX17_isAhead.cls ≠ "java/lang/invoke/VarHandle" ∧ (parseMethodDescriptor yX17_isAhead.desc).map (fun d => d.parameters.length) = some 3 := by decide +kernel
def wX17_isAhead_X17 (p1 : Int32) (p2 : Int32) (ln : Nat) (day : Nat → Int32) (K : Int32 → Prop) : Prop := (wX4_day p1 ln day (fun (r_1 : Int32) => (wX4_day p2 ln day (fun (r_2 : Int32) => ((r_2 ≤ r_1 → K (0 : Int32)) ∧ (¬ r_2 ≤ r_1 → K (1 : Int32)))))))
set_option maxRecDepth 20000 in
theorem tX17_isAhead_X17 {l : Launch} {D : va_G} {ta : Nat → ClassId} {q0 : Nat} {kd : Bool} {q0a : Nat} {q0d : Nat} {q0g : Nat} {gc : Int32} {q0m : Nat} {ln : Nat} {day : Nat → Int32} {h0 : Nat} {p1 : Int32} {p2 : Int32} {K : Int32 → Prop} (hlt : l.stackTraces = false) (h : wX17_isAhead_X17 p1 p2 ln day K) : SMi0 l D ta yX17_isAhead cX17_isAhead 4 FieldType.boolean 2 [.ref h0, .ref q0, .int p1, .int p2] [(q0, .inr (lci kd, [.ref q0a, .ref q0d, .ref q0g, .int gc, .ref q0m])), (q0d, .inl (ta 1, ln, .inl day))] ([(q0, .inr (lci kd, [.ref q0a, .ref q0d, .ref q0g, .int gc, .ref q0m])), (q0d, .inl (ta 1, ln, .inl day))]) 0 0 K := by
  refine x_sti0 hlt (plainFor_of_name (by decide +kernel)) (Nat.le_of_ble_eq_true rfl) (fun g G hl hD hT Q => ?_)
  subst hl; subst hD; subst hT
  unfold wX17_isAhead_X17 at h
  show X g 4 0 [(0, .ref h0), (1, .ref q0), (2, .int p1), (3, .int p2)] [] [(q0, .inr (lci kd, [.ref q0a, .ref q0d, .ref q0g, .int gc, .ref q0m])), (q0d, .inl ((xT g) 1, ln, .inl day))] 0 0
  refine x_aload_n G rfl dX17_isAhead_0 1 rfl ?_
  refine x_iload_n G rfl dX17_isAhead_1 2 rfl ?_
  refine x_cUi0 (C := lnm kd) (owner := "RoundingAuditor$Ledger") (x := ⟨"RoundingAuditor$Ledger", "day", "(I)I"⟩) (wc := [(q0, .inr (lci kd, [.ref q0a, .ref q0d, .ref q0g, .int gc, .ref q0m])), (q0d, .inl ((xT g) 1, ln, .inl day))]) (As := [.int p1]) (rest := []) G [] (XSub.of [0, 1] rfl (by decide)) (tX4_day G.noTraces h) q1182 q650 (va_Decl.of (G.hts _ q649) (G.hts _ q653)) (sL_day kd) q649 q78 q653 cdL_day (lci kd) 0 (lci_at kd) rfl rfl (by decide) (by decide) rfl (Nat.le_of_ble_eq_true rfl) (Nat.le_of_ble_eq_true rfl) (Nat.le_of_ble_eq_true rfl) dX17_isAhead_2 (fun r_1 h => ?_)
  show X g 4 5 [(0, .ref h0), (1, .ref q0), (2, .int p1), (3, .int p2)] [.int r_1] [(q0, .inr (lci kd, [.ref q0a, .ref q0d, .ref q0g, .int gc, .ref q0m])), (q0d, .inl ((xT g) 1, ln, .inl day))] 0 0
  refine x_aload_n G rfl dX17_isAhead_5 1 rfl ?_
  refine x_iload_n G rfl dX17_isAhead_6 3 rfl ?_
  refine x_cUi0 (C := lnm kd) (owner := "RoundingAuditor$Ledger") (x := ⟨"RoundingAuditor$Ledger", "day", "(I)I"⟩) (wc := [(q0, .inr (lci kd, [.ref q0a, .ref q0d, .ref q0g, .int gc, .ref q0m])), (q0d, .inl ((xT g) 1, ln, .inl day))]) (As := [.int p2]) (rest := [.int r_1]) G [] (XSub.of [0, 1] rfl (by decide)) (tX4_day G.noTraces h) q1182 q650 (va_Decl.of (G.hts _ q649) (G.hts _ q653)) (sL_day kd) q649 q78 q653 cdL_day (lci kd) 0 (lci_at kd) rfl rfl (by decide) (by decide) rfl (Nat.le_of_ble_eq_true rfl) (Nat.le_of_ble_eq_true rfl) (Nat.le_of_ble_eq_true rfl) dX17_isAhead_7 (fun r_2 h => ?_)
  show X g 4 10 [(0, .ref h0), (1, .ref q0), (2, .int p1), (3, .int p2)] [.int r_2, .int r_1] [(q0, .inr (lci kd, [.ref q0a, .ref q0d, .ref q0g, .int gc, .ref q0m])), (q0d, .inl ((xT g) 1, ln, .inl day))] 0 0
  refine x_icmp_ge (tgt := 17) G dX17_isAhead_10 rfl (fun c => ?_) (fun c => ?_)
  · replace h := h.1 c
    refine x_iconst (v := (0 : Int32)) G dX17_isAhead_17 (by decide) ?_
    exact x_reti0 G Q dX17_isAhead_18 rfl  h XSub.rf (Nat.le_of_ble_eq_true rfl) (Nat.le_of_ble_eq_true rfl)
  · replace h := h.2 c
    refine x_iconst (v := (1 : Int32)) G dX17_isAhead_13 (by decide) ?_
    refine x_goto (tgt := 18) G dX17_isAhead_14 rfl ?_
    exact x_reti0 G Q dX17_isAhead_18 rfl  h XSub.rf (Nat.le_of_ble_eq_true rfl) (Nat.le_of_ble_eq_true rfl)
theorem cdX13_put : yX13_put.cls = RX13 ∧ yX13_put.cls ≠ "java/lang/invoke/MethodHandle" ∧ yX13_put.cls ≠ "java/lang/invoke/VarHandle" ∧ (parseMethodDescriptor yX13_put.desc).map (fun d => d.parameters.length) = some 2 := by decide +kernel
def wX13_put_X14_L24 (kd : Bool) (ln : Nat) (am : Nat → UInt64) (x_4 : Int32) (X70 : Int32 → (Nat → Int32) → Prop) : Nat → Int32 → (Nat → Int32) → Prop
  | 0, _, _ => False
  | n + 1, v5_5, ord_6 => ((v5_5 ≤ (0 : Int32) → X70 v5_5 ord_6) ∧ (¬ v5_5 ≤ (0 : Int32) → (vp_in (v5_5 - (1 : Int32)) 60 ∧ (wX14_isAhead_X14 x_4 (ord_6 (v5_5 - (1 : Int32)).toNatClampNeg) kd ln am (fun (r_7 : Int32) => ((r_7 = (0 : Int32) → X70 v5_5 ord_6) ∧ (¬ r_7 = (0 : Int32) → (vp_in (v5_5 - (1 : Int32)) 60 ∧ (∀ x_8 : Int32, x_8 = (ord_6 (v5_5 - (1 : Int32)).toNatClampNeg) → (vp_in v5_5 60 ∧ (∀ f_9 : Nat → Int32, f_9 = upd ord_6 v5_5.toNatClampNeg x_8 → (∀ x_10 : Int32, x_10 = (v5_5 + (-1 : Int32)) → wX13_put_X14_L24 kd ln am x_4 X70 n x_10 f_9))))))))))))
def wX13_put_X14_L8 (kd : Bool) (ln : Nat) (am : Nat → UInt64) (p1 : Int32) (X85 : Int32 → (Nat → Int32) → Prop) : Nat → Int32 → (Nat → Int32) → Prop
  | 0, _, _ => False
  | n + 1, v3_2, ord_3 => ((p1 ≤ v3_2 → X85 v3_2 ord_3) ∧ (¬ p1 ≤ v3_2 → (vp_in v3_2 60 ∧ (∀ x_4 : Int32, x_4 = (ord_3 v3_2.toNatClampNeg) → (∃ m24 : Nat, wX13_put_X14_L24 kd ln am x_4 (fun (v5_13 : Int32) (ord_14 : Nat → Int32) => (vp_in v5_13 60 ∧ (∀ f_15 : Nat → Int32, f_15 = upd ord_14 v5_13.toNatClampNeg x_4 → (∀ x_16 : Int32, x_16 = (v3_2 + (1 : Int32)) → wX13_put_X14_L8 kd ln am p1 X85 n x_16 f_15)))) m24 v3_2 ord_3)))))
def wX13_put_X14 (p1 : Int32) (ord : Nat → Int32) (kd : Bool) (ln : Nat) (am : Nat → UInt64) (K : (Nat → Int32) → Prop) : Prop := (wX11_put_X11 p1 ord (fun (ord_1 : Nat → Int32) => (∃ m8 : Nat, wX13_put_X14_L8 kd ln am p1 (fun (v3_19 : Int32) (ord_20 : Nat → Int32) => K ord_20) m8 (1 : Int32) ord_1)))
set_option maxRecDepth 20000 in
theorem kX13_put_X14_L24 {g : XG} {h0 : Nat} {h0o : Nat} {q0 : Nat} {kd : Bool} {q0a : Nat} {q0d : Nat} {q0g : Nat} {gc : Int32} {q0m : Nat} {ln : Nat} {am : Nat → UInt64} {p1 : Int32} {v3_2 : Int32} {x_4 : Int32} {X70 : Int32 → (Nat → Int32) → Prop} (G : XO g RX13 cX13_put 6 3 0 0) (hX70 : ∀ (v5_11 : Int32) (ord_12 : Nat → Int32), X70 v5_11 ord_12 → X g 6 70 [(5, .int v5_11), (4, .int x_4), (3, .int v3_2), (0, .ref h0), (1, .ref q0), (2, .int p1)] [] [(q0, .inr (lci kd, [.ref q0a, .ref q0d, .ref q0g, .int gc, .ref q0m])), (q0m, .inl (lamC kd (xT g) ln am)), (h0, .inr (10, [.ref h0o])), (h0o, .inl ((xT g) 2, 60, .inl ord_12))] 0 0) : ∀ (n : Nat) (v5_5 : Int32) (ord_6 : Nat → Int32), wX13_put_X14_L24 kd ln am x_4 X70 n v5_5 ord_6 → X g 6 24 [(5, .int v5_5), (4, .int x_4), (3, .int v3_2), (0, .ref h0), (1, .ref q0), (2, .int p1)] [] [(q0, .inr (lci kd, [.ref q0a, .ref q0d, .ref q0g, .int gc, .ref q0m])), (q0m, .inl (lamC kd (xT g) ln am)), (h0, .inr (10, [.ref h0o])), (h0o, .inl ((xT g) 2, 60, .inl ord_6))] 0 0 := by
  intro n
  induction n with
  | zero => intro _ _ h; exact h.elim
  | succ n ih =>
    intro v5_5 ord_6 h
    unfold wX13_put_X14_L24 at h
    refine x_iload G dX13_put_24 0 rfl ?_
    refine x_if_le (tgt := 70) G dX13_put_26 rfl (fun c => ?_) (fun c => ?_)
    · replace h := h.1 c
      exact hX70 v5_5 ord_6 h
    · replace h := h.2 c
      refine x_aload_n G rfl dX13_put_29 3 rfl ?_
      refine x_aload_n G rfl dX13_put_30 4 rfl ?_
      refine x_iload G dX13_put_31 1 rfl ?_
      refine x_aload_n G rfl dX13_put_33 3 rfl ?_
      refine x_get G in_X14 2 rfl rfl 0 (by decide) q998 (fun x9 h => u_same (G.hts _ q999) x9 h) rfl dX13_put_34 ?_
      refine x_iload G dX13_put_37 0 rfl ?_
      refine x_iconst (v := (1 : Int32)) G dX13_put_39 (by decide) ?_
      refine x_isub G dX13_put_40 ?_
      obtain ⟨hz, h⟩ := h
      refine x_iald G 3 rfl hz dX13_put_41 ?_
      refine x_cUi0 (C := "RoundingAuditor$Rising") (owner := "RoundingAuditor$Sorted") (x := ⟨"RoundingAuditor$Sorted", "isAhead", "(LRoundingAuditor$Ledger;II)Z"⟩) (wc := [(q0, .inr (lci kd, [.ref q0a, .ref q0d, .ref q0g, .int gc, .ref q0m])), (q0m, .inl (lamC kd (xT g) ln am))]) (As := [.ref q0, .int x_4, .int (ord_6 (v5_5 - (1 : Int32)).toNatClampNeg)]) (rest := []) G [(h0, .inr (10, [.ref h0o])), (h0o, .inl ((xT g) 2, 60, .inl ord_6))] (XSub.of [2, 3, 0, 1] rfl (by decide)) (tX14_isAhead_X14 G.noTraces h) q1172 q1174 (va_Decl.abs (G.E.2.1.2.2.1 _ (by decide +kernel))) q1191 q1187 q95 q1188 (show ("RoundingAuditor$Sorted" : String) ≠ "java/lang/invoke/MethodHandle" ∧ ("RoundingAuditor$Sorted" : String) ≠ "java/lang/invoke/VarHandle" ∧ (parseMethodDescriptor "(LRoundingAuditor$Ledger;II)Z").map (fun d => d.parameters.length) = some 3 from by decide +kernel) 10 2 rfl rfl rfl (by decide) (by decide) rfl (Nat.le_of_ble_eq_true rfl) (Nat.le_of_ble_eq_true rfl) (Nat.le_of_ble_eq_true rfl) dX13_put_42 (fun r_7 h => ?_)
      show X g 6 45 [(5, .int v5_5), (4, .int x_4), (3, .int v3_2), (0, .ref h0), (1, .ref q0), (2, .int p1)] [.int r_7] [(h0, .inr (10, [.ref h0o])), (h0o, .inl ((xT g) 2, 60, .inl ord_6)), (q0, .inr (lci kd, [.ref q0a, .ref q0d, .ref q0g, .int gc, .ref q0m])), (q0m, .inl (lamC kd (xT g) ln am))] 0 0
      refine x_if_eq (tgt := 70) G dX13_put_45 rfl (fun c => ?_) (fun c => ?_)
      · replace h := h.1 c
        refine x_ws (ws' := [(q0, .inr (lci kd, [.ref q0a, .ref q0d, .ref q0g, .int gc, .ref q0m])), (q0m, .inl (lamC kd (xT g) ln am)), (h0, .inr (10, [.ref h0o])), (h0o, .inl ((xT g) 2, 60, .inl ord_6))]) (XSub.of [2, 3, 0, 1] rfl (by decide)) ?_
        exact hX70 v5_5 ord_6 h
      · replace h := h.2 c
        refine x_aload_n G rfl dX13_put_48 3 rfl ?_
        refine x_get G in_X14 0 rfl rfl 0 (by decide) q998 (fun x9 h => u_same (G.hts _ q999) x9 h) rfl dX13_put_49 ?_
        refine x_iload G dX13_put_52 0 rfl ?_
        refine x_aload_n G rfl dX13_put_54 3 rfl ?_
        refine x_get G in_X14 0 rfl rfl 0 (by decide) q998 (fun x9 h => u_same (G.hts _ q999) x9 h) rfl dX13_put_55 ?_
        refine x_iload G dX13_put_58 0 rfl ?_
        refine x_iconst (v := (1 : Int32)) G dX13_put_60 (by decide) ?_
        refine x_isub G dX13_put_61 ?_
        obtain ⟨hz, h⟩ := h
        refine x_iald G 1 rfl hz dX13_put_62 ?_
        refine x_topi (fun x_8 ex_8 => ?_)
        replace h := h x_8 ex_8
        obtain ⟨hz, h⟩ := h
        obtain ⟨f_9, ef_9⟩ : ∃ z : Nat → Int32, z = upd ord_6 v5_5.toNatClampNeg x_8 := ⟨_, rfl⟩
        replace h := h f_9 ef_9
        refine x_iast G 1 rfl hz (by rw [← ef_9]) dX13_put_63 ?_
        show X g 6 64 [(5, .int v5_5), (4, .int x_4), (3, .int v3_2), (0, .ref h0), (1, .ref q0), (2, .int p1)] [] [(h0, .inr (10, [.ref h0o])), (h0o, .inl ((xT g) 2, 60, .inl f_9)), (q0, .inr (lci kd, [.ref q0a, .ref q0d, .ref q0g, .int gc, .ref q0m])), (q0m, .inl (lamC kd (xT g) ln am))] 0 0
        obtain ⟨x_10, ex_10⟩ : ∃ z : Int32, z = (v5_5 + (-1 : Int32)) := ⟨_, rfl⟩
        replace h := h x_10 ex_10
        refine x_iinc (v := x_10) (lv' := [(5, .int x_10), (4, .int x_4), (3, .int v3_2), (0, .ref h0), (1, .ref q0), (2, .int p1)]) G dX13_put_64 0 rfl (by rw [ex_10]; rfl) (by decide) rfl ?_
        refine x_goto (tgt := 24) G dX13_put_67 rfl ?_
        refine x_ws (ws' := [(q0, .inr (lci kd, [.ref q0a, .ref q0d, .ref q0g, .int gc, .ref q0m])), (q0m, .inl (lamC kd (xT g) ln am)), (h0, .inr (10, [.ref h0o])), (h0o, .inl ((xT g) 2, 60, .inl f_9))]) (XSub.of [2, 3, 0, 1] rfl (by decide)) ?_
        exact ih x_10 f_9 h
set_option maxRecDepth 20000 in
theorem kX13_put_X14_L8 {g : XG} {h0 : Nat} {h0o : Nat} {q0 : Nat} {kd : Bool} {q0a : Nat} {q0d : Nat} {q0g : Nat} {gc : Int32} {q0m : Nat} {ln : Nat} {am : Nat → UInt64} {p1 : Int32} {X85 : Int32 → (Nat → Int32) → Prop} (G : XO g RX13 cX13_put 6 3 0 0) (hX85 : ∀ (v3_17 : Int32) (ord_18 : Nat → Int32), X85 v3_17 ord_18 → X g 6 85 [(3, .int v3_17), (0, .ref h0), (1, .ref q0), (2, .int p1)] [] [(q0, .inr (lci kd, [.ref q0a, .ref q0d, .ref q0g, .int gc, .ref q0m])), (q0m, .inl (lamC kd (xT g) ln am)), (h0, .inr (10, [.ref h0o])), (h0o, .inl ((xT g) 2, 60, .inl ord_18))] 0 0) : ∀ (n : Nat) (v3_2 : Int32) (ord_3 : Nat → Int32), wX13_put_X14_L8 kd ln am p1 X85 n v3_2 ord_3 → X g 6 8 [(3, .int v3_2), (0, .ref h0), (1, .ref q0), (2, .int p1)] [] [(q0, .inr (lci kd, [.ref q0a, .ref q0d, .ref q0g, .int gc, .ref q0m])), (q0m, .inl (lamC kd (xT g) ln am)), (h0, .inr (10, [.ref h0o])), (h0o, .inl ((xT g) 2, 60, .inl ord_3))] 0 0 := by
  intro n
  induction n with
  | zero => intro _ _ h; exact h.elim
  | succ n ih =>
    intro v3_2 ord_3 h
    unfold wX13_put_X14_L8 at h
    refine x_iload_n G rfl dX13_put_8 0 rfl ?_
    refine x_iload_n G rfl dX13_put_9 3 rfl ?_
    refine x_icmp_ge (tgt := 85) G dX13_put_10 rfl (fun c => ?_) (fun c => ?_)
    · replace h := h.1 c
      exact hX85 v3_2 ord_3 h
    · replace h := h.2 c
      refine x_aload_n G rfl dX13_put_13 1 rfl ?_
      refine x_get G in_X14 2 rfl rfl 0 (by decide) q998 (fun x9 h => u_same (G.hts _ q999) x9 h) rfl dX13_put_14 ?_
      refine x_iload_n G rfl dX13_put_17 0 rfl ?_
      obtain ⟨hz, h⟩ := h
      refine x_iald G 3 rfl hz dX13_put_18 ?_
      refine x_topi (fun x_4 ex_4 => ?_)
      replace h := h x_4 ex_4
      refine x_istore (lv' := [(4, .int x_4), (3, .int v3_2), (0, .ref h0), (1, .ref q0), (2, .int p1)]) G dX13_put_19 (by decide) rfl ?_
      refine x_iload_n G rfl dX13_put_21 1 rfl ?_
      refine x_istore (lv' := [(5, .int v3_2), (4, .int x_4), (3, .int v3_2), (0, .ref h0), (1, .ref q0), (2, .int p1)]) G dX13_put_22 (by decide) rfl ?_
      obtain ⟨n0, h⟩ := h
      refine kX13_put_X14_L24 G (fun v5_13 ord_14 h => ?_) n0 _ _ h
      · refine x_aload_n G rfl dX13_put_70 3 rfl ?_
        refine x_get G in_X14 2 rfl rfl 0 (by decide) q998 (fun x9 h => u_same (G.hts _ q999) x9 h) rfl dX13_put_71 ?_
        refine x_iload G dX13_put_74 0 rfl ?_
        refine x_iload G dX13_put_76 1 rfl ?_
        obtain ⟨hz, h⟩ := h
        obtain ⟨f_15, ef_15⟩ : ∃ z : Nat → Int32, z = upd ord_14 v5_13.toNatClampNeg x_4 := ⟨_, rfl⟩
        replace h := h f_15 ef_15
        refine x_iast G 3 rfl hz (by rw [← ef_15]) dX13_put_78 ?_
        show X g 6 79 [(5, .int v5_13), (4, .int x_4), (3, .int v3_2), (0, .ref h0), (1, .ref q0), (2, .int p1)] [] [(q0, .inr (lci kd, [.ref q0a, .ref q0d, .ref q0g, .int gc, .ref q0m])), (q0m, .inl (lamC kd (xT g) ln am)), (h0, .inr (10, [.ref h0o])), (h0o, .inl ((xT g) 2, 60, .inl f_15))] 0 0
        obtain ⟨x_16, ex_16⟩ : ∃ z : Int32, z = (v3_2 + (1 : Int32)) := ⟨_, rfl⟩
        replace h := h x_16 ex_16
        refine x_iinc (v := x_16) (lv' := [(3, .int x_16), (5, .int v5_13), (4, .int x_4), (0, .ref h0), (1, .ref q0), (2, .int p1)]) G dX13_put_79 2 rfl (by rw [ex_16]; rfl) (by decide) rfl ?_
        refine x_goto (tgt := 8) G dX13_put_82 rfl ?_
        refine x_lv (lv' := [(3, .int x_16), (0, .ref h0), (1, .ref q0), (2, .int p1)]) [0, 3, 4, 5] rfl ?_
        exact ih x_16 f_15 h
set_option maxRecDepth 20000 in
theorem tX13_put_X14 {l : Launch} {D : va_G} {ta : Nat → ClassId} {h0 : Nat} {h0o : Nat} {ord : Nat → Int32} {q0 : Nat} {kd : Bool} {q0a : Nat} {q0d : Nat} {q0g : Nat} {gc : Int32} {q0m : Nat} {ln : Nat} {am : Nat → UInt64} {p1 : Int32} {K : (Nat → Int32) → Prop} (hlt : l.stackTraces = false) (h : wX13_put_X14 p1 ord kd ln am K) : SMv1 l D ta yX13_put cX13_put 6 3 [.ref h0, .ref q0, .int p1] [(h0, .inr (10, [.ref h0o])), (h0o, .inl (ta 2, 60, .inl ord)), (q0, .inr (lci kd, [.ref q0a, .ref q0d, .ref q0g, .int gc, .ref q0m])), (q0m, .inl (lamC kd ta ln am))] (fun (ord' : Nat → Int32) => [(h0, .inr (10, [.ref h0o])), (h0o, .inl (ta 2, 60, .inl ord')), (q0, .inr (lci kd, [.ref q0a, .ref q0d, .ref q0g, .int gc, .ref q0m])), (q0m, .inl (lamC kd ta ln am))]) 0 0 K := by
  refine x_stv1 hlt (plainFor_of_name (by decide +kernel)) (Nat.le_of_ble_eq_true rfl) (fun g G hl hD hT Q => ?_)
  subst hl; subst hD; subst hT
  unfold wX13_put_X14 at h
  show X g 6 0 [(0, .ref h0), (1, .ref q0), (2, .int p1)] [] [(h0, .inr (10, [.ref h0o])), (h0o, .inl ((xT g) 2, 60, .inl ord)), (q0, .inr (lci kd, [.ref q0a, .ref q0d, .ref q0g, .int gc, .ref q0m])), (q0m, .inl (lamC kd (xT g) ln am))] 0 0
  refine x_aload_n G rfl dX13_put_0 0 rfl ?_
  refine x_aload_n G rfl dX13_put_1 1 rfl ?_
  refine x_iload_n G rfl dX13_put_2 2 rfl ?_
  refine x_cWv1 (wc := [(h0, .inr (10, [.ref h0o])), (h0o, .inl ((xT g) 2, 60, .inl ord))]) (As := [.ref q0, .int p1]) (rest := []) G [(q0, .inr (lci kd, [.ref q0a, .ref q0d, .ref q0g, .int gc, .ref q0m])), (q0m, .inl (lamC kd (xT g) ln am))] (XSub.of [2, 3, 0, 1] rfl (by decide)) (tX11_put_X14 G.noTraces h) q1168 q2050 q1169 q1170 q92 q1171 ⟨by decide, cdX11_put.2.2.2⟩ 10 0 rfl rfl (by decide) (by decide) rfl (Nat.le_of_ble_eq_true rfl) (Nat.le_of_ble_eq_true rfl) (Nat.le_of_ble_eq_true rfl) dX13_put_3 (fun ord_1 h => ?_)
  show X g 6 6 [(0, .ref h0), (1, .ref q0), (2, .int p1)] [] [(q0, .inr (lci kd, [.ref q0a, .ref q0d, .ref q0g, .int gc, .ref q0m])), (q0m, .inl (lamC kd (xT g) ln am)), (h0, .inr (10, [.ref h0o])), (h0o, .inl ((xT g) 2, 60, .inl ord_1))] 0 0
  refine x_iconst (v := (1 : Int32)) G dX13_put_6 (by decide) ?_
  refine x_istore_n (lv' := [(3, .int (1 : Int32)), (0, .ref h0), (1, .ref q0), (2, .int p1)]) G rfl dX13_put_7 (by decide) rfl ?_
  obtain ⟨n0, h⟩ := h
  refine kX13_put_X14_L8 G (fun v3_19 ord_20 h => ?_) n0 _ _ h
  · exact x_retv1 G Q dX13_put_85 ord_20 h (XSub.of [2, 3, 0, 1] rfl (by decide)) (Nat.le_of_ble_eq_true rfl) (Nat.le_of_ble_eq_true rfl)
def wX13_put_X15_L24 (kd : Bool) (ln : Nat) (am : Nat → UInt64) (x_4 : Int32) (X70 : Int32 → (Nat → Int32) → Prop) : Nat → Int32 → (Nat → Int32) → Prop
  | 0, _, _ => False
  | n + 1, v5_5, ord_6 => ((v5_5 ≤ (0 : Int32) → X70 v5_5 ord_6) ∧ (¬ v5_5 ≤ (0 : Int32) → (vp_in (v5_5 - (1 : Int32)) 60 ∧ (wX15_isAhead_X15 x_4 (ord_6 (v5_5 - (1 : Int32)).toNatClampNeg) kd ln am (fun (r_7 : Int32) => ((r_7 = (0 : Int32) → X70 v5_5 ord_6) ∧ (¬ r_7 = (0 : Int32) → (vp_in (v5_5 - (1 : Int32)) 60 ∧ (∀ x_8 : Int32, x_8 = (ord_6 (v5_5 - (1 : Int32)).toNatClampNeg) → (vp_in v5_5 60 ∧ (∀ f_9 : Nat → Int32, f_9 = upd ord_6 v5_5.toNatClampNeg x_8 → (∀ x_10 : Int32, x_10 = (v5_5 + (-1 : Int32)) → wX13_put_X15_L24 kd ln am x_4 X70 n x_10 f_9))))))))))))
def wX13_put_X15_L8 (kd : Bool) (ln : Nat) (am : Nat → UInt64) (p1 : Int32) (X85 : Int32 → (Nat → Int32) → Prop) : Nat → Int32 → (Nat → Int32) → Prop
  | 0, _, _ => False
  | n + 1, v3_2, ord_3 => ((p1 ≤ v3_2 → X85 v3_2 ord_3) ∧ (¬ p1 ≤ v3_2 → (vp_in v3_2 60 ∧ (∀ x_4 : Int32, x_4 = (ord_3 v3_2.toNatClampNeg) → (∃ m24 : Nat, wX13_put_X15_L24 kd ln am x_4 (fun (v5_13 : Int32) (ord_14 : Nat → Int32) => (vp_in v5_13 60 ∧ (∀ f_15 : Nat → Int32, f_15 = upd ord_14 v5_13.toNatClampNeg x_4 → (∀ x_16 : Int32, x_16 = (v3_2 + (1 : Int32)) → wX13_put_X15_L8 kd ln am p1 X85 n x_16 f_15)))) m24 v3_2 ord_3)))))
def wX13_put_X15 (p1 : Int32) (ord : Nat → Int32) (kd : Bool) (ln : Nat) (am : Nat → UInt64) (K : (Nat → Int32) → Prop) : Prop := (wX11_put_X11 p1 ord (fun (ord_1 : Nat → Int32) => (∃ m8 : Nat, wX13_put_X15_L8 kd ln am p1 (fun (v3_19 : Int32) (ord_20 : Nat → Int32) => K ord_20) m8 (1 : Int32) ord_1)))
set_option maxRecDepth 20000 in
theorem kX13_put_X15_L24 {g : XG} {h0 : Nat} {h0o : Nat} {q0 : Nat} {kd : Bool} {q0a : Nat} {q0d : Nat} {q0g : Nat} {gc : Int32} {q0m : Nat} {ln : Nat} {am : Nat → UInt64} {p1 : Int32} {v3_2 : Int32} {x_4 : Int32} {X70 : Int32 → (Nat → Int32) → Prop} (G : XO g RX13 cX13_put 6 4 0 0) (hX70 : ∀ (v5_11 : Int32) (ord_12 : Nat → Int32), X70 v5_11 ord_12 → X g 6 70 [(5, .int v5_11), (4, .int x_4), (3, .int v3_2), (0, .ref h0), (1, .ref q0), (2, .int p1)] [] [(q0, .inr (lci kd, [.ref q0a, .ref q0d, .ref q0g, .int gc, .ref q0m])), (q0m, .inl (lamC kd (xT g) ln am)), (h0, .inr (11, [.ref h0o])), (h0o, .inl ((xT g) 2, 60, .inl ord_12))] 0 0) : ∀ (n : Nat) (v5_5 : Int32) (ord_6 : Nat → Int32), wX13_put_X15_L24 kd ln am x_4 X70 n v5_5 ord_6 → X g 6 24 [(5, .int v5_5), (4, .int x_4), (3, .int v3_2), (0, .ref h0), (1, .ref q0), (2, .int p1)] [] [(q0, .inr (lci kd, [.ref q0a, .ref q0d, .ref q0g, .int gc, .ref q0m])), (q0m, .inl (lamC kd (xT g) ln am)), (h0, .inr (11, [.ref h0o])), (h0o, .inl ((xT g) 2, 60, .inl ord_6))] 0 0 := by
  intro n
  induction n with
  | zero => intro _ _ h; exact h.elim
  | succ n ih =>
    intro v5_5 ord_6 h
    unfold wX13_put_X15_L24 at h
    refine x_iload G dX13_put_24 0 rfl ?_
    refine x_if_le (tgt := 70) G dX13_put_26 rfl (fun c => ?_) (fun c => ?_)
    · replace h := h.1 c
      exact hX70 v5_5 ord_6 h
    · replace h := h.2 c
      refine x_aload_n G rfl dX13_put_29 3 rfl ?_
      refine x_aload_n G rfl dX13_put_30 4 rfl ?_
      refine x_iload G dX13_put_31 1 rfl ?_
      refine x_aload_n G rfl dX13_put_33 3 rfl ?_
      refine x_get G in_X15 2 rfl rfl 0 (by decide) q998 (fun x9 h => u_same (G.hts _ q999) x9 h) rfl dX13_put_34 ?_
      refine x_iload G dX13_put_37 0 rfl ?_
      refine x_iconst (v := (1 : Int32)) G dX13_put_39 (by decide) ?_
      refine x_isub G dX13_put_40 ?_
      obtain ⟨hz, h⟩ := h
      refine x_iald G 3 rfl hz dX13_put_41 ?_
      refine x_cUi0 (C := "RoundingAuditor$Falling") (owner := "RoundingAuditor$Sorted") (x := ⟨"RoundingAuditor$Sorted", "isAhead", "(LRoundingAuditor$Ledger;II)Z"⟩) (wc := [(h0, .inr (11, [.ref h0o])), (q0, .inr (lci kd, [.ref q0a, .ref q0d, .ref q0g, .int gc, .ref q0m])), (q0m, .inl (lamC kd (xT g) ln am))]) (As := [.ref q0, .int x_4, .int (ord_6 (v5_5 - (1 : Int32)).toNatClampNeg)]) (rest := []) G [(h0o, .inl ((xT g) 2, 60, .inl ord_6))] (XSub.of [3, 2, 0, 1] rfl (by decide)) (tX15_isAhead_X15 G.noTraces h) q1172 q1174 (va_Decl.abs (G.E.2.1.2.2.1 _ (by decide +kernel))) q1183 q1184 q96 q1185 (show ("RoundingAuditor$Sorted" : String) ≠ "java/lang/invoke/MethodHandle" ∧ ("RoundingAuditor$Sorted" : String) ≠ "java/lang/invoke/VarHandle" ∧ (parseMethodDescriptor "(LRoundingAuditor$Ledger;II)Z").map (fun d => d.parameters.length) = some 3 from by decide +kernel) 11 2 rfl rfl rfl (by decide) (by decide) rfl (Nat.le_of_ble_eq_true rfl) (Nat.le_of_ble_eq_true rfl) (Nat.le_of_ble_eq_true rfl) dX13_put_42 (fun r_7 h => ?_)
      show X g 6 45 [(5, .int v5_5), (4, .int x_4), (3, .int v3_2), (0, .ref h0), (1, .ref q0), (2, .int p1)] [.int r_7] [(h0o, .inl ((xT g) 2, 60, .inl ord_6)), (h0, .inr (11, [.ref h0o])), (q0, .inr (lci kd, [.ref q0a, .ref q0d, .ref q0g, .int gc, .ref q0m])), (q0m, .inl (lamC kd (xT g) ln am))] 0 0
      refine x_if_eq (tgt := 70) G dX13_put_45 rfl (fun c => ?_) (fun c => ?_)
      · replace h := h.1 c
        refine x_ws (ws' := [(q0, .inr (lci kd, [.ref q0a, .ref q0d, .ref q0g, .int gc, .ref q0m])), (q0m, .inl (lamC kd (xT g) ln am)), (h0, .inr (11, [.ref h0o])), (h0o, .inl ((xT g) 2, 60, .inl ord_6))]) (XSub.of [2, 3, 1, 0] rfl (by decide)) ?_
        exact hX70 v5_5 ord_6 h
      · replace h := h.2 c
        refine x_aload_n G rfl dX13_put_48 3 rfl ?_
        refine x_get G in_X15 1 rfl rfl 0 (by decide) q998 (fun x9 h => u_same (G.hts _ q999) x9 h) rfl dX13_put_49 ?_
        refine x_iload G dX13_put_52 0 rfl ?_
        refine x_aload_n G rfl dX13_put_54 3 rfl ?_
        refine x_get G in_X15 1 rfl rfl 0 (by decide) q998 (fun x9 h => u_same (G.hts _ q999) x9 h) rfl dX13_put_55 ?_
        refine x_iload G dX13_put_58 0 rfl ?_
        refine x_iconst (v := (1 : Int32)) G dX13_put_60 (by decide) ?_
        refine x_isub G dX13_put_61 ?_
        obtain ⟨hz, h⟩ := h
        refine x_iald G 0 rfl hz dX13_put_62 ?_
        refine x_topi (fun x_8 ex_8 => ?_)
        replace h := h x_8 ex_8
        obtain ⟨hz, h⟩ := h
        obtain ⟨f_9, ef_9⟩ : ∃ z : Nat → Int32, z = upd ord_6 v5_5.toNatClampNeg x_8 := ⟨_, rfl⟩
        replace h := h f_9 ef_9
        refine x_iast G 0 rfl hz (by rw [← ef_9]) dX13_put_63 ?_
        show X g 6 64 [(5, .int v5_5), (4, .int x_4), (3, .int v3_2), (0, .ref h0), (1, .ref q0), (2, .int p1)] [] [(h0o, .inl ((xT g) 2, 60, .inl f_9)), (h0, .inr (11, [.ref h0o])), (q0, .inr (lci kd, [.ref q0a, .ref q0d, .ref q0g, .int gc, .ref q0m])), (q0m, .inl (lamC kd (xT g) ln am))] 0 0
        obtain ⟨x_10, ex_10⟩ : ∃ z : Int32, z = (v5_5 + (-1 : Int32)) := ⟨_, rfl⟩
        replace h := h x_10 ex_10
        refine x_iinc (v := x_10) (lv' := [(5, .int x_10), (4, .int x_4), (3, .int v3_2), (0, .ref h0), (1, .ref q0), (2, .int p1)]) G dX13_put_64 0 rfl (by rw [ex_10]; rfl) (by decide) rfl ?_
        refine x_goto (tgt := 24) G dX13_put_67 rfl ?_
        refine x_ws (ws' := [(q0, .inr (lci kd, [.ref q0a, .ref q0d, .ref q0g, .int gc, .ref q0m])), (q0m, .inl (lamC kd (xT g) ln am)), (h0, .inr (11, [.ref h0o])), (h0o, .inl ((xT g) 2, 60, .inl f_9))]) (XSub.of [2, 3, 1, 0] rfl (by decide)) ?_
        exact ih x_10 f_9 h
set_option maxRecDepth 20000 in
theorem kX13_put_X15_L8 {g : XG} {h0 : Nat} {h0o : Nat} {q0 : Nat} {kd : Bool} {q0a : Nat} {q0d : Nat} {q0g : Nat} {gc : Int32} {q0m : Nat} {ln : Nat} {am : Nat → UInt64} {p1 : Int32} {X85 : Int32 → (Nat → Int32) → Prop} (G : XO g RX13 cX13_put 6 4 0 0) (hX85 : ∀ (v3_17 : Int32) (ord_18 : Nat → Int32), X85 v3_17 ord_18 → X g 6 85 [(3, .int v3_17), (0, .ref h0), (1, .ref q0), (2, .int p1)] [] [(q0, .inr (lci kd, [.ref q0a, .ref q0d, .ref q0g, .int gc, .ref q0m])), (q0m, .inl (lamC kd (xT g) ln am)), (h0, .inr (11, [.ref h0o])), (h0o, .inl ((xT g) 2, 60, .inl ord_18))] 0 0) : ∀ (n : Nat) (v3_2 : Int32) (ord_3 : Nat → Int32), wX13_put_X15_L8 kd ln am p1 X85 n v3_2 ord_3 → X g 6 8 [(3, .int v3_2), (0, .ref h0), (1, .ref q0), (2, .int p1)] [] [(q0, .inr (lci kd, [.ref q0a, .ref q0d, .ref q0g, .int gc, .ref q0m])), (q0m, .inl (lamC kd (xT g) ln am)), (h0, .inr (11, [.ref h0o])), (h0o, .inl ((xT g) 2, 60, .inl ord_3))] 0 0 := by
  intro n
  induction n with
  | zero => intro _ _ h; exact h.elim
  | succ n ih =>
    intro v3_2 ord_3 h
    unfold wX13_put_X15_L8 at h
    refine x_iload_n G rfl dX13_put_8 0 rfl ?_
    refine x_iload_n G rfl dX13_put_9 3 rfl ?_
    refine x_icmp_ge (tgt := 85) G dX13_put_10 rfl (fun c => ?_) (fun c => ?_)
    · replace h := h.1 c
      exact hX85 v3_2 ord_3 h
    · replace h := h.2 c
      refine x_aload_n G rfl dX13_put_13 1 rfl ?_
      refine x_get G in_X15 2 rfl rfl 0 (by decide) q998 (fun x9 h => u_same (G.hts _ q999) x9 h) rfl dX13_put_14 ?_
      refine x_iload_n G rfl dX13_put_17 0 rfl ?_
      obtain ⟨hz, h⟩ := h
      refine x_iald G 3 rfl hz dX13_put_18 ?_
      refine x_topi (fun x_4 ex_4 => ?_)
      replace h := h x_4 ex_4
      refine x_istore (lv' := [(4, .int x_4), (3, .int v3_2), (0, .ref h0), (1, .ref q0), (2, .int p1)]) G dX13_put_19 (by decide) rfl ?_
      refine x_iload_n G rfl dX13_put_21 1 rfl ?_
      refine x_istore (lv' := [(5, .int v3_2), (4, .int x_4), (3, .int v3_2), (0, .ref h0), (1, .ref q0), (2, .int p1)]) G dX13_put_22 (by decide) rfl ?_
      obtain ⟨n0, h⟩ := h
      refine kX13_put_X15_L24 G (fun v5_13 ord_14 h => ?_) n0 _ _ h
      · refine x_aload_n G rfl dX13_put_70 3 rfl ?_
        refine x_get G in_X15 2 rfl rfl 0 (by decide) q998 (fun x9 h => u_same (G.hts _ q999) x9 h) rfl dX13_put_71 ?_
        refine x_iload G dX13_put_74 0 rfl ?_
        refine x_iload G dX13_put_76 1 rfl ?_
        obtain ⟨hz, h⟩ := h
        obtain ⟨f_15, ef_15⟩ : ∃ z : Nat → Int32, z = upd ord_14 v5_13.toNatClampNeg x_4 := ⟨_, rfl⟩
        replace h := h f_15 ef_15
        refine x_iast G 3 rfl hz (by rw [← ef_15]) dX13_put_78 ?_
        show X g 6 79 [(5, .int v5_13), (4, .int x_4), (3, .int v3_2), (0, .ref h0), (1, .ref q0), (2, .int p1)] [] [(q0, .inr (lci kd, [.ref q0a, .ref q0d, .ref q0g, .int gc, .ref q0m])), (q0m, .inl (lamC kd (xT g) ln am)), (h0, .inr (11, [.ref h0o])), (h0o, .inl ((xT g) 2, 60, .inl f_15))] 0 0
        obtain ⟨x_16, ex_16⟩ : ∃ z : Int32, z = (v3_2 + (1 : Int32)) := ⟨_, rfl⟩
        replace h := h x_16 ex_16
        refine x_iinc (v := x_16) (lv' := [(3, .int x_16), (5, .int v5_13), (4, .int x_4), (0, .ref h0), (1, .ref q0), (2, .int p1)]) G dX13_put_79 2 rfl (by rw [ex_16]; rfl) (by decide) rfl ?_
        refine x_goto (tgt := 8) G dX13_put_82 rfl ?_
        refine x_lv (lv' := [(3, .int x_16), (0, .ref h0), (1, .ref q0), (2, .int p1)]) [0, 3, 4, 5] rfl ?_
        exact ih x_16 f_15 h
set_option maxRecDepth 20000 in
theorem tX13_put_X15 {l : Launch} {D : va_G} {ta : Nat → ClassId} {h0 : Nat} {h0o : Nat} {ord : Nat → Int32} {q0 : Nat} {kd : Bool} {q0a : Nat} {q0d : Nat} {q0g : Nat} {gc : Int32} {q0m : Nat} {ln : Nat} {am : Nat → UInt64} {p1 : Int32} {K : (Nat → Int32) → Prop} (hlt : l.stackTraces = false) (h : wX13_put_X15 p1 ord kd ln am K) : SMv1 l D ta yX13_put cX13_put 6 4 [.ref h0, .ref q0, .int p1] [(h0, .inr (11, [.ref h0o])), (h0o, .inl (ta 2, 60, .inl ord)), (q0, .inr (lci kd, [.ref q0a, .ref q0d, .ref q0g, .int gc, .ref q0m])), (q0m, .inl (lamC kd ta ln am))] (fun (ord' : Nat → Int32) => [(h0, .inr (11, [.ref h0o])), (h0o, .inl (ta 2, 60, .inl ord')), (q0, .inr (lci kd, [.ref q0a, .ref q0d, .ref q0g, .int gc, .ref q0m])), (q0m, .inl (lamC kd ta ln am))]) 0 0 K := by
  refine x_stv1 hlt (plainFor_of_name (by decide +kernel)) (Nat.le_of_ble_eq_true rfl) (fun g G hl hD hT Q => ?_)
  subst hl; subst hD; subst hT
  unfold wX13_put_X15 at h
  show X g 6 0 [(0, .ref h0), (1, .ref q0), (2, .int p1)] [] [(h0, .inr (11, [.ref h0o])), (h0o, .inl ((xT g) 2, 60, .inl ord)), (q0, .inr (lci kd, [.ref q0a, .ref q0d, .ref q0g, .int gc, .ref q0m])), (q0m, .inl (lamC kd (xT g) ln am))] 0 0
  refine x_aload_n G rfl dX13_put_0 0 rfl ?_
  refine x_aload_n G rfl dX13_put_1 1 rfl ?_
  refine x_iload_n G rfl dX13_put_2 2 rfl ?_
  refine x_cWv1 (wc := [(h0, .inr (11, [.ref h0o])), (h0o, .inl ((xT g) 2, 60, .inl ord))]) (As := [.ref q0, .int p1]) (rest := []) G [(q0, .inr (lci kd, [.ref q0a, .ref q0d, .ref q0g, .int gc, .ref q0m])), (q0m, .inl (lamC kd (xT g) ln am))] (XSub.of [2, 3, 0, 1] rfl (by decide)) (tX11_put_X15 G.noTraces h) q1168 q2050 q1169 q1170 q92 q1171 ⟨by decide, cdX11_put.2.2.2⟩ 11 0 rfl rfl (by decide) (by decide) rfl (Nat.le_of_ble_eq_true rfl) (Nat.le_of_ble_eq_true rfl) (Nat.le_of_ble_eq_true rfl) dX13_put_3 (fun ord_1 h => ?_)
  show X g 6 6 [(0, .ref h0), (1, .ref q0), (2, .int p1)] [] [(q0, .inr (lci kd, [.ref q0a, .ref q0d, .ref q0g, .int gc, .ref q0m])), (q0m, .inl (lamC kd (xT g) ln am)), (h0, .inr (11, [.ref h0o])), (h0o, .inl ((xT g) 2, 60, .inl ord_1))] 0 0
  refine x_iconst (v := (1 : Int32)) G dX13_put_6 (by decide) ?_
  refine x_istore_n (lv' := [(3, .int (1 : Int32)), (0, .ref h0), (1, .ref q0), (2, .int p1)]) G rfl dX13_put_7 (by decide) rfl ?_
  obtain ⟨n0, h⟩ := h
  refine kX13_put_X15_L8 G (fun v3_19 ord_20 h => ?_) n0 _ _ h
  · exact x_retv1 G Q dX13_put_85 ord_20 h (XSub.of [2, 3, 0, 1] rfl (by decide)) (Nat.le_of_ble_eq_true rfl) (Nat.le_of_ble_eq_true rfl)
def wX13_put_X16_L24 (ln : Nat) (acc : Nat → Int32) (x_4 : Int32) (X70 : Int32 → (Nat → Int32) → Prop) : Nat → Int32 → (Nat → Int32) → Prop
  | 0, _, _ => False
  | n + 1, v5_5, ord_6 => ((v5_5 ≤ (0 : Int32) → X70 v5_5 ord_6) ∧ (¬ v5_5 ≤ (0 : Int32) → (vp_in (v5_5 - (1 : Int32)) 60 ∧ (wX16_isAhead_X16 x_4 (ord_6 (v5_5 - (1 : Int32)).toNatClampNeg) ln acc (fun (r_7 : Int32) => ((r_7 = (0 : Int32) → X70 v5_5 ord_6) ∧ (¬ r_7 = (0 : Int32) → (vp_in (v5_5 - (1 : Int32)) 60 ∧ (∀ x_8 : Int32, x_8 = (ord_6 (v5_5 - (1 : Int32)).toNatClampNeg) → (vp_in v5_5 60 ∧ (∀ f_9 : Nat → Int32, f_9 = upd ord_6 v5_5.toNatClampNeg x_8 → (∀ x_10 : Int32, x_10 = (v5_5 + (-1 : Int32)) → wX13_put_X16_L24 ln acc x_4 X70 n x_10 f_9))))))))))))
def wX13_put_X16_L8 (ln : Nat) (acc : Nat → Int32) (p1 : Int32) (X85 : Int32 → (Nat → Int32) → Prop) : Nat → Int32 → (Nat → Int32) → Prop
  | 0, _, _ => False
  | n + 1, v3_2, ord_3 => ((p1 ≤ v3_2 → X85 v3_2 ord_3) ∧ (¬ p1 ≤ v3_2 → (vp_in v3_2 60 ∧ (∀ x_4 : Int32, x_4 = (ord_3 v3_2.toNatClampNeg) → (∃ m24 : Nat, wX13_put_X16_L24 ln acc x_4 (fun (v5_13 : Int32) (ord_14 : Nat → Int32) => (vp_in v5_13 60 ∧ (∀ f_15 : Nat → Int32, f_15 = upd ord_14 v5_13.toNatClampNeg x_4 → (∀ x_16 : Int32, x_16 = (v3_2 + (1 : Int32)) → wX13_put_X16_L8 ln acc p1 X85 n x_16 f_15)))) m24 v3_2 ord_3)))))
def wX13_put_X16 (p1 : Int32) (ord : Nat → Int32) (ln : Nat) (acc : Nat → Int32) (K : (Nat → Int32) → Prop) : Prop := (wX11_put_X11 p1 ord (fun (ord_1 : Nat → Int32) => (∃ m8 : Nat, wX13_put_X16_L8 ln acc p1 (fun (v3_19 : Int32) (ord_20 : Nat → Int32) => K ord_20) m8 (1 : Int32) ord_1)))
set_option maxRecDepth 20000 in
theorem kX13_put_X16_L24 {g : XG} {h0 : Nat} {h0o : Nat} {q0 : Nat} {kd : Bool} {q0a : Nat} {q0d : Nat} {q0g : Nat} {gc : Int32} {q0m : Nat} {ln : Nat} {acc : Nat → Int32} {p1 : Int32} {v3_2 : Int32} {x_4 : Int32} {X70 : Int32 → (Nat → Int32) → Prop} (G : XO g RX13 cX13_put 6 3 0 0) (hX70 : ∀ (v5_11 : Int32) (ord_12 : Nat → Int32), X70 v5_11 ord_12 → X g 6 70 [(5, .int v5_11), (4, .int x_4), (3, .int v3_2), (0, .ref h0), (1, .ref q0), (2, .int p1)] [] [(q0, .inr (lci kd, [.ref q0a, .ref q0d, .ref q0g, .int gc, .ref q0m])), (q0a, .inl ((xT g) 1, ln, .inl acc)), (h0, .inr (12, [.ref h0o])), (h0o, .inl ((xT g) 2, 60, .inl ord_12))] 0 0) : ∀ (n : Nat) (v5_5 : Int32) (ord_6 : Nat → Int32), wX13_put_X16_L24 ln acc x_4 X70 n v5_5 ord_6 → X g 6 24 [(5, .int v5_5), (4, .int x_4), (3, .int v3_2), (0, .ref h0), (1, .ref q0), (2, .int p1)] [] [(q0, .inr (lci kd, [.ref q0a, .ref q0d, .ref q0g, .int gc, .ref q0m])), (q0a, .inl ((xT g) 1, ln, .inl acc)), (h0, .inr (12, [.ref h0o])), (h0o, .inl ((xT g) 2, 60, .inl ord_6))] 0 0 := by
  intro n
  induction n with
  | zero => intro _ _ h; exact h.elim
  | succ n ih =>
    intro v5_5 ord_6 h
    unfold wX13_put_X16_L24 at h
    refine x_iload G dX13_put_24 0 rfl ?_
    refine x_if_le (tgt := 70) G dX13_put_26 rfl (fun c => ?_) (fun c => ?_)
    · replace h := h.1 c
      exact hX70 v5_5 ord_6 h
    · replace h := h.2 c
      refine x_aload_n G rfl dX13_put_29 3 rfl ?_
      refine x_aload_n G rfl dX13_put_30 4 rfl ?_
      refine x_iload G dX13_put_31 1 rfl ?_
      refine x_aload_n G rfl dX13_put_33 3 rfl ?_
      refine x_get G in_X16 2 rfl rfl 0 (by decide) q998 (fun x9 h => u_same (G.hts _ q999) x9 h) rfl dX13_put_34 ?_
      refine x_iload G dX13_put_37 0 rfl ?_
      refine x_iconst (v := (1 : Int32)) G dX13_put_39 (by decide) ?_
      refine x_isub G dX13_put_40 ?_
      obtain ⟨hz, h⟩ := h
      refine x_iald G 3 rfl hz dX13_put_41 ?_
      refine x_cUi0 (C := "RoundingAuditor$ByAccount") (owner := "RoundingAuditor$Sorted") (x := ⟨"RoundingAuditor$Sorted", "isAhead", "(LRoundingAuditor$Ledger;II)Z"⟩) (wc := [(q0, .inr (lci kd, [.ref q0a, .ref q0d, .ref q0g, .int gc, .ref q0m])), (q0a, .inl ((xT g) 1, ln, .inl acc))]) (As := [.ref q0, .int x_4, .int (ord_6 (v5_5 - (1 : Int32)).toNatClampNeg)]) (rest := []) G [(h0, .inr (12, [.ref h0o])), (h0o, .inl ((xT g) 2, 60, .inl ord_6))] (XSub.of [2, 3, 0, 1] rfl (by decide)) (tX16_isAhead_X16 G.noTraces h) q1172 q1174 (va_Decl.abs (G.E.2.1.2.2.1 _ (by decide +kernel))) q1175 q1176 q97 q1177 (show ("RoundingAuditor$Sorted" : String) ≠ "java/lang/invoke/MethodHandle" ∧ ("RoundingAuditor$Sorted" : String) ≠ "java/lang/invoke/VarHandle" ∧ (parseMethodDescriptor "(LRoundingAuditor$Ledger;II)Z").map (fun d => d.parameters.length) = some 3 from by decide +kernel) 12 2 rfl rfl rfl (by decide) (by decide) rfl (Nat.le_of_ble_eq_true rfl) (Nat.le_of_ble_eq_true rfl) (Nat.le_of_ble_eq_true rfl) dX13_put_42 (fun r_7 h => ?_)
      show X g 6 45 [(5, .int v5_5), (4, .int x_4), (3, .int v3_2), (0, .ref h0), (1, .ref q0), (2, .int p1)] [.int r_7] [(h0, .inr (12, [.ref h0o])), (h0o, .inl ((xT g) 2, 60, .inl ord_6)), (q0, .inr (lci kd, [.ref q0a, .ref q0d, .ref q0g, .int gc, .ref q0m])), (q0a, .inl ((xT g) 1, ln, .inl acc))] 0 0
      refine x_if_eq (tgt := 70) G dX13_put_45 rfl (fun c => ?_) (fun c => ?_)
      · replace h := h.1 c
        refine x_ws (ws' := [(q0, .inr (lci kd, [.ref q0a, .ref q0d, .ref q0g, .int gc, .ref q0m])), (q0a, .inl ((xT g) 1, ln, .inl acc)), (h0, .inr (12, [.ref h0o])), (h0o, .inl ((xT g) 2, 60, .inl ord_6))]) (XSub.of [2, 3, 0, 1] rfl (by decide)) ?_
        exact hX70 v5_5 ord_6 h
      · replace h := h.2 c
        refine x_aload_n G rfl dX13_put_48 3 rfl ?_
        refine x_get G in_X16 0 rfl rfl 0 (by decide) q998 (fun x9 h => u_same (G.hts _ q999) x9 h) rfl dX13_put_49 ?_
        refine x_iload G dX13_put_52 0 rfl ?_
        refine x_aload_n G rfl dX13_put_54 3 rfl ?_
        refine x_get G in_X16 0 rfl rfl 0 (by decide) q998 (fun x9 h => u_same (G.hts _ q999) x9 h) rfl dX13_put_55 ?_
        refine x_iload G dX13_put_58 0 rfl ?_
        refine x_iconst (v := (1 : Int32)) G dX13_put_60 (by decide) ?_
        refine x_isub G dX13_put_61 ?_
        obtain ⟨hz, h⟩ := h
        refine x_iald G 1 rfl hz dX13_put_62 ?_
        refine x_topi (fun x_8 ex_8 => ?_)
        replace h := h x_8 ex_8
        obtain ⟨hz, h⟩ := h
        obtain ⟨f_9, ef_9⟩ : ∃ z : Nat → Int32, z = upd ord_6 v5_5.toNatClampNeg x_8 := ⟨_, rfl⟩
        replace h := h f_9 ef_9
        refine x_iast G 1 rfl hz (by rw [← ef_9]) dX13_put_63 ?_
        show X g 6 64 [(5, .int v5_5), (4, .int x_4), (3, .int v3_2), (0, .ref h0), (1, .ref q0), (2, .int p1)] [] [(h0, .inr (12, [.ref h0o])), (h0o, .inl ((xT g) 2, 60, .inl f_9)), (q0, .inr (lci kd, [.ref q0a, .ref q0d, .ref q0g, .int gc, .ref q0m])), (q0a, .inl ((xT g) 1, ln, .inl acc))] 0 0
        obtain ⟨x_10, ex_10⟩ : ∃ z : Int32, z = (v5_5 + (-1 : Int32)) := ⟨_, rfl⟩
        replace h := h x_10 ex_10
        refine x_iinc (v := x_10) (lv' := [(5, .int x_10), (4, .int x_4), (3, .int v3_2), (0, .ref h0), (1, .ref q0), (2, .int p1)]) G dX13_put_64 0 rfl (by rw [ex_10]; rfl) (by decide) rfl ?_
        refine x_goto (tgt := 24) G dX13_put_67 rfl ?_
        refine x_ws (ws' := [(q0, .inr (lci kd, [.ref q0a, .ref q0d, .ref q0g, .int gc, .ref q0m])), (q0a, .inl ((xT g) 1, ln, .inl acc)), (h0, .inr (12, [.ref h0o])), (h0o, .inl ((xT g) 2, 60, .inl f_9))]) (XSub.of [2, 3, 0, 1] rfl (by decide)) ?_
        exact ih x_10 f_9 h
set_option maxRecDepth 20000 in
theorem kX13_put_X16_L8 {g : XG} {h0 : Nat} {h0o : Nat} {q0 : Nat} {kd : Bool} {q0a : Nat} {q0d : Nat} {q0g : Nat} {gc : Int32} {q0m : Nat} {ln : Nat} {acc : Nat → Int32} {p1 : Int32} {X85 : Int32 → (Nat → Int32) → Prop} (G : XO g RX13 cX13_put 6 3 0 0) (hX85 : ∀ (v3_17 : Int32) (ord_18 : Nat → Int32), X85 v3_17 ord_18 → X g 6 85 [(3, .int v3_17), (0, .ref h0), (1, .ref q0), (2, .int p1)] [] [(q0, .inr (lci kd, [.ref q0a, .ref q0d, .ref q0g, .int gc, .ref q0m])), (q0a, .inl ((xT g) 1, ln, .inl acc)), (h0, .inr (12, [.ref h0o])), (h0o, .inl ((xT g) 2, 60, .inl ord_18))] 0 0) : ∀ (n : Nat) (v3_2 : Int32) (ord_3 : Nat → Int32), wX13_put_X16_L8 ln acc p1 X85 n v3_2 ord_3 → X g 6 8 [(3, .int v3_2), (0, .ref h0), (1, .ref q0), (2, .int p1)] [] [(q0, .inr (lci kd, [.ref q0a, .ref q0d, .ref q0g, .int gc, .ref q0m])), (q0a, .inl ((xT g) 1, ln, .inl acc)), (h0, .inr (12, [.ref h0o])), (h0o, .inl ((xT g) 2, 60, .inl ord_3))] 0 0 := by
  intro n
  induction n with
  | zero => intro _ _ h; exact h.elim
  | succ n ih =>
    intro v3_2 ord_3 h
    unfold wX13_put_X16_L8 at h
    refine x_iload_n G rfl dX13_put_8 0 rfl ?_
    refine x_iload_n G rfl dX13_put_9 3 rfl ?_
    refine x_icmp_ge (tgt := 85) G dX13_put_10 rfl (fun c => ?_) (fun c => ?_)
    · replace h := h.1 c
      exact hX85 v3_2 ord_3 h
    · replace h := h.2 c
      refine x_aload_n G rfl dX13_put_13 1 rfl ?_
      refine x_get G in_X16 2 rfl rfl 0 (by decide) q998 (fun x9 h => u_same (G.hts _ q999) x9 h) rfl dX13_put_14 ?_
      refine x_iload_n G rfl dX13_put_17 0 rfl ?_
      obtain ⟨hz, h⟩ := h
      refine x_iald G 3 rfl hz dX13_put_18 ?_
      refine x_topi (fun x_4 ex_4 => ?_)
      replace h := h x_4 ex_4
      refine x_istore (lv' := [(4, .int x_4), (3, .int v3_2), (0, .ref h0), (1, .ref q0), (2, .int p1)]) G dX13_put_19 (by decide) rfl ?_
      refine x_iload_n G rfl dX13_put_21 1 rfl ?_
      refine x_istore (lv' := [(5, .int v3_2), (4, .int x_4), (3, .int v3_2), (0, .ref h0), (1, .ref q0), (2, .int p1)]) G dX13_put_22 (by decide) rfl ?_
      obtain ⟨n0, h⟩ := h
      refine kX13_put_X16_L24 G (fun v5_13 ord_14 h => ?_) n0 _ _ h
      · refine x_aload_n G rfl dX13_put_70 3 rfl ?_
        refine x_get G in_X16 2 rfl rfl 0 (by decide) q998 (fun x9 h => u_same (G.hts _ q999) x9 h) rfl dX13_put_71 ?_
        refine x_iload G dX13_put_74 0 rfl ?_
        refine x_iload G dX13_put_76 1 rfl ?_
        obtain ⟨hz, h⟩ := h
        obtain ⟨f_15, ef_15⟩ : ∃ z : Nat → Int32, z = upd ord_14 v5_13.toNatClampNeg x_4 := ⟨_, rfl⟩
        replace h := h f_15 ef_15
        refine x_iast G 3 rfl hz (by rw [← ef_15]) dX13_put_78 ?_
        show X g 6 79 [(5, .int v5_13), (4, .int x_4), (3, .int v3_2), (0, .ref h0), (1, .ref q0), (2, .int p1)] [] [(q0, .inr (lci kd, [.ref q0a, .ref q0d, .ref q0g, .int gc, .ref q0m])), (q0a, .inl ((xT g) 1, ln, .inl acc)), (h0, .inr (12, [.ref h0o])), (h0o, .inl ((xT g) 2, 60, .inl f_15))] 0 0
        obtain ⟨x_16, ex_16⟩ : ∃ z : Int32, z = (v3_2 + (1 : Int32)) := ⟨_, rfl⟩
        replace h := h x_16 ex_16
        refine x_iinc (v := x_16) (lv' := [(3, .int x_16), (5, .int v5_13), (4, .int x_4), (0, .ref h0), (1, .ref q0), (2, .int p1)]) G dX13_put_79 2 rfl (by rw [ex_16]; rfl) (by decide) rfl ?_
        refine x_goto (tgt := 8) G dX13_put_82 rfl ?_
        refine x_lv (lv' := [(3, .int x_16), (0, .ref h0), (1, .ref q0), (2, .int p1)]) [0, 3, 4, 5] rfl ?_
        exact ih x_16 f_15 h
set_option maxRecDepth 20000 in
theorem tX13_put_X16 {l : Launch} {D : va_G} {ta : Nat → ClassId} {h0 : Nat} {h0o : Nat} {ord : Nat → Int32} {q0 : Nat} {kd : Bool} {q0a : Nat} {q0d : Nat} {q0g : Nat} {gc : Int32} {q0m : Nat} {ln : Nat} {acc : Nat → Int32} {p1 : Int32} {K : (Nat → Int32) → Prop} (hlt : l.stackTraces = false) (h : wX13_put_X16 p1 ord ln acc K) : SMv1 l D ta yX13_put cX13_put 6 3 [.ref h0, .ref q0, .int p1] [(h0, .inr (12, [.ref h0o])), (h0o, .inl (ta 2, 60, .inl ord)), (q0, .inr (lci kd, [.ref q0a, .ref q0d, .ref q0g, .int gc, .ref q0m])), (q0a, .inl (ta 1, ln, .inl acc))] (fun (ord' : Nat → Int32) => [(h0, .inr (12, [.ref h0o])), (h0o, .inl (ta 2, 60, .inl ord')), (q0, .inr (lci kd, [.ref q0a, .ref q0d, .ref q0g, .int gc, .ref q0m])), (q0a, .inl (ta 1, ln, .inl acc))]) 0 0 K := by
  refine x_stv1 hlt (plainFor_of_name (by decide +kernel)) (Nat.le_of_ble_eq_true rfl) (fun g G hl hD hT Q => ?_)
  subst hl; subst hD; subst hT
  unfold wX13_put_X16 at h
  show X g 6 0 [(0, .ref h0), (1, .ref q0), (2, .int p1)] [] [(h0, .inr (12, [.ref h0o])), (h0o, .inl ((xT g) 2, 60, .inl ord)), (q0, .inr (lci kd, [.ref q0a, .ref q0d, .ref q0g, .int gc, .ref q0m])), (q0a, .inl ((xT g) 1, ln, .inl acc))] 0 0
  refine x_aload_n G rfl dX13_put_0 0 rfl ?_
  refine x_aload_n G rfl dX13_put_1 1 rfl ?_
  refine x_iload_n G rfl dX13_put_2 2 rfl ?_
  refine x_cWv1 (wc := [(h0, .inr (12, [.ref h0o])), (h0o, .inl ((xT g) 2, 60, .inl ord))]) (As := [.ref q0, .int p1]) (rest := []) G [(q0, .inr (lci kd, [.ref q0a, .ref q0d, .ref q0g, .int gc, .ref q0m])), (q0a, .inl ((xT g) 1, ln, .inl acc))] (XSub.of [2, 3, 0, 1] rfl (by decide)) (tX11_put_X16 G.noTraces h) q1168 q2050 q1169 q1170 q92 q1171 ⟨by decide, cdX11_put.2.2.2⟩ 12 0 rfl rfl (by decide) (by decide) rfl (Nat.le_of_ble_eq_true rfl) (Nat.le_of_ble_eq_true rfl) (Nat.le_of_ble_eq_true rfl) dX13_put_3 (fun ord_1 h => ?_)
  show X g 6 6 [(0, .ref h0), (1, .ref q0), (2, .int p1)] [] [(q0, .inr (lci kd, [.ref q0a, .ref q0d, .ref q0g, .int gc, .ref q0m])), (q0a, .inl ((xT g) 1, ln, .inl acc)), (h0, .inr (12, [.ref h0o])), (h0o, .inl ((xT g) 2, 60, .inl ord_1))] 0 0
  refine x_iconst (v := (1 : Int32)) G dX13_put_6 (by decide) ?_
  refine x_istore_n (lv' := [(3, .int (1 : Int32)), (0, .ref h0), (1, .ref q0), (2, .int p1)]) G rfl dX13_put_7 (by decide) rfl ?_
  obtain ⟨n0, h⟩ := h
  refine kX13_put_X16_L8 G (fun v3_19 ord_20 h => ?_) n0 _ _ h
  · exact x_retv1 G Q dX13_put_85 ord_20 h (XSub.of [2, 3, 0, 1] rfl (by decide)) (Nat.le_of_ble_eq_true rfl) (Nat.le_of_ble_eq_true rfl)
def wX13_put_X17_L24 (ln : Nat) (day : Nat → Int32) (x_4 : Int32) (X70 : Int32 → (Nat → Int32) → Prop) : Nat → Int32 → (Nat → Int32) → Prop
  | 0, _, _ => False
  | n + 1, v5_5, ord_6 => ((v5_5 ≤ (0 : Int32) → X70 v5_5 ord_6) ∧ (¬ v5_5 ≤ (0 : Int32) → (vp_in (v5_5 - (1 : Int32)) 60 ∧ (wX17_isAhead_X17 x_4 (ord_6 (v5_5 - (1 : Int32)).toNatClampNeg) ln day (fun (r_7 : Int32) => ((r_7 = (0 : Int32) → X70 v5_5 ord_6) ∧ (¬ r_7 = (0 : Int32) → (vp_in (v5_5 - (1 : Int32)) 60 ∧ (∀ x_8 : Int32, x_8 = (ord_6 (v5_5 - (1 : Int32)).toNatClampNeg) → (vp_in v5_5 60 ∧ (∀ f_9 : Nat → Int32, f_9 = upd ord_6 v5_5.toNatClampNeg x_8 → (∀ x_10 : Int32, x_10 = (v5_5 + (-1 : Int32)) → wX13_put_X17_L24 ln day x_4 X70 n x_10 f_9))))))))))))
def wX13_put_X17_L8 (ln : Nat) (day : Nat → Int32) (p1 : Int32) (X85 : Int32 → (Nat → Int32) → Prop) : Nat → Int32 → (Nat → Int32) → Prop
  | 0, _, _ => False
  | n + 1, v3_2, ord_3 => ((p1 ≤ v3_2 → X85 v3_2 ord_3) ∧ (¬ p1 ≤ v3_2 → (vp_in v3_2 60 ∧ (∀ x_4 : Int32, x_4 = (ord_3 v3_2.toNatClampNeg) → (∃ m24 : Nat, wX13_put_X17_L24 ln day x_4 (fun (v5_13 : Int32) (ord_14 : Nat → Int32) => (vp_in v5_13 60 ∧ (∀ f_15 : Nat → Int32, f_15 = upd ord_14 v5_13.toNatClampNeg x_4 → (∀ x_16 : Int32, x_16 = (v3_2 + (1 : Int32)) → wX13_put_X17_L8 ln day p1 X85 n x_16 f_15)))) m24 v3_2 ord_3)))))
def wX13_put_X17 (p1 : Int32) (ord : Nat → Int32) (ln : Nat) (day : Nat → Int32) (K : (Nat → Int32) → Prop) : Prop := (wX11_put_X11 p1 ord (fun (ord_1 : Nat → Int32) => (∃ m8 : Nat, wX13_put_X17_L8 ln day p1 (fun (v3_19 : Int32) (ord_20 : Nat → Int32) => K ord_20) m8 (1 : Int32) ord_1)))
set_option maxRecDepth 20000 in
theorem kX13_put_X17_L24 {g : XG} {h0 : Nat} {h0o : Nat} {q0 : Nat} {kd : Bool} {q0a : Nat} {q0d : Nat} {q0g : Nat} {gc : Int32} {q0m : Nat} {ln : Nat} {day : Nat → Int32} {p1 : Int32} {v3_2 : Int32} {x_4 : Int32} {X70 : Int32 → (Nat → Int32) → Prop} (G : XO g RX13 cX13_put 6 3 0 0) (hX70 : ∀ (v5_11 : Int32) (ord_12 : Nat → Int32), X70 v5_11 ord_12 → X g 6 70 [(5, .int v5_11), (4, .int x_4), (3, .int v3_2), (0, .ref h0), (1, .ref q0), (2, .int p1)] [] [(q0, .inr (lci kd, [.ref q0a, .ref q0d, .ref q0g, .int gc, .ref q0m])), (q0d, .inl ((xT g) 1, ln, .inl day)), (h0, .inr (13, [.ref h0o])), (h0o, .inl ((xT g) 2, 60, .inl ord_12))] 0 0) : ∀ (n : Nat) (v5_5 : Int32) (ord_6 : Nat → Int32), wX13_put_X17_L24 ln day x_4 X70 n v5_5 ord_6 → X g 6 24 [(5, .int v5_5), (4, .int x_4), (3, .int v3_2), (0, .ref h0), (1, .ref q0), (2, .int p1)] [] [(q0, .inr (lci kd, [.ref q0a, .ref q0d, .ref q0g, .int gc, .ref q0m])), (q0d, .inl ((xT g) 1, ln, .inl day)), (h0, .inr (13, [.ref h0o])), (h0o, .inl ((xT g) 2, 60, .inl ord_6))] 0 0 := by
  intro n
  induction n with
  | zero => intro _ _ h; exact h.elim
  | succ n ih =>
    intro v5_5 ord_6 h
    unfold wX13_put_X17_L24 at h
    refine x_iload G dX13_put_24 0 rfl ?_
    refine x_if_le (tgt := 70) G dX13_put_26 rfl (fun c => ?_) (fun c => ?_)
    · replace h := h.1 c
      exact hX70 v5_5 ord_6 h
    · replace h := h.2 c
      refine x_aload_n G rfl dX13_put_29 3 rfl ?_
      refine x_aload_n G rfl dX13_put_30 4 rfl ?_
      refine x_iload G dX13_put_31 1 rfl ?_
      refine x_aload_n G rfl dX13_put_33 3 rfl ?_
      refine x_get G in_X17 2 rfl rfl 0 (by decide) q998 (fun x9 h => u_same (G.hts _ q999) x9 h) rfl dX13_put_34 ?_
      refine x_iload G dX13_put_37 0 rfl ?_
      refine x_iconst (v := (1 : Int32)) G dX13_put_39 (by decide) ?_
      refine x_isub G dX13_put_40 ?_
      obtain ⟨hz, h⟩ := h
      refine x_iald G 3 rfl hz dX13_put_41 ?_
      refine x_cUi0 (C := "RoundingAuditor$ByDay") (owner := "RoundingAuditor$Sorted") (x := ⟨"RoundingAuditor$Sorted", "isAhead", "(LRoundingAuditor$Ledger;II)Z"⟩) (wc := [(q0, .inr (lci kd, [.ref q0a, .ref q0d, .ref q0g, .int gc, .ref q0m])), (q0d, .inl ((xT g) 1, ln, .inl day))]) (As := [.ref q0, .int x_4, .int (ord_6 (v5_5 - (1 : Int32)).toNatClampNeg)]) (rest := []) G [(h0, .inr (13, [.ref h0o])), (h0o, .inl ((xT g) 2, 60, .inl ord_6))] (XSub.of [2, 3, 0, 1] rfl (by decide)) (tX17_isAhead_X17 G.noTraces h) q1172 q1174 (va_Decl.abs (G.E.2.1.2.2.1 _ (by decide +kernel))) q1179 q1180 q98 q1181 (show ("RoundingAuditor$Sorted" : String) ≠ "java/lang/invoke/MethodHandle" ∧ ("RoundingAuditor$Sorted" : String) ≠ "java/lang/invoke/VarHandle" ∧ (parseMethodDescriptor "(LRoundingAuditor$Ledger;II)Z").map (fun d => d.parameters.length) = some 3 from by decide +kernel) 13 2 rfl rfl rfl (by decide) (by decide) rfl (Nat.le_of_ble_eq_true rfl) (Nat.le_of_ble_eq_true rfl) (Nat.le_of_ble_eq_true rfl) dX13_put_42 (fun r_7 h => ?_)
      show X g 6 45 [(5, .int v5_5), (4, .int x_4), (3, .int v3_2), (0, .ref h0), (1, .ref q0), (2, .int p1)] [.int r_7] [(h0, .inr (13, [.ref h0o])), (h0o, .inl ((xT g) 2, 60, .inl ord_6)), (q0, .inr (lci kd, [.ref q0a, .ref q0d, .ref q0g, .int gc, .ref q0m])), (q0d, .inl ((xT g) 1, ln, .inl day))] 0 0
      refine x_if_eq (tgt := 70) G dX13_put_45 rfl (fun c => ?_) (fun c => ?_)
      · replace h := h.1 c
        refine x_ws (ws' := [(q0, .inr (lci kd, [.ref q0a, .ref q0d, .ref q0g, .int gc, .ref q0m])), (q0d, .inl ((xT g) 1, ln, .inl day)), (h0, .inr (13, [.ref h0o])), (h0o, .inl ((xT g) 2, 60, .inl ord_6))]) (XSub.of [2, 3, 0, 1] rfl (by decide)) ?_
        exact hX70 v5_5 ord_6 h
      · replace h := h.2 c
        refine x_aload_n G rfl dX13_put_48 3 rfl ?_
        refine x_get G in_X17 0 rfl rfl 0 (by decide) q998 (fun x9 h => u_same (G.hts _ q999) x9 h) rfl dX13_put_49 ?_
        refine x_iload G dX13_put_52 0 rfl ?_
        refine x_aload_n G rfl dX13_put_54 3 rfl ?_
        refine x_get G in_X17 0 rfl rfl 0 (by decide) q998 (fun x9 h => u_same (G.hts _ q999) x9 h) rfl dX13_put_55 ?_
        refine x_iload G dX13_put_58 0 rfl ?_
        refine x_iconst (v := (1 : Int32)) G dX13_put_60 (by decide) ?_
        refine x_isub G dX13_put_61 ?_
        obtain ⟨hz, h⟩ := h
        refine x_iald G 1 rfl hz dX13_put_62 ?_
        refine x_topi (fun x_8 ex_8 => ?_)
        replace h := h x_8 ex_8
        obtain ⟨hz, h⟩ := h
        obtain ⟨f_9, ef_9⟩ : ∃ z : Nat → Int32, z = upd ord_6 v5_5.toNatClampNeg x_8 := ⟨_, rfl⟩
        replace h := h f_9 ef_9
        refine x_iast G 1 rfl hz (by rw [← ef_9]) dX13_put_63 ?_
        show X g 6 64 [(5, .int v5_5), (4, .int x_4), (3, .int v3_2), (0, .ref h0), (1, .ref q0), (2, .int p1)] [] [(h0, .inr (13, [.ref h0o])), (h0o, .inl ((xT g) 2, 60, .inl f_9)), (q0, .inr (lci kd, [.ref q0a, .ref q0d, .ref q0g, .int gc, .ref q0m])), (q0d, .inl ((xT g) 1, ln, .inl day))] 0 0
        obtain ⟨x_10, ex_10⟩ : ∃ z : Int32, z = (v5_5 + (-1 : Int32)) := ⟨_, rfl⟩
        replace h := h x_10 ex_10
        refine x_iinc (v := x_10) (lv' := [(5, .int x_10), (4, .int x_4), (3, .int v3_2), (0, .ref h0), (1, .ref q0), (2, .int p1)]) G dX13_put_64 0 rfl (by rw [ex_10]; rfl) (by decide) rfl ?_
        refine x_goto (tgt := 24) G dX13_put_67 rfl ?_
        refine x_ws (ws' := [(q0, .inr (lci kd, [.ref q0a, .ref q0d, .ref q0g, .int gc, .ref q0m])), (q0d, .inl ((xT g) 1, ln, .inl day)), (h0, .inr (13, [.ref h0o])), (h0o, .inl ((xT g) 2, 60, .inl f_9))]) (XSub.of [2, 3, 0, 1] rfl (by decide)) ?_
        exact ih x_10 f_9 h
set_option maxRecDepth 20000 in
theorem kX13_put_X17_L8 {g : XG} {h0 : Nat} {h0o : Nat} {q0 : Nat} {kd : Bool} {q0a : Nat} {q0d : Nat} {q0g : Nat} {gc : Int32} {q0m : Nat} {ln : Nat} {day : Nat → Int32} {p1 : Int32} {X85 : Int32 → (Nat → Int32) → Prop} (G : XO g RX13 cX13_put 6 3 0 0) (hX85 : ∀ (v3_17 : Int32) (ord_18 : Nat → Int32), X85 v3_17 ord_18 → X g 6 85 [(3, .int v3_17), (0, .ref h0), (1, .ref q0), (2, .int p1)] [] [(q0, .inr (lci kd, [.ref q0a, .ref q0d, .ref q0g, .int gc, .ref q0m])), (q0d, .inl ((xT g) 1, ln, .inl day)), (h0, .inr (13, [.ref h0o])), (h0o, .inl ((xT g) 2, 60, .inl ord_18))] 0 0) : ∀ (n : Nat) (v3_2 : Int32) (ord_3 : Nat → Int32), wX13_put_X17_L8 ln day p1 X85 n v3_2 ord_3 → X g 6 8 [(3, .int v3_2), (0, .ref h0), (1, .ref q0), (2, .int p1)] [] [(q0, .inr (lci kd, [.ref q0a, .ref q0d, .ref q0g, .int gc, .ref q0m])), (q0d, .inl ((xT g) 1, ln, .inl day)), (h0, .inr (13, [.ref h0o])), (h0o, .inl ((xT g) 2, 60, .inl ord_3))] 0 0 := by
  intro n
  induction n with
  | zero => intro _ _ h; exact h.elim
  | succ n ih =>
    intro v3_2 ord_3 h
    unfold wX13_put_X17_L8 at h
    refine x_iload_n G rfl dX13_put_8 0 rfl ?_
    refine x_iload_n G rfl dX13_put_9 3 rfl ?_
    refine x_icmp_ge (tgt := 85) G dX13_put_10 rfl (fun c => ?_) (fun c => ?_)
    · replace h := h.1 c
      exact hX85 v3_2 ord_3 h
    · replace h := h.2 c
      refine x_aload_n G rfl dX13_put_13 1 rfl ?_
      refine x_get G in_X17 2 rfl rfl 0 (by decide) q998 (fun x9 h => u_same (G.hts _ q999) x9 h) rfl dX13_put_14 ?_
      refine x_iload_n G rfl dX13_put_17 0 rfl ?_
      obtain ⟨hz, h⟩ := h
      refine x_iald G 3 rfl hz dX13_put_18 ?_
      refine x_topi (fun x_4 ex_4 => ?_)
      replace h := h x_4 ex_4
      refine x_istore (lv' := [(4, .int x_4), (3, .int v3_2), (0, .ref h0), (1, .ref q0), (2, .int p1)]) G dX13_put_19 (by decide) rfl ?_
      refine x_iload_n G rfl dX13_put_21 1 rfl ?_
      refine x_istore (lv' := [(5, .int v3_2), (4, .int x_4), (3, .int v3_2), (0, .ref h0), (1, .ref q0), (2, .int p1)]) G dX13_put_22 (by decide) rfl ?_
      obtain ⟨n0, h⟩ := h
      refine kX13_put_X17_L24 G (fun v5_13 ord_14 h => ?_) n0 _ _ h
      · refine x_aload_n G rfl dX13_put_70 3 rfl ?_
        refine x_get G in_X17 2 rfl rfl 0 (by decide) q998 (fun x9 h => u_same (G.hts _ q999) x9 h) rfl dX13_put_71 ?_
        refine x_iload G dX13_put_74 0 rfl ?_
        refine x_iload G dX13_put_76 1 rfl ?_
        obtain ⟨hz, h⟩ := h
        obtain ⟨f_15, ef_15⟩ : ∃ z : Nat → Int32, z = upd ord_14 v5_13.toNatClampNeg x_4 := ⟨_, rfl⟩
        replace h := h f_15 ef_15
        refine x_iast G 3 rfl hz (by rw [← ef_15]) dX13_put_78 ?_
        show X g 6 79 [(5, .int v5_13), (4, .int x_4), (3, .int v3_2), (0, .ref h0), (1, .ref q0), (2, .int p1)] [] [(q0, .inr (lci kd, [.ref q0a, .ref q0d, .ref q0g, .int gc, .ref q0m])), (q0d, .inl ((xT g) 1, ln, .inl day)), (h0, .inr (13, [.ref h0o])), (h0o, .inl ((xT g) 2, 60, .inl f_15))] 0 0
        obtain ⟨x_16, ex_16⟩ : ∃ z : Int32, z = (v3_2 + (1 : Int32)) := ⟨_, rfl⟩
        replace h := h x_16 ex_16
        refine x_iinc (v := x_16) (lv' := [(3, .int x_16), (5, .int v5_13), (4, .int x_4), (0, .ref h0), (1, .ref q0), (2, .int p1)]) G dX13_put_79 2 rfl (by rw [ex_16]; rfl) (by decide) rfl ?_
        refine x_goto (tgt := 8) G dX13_put_82 rfl ?_
        refine x_lv (lv' := [(3, .int x_16), (0, .ref h0), (1, .ref q0), (2, .int p1)]) [0, 3, 4, 5] rfl ?_
        exact ih x_16 f_15 h
set_option maxRecDepth 20000 in
theorem tX13_put_X17 {l : Launch} {D : va_G} {ta : Nat → ClassId} {h0 : Nat} {h0o : Nat} {ord : Nat → Int32} {q0 : Nat} {kd : Bool} {q0a : Nat} {q0d : Nat} {q0g : Nat} {gc : Int32} {q0m : Nat} {ln : Nat} {day : Nat → Int32} {p1 : Int32} {K : (Nat → Int32) → Prop} (hlt : l.stackTraces = false) (h : wX13_put_X17 p1 ord ln day K) : SMv1 l D ta yX13_put cX13_put 6 3 [.ref h0, .ref q0, .int p1] [(h0, .inr (13, [.ref h0o])), (h0o, .inl (ta 2, 60, .inl ord)), (q0, .inr (lci kd, [.ref q0a, .ref q0d, .ref q0g, .int gc, .ref q0m])), (q0d, .inl (ta 1, ln, .inl day))] (fun (ord' : Nat → Int32) => [(h0, .inr (13, [.ref h0o])), (h0o, .inl (ta 2, 60, .inl ord')), (q0, .inr (lci kd, [.ref q0a, .ref q0d, .ref q0g, .int gc, .ref q0m])), (q0d, .inl (ta 1, ln, .inl day))]) 0 0 K := by
  refine x_stv1 hlt (plainFor_of_name (by decide +kernel)) (Nat.le_of_ble_eq_true rfl) (fun g G hl hD hT Q => ?_)
  subst hl; subst hD; subst hT
  unfold wX13_put_X17 at h
  show X g 6 0 [(0, .ref h0), (1, .ref q0), (2, .int p1)] [] [(h0, .inr (13, [.ref h0o])), (h0o, .inl ((xT g) 2, 60, .inl ord)), (q0, .inr (lci kd, [.ref q0a, .ref q0d, .ref q0g, .int gc, .ref q0m])), (q0d, .inl ((xT g) 1, ln, .inl day))] 0 0
  refine x_aload_n G rfl dX13_put_0 0 rfl ?_
  refine x_aload_n G rfl dX13_put_1 1 rfl ?_
  refine x_iload_n G rfl dX13_put_2 2 rfl ?_
  refine x_cWv1 (wc := [(h0, .inr (13, [.ref h0o])), (h0o, .inl ((xT g) 2, 60, .inl ord))]) (As := [.ref q0, .int p1]) (rest := []) G [(q0, .inr (lci kd, [.ref q0a, .ref q0d, .ref q0g, .int gc, .ref q0m])), (q0d, .inl ((xT g) 1, ln, .inl day))] (XSub.of [2, 3, 0, 1] rfl (by decide)) (tX11_put_X17 G.noTraces h) q1168 q2050 q1169 q1170 q92 q1171 ⟨by decide, cdX11_put.2.2.2⟩ 13 0 rfl rfl (by decide) (by decide) rfl (Nat.le_of_ble_eq_true rfl) (Nat.le_of_ble_eq_true rfl) (Nat.le_of_ble_eq_true rfl) dX13_put_3 (fun ord_1 h => ?_)
  show X g 6 6 [(0, .ref h0), (1, .ref q0), (2, .int p1)] [] [(q0, .inr (lci kd, [.ref q0a, .ref q0d, .ref q0g, .int gc, .ref q0m])), (q0d, .inl ((xT g) 1, ln, .inl day)), (h0, .inr (13, [.ref h0o])), (h0o, .inl ((xT g) 2, 60, .inl ord_1))] 0 0
  refine x_iconst (v := (1 : Int32)) G dX13_put_6 (by decide) ?_
  refine x_istore_n (lv' := [(3, .int (1 : Int32)), (0, .ref h0), (1, .ref q0), (2, .int p1)]) G rfl dX13_put_7 (by decide) rfl ?_
  obtain ⟨n0, h⟩ := h
  refine kX13_put_X17_L8 G (fun v3_19 ord_20 h => ?_) n0 _ _ h
  · exact x_retv1 G Q dX13_put_85 ord_20 h (XSub.of [2, 3, 0, 1] rfl (by decide)) (Nat.le_of_ble_eq_true rfl) (Nat.le_of_ble_eq_true rfl)
