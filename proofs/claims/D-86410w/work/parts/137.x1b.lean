/-! RoundingAuditor: ledgers. Printed by gen/x1.py -/
theorem cdX1_ledger : yX1_ledger.cls = RX1 ∧ yX1_ledger.cls ≠ "java/lang/invoke/MethodHandle" ∧ yX1_ledger.cls ≠ "java/lang/invoke/VarHandle" ∧ (parseMethodDescriptor yX1_ledger.desc).map (fun d => d.parameters.length) = some 3 := by decide +kernel
def wX1_ledger_B (p0 : Int32) (p1 : Int32) (p2 : Int32) (K : Int32 → Prop) (E : String → Prop) : Prop := ((¬ vp_in p0 12 → E "java/lang/ArrayIndexOutOfBoundsException") ∧ (vp_in p0 12 → ((p2 ≤ (60 : Int32) → False) ∧ (¬ p2 ≤ (60 : Int32) → K (-102 : Int32)))))
set_option maxRecDepth 20000 in
theorem tX1_ledger_B {l : Launch} {D : va_G} {ta : Nat → ClassId} {h0 : Nat} {lg : Nat} {e1 : Nat} {e2 : Nat} {e3 : Nat} {rl : Nat} {cur : Int32} {sh : Nat} {lgf : Nat → Option Nat} {p0 : Int32} {p1 : Int32} {p2 : Int32} {K : Int32 → Prop} {E : String → Prop} (hlt : l.stackTraces = false) (h : wX1_ledger_B p0 p1 p2 K E) : SXi0 l D ta yX1_ledger cX1_ledger 5 FieldType.int 5 [.ref h0, .int p0, .int p1, .int p2] [(h0, .inr (0, [.ref lg, .ref e1, .ref e2, .ref e3, .ref rl, .int cur, .ref sh])), (lg, .inl (ta 6, 12, .inr (.inr (.inr (.inr lgf)))))] ([(h0, .inr (0, [.ref lg, .ref e1, .ref e2, .ref e3, .ref rl, .int cur, .ref sh])), (lg, .inl (ta 6, 12, .inr (.inr (.inr (.inr lgf)))))]) 3 222 K E := by
  refine x_sxi0 hlt (by decide +kernel) (Nat.le_of_ble_eq_true rfl) (fun g G hl hD hT hN Q => ?_)
  subst hl; subst hD; subst hT
  unfold wX1_ledger_B at h
  show X g 5 0 [(0, .ref h0), (1, .int p0), (2, .int p1), (3, .int p2)] [] [(h0, .inr (0, [.ref lg, .ref e1, .ref e2, .ref e3, .ref rl, .int cur, .ref sh])), (lg, .inl ((xT g) 6, 12, .inr (.inr (.inr (.inr lgf)))))] 0 0
  refine x_aload_n G rfl dX1_ledger_0 0 rfl ?_
  refine x_get G in_X1 0 rfl rfl 0 (by decide) q159 (fun _ h => h) rfl dX1_ledger_1 ?_
  refine x_iload_n G rfl dX1_ledger_4 1 rfl ?_
  by_cases hz : vp_in p0 12
  case neg =>
    replace h := h.1 hz
    refine x_aaldZ G 1 rfl rfl (by decide) hz (Nat.le_of_ble_eq_true rfl) (Nat.le_of_ble_eq_true rfl) (Nat.le_of_ble_eq_true rfl) dX1_ledger_5 ?_
    exact x_oi0 G Q h XSub.rf (Nat.le_of_ble_eq_true rfl) (Nat.le_of_ble_eq_true rfl)
  replace h := h.2 hz
  refine x_aald G 1 6 rfl rfl hz dX1_ledger_5 ?_
  refine x_astoreQ (lv' := [(4, va_rf (lgf p0.toNatClampNeg)), (0, .ref h0), (1, .int p0), (2, .int p1), (3, .int p2)]) G dX1_ledger_6 (by decide) rfl ?_
  refine x_lv (lv' := [(0, .ref h0), (1, .int p0), (2, .int p1), (3, .int p2)]) [1, 2, 3, 4] rfl ?_
  refine x_iload_n G rfl dX1_ledger_8 3 rfl ?_
  refine x_bipush (v := (60 : Int32)) G dX1_ledger_9 (by decide) ?_
  refine x_icmp_le (tgt := 17) G dX1_ledger_11 rfl (fun c => ?_) (fun c => ?_)
  · replace h := h.1 c
    exact h.elim
  · replace h := h.2 c
    refine x_bipush (v := (-102 : Int32)) G dX1_ledger_14 (by decide) ?_
    exact x_yi0 G Q dX1_ledger_16 rfl  h XSub.rf (Nat.le_of_ble_eq_true rfl) (Nat.le_of_ble_eq_true rfl)
def wX1_ledger_W (p0 : Int32) (p1 : Int32) (p2 : Int32) (lgf : Nat → Option Nat) (K : Int32 → (Nat → Option Nat) → Nat → Nat → Nat → Nat → Nat → Prop) : Prop := (vp_in p0 12 ∧ ((p2 ≤ (60 : Int32) → (wX1_made_W p1 p2 (fun (r_1 : Option Nat) (hh_2 : Nat) (b1_3 : Nat) (b2_4 : Nat) (b3_5 : Nat) (b4_6 : Nat) => (r_1 = some hh_2 ∧ (vp_in p0 12 ∧ (∀ f_7 : Nat → Option Nat, f_7 = va_up lgf p0.toNatClampNeg (some hh_2) → K p2 f_7 hh_2 b1_3 b2_4 b3_5 b4_6)))))) ∧ (¬ p2 ≤ (60 : Int32) → False)))
set_option maxRecDepth 20000 in
theorem tX1_ledger_W {l : Launch} {D : va_G} {ta : Nat → ClassId} {h0 : Nat} {lg : Nat} {e1 : Nat} {e2 : Nat} {e3 : Nat} {rl : Nat} {cur : Int32} {sh : Nat} {lgf : Nat → Option Nat} {p0 : Int32} {p1 : Int32} {p2 : Int32} {K : Int32 → (Nat → Option Nat) → Nat → Nat → Nat → Nat → Nat → Prop} (hlt : l.stackTraces = false) (h : wX1_ledger_W p0 p1 p2 lgf K) : SMi6 l D ta yX1_ledger cX1_ledger 5 FieldType.int 5 [.ref h0, .int p0, .int p1, .int p2] [(h0, .inr (0, [.ref lg, .ref e1, .ref e2, .ref e3, .ref rl, .int cur, .ref sh])), (lg, .inl (ta 6, 12, .inr (.inr (.inr (.inr lgf)))))] (fun (lgf' : Nat → Option Nat) (nw : Nat) (b1 : Nat) (b2 : Nat) (b3 : Nat) (b4 : Nat) => [(h0, .inr (0, [.ref lg, .ref e1, .ref e2, .ref e3, .ref rl, .int cur, .ref sh])), (lg, .inl (ta 6, 12, .inr (.inr (.inr (.inr lgf'))))), (nw, .inr (4, [.ref b1, .ref b2, .ref b3, .int (0 : Int32), .ref b4])), (b1, .inl (ta 1, p2.toNatClampNeg, .inl (fun _ => 0))), (b2, .inl (ta 1, p2.toNatClampNeg, .inl (fun _ => 0))), (b3, .inl (ta 1, p2.toNatClampNeg, .inl (fun _ => 0))), (b4, .inl (ta 5, p2.toNatClampNeg, .inr (.inr (.inr (.inl (fun _ => FP.dconst0))))))]) 5 245 K := by
  refine x_sti6 hlt (plainFor_of_name (by decide +kernel)) (Nat.le_of_ble_eq_true rfl) (fun g G hl hD hT Q => ?_)
  subst hl; subst hD; subst hT
  unfold wX1_ledger_W at h
  show X g 5 0 [(0, .ref h0), (1, .int p0), (2, .int p1), (3, .int p2)] [] [(h0, .inr (0, [.ref lg, .ref e1, .ref e2, .ref e3, .ref rl, .int cur, .ref sh])), (lg, .inl ((xT g) 6, 12, .inr (.inr (.inr (.inr lgf)))))] 0 0
  refine x_aload_n G rfl dX1_ledger_0 0 rfl ?_
  refine x_get G in_X1 0 rfl rfl 0 (by decide) q159 (fun _ h => h) rfl dX1_ledger_1 ?_
  refine x_iload_n G rfl dX1_ledger_4 1 rfl ?_
  obtain ⟨hz, h⟩ := h
  refine x_aald G 1 6 rfl rfl hz dX1_ledger_5 ?_
  refine x_astoreQ (lv' := [(4, va_rf (lgf p0.toNatClampNeg)), (0, .ref h0), (1, .int p0), (2, .int p1), (3, .int p2)]) G dX1_ledger_6 (by decide) rfl ?_
  refine x_lv (lv' := [(0, .ref h0), (1, .int p0), (2, .int p1), (3, .int p2)]) [1, 2, 3, 4] rfl ?_
  refine x_iload_n G rfl dX1_ledger_8 3 rfl ?_
  refine x_bipush (v := (60 : Int32)) G dX1_ledger_9 (by decide) ?_
  refine x_icmp_le (tgt := 17) G dX1_ledger_11 rfl (fun c => ?_) (fun c => ?_)
  · replace h := h.1 c
    refine x_aload_n G rfl dX1_ledger_17 0 rfl ?_
    refine x_get G in_X1 0 rfl rfl 0 (by decide) q159 (fun _ h => h) rfl dX1_ledger_18 ?_
    refine x_iload_n G rfl dX1_ledger_21 1 rfl ?_
    refine x_iload_n G rfl dX1_ledger_22 2 rfl ?_
    refine x_iload_n G rfl dX1_ledger_23 3 rfl ?_
    refine x_cSq5 (wc := []) (As := [.int p1, .int p2]) (rest := [.int p0, .ref lg]) G [(h0, .inr (0, [.ref lg, .ref e1, .ref e2, .ref e3, .ref rl, .int cur, .ref sh])), (lg, .inl ((xT g) 6, 12, .inr (.inr (.inr (.inr lgf)))))] (XSub.of [0, 1] rfl (by decide)) (tX1_made_W G.noTraces h) (lw_S q501 q502 q65 q503) cdX1_made (by decide) (by decide) rfl (Nat.le_of_ble_eq_true rfl) (Nat.le_of_ble_eq_true rfl) (Nat.le_of_ble_eq_true rfl) dX1_ledger_24 (fun r_1 hh_2 b1_3 b2_4 b3_5 b4_6 h => ?_)
    obtain ⟨hq, h⟩ := h
    subst hq
    show X g 5 27 [(0, .ref h0), (1, .int p0), (2, .int p1), (3, .int p2)] [.ref hh_2, .int p0, .ref lg] [(h0, .inr (0, [.ref lg, .ref e1, .ref e2, .ref e3, .ref rl, .int cur, .ref sh])), (lg, .inl ((xT g) 6, 12, .inr (.inr (.inr (.inr lgf))))), (hh_2, .inr (4, [.ref b1_3, .ref b2_4, .ref b3_5, .int (0 : Int32), .ref b4_6])), (b1_3, .inl ((xT g) 1, p2.toNatClampNeg, .inl (fun _ => 0))), (b2_4, .inl ((xT g) 1, p2.toNatClampNeg, .inl (fun _ => 0))), (b3_5, .inl ((xT g) 1, p2.toNatClampNeg, .inl (fun _ => 0))), (b4_6, .inl ((xT g) 5, p2.toNatClampNeg, .inr (.inr (.inr (.inl (fun _ => FP.dconst0))))))] 5 245
    obtain ⟨hz, h⟩ := h
    obtain ⟨f_7, ef_7⟩ : ∃ z : Nat → Option Nat, z = va_up lgf p0.toNatClampNeg (some hh_2) := ⟨_, rfl⟩
    replace h := h f_7 ef_7
    refine x_aast G 1 6 2 rfl rfl (by decide) rfl rfl hz (by rw [← ef_7]) dX1_ledger_27 ?_
    show X g 5 28 [(0, .ref h0), (1, .int p0), (2, .int p1), (3, .int p2)] [] [(h0, .inr (0, [.ref lg, .ref e1, .ref e2, .ref e3, .ref rl, .int cur, .ref sh])), (lg, .inl ((xT g) 6, 12, .inr (.inr (.inr (.inr f_7))))), (hh_2, .inr (4, [.ref b1_3, .ref b2_4, .ref b3_5, .int (0 : Int32), .ref b4_6])), (b1_3, .inl ((xT g) 1, p2.toNatClampNeg, .inl (fun _ => 0))), (b2_4, .inl ((xT g) 1, p2.toNatClampNeg, .inl (fun _ => 0))), (b3_5, .inl ((xT g) 1, p2.toNatClampNeg, .inl (fun _ => 0))), (b4_6, .inl ((xT g) 5, p2.toNatClampNeg, .inr (.inr (.inr (.inl (fun _ => FP.dconst0))))))] 5 245
    refine x_iload_n G rfl dX1_ledger_28 3 rfl ?_
    exact x_reti6 G Q dX1_ledger_29 rfl f_7 hh_2 b1_3 b2_4 b3_5 b4_6 h XSub.rf (Nat.le_of_ble_eq_true rfl) (Nat.le_of_ble_eq_true rfl)
  · replace h := h.2 c
    exact h.elim
def wX1_ledger_NW (p0 : Int32) (p1 : Int32) (p2 : Int32) (K : Int32 → Prop) (E : String → Prop) : Prop := (vp_in p0 12 ∧ ((p2 ≤ (60 : Int32) → (wX1_made_NW p1 p2 (fun (r_1 : Option Nat) => False) (fun (En : String) => E En))) ∧ (¬ p2 ≤ (60 : Int32) → False)))
set_option maxRecDepth 20000 in
theorem tX1_ledger_NW {l : Launch} {D : va_G} {ta : Nat → ClassId} {h0 : Nat} {lg : Nat} {e1 : Nat} {e2 : Nat} {e3 : Nat} {rl : Nat} {cur : Int32} {sh : Nat} {lgf : Nat → Option Nat} {p0 : Int32} {p1 : Int32} {p2 : Int32} {K : Int32 → Prop} {E : String → Prop} (hlt : l.stackTraces = false) (h : wX1_ledger_NW p0 p1 p2 K E) : SXi0 l D ta yX1_ledger cX1_ledger 5 FieldType.int 5 [.ref h0, .int p0, .int p1, .int p2] [(h0, .inr (0, [.ref lg, .ref e1, .ref e2, .ref e3, .ref rl, .int cur, .ref sh])), (lg, .inl (ta 6, 12, .inr (.inr (.inr (.inr lgf)))))] ([(h0, .inr (0, [.ref lg, .ref e1, .ref e2, .ref e3, .ref rl, .int cur, .ref sh])), (lg, .inl (ta 6, 12, .inr (.inr (.inr (.inr lgf)))))]) 4 59 K E := by
  refine x_sxi0 hlt (by decide +kernel) (Nat.le_of_ble_eq_true rfl) (fun g G hl hD hT hN Q => ?_)
  subst hl; subst hD; subst hT
  unfold wX1_ledger_NW at h
  show X g 5 0 [(0, .ref h0), (1, .int p0), (2, .int p1), (3, .int p2)] [] [(h0, .inr (0, [.ref lg, .ref e1, .ref e2, .ref e3, .ref rl, .int cur, .ref sh])), (lg, .inl ((xT g) 6, 12, .inr (.inr (.inr (.inr lgf)))))] 0 0
  refine x_aload_n G rfl dX1_ledger_0 0 rfl ?_
  refine x_get G in_X1 0 rfl rfl 0 (by decide) q159 (fun _ h => h) rfl dX1_ledger_1 ?_
  refine x_iload_n G rfl dX1_ledger_4 1 rfl ?_
  obtain ⟨hz, h⟩ := h
  refine x_aald G 1 6 rfl rfl hz dX1_ledger_5 ?_
  refine x_astoreQ (lv' := [(4, va_rf (lgf p0.toNatClampNeg)), (0, .ref h0), (1, .int p0), (2, .int p1), (3, .int p2)]) G dX1_ledger_6 (by decide) rfl ?_
  refine x_lv (lv' := [(0, .ref h0), (1, .int p0), (2, .int p1), (3, .int p2)]) [1, 2, 3, 4] rfl ?_
  refine x_iload_n G rfl dX1_ledger_8 3 rfl ?_
  refine x_bipush (v := (60 : Int32)) G dX1_ledger_9 (by decide) ?_
  refine x_icmp_le (tgt := 17) G dX1_ledger_11 rfl (fun c => ?_) (fun c => ?_)
  · replace h := h.1 c
    refine x_aload_n G rfl dX1_ledger_17 0 rfl ?_
    refine x_get G in_X1 0 rfl rfl 0 (by decide) q159 (fun _ h => h) rfl dX1_ledger_18 ?_
    refine x_iload_n G rfl dX1_ledger_21 1 rfl ?_
    refine x_iload_n G rfl dX1_ledger_22 2 rfl ?_
    refine x_iload_n G rfl dX1_ledger_23 3 rfl ?_
    refine x_cXSq0 (wc := []) (As := [.int p1, .int p2]) (rest := [.int p0, .ref lg]) G [(h0, .inr (0, [.ref lg, .ref e1, .ref e2, .ref e3, .ref rl, .int cur, .ref sh])), (lg, .inl ((xT g) 6, 12, .inr (.inr (.inr (.inr lgf)))))] (XSub.of [0, 1] rfl (by decide)) (tX1_made_NW G.noTraces h) (lw_S q501 q502 q65 q503) cdX1_made (by decide) (by decide) rfl (Nat.le_of_ble_eq_true rfl) (Nat.le_of_ble_eq_true rfl) (Nat.le_of_ble_eq_true rfl) dX1_ledger_24 (fun En h => ?_) (fun r_1 h => ?_)
    · exact x_oi0 G Q h XSub.rf (Nat.le_of_ble_eq_true rfl) (Nat.le_of_ble_eq_true rfl)
    exact h.elim
  · replace h := h.2 c
    exact h.elim
def wX1_ledger_N (p0 : Int32) (p1 : Int32) (p2 : Int32) (lgf : Nat → Option Nat) (K : Int32 → (Nat → Option Nat) → Nat → Nat → Nat → Nat → Nat → Prop) : Prop := (vp_in p0 12 ∧ ((p2 ≤ (60 : Int32) → (wX1_made_N p1 p2 (fun (r_1 : Option Nat) (hh_2 : Nat) (b1_3 : Nat) (b2_4 : Nat) (b3_5 : Nat) (b4_6 : Nat) => (r_1 = some hh_2 ∧ (vp_in p0 12 ∧ (∀ f_7 : Nat → Option Nat, f_7 = va_up lgf p0.toNatClampNeg (some hh_2) → K p2 f_7 hh_2 b1_3 b2_4 b3_5 b4_6)))))) ∧ (¬ p2 ≤ (60 : Int32) → False)))
set_option maxRecDepth 20000 in
theorem tX1_ledger_N {l : Launch} {D : va_G} {ta : Nat → ClassId} {h0 : Nat} {lg : Nat} {e1 : Nat} {e2 : Nat} {e3 : Nat} {rl : Nat} {cur : Int32} {sh : Nat} {lgf : Nat → Option Nat} {p0 : Int32} {p1 : Int32} {p2 : Int32} {K : Int32 → (Nat → Option Nat) → Nat → Nat → Nat → Nat → Nat → Prop} (hlt : l.stackTraces = false) (h : wX1_ledger_N p0 p1 p2 lgf K) : SMi6 l D ta yX1_ledger cX1_ledger 5 FieldType.int 5 [.ref h0, .int p0, .int p1, .int p2] [(h0, .inr (0, [.ref lg, .ref e1, .ref e2, .ref e3, .ref rl, .int cur, .ref sh])), (lg, .inl (ta 6, 12, .inr (.inr (.inr (.inr lgf)))))] (fun (lgf' : Nat → Option Nat) (nw : Nat) (b1 : Nat) (b2 : Nat) (b3 : Nat) (b4 : Nat) => [(h0, .inr (0, [.ref lg, .ref e1, .ref e2, .ref e3, .ref rl, .int cur, .ref sh])), (lg, .inl (ta 6, 12, .inr (.inr (.inr (.inr lgf'))))), (nw, .inr (5, [.ref b1, .ref b2, .ref b3, .int (0 : Int32), .ref b4])), (b1, .inl (ta 1, p2.toNatClampNeg, .inl (fun _ => 0))), (b2, .inl (ta 1, p2.toNatClampNeg, .inl (fun _ => 0))), (b3, .inl (ta 1, p2.toNatClampNeg, .inl (fun _ => 0))), (b4, .inl (ta 4, p2.toNatClampNeg, .inr (.inr (.inl (fun _ => FP.fconst0)))))]) 5 245 K := by
  refine x_sti6 hlt (plainFor_of_name (by decide +kernel)) (Nat.le_of_ble_eq_true rfl) (fun g G hl hD hT Q => ?_)
  subst hl; subst hD; subst hT
  unfold wX1_ledger_N at h
  show X g 5 0 [(0, .ref h0), (1, .int p0), (2, .int p1), (3, .int p2)] [] [(h0, .inr (0, [.ref lg, .ref e1, .ref e2, .ref e3, .ref rl, .int cur, .ref sh])), (lg, .inl ((xT g) 6, 12, .inr (.inr (.inr (.inr lgf)))))] 0 0
  refine x_aload_n G rfl dX1_ledger_0 0 rfl ?_
  refine x_get G in_X1 0 rfl rfl 0 (by decide) q159 (fun _ h => h) rfl dX1_ledger_1 ?_
  refine x_iload_n G rfl dX1_ledger_4 1 rfl ?_
  obtain ⟨hz, h⟩ := h
  refine x_aald G 1 6 rfl rfl hz dX1_ledger_5 ?_
  refine x_astoreQ (lv' := [(4, va_rf (lgf p0.toNatClampNeg)), (0, .ref h0), (1, .int p0), (2, .int p1), (3, .int p2)]) G dX1_ledger_6 (by decide) rfl ?_
  refine x_lv (lv' := [(0, .ref h0), (1, .int p0), (2, .int p1), (3, .int p2)]) [1, 2, 3, 4] rfl ?_
  refine x_iload_n G rfl dX1_ledger_8 3 rfl ?_
  refine x_bipush (v := (60 : Int32)) G dX1_ledger_9 (by decide) ?_
  refine x_icmp_le (tgt := 17) G dX1_ledger_11 rfl (fun c => ?_) (fun c => ?_)
  · replace h := h.1 c
    refine x_aload_n G rfl dX1_ledger_17 0 rfl ?_
    refine x_get G in_X1 0 rfl rfl 0 (by decide) q159 (fun _ h => h) rfl dX1_ledger_18 ?_
    refine x_iload_n G rfl dX1_ledger_21 1 rfl ?_
    refine x_iload_n G rfl dX1_ledger_22 2 rfl ?_
    refine x_iload_n G rfl dX1_ledger_23 3 rfl ?_
    refine x_cSq5 (wc := []) (As := [.int p1, .int p2]) (rest := [.int p0, .ref lg]) G [(h0, .inr (0, [.ref lg, .ref e1, .ref e2, .ref e3, .ref rl, .int cur, .ref sh])), (lg, .inl ((xT g) 6, 12, .inr (.inr (.inr (.inr lgf)))))] (XSub.of [0, 1] rfl (by decide)) (tX1_made_N G.noTraces h) (lw_S q501 q502 q65 q503) cdX1_made (by decide) (by decide) rfl (Nat.le_of_ble_eq_true rfl) (Nat.le_of_ble_eq_true rfl) (Nat.le_of_ble_eq_true rfl) dX1_ledger_24 (fun r_1 hh_2 b1_3 b2_4 b3_5 b4_6 h => ?_)
    obtain ⟨hq, h⟩ := h
    subst hq
    show X g 5 27 [(0, .ref h0), (1, .int p0), (2, .int p1), (3, .int p2)] [.ref hh_2, .int p0, .ref lg] [(h0, .inr (0, [.ref lg, .ref e1, .ref e2, .ref e3, .ref rl, .int cur, .ref sh])), (lg, .inl ((xT g) 6, 12, .inr (.inr (.inr (.inr lgf))))), (hh_2, .inr (5, [.ref b1_3, .ref b2_4, .ref b3_5, .int (0 : Int32), .ref b4_6])), (b1_3, .inl ((xT g) 1, p2.toNatClampNeg, .inl (fun _ => 0))), (b2_4, .inl ((xT g) 1, p2.toNatClampNeg, .inl (fun _ => 0))), (b3_5, .inl ((xT g) 1, p2.toNatClampNeg, .inl (fun _ => 0))), (b4_6, .inl ((xT g) 4, p2.toNatClampNeg, .inr (.inr (.inl (fun _ => FP.fconst0)))))] 5 245
    obtain ⟨hz, h⟩ := h
    obtain ⟨f_7, ef_7⟩ : ∃ z : Nat → Option Nat, z = va_up lgf p0.toNatClampNeg (some hh_2) := ⟨_, rfl⟩
    replace h := h f_7 ef_7
    refine x_aast G 1 6 2 rfl rfl (by decide) rfl rfl hz (by rw [← ef_7]) dX1_ledger_27 ?_
    show X g 5 28 [(0, .ref h0), (1, .int p0), (2, .int p1), (3, .int p2)] [] [(h0, .inr (0, [.ref lg, .ref e1, .ref e2, .ref e3, .ref rl, .int cur, .ref sh])), (lg, .inl ((xT g) 6, 12, .inr (.inr (.inr (.inr f_7))))), (hh_2, .inr (5, [.ref b1_3, .ref b2_4, .ref b3_5, .int (0 : Int32), .ref b4_6])), (b1_3, .inl ((xT g) 1, p2.toNatClampNeg, .inl (fun _ => 0))), (b2_4, .inl ((xT g) 1, p2.toNatClampNeg, .inl (fun _ => 0))), (b3_5, .inl ((xT g) 1, p2.toNatClampNeg, .inl (fun _ => 0))), (b4_6, .inl ((xT g) 4, p2.toNatClampNeg, .inr (.inr (.inl (fun _ => FP.fconst0)))))] 5 245
    refine x_iload_n G rfl dX1_ledger_28 3 rfl ?_
    exact x_reti6 G Q dX1_ledger_29 rfl f_7 hh_2 b1_3 b2_4 b3_5 b4_6 h XSub.rf (Nat.le_of_ble_eq_true rfl) (Nat.le_of_ble_eq_true rfl)
  · replace h := h.2 c
    exact h.elim
def wX1_ledger_NN (p0 : Int32) (p1 : Int32) (p2 : Int32) (K : Int32 → Prop) (E : String → Prop) : Prop := (vp_in p0 12 ∧ ((p2 ≤ (60 : Int32) → (wX1_made_NN p1 p2 (fun (r_1 : Option Nat) => False) (fun (En : String) => E En))) ∧ (¬ p2 ≤ (60 : Int32) → False)))
set_option maxRecDepth 20000 in
theorem tX1_ledger_NN {l : Launch} {D : va_G} {ta : Nat → ClassId} {h0 : Nat} {lg : Nat} {e1 : Nat} {e2 : Nat} {e3 : Nat} {rl : Nat} {cur : Int32} {sh : Nat} {lgf : Nat → Option Nat} {p0 : Int32} {p1 : Int32} {p2 : Int32} {K : Int32 → Prop} {E : String → Prop} (hlt : l.stackTraces = false) (h : wX1_ledger_NN p0 p1 p2 K E) : SXi0 l D ta yX1_ledger cX1_ledger 5 FieldType.int 5 [.ref h0, .int p0, .int p1, .int p2] [(h0, .inr (0, [.ref lg, .ref e1, .ref e2, .ref e3, .ref rl, .int cur, .ref sh])), (lg, .inl (ta 6, 12, .inr (.inr (.inr (.inr lgf)))))] ([(h0, .inr (0, [.ref lg, .ref e1, .ref e2, .ref e3, .ref rl, .int cur, .ref sh])), (lg, .inl (ta 6, 12, .inr (.inr (.inr (.inr lgf)))))]) 4 59 K E := by
  refine x_sxi0 hlt (by decide +kernel) (Nat.le_of_ble_eq_true rfl) (fun g G hl hD hT hN Q => ?_)
  subst hl; subst hD; subst hT
  unfold wX1_ledger_NN at h
  show X g 5 0 [(0, .ref h0), (1, .int p0), (2, .int p1), (3, .int p2)] [] [(h0, .inr (0, [.ref lg, .ref e1, .ref e2, .ref e3, .ref rl, .int cur, .ref sh])), (lg, .inl ((xT g) 6, 12, .inr (.inr (.inr (.inr lgf)))))] 0 0
  refine x_aload_n G rfl dX1_ledger_0 0 rfl ?_
  refine x_get G in_X1 0 rfl rfl 0 (by decide) q159 (fun _ h => h) rfl dX1_ledger_1 ?_
  refine x_iload_n G rfl dX1_ledger_4 1 rfl ?_
  obtain ⟨hz, h⟩ := h
  refine x_aald G 1 6 rfl rfl hz dX1_ledger_5 ?_
  refine x_astoreQ (lv' := [(4, va_rf (lgf p0.toNatClampNeg)), (0, .ref h0), (1, .int p0), (2, .int p1), (3, .int p2)]) G dX1_ledger_6 (by decide) rfl ?_
  refine x_lv (lv' := [(0, .ref h0), (1, .int p0), (2, .int p1), (3, .int p2)]) [1, 2, 3, 4] rfl ?_
  refine x_iload_n G rfl dX1_ledger_8 3 rfl ?_
  refine x_bipush (v := (60 : Int32)) G dX1_ledger_9 (by decide) ?_
  refine x_icmp_le (tgt := 17) G dX1_ledger_11 rfl (fun c => ?_) (fun c => ?_)
  · replace h := h.1 c
    refine x_aload_n G rfl dX1_ledger_17 0 rfl ?_
    refine x_get G in_X1 0 rfl rfl 0 (by decide) q159 (fun _ h => h) rfl dX1_ledger_18 ?_
    refine x_iload_n G rfl dX1_ledger_21 1 rfl ?_
    refine x_iload_n G rfl dX1_ledger_22 2 rfl ?_
    refine x_iload_n G rfl dX1_ledger_23 3 rfl ?_
    refine x_cXSq0 (wc := []) (As := [.int p1, .int p2]) (rest := [.int p0, .ref lg]) G [(h0, .inr (0, [.ref lg, .ref e1, .ref e2, .ref e3, .ref rl, .int cur, .ref sh])), (lg, .inl ((xT g) 6, 12, .inr (.inr (.inr (.inr lgf)))))] (XSub.of [0, 1] rfl (by decide)) (tX1_made_NN G.noTraces h) (lw_S q501 q502 q65 q503) cdX1_made (by decide) (by decide) rfl (Nat.le_of_ble_eq_true rfl) (Nat.le_of_ble_eq_true rfl) (Nat.le_of_ble_eq_true rfl) dX1_ledger_24 (fun En h => ?_) (fun r_1 h => ?_)
    · exact x_oi0 G Q h XSub.rf (Nat.le_of_ble_eq_true rfl) (Nat.le_of_ble_eq_true rfl)
    exact h.elim
  · replace h := h.2 c
    exact h.elim
theorem cdX1_set : yX1_set.cls = RX1 ∧ yX1_set.cls ≠ "java/lang/invoke/MethodHandle" ∧ yX1_set.cls ≠ "java/lang/invoke/VarHandle" ∧ (parseMethodDescriptor yX1_set.desc).map (fun d => d.parameters.length) = some 3 := by decide +kernel
def wX1_set_F (p0 : Int32) (p1 : Int32) (p2 : Int64) (lgf : Nat → Option Nat) (K : Int32 → Prop) (E : String → Prop) : Prop := ((¬ vp_in p0 12 → E "java/lang/ArrayIndexOutOfBoundsException") ∧ (vp_in p0 12 → ((lgf p0.toNatClampNeg) = none ∧ E "java/lang/NullPointerException")))
set_option maxRecDepth 20000 in
theorem tX1_set_F {l : Launch} {D : va_G} {ta : Nat → ClassId} {h0 : Nat} {lg : Nat} {e1 : Nat} {e2 : Nat} {e3 : Nat} {rl : Nat} {cur : Int32} {sh : Nat} {lgf : Nat → Option Nat} {p0 : Int32} {p1 : Int32} {p2 : Int64} {K : Int32 → Prop} {E : String → Prop} (hlt : l.stackTraces = false) (h : wX1_set_F p0 p1 p2 lgf K E) : SXi0 l D ta yX1_set cX1_set 5 FieldType.int 1 [.ref h0, .int p0, .int p1, .long p2] [(h0, .inr (0, [.ref lg, .ref e1, .ref e2, .ref e3, .ref rl, .int cur, .ref sh])), (lg, .inl (ta 6, 12, .inr (.inr (.inr (.inr lgf)))))] ([(h0, .inr (0, [.ref lg, .ref e1, .ref e2, .ref e3, .ref rl, .int cur, .ref sh])), (lg, .inl (ta 6, 12, .inr (.inr (.inr (.inr lgf)))))]) 3 222 K E := by
  refine x_sxi0 hlt (by decide +kernel) (Nat.le_of_ble_eq_true rfl) (fun g G hl hD hT hN Q => ?_)
  subst hl; subst hD; subst hT
  unfold wX1_set_F at h
  show X g 5 0 [(0, .ref h0), (1, .int p0), (2, .int p1), (3, .long p2)] [] [(h0, .inr (0, [.ref lg, .ref e1, .ref e2, .ref e3, .ref rl, .int cur, .ref sh])), (lg, .inl ((xT g) 6, 12, .inr (.inr (.inr (.inr lgf)))))] 0 0
  refine x_aload_n G rfl dX1_set_0 0 rfl ?_
  refine x_get G in_X1 0 rfl rfl 0 (by decide) q159 (fun _ h => h) rfl dX1_set_1 ?_
  refine x_iload_n G rfl dX1_set_4 1 rfl ?_
  by_cases hz : vp_in p0 12
  case neg =>
    replace h := h.1 hz
    refine x_aaldZ G 1 rfl rfl (by decide) hz (Nat.le_of_ble_eq_true rfl) (Nat.le_of_ble_eq_true rfl) (Nat.le_of_ble_eq_true rfl) dX1_set_5 ?_
    exact x_oi0 G Q h XSub.rf (Nat.le_of_ble_eq_true rfl) (Nat.le_of_ble_eq_true rfl)
  replace h := h.2 hz
  obtain ⟨hq, h⟩ := h
  refine x_aald G 1 6 rfl rfl hz dX1_set_5 ?_
  rw [hq]
  show X g 5 6 [(0, .ref h0), (1, .int p0), (2, .int p1), (3, .long p2)] [.null] [(h0, .inr (0, [.ref lg, .ref e1, .ref e2, .ref e3, .ref rl, .int cur, .ref sh])), (lg, .inl ((xT g) 6, 12, .inr (.inr (.inr (.inr lgf)))))] 0 0
  refine x_iload_n G rfl dX1_set_6 2 rfl ?_
  refine x_lload_n G rfl dX1_set_7 3 rfl ?_
  refine x_invN (z := ⟨"RoundingAuditor$Ledger", "length", "()I"⟩) (As := [.int p1, .long p2]) (rest := []) G q577 (va_Decl.abs (G.E.2.1.2.2.1 _ (by decide +kernel))) rfl q665 (show ("RoundingAuditor$Ledger" : String) ≠ "java/lang/invoke/MethodHandle" ∧ ("RoundingAuditor$Ledger" : String) ≠ "java/lang/invoke/VarHandle" ∧ (parseMethodDescriptor "(IJ)Z").map (fun d => d.parameters.length) = some 2 from by decide +kernel) rfl (Nat.le_of_ble_eq_true rfl) (Nat.le_of_ble_eq_true rfl) (Nat.le_of_ble_eq_true rfl) dX1_set_8 ?_
  exact x_oi0 G Q h XSub.rf (Nat.le_of_ble_eq_true rfl) (Nat.le_of_ble_eq_true rfl)
def wX1_set (p0 : Int32) (p1 : Int32) (p2 : Int64) (lgf : Nat → Option Nat) (u0 : Nat) (kd : Bool) (ln : Nat) (am : Nat → UInt64) (K : Int32 → (Nat → UInt64) → Prop) (E : String → (Nat → UInt64) → Prop) : Prop := (vp_in p0 12 ∧ ((lgf p0.toNatClampNeg) = some u0 ∧ (wL_put_X kd p1 p2 ln am (fun (r_1 : Int32) (am_2 : Nat → UInt64) => ((r_1 = (0 : Int32) → K (-102 : Int32) am_2) ∧ (¬ r_1 = (0 : Int32) → K (1 : Int32) am_2))) (fun (En : String) (am_2 : Nat → UInt64) => E En am_2))))
set_option maxRecDepth 20000 in
theorem tX1_set {l : Launch} {D : va_G} {ta : Nat → ClassId} {h0 : Nat} {lg : Nat} {e1 : Nat} {e2 : Nat} {e3 : Nat} {rl : Nat} {cur : Int32} {sh : Nat} {lgf : Nat → Option Nat} {u0 : Nat} {kd : Bool} {u0a : Nat} {u0d : Nat} {u0g : Nat} {gc : Int32} {u0m : Nat} {ln : Nat} {am : Nat → UInt64} {p0 : Int32} {p1 : Int32} {p2 : Int64} {K : Int32 → (Nat → UInt64) → Prop} {E : String → (Nat → UInt64) → Prop} (hlt : l.stackTraces = false) (h : wX1_set p0 p1 p2 lgf u0 kd ln am K E) : SXi1 l D ta yX1_set cX1_set 5 FieldType.int 4 [.ref h0, .int p0, .int p1, .long p2] [(h0, .inr (0, [.ref lg, .ref e1, .ref e2, .ref e3, .ref rl, .int cur, .ref sh])), (lg, .inl (ta 6, 12, .inr (.inr (.inr (.inr lgf))))), (u0, .inr (lci kd, [.ref u0a, .ref u0d, .ref u0g, .int gc, .ref u0m])), (u0m, .inl (lamC kd ta ln am))] (fun (am' : Nat → UInt64) => [(h0, .inr (0, [.ref lg, .ref e1, .ref e2, .ref e3, .ref rl, .int cur, .ref sh])), (lg, .inl (ta 6, 12, .inr (.inr (.inr (.inr lgf))))), (u0, .inr (lci kd, [.ref u0a, .ref u0d, .ref u0g, .int gc, .ref u0m])), (u0m, .inl (lamC kd ta ln am'))]) 3 222 K E := by
  refine x_sxi1 hlt (by decide +kernel) (Nat.le_of_ble_eq_true rfl) (fun g G hl hD hT hN Q => ?_)
  subst hl; subst hD; subst hT
  unfold wX1_set at h
  show X g 5 0 [(0, .ref h0), (1, .int p0), (2, .int p1), (3, .long p2)] [] [(h0, .inr (0, [.ref lg, .ref e1, .ref e2, .ref e3, .ref rl, .int cur, .ref sh])), (lg, .inl ((xT g) 6, 12, .inr (.inr (.inr (.inr lgf))))), (u0, .inr (lci kd, [.ref u0a, .ref u0d, .ref u0g, .int gc, .ref u0m])), (u0m, .inl (lamC kd (xT g) ln am))] 0 0
  refine x_aload_n G rfl dX1_set_0 0 rfl ?_
  refine x_get G in_X1 0 rfl rfl 0 (by decide) q159 (fun _ h => h) rfl dX1_set_1 ?_
  refine x_iload_n G rfl dX1_set_4 1 rfl ?_
  obtain ⟨hz, hq, h⟩ := h
  refine x_aald G 1 6 rfl rfl hz dX1_set_5 ?_
  rw [hq]
  show X g 5 6 [(0, .ref h0), (1, .int p0), (2, .int p1), (3, .long p2)] [.ref u0] [(h0, .inr (0, [.ref lg, .ref e1, .ref e2, .ref e3, .ref rl, .int cur, .ref sh])), (lg, .inl ((xT g) 6, 12, .inr (.inr (.inr (.inr lgf))))), (u0, .inr (lci kd, [.ref u0a, .ref u0d, .ref u0g, .int gc, .ref u0m])), (u0m, .inl (lamC kd (xT g) ln am))] 0 0
  refine x_iload_n G rfl dX1_set_6 2 rfl ?_
  refine x_lload_n G rfl dX1_set_7 3 rfl ?_
  refine x_cXUi1 (C := lnm kd) (owner := "RoundingAuditor$Ledger") (x := ⟨"RoundingAuditor$Ledger", "put", "(IJ)Z"⟩) (wc := [(u0, .inr (lci kd, [.ref u0a, .ref u0d, .ref u0g, .int gc, .ref u0m])), (u0m, .inl (lamC kd (xT g) ln am))]) (As := [.int p1, .long p2]) (rest := []) G [(h0, .inr (0, [.ref lg, .ref e1, .ref e2, .ref e3, .ref rl, .int cur, .ref sh])), (lg, .inl ((xT g) 6, 12, .inr (.inr (.inr (.inr lgf)))))] (XSub.of [0, 1, 2, 3] rfl (by decide)) (tL_put_X kd G.noTraces h) q577 q579 (va_Decl.abs (G.E.2.1.2.2.1 _ (by decide +kernel))) (sL_put kd) (hL_put kd).1 (hL_put kd).2.1 (hL_put kd).2.2.1 cdL_put (lci kd) 2 (lci_at kd) rfl rfl (by decide) (hL_put _).2.2.2 rfl (Nat.le_of_ble_eq_true rfl) (Nat.le_of_ble_eq_true rfl) (Nat.le_of_ble_eq_true rfl) dX1_set_8 (fun En am_2 h => ?_) (fun r_1 am_2 h => ?_)
  · exact x_oi1 G Q am_2 h XSub.rf (Nat.le_of_ble_eq_true rfl) (Nat.le_of_ble_eq_true rfl)
  show X g 5 11 [(0, .ref h0), (1, .int p0), (2, .int p1), (3, .long p2)] [.int r_1] [(h0, .inr (0, [.ref lg, .ref e1, .ref e2, .ref e3, .ref rl, .int cur, .ref sh])), (lg, .inl ((xT g) 6, 12, .inr (.inr (.inr (.inr lgf))))), (u0, .inr (lci kd, [.ref u0a, .ref u0d, .ref u0g, .int gc, .ref u0m])), (u0m, .inl (lamC kd (xT g) ln am_2))] 3 222
  refine x_if_eq (tgt := 18) G dX1_set_11 rfl (fun c => ?_) (fun c => ?_)
  · replace h := h.1 c
    refine x_bipush (v := (-102 : Int32)) G dX1_set_18 (by decide) ?_
    exact x_yi1 G Q dX1_set_20 rfl am_2 h XSub.rf (Nat.le_of_ble_eq_true rfl) (Nat.le_of_ble_eq_true rfl)
  · replace h := h.2 c
    refine x_iconst (v := (1 : Int32)) G dX1_set_14 (by decide) ?_
    refine x_goto (tgt := 20) G dX1_set_15 rfl ?_
    exact x_yi1 G Q dX1_set_20 rfl am_2 h XSub.rf (Nat.le_of_ble_eq_true rfl) (Nat.le_of_ble_eq_true rfl)
theorem cdX1_book : yX1_book.cls = RX1 ∧ yX1_book.cls ≠ "java/lang/invoke/MethodHandle" ∧ yX1_book.cls ≠ "java/lang/invoke/VarHandle" ∧ (parseMethodDescriptor yX1_book.desc).map (fun d => d.parameters.length) = some 4 := by decide +kernel
def wX1_book_F (p0 : Int32) (p1 : Int32) (p2 : Int32) (p3 : Int32) (lgf : Nat → Option Nat) (K : Int32 → Prop) (E : String → Prop) : Prop := (wX1_isIn p2.toInt64 (0 : Int64) (9 : Int64) (fun (r_1 : Int32) => ((r_1 = (0 : Int32) → K (-102 : Int32)) ∧ (¬ r_1 = (0 : Int32) → (wX1_isIn p3.toInt64 (0 : Int64) (30 : Int64) (fun (r_2 : Int32) => ((¬ r_2 = (0 : Int32) → ((¬ vp_in p0 12 → E "java/lang/ArrayIndexOutOfBoundsException") ∧ (vp_in p0 12 → ((lgf p0.toNatClampNeg) = none ∧ E "java/lang/NullPointerException")))) ∧ (r_2 = (0 : Int32) → K (-102 : Int32)))))))))
set_option maxRecDepth 20000 in
theorem tX1_book_F {l : Launch} {D : va_G} {ta : Nat → ClassId} {h0 : Nat} {lg : Nat} {e1 : Nat} {e2 : Nat} {e3 : Nat} {rl : Nat} {cur : Int32} {sh : Nat} {lgf : Nat → Option Nat} {p0 : Int32} {p1 : Int32} {p2 : Int32} {p3 : Int32} {K : Int32 → Prop} {E : String → Prop} (hlt : l.stackTraces = false) (h : wX1_book_F p0 p1 p2 p3 lgf K E) : SXi0 l D ta yX1_book cX1_book 5 FieldType.int 2 [.ref h0, .int p0, .int p1, .int p2, .int p3] [(h0, .inr (0, [.ref lg, .ref e1, .ref e2, .ref e3, .ref rl, .int cur, .ref sh])), (lg, .inl (ta 6, 12, .inr (.inr (.inr (.inr lgf)))))] ([(h0, .inr (0, [.ref lg, .ref e1, .ref e2, .ref e3, .ref rl, .int cur, .ref sh])), (lg, .inl (ta 6, 12, .inr (.inr (.inr (.inr lgf)))))]) 3 222 K E := by
  refine x_sxi0 hlt (by decide +kernel) (Nat.le_of_ble_eq_true rfl) (fun g G hl hD hT hN Q => ?_)
  subst hl; subst hD; subst hT
  unfold wX1_book_F at h
  show X g 5 0 [(0, .ref h0), (1, .int p0), (2, .int p1), (3, .int p2), (4, .int p3)] [] [(h0, .inr (0, [.ref lg, .ref e1, .ref e2, .ref e3, .ref rl, .int cur, .ref sh])), (lg, .inl ((xT g) 6, 12, .inr (.inr (.inr (.inr lgf)))))] 0 0
  refine x_iload_n G rfl dX1_book_0 3 rfl ?_
  refine x_i2l G dX1_book_1 ?_
  refine x_lconst (v := (0 : Int64)) G dX1_book_2 (by decide) ?_
  refine x_ldc2 G q388 dX1_book_3 ?_
  refine x_cPi (As := [.long p2.toInt64, .long (0 : Int64), .long (9 : Int64)]) (rest := []) G (tX1_isIn G.noTraces h) (lw_S q199 q200 q65 q201) cdX1_isIn (by decide) (by decide) rfl (Nat.le_of_ble_eq_true rfl) (Nat.le_of_ble_eq_true rfl) (Nat.le_of_ble_eq_true rfl) dX1_book_6 (fun r_1 h => ?_)
  refine x_if_eq (tgt := 25) G dX1_book_9 rfl (fun c => ?_) (fun c => ?_)
  · replace h := h.1 c
    refine x_bipush (v := (-102 : Int32)) G dX1_book_25 (by decide) ?_
    exact x_yi0 G Q dX1_book_27 rfl  h XSub.rf (Nat.le_of_ble_eq_true rfl) (Nat.le_of_ble_eq_true rfl)
  · replace h := h.2 c
    refine x_iload G dX1_book_12 4 rfl ?_
    refine x_i2l G dX1_book_14 ?_
    refine x_lconst (v := (0 : Int64)) G dX1_book_15 (by decide) ?_
    refine x_ldc2 G q603 dX1_book_16 ?_
    refine x_cPi (As := [.long p3.toInt64, .long (0 : Int64), .long (30 : Int64)]) (rest := []) G (tX1_isIn G.noTraces h) (lw_S q199 q200 q65 q201) cdX1_isIn (by decide) (by decide) rfl (Nat.le_of_ble_eq_true rfl) (Nat.le_of_ble_eq_true rfl) (Nat.le_of_ble_eq_true rfl) dX1_book_19 (fun r_2 h => ?_)
    refine x_if_ne (tgt := 28) G dX1_book_22 rfl (fun c => ?_) (fun c => ?_)
    · replace h := h.1 c
      refine x_aload_n G rfl dX1_book_28 0 rfl ?_
      refine x_get G in_X1 0 rfl rfl 0 (by decide) q159 (fun _ h => h) rfl dX1_book_29 ?_
      refine x_iload_n G rfl dX1_book_32 1 rfl ?_
      by_cases hz : vp_in p0 12
      case neg =>
        replace h := h.1 hz
        refine x_aaldZ G 1 rfl rfl (by decide) hz (Nat.le_of_ble_eq_true rfl) (Nat.le_of_ble_eq_true rfl) (Nat.le_of_ble_eq_true rfl) dX1_book_33 ?_
        exact x_oi0 G Q h XSub.rf (Nat.le_of_ble_eq_true rfl) (Nat.le_of_ble_eq_true rfl)
      replace h := h.2 hz
      obtain ⟨hq, h⟩ := h
      refine x_aald G 1 6 rfl rfl hz dX1_book_33 ?_
      rw [hq]
      show X g 5 34 [(0, .ref h0), (1, .int p0), (2, .int p1), (3, .int p2), (4, .int p3)] [.null] [(h0, .inr (0, [.ref lg, .ref e1, .ref e2, .ref e3, .ref rl, .int cur, .ref sh])), (lg, .inl ((xT g) 6, 12, .inr (.inr (.inr (.inr lgf)))))] 0 0
      refine x_iload_n G rfl dX1_book_34 2 rfl ?_
      refine x_iload_n G rfl dX1_book_35 3 rfl ?_
      refine x_iload G dX1_book_36 4 rfl ?_
      refine x_invN (z := ⟨"RoundingAuditor$Ledger", "length", "()I"⟩) (As := [.int p1, .int p2, .int p3]) (rest := []) G q604 (va_Decl.of (G.hts _ q605) (G.hts _ q609)) rfl q665 (show ("RoundingAuditor$Ledger" : String) ≠ "java/lang/invoke/MethodHandle" ∧ ("RoundingAuditor$Ledger" : String) ≠ "java/lang/invoke/VarHandle" ∧ (parseMethodDescriptor "(III)V").map (fun d => d.parameters.length) = some 3 from by decide +kernel) rfl (Nat.le_of_ble_eq_true rfl) (Nat.le_of_ble_eq_true rfl) (Nat.le_of_ble_eq_true rfl) dX1_book_38 ?_
      exact x_oi0 G Q h XSub.rf (Nat.le_of_ble_eq_true rfl) (Nat.le_of_ble_eq_true rfl)
    · replace h := h.2 c
      refine x_bipush (v := (-102 : Int32)) G dX1_book_25 (by decide) ?_
      exact x_yi0 G Q dX1_book_27 rfl  h XSub.rf (Nat.le_of_ble_eq_true rfl) (Nat.le_of_ble_eq_true rfl)
def wX1_book (p0 : Int32) (p1 : Int32) (p2 : Int32) (p3 : Int32) (lgf : Nat → Option Nat) (u0 : Nat) (ln : Nat) (acc : Nat → Int32) (day : Nat → Int32) (K : Int32 → (Nat → Int32) → (Nat → Int32) → Prop) (E : String → (Nat → Int32) → (Nat → Int32) → Prop) : Prop := (wX1_isIn p2.toInt64 (0 : Int64) (9 : Int64) (fun (r_1 : Int32) => ((r_1 = (0 : Int32) → K (-102 : Int32) acc day) ∧ (¬ r_1 = (0 : Int32) → (wX1_isIn p3.toInt64 (0 : Int64) (30 : Int64) (fun (r_2 : Int32) => ((¬ r_2 = (0 : Int32) → (vp_in p0 12 ∧ ((lgf p0.toNatClampNeg) = some u0 ∧ (wX4_book_X p1 p2 p3 ln acc day (fun (acc_3 : Nat → Int32) (day_4 : Nat → Int32) => K (1 : Int32) acc_3 day_4) (fun (En : String) (acc_3 : Nat → Int32) (day_4 : Nat → Int32) => E En acc_3 day_4))))) ∧ (r_2 = (0 : Int32) → K (-102 : Int32) acc day))))))))
set_option maxRecDepth 20000 in
theorem tX1_book {l : Launch} {D : va_G} {ta : Nat → ClassId} {h0 : Nat} {lg : Nat} {e1 : Nat} {e2 : Nat} {e3 : Nat} {rl : Nat} {cur : Int32} {sh : Nat} {lgf : Nat → Option Nat} {u0 : Nat} {kd : Bool} {u0a : Nat} {u0d : Nat} {u0g : Nat} {gc : Int32} {u0m : Nat} {ln : Nat} {acc : Nat → Int32} {day : Nat → Int32} {p0 : Int32} {p1 : Int32} {p2 : Int32} {p3 : Int32} {K : Int32 → (Nat → Int32) → (Nat → Int32) → Prop} {E : String → (Nat → Int32) → (Nat → Int32) → Prop} (hlt : l.stackTraces = false) (h : wX1_book p0 p1 p2 p3 lgf u0 ln acc day K E) : SXi2 l D ta yX1_book cX1_book 5 FieldType.int 2 [.ref h0, .int p0, .int p1, .int p2, .int p3] [(h0, .inr (0, [.ref lg, .ref e1, .ref e2, .ref e3, .ref rl, .int cur, .ref sh])), (lg, .inl (ta 6, 12, .inr (.inr (.inr (.inr lgf))))), (u0, .inr (lci kd, [.ref u0a, .ref u0d, .ref u0g, .int gc, .ref u0m])), (u0a, .inl (ta 1, ln, .inl acc)), (u0d, .inl (ta 1, ln, .inl day))] (fun (acc' : Nat → Int32) (day' : Nat → Int32) => [(h0, .inr (0, [.ref lg, .ref e1, .ref e2, .ref e3, .ref rl, .int cur, .ref sh])), (lg, .inl (ta 6, 12, .inr (.inr (.inr (.inr lgf))))), (u0, .inr (lci kd, [.ref u0a, .ref u0d, .ref u0g, .int gc, .ref u0m])), (u0a, .inl (ta 1, ln, .inl acc')), (u0d, .inl (ta 1, ln, .inl day'))]) 3 222 K E := by
  refine x_sxi2 hlt (by decide +kernel) (Nat.le_of_ble_eq_true rfl) (fun g G hl hD hT hN Q => ?_)
  subst hl; subst hD; subst hT
  unfold wX1_book at h
  show X g 5 0 [(0, .ref h0), (1, .int p0), (2, .int p1), (3, .int p2), (4, .int p3)] [] [(h0, .inr (0, [.ref lg, .ref e1, .ref e2, .ref e3, .ref rl, .int cur, .ref sh])), (lg, .inl ((xT g) 6, 12, .inr (.inr (.inr (.inr lgf))))), (u0, .inr (lci kd, [.ref u0a, .ref u0d, .ref u0g, .int gc, .ref u0m])), (u0a, .inl ((xT g) 1, ln, .inl acc)), (u0d, .inl ((xT g) 1, ln, .inl day))] 0 0
  refine x_iload_n G rfl dX1_book_0 3 rfl ?_
  refine x_i2l G dX1_book_1 ?_
  refine x_lconst (v := (0 : Int64)) G dX1_book_2 (by decide) ?_
  refine x_ldc2 G q388 dX1_book_3 ?_
  refine x_cPi (As := [.long p2.toInt64, .long (0 : Int64), .long (9 : Int64)]) (rest := []) G (tX1_isIn G.noTraces h) (lw_S q199 q200 q65 q201) cdX1_isIn (by decide) (by decide) rfl (Nat.le_of_ble_eq_true rfl) (Nat.le_of_ble_eq_true rfl) (Nat.le_of_ble_eq_true rfl) dX1_book_6 (fun r_1 h => ?_)
  refine x_if_eq (tgt := 25) G dX1_book_9 rfl (fun c => ?_) (fun c => ?_)
  · replace h := h.1 c
    refine x_bipush (v := (-102 : Int32)) G dX1_book_25 (by decide) ?_
    exact x_yi2 G Q dX1_book_27 rfl acc day h XSub.rf (Nat.le_of_ble_eq_true rfl) (Nat.le_of_ble_eq_true rfl)
  · replace h := h.2 c
    refine x_iload G dX1_book_12 4 rfl ?_
    refine x_i2l G dX1_book_14 ?_
    refine x_lconst (v := (0 : Int64)) G dX1_book_15 (by decide) ?_
    refine x_ldc2 G q603 dX1_book_16 ?_
    refine x_cPi (As := [.long p3.toInt64, .long (0 : Int64), .long (30 : Int64)]) (rest := []) G (tX1_isIn G.noTraces h) (lw_S q199 q200 q65 q201) cdX1_isIn (by decide) (by decide) rfl (Nat.le_of_ble_eq_true rfl) (Nat.le_of_ble_eq_true rfl) (Nat.le_of_ble_eq_true rfl) dX1_book_19 (fun r_2 h => ?_)
    refine x_if_ne (tgt := 28) G dX1_book_22 rfl (fun c => ?_) (fun c => ?_)
    · replace h := h.1 c
      refine x_aload_n G rfl dX1_book_28 0 rfl ?_
      refine x_get G in_X1 0 rfl rfl 0 (by decide) q159 (fun _ h => h) rfl dX1_book_29 ?_
      refine x_iload_n G rfl dX1_book_32 1 rfl ?_
      obtain ⟨hz, hq, h⟩ := h
      refine x_aald G 1 6 rfl rfl hz dX1_book_33 ?_
      rw [hq]
      show X g 5 34 [(0, .ref h0), (1, .int p0), (2, .int p1), (3, .int p2), (4, .int p3)] [.ref u0] [(h0, .inr (0, [.ref lg, .ref e1, .ref e2, .ref e3, .ref rl, .int cur, .ref sh])), (lg, .inl ((xT g) 6, 12, .inr (.inr (.inr (.inr lgf))))), (u0, .inr (lci kd, [.ref u0a, .ref u0d, .ref u0g, .int gc, .ref u0m])), (u0a, .inl ((xT g) 1, ln, .inl acc)), (u0d, .inl ((xT g) 1, ln, .inl day))] 0 0
      refine x_iload_n G rfl dX1_book_34 2 rfl ?_
      refine x_iload_n G rfl dX1_book_35 3 rfl ?_
      refine x_iload G dX1_book_36 4 rfl ?_
      refine x_cXUv2 (C := lnm kd) (owner := "RoundingAuditor$Ledger") (x := ⟨"RoundingAuditor$Ledger", "book", "(III)V"⟩) (wc := [(u0, .inr (lci kd, [.ref u0a, .ref u0d, .ref u0g, .int gc, .ref u0m])), (u0a, .inl ((xT g) 1, ln, .inl acc)), (u0d, .inl ((xT g) 1, ln, .inl day))]) (As := [.int p1, .int p2, .int p3]) (rest := []) G [(h0, .inr (0, [.ref lg, .ref e1, .ref e2, .ref e3, .ref rl, .int cur, .ref sh])), (lg, .inl ((xT g) 6, 12, .inr (.inr (.inr (.inr lgf)))))] (XSub.of [0, 1, 2, 3, 4] rfl (by decide)) (tX4_book_X G.noTraces h) q604 q606 (va_Decl.of (G.hts _ q605) (G.hts _ q609)) (sL_book kd) q605 q78 q609 cdL_book (lci kd) 2 (lci_at kd) rfl rfl (by decide) (by decide) rfl (Nat.le_of_ble_eq_true rfl) (Nat.le_of_ble_eq_true rfl) (Nat.le_of_ble_eq_true rfl) dX1_book_38 (fun En acc_3 day_4 h => ?_) (fun acc_3 day_4 h => ?_)
      · exact x_oi2 G Q acc_3 day_4 h XSub.rf (Nat.le_of_ble_eq_true rfl) (Nat.le_of_ble_eq_true rfl)
      show X g 5 41 [(0, .ref h0), (1, .int p0), (2, .int p1), (3, .int p2), (4, .int p3)] [] [(h0, .inr (0, [.ref lg, .ref e1, .ref e2, .ref e3, .ref rl, .int cur, .ref sh])), (lg, .inl ((xT g) 6, 12, .inr (.inr (.inr (.inr lgf))))), (u0, .inr (lci kd, [.ref u0a, .ref u0d, .ref u0g, .int gc, .ref u0m])), (u0a, .inl ((xT g) 1, ln, .inl acc_3)), (u0d, .inl ((xT g) 1, ln, .inl day_4))] 3 222
      refine x_iconst (v := (1 : Int32)) G dX1_book_41 (by decide) ?_
      exact x_yi2 G Q dX1_book_42 rfl acc_3 day_4 h XSub.rf (Nat.le_of_ble_eq_true rfl) (Nat.le_of_ble_eq_true rfl)
    · replace h := h.2 c
      refine x_bipush (v := (-102 : Int32)) G dX1_book_25 (by decide) ?_
      exact x_yi2 G Q dX1_book_27 rfl acc day h XSub.rf (Nat.le_of_ble_eq_true rfl) (Nat.le_of_ble_eq_true rfl)
theorem cdX1_amount : yX1_amount.cls = RX1 ∧ yX1_amount.cls ≠ "java/lang/invoke/MethodHandle" ∧ yX1_amount.cls ≠ "java/lang/invoke/VarHandle" ∧ (parseMethodDescriptor yX1_amount.desc).map (fun d => d.parameters.length) = some 2 := by decide +kernel
def wX1_amount_F (p0 : Int32) (p1 : Int32) (lgf : Nat → Option Nat) (K : Int64 → Prop) (E : String → Prop) : Prop := ((¬ vp_in p0 12 → E "java/lang/ArrayIndexOutOfBoundsException") ∧ (vp_in p0 12 → ((lgf p0.toNatClampNeg) = none ∧ E "java/lang/NullPointerException")))
set_option maxRecDepth 20000 in
theorem tX1_amount_F {l : Launch} {D : va_G} {ta : Nat → ClassId} {h0 : Nat} {lg : Nat} {e1 : Nat} {e2 : Nat} {e3 : Nat} {rl : Nat} {cur : Int32} {sh : Nat} {lgf : Nat → Option Nat} {p0 : Int32} {p1 : Int32} {K : Int64 → Prop} {E : String → Prop} (hlt : l.stackTraces = false) (h : wX1_amount_F p0 p1 lgf K E) : SXl0 l D ta yX1_amount cX1_amount 4 FieldType.long 1 [.ref h0, .int p0, .int p1] [(h0, .inr (0, [.ref lg, .ref e1, .ref e2, .ref e3, .ref rl, .int cur, .ref sh])), (lg, .inl (ta 6, 12, .inr (.inr (.inr (.inr lgf)))))] ([(h0, .inr (0, [.ref lg, .ref e1, .ref e2, .ref e3, .ref rl, .int cur, .ref sh])), (lg, .inl (ta 6, 12, .inr (.inr (.inr (.inr lgf)))))]) 3 222 K E := by
  refine x_sxl0 hlt (by decide +kernel) (Nat.le_of_ble_eq_true rfl) (fun g G hl hD hT hN Q => ?_)
  subst hl; subst hD; subst hT
  unfold wX1_amount_F at h
  show X g 4 0 [(0, .ref h0), (1, .int p0), (2, .int p1)] [] [(h0, .inr (0, [.ref lg, .ref e1, .ref e2, .ref e3, .ref rl, .int cur, .ref sh])), (lg, .inl ((xT g) 6, 12, .inr (.inr (.inr (.inr lgf)))))] 0 0
  refine x_aload_n G rfl dX1_amount_0 0 rfl ?_
  refine x_get G in_X1 0 rfl rfl 0 (by decide) q159 (fun _ h => h) rfl dX1_amount_1 ?_
  refine x_iload_n G rfl dX1_amount_4 1 rfl ?_
  by_cases hz : vp_in p0 12
  case neg =>
    replace h := h.1 hz
    refine x_aaldZ G 1 rfl rfl (by decide) hz (Nat.le_of_ble_eq_true rfl) (Nat.le_of_ble_eq_true rfl) (Nat.le_of_ble_eq_true rfl) dX1_amount_5 ?_
    exact x_ol0 G Q h XSub.rf (Nat.le_of_ble_eq_true rfl) (Nat.le_of_ble_eq_true rfl)
  replace h := h.2 hz
  obtain ⟨hq, h⟩ := h
  refine x_aald G 1 6 rfl rfl hz dX1_amount_5 ?_
  rw [hq]
  show X g 4 6 [(0, .ref h0), (1, .int p0), (2, .int p1)] [.null] [(h0, .inr (0, [.ref lg, .ref e1, .ref e2, .ref e3, .ref rl, .int cur, .ref sh])), (lg, .inl ((xT g) 6, 12, .inr (.inr (.inr (.inr lgf)))))] 0 0
  refine x_astore_nN (lv' := [(3, .null), (0, .ref h0), (1, .int p0), (2, .int p1)]) G rfl dX1_amount_6 (by decide) rfl ?_
  refine x_aload_nN G rfl dX1_amount_7 0 rfl ?_
  refine x_aload_nN G rfl dX1_amount_8 0 rfl ?_
  refine x_iload_n G rfl dX1_amount_9 3 rfl ?_
  refine x_invN (z := ⟨"RoundingAuditor$Ledger", "length", "()I"⟩) (As := [.int p1]) (rest := [.null]) G q617 (va_Decl.abs (G.E.2.1.2.2.1 _ (by decide +kernel))) rfl q665 (show ("RoundingAuditor$Ledger" : String) ≠ "java/lang/invoke/MethodHandle" ∧ ("RoundingAuditor$Ledger" : String) ≠ "java/lang/invoke/VarHandle" ∧ (parseMethodDescriptor "(I)D").map (fun d => d.parameters.length) = some 1 from by decide +kernel) rfl (Nat.le_of_ble_eq_true rfl) (Nat.le_of_ble_eq_true rfl) (Nat.le_of_ble_eq_true rfl) dX1_amount_10 ?_
  exact x_ol0 G Q h XSub.rf (Nat.le_of_ble_eq_true rfl) (Nat.le_of_ble_eq_true rfl)
def wX1_amount (p0 : Int32) (p1 : Int32) (lgf : Nat → Option Nat) (u0 : Nat) (kd : Bool) (ln : Nat) (am : Nat → UInt64) (K : Int64 → Prop) (E : String → Prop) : Prop := (vp_in p0 12 ∧ ((lgf p0.toNatClampNeg) = some u0 ∧ (wL_at_X kd p1 ln am (fun (r_1 : UInt64) => (wL_bits kd r_1 (fun (r_2 : Int64) => K r_2))) (fun (En : String) => E En))))
set_option maxRecDepth 20000 in
theorem tX1_amount {l : Launch} {D : va_G} {ta : Nat → ClassId} {h0 : Nat} {lg : Nat} {e1 : Nat} {e2 : Nat} {e3 : Nat} {rl : Nat} {cur : Int32} {sh : Nat} {lgf : Nat → Option Nat} {u0 : Nat} {kd : Bool} {u0a : Nat} {u0d : Nat} {u0g : Nat} {gc : Int32} {u0m : Nat} {ln : Nat} {am : Nat → UInt64} {p0 : Int32} {p1 : Int32} {K : Int64 → Prop} {E : String → Prop} (hlt : l.stackTraces = false) (h : wX1_amount p0 p1 lgf u0 kd ln am K E) : SXl0 l D ta yX1_amount cX1_amount 4 FieldType.long 4 [.ref h0, .int p0, .int p1] [(h0, .inr (0, [.ref lg, .ref e1, .ref e2, .ref e3, .ref rl, .int cur, .ref sh])), (lg, .inl (ta 6, 12, .inr (.inr (.inr (.inr lgf))))), (u0, .inr (lci kd, [.ref u0a, .ref u0d, .ref u0g, .int gc, .ref u0m])), (u0m, .inl (lamC kd ta ln am))] ([(h0, .inr (0, [.ref lg, .ref e1, .ref e2, .ref e3, .ref rl, .int cur, .ref sh])), (lg, .inl (ta 6, 12, .inr (.inr (.inr (.inr lgf))))), (u0, .inr (lci kd, [.ref u0a, .ref u0d, .ref u0g, .int gc, .ref u0m])), (u0m, .inl (lamC kd ta ln am))]) 3 222 K E := by
  refine x_sxl0 hlt (by decide +kernel) (Nat.le_of_ble_eq_true rfl) (fun g G hl hD hT hN Q => ?_)
  subst hl; subst hD; subst hT
  unfold wX1_amount at h
  show X g 4 0 [(0, .ref h0), (1, .int p0), (2, .int p1)] [] [(h0, .inr (0, [.ref lg, .ref e1, .ref e2, .ref e3, .ref rl, .int cur, .ref sh])), (lg, .inl ((xT g) 6, 12, .inr (.inr (.inr (.inr lgf))))), (u0, .inr (lci kd, [.ref u0a, .ref u0d, .ref u0g, .int gc, .ref u0m])), (u0m, .inl (lamC kd (xT g) ln am))] 0 0
  refine x_aload_n G rfl dX1_amount_0 0 rfl ?_
  refine x_get G in_X1 0 rfl rfl 0 (by decide) q159 (fun _ h => h) rfl dX1_amount_1 ?_
  refine x_iload_n G rfl dX1_amount_4 1 rfl ?_
  obtain ⟨hz, hq, h⟩ := h
  refine x_aald G 1 6 rfl rfl hz dX1_amount_5 ?_
  rw [hq]
  show X g 4 6 [(0, .ref h0), (1, .int p0), (2, .int p1)] [.ref u0] [(h0, .inr (0, [.ref lg, .ref e1, .ref e2, .ref e3, .ref rl, .int cur, .ref sh])), (lg, .inl ((xT g) 6, 12, .inr (.inr (.inr (.inr lgf))))), (u0, .inr (lci kd, [.ref u0a, .ref u0d, .ref u0g, .int gc, .ref u0m])), (u0m, .inl (lamC kd (xT g) ln am))] 0 0
  refine x_astore_n (lv' := [(3, .ref u0), (0, .ref h0), (1, .int p0), (2, .int p1)]) G rfl dX1_amount_6 (by decide) rfl ?_
  refine x_aload_n G rfl dX1_amount_7 0 rfl ?_
  refine x_aload_n G rfl dX1_amount_8 0 rfl ?_
  refine x_iload_n G rfl dX1_amount_9 3 rfl ?_
  refine x_cXUd0 (C := lnm kd) (owner := "RoundingAuditor$Ledger") (x := ⟨"RoundingAuditor$Ledger", "at", "(I)D"⟩) (wc := [(u0, .inr (lci kd, [.ref u0a, .ref u0d, .ref u0g, .int gc, .ref u0m])), (u0m, .inl (lamC kd (xT g) ln am))]) (As := [.int p1]) (rest := [.ref u0]) G [(h0, .inr (0, [.ref lg, .ref e1, .ref e2, .ref e3, .ref rl, .int cur, .ref sh])), (lg, .inl ((xT g) 6, 12, .inr (.inr (.inr (.inr lgf)))))] (XSub.of [0, 1, 2, 3] rfl (by decide)) (tL_at_X kd G.noTraces h) q617 q619 (va_Decl.abs (G.E.2.1.2.2.1 _ (by decide +kernel))) (sL_at kd) (hL_at kd).1 (hL_at kd).2.1 (hL_at kd).2.2.1 cdL_at (lci kd) 2 (lci_at kd) rfl rfl (by decide) (hL_at _).2.2.2 rfl (Nat.le_of_ble_eq_true rfl) (Nat.le_of_ble_eq_true rfl) (Nat.le_of_ble_eq_true rfl) dX1_amount_10 (fun En h => ?_) (fun r_1 h => ?_)
  · exact x_ol0 G Q h XSub.rf (Nat.le_of_ble_eq_true rfl) (Nat.le_of_ble_eq_true rfl)
  show X g 4 13 [(3, .ref u0), (0, .ref h0), (1, .int p0), (2, .int p1)] [.double r_1, .ref u0] [(h0, .inr (0, [.ref lg, .ref e1, .ref e2, .ref e3, .ref rl, .int cur, .ref sh])), (lg, .inl ((xT g) 6, 12, .inr (.inr (.inr (.inr lgf))))), (u0, .inr (lci kd, [.ref u0a, .ref u0d, .ref u0g, .int gc, .ref u0m])), (u0m, .inl (lamC kd (xT g) ln am))] 3 222
  refine x_cUl0 (C := lnm kd) (owner := "RoundingAuditor$Ledger") (x := ⟨"RoundingAuditor$Ledger", "bits", "(D)J"⟩) (wc := []) (As := [.double r_1]) (rest := []) G [(h0, .inr (0, [.ref lg, .ref e1, .ref e2, .ref e3, .ref rl, .int cur, .ref sh])), (lg, .inl ((xT g) 6, 12, .inr (.inr (.inr (.inr lgf))))), (u0, .inr (lci kd, [.ref u0a, .ref u0d, .ref u0g, .int gc, .ref u0m])), (u0m, .inl (lamC kd (xT g) ln am))] (XSub.of [0, 1, 2, 3] rfl (by decide)) (tL_bits kd G.noTraces h) q626 q628 (va_Decl.abs (G.E.2.1.2.2.1 _ (by decide +kernel))) (sL_bits kd) (hL_bits kd).1 (hL_bits kd).2.1 (hL_bits kd).2.2.1 cdL_bits (lci kd) 2 (lci_at kd) rfl rfl (by decide) (hL_bits _).2.2.2 rfl (Nat.le_of_ble_eq_true rfl) (Nat.le_of_ble_eq_true rfl) (Nat.le_of_ble_eq_true rfl) dX1_amount_13 (fun r_2 h => ?_)
  show X g 4 16 [(3, .ref u0), (0, .ref h0), (1, .int p0), (2, .int p1)] [.long r_2] [(h0, .inr (0, [.ref lg, .ref e1, .ref e2, .ref e3, .ref rl, .int cur, .ref sh])), (lg, .inl ((xT g) 6, 12, .inr (.inr (.inr (.inr lgf))))), (u0, .inr (lci kd, [.ref u0a, .ref u0d, .ref u0g, .int gc, .ref u0m])), (u0m, .inl (lamC kd (xT g) ln am))] 3 222
  exact x_yl0 G Q dX1_amount_16  h XSub.rf (Nat.le_of_ble_eq_true rfl) (Nat.le_of_ble_eq_true rfl)
theorem cdX1_entry : yX1_entry.cls = RX1 ∧ yX1_entry.cls ≠ "java/lang/invoke/MethodHandle" ∧ yX1_entry.cls ≠ "java/lang/invoke/VarHandle" ∧ (parseMethodDescriptor yX1_entry.desc).map (fun d => d.parameters.length) = some 3 := by decide +kernel
def wX1_entry_F (p0 : Int32) (p1 : Int32) (p2 : Int32) (lgf : Nat → Option Nat) (K : Int32 → Prop) (E : String → Prop) : Prop := ((¬ vp_in p0 12 → E "java/lang/ArrayIndexOutOfBoundsException") ∧ (vp_in p0 12 → ((lgf p0.toNatClampNeg) = none ∧ E "java/lang/NullPointerException")))
set_option maxRecDepth 20000 in
theorem tX1_entry_F {l : Launch} {D : va_G} {ta : Nat → ClassId} {h0 : Nat} {lg : Nat} {e1 : Nat} {e2 : Nat} {e3 : Nat} {rl : Nat} {cur : Int32} {sh : Nat} {lgf : Nat → Option Nat} {p0 : Int32} {p1 : Int32} {p2 : Int32} {K : Int32 → Prop} {E : String → Prop} (hlt : l.stackTraces = false) (h : wX1_entry_F p0 p1 p2 lgf K E) : SXi0 l D ta yX1_entry cX1_entry 6 FieldType.int 2 [.ref h0, .int p0, .int p1, .int p2] [(h0, .inr (0, [.ref lg, .ref e1, .ref e2, .ref e3, .ref rl, .int cur, .ref sh])), (lg, .inl (ta 6, 12, .inr (.inr (.inr (.inr lgf)))))] ([(h0, .inr (0, [.ref lg, .ref e1, .ref e2, .ref e3, .ref rl, .int cur, .ref sh])), (lg, .inl (ta 6, 12, .inr (.inr (.inr (.inr lgf)))))]) 3 222 K E := by
  refine x_sxi0 hlt (by decide +kernel) (Nat.le_of_ble_eq_true rfl) (fun g G hl hD hT hN Q => ?_)
  subst hl; subst hD; subst hT
  unfold wX1_entry_F at h
  show X g 6 0 [(0, .ref h0), (1, .int p0), (2, .int p1), (3, .int p2)] [] [(h0, .inr (0, [.ref lg, .ref e1, .ref e2, .ref e3, .ref rl, .int cur, .ref sh])), (lg, .inl ((xT g) 6, 12, .inr (.inr (.inr (.inr lgf)))))] 0 0
  refine x_aload_n G rfl dX1_entry_0 0 rfl ?_
  refine x_get G in_X1 0 rfl rfl 0 (by decide) q159 (fun _ h => h) rfl dX1_entry_1 ?_
  refine x_iload_n G rfl dX1_entry_4 1 rfl ?_
  by_cases hz : vp_in p0 12
  case neg =>
    replace h := h.1 hz
    refine x_aaldZ G 1 rfl rfl (by decide) hz (Nat.le_of_ble_eq_true rfl) (Nat.le_of_ble_eq_true rfl) (Nat.le_of_ble_eq_true rfl) dX1_entry_5 ?_
    exact x_oi0 G Q h XSub.rf (Nat.le_of_ble_eq_true rfl) (Nat.le_of_ble_eq_true rfl)
  replace h := h.2 hz
  obtain ⟨hq, h⟩ := h
  refine x_aald G 1 6 rfl rfl hz dX1_entry_5 ?_
  rw [hq]
  show X g 6 6 [(0, .ref h0), (1, .int p0), (2, .int p1), (3, .int p2)] [.null] [(h0, .inr (0, [.ref lg, .ref e1, .ref e2, .ref e3, .ref rl, .int cur, .ref sh])), (lg, .inl ((xT g) 6, 12, .inr (.inr (.inr (.inr lgf)))))] 0 0
  refine x_astoreN (lv' := [(4, .null), (0, .ref h0), (1, .int p0), (2, .int p1), (3, .int p2)]) G dX1_entry_6 (by decide) rfl ?_
  refine x_aloadNN G dX1_entry_8 0 rfl ?_
  refine x_iload_n G rfl dX1_entry_10 3 rfl ?_
  refine x_invN (z := ⟨"RoundingAuditor$Ledger", "length", "()I"⟩) (As := [.int p1]) (rest := []) G q642 (va_Decl.of (G.hts _ q643) (G.hts _ q647)) rfl q665 (show ("RoundingAuditor$Ledger" : String) ≠ "java/lang/invoke/MethodHandle" ∧ ("RoundingAuditor$Ledger" : String) ≠ "java/lang/invoke/VarHandle" ∧ (parseMethodDescriptor "(I)I").map (fun d => d.parameters.length) = some 1 from by decide +kernel) rfl (Nat.le_of_ble_eq_true rfl) (Nat.le_of_ble_eq_true rfl) (Nat.le_of_ble_eq_true rfl) dX1_entry_11 ?_
  exact x_oi0 G Q h XSub.rf (Nat.le_of_ble_eq_true rfl) (Nat.le_of_ble_eq_true rfl)
def wX1_entry (p0 : Int32) (p1 : Int32) (p2 : Int32) (lgf : Nat → Option Nat) (u0 : Nat) (ln : Nat) (acc : Nat → Int32) (day : Nat → Int32) (K : Int32 → Prop) (E : String → Prop) : Prop := (vp_in p0 12 ∧ ((lgf p0.toNatClampNeg) = some u0 ∧ (wX4_account_X p1 ln acc (fun (r_1 : Int32) => ((¬ p2 = (0 : Int32) → ((¬ p2 = (1 : Int32) → K (-102 : Int32)) ∧ (p2 = (1 : Int32) → (wX4_day_X p1 ln day (fun (r_2 : Int32) => K r_2) (fun (En : String) => E En))))) ∧ (p2 = (0 : Int32) → K r_1))) (fun (En : String) => E En))))
set_option maxRecDepth 20000 in
theorem tX1_entry {l : Launch} {D : va_G} {ta : Nat → ClassId} {h0 : Nat} {lg : Nat} {e1 : Nat} {e2 : Nat} {e3 : Nat} {rl : Nat} {cur : Int32} {sh : Nat} {lgf : Nat → Option Nat} {u0 : Nat} {kd : Bool} {u0a : Nat} {u0d : Nat} {u0g : Nat} {gc : Int32} {u0m : Nat} {ln : Nat} {acc : Nat → Int32} {day : Nat → Int32} {p0 : Int32} {p1 : Int32} {p2 : Int32} {K : Int32 → Prop} {E : String → Prop} (hlt : l.stackTraces = false) (h : wX1_entry p0 p1 p2 lgf u0 ln acc day K E) : SXi0 l D ta yX1_entry cX1_entry 6 FieldType.int 2 [.ref h0, .int p0, .int p1, .int p2] [(h0, .inr (0, [.ref lg, .ref e1, .ref e2, .ref e3, .ref rl, .int cur, .ref sh])), (lg, .inl (ta 6, 12, .inr (.inr (.inr (.inr lgf))))), (u0, .inr (lci kd, [.ref u0a, .ref u0d, .ref u0g, .int gc, .ref u0m])), (u0a, .inl (ta 1, ln, .inl acc)), (u0d, .inl (ta 1, ln, .inl day))] ([(h0, .inr (0, [.ref lg, .ref e1, .ref e2, .ref e3, .ref rl, .int cur, .ref sh])), (lg, .inl (ta 6, 12, .inr (.inr (.inr (.inr lgf))))), (u0, .inr (lci kd, [.ref u0a, .ref u0d, .ref u0g, .int gc, .ref u0m])), (u0a, .inl (ta 1, ln, .inl acc)), (u0d, .inl (ta 1, ln, .inl day))]) 6 444 K E := by
  refine x_sxi0 hlt (by decide +kernel) (Nat.le_of_ble_eq_true rfl) (fun g G hl hD hT hN Q => ?_)
  subst hl; subst hD; subst hT
  unfold wX1_entry at h
  show X g 6 0 [(0, .ref h0), (1, .int p0), (2, .int p1), (3, .int p2)] [] [(h0, .inr (0, [.ref lg, .ref e1, .ref e2, .ref e3, .ref rl, .int cur, .ref sh])), (lg, .inl ((xT g) 6, 12, .inr (.inr (.inr (.inr lgf))))), (u0, .inr (lci kd, [.ref u0a, .ref u0d, .ref u0g, .int gc, .ref u0m])), (u0a, .inl ((xT g) 1, ln, .inl acc)), (u0d, .inl ((xT g) 1, ln, .inl day))] 0 0
  refine x_aload_n G rfl dX1_entry_0 0 rfl ?_
  refine x_get G in_X1 0 rfl rfl 0 (by decide) q159 (fun _ h => h) rfl dX1_entry_1 ?_
  refine x_iload_n G rfl dX1_entry_4 1 rfl ?_
  obtain ⟨hz, hq, h⟩ := h
  refine x_aald G 1 6 rfl rfl hz dX1_entry_5 ?_
  rw [hq]
  show X g 6 6 [(0, .ref h0), (1, .int p0), (2, .int p1), (3, .int p2)] [.ref u0] [(h0, .inr (0, [.ref lg, .ref e1, .ref e2, .ref e3, .ref rl, .int cur, .ref sh])), (lg, .inl ((xT g) 6, 12, .inr (.inr (.inr (.inr lgf))))), (u0, .inr (lci kd, [.ref u0a, .ref u0d, .ref u0g, .int gc, .ref u0m])), (u0a, .inl ((xT g) 1, ln, .inl acc)), (u0d, .inl ((xT g) 1, ln, .inl day))] 0 0
  refine x_astore (lv' := [(4, .ref u0), (0, .ref h0), (1, .int p0), (2, .int p1), (3, .int p2)]) G dX1_entry_6 (by decide) rfl ?_
  refine x_aload G dX1_entry_8 0 rfl ?_
  refine x_iload_n G rfl dX1_entry_10 3 rfl ?_
  refine x_cXUi0 (C := lnm kd) (owner := "RoundingAuditor$Ledger") (x := ⟨"RoundingAuditor$Ledger", "account", "(I)I"⟩) (wc := [(u0, .inr (lci kd, [.ref u0a, .ref u0d, .ref u0g, .int gc, .ref u0m])), (u0a, .inl ((xT g) 1, ln, .inl acc))]) (As := [.int p1]) (rest := []) G [(h0, .inr (0, [.ref lg, .ref e1, .ref e2, .ref e3, .ref rl, .int cur, .ref sh])), (lg, .inl ((xT g) 6, 12, .inr (.inr (.inr (.inr lgf))))), (u0d, .inl ((xT g) 1, ln, .inl day))] (XSub.of [0, 1, 4, 2, 3] rfl (by decide)) (tX4_account_X G.noTraces h) q642 q644 (va_Decl.of (G.hts _ q643) (G.hts _ q647)) (sL_account kd) q643 q78 q647 cdL_account (lci kd) 2 (lci_at kd) rfl rfl (by decide) (by decide) rfl (Nat.le_of_ble_eq_true rfl) (Nat.le_of_ble_eq_true rfl) (Nat.le_of_ble_eq_true rfl) dX1_entry_11 (fun En h => ?_) (fun r_1 h => ?_)
  · exact x_oi0 G Q h (XSub.of [0, 1, 3, 4, 2] rfl (by decide)) (Nat.le_of_ble_eq_true rfl) (Nat.le_of_ble_eq_true rfl)
  show X g 6 14 [(4, .ref u0), (0, .ref h0), (1, .int p0), (2, .int p1), (3, .int p2)] [.int r_1] [(h0, .inr (0, [.ref lg, .ref e1, .ref e2, .ref e3, .ref rl, .int cur, .ref sh])), (lg, .inl ((xT g) 6, 12, .inr (.inr (.inr (.inr lgf))))), (u0d, .inl ((xT g) 1, ln, .inl day)), (u0, .inr (lci kd, [.ref u0a, .ref u0d, .ref u0g, .int gc, .ref u0m])), (u0a, .inl ((xT g) 1, ln, .inl acc))] 3 222
  refine x_istore (lv' := [(5, .int r_1), (4, .ref u0), (0, .ref h0), (1, .int p0), (2, .int p1), (3, .int p2)]) G dX1_entry_14 (by decide) rfl ?_
  refine x_iload_n G rfl dX1_entry_16 5 rfl ?_
  refine x_if_ne (tgt := 25) G dX1_entry_17 rfl (fun c => ?_) (fun c => ?_)
  · replace h := h.1 c
    refine x_iload_n G rfl dX1_entry_25 5 rfl ?_
    refine x_iconst (v := (1 : Int32)) G dX1_entry_26 (by decide) ?_
    refine x_icmp_ne (tgt := 39) G dX1_entry_27 rfl (fun c => ?_) (fun c => ?_)
    · replace h := h.1 c
      refine x_bipush (v := (-102 : Int32)) G dX1_entry_39 (by decide) ?_
      exact x_yi0 G Q dX1_entry_41 rfl  h (XSub.of [0, 1, 3, 4, 2] rfl (by decide)) (Nat.le_of_ble_eq_true rfl) (Nat.le_of_ble_eq_true rfl)
    · replace h := h.2 c
      refine x_aload G dX1_entry_30 1 rfl ?_
      refine x_iload_n G rfl dX1_entry_32 4 rfl ?_
      refine x_cXUi0 (C := lnm kd) (owner := "RoundingAuditor$Ledger") (x := ⟨"RoundingAuditor$Ledger", "day", "(I)I"⟩) (wc := [(u0, .inr (lci kd, [.ref u0a, .ref u0d, .ref u0g, .int gc, .ref u0m])), (u0d, .inl ((xT g) 1, ln, .inl day))]) (As := [.int p1]) (rest := []) G [(h0, .inr (0, [.ref lg, .ref e1, .ref e2, .ref e3, .ref rl, .int cur, .ref sh])), (lg, .inl ((xT g) 6, 12, .inr (.inr (.inr (.inr lgf))))), (u0a, .inl ((xT g) 1, ln, .inl acc))] (XSub.of [0, 1, 4, 3, 2] rfl (by decide)) (tX4_day_X G.noTraces h) q648 q650 (va_Decl.of (G.hts _ q649) (G.hts _ q653)) (sL_day kd) q649 q78 q653 cdL_day (lci kd) 3 (lci_at kd) rfl rfl (by decide) (by decide) rfl (Nat.le_of_ble_eq_true rfl) (Nat.le_of_ble_eq_true rfl) (Nat.le_of_ble_eq_true rfl) dX1_entry_33 (fun En h => ?_) (fun r_2 h => ?_)
      · exact x_oi0 G Q h (XSub.of [0, 1, 3, 2, 4] rfl (by decide)) (Nat.le_of_ble_eq_true rfl) (Nat.le_of_ble_eq_true rfl)
      show X g 6 36 [(5, .int r_1), (4, .ref u0), (0, .ref h0), (1, .int p0), (2, .int p1), (3, .int p2)] [.int r_2] [(h0, .inr (0, [.ref lg, .ref e1, .ref e2, .ref e3, .ref rl, .int cur, .ref sh])), (lg, .inl ((xT g) 6, 12, .inr (.inr (.inr (.inr lgf))))), (u0a, .inl ((xT g) 1, ln, .inl acc)), (u0, .inr (lci kd, [.ref u0a, .ref u0d, .ref u0g, .int gc, .ref u0m])), (u0d, .inl ((xT g) 1, ln, .inl day))] 6 444
      refine x_goto (tgt := 41) G dX1_entry_36 rfl ?_
      exact x_yi0 G Q dX1_entry_41 rfl  h (XSub.of [0, 1, 3, 2, 4] rfl (by decide)) (Nat.le_of_ble_eq_true rfl) (Nat.le_of_ble_eq_true rfl)
  · replace h := h.2 c
    refine x_iload G dX1_entry_20 0 rfl ?_
    refine x_goto (tgt := 41) G dX1_entry_22 rfl ?_
    exact x_yi0 G Q dX1_entry_41 rfl  h (XSub.of [0, 1, 3, 4, 2] rfl (by decide)) (Nat.le_of_ble_eq_true rfl) (Nat.le_of_ble_eq_true rfl)
theorem cdX1_is : yX1_is.cls ≠ "java/lang/invoke/MethodHandle" ∧ yX1_is.cls ≠ "java/lang/invoke/VarHandle" ∧ (parseMethodDescriptor yX1_is.desc).map (fun d => d.parameters.length) = some 3 := by decide +kernel
def wX1_is_J11 (kd : Bool) (p1 : UInt64) (p2 : Int32) (K : Int32 → Prop) : Int32 → Prop := fun (s_1 : Int32) => ((p2 = (2 : Int32) → ((s_1 = (0 : Int32) → K (0 : Int32)) ∧ (¬ s_1 = (0 : Int32) → (FP.dIsNaN p1 = false ∧ ((¬ dgt (mCps FP.dconst1 p1) FP.dconst0 → K (0 : Int32)) ∧ (dgt (mCps FP.dconst1 p1) FP.dconst0 → K (1 : Int32))))))) ∧ (¬ p2 = (2 : Int32) → ((p2 = (3 : Int32) → ((s_1 = (0 : Int32) → K (0 : Int32)) ∧ (¬ s_1 = (0 : Int32) → (FP.dIsNaN p1 = false ∧ ((¬ dlt (mCps FP.dconst1 p1) FP.dconst0 → K (0 : Int32)) ∧ (dlt (mCps FP.dconst1 p1) FP.dconst0 → K (1 : Int32))))))) ∧ (¬ p2 = (3 : Int32) → ((p2 = (4 : Int32) → ((¬ dlt p1 FP.dconst0 → K (0 : Int32)) ∧ (dlt p1 FP.dconst0 → K (1 : Int32)))) ∧ (¬ p2 = (4 : Int32) → ((p2 = (5 : Int32) → (wJ14_rint p1 (fun (r_2 : UInt64) => vf_n64 r_2 ∧ ((¬ deq r_2 p1 → K (0 : Int32)) ∧ (deq r_2 p1 → K (1 : Int32)))))) ∧ (¬ p2 = (5 : Int32) → ((¬ s_1 = (0 : Int32) → K (0 : Int32)) ∧ (s_1 = (0 : Int32) → (vf_n64 p1 ∧ (wL_least kd (fun (r_3 : UInt64) => ((¬ dlt (mAbs p1) r_3 → K (0 : Int32)) ∧ (dlt (mAbs p1) r_3 → K (1 : Int32))))))))))))))))
def wX1_is (p1 : UInt64) (p2 : Int32) (kd : Bool) (K : Int32 → Prop) : Prop := ((¬ deq p1 FP.dconst0 → (wX1_is_J11 kd p1 p2 K (0 : Int32))) ∧ (deq p1 FP.dconst0 → (wX1_is_J11 kd p1 p2 K (1 : Int32))))
set_option maxRecDepth 20000 in
theorem kX1_is_J11 {g : XG} {q0 : Nat} {kd : Bool} {q0a : Nat} {q0d : Nat} {q0g : Nat} {gc : Int32} {q0m : Nat} {p1 : UInt64} {p2 : Int32} {K : Int32 → Prop} (G : XO g RX1 cX1_is 5 18 0 0) (Q : XQi0 g FieldType.boolean 0 0 ([(q0, .inr (lci kd, [.ref q0a, .ref q0d, .ref q0g, .int gc, .ref q0m]))]) K) : ∀ (s_1 : Int32), wX1_is_J11 kd p1 p2 K s_1 → X g 5 11 [(0, .ref q0), (1, .double p1), (3, .int p2)] [.int s_1] [(q0, .inr (lci kd, [.ref q0a, .ref q0d, .ref q0g, .int gc, .ref q0m]))] 0 0 := by
  intro s_1 h
  unfold wX1_is_J11 at h
  refine x_istore (lv' := [(4, .int s_1), (0, .ref q0), (1, .double p1), (3, .int p2)]) G dX1_is_11 (by decide) rfl ?_
  refine x_iload_n G rfl dX1_is_13 3 rfl ?_
  by_cases c0 : p2 = (2 : Int32)
  · replace h := h.1 c0
    refine x_tableAt (off := 30) (tgt := 44) G dX1_is_14 c0 (by decide) rfl ?_
    refine x_iload G dX1_is_44 0 rfl ?_
    refine x_if_eq (tgt := 63) G dX1_is_46 rfl (fun c => ?_) (fun c => ?_)
    · replace h := h.1 c
      refine x_iconst (v := (0 : Int32)) G dX1_is_63 (by decide) ?_
      exact x_reti0 G Q dX1_is_64 rfl  h XSub.rf (Nat.le_of_ble_eq_true rfl) (Nat.le_of_ble_eq_true rfl)
    · replace h := h.2 c
      refine x_dconst1 G dX1_is_49 ?_
      refine x_dload_n G rfl dX1_is_50 2 rfl ?_
      obtain ⟨hz0, h⟩ := h
      refine x_ovD2 G q679 q680 q85 q681 rfl rfl rmCps_row (rmCps_run hz0) (by decide) (Nat.le_of_ble_eq_true rfl) dX1_is_51 ?_
      refine x_dconst0 G dX1_is_54 ?_
      refine x_dcmpl_le (tgt := 63) G dX1_is_55 dX1_is_56 rfl (fun c => ?_) (fun c => ?_)
      · replace h := h.1 c
        refine x_iconst (v := (0 : Int32)) G dX1_is_63 (by decide) ?_
        exact x_reti0 G Q dX1_is_64 rfl  h XSub.rf (Nat.le_of_ble_eq_true rfl) (Nat.le_of_ble_eq_true rfl)
      · replace h := h.2 c
        refine x_iconst (v := (1 : Int32)) G dX1_is_59 (by decide) ?_
        refine x_goto (tgt := 64) G dX1_is_60 rfl ?_
        exact x_reti0 G Q dX1_is_64 rfl  h XSub.rf (Nat.le_of_ble_eq_true rfl) (Nat.le_of_ble_eq_true rfl)
  replace h := h.2 c0
  by_cases c1 : p2 = (3 : Int32)
  · replace h := h.1 c1
    refine x_tableAt (off := 51) (tgt := 65) G dX1_is_14 c1 (by decide) rfl ?_
    refine x_iload G dX1_is_65 0 rfl ?_
    refine x_if_eq (tgt := 84) G dX1_is_67 rfl (fun c => ?_) (fun c => ?_)
    · replace h := h.1 c
      refine x_iconst (v := (0 : Int32)) G dX1_is_84 (by decide) ?_
      exact x_reti0 G Q dX1_is_85 rfl  h XSub.rf (Nat.le_of_ble_eq_true rfl) (Nat.le_of_ble_eq_true rfl)
    · replace h := h.2 c
      refine x_dconst1 G dX1_is_70 ?_
      refine x_dload_n G rfl dX1_is_71 2 rfl ?_
      obtain ⟨hz0, h⟩ := h
      refine x_ovD2 G q679 q680 q85 q681 rfl rfl rmCps_row (rmCps_run hz0) (by decide) (Nat.le_of_ble_eq_true rfl) dX1_is_72 ?_
      refine x_dconst0 G dX1_is_75 ?_
      refine x_dcmpg_ge (tgt := 84) G dX1_is_76 dX1_is_77 rfl (fun c => ?_) (fun c => ?_)
      · replace h := h.1 c
        refine x_iconst (v := (0 : Int32)) G dX1_is_84 (by decide) ?_
        exact x_reti0 G Q dX1_is_85 rfl  h XSub.rf (Nat.le_of_ble_eq_true rfl) (Nat.le_of_ble_eq_true rfl)
      · replace h := h.2 c
        refine x_iconst (v := (1 : Int32)) G dX1_is_80 (by decide) ?_
        refine x_goto (tgt := 85) G dX1_is_81 rfl ?_
        exact x_reti0 G Q dX1_is_85 rfl  h XSub.rf (Nat.le_of_ble_eq_true rfl) (Nat.le_of_ble_eq_true rfl)
  replace h := h.2 c1
  by_cases c2 : p2 = (4 : Int32)
  · replace h := h.1 c2
    refine x_tableAt (off := 72) (tgt := 86) G dX1_is_14 c2 (by decide) rfl ?_
    refine x_dload_n G rfl dX1_is_86 2 rfl ?_
    refine x_dconst0 G dX1_is_87 ?_
    refine x_dcmpg_ge (tgt := 96) G dX1_is_88 dX1_is_89 rfl (fun c => ?_) (fun c => ?_)
    · replace h := h.1 c
      refine x_iconst (v := (0 : Int32)) G dX1_is_96 (by decide) ?_
      exact x_reti0 G Q dX1_is_97 rfl  h XSub.rf (Nat.le_of_ble_eq_true rfl) (Nat.le_of_ble_eq_true rfl)
    · replace h := h.2 c
      refine x_iconst (v := (1 : Int32)) G dX1_is_92 (by decide) ?_
      refine x_goto (tgt := 97) G dX1_is_93 rfl ?_
      exact x_reti0 G Q dX1_is_97 rfl  h XSub.rf (Nat.le_of_ble_eq_true rfl) (Nat.le_of_ble_eq_true rfl)
  replace h := h.2 c2
  by_cases c3 : p2 = (5 : Int32)
  · replace h := h.1 c3
    refine x_tableAt (off := 84) (tgt := 98) G dX1_is_14 c3 (by decide) rfl ?_
    refine x_dload_n G rfl dX1_is_98 2 rfl ?_
    refine x_ovQ G (tJ14_rint G.noTraces h) q683 q684 q85 q685 q86 q688 rmRint_row rmRint_sem rmRint_res (by decide) (by decide) (by decide) (Nat.le_of_ble_eq_true rfl) (Nat.le_of_ble_eq_true rfl) (Nat.le_of_ble_eq_true rfl) dX1_is_99 (fun r_2 h => ?_)
    refine x_dload_n G rfl dX1_is_102 2 rfl ?_
    refine x_dcmpl_ne (tgt := 111) G dX1_is_103 dX1_is_104 rfl (fun c => ?_) (fun c => ?_)
    · replace h := h.1 c
      refine x_iconst (v := (0 : Int32)) G dX1_is_111 (by decide) ?_
      exact x_reti0 G Q dX1_is_112 rfl  h XSub.rf (Nat.le_of_ble_eq_true rfl) (Nat.le_of_ble_eq_true rfl)
    · replace h := h.2 c
      refine x_iconst (v := (1 : Int32)) G dX1_is_107 (by decide) ?_
      refine x_goto (tgt := 112) G dX1_is_108 rfl ?_
      exact x_reti0 G Q dX1_is_112 rfl  h XSub.rf (Nat.le_of_ble_eq_true rfl) (Nat.le_of_ble_eq_true rfl)
  replace h := h.2 c3
  refine x_tableNo (tgt := 113) G dX1_is_14 [(2 : Int32), (3 : Int32), (4 : Int32), (5 : Int32)] (by decide) (by decide) (List.forall_mem_cons.mpr ⟨c0, (List.forall_mem_cons.mpr ⟨c1, (List.forall_mem_cons.mpr ⟨c2, (List.forall_mem_cons.mpr ⟨c3, (fun _ h => absurd h List.not_mem_nil)⟩)⟩)⟩)⟩) rfl ?_
  refine x_iload G dX1_is_113 0 rfl ?_
  refine x_if_ne (tgt := 134) G dX1_is_115 rfl (fun c => ?_) (fun c => ?_)
  · replace h := h.1 c
    refine x_iconst (v := (0 : Int32)) G dX1_is_134 (by decide) ?_
    exact x_reti0 G Q dX1_is_135 rfl  h XSub.rf (Nat.le_of_ble_eq_true rfl) (Nat.le_of_ble_eq_true rfl)
  · replace h := h.2 c
    refine x_dload_n G rfl dX1_is_118 2 rfl ?_
    obtain ⟨hz0, h⟩ := h
    refine x_ovD1 G q321 q322 q85 q323 rfl rfl rmAbs_row (rmAbs_run hz0) (by decide) (Nat.le_of_ble_eq_true rfl) dX1_is_119 ?_
    refine x_aload_n G rfl dX1_is_122 1 rfl ?_
    refine x_cUd0 (C := lnm kd) (owner := "RoundingAuditor$Ledger") (x := ⟨"RoundingAuditor$Ledger", "least", "()D"⟩) (wc := []) (As := []) (rest := [.double (mAbs p1)]) G [(q0, .inr (lci kd, [.ref q0a, .ref q0d, .ref q0g, .int gc, .ref q0m]))] (XSub.of [0] rfl (by decide)) (tL_least kd G.noTraces h) q692 q694 (va_Decl.abs (G.E.2.1.2.2.1 _ (by decide +kernel))) (sL_least kd) (hL_least kd).1 (hL_least kd).2.1 (hL_least kd).2.2.1 cdL_least (lci kd) 0 (lci_at kd) rfl rfl (by decide) (hL_least _).2.2.2 rfl (Nat.le_of_ble_eq_true rfl) (Nat.le_of_ble_eq_true rfl) (Nat.le_of_ble_eq_true rfl) dX1_is_123 (fun r_3 h => ?_)
    show X g 5 126 [(4, .int s_1), (0, .ref q0), (1, .double p1), (3, .int p2)] [.double r_3, .double (mAbs p1)] [(q0, .inr (lci kd, [.ref q0a, .ref q0d, .ref q0g, .int gc, .ref q0m]))] 0 0
    refine x_dcmpg_ge (tgt := 134) G dX1_is_126 dX1_is_127 rfl (fun c => ?_) (fun c => ?_)
    · replace h := h.1 c
      refine x_iconst (v := (0 : Int32)) G dX1_is_134 (by decide) ?_
      exact x_reti0 G Q dX1_is_135 rfl  h XSub.rf (Nat.le_of_ble_eq_true rfl) (Nat.le_of_ble_eq_true rfl)
    · replace h := h.2 c
      refine x_iconst (v := (1 : Int32)) G dX1_is_130 (by decide) ?_
      refine x_goto (tgt := 135) G dX1_is_131 rfl ?_
      exact x_reti0 G Q dX1_is_135 rfl  h XSub.rf (Nat.le_of_ble_eq_true rfl) (Nat.le_of_ble_eq_true rfl)
set_option maxRecDepth 20000 in
theorem tX1_is {l : Launch} {D : va_G} {ta : Nat → ClassId} {q0 : Nat} {kd : Bool} {q0a : Nat} {q0d : Nat} {q0g : Nat} {gc : Int32} {q0m : Nat} {p1 : UInt64} {p2 : Int32} {K : Int32 → Prop} (hlt : l.stackTraces = false) (h : wX1_is p1 p2 kd K) : SMi0 l D ta yX1_is cX1_is 5 FieldType.boolean 18 [.ref q0, .double p1, .int p2] [(q0, .inr (lci kd, [.ref q0a, .ref q0d, .ref q0g, .int gc, .ref q0m]))] ([(q0, .inr (lci kd, [.ref q0a, .ref q0d, .ref q0g, .int gc, .ref q0m]))]) 0 0 K := by
  refine x_sti0 hlt (plainFor_of_name (by decide +kernel)) (Nat.le_of_ble_eq_true rfl) (fun g G hl hD hT Q => ?_)
  subst hl; subst hD; subst hT
  unfold wX1_is at h
  show X g 5 0 [(0, .ref q0), (1, .double p1), (3, .int p2)] [] [(q0, .inr (lci kd, [.ref q0a, .ref q0d, .ref q0g, .int gc, .ref q0m]))] 0 0
  refine x_dload_n G rfl dX1_is_0 1 rfl ?_
  refine x_dconst0 G dX1_is_1 ?_
  refine x_dcmpl_ne (tgt := 10) G dX1_is_2 dX1_is_3 rfl (fun c => ?_) (fun c => ?_)
  · replace h := h.1 c
    refine x_iconst (v := (0 : Int32)) G dX1_is_10 (by decide) ?_
    refine kX1_is_J11 G Q  _ h
  · replace h := h.2 c
    refine x_iconst (v := (1 : Int32)) G dX1_is_6 (by decide) ?_
    refine x_goto (tgt := 11) G dX1_is_7 rfl ?_
    refine kX1_is_J11 G Q  _ h
theorem cdX1_about : yX1_about.cls = RX1 ∧ yX1_about.cls ≠ "java/lang/invoke/MethodHandle" ∧ yX1_about.cls ≠ "java/lang/invoke/VarHandle" ∧ (parseMethodDescriptor yX1_about.desc).map (fun d => d.parameters.length) = some 2 := by decide +kernel
def wX1_about_F (p0 : Int32) (p1 : Int32) (lgf : Nat → Option Nat) (K : Int32 → Prop) (E : String → Prop) : Prop := (wX1_isIn p1.toInt64 (0 : Int64) (6 : Int64) (fun (r_1 : Int32) => ((¬ r_1 = (0 : Int32) → ((¬ vp_in p0 12 → E "java/lang/ArrayIndexOutOfBoundsException") ∧ (vp_in p0 12 → ((lgf p0.toNatClampNeg) = none ∧ E "java/lang/NullPointerException")))) ∧ (r_1 = (0 : Int32) → K (-102 : Int32)))))
set_option maxRecDepth 20000 in
theorem tX1_about_F {l : Launch} {D : va_G} {ta : Nat → ClassId} {h0 : Nat} {lg : Nat} {e1 : Nat} {e2 : Nat} {e3 : Nat} {rl : Nat} {cur : Int32} {sh : Nat} {lgf : Nat → Option Nat} {p0 : Int32} {p1 : Int32} {K : Int32 → Prop} {E : String → Prop} (hlt : l.stackTraces = false) (h : wX1_about_F p0 p1 lgf K E) : SXi0 l D ta yX1_about cX1_about 7 FieldType.int 19 [.ref h0, .int p0, .int p1] [(h0, .inr (0, [.ref lg, .ref e1, .ref e2, .ref e3, .ref rl, .int cur, .ref sh])), (lg, .inl (ta 6, 12, .inr (.inr (.inr (.inr lgf)))))] ([(h0, .inr (0, [.ref lg, .ref e1, .ref e2, .ref e3, .ref rl, .int cur, .ref sh])), (lg, .inl (ta 6, 12, .inr (.inr (.inr (.inr lgf)))))]) 3 222 K E := by
  refine x_sxi0 hlt (by decide +kernel) (Nat.le_of_ble_eq_true rfl) (fun g G hl hD hT hN Q => ?_)
  subst hl; subst hD; subst hT
  unfold wX1_about_F at h
  show X g 7 0 [(0, .ref h0), (1, .int p0), (2, .int p1)] [] [(h0, .inr (0, [.ref lg, .ref e1, .ref e2, .ref e3, .ref rl, .int cur, .ref sh])), (lg, .inl ((xT g) 6, 12, .inr (.inr (.inr (.inr lgf)))))] 0 0
  refine x_iload_n G rfl dX1_about_0 2 rfl ?_
  refine x_i2l G dX1_about_1 ?_
  refine x_lconst (v := (0 : Int64)) G dX1_about_2 (by decide) ?_
  refine x_ldc2 G q354 dX1_about_3 ?_
  refine x_cPi (As := [.long p1.toInt64, .long (0 : Int64), .long (6 : Int64)]) (rest := []) G (tX1_isIn G.noTraces h) (lw_S q199 q200 q65 q201) cdX1_isIn (by decide) (by decide) rfl (Nat.le_of_ble_eq_true rfl) (Nat.le_of_ble_eq_true rfl) (Nat.le_of_ble_eq_true rfl) dX1_about_6 (fun r_1 h => ?_)
  refine x_if_ne (tgt := 15) G dX1_about_9 rfl (fun c => ?_) (fun c => ?_)
  · replace h := h.1 c
    refine x_aload_n G rfl dX1_about_15 0 rfl ?_
    refine x_get G in_X1 0 rfl rfl 0 (by decide) q159 (fun _ h => h) rfl dX1_about_16 ?_
    refine x_iload_n G rfl dX1_about_19 1 rfl ?_
    by_cases hz : vp_in p0 12
    case neg =>
      replace h := h.1 hz
      refine x_aaldZ G 1 rfl rfl (by decide) hz (Nat.le_of_ble_eq_true rfl) (Nat.le_of_ble_eq_true rfl) (Nat.le_of_ble_eq_true rfl) dX1_about_20 ?_
      exact x_oi0 G Q h XSub.rf (Nat.le_of_ble_eq_true rfl) (Nat.le_of_ble_eq_true rfl)
    replace h := h.2 hz
    obtain ⟨hq, h⟩ := h
    refine x_aald G 1 6 rfl rfl hz dX1_about_20 ?_
    rw [hq]
    show X g 7 21 [(0, .ref h0), (1, .int p0), (2, .int p1)] [.null] [(h0, .inr (0, [.ref lg, .ref e1, .ref e2, .ref e3, .ref rl, .int cur, .ref sh])), (lg, .inl ((xT g) 6, 12, .inr (.inr (.inr (.inr lgf)))))] 0 0
    refine x_astore_nN (lv' := [(3, .null), (0, .ref h0), (1, .int p0), (2, .int p1)]) G rfl dX1_about_21 (by decide) rfl ?_
    refine x_aload_nN G rfl dX1_about_22 0 rfl ?_
    refine x_invN (z := ⟨"RoundingAuditor$Ledger", "length", "()I"⟩) (As := []) (rest := []) G q661 (va_Decl.of (G.hts _ q662) (G.hts _ q666)) rfl q665 (show ("RoundingAuditor$Ledger" : String) ≠ "java/lang/invoke/MethodHandle" ∧ ("RoundingAuditor$Ledger" : String) ≠ "java/lang/invoke/VarHandle" ∧ (parseMethodDescriptor "()I").map (fun d => d.parameters.length) = some 0 from by decide +kernel) rfl (Nat.le_of_ble_eq_true rfl) (Nat.le_of_ble_eq_true rfl) (Nat.le_of_ble_eq_true rfl) dX1_about_23 ?_
    exact x_oi0 G Q h XSub.rf (Nat.le_of_ble_eq_true rfl) (Nat.le_of_ble_eq_true rfl)
  · replace h := h.2 c
    refine x_bipush (v := (-102 : Int32)) G dX1_about_12 (by decide) ?_
    exact x_yi0 G Q dX1_about_14 rfl  h XSub.rf (Nat.le_of_ble_eq_true rfl) (Nat.le_of_ble_eq_true rfl)
def wX1_about_L61 (kd : Bool) (ln : Nat) (am : Nat → UInt64) (p1 : Int32) (r_2 : Int32) (X98 : Int32 → Int32 → Prop) : Nat → Int32 → Int32 → Prop
  | 0, _, _ => False
  | n + 1, v5_3, v6_4 => ((r_2 ≤ v6_4 → X98 v5_3 v6_4) ∧ (¬ r_2 ≤ v6_4 → (wL_at kd v6_4 ln am (fun (r_5 : UInt64) => (wX1_is r_5 p1 kd (fun (r_6 : Int32) => ((r_6 = (0 : Int32) → (∀ x_7 : Int32, x_7 = (v5_3 + (0 : Int32)) → (∀ x_8 : Int32, x_8 = (v6_4 + (1 : Int32)) → wX1_about_L61 kd ln am p1 r_2 X98 n x_7 x_8))) ∧ (¬ r_6 = (0 : Int32) → (∀ x_9 : Int32, x_9 = (v5_3 + (1 : Int32)) → (∀ x_10 : Int32, x_10 = (v6_4 + (1 : Int32)) → wX1_about_L61 kd ln am p1 r_2 X98 n x_9 x_10))))))))))
def wX1_about (p0 : Int32) (p1 : Int32) (lgf : Nat → Option Nat) (u0 : Nat) (kd : Bool) (ln : Nat) (am : Nat → UInt64) (K : Int32 → Prop) : Prop := (wX1_isIn p1.toInt64 (0 : Int64) (6 : Int64) (fun (r_1 : Int32) => ((¬ r_1 = (0 : Int32) → (vp_in p0 12 ∧ ((lgf p0.toNatClampNeg) = some u0 ∧ (wX4_length ln (fun (r_2 : Int32) => (((2 : Int32) ≤ p1 → (∃ m61 : Nat, wX1_about_L61 kd ln am p1 r_2 (fun (v5_13 : Int32) (v6_14 : Int32) => K v5_13) m61 (0 : Int32) (0 : Int32))) ∧ (¬ (2 : Int32) ≤ p1 → ((¬ p1 = (0 : Int32) → (wL_isWide kd (fun (r_15 : Int32) => ((r_15 = (0 : Int32) → K (0 : Int32)) ∧ (¬ r_15 = (0 : Int32) → K (1 : Int32)))))) ∧ (p1 = (0 : Int32) → K r_2))))))))) ∧ (r_1 = (0 : Int32) → K (-102 : Int32)))))
set_option maxRecDepth 20000 in
theorem kX1_about_L61 {g : XG} {h0 : Nat} {lg : Nat} {e1 : Nat} {e2 : Nat} {e3 : Nat} {rl : Nat} {cur : Int32} {sh : Nat} {lgf : Nat → Option Nat} {u0 : Nat} {kd : Bool} {u0a : Nat} {u0d : Nat} {u0g : Nat} {gc : Int32} {u0m : Nat} {ln : Nat} {acc : Nat → Int32} {am : Nat → UInt64} {p0 : Int32} {p1 : Int32} {r_2 : Int32} {X98 : Int32 → Int32 → Prop} (G : XO g RX1 cX1_about 7 19 0 0) (hX98 : ∀ (v5_11 : Int32) (v6_12 : Int32), X98 v5_11 v6_12 → X g 7 98 [(6, .int v6_12), (5, .int v5_11), (4, .int r_2), (3, .ref u0), (0, .ref h0), (1, .int p0), (2, .int p1)] [] [(h0, .inr (0, [.ref lg, .ref e1, .ref e2, .ref e3, .ref rl, .int cur, .ref sh])), (lg, .inl ((xT g) 6, 12, .inr (.inr (.inr (.inr lgf))))), (u0m, .inl (lamC kd (xT g) ln am)), (u0, .inr (lci kd, [.ref u0a, .ref u0d, .ref u0g, .int gc, .ref u0m])), (u0a, .inl ((xT g) 1, ln, .inl acc))] 0 0) : ∀ (n : Nat) (v5_3 : Int32) (v6_4 : Int32), wX1_about_L61 kd ln am p1 r_2 X98 n v5_3 v6_4 → X g 7 61 [(6, .int v6_4), (5, .int v5_3), (4, .int r_2), (3, .ref u0), (0, .ref h0), (1, .int p0), (2, .int p1)] [] [(h0, .inr (0, [.ref lg, .ref e1, .ref e2, .ref e3, .ref rl, .int cur, .ref sh])), (lg, .inl ((xT g) 6, 12, .inr (.inr (.inr (.inr lgf))))), (u0m, .inl (lamC kd (xT g) ln am)), (u0, .inr (lci kd, [.ref u0a, .ref u0d, .ref u0g, .int gc, .ref u0m])), (u0a, .inl ((xT g) 1, ln, .inl acc))] 0 0 := by
  intro n
  induction n with
  | zero => intro _ _ h; exact h.elim
  | succ n ih =>
    intro v5_3 v6_4 h
    unfold wX1_about_L61 at h
    refine x_iload G dX1_about_61 0 rfl ?_
    refine x_iload G dX1_about_63 2 rfl ?_
    refine x_icmp_ge (tgt := 98) G dX1_about_65 rfl (fun c => ?_) (fun c => ?_)
    · replace h := h.1 c
      exact hX98 v5_3 v6_4 h
    · replace h := h.2 c
      refine x_iload G dX1_about_68 1 rfl ?_
      refine x_aload_n G rfl dX1_about_70 3 rfl ?_
      refine x_aload_n G rfl dX1_about_71 3 rfl ?_
      refine x_iload G dX1_about_72 0 rfl ?_
      refine x_cUd0 (C := lnm kd) (owner := "RoundingAuditor$Ledger") (x := ⟨"RoundingAuditor$Ledger", "at", "(I)D"⟩) (wc := [(u0, .inr (lci kd, [.ref u0a, .ref u0d, .ref u0g, .int gc, .ref u0m])), (u0m, .inl (lamC kd (xT g) ln am))]) (As := [.int v6_4]) (rest := [.ref u0, .int v5_3]) G [(h0, .inr (0, [.ref lg, .ref e1, .ref e2, .ref e3, .ref rl, .int cur, .ref sh])), (lg, .inl ((xT g) 6, 12, .inr (.inr (.inr (.inr lgf))))), (u0a, .inl ((xT g) 1, ln, .inl acc))] (XSub.of [0, 1, 4, 3, 2] rfl (by decide)) (tL_at kd G.noTraces h) q617 q619 (va_Decl.abs (G.E.2.1.2.2.1 _ (by decide +kernel))) (sL_at kd) (hL_at kd).1 (hL_at kd).2.1 (hL_at kd).2.2.1 cdL_at (lci kd) 3 (lci_at kd) rfl rfl (by decide) (hL_at _).2.2.2 rfl (Nat.le_of_ble_eq_true rfl) (Nat.le_of_ble_eq_true rfl) (Nat.le_of_ble_eq_true rfl) dX1_about_74 (fun r_5 h => ?_)
      show X g 7 77 [(6, .int v6_4), (5, .int v5_3), (4, .int r_2), (3, .ref u0), (0, .ref h0), (1, .int p0), (2, .int p1)] [.double r_5, .ref u0, .int v5_3] [(h0, .inr (0, [.ref lg, .ref e1, .ref e2, .ref e3, .ref rl, .int cur, .ref sh])), (lg, .inl ((xT g) 6, 12, .inr (.inr (.inr (.inr lgf))))), (u0a, .inl ((xT g) 1, ln, .inl acc)), (u0, .inr (lci kd, [.ref u0a, .ref u0d, .ref u0g, .int gc, .ref u0m])), (u0m, .inl (lamC kd (xT g) ln am))] 0 0
      refine x_iload_n G rfl dX1_about_77 6 rfl ?_
      refine x_cSi0 (wc := [(u0, .inr (lci kd, [.ref u0a, .ref u0d, .ref u0g, .int gc, .ref u0m]))]) (As := [.ref u0, .double r_5, .int p1]) (rest := [.int v5_3]) G [(h0, .inr (0, [.ref lg, .ref e1, .ref e2, .ref e3, .ref rl, .int cur, .ref sh])), (lg, .inl ((xT g) 6, 12, .inr (.inr (.inr (.inr lgf))))), (u0a, .inl ((xT g) 1, ln, .inl acc)), (u0m, .inl (lamC kd (xT g) ln am))] (XSub.of [0, 1, 2, 4, 3] rfl (by decide)) (tX1_is G.noTraces h) (lw_S q676 q677 q65 q678) cdX1_is (by decide) (by decide) rfl (Nat.le_of_ble_eq_true rfl) (Nat.le_of_ble_eq_true rfl) (Nat.le_of_ble_eq_true rfl) dX1_about_78 (fun r_6 h => ?_)
      show X g 7 81 [(6, .int v6_4), (5, .int v5_3), (4, .int r_2), (3, .ref u0), (0, .ref h0), (1, .int p0), (2, .int p1)] [.int r_6, .int v5_3] [(h0, .inr (0, [.ref lg, .ref e1, .ref e2, .ref e3, .ref rl, .int cur, .ref sh])), (lg, .inl ((xT g) 6, 12, .inr (.inr (.inr (.inr lgf))))), (u0a, .inl ((xT g) 1, ln, .inl acc)), (u0m, .inl (lamC kd (xT g) ln am)), (u0, .inr (lci kd, [.ref u0a, .ref u0d, .ref u0g, .int gc, .ref u0m]))] 0 0
      refine x_if_eq (tgt := 88) G dX1_about_81 rfl (fun c => ?_) (fun c => ?_)
      · replace h := h.1 c
        refine x_iconst (v := (0 : Int32)) G dX1_about_88 (by decide) ?_
        refine x_iadd G dX1_about_89 ?_
        refine x_topi (fun x_7 ex_7 => ?_)
        replace h := h x_7 ex_7
        refine x_istore (lv' := [(5, .int x_7), (6, .int v6_4), (4, .int r_2), (3, .ref u0), (0, .ref h0), (1, .int p0), (2, .int p1)]) G dX1_about_90 (by decide) rfl ?_
        obtain ⟨x_8, ex_8⟩ : ∃ z : Int32, z = (v6_4 + (1 : Int32)) := ⟨_, rfl⟩
        replace h := h x_8 ex_8
        refine x_iinc (v := x_8) (lv' := [(6, .int x_8), (5, .int x_7), (4, .int r_2), (3, .ref u0), (0, .ref h0), (1, .int p0), (2, .int p1)]) G dX1_about_92 1 rfl (by rw [ex_8]; rfl) (by decide) rfl ?_
        refine x_goto (tgt := 61) G dX1_about_95 rfl ?_
        refine x_ws (ws' := [(h0, .inr (0, [.ref lg, .ref e1, .ref e2, .ref e3, .ref rl, .int cur, .ref sh])), (lg, .inl ((xT g) 6, 12, .inr (.inr (.inr (.inr lgf))))), (u0m, .inl (lamC kd (xT g) ln am)), (u0, .inr (lci kd, [.ref u0a, .ref u0d, .ref u0g, .int gc, .ref u0m])), (u0a, .inl ((xT g) 1, ln, .inl acc))]) (XSub.of [0, 1, 3, 4, 2] rfl (by decide)) ?_
        exact ih x_7 x_8 h
      · replace h := h.2 c
        refine x_iconst (v := (1 : Int32)) G dX1_about_84 (by decide) ?_
        refine x_goto (tgt := 89) G dX1_about_85 rfl ?_
        refine x_iadd G dX1_about_89 ?_
        refine x_topi (fun x_9 ex_9 => ?_)
        replace h := h x_9 ex_9
        refine x_istore (lv' := [(5, .int x_9), (6, .int v6_4), (4, .int r_2), (3, .ref u0), (0, .ref h0), (1, .int p0), (2, .int p1)]) G dX1_about_90 (by decide) rfl ?_
        obtain ⟨x_10, ex_10⟩ : ∃ z : Int32, z = (v6_4 + (1 : Int32)) := ⟨_, rfl⟩
        replace h := h x_10 ex_10
        refine x_iinc (v := x_10) (lv' := [(6, .int x_10), (5, .int x_9), (4, .int r_2), (3, .ref u0), (0, .ref h0), (1, .int p0), (2, .int p1)]) G dX1_about_92 1 rfl (by rw [ex_10]; rfl) (by decide) rfl ?_
        refine x_goto (tgt := 61) G dX1_about_95 rfl ?_
        refine x_ws (ws' := [(h0, .inr (0, [.ref lg, .ref e1, .ref e2, .ref e3, .ref rl, .int cur, .ref sh])), (lg, .inl ((xT g) 6, 12, .inr (.inr (.inr (.inr lgf))))), (u0m, .inl (lamC kd (xT g) ln am)), (u0, .inr (lci kd, [.ref u0a, .ref u0d, .ref u0g, .int gc, .ref u0m])), (u0a, .inl ((xT g) 1, ln, .inl acc))]) (XSub.of [0, 1, 3, 4, 2] rfl (by decide)) ?_
        exact ih x_9 x_10 h
set_option maxRecDepth 20000 in
theorem tX1_about {l : Launch} {D : va_G} {ta : Nat → ClassId} {h0 : Nat} {lg : Nat} {e1 : Nat} {e2 : Nat} {e3 : Nat} {rl : Nat} {cur : Int32} {sh : Nat} {lgf : Nat → Option Nat} {u0 : Nat} {kd : Bool} {u0a : Nat} {u0d : Nat} {u0g : Nat} {gc : Int32} {u0m : Nat} {ln : Nat} {acc : Nat → Int32} {am : Nat → UInt64} {p0 : Int32} {p1 : Int32} {K : Int32 → Prop} (hlt : l.stackTraces = false) (h : wX1_about p0 p1 lgf u0 kd ln am K) : SMi0 l D ta yX1_about cX1_about 7 FieldType.int 19 [.ref h0, .int p0, .int p1] [(h0, .inr (0, [.ref lg, .ref e1, .ref e2, .ref e3, .ref rl, .int cur, .ref sh])), (lg, .inl (ta 6, 12, .inr (.inr (.inr (.inr lgf))))), (u0, .inr (lci kd, [.ref u0a, .ref u0d, .ref u0g, .int gc, .ref u0m])), (u0a, .inl (ta 1, ln, .inl acc)), (u0m, .inl (lamC kd ta ln am))] ([(h0, .inr (0, [.ref lg, .ref e1, .ref e2, .ref e3, .ref rl, .int cur, .ref sh])), (lg, .inl (ta 6, 12, .inr (.inr (.inr (.inr lgf))))), (u0, .inr (lci kd, [.ref u0a, .ref u0d, .ref u0g, .int gc, .ref u0m])), (u0a, .inl (ta 1, ln, .inl acc)), (u0m, .inl (lamC kd ta ln am))]) 0 0 K := by
  refine x_sti0 hlt (plainFor_of_name (by decide +kernel)) (Nat.le_of_ble_eq_true rfl) (fun g G hl hD hT Q => ?_)
  subst hl; subst hD; subst hT
  unfold wX1_about at h
  show X g 7 0 [(0, .ref h0), (1, .int p0), (2, .int p1)] [] [(h0, .inr (0, [.ref lg, .ref e1, .ref e2, .ref e3, .ref rl, .int cur, .ref sh])), (lg, .inl ((xT g) 6, 12, .inr (.inr (.inr (.inr lgf))))), (u0, .inr (lci kd, [.ref u0a, .ref u0d, .ref u0g, .int gc, .ref u0m])), (u0a, .inl ((xT g) 1, ln, .inl acc)), (u0m, .inl (lamC kd (xT g) ln am))] 0 0
  refine x_iload_n G rfl dX1_about_0 2 rfl ?_
  refine x_i2l G dX1_about_1 ?_
  refine x_lconst (v := (0 : Int64)) G dX1_about_2 (by decide) ?_
  refine x_ldc2 G q354 dX1_about_3 ?_
  refine x_cPi (As := [.long p1.toInt64, .long (0 : Int64), .long (6 : Int64)]) (rest := []) G (tX1_isIn G.noTraces h) (lw_S q199 q200 q65 q201) cdX1_isIn (by decide) (by decide) rfl (Nat.le_of_ble_eq_true rfl) (Nat.le_of_ble_eq_true rfl) (Nat.le_of_ble_eq_true rfl) dX1_about_6 (fun r_1 h => ?_)
  refine x_if_ne (tgt := 15) G dX1_about_9 rfl (fun c => ?_) (fun c => ?_)
  · replace h := h.1 c
    refine x_aload_n G rfl dX1_about_15 0 rfl ?_
    refine x_get G in_X1 0 rfl rfl 0 (by decide) q159 (fun _ h => h) rfl dX1_about_16 ?_
    refine x_iload_n G rfl dX1_about_19 1 rfl ?_
    obtain ⟨hz, hq, h⟩ := h
    refine x_aald G 1 6 rfl rfl hz dX1_about_20 ?_
    rw [hq]
    show X g 7 21 [(0, .ref h0), (1, .int p0), (2, .int p1)] [.ref u0] [(h0, .inr (0, [.ref lg, .ref e1, .ref e2, .ref e3, .ref rl, .int cur, .ref sh])), (lg, .inl ((xT g) 6, 12, .inr (.inr (.inr (.inr lgf))))), (u0, .inr (lci kd, [.ref u0a, .ref u0d, .ref u0g, .int gc, .ref u0m])), (u0a, .inl ((xT g) 1, ln, .inl acc)), (u0m, .inl (lamC kd (xT g) ln am))] 0 0
    refine x_astore_n (lv' := [(3, .ref u0), (0, .ref h0), (1, .int p0), (2, .int p1)]) G rfl dX1_about_21 (by decide) rfl ?_
    refine x_aload_n G rfl dX1_about_22 0 rfl ?_
    refine x_cUi0 (C := lnm kd) (owner := "RoundingAuditor$Ledger") (x := ⟨"RoundingAuditor$Ledger", "length", "()I"⟩) (wc := [(u0, .inr (lci kd, [.ref u0a, .ref u0d, .ref u0g, .int gc, .ref u0m])), (u0a, .inl ((xT g) 1, ln, .inl acc))]) (As := []) (rest := []) G [(h0, .inr (0, [.ref lg, .ref e1, .ref e2, .ref e3, .ref rl, .int cur, .ref sh])), (lg, .inl ((xT g) 6, 12, .inr (.inr (.inr (.inr lgf))))), (u0m, .inl (lamC kd (xT g) ln am))] (XSub.of [0, 1, 4, 2, 3] rfl (by decide)) (tX4_length G.noTraces h) q661 q663 (va_Decl.of (G.hts _ q662) (G.hts _ q666)) (sL_length kd) q662 q78 q666 cdL_length (lci kd) 2 (lci_at kd) rfl rfl (by decide) (by decide) rfl (Nat.le_of_ble_eq_true rfl) (Nat.le_of_ble_eq_true rfl) (Nat.le_of_ble_eq_true rfl) dX1_about_23 (fun r_2 h => ?_)
    show X g 7 26 [(3, .ref u0), (0, .ref h0), (1, .int p0), (2, .int p1)] [.int r_2] [(h0, .inr (0, [.ref lg, .ref e1, .ref e2, .ref e3, .ref rl, .int cur, .ref sh])), (lg, .inl ((xT g) 6, 12, .inr (.inr (.inr (.inr lgf))))), (u0m, .inl (lamC kd (xT g) ln am)), (u0, .inr (lci kd, [.ref u0a, .ref u0d, .ref u0g, .int gc, .ref u0m])), (u0a, .inl ((xT g) 1, ln, .inl acc))] 0 0
    refine x_istore (lv' := [(4, .int r_2), (3, .ref u0), (0, .ref h0), (1, .int p0), (2, .int p1)]) G dX1_about_26 (by decide) rfl ?_
    refine x_iload_n G rfl dX1_about_28 4 rfl ?_
    refine x_iconst (v := (2 : Int32)) G dX1_about_29 (by decide) ?_
    refine x_icmp_ge (tgt := 55) G dX1_about_30 rfl (fun c => ?_) (fun c => ?_)
    · replace h := h.1 c
      refine x_iconst (v := (0 : Int32)) G dX1_about_55 (by decide) ?_
      refine x_istore (lv' := [(5, .int (0 : Int32)), (4, .int r_2), (3, .ref u0), (0, .ref h0), (1, .int p0), (2, .int p1)]) G dX1_about_56 (by decide) rfl ?_
      refine x_iconst (v := (0 : Int32)) G dX1_about_58 (by decide) ?_
      refine x_istore (lv' := [(6, .int (0 : Int32)), (5, .int (0 : Int32)), (4, .int r_2), (3, .ref u0), (0, .ref h0), (1, .int p0), (2, .int p1)]) G dX1_about_59 (by decide) rfl ?_
      obtain ⟨n0, h⟩ := h
      refine kX1_about_L61 G (fun v5_13 v6_14 h => ?_) n0 _ _ h
      · refine x_iload G dX1_about_98 1 rfl ?_
        exact x_reti0 G Q dX1_about_100 rfl  h (XSub.of [0, 1, 3, 4, 2] rfl (by decide)) (Nat.le_of_ble_eq_true rfl) (Nat.le_of_ble_eq_true rfl)
    · replace h := h.2 c
      refine x_iload_n G rfl dX1_about_33 4 rfl ?_
      refine x_if_ne (tgt := 42) G dX1_about_34 rfl (fun c => ?_) (fun c => ?_)
      · replace h := h.1 c
        refine x_aload_n G rfl dX1_about_42 1 rfl ?_
        refine x_cUi0 (C := lnm kd) (owner := "RoundingAuditor$Ledger") (x := ⟨"RoundingAuditor$Ledger", "isWide", "()Z"⟩) (wc := []) (As := []) (rest := []) G [(h0, .inr (0, [.ref lg, .ref e1, .ref e2, .ref e3, .ref rl, .int cur, .ref sh])), (lg, .inl ((xT g) 6, 12, .inr (.inr (.inr (.inr lgf))))), (u0m, .inl (lamC kd (xT g) ln am)), (u0, .inr (lci kd, [.ref u0a, .ref u0d, .ref u0g, .int gc, .ref u0m])), (u0a, .inl ((xT g) 1, ln, .inl acc))] (XSub.of [0, 1, 2, 3, 4] rfl (by decide)) (tL_isWide kd G.noTraces h) q667 q669 (va_Decl.abs (G.E.2.1.2.2.1 _ (by decide +kernel))) (sL_isWide kd) (hL_isWide kd).1 (hL_isWide kd).2.1 (hL_isWide kd).2.2.1 cdL_isWide (lci kd) 3 (lci_at kd) rfl rfl (by decide) (hL_isWide _).2.2.2 rfl (Nat.le_of_ble_eq_true rfl) (Nat.le_of_ble_eq_true rfl) (Nat.le_of_ble_eq_true rfl) dX1_about_43 (fun r_15 h => ?_)
        show X g 7 46 [(4, .int r_2), (3, .ref u0), (0, .ref h0), (1, .int p0), (2, .int p1)] [.int r_15] [(h0, .inr (0, [.ref lg, .ref e1, .ref e2, .ref e3, .ref rl, .int cur, .ref sh])), (lg, .inl ((xT g) 6, 12, .inr (.inr (.inr (.inr lgf))))), (u0m, .inl (lamC kd (xT g) ln am)), (u0, .inr (lci kd, [.ref u0a, .ref u0d, .ref u0g, .int gc, .ref u0m])), (u0a, .inl ((xT g) 1, ln, .inl acc))] 0 0
        refine x_if_eq (tgt := 53) G dX1_about_46 rfl (fun c => ?_) (fun c => ?_)
        · replace h := h.1 c
          refine x_iconst (v := (0 : Int32)) G dX1_about_53 (by decide) ?_
          exact x_reti0 G Q dX1_about_54 rfl  h (XSub.of [0, 1, 3, 4, 2] rfl (by decide)) (Nat.le_of_ble_eq_true rfl) (Nat.le_of_ble_eq_true rfl)
        · replace h := h.2 c
          refine x_iconst (v := (1 : Int32)) G dX1_about_49 (by decide) ?_
          refine x_goto (tgt := 54) G dX1_about_50 rfl ?_
          exact x_reti0 G Q dX1_about_54 rfl  h (XSub.of [0, 1, 3, 4, 2] rfl (by decide)) (Nat.le_of_ble_eq_true rfl) (Nat.le_of_ble_eq_true rfl)
      · replace h := h.2 c
        refine x_iload G dX1_about_37 0 rfl ?_
        refine x_goto (tgt := 54) G dX1_about_39 rfl ?_
        exact x_reti0 G Q dX1_about_54 rfl  h (XSub.of [0, 1, 3, 4, 2] rfl (by decide)) (Nat.le_of_ble_eq_true rfl) (Nat.le_of_ble_eq_true rfl)
  · replace h := h.2 c
    refine x_bipush (v := (-102 : Int32)) G dX1_about_12 (by decide) ?_
    exact x_reti0 G Q dX1_about_14 rfl  h XSub.rf (Nat.le_of_ble_eq_true rfl) (Nat.le_of_ble_eq_true rfl)
theorem cdX1_filter : yX1_filter.cls = RX1 ∧ yX1_filter.cls ≠ "java/lang/invoke/MethodHandle" ∧ yX1_filter.cls ≠ "java/lang/invoke/VarHandle" ∧ (parseMethodDescriptor yX1_filter.desc).map (fun d => d.parameters.length) = some 3 := by decide +kernel
def wX1_filter_F_L39 (K : Int32 → Prop) (E : String → Prop) : Nat → Int32 → Int32 → Prop
  | 0, _, _ => False
  | n + 1, v6_2, v7_3 => E "java/lang/NullPointerException"
def wX1_filter_F (p0 : Int32) (p1 : Int32) (p2 : Int32) (lgf : Nat → Option Nat) (K : Int32 → Prop) (E : String → Prop) : Prop := (wX1_isIn p2.toInt64 (-1 : Int64) (9 : Int64) (fun (r_1 : Int32) => ((¬ r_1 = (0 : Int32) → ((¬ vp_in p0 12 → E "java/lang/ArrayIndexOutOfBoundsException") ∧ (vp_in p0 12 → ((¬ vp_in p1 12 → E "java/lang/ArrayIndexOutOfBoundsException") ∧ (vp_in p1 12 → ((lgf p1.toNatClampNeg) = none ∧ (∃ m39 : Nat, wX1_filter_F_L39 K E m39 (0 : Int32) (0 : Int32)))))))) ∧ (r_1 = (0 : Int32) → K (-102 : Int32)))))
set_option maxRecDepth 20000 in
theorem kX1_filter_F_L39 {g : XG} {h0 : Nat} {lg : Nat} {e1 : Nat} {e2 : Nat} {e3 : Nat} {rl : Nat} {cur : Int32} {sh : Nat} {lgf : Nat → Option Nat} {p0 : Int32} {p1 : Int32} {p2 : Int32} {K : Int32 → Prop} {E : String → Prop} (G : XO g RX1 cX1_filter 10 3 3 222) (Q : XYi0 g FieldType.int 3 222 ([(h0, .inr (0, [.ref lg, .ref e1, .ref e2, .ref e3, .ref rl, .int cur, .ref sh])), (lg, .inl ((xT g) 6, 12, .inr (.inr (.inr (.inr lgf)))))]) K E) : ∀ (n : Nat) (v6_2 : Int32) (v7_3 : Int32), wX1_filter_F_L39 K E n v6_2 v7_3 → X g 10 39 [(7, .int v7_3), (6, .int v6_2), (5, .null), (0, .ref h0), (1, .int p0), (2, .int p1), (3, .int p2)] [] [(h0, .inr (0, [.ref lg, .ref e1, .ref e2, .ref e3, .ref rl, .int cur, .ref sh])), (lg, .inl ((xT g) 6, 12, .inr (.inr (.inr (.inr lgf)))))] 0 0 := by
  intro n
  induction n with
  | zero => intro _ _ h; exact h.elim
  | succ n ih =>
    intro v6_2 v7_3 h
    unfold wX1_filter_F_L39 at h
    refine x_iload G dX1_filter_39 0 rfl ?_
    refine x_aloadNN G dX1_filter_41 2 rfl ?_
    refine x_invN (z := ⟨"RoundingAuditor$Ledger", "length", "()I"⟩) (As := []) (rest := [.int v7_3]) G q661 (va_Decl.of (G.hts _ q662) (G.hts _ q666)) rfl q665 (show ("RoundingAuditor$Ledger" : String) ≠ "java/lang/invoke/MethodHandle" ∧ ("RoundingAuditor$Ledger" : String) ≠ "java/lang/invoke/VarHandle" ∧ (parseMethodDescriptor "()I").map (fun d => d.parameters.length) = some 0 from by decide +kernel) rfl (Nat.le_of_ble_eq_true rfl) (Nat.le_of_ble_eq_true rfl) (Nat.le_of_ble_eq_true rfl) dX1_filter_43 ?_
    exact x_oi0 G Q h XSub.rf (Nat.le_of_ble_eq_true rfl) (Nat.le_of_ble_eq_true rfl)
set_option maxRecDepth 20000 in
theorem tX1_filter_F {l : Launch} {D : va_G} {ta : Nat → ClassId} {h0 : Nat} {lg : Nat} {e1 : Nat} {e2 : Nat} {e3 : Nat} {rl : Nat} {cur : Int32} {sh : Nat} {lgf : Nat → Option Nat} {p0 : Int32} {p1 : Int32} {p2 : Int32} {K : Int32 → Prop} {E : String → Prop} (hlt : l.stackTraces = false) (h : wX1_filter_F p0 p1 p2 lgf K E) : SXi0 l D ta yX1_filter cX1_filter 10 FieldType.int 3 [.ref h0, .int p0, .int p1, .int p2] [(h0, .inr (0, [.ref lg, .ref e1, .ref e2, .ref e3, .ref rl, .int cur, .ref sh])), (lg, .inl (ta 6, 12, .inr (.inr (.inr (.inr lgf)))))] ([(h0, .inr (0, [.ref lg, .ref e1, .ref e2, .ref e3, .ref rl, .int cur, .ref sh])), (lg, .inl (ta 6, 12, .inr (.inr (.inr (.inr lgf)))))]) 3 222 K E := by
  refine x_sxi0 hlt (by decide +kernel) (Nat.le_of_ble_eq_true rfl) (fun g G hl hD hT hN Q => ?_)
  subst hl; subst hD; subst hT
  unfold wX1_filter_F at h
  show X g 10 0 [(0, .ref h0), (1, .int p0), (2, .int p1), (3, .int p2)] [] [(h0, .inr (0, [.ref lg, .ref e1, .ref e2, .ref e3, .ref rl, .int cur, .ref sh])), (lg, .inl ((xT g) 6, 12, .inr (.inr (.inr (.inr lgf)))))] 0 0
  refine x_iload_n G rfl dX1_filter_0 3 rfl ?_
  refine x_i2l G dX1_filter_1 ?_
  refine x_ldc2 G q710 dX1_filter_2 ?_
  refine x_ldc2 G q388 dX1_filter_5 ?_
  refine x_cPi (As := [.long p2.toInt64, .long (-1 : Int64), .long (9 : Int64)]) (rest := []) G (tX1_isIn G.noTraces h) (lw_S q199 q200 q65 q201) cdX1_isIn (by decide) (by decide) rfl (Nat.le_of_ble_eq_true rfl) (Nat.le_of_ble_eq_true rfl) (Nat.le_of_ble_eq_true rfl) dX1_filter_8 (fun r_1 h => ?_)
  refine x_if_ne (tgt := 17) G dX1_filter_11 rfl (fun c => ?_) (fun c => ?_)
  · replace h := h.1 c
    refine x_aload_n G rfl dX1_filter_17 0 rfl ?_
    refine x_get G in_X1 0 rfl rfl 0 (by decide) q159 (fun _ h => h) rfl dX1_filter_18 ?_
    refine x_iload_n G rfl dX1_filter_21 1 rfl ?_
    by_cases hz : vp_in p0 12
    case neg =>
      replace h := h.1 hz
      refine x_aaldZ G 1 rfl rfl (by decide) hz (Nat.le_of_ble_eq_true rfl) (Nat.le_of_ble_eq_true rfl) (Nat.le_of_ble_eq_true rfl) dX1_filter_22 ?_
      exact x_oi0 G Q h XSub.rf (Nat.le_of_ble_eq_true rfl) (Nat.le_of_ble_eq_true rfl)
    replace h := h.2 hz
    refine x_aald G 1 6 rfl rfl hz dX1_filter_22 ?_
    refine x_astoreQ (lv' := [(4, va_rf (lgf p0.toNatClampNeg)), (0, .ref h0), (1, .int p0), (2, .int p1), (3, .int p2)]) G dX1_filter_23 (by decide) rfl ?_
    refine x_lv (lv' := [(0, .ref h0), (1, .int p0), (2, .int p1), (3, .int p2)]) [1, 2, 3, 4] rfl ?_
    refine x_aload_n G rfl dX1_filter_25 0 rfl ?_
    refine x_get G in_X1 0 rfl rfl 0 (by decide) q159 (fun _ h => h) rfl dX1_filter_26 ?_
    refine x_iload_n G rfl dX1_filter_29 2 rfl ?_
    by_cases hz : vp_in p1 12
    case neg =>
      replace h := h.1 hz
      refine x_aaldZ G 1 rfl rfl (by decide) hz (Nat.le_of_ble_eq_true rfl) (Nat.le_of_ble_eq_true rfl) (Nat.le_of_ble_eq_true rfl) dX1_filter_30 ?_
      exact x_oi0 G Q h XSub.rf (Nat.le_of_ble_eq_true rfl) (Nat.le_of_ble_eq_true rfl)
    replace h := h.2 hz
    obtain ⟨hq, h⟩ := h
    refine x_aald G 1 6 rfl rfl hz dX1_filter_30 ?_
    rw [hq]
    show X g 10 31 [(0, .ref h0), (1, .int p0), (2, .int p1), (3, .int p2)] [.null] [(h0, .inr (0, [.ref lg, .ref e1, .ref e2, .ref e3, .ref rl, .int cur, .ref sh])), (lg, .inl ((xT g) 6, 12, .inr (.inr (.inr (.inr lgf)))))] 0 0
    refine x_astoreN (lv' := [(5, .null), (0, .ref h0), (1, .int p0), (2, .int p1), (3, .int p2)]) G dX1_filter_31 (by decide) rfl ?_
    refine x_iconst (v := (0 : Int32)) G dX1_filter_33 (by decide) ?_
    refine x_istore (lv' := [(6, .int (0 : Int32)), (5, .null), (0, .ref h0), (1, .int p0), (2, .int p1), (3, .int p2)]) G dX1_filter_34 (by decide) rfl ?_
    refine x_iconst (v := (0 : Int32)) G dX1_filter_36 (by decide) ?_
    refine x_istore (lv' := [(7, .int (0 : Int32)), (6, .int (0 : Int32)), (5, .null), (0, .ref h0), (1, .int p0), (2, .int p1), (3, .int p2)]) G dX1_filter_37 (by decide) rfl ?_
    obtain ⟨n0, h⟩ := h
    refine kX1_filter_F_L39 G Q  n0 _ _ h
  · replace h := h.2 c
    refine x_bipush (v := (-102 : Int32)) G dX1_filter_14 (by decide) ?_
    exact x_yi0 G Q dX1_filter_16 rfl  h XSub.rf (Nat.le_of_ble_eq_true rfl) (Nat.le_of_ble_eq_true rfl)
def wX1_filter_L39 (ln : Nat) (acc : Nat → Int32) (p2 : Int32) (X81 : Int32 → Int32 → Prop) : Nat → Int32 → Int32 → Prop
  | 0, _, _ => False
  | n + 1, v6_2, v7_3 => (wX4_length ln (fun (r_4 : Int32) => ((r_4 ≤ v7_3 → X81 v6_2 v7_3) ∧ (¬ r_4 ≤ v7_3 → ((p2 = (-1 : Int32) → (∀ x_5 : Int32, x_5 = (v6_2 + (1 : Int32)) → (∀ x_6 : Int32, x_6 = (v7_3 + (1 : Int32)) → wX1_filter_L39 ln acc p2 X81 n x_5 x_6))) ∧ (¬ p2 = (-1 : Int32) → (wX4_account v7_3 ln acc (fun (r_7 : Int32) => ((¬ r_7 = p2 → (∀ x_8 : Int32, x_8 = (v6_2 + (0 : Int32)) → (∀ x_9 : Int32, x_9 = (v7_3 + (1 : Int32)) → wX1_filter_L39 ln acc p2 X81 n x_8 x_9))) ∧ (r_7 = p2 → (∀ x_10 : Int32, x_10 = (v6_2 + (1 : Int32)) → (∀ x_11 : Int32, x_11 = (v7_3 + (1 : Int32)) → wX1_filter_L39 ln acc p2 X81 n x_10 x_11))))))))))))
def wX1_filter_L96 (kd : Bool) (ln : Nat) (acc : Nat → Int32) (day : Nat → Int32) (am : Nat → UInt64) (p2 : Int32) (v6_14 : Int32) (X142 : Int32 → Int32 → (Nat → Int32) → (Nat → Int32) → (Nat → UInt64) → Prop) : Nat → Int32 → Int32 → (Nat → Int32) → (Nat → Int32) → (Nat → UInt64) → Prop
  | 0, _, _, _, _, _ => False
  | n + 1, v8_22, v9_23, el_7_c_24, el_8_c_25, el_10_c_26 => (wX4_length ln (fun (r_27 : Int32) => ((r_27 ≤ v9_23 → X142 v8_22 v9_23 el_7_c_24 el_8_c_25 el_10_c_26) ∧ (¬ r_27 ≤ v9_23 → ((p2 = (-1 : Int32) → (wX4_copy v8_22 v9_23 kd v6_14.toNatClampNeg el_7_c_24 el_8_c_25 el_10_c_26 kd ln acc day am (fun (acc_28 : Nat → Int32) (day_29 : Nat → Int32) (am_30 : Nat → UInt64) => (∀ x_31 : Int32, x_31 = (v8_22 + (1 : Int32)) → (∀ x_32 : Int32, x_32 = (v9_23 + (1 : Int32)) → wX1_filter_L96 kd ln acc day am p2 v6_14 X142 n x_31 x_32 acc_28 day_29 am_30))))) ∧ (¬ p2 = (-1 : Int32) → (wX4_account v9_23 ln acc (fun (r_33 : Int32) => ((¬ r_33 = p2 → (∀ x_34 : Int32, x_34 = (v9_23 + (1 : Int32)) → wX1_filter_L96 kd ln acc day am p2 v6_14 X142 n v8_22 x_34 el_7_c_24 el_8_c_25 el_10_c_26)) ∧ (r_33 = p2 → (wX4_copy v8_22 v9_23 kd v6_14.toNatClampNeg el_7_c_24 el_8_c_25 el_10_c_26 kd ln acc day am (fun (acc_35 : Nat → Int32) (day_36 : Nat → Int32) (am_37 : Nat → UInt64) => (∀ x_38 : Int32, x_38 = (v8_22 + (1 : Int32)) → (∀ x_39 : Int32, x_39 = (v9_23 + (1 : Int32)) → wX1_filter_L96 kd ln acc day am p2 v6_14 X142 n x_38 x_39 acc_35 day_36 am_37))))))))))))))
def wX1_filter (p0 : Int32) (p1 : Int32) (p2 : Int32) (lgf : Nat → Option Nat) (u0 : Nat) (kd : Bool) (ln : Nat) (acc : Nat → Int32) (day : Nat → Int32) (am : Nat → UInt64) (K : Int32 → (Nat → Option Nat) → Nat → Nat → Nat → Nat → Nat → Nat → (Nat → Int32) → (Nat → Int32) → (Nat → Int32) → (Nat → UInt64) → Prop) : Prop := (wX1_isIn p2.toInt64 (-1 : Int64) (9 : Int64) (fun (r_1 : Int32) => ((¬ r_1 = (0 : Int32) → (vp_in p0 12 ∧ (vp_in p1 12 ∧ ((lgf p1.toNatClampNeg) = some u0 ∧ (∃ m39 : Nat, wX1_filter_L39 ln acc p2 (fun (v6_14 : Int32) (v7_15 : Int32) => (wL_another kd v6_14 (fun (r_16 : Option Nat) (hh_17 : Nat) (b1_18 : Nat) (b2_19 : Nat) (b3_20 : Nat) (b4_21 : Nat) => (r_16 = some hh_17 ∧ (∃ m96 : Nat, wX1_filter_L96 kd ln acc day am p2 v6_14 (fun (v8_45 : Int32) (v9_46 : Int32) (el_7_c_47 : Nat → Int32) (el_8_c_48 : Nat → Int32) (el_10_c_49 : Nat → UInt64) => (vp_in p0 12 ∧ (∀ f_50 : Nat → Option Nat, f_50 = va_up lgf p0.toNatClampNeg (some hh_17) → K v6_14 f_50 hh_17 b1_18 b2_19 b3_20 b4_21 v6_14.toNatClampNeg el_7_c_47 el_8_c_48 (fun _ => 0) el_10_c_49))) m96 (0 : Int32) (0 : Int32) (fun _ => 0) (fun _ => 0) (fun _ => FP.dconst0)))))) m39 (0 : Int32) (0 : Int32)))))) ∧ (r_1 = (0 : Int32) → False))))
set_option maxRecDepth 20000 in
theorem kX1_filter_L39 {g : XG} {h0 : Nat} {lg : Nat} {e1 : Nat} {e2 : Nat} {e3 : Nat} {rl : Nat} {cur : Int32} {sh : Nat} {lgf : Nat → Option Nat} {u0 : Nat} {kd : Bool} {u0a : Nat} {u0d : Nat} {u0g : Nat} {gc : Int32} {u0m : Nat} {ln : Nat} {acc : Nat → Int32} {day : Nat → Int32} {am : Nat → UInt64} {p0 : Int32} {p1 : Int32} {p2 : Int32} {X81 : Int32 → Int32 → Prop} (G : XO g RX1 cX1_filter 10 5 5 245) (hX81 : ∀ (v6_12 : Int32) (v7_13 : Int32), X81 v6_12 v7_13 → X g 10 81 [(7, .int v7_13), (6, .int v6_12), (5, .ref u0), (0, .ref h0), (1, .int p0), (2, .int p1), (3, .int p2)] [] [(h0, .inr (0, [.ref lg, .ref e1, .ref e2, .ref e3, .ref rl, .int cur, .ref sh])), (lg, .inl ((xT g) 6, 12, .inr (.inr (.inr (.inr lgf))))), (u0, .inr (lci kd, [.ref u0a, .ref u0d, .ref u0g, .int gc, .ref u0m])), (u0a, .inl ((xT g) 1, ln, .inl acc)), (u0d, .inl ((xT g) 1, ln, .inl day)), (u0m, .inl (lamC kd (xT g) ln am))] 0 0) : ∀ (n : Nat) (v6_2 : Int32) (v7_3 : Int32), wX1_filter_L39 ln acc p2 X81 n v6_2 v7_3 → X g 10 39 [(7, .int v7_3), (6, .int v6_2), (5, .ref u0), (0, .ref h0), (1, .int p0), (2, .int p1), (3, .int p2)] [] [(h0, .inr (0, [.ref lg, .ref e1, .ref e2, .ref e3, .ref rl, .int cur, .ref sh])), (lg, .inl ((xT g) 6, 12, .inr (.inr (.inr (.inr lgf))))), (u0, .inr (lci kd, [.ref u0a, .ref u0d, .ref u0g, .int gc, .ref u0m])), (u0a, .inl ((xT g) 1, ln, .inl acc)), (u0d, .inl ((xT g) 1, ln, .inl day)), (u0m, .inl (lamC kd (xT g) ln am))] 0 0 := by
  intro n
  induction n with
  | zero => intro _ _ h; exact h.elim
  | succ n ih =>
    intro v6_2 v7_3 h
    unfold wX1_filter_L39 at h
    refine x_iload G dX1_filter_39 0 rfl ?_
    refine x_aload G dX1_filter_41 2 rfl ?_
    refine x_cUi0 (C := lnm kd) (owner := "RoundingAuditor$Ledger") (x := ⟨"RoundingAuditor$Ledger", "length", "()I"⟩) (wc := [(u0, .inr (lci kd, [.ref u0a, .ref u0d, .ref u0g, .int gc, .ref u0m])), (u0a, .inl ((xT g) 1, ln, .inl acc))]) (As := []) (rest := [.int v7_3]) G [(h0, .inr (0, [.ref lg, .ref e1, .ref e2, .ref e3, .ref rl, .int cur, .ref sh])), (lg, .inl ((xT g) 6, 12, .inr (.inr (.inr (.inr lgf))))), (u0d, .inl ((xT g) 1, ln, .inl day)), (u0m, .inl (lamC kd (xT g) ln am))] (XSub.of [0, 1, 4, 5, 2, 3] rfl (by decide)) (tX4_length G.noTraces h) q661 q663 (va_Decl.of (G.hts _ q662) (G.hts _ q666)) (sL_length kd) q662 q78 q666 cdL_length (lci kd) 2 (lci_at kd) rfl rfl (by decide) (by decide) rfl (Nat.le_of_ble_eq_true rfl) (Nat.le_of_ble_eq_true rfl) (Nat.le_of_ble_eq_true rfl) dX1_filter_43 (fun r_4 h => ?_)
    show X g 10 46 [(7, .int v7_3), (6, .int v6_2), (5, .ref u0), (0, .ref h0), (1, .int p0), (2, .int p1), (3, .int p2)] [.int r_4, .int v7_3] [(h0, .inr (0, [.ref lg, .ref e1, .ref e2, .ref e3, .ref rl, .int cur, .ref sh])), (lg, .inl ((xT g) 6, 12, .inr (.inr (.inr (.inr lgf))))), (u0d, .inl ((xT g) 1, ln, .inl day)), (u0m, .inl (lamC kd (xT g) ln am)), (u0, .inr (lci kd, [.ref u0a, .ref u0d, .ref u0g, .int gc, .ref u0m])), (u0a, .inl ((xT g) 1, ln, .inl acc))] 0 0
    refine x_icmp_ge (tgt := 81) G dX1_filter_46 rfl (fun c => ?_) (fun c => ?_)
    · replace h := h.1 c
      refine x_ws (ws' := [(h0, .inr (0, [.ref lg, .ref e1, .ref e2, .ref e3, .ref rl, .int cur, .ref sh])), (lg, .inl ((xT g) 6, 12, .inr (.inr (.inr (.inr lgf))))), (u0, .inr (lci kd, [.ref u0a, .ref u0d, .ref u0g, .int gc, .ref u0m])), (u0a, .inl ((xT g) 1, ln, .inl acc)), (u0d, .inl ((xT g) 1, ln, .inl day)), (u0m, .inl (lamC kd (xT g) ln am))]) (XSub.of [0, 1, 4, 5, 2, 3] rfl (by decide)) ?_
      exact hX81 v6_2 v7_3 h
    · replace h := h.2 c
      refine x_iload G dX1_filter_49 1 rfl ?_
      refine x_iload_n G rfl dX1_filter_51 6 rfl ?_
      refine x_iconst (v := (-1 : Int32)) G dX1_filter_52 (by decide) ?_
      refine x_icmp_eq (tgt := 67) G dX1_filter_53 rfl (fun c => ?_) (fun c => ?_)
      · replace h := h.1 c
        refine x_iconst (v := (1 : Int32)) G dX1_filter_67 (by decide) ?_
        refine x_goto (tgt := 72) G dX1_filter_68 rfl ?_
        refine x_iadd G dX1_filter_72 ?_
        refine x_topi (fun x_5 ex_5 => ?_)
        replace h := h x_5 ex_5
        refine x_istore (lv' := [(6, .int x_5), (7, .int v7_3), (5, .ref u0), (0, .ref h0), (1, .int p0), (2, .int p1), (3, .int p2)]) G dX1_filter_73 (by decide) rfl ?_
        obtain ⟨x_6, ex_6⟩ : ∃ z : Int32, z = (v7_3 + (1 : Int32)) := ⟨_, rfl⟩
        replace h := h x_6 ex_6
        refine x_iinc (v := x_6) (lv' := [(7, .int x_6), (6, .int x_5), (5, .ref u0), (0, .ref h0), (1, .int p0), (2, .int p1), (3, .int p2)]) G dX1_filter_75 1 rfl (by rw [ex_6]; rfl) (by decide) rfl ?_
        refine x_goto (tgt := 39) G dX1_filter_78 rfl ?_
        refine x_ws (ws' := [(h0, .inr (0, [.ref lg, .ref e1, .ref e2, .ref e3, .ref rl, .int cur, .ref sh])), (lg, .inl ((xT g) 6, 12, .inr (.inr (.inr (.inr lgf))))), (u0, .inr (lci kd, [.ref u0a, .ref u0d, .ref u0g, .int gc, .ref u0m])), (u0a, .inl ((xT g) 1, ln, .inl acc)), (u0d, .inl ((xT g) 1, ln, .inl day)), (u0m, .inl (lamC kd (xT g) ln am))]) (XSub.of [0, 1, 4, 5, 2, 3] rfl (by decide)) ?_
        exact ih x_5 x_6 h
      · replace h := h.2 c
        refine x_aload G dX1_filter_56 2 rfl ?_
        refine x_iload G dX1_filter_58 0 rfl ?_
        refine x_cUi0 (C := lnm kd) (owner := "RoundingAuditor$Ledger") (x := ⟨"RoundingAuditor$Ledger", "account", "(I)I"⟩) (wc := [(u0, .inr (lci kd, [.ref u0a, .ref u0d, .ref u0g, .int gc, .ref u0m])), (u0a, .inl ((xT g) 1, ln, .inl acc))]) (As := [.int v7_3]) (rest := [.int v6_2]) G [(h0, .inr (0, [.ref lg, .ref e1, .ref e2, .ref e3, .ref rl, .int cur, .ref sh])), (lg, .inl ((xT g) 6, 12, .inr (.inr (.inr (.inr lgf))))), (u0d, .inl ((xT g) 1, ln, .inl day)), (u0m, .inl (lamC kd (xT g) ln am))] (XSub.of [0, 1, 2, 3, 4, 5] rfl (by decide)) (tX4_account G.noTraces h) q642 q644 (va_Decl.of (G.hts _ q643) (G.hts _ q647)) (sL_account kd) q643 q78 q647 cdL_account (lci kd) 4 (lci_at kd) rfl rfl (by decide) (by decide) rfl (Nat.le_of_ble_eq_true rfl) (Nat.le_of_ble_eq_true rfl) (Nat.le_of_ble_eq_true rfl) dX1_filter_60 (fun r_7 h => ?_)
        show X g 10 63 [(7, .int v7_3), (6, .int v6_2), (5, .ref u0), (0, .ref h0), (1, .int p0), (2, .int p1), (3, .int p2)] [.int r_7, .int v6_2] [(h0, .inr (0, [.ref lg, .ref e1, .ref e2, .ref e3, .ref rl, .int cur, .ref sh])), (lg, .inl ((xT g) 6, 12, .inr (.inr (.inr (.inr lgf))))), (u0d, .inl ((xT g) 1, ln, .inl day)), (u0m, .inl (lamC kd (xT g) ln am)), (u0, .inr (lci kd, [.ref u0a, .ref u0d, .ref u0g, .int gc, .ref u0m])), (u0a, .inl ((xT g) 1, ln, .inl acc))] 0 0
        refine x_iload_n G rfl dX1_filter_63 6 rfl ?_
        refine x_icmp_ne (tgt := 71) G dX1_filter_64 rfl (fun c => ?_) (fun c => ?_)
        · replace h := h.1 c
          refine x_iconst (v := (0 : Int32)) G dX1_filter_71 (by decide) ?_
          refine x_iadd G dX1_filter_72 ?_
          refine x_topi (fun x_8 ex_8 => ?_)
          replace h := h x_8 ex_8
          refine x_istore (lv' := [(6, .int x_8), (7, .int v7_3), (5, .ref u0), (0, .ref h0), (1, .int p0), (2, .int p1), (3, .int p2)]) G dX1_filter_73 (by decide) rfl ?_
          obtain ⟨x_9, ex_9⟩ : ∃ z : Int32, z = (v7_3 + (1 : Int32)) := ⟨_, rfl⟩
          replace h := h x_9 ex_9
          refine x_iinc (v := x_9) (lv' := [(7, .int x_9), (6, .int x_8), (5, .ref u0), (0, .ref h0), (1, .int p0), (2, .int p1), (3, .int p2)]) G dX1_filter_75 1 rfl (by rw [ex_9]; rfl) (by decide) rfl ?_
          refine x_goto (tgt := 39) G dX1_filter_78 rfl ?_
          refine x_ws (ws' := [(h0, .inr (0, [.ref lg, .ref e1, .ref e2, .ref e3, .ref rl, .int cur, .ref sh])), (lg, .inl ((xT g) 6, 12, .inr (.inr (.inr (.inr lgf))))), (u0, .inr (lci kd, [.ref u0a, .ref u0d, .ref u0g, .int gc, .ref u0m])), (u0a, .inl ((xT g) 1, ln, .inl acc)), (u0d, .inl ((xT g) 1, ln, .inl day)), (u0m, .inl (lamC kd (xT g) ln am))]) (XSub.of [0, 1, 4, 5, 2, 3] rfl (by decide)) ?_
          exact ih x_8 x_9 h
        · replace h := h.2 c
          refine x_iconst (v := (1 : Int32)) G dX1_filter_67 (by decide) ?_
          refine x_goto (tgt := 72) G dX1_filter_68 rfl ?_
          refine x_iadd G dX1_filter_72 ?_
          refine x_topi (fun x_10 ex_10 => ?_)
          replace h := h x_10 ex_10
          refine x_istore (lv' := [(6, .int x_10), (7, .int v7_3), (5, .ref u0), (0, .ref h0), (1, .int p0), (2, .int p1), (3, .int p2)]) G dX1_filter_73 (by decide) rfl ?_
          obtain ⟨x_11, ex_11⟩ : ∃ z : Int32, z = (v7_3 + (1 : Int32)) := ⟨_, rfl⟩
          replace h := h x_11 ex_11
          refine x_iinc (v := x_11) (lv' := [(7, .int x_11), (6, .int x_10), (5, .ref u0), (0, .ref h0), (1, .int p0), (2, .int p1), (3, .int p2)]) G dX1_filter_75 1 rfl (by rw [ex_11]; rfl) (by decide) rfl ?_
          refine x_goto (tgt := 39) G dX1_filter_78 rfl ?_
          refine x_ws (ws' := [(h0, .inr (0, [.ref lg, .ref e1, .ref e2, .ref e3, .ref rl, .int cur, .ref sh])), (lg, .inl ((xT g) 6, 12, .inr (.inr (.inr (.inr lgf))))), (u0, .inr (lci kd, [.ref u0a, .ref u0d, .ref u0g, .int gc, .ref u0m])), (u0a, .inl ((xT g) 1, ln, .inl acc)), (u0d, .inl ((xT g) 1, ln, .inl day)), (u0m, .inl (lamC kd (xT g) ln am))]) (XSub.of [0, 1, 4, 5, 2, 3] rfl (by decide)) ?_
          exact ih x_10 x_11 h
set_option maxRecDepth 20000 in
theorem kX1_filter_L96 {g : XG} {h0 : Nat} {lg : Nat} {e1 : Nat} {e2 : Nat} {e3 : Nat} {rl : Nat} {cur : Int32} {sh : Nat} {lgf : Nat → Option Nat} {u0 : Nat} {kd : Bool} {u0a : Nat} {u0d : Nat} {u0g : Nat} {gc : Int32} {u0m : Nat} {ln : Nat} {acc : Nat → Int32} {day : Nat → Int32} {am : Nat → UInt64} {p0 : Int32} {p1 : Int32} {p2 : Int32} {v6_14 : Int32} {hh_17 : Nat} {b1_18 : Nat} {b2_19 : Nat} {b3_20 : Nat} {b4_21 : Nat} {X142 : Int32 → Int32 → (Nat → Int32) → (Nat → Int32) → (Nat → UInt64) → Prop} (G : XO g RX1 cX1_filter 10 5 5 245) (hX142 : ∀ (v8_40 : Int32) (v9_41 : Int32) (el_7_c_42 : Nat → Int32) (el_8_c_43 : Nat → Int32) (el_10_c_44 : Nat → UInt64), X142 v8_40 v9_41 el_7_c_42 el_8_c_43 el_10_c_44 → X g 10 142 [(9, .int v9_41), (8, .int v8_40), (7, .ref hh_17), (6, .int v6_14), (5, .ref u0), (0, .ref h0), (1, .int p0), (2, .int p1), (3, .int p2)] [] [(h0, .inr (0, [.ref lg, .ref e1, .ref e2, .ref e3, .ref rl, .int cur, .ref sh])), (lg, .inl ((xT g) 6, 12, .inr (.inr (.inr (.inr lgf))))), (u0, .inr (lci kd, [.ref u0a, .ref u0d, .ref u0g, .int gc, .ref u0m])), (u0a, .inl ((xT g) 1, ln, .inl acc)), (u0d, .inl ((xT g) 1, ln, .inl day)), (u0m, .inl (lamC kd (xT g) ln am)), (hh_17, .inr (lci kd, [.ref b1_18, .ref b2_19, .ref b3_20, .int (0 : Int32), .ref b4_21])), (b1_18, .inl ((xT g) 1, v6_14.toNatClampNeg, .inl el_7_c_42)), (b2_19, .inl ((xT g) 1, v6_14.toNatClampNeg, .inl el_8_c_43)), (b3_20, .inl ((xT g) 1, v6_14.toNatClampNeg, .inl (fun _ => 0))), (b4_21, .inl (lamC kd (xT g) v6_14.toNatClampNeg el_10_c_44))] 5 245) : ∀ (n : Nat) (v8_22 : Int32) (v9_23 : Int32) (el_7_c_24 : Nat → Int32) (el_8_c_25 : Nat → Int32) (el_10_c_26 : Nat → UInt64), wX1_filter_L96 kd ln acc day am p2 v6_14 X142 n v8_22 v9_23 el_7_c_24 el_8_c_25 el_10_c_26 → X g 10 96 [(9, .int v9_23), (8, .int v8_22), (7, .ref hh_17), (6, .int v6_14), (5, .ref u0), (0, .ref h0), (1, .int p0), (2, .int p1), (3, .int p2)] [] [(h0, .inr (0, [.ref lg, .ref e1, .ref e2, .ref e3, .ref rl, .int cur, .ref sh])), (lg, .inl ((xT g) 6, 12, .inr (.inr (.inr (.inr lgf))))), (u0, .inr (lci kd, [.ref u0a, .ref u0d, .ref u0g, .int gc, .ref u0m])), (u0a, .inl ((xT g) 1, ln, .inl acc)), (u0d, .inl ((xT g) 1, ln, .inl day)), (u0m, .inl (lamC kd (xT g) ln am)), (hh_17, .inr (lci kd, [.ref b1_18, .ref b2_19, .ref b3_20, .int (0 : Int32), .ref b4_21])), (b1_18, .inl ((xT g) 1, v6_14.toNatClampNeg, .inl el_7_c_24)), (b2_19, .inl ((xT g) 1, v6_14.toNatClampNeg, .inl el_8_c_25)), (b3_20, .inl ((xT g) 1, v6_14.toNatClampNeg, .inl (fun _ => 0))), (b4_21, .inl (lamC kd (xT g) v6_14.toNatClampNeg el_10_c_26))] 5 245 := by
  intro n
  induction n with
  | zero => intro _ _ _ _ _ h; exact h.elim
  | succ n ih =>
    intro v8_22 v9_23 el_7_c_24 el_8_c_25 el_10_c_26 h
    unfold wX1_filter_L96 at h
    refine x_iload G dX1_filter_96 0 rfl ?_
    refine x_aload G dX1_filter_98 4 rfl ?_
    refine x_cUi0 (C := lnm kd) (owner := "RoundingAuditor$Ledger") (x := ⟨"RoundingAuditor$Ledger", "length", "()I"⟩) (wc := [(u0, .inr (lci kd, [.ref u0a, .ref u0d, .ref u0g, .int gc, .ref u0m])), (u0a, .inl ((xT g) 1, ln, .inl acc))]) (As := []) (rest := [.int v9_23]) G [(h0, .inr (0, [.ref lg, .ref e1, .ref e2, .ref e3, .ref rl, .int cur, .ref sh])), (lg, .inl ((xT g) 6, 12, .inr (.inr (.inr (.inr lgf))))), (u0d, .inl ((xT g) 1, ln, .inl day)), (u0m, .inl (lamC kd (xT g) ln am)), (hh_17, .inr (lci kd, [.ref b1_18, .ref b2_19, .ref b3_20, .int (0 : Int32), .ref b4_21])), (b1_18, .inl ((xT g) 1, v6_14.toNatClampNeg, .inl el_7_c_24)), (b2_19, .inl ((xT g) 1, v6_14.toNatClampNeg, .inl el_8_c_25)), (b3_20, .inl ((xT g) 1, v6_14.toNatClampNeg, .inl (fun _ => 0))), (b4_21, .inl (lamC kd (xT g) v6_14.toNatClampNeg el_10_c_26))] (XSub.of [0, 1, 4, 5, 6, 7, 8, 9, 10, 2, 3] rfl (by decide)) (tX4_length G.noTraces h) q661 q663 (va_Decl.of (G.hts _ q662) (G.hts _ q666)) (sL_length kd) q662 q78 q666 cdL_length (lci kd) 2 (lci_at kd) rfl rfl (by decide) (by decide) rfl (Nat.le_of_ble_eq_true rfl) (Nat.le_of_ble_eq_true rfl) (Nat.le_of_ble_eq_true rfl) dX1_filter_100 (fun r_27 h => ?_)
    show X g 10 103 [(9, .int v9_23), (8, .int v8_22), (7, .ref hh_17), (6, .int v6_14), (5, .ref u0), (0, .ref h0), (1, .int p0), (2, .int p1), (3, .int p2)] [.int r_27, .int v9_23] [(h0, .inr (0, [.ref lg, .ref e1, .ref e2, .ref e3, .ref rl, .int cur, .ref sh])), (lg, .inl ((xT g) 6, 12, .inr (.inr (.inr (.inr lgf))))), (u0d, .inl ((xT g) 1, ln, .inl day)), (u0m, .inl (lamC kd (xT g) ln am)), (hh_17, .inr (lci kd, [.ref b1_18, .ref b2_19, .ref b3_20, .int (0 : Int32), .ref b4_21])), (b1_18, .inl ((xT g) 1, v6_14.toNatClampNeg, .inl el_7_c_24)), (b2_19, .inl ((xT g) 1, v6_14.toNatClampNeg, .inl el_8_c_25)), (b3_20, .inl ((xT g) 1, v6_14.toNatClampNeg, .inl (fun _ => 0))), (b4_21, .inl (lamC kd (xT g) v6_14.toNatClampNeg el_10_c_26)), (u0, .inr (lci kd, [.ref u0a, .ref u0d, .ref u0g, .int gc, .ref u0m])), (u0a, .inl ((xT g) 1, ln, .inl acc))] 5 245
    refine x_icmp_ge (tgt := 142) G dX1_filter_103 rfl (fun c => ?_) (fun c => ?_)
    · replace h := h.1 c
      refine x_ws (ws' := [(h0, .inr (0, [.ref lg, .ref e1, .ref e2, .ref e3, .ref rl, .int cur, .ref sh])), (lg, .inl ((xT g) 6, 12, .inr (.inr (.inr (.inr lgf))))), (u0, .inr (lci kd, [.ref u0a, .ref u0d, .ref u0g, .int gc, .ref u0m])), (u0a, .inl ((xT g) 1, ln, .inl acc)), (u0d, .inl ((xT g) 1, ln, .inl day)), (u0m, .inl (lamC kd (xT g) ln am)), (hh_17, .inr (lci kd, [.ref b1_18, .ref b2_19, .ref b3_20, .int (0 : Int32), .ref b4_21])), (b1_18, .inl ((xT g) 1, v6_14.toNatClampNeg, .inl el_7_c_24)), (b2_19, .inl ((xT g) 1, v6_14.toNatClampNeg, .inl el_8_c_25)), (b3_20, .inl ((xT g) 1, v6_14.toNatClampNeg, .inl (fun _ => 0))), (b4_21, .inl (lamC kd (xT g) v6_14.toNatClampNeg el_10_c_26))]) (XSub.of [0, 1, 9, 10, 2, 3, 4, 5, 6, 7, 8] rfl (by decide)) ?_
      exact hX142 v8_22 v9_23 el_7_c_24 el_8_c_25 el_10_c_26 h
    · replace h := h.2 c
      refine x_iload_n G rfl dX1_filter_106 8 rfl ?_
      refine x_iconst (v := (-1 : Int32)) G dX1_filter_107 (by decide) ?_
      refine x_icmp_eq (tgt := 122) G dX1_filter_108 rfl (fun c => ?_) (fun c => ?_)
      · replace h := h.1 c
        refine x_aload G dX1_filter_122 2 rfl ?_
        refine x_iload G dX1_filter_124 1 rfl ?_
        refine x_aload G dX1_filter_126 4 rfl ?_
        refine x_iload G dX1_filter_128 0 rfl ?_
        refine x_cUv3 (C := lnm kd) (owner := "RoundingAuditor$Ledger") (x := ⟨"RoundingAuditor$Ledger", "copy", "(ILRoundingAuditor$Ledger;I)V"⟩) (wc := [(hh_17, .inr (lci kd, [.ref b1_18, .ref b2_19, .ref b3_20, .int (0 : Int32), .ref b4_21])), (b1_18, .inl ((xT g) 1, v6_14.toNatClampNeg, .inl el_7_c_24)), (b2_19, .inl ((xT g) 1, v6_14.toNatClampNeg, .inl el_8_c_25)), (b4_21, .inl (lamC kd (xT g) v6_14.toNatClampNeg el_10_c_26)), (u0, .inr (lci kd, [.ref u0a, .ref u0d, .ref u0g, .int gc, .ref u0m])), (u0a, .inl ((xT g) 1, ln, .inl acc)), (u0d, .inl ((xT g) 1, ln, .inl day)), (u0m, .inl (lamC kd (xT g) ln am))]) (As := [.int v8_22, .ref u0, .int v9_23]) (rest := []) G [(h0, .inr (0, [.ref lg, .ref e1, .ref e2, .ref e3, .ref rl, .int cur, .ref sh])), (lg, .inl ((xT g) 6, 12, .inr (.inr (.inr (.inr lgf))))), (b3_20, .inl ((xT g) 1, v6_14.toNatClampNeg, .inl (fun _ => 0)))] (XSub.of [0, 1, 7, 4, 5, 6, 8, 9, 10, 2, 3] rfl (by decide)) (tX4_copy G.noTraces h) q724 q726 (va_Decl.of (G.hts _ q725) (G.hts _ q729)) (sL_copy kd) q725 q78 q729 cdL_copy (lci kd) 4 (lci_at kd) rfl rfl (by decide) (by decide) rfl (Nat.le_of_ble_eq_true rfl) (Nat.le_of_ble_eq_true rfl) (Nat.le_of_ble_eq_true rfl) dX1_filter_130 (fun acc_28 day_29 am_30 h => ?_)
        show X g 10 133 [(9, .int v9_23), (8, .int v8_22), (7, .ref hh_17), (6, .int v6_14), (5, .ref u0), (0, .ref h0), (1, .int p0), (2, .int p1), (3, .int p2)] [] [(h0, .inr (0, [.ref lg, .ref e1, .ref e2, .ref e3, .ref rl, .int cur, .ref sh])), (lg, .inl ((xT g) 6, 12, .inr (.inr (.inr (.inr lgf))))), (b3_20, .inl ((xT g) 1, v6_14.toNatClampNeg, .inl (fun _ => 0))), (hh_17, .inr (lci kd, [.ref b1_18, .ref b2_19, .ref b3_20, .int (0 : Int32), .ref b4_21])), (b1_18, .inl ((xT g) 1, v6_14.toNatClampNeg, .inl acc_28)), (b2_19, .inl ((xT g) 1, v6_14.toNatClampNeg, .inl day_29)), (b4_21, .inl (lamC kd (xT g) v6_14.toNatClampNeg am_30)), (u0, .inr (lci kd, [.ref u0a, .ref u0d, .ref u0g, .int gc, .ref u0m])), (u0a, .inl ((xT g) 1, ln, .inl acc)), (u0d, .inl ((xT g) 1, ln, .inl day)), (u0m, .inl (lamC kd (xT g) ln am))] 5 245
        obtain ⟨x_31, ex_31⟩ : ∃ z : Int32, z = (v8_22 + (1 : Int32)) := ⟨_, rfl⟩
        replace h := h x_31 ex_31
        refine x_iinc (v := x_31) (lv' := [(8, .int x_31), (9, .int v9_23), (7, .ref hh_17), (6, .int v6_14), (5, .ref u0), (0, .ref h0), (1, .int p0), (2, .int p1), (3, .int p2)]) G dX1_filter_133 1 rfl (by rw [ex_31]; rfl) (by decide) rfl ?_
        obtain ⟨x_32, ex_32⟩ : ∃ z : Int32, z = (v9_23 + (1 : Int32)) := ⟨_, rfl⟩
        replace h := h x_32 ex_32
        refine x_iinc (v := x_32) (lv' := [(9, .int x_32), (8, .int x_31), (7, .ref hh_17), (6, .int v6_14), (5, .ref u0), (0, .ref h0), (1, .int p0), (2, .int p1), (3, .int p2)]) G dX1_filter_136 1 rfl (by rw [ex_32]; rfl) (by decide) rfl ?_
        refine x_goto (tgt := 96) G dX1_filter_139 rfl ?_
        refine x_ws (ws' := [(h0, .inr (0, [.ref lg, .ref e1, .ref e2, .ref e3, .ref rl, .int cur, .ref sh])), (lg, .inl ((xT g) 6, 12, .inr (.inr (.inr (.inr lgf))))), (u0, .inr (lci kd, [.ref u0a, .ref u0d, .ref u0g, .int gc, .ref u0m])), (u0a, .inl ((xT g) 1, ln, .inl acc)), (u0d, .inl ((xT g) 1, ln, .inl day)), (u0m, .inl (lamC kd (xT g) ln am)), (hh_17, .inr (lci kd, [.ref b1_18, .ref b2_19, .ref b3_20, .int (0 : Int32), .ref b4_21])), (b1_18, .inl ((xT g) 1, v6_14.toNatClampNeg, .inl acc_28)), (b2_19, .inl ((xT g) 1, v6_14.toNatClampNeg, .inl day_29)), (b3_20, .inl ((xT g) 1, v6_14.toNatClampNeg, .inl (fun _ => 0))), (b4_21, .inl (lamC kd (xT g) v6_14.toNatClampNeg am_30))]) (XSub.of [0, 1, 7, 8, 9, 10, 3, 4, 5, 2, 6] rfl (by decide)) ?_
        exact ih x_31 x_32 acc_28 day_29 am_30 h
      · replace h := h.2 c
        refine x_aload G dX1_filter_111 4 rfl ?_
        refine x_iload G dX1_filter_113 0 rfl ?_
        refine x_cUi0 (C := lnm kd) (owner := "RoundingAuditor$Ledger") (x := ⟨"RoundingAuditor$Ledger", "account", "(I)I"⟩) (wc := [(u0, .inr (lci kd, [.ref u0a, .ref u0d, .ref u0g, .int gc, .ref u0m])), (u0a, .inl ((xT g) 1, ln, .inl acc))]) (As := [.int v9_23]) (rest := []) G [(h0, .inr (0, [.ref lg, .ref e1, .ref e2, .ref e3, .ref rl, .int cur, .ref sh])), (lg, .inl ((xT g) 6, 12, .inr (.inr (.inr (.inr lgf))))), (u0d, .inl ((xT g) 1, ln, .inl day)), (u0m, .inl (lamC kd (xT g) ln am)), (hh_17, .inr (lci kd, [.ref b1_18, .ref b2_19, .ref b3_20, .int (0 : Int32), .ref b4_21])), (b1_18, .inl ((xT g) 1, v6_14.toNatClampNeg, .inl el_7_c_24)), (b2_19, .inl ((xT g) 1, v6_14.toNatClampNeg, .inl el_8_c_25)), (b3_20, .inl ((xT g) 1, v6_14.toNatClampNeg, .inl (fun _ => 0))), (b4_21, .inl (lamC kd (xT g) v6_14.toNatClampNeg el_10_c_26))] (XSub.of [0, 1, 2, 3, 4, 5, 6, 7, 8, 9, 10] rfl (by decide)) (tX4_account G.noTraces h) q642 q644 (va_Decl.of (G.hts _ q643) (G.hts _ q647)) (sL_account kd) q643 q78 q647 cdL_account (lci kd) 9 (lci_at kd) rfl rfl (by decide) (by decide) rfl (Nat.le_of_ble_eq_true rfl) (Nat.le_of_ble_eq_true rfl) (Nat.le_of_ble_eq_true rfl) dX1_filter_115 (fun r_33 h => ?_)
        show X g 10 118 [(9, .int v9_23), (8, .int v8_22), (7, .ref hh_17), (6, .int v6_14), (5, .ref u0), (0, .ref h0), (1, .int p0), (2, .int p1), (3, .int p2)] [.int r_33] [(h0, .inr (0, [.ref lg, .ref e1, .ref e2, .ref e3, .ref rl, .int cur, .ref sh])), (lg, .inl ((xT g) 6, 12, .inr (.inr (.inr (.inr lgf))))), (u0d, .inl ((xT g) 1, ln, .inl day)), (u0m, .inl (lamC kd (xT g) ln am)), (hh_17, .inr (lci kd, [.ref b1_18, .ref b2_19, .ref b3_20, .int (0 : Int32), .ref b4_21])), (b1_18, .inl ((xT g) 1, v6_14.toNatClampNeg, .inl el_7_c_24)), (b2_19, .inl ((xT g) 1, v6_14.toNatClampNeg, .inl el_8_c_25)), (b3_20, .inl ((xT g) 1, v6_14.toNatClampNeg, .inl (fun _ => 0))), (b4_21, .inl (lamC kd (xT g) v6_14.toNatClampNeg el_10_c_26)), (u0, .inr (lci kd, [.ref u0a, .ref u0d, .ref u0g, .int gc, .ref u0m])), (u0a, .inl ((xT g) 1, ln, .inl acc))] 5 245
        refine x_iload_n G rfl dX1_filter_118 8 rfl ?_
        refine x_icmp_ne (tgt := 136) G dX1_filter_119 rfl (fun c => ?_) (fun c => ?_)
        · replace h := h.1 c
          obtain ⟨x_34, ex_34⟩ : ∃ z : Int32, z = (v9_23 + (1 : Int32)) := ⟨_, rfl⟩
          replace h := h x_34 ex_34
          refine x_iinc (v := x_34) (lv' := [(9, .int x_34), (8, .int v8_22), (7, .ref hh_17), (6, .int v6_14), (5, .ref u0), (0, .ref h0), (1, .int p0), (2, .int p1), (3, .int p2)]) G dX1_filter_136 0 rfl (by rw [ex_34]; rfl) (by decide) rfl ?_
          refine x_goto (tgt := 96) G dX1_filter_139 rfl ?_
          refine x_ws (ws' := [(h0, .inr (0, [.ref lg, .ref e1, .ref e2, .ref e3, .ref rl, .int cur, .ref sh])), (lg, .inl ((xT g) 6, 12, .inr (.inr (.inr (.inr lgf))))), (u0, .inr (lci kd, [.ref u0a, .ref u0d, .ref u0g, .int gc, .ref u0m])), (u0a, .inl ((xT g) 1, ln, .inl acc)), (u0d, .inl ((xT g) 1, ln, .inl day)), (u0m, .inl (lamC kd (xT g) ln am)), (hh_17, .inr (lci kd, [.ref b1_18, .ref b2_19, .ref b3_20, .int (0 : Int32), .ref b4_21])), (b1_18, .inl ((xT g) 1, v6_14.toNatClampNeg, .inl el_7_c_24)), (b2_19, .inl ((xT g) 1, v6_14.toNatClampNeg, .inl el_8_c_25)), (b3_20, .inl ((xT g) 1, v6_14.toNatClampNeg, .inl (fun _ => 0))), (b4_21, .inl (lamC kd (xT g) v6_14.toNatClampNeg el_10_c_26))]) (XSub.of [0, 1, 9, 10, 2, 3, 4, 5, 6, 7, 8] rfl (by decide)) ?_
          exact ih v8_22 x_34 el_7_c_24 el_8_c_25 el_10_c_26 h
        · replace h := h.2 c
          refine x_aload G dX1_filter_122 2 rfl ?_
          refine x_iload G dX1_filter_124 1 rfl ?_
          refine x_aload G dX1_filter_126 4 rfl ?_
          refine x_iload G dX1_filter_128 0 rfl ?_
          refine x_cUv3 (C := lnm kd) (owner := "RoundingAuditor$Ledger") (x := ⟨"RoundingAuditor$Ledger", "copy", "(ILRoundingAuditor$Ledger;I)V"⟩) (wc := [(hh_17, .inr (lci kd, [.ref b1_18, .ref b2_19, .ref b3_20, .int (0 : Int32), .ref b4_21])), (b1_18, .inl ((xT g) 1, v6_14.toNatClampNeg, .inl el_7_c_24)), (b2_19, .inl ((xT g) 1, v6_14.toNatClampNeg, .inl el_8_c_25)), (b4_21, .inl (lamC kd (xT g) v6_14.toNatClampNeg el_10_c_26)), (u0, .inr (lci kd, [.ref u0a, .ref u0d, .ref u0g, .int gc, .ref u0m])), (u0a, .inl ((xT g) 1, ln, .inl acc)), (u0d, .inl ((xT g) 1, ln, .inl day)), (u0m, .inl (lamC kd (xT g) ln am))]) (As := [.int v8_22, .ref u0, .int v9_23]) (rest := []) G [(h0, .inr (0, [.ref lg, .ref e1, .ref e2, .ref e3, .ref rl, .int cur, .ref sh])), (lg, .inl ((xT g) 6, 12, .inr (.inr (.inr (.inr lgf))))), (b3_20, .inl ((xT g) 1, v6_14.toNatClampNeg, .inl (fun _ => 0)))] (XSub.of [0, 1, 7, 4, 5, 6, 8, 9, 10, 2, 3] rfl (by decide)) (tX4_copy G.noTraces h) q724 q726 (va_Decl.of (G.hts _ q725) (G.hts _ q729)) (sL_copy kd) q725 q78 q729 cdL_copy (lci kd) 4 (lci_at kd) rfl rfl (by decide) (by decide) rfl (Nat.le_of_ble_eq_true rfl) (Nat.le_of_ble_eq_true rfl) (Nat.le_of_ble_eq_true rfl) dX1_filter_130 (fun acc_35 day_36 am_37 h => ?_)
          show X g 10 133 [(9, .int v9_23), (8, .int v8_22), (7, .ref hh_17), (6, .int v6_14), (5, .ref u0), (0, .ref h0), (1, .int p0), (2, .int p1), (3, .int p2)] [] [(h0, .inr (0, [.ref lg, .ref e1, .ref e2, .ref e3, .ref rl, .int cur, .ref sh])), (lg, .inl ((xT g) 6, 12, .inr (.inr (.inr (.inr lgf))))), (b3_20, .inl ((xT g) 1, v6_14.toNatClampNeg, .inl (fun _ => 0))), (hh_17, .inr (lci kd, [.ref b1_18, .ref b2_19, .ref b3_20, .int (0 : Int32), .ref b4_21])), (b1_18, .inl ((xT g) 1, v6_14.toNatClampNeg, .inl acc_35)), (b2_19, .inl ((xT g) 1, v6_14.toNatClampNeg, .inl day_36)), (b4_21, .inl (lamC kd (xT g) v6_14.toNatClampNeg am_37)), (u0, .inr (lci kd, [.ref u0a, .ref u0d, .ref u0g, .int gc, .ref u0m])), (u0a, .inl ((xT g) 1, ln, .inl acc)), (u0d, .inl ((xT g) 1, ln, .inl day)), (u0m, .inl (lamC kd (xT g) ln am))] 5 245
          obtain ⟨x_38, ex_38⟩ : ∃ z : Int32, z = (v8_22 + (1 : Int32)) := ⟨_, rfl⟩
          replace h := h x_38 ex_38
          refine x_iinc (v := x_38) (lv' := [(8, .int x_38), (9, .int v9_23), (7, .ref hh_17), (6, .int v6_14), (5, .ref u0), (0, .ref h0), (1, .int p0), (2, .int p1), (3, .int p2)]) G dX1_filter_133 1 rfl (by rw [ex_38]; rfl) (by decide) rfl ?_
          obtain ⟨x_39, ex_39⟩ : ∃ z : Int32, z = (v9_23 + (1 : Int32)) := ⟨_, rfl⟩
          replace h := h x_39 ex_39
          refine x_iinc (v := x_39) (lv' := [(9, .int x_39), (8, .int x_38), (7, .ref hh_17), (6, .int v6_14), (5, .ref u0), (0, .ref h0), (1, .int p0), (2, .int p1), (3, .int p2)]) G dX1_filter_136 1 rfl (by rw [ex_39]; rfl) (by decide) rfl ?_
          refine x_goto (tgt := 96) G dX1_filter_139 rfl ?_
          refine x_ws (ws' := [(h0, .inr (0, [.ref lg, .ref e1, .ref e2, .ref e3, .ref rl, .int cur, .ref sh])), (lg, .inl ((xT g) 6, 12, .inr (.inr (.inr (.inr lgf))))), (u0, .inr (lci kd, [.ref u0a, .ref u0d, .ref u0g, .int gc, .ref u0m])), (u0a, .inl ((xT g) 1, ln, .inl acc)), (u0d, .inl ((xT g) 1, ln, .inl day)), (u0m, .inl (lamC kd (xT g) ln am)), (hh_17, .inr (lci kd, [.ref b1_18, .ref b2_19, .ref b3_20, .int (0 : Int32), .ref b4_21])), (b1_18, .inl ((xT g) 1, v6_14.toNatClampNeg, .inl acc_35)), (b2_19, .inl ((xT g) 1, v6_14.toNatClampNeg, .inl day_36)), (b3_20, .inl ((xT g) 1, v6_14.toNatClampNeg, .inl (fun _ => 0))), (b4_21, .inl (lamC kd (xT g) v6_14.toNatClampNeg am_37))]) (XSub.of [0, 1, 7, 8, 9, 10, 3, 4, 5, 2, 6] rfl (by decide)) ?_
          exact ih x_38 x_39 acc_35 day_36 am_37 h
set_option maxRecDepth 20000 in
theorem tX1_filter {l : Launch} {D : va_G} {ta : Nat → ClassId} {h0 : Nat} {lg : Nat} {e1 : Nat} {e2 : Nat} {e3 : Nat} {rl : Nat} {cur : Int32} {sh : Nat} {lgf : Nat → Option Nat} {u0 : Nat} {kd : Bool} {u0a : Nat} {u0d : Nat} {u0g : Nat} {gc : Int32} {u0m : Nat} {ln : Nat} {acc : Nat → Int32} {day : Nat → Int32} {am : Nat → UInt64} {p0 : Int32} {p1 : Int32} {p2 : Int32} {K : Int32 → (Nat → Option Nat) → Nat → Nat → Nat → Nat → Nat → Nat → (Nat → Int32) → (Nat → Int32) → (Nat → Int32) → (Nat → UInt64) → Prop} (hlt : l.stackTraces = false) (h : wX1_filter p0 p1 p2 lgf u0 kd ln acc day am K) : SMi11 l D ta yX1_filter cX1_filter 10 FieldType.int 5 [.ref h0, .int p0, .int p1, .int p2] [(h0, .inr (0, [.ref lg, .ref e1, .ref e2, .ref e3, .ref rl, .int cur, .ref sh])), (lg, .inl (ta 6, 12, .inr (.inr (.inr (.inr lgf))))), (u0, .inr (lci kd, [.ref u0a, .ref u0d, .ref u0g, .int gc, .ref u0m])), (u0a, .inl (ta 1, ln, .inl acc)), (u0d, .inl (ta 1, ln, .inl day)), (u0m, .inl (lamC kd ta ln am))] (fun (lgf' : Nat → Option Nat) (nw : Nat) (b1 : Nat) (b2 : Nat) (b3 : Nat) (b4 : Nat) (nn : Nat) (ac9 : Nat → Int32) (da9 : Nat → Int32) (gi9 : Nat → Int32) (am9 : Nat → UInt64) => [(h0, .inr (0, [.ref lg, .ref e1, .ref e2, .ref e3, .ref rl, .int cur, .ref sh])), (lg, .inl (ta 6, 12, .inr (.inr (.inr (.inr lgf'))))), (u0, .inr (lci kd, [.ref u0a, .ref u0d, .ref u0g, .int gc, .ref u0m])), (u0a, .inl (ta 1, ln, .inl acc)), (u0d, .inl (ta 1, ln, .inl day)), (u0m, .inl (lamC kd ta ln am)), (nw, .inr (lci kd, [.ref b1, .ref b2, .ref b3, .int (0 : Int32), .ref b4])), (b1, .inl (ta 1, nn, .inl ac9)), (b2, .inl (ta 1, nn, .inl da9)), (b3, .inl (ta 1, nn, .inl gi9)), (b4, .inl (lamC kd ta nn am9))]) 5 245 K := by
  refine x_sti11 hlt (plainFor_of_name (by decide +kernel)) (Nat.le_of_ble_eq_true rfl) (fun g G hl hD hT Q => ?_)
  subst hl; subst hD; subst hT
  unfold wX1_filter at h
  show X g 10 0 [(0, .ref h0), (1, .int p0), (2, .int p1), (3, .int p2)] [] [(h0, .inr (0, [.ref lg, .ref e1, .ref e2, .ref e3, .ref rl, .int cur, .ref sh])), (lg, .inl ((xT g) 6, 12, .inr (.inr (.inr (.inr lgf))))), (u0, .inr (lci kd, [.ref u0a, .ref u0d, .ref u0g, .int gc, .ref u0m])), (u0a, .inl ((xT g) 1, ln, .inl acc)), (u0d, .inl ((xT g) 1, ln, .inl day)), (u0m, .inl (lamC kd (xT g) ln am))] 0 0
  refine x_iload_n G rfl dX1_filter_0 3 rfl ?_
  refine x_i2l G dX1_filter_1 ?_
  refine x_ldc2 G q710 dX1_filter_2 ?_
  refine x_ldc2 G q388 dX1_filter_5 ?_
  refine x_cPi (As := [.long p2.toInt64, .long (-1 : Int64), .long (9 : Int64)]) (rest := []) G (tX1_isIn G.noTraces h) (lw_S q199 q200 q65 q201) cdX1_isIn (by decide) (by decide) rfl (Nat.le_of_ble_eq_true rfl) (Nat.le_of_ble_eq_true rfl) (Nat.le_of_ble_eq_true rfl) dX1_filter_8 (fun r_1 h => ?_)
  refine x_if_ne (tgt := 17) G dX1_filter_11 rfl (fun c => ?_) (fun c => ?_)
  · replace h := h.1 c
    refine x_aload_n G rfl dX1_filter_17 0 rfl ?_
    refine x_get G in_X1 0 rfl rfl 0 (by decide) q159 (fun _ h => h) rfl dX1_filter_18 ?_
    refine x_iload_n G rfl dX1_filter_21 1 rfl ?_
    obtain ⟨hz, h⟩ := h
    refine x_aald G 1 6 rfl rfl hz dX1_filter_22 ?_
    refine x_astoreQ (lv' := [(4, va_rf (lgf p0.toNatClampNeg)), (0, .ref h0), (1, .int p0), (2, .int p1), (3, .int p2)]) G dX1_filter_23 (by decide) rfl ?_
    refine x_lv (lv' := [(0, .ref h0), (1, .int p0), (2, .int p1), (3, .int p2)]) [1, 2, 3, 4] rfl ?_
    refine x_aload_n G rfl dX1_filter_25 0 rfl ?_
    refine x_get G in_X1 0 rfl rfl 0 (by decide) q159 (fun _ h => h) rfl dX1_filter_26 ?_
    refine x_iload_n G rfl dX1_filter_29 2 rfl ?_
    obtain ⟨hz, hq, h⟩ := h
    refine x_aald G 1 6 rfl rfl hz dX1_filter_30 ?_
    rw [hq]
    show X g 10 31 [(0, .ref h0), (1, .int p0), (2, .int p1), (3, .int p2)] [.ref u0] [(h0, .inr (0, [.ref lg, .ref e1, .ref e2, .ref e3, .ref rl, .int cur, .ref sh])), (lg, .inl ((xT g) 6, 12, .inr (.inr (.inr (.inr lgf))))), (u0, .inr (lci kd, [.ref u0a, .ref u0d, .ref u0g, .int gc, .ref u0m])), (u0a, .inl ((xT g) 1, ln, .inl acc)), (u0d, .inl ((xT g) 1, ln, .inl day)), (u0m, .inl (lamC kd (xT g) ln am))] 0 0
    refine x_astore (lv' := [(5, .ref u0), (0, .ref h0), (1, .int p0), (2, .int p1), (3, .int p2)]) G dX1_filter_31 (by decide) rfl ?_
    refine x_iconst (v := (0 : Int32)) G dX1_filter_33 (by decide) ?_
    refine x_istore (lv' := [(6, .int (0 : Int32)), (5, .ref u0), (0, .ref h0), (1, .int p0), (2, .int p1), (3, .int p2)]) G dX1_filter_34 (by decide) rfl ?_
    refine x_iconst (v := (0 : Int32)) G dX1_filter_36 (by decide) ?_
    refine x_istore (lv' := [(7, .int (0 : Int32)), (6, .int (0 : Int32)), (5, .ref u0), (0, .ref h0), (1, .int p0), (2, .int p1), (3, .int p2)]) G dX1_filter_37 (by decide) rfl ?_
    obtain ⟨n0, h⟩ := h
    refine kX1_filter_L39 G (fun v6_14 v7_15 h => ?_) n0 _ _ h
    · refine x_aload G dX1_filter_81 2 rfl ?_
      refine x_iload G dX1_filter_83 1 rfl ?_
      refine x_cUq5 (C := lnm kd) (owner := "RoundingAuditor$Ledger") (x := ⟨"RoundingAuditor$Ledger", "another", "(I)LRoundingAuditor$Ledger;"⟩) (wc := []) (As := [.int v6_14]) (rest := []) G [(h0, .inr (0, [.ref lg, .ref e1, .ref e2, .ref e3, .ref rl, .int cur, .ref sh])), (lg, .inl ((xT g) 6, 12, .inr (.inr (.inr (.inr lgf))))), (u0, .inr (lci kd, [.ref u0a, .ref u0d, .ref u0g, .int gc, .ref u0m])), (u0a, .inl ((xT g) 1, ln, .inl acc)), (u0d, .inl ((xT g) 1, ln, .inl day)), (u0m, .inl (lamC kd (xT g) ln am))] (XSub.of [0, 1, 2, 3, 4, 5] rfl (by decide)) (tL_another kd G.noTraces h) q711 q713 (va_Decl.abs (G.E.2.1.2.2.1 _ (by decide +kernel))) (sL_another kd) (hL_another kd).1 (hL_another kd).2.1 (hL_another kd).2.2.1 cdL_another (lci kd) 2 (lci_at kd) rfl rfl (by decide) (hL_another _).2.2.2 rfl (Nat.le_of_ble_eq_true rfl) (Nat.le_of_ble_eq_true rfl) (Nat.le_of_ble_eq_true rfl) dX1_filter_85 (fun r_16 hh_17 b1_18 b2_19 b3_20 b4_21 h => ?_)
      obtain ⟨hq, h⟩ := h
      subst hq
      show X g 10 88 [(7, .int v7_15), (6, .int v6_14), (5, .ref u0), (0, .ref h0), (1, .int p0), (2, .int p1), (3, .int p2)] [.ref hh_17] [(h0, .inr (0, [.ref lg, .ref e1, .ref e2, .ref e3, .ref rl, .int cur, .ref sh])), (lg, .inl ((xT g) 6, 12, .inr (.inr (.inr (.inr lgf))))), (u0, .inr (lci kd, [.ref u0a, .ref u0d, .ref u0g, .int gc, .ref u0m])), (u0a, .inl ((xT g) 1, ln, .inl acc)), (u0d, .inl ((xT g) 1, ln, .inl day)), (u0m, .inl (lamC kd (xT g) ln am)), (hh_17, .inr (lci kd, [.ref b1_18, .ref b2_19, .ref b3_20, .int (0 : Int32), .ref b4_21])), (b1_18, .inl ((xT g) 1, v6_14.toNatClampNeg, .inl (fun _ => 0))), (b2_19, .inl ((xT g) 1, v6_14.toNatClampNeg, .inl (fun _ => 0))), (b3_20, .inl ((xT g) 1, v6_14.toNatClampNeg, .inl (fun _ => 0))), (b4_21, .inl (lamC kd (xT g) v6_14.toNatClampNeg (fun _ => FP.dconst0)))] 5 245
      refine x_astore (lv' := [(7, .ref hh_17), (6, .int v6_14), (5, .ref u0), (0, .ref h0), (1, .int p0), (2, .int p1), (3, .int p2)]) G dX1_filter_88 (by decide) rfl ?_
      refine x_iconst (v := (0 : Int32)) G dX1_filter_90 (by decide) ?_
      refine x_istore (lv' := [(8, .int (0 : Int32)), (7, .ref hh_17), (6, .int v6_14), (5, .ref u0), (0, .ref h0), (1, .int p0), (2, .int p1), (3, .int p2)]) G dX1_filter_91 (by decide) rfl ?_
      refine x_iconst (v := (0 : Int32)) G dX1_filter_93 (by decide) ?_
      refine x_istore (lv' := [(9, .int (0 : Int32)), (8, .int (0 : Int32)), (7, .ref hh_17), (6, .int v6_14), (5, .ref u0), (0, .ref h0), (1, .int p0), (2, .int p1), (3, .int p2)]) G dX1_filter_94 (by decide) rfl ?_
      obtain ⟨n0, h⟩ := h
      refine kX1_filter_L96 G (fun v8_45 v9_46 el_7_c_47 el_8_c_48 el_10_c_49 h => ?_) n0 _ _ _ _ _ h
      · refine x_aload_n G rfl dX1_filter_142 5 rfl ?_
        refine x_get G in_X1 0 rfl rfl 0 (by decide) q159 (fun _ h => h) rfl dX1_filter_143 ?_
        refine x_iload_n G rfl dX1_filter_146 6 rfl ?_
        refine x_aload G dX1_filter_147 2 rfl ?_
        obtain ⟨hz, h⟩ := h
        obtain ⟨f_50, ef_50⟩ : ∃ z : Nat → Option Nat, z = va_up lgf p0.toNatClampNeg (some hh_17) := ⟨_, rfl⟩
        replace h := h f_50 ef_50
        refine x_aast G 1 6 6 rfl rfl (lnm_cast kd) rfl (lci_at kd) hz (by rw [← ef_50]) dX1_filter_149 ?_
        show X g 10 150 [(9, .int v9_46), (8, .int v8_45), (7, .ref hh_17), (6, .int v6_14), (5, .ref u0), (0, .ref h0), (1, .int p0), (2, .int p1), (3, .int p2)] [] [(h0, .inr (0, [.ref lg, .ref e1, .ref e2, .ref e3, .ref rl, .int cur, .ref sh])), (lg, .inl ((xT g) 6, 12, .inr (.inr (.inr (.inr f_50))))), (u0, .inr (lci kd, [.ref u0a, .ref u0d, .ref u0g, .int gc, .ref u0m])), (u0a, .inl ((xT g) 1, ln, .inl acc)), (u0d, .inl ((xT g) 1, ln, .inl day)), (u0m, .inl (lamC kd (xT g) ln am)), (hh_17, .inr (lci kd, [.ref b1_18, .ref b2_19, .ref b3_20, .int (0 : Int32), .ref b4_21])), (b1_18, .inl ((xT g) 1, v6_14.toNatClampNeg, .inl el_7_c_47)), (b2_19, .inl ((xT g) 1, v6_14.toNatClampNeg, .inl el_8_c_48)), (b3_20, .inl ((xT g) 1, v6_14.toNatClampNeg, .inl (fun _ => 0))), (b4_21, .inl (lamC kd (xT g) v6_14.toNatClampNeg el_10_c_49))] 5 245
        refine x_iload G dX1_filter_150 3 rfl ?_
        exact x_reti11 G Q dX1_filter_152 rfl f_50 hh_17 b1_18 b2_19 b3_20 b4_21 v6_14.toNatClampNeg el_7_c_47 el_8_c_48 (fun _ => 0) el_10_c_49 h XSub.rf (Nat.le_of_ble_eq_true rfl) (Nat.le_of_ble_eq_true rfl)
  · replace h := h.2 c
    exact h.elim
theorem cdX1_mix : yX1_mix.cls = RX1 ∧ yX1_mix.cls ≠ "java/lang/invoke/MethodHandle" ∧ yX1_mix.cls ≠ "java/lang/invoke/VarHandle" ∧ (parseMethodDescriptor yX1_mix.desc).map (fun d => d.parameters.length) = some 3 := by decide +kernel
def wX1_mix_F (p0 : Int32) (p1 : Int32) (p2 : Int32) (lgf : Nat → Option Nat) (K : Int32 → Prop) (E : String → Prop) : Prop := ((¬ vp_in p0 12 → E "java/lang/ArrayIndexOutOfBoundsException") ∧ (vp_in p0 12 → ((¬ vp_in p1 12 → E "java/lang/ArrayIndexOutOfBoundsException") ∧ (vp_in p1 12 → ((lgf p1.toNatClampNeg) = none ∧ E "java/lang/NullPointerException")))))
set_option maxRecDepth 20000 in
theorem tX1_mix_F {l : Launch} {D : va_G} {ta : Nat → ClassId} {h0 : Nat} {lg : Nat} {e1 : Nat} {e2 : Nat} {e3 : Nat} {rl : Nat} {cur : Int32} {sh : Nat} {lgf : Nat → Option Nat} {p0 : Int32} {p1 : Int32} {p2 : Int32} {K : Int32 → Prop} {E : String → Prop} (hlt : l.stackTraces = false) (h : wX1_mix_F p0 p1 p2 lgf K E) : SXi0 l D ta yX1_mix cX1_mix 12 FieldType.int 3 [.ref h0, .int p0, .int p1, .int p2] [(h0, .inr (0, [.ref lg, .ref e1, .ref e2, .ref e3, .ref rl, .int cur, .ref sh])), (lg, .inl (ta 6, 12, .inr (.inr (.inr (.inr lgf)))))] ([(h0, .inr (0, [.ref lg, .ref e1, .ref e2, .ref e3, .ref rl, .int cur, .ref sh])), (lg, .inl (ta 6, 12, .inr (.inr (.inr (.inr lgf)))))]) 3 222 K E := by
  refine x_sxi0 hlt (by decide +kernel) (Nat.le_of_ble_eq_true rfl) (fun g G hl hD hT hN Q => ?_)
  subst hl; subst hD; subst hT
  unfold wX1_mix_F at h
  show X g 12 0 [(0, .ref h0), (1, .int p0), (2, .int p1), (3, .int p2)] [] [(h0, .inr (0, [.ref lg, .ref e1, .ref e2, .ref e3, .ref rl, .int cur, .ref sh])), (lg, .inl ((xT g) 6, 12, .inr (.inr (.inr (.inr lgf)))))] 0 0
  refine x_aload_n G rfl dX1_mix_0 0 rfl ?_
  refine x_get G in_X1 0 rfl rfl 0 (by decide) q159 (fun _ h => h) rfl dX1_mix_1 ?_
  refine x_iload_n G rfl dX1_mix_4 1 rfl ?_
  by_cases hz : vp_in p0 12
  case neg =>
    replace h := h.1 hz
    refine x_aaldZ G 1 rfl rfl (by decide) hz (Nat.le_of_ble_eq_true rfl) (Nat.le_of_ble_eq_true rfl) (Nat.le_of_ble_eq_true rfl) dX1_mix_5 ?_
    exact x_oi0 G Q h XSub.rf (Nat.le_of_ble_eq_true rfl) (Nat.le_of_ble_eq_true rfl)
  replace h := h.2 hz
  refine x_aald G 1 6 rfl rfl hz dX1_mix_5 ?_
  refine x_astoreQ (lv' := [(4, va_rf (lgf p0.toNatClampNeg)), (0, .ref h0), (1, .int p0), (2, .int p1), (3, .int p2)]) G dX1_mix_6 (by decide) rfl ?_
  refine x_lv (lv' := [(0, .ref h0), (1, .int p0), (2, .int p1), (3, .int p2)]) [1, 2, 3, 4] rfl ?_
  refine x_aload_n G rfl dX1_mix_8 0 rfl ?_
  refine x_get G in_X1 0 rfl rfl 0 (by decide) q159 (fun _ h => h) rfl dX1_mix_9 ?_
  refine x_iload_n G rfl dX1_mix_12 2 rfl ?_
  by_cases hz : vp_in p1 12
  case neg =>
    replace h := h.1 hz
    refine x_aaldZ G 1 rfl rfl (by decide) hz (Nat.le_of_ble_eq_true rfl) (Nat.le_of_ble_eq_true rfl) (Nat.le_of_ble_eq_true rfl) dX1_mix_13 ?_
    exact x_oi0 G Q h XSub.rf (Nat.le_of_ble_eq_true rfl) (Nat.le_of_ble_eq_true rfl)
  replace h := h.2 hz
  obtain ⟨hq, h⟩ := h
  refine x_aald G 1 6 rfl rfl hz dX1_mix_13 ?_
  rw [hq]
  show X g 12 14 [(0, .ref h0), (1, .int p0), (2, .int p1), (3, .int p2)] [.null] [(h0, .inr (0, [.ref lg, .ref e1, .ref e2, .ref e3, .ref rl, .int cur, .ref sh])), (lg, .inl ((xT g) 6, 12, .inr (.inr (.inr (.inr lgf)))))] 0 0
  refine x_astoreN (lv' := [(5, .null), (0, .ref h0), (1, .int p0), (2, .int p1), (3, .int p2)]) G dX1_mix_14 (by decide) rfl ?_
  refine x_aloadNN G dX1_mix_16 0 rfl ?_
  refine x_invN (z := ⟨"RoundingAuditor$Ledger", "length", "()I"⟩) (As := []) (rest := []) G q661 (va_Decl.of (G.hts _ q662) (G.hts _ q666)) rfl q665 (show ("RoundingAuditor$Ledger" : String) ≠ "java/lang/invoke/MethodHandle" ∧ ("RoundingAuditor$Ledger" : String) ≠ "java/lang/invoke/VarHandle" ∧ (parseMethodDescriptor "()I").map (fun d => d.parameters.length) = some 0 from by decide +kernel) rfl (Nat.le_of_ble_eq_true rfl) (Nat.le_of_ble_eq_true rfl) (Nat.le_of_ble_eq_true rfl) dX1_mix_18 ?_
  exact x_oi0 G Q h XSub.rf (Nat.le_of_ble_eq_true rfl) (Nat.le_of_ble_eq_true rfl)
def wX1_mix_G (p0 : Int32) (p1 : Int32) (p2 : Int32) (lgf : Nat → Option Nat) (u0 : Nat) (ln : Nat) (K : Int32 → Prop) (E : String → Prop) : Prop := (vp_in p0 12 ∧ (vp_in p1 12 ∧ ((lgf p1.toNatClampNeg) = some u0 ∧ (wX4_length ln (fun (r_1 : Int32) => ((¬ vp_in p2 12 → E "java/lang/ArrayIndexOutOfBoundsException") ∧ (vp_in p2 12 → ((lgf p2.toNatClampNeg) = none ∧ E "java/lang/NullPointerException"))))))))
set_option maxRecDepth 20000 in
theorem tX1_mix_G {l : Launch} {D : va_G} {ta : Nat → ClassId} {h0 : Nat} {lg : Nat} {e1 : Nat} {e2 : Nat} {e3 : Nat} {rl : Nat} {cur : Int32} {sh : Nat} {lgf : Nat → Option Nat} {u0 : Nat} {kd : Bool} {u0a : Nat} {u0d : Nat} {u0g : Nat} {gc : Int32} {u0m : Nat} {ln : Nat} {acc : Nat → Int32} {p0 : Int32} {p1 : Int32} {p2 : Int32} {K : Int32 → Prop} {E : String → Prop} (hlt : l.stackTraces = false) (h : wX1_mix_G p0 p1 p2 lgf u0 ln K E) : SXi0 l D ta yX1_mix cX1_mix 12 FieldType.int 3 [.ref h0, .int p0, .int p1, .int p2] [(h0, .inr (0, [.ref lg, .ref e1, .ref e2, .ref e3, .ref rl, .int cur, .ref sh])), (lg, .inl (ta 6, 12, .inr (.inr (.inr (.inr lgf))))), (u0, .inr (lci kd, [.ref u0a, .ref u0d, .ref u0g, .int gc, .ref u0m])), (u0a, .inl (ta 1, ln, .inl acc))] ([(h0, .inr (0, [.ref lg, .ref e1, .ref e2, .ref e3, .ref rl, .int cur, .ref sh])), (lg, .inl (ta 6, 12, .inr (.inr (.inr (.inr lgf))))), (u0, .inr (lci kd, [.ref u0a, .ref u0d, .ref u0g, .int gc, .ref u0m])), (u0a, .inl (ta 1, ln, .inl acc))]) 3 222 K E := by
  refine x_sxi0 hlt (by decide +kernel) (Nat.le_of_ble_eq_true rfl) (fun g G hl hD hT hN Q => ?_)
  subst hl; subst hD; subst hT
  unfold wX1_mix_G at h
  show X g 12 0 [(0, .ref h0), (1, .int p0), (2, .int p1), (3, .int p2)] [] [(h0, .inr (0, [.ref lg, .ref e1, .ref e2, .ref e3, .ref rl, .int cur, .ref sh])), (lg, .inl ((xT g) 6, 12, .inr (.inr (.inr (.inr lgf))))), (u0, .inr (lci kd, [.ref u0a, .ref u0d, .ref u0g, .int gc, .ref u0m])), (u0a, .inl ((xT g) 1, ln, .inl acc))] 0 0
  refine x_aload_n G rfl dX1_mix_0 0 rfl ?_
  refine x_get G in_X1 0 rfl rfl 0 (by decide) q159 (fun _ h => h) rfl dX1_mix_1 ?_
  refine x_iload_n G rfl dX1_mix_4 1 rfl ?_
  obtain ⟨hz, h⟩ := h
  refine x_aald G 1 6 rfl rfl hz dX1_mix_5 ?_
  refine x_astoreQ (lv' := [(4, va_rf (lgf p0.toNatClampNeg)), (0, .ref h0), (1, .int p0), (2, .int p1), (3, .int p2)]) G dX1_mix_6 (by decide) rfl ?_
  refine x_lv (lv' := [(0, .ref h0), (1, .int p0), (2, .int p1), (3, .int p2)]) [1, 2, 3, 4] rfl ?_
  refine x_aload_n G rfl dX1_mix_8 0 rfl ?_
  refine x_get G in_X1 0 rfl rfl 0 (by decide) q159 (fun _ h => h) rfl dX1_mix_9 ?_
  refine x_iload_n G rfl dX1_mix_12 2 rfl ?_
  obtain ⟨hz, hq, h⟩ := h
  refine x_aald G 1 6 rfl rfl hz dX1_mix_13 ?_
  rw [hq]
  show X g 12 14 [(0, .ref h0), (1, .int p0), (2, .int p1), (3, .int p2)] [.ref u0] [(h0, .inr (0, [.ref lg, .ref e1, .ref e2, .ref e3, .ref rl, .int cur, .ref sh])), (lg, .inl ((xT g) 6, 12, .inr (.inr (.inr (.inr lgf))))), (u0, .inr (lci kd, [.ref u0a, .ref u0d, .ref u0g, .int gc, .ref u0m])), (u0a, .inl ((xT g) 1, ln, .inl acc))] 0 0
  refine x_astore (lv' := [(5, .ref u0), (0, .ref h0), (1, .int p0), (2, .int p1), (3, .int p2)]) G dX1_mix_14 (by decide) rfl ?_
  refine x_aload G dX1_mix_16 0 rfl ?_
  refine x_cUi0 (C := lnm kd) (owner := "RoundingAuditor$Ledger") (x := ⟨"RoundingAuditor$Ledger", "length", "()I"⟩) (wc := [(u0, .inr (lci kd, [.ref u0a, .ref u0d, .ref u0g, .int gc, .ref u0m])), (u0a, .inl ((xT g) 1, ln, .inl acc))]) (As := []) (rest := []) G [(h0, .inr (0, [.ref lg, .ref e1, .ref e2, .ref e3, .ref rl, .int cur, .ref sh])), (lg, .inl ((xT g) 6, 12, .inr (.inr (.inr (.inr lgf)))))] (XSub.of [0, 1, 2, 3] rfl (by decide)) (tX4_length G.noTraces h) q661 q663 (va_Decl.of (G.hts _ q662) (G.hts _ q666)) (sL_length kd) q662 q78 q666 cdL_length (lci kd) 2 (lci_at kd) rfl rfl (by decide) (by decide) rfl (Nat.le_of_ble_eq_true rfl) (Nat.le_of_ble_eq_true rfl) (Nat.le_of_ble_eq_true rfl) dX1_mix_18 (fun r_1 h => ?_)
  show X g 12 21 [(5, .ref u0), (0, .ref h0), (1, .int p0), (2, .int p1), (3, .int p2)] [.int r_1] [(h0, .inr (0, [.ref lg, .ref e1, .ref e2, .ref e3, .ref rl, .int cur, .ref sh])), (lg, .inl ((xT g) 6, 12, .inr (.inr (.inr (.inr lgf))))), (u0, .inr (lci kd, [.ref u0a, .ref u0d, .ref u0g, .int gc, .ref u0m])), (u0a, .inl ((xT g) 1, ln, .inl acc))] 0 0
  refine x_istore (lv' := [(6, .int r_1), (5, .ref u0), (0, .ref h0), (1, .int p0), (2, .int p1), (3, .int p2)]) G dX1_mix_21 (by decide) rfl ?_
  refine x_aload_n G rfl dX1_mix_23 2 rfl ?_
  refine x_get G in_X1 0 rfl rfl 0 (by decide) q159 (fun _ h => h) rfl dX1_mix_24 ?_
  refine x_iload_n G rfl dX1_mix_27 5 rfl ?_
  by_cases hz : vp_in p2 12
  case neg =>
    replace h := h.1 hz
    refine x_aaldZ G 1 rfl rfl (by decide) hz (Nat.le_of_ble_eq_true rfl) (Nat.le_of_ble_eq_true rfl) (Nat.le_of_ble_eq_true rfl) dX1_mix_28 ?_
    exact x_oi0 G Q h XSub.rf (Nat.le_of_ble_eq_true rfl) (Nat.le_of_ble_eq_true rfl)
  replace h := h.2 hz
  obtain ⟨hq, h⟩ := h
  refine x_aald G 1 6 rfl rfl hz dX1_mix_28 ?_
  rw [hq]
  show X g 12 29 [(6, .int r_1), (5, .ref u0), (0, .ref h0), (1, .int p0), (2, .int p1), (3, .int p2)] [.null] [(h0, .inr (0, [.ref lg, .ref e1, .ref e2, .ref e3, .ref rl, .int cur, .ref sh])), (lg, .inl ((xT g) 6, 12, .inr (.inr (.inr (.inr lgf))))), (u0, .inr (lci kd, [.ref u0a, .ref u0d, .ref u0g, .int gc, .ref u0m])), (u0a, .inl ((xT g) 1, ln, .inl acc))] 0 0
  refine x_astoreN (lv' := [(7, .null), (6, .int r_1), (5, .ref u0), (0, .ref h0), (1, .int p0), (2, .int p1), (3, .int p2)]) G dX1_mix_29 (by decide) rfl ?_
  refine x_aloadNN G dX1_mix_31 0 rfl ?_
  refine x_invN (z := ⟨"RoundingAuditor$Ledger", "length", "()I"⟩) (As := []) (rest := []) G q661 (va_Decl.of (G.hts _ q662) (G.hts _ q666)) rfl q665 (show ("RoundingAuditor$Ledger" : String) ≠ "java/lang/invoke/MethodHandle" ∧ ("RoundingAuditor$Ledger" : String) ≠ "java/lang/invoke/VarHandle" ∧ (parseMethodDescriptor "()I").map (fun d => d.parameters.length) = some 0 from by decide +kernel) rfl (Nat.le_of_ble_eq_true rfl) (Nat.le_of_ble_eq_true rfl) (Nat.le_of_ble_eq_true rfl) dX1_mix_33 ?_
  exact x_oi0 G Q h XSub.rf (Nat.le_of_ble_eq_true rfl) (Nat.le_of_ble_eq_true rfl)
def wX1_mix_B (p0 : Int32) (p1 : Int32) (p2 : Int32) (lgf : Nat → Option Nat) (u0 : Nat) (kd : Bool) (ln : Nat) (u1 : Nat) (ke : Bool) (ln2 : Nat) (K : Int32 → Prop) : Prop := (vp_in p0 12 ∧ (vp_in p1 12 ∧ ((lgf p1.toNatClampNeg) = some u0 ∧ (wX4_length ln (fun (r_1 : Int32) => (vp_in p2 12 ∧ ((lgf p2.toNatClampNeg) = some u1 ∧ (wX4_length ln2 (fun (r_2 : Int32) => (wL_isWide kd (fun (r_3 : Int32) => (wL_isWide ke (fun (r_4 : Int32) => ((r_3 = r_4 → (((r_1 + r_2) ≤ (60 : Int32) → False) ∧ (¬ (r_1 + r_2) ≤ (60 : Int32) → K (-103 : Int32)))) ∧ (¬ r_3 = r_4 → K (-104 : Int32))))))))))))))))
set_option maxRecDepth 20000 in
theorem tX1_mix_B {l : Launch} {D : va_G} {ta : Nat → ClassId} {h0 : Nat} {lg : Nat} {e1 : Nat} {e2 : Nat} {e3 : Nat} {rl : Nat} {cur : Int32} {sh : Nat} {lgf : Nat → Option Nat} {u0 : Nat} {kd : Bool} {u0a : Nat} {u0d : Nat} {u0g : Nat} {gc : Int32} {u0m : Nat} {ln : Nat} {acc : Nat → Int32} {u1 : Nat} {ke : Bool} {u1a : Nat} {u1d : Nat} {u1g : Nat} {gc2 : Int32} {u1m : Nat} {ln2 : Nat} {acc2 : Nat → Int32} {p0 : Int32} {p1 : Int32} {p2 : Int32} {K : Int32 → Prop} (hlt : l.stackTraces = false) (h : wX1_mix_B p0 p1 p2 lgf u0 kd ln u1 ke ln2 K) : SMi0 l D ta yX1_mix cX1_mix 12 FieldType.int 3 [.ref h0, .int p0, .int p1, .int p2] [(h0, .inr (0, [.ref lg, .ref e1, .ref e2, .ref e3, .ref rl, .int cur, .ref sh])), (lg, .inl (ta 6, 12, .inr (.inr (.inr (.inr lgf))))), (u0, .inr (lci kd, [.ref u0a, .ref u0d, .ref u0g, .int gc, .ref u0m])), (u0a, .inl (ta 1, ln, .inl acc)), (u1, .inr (lci ke, [.ref u1a, .ref u1d, .ref u1g, .int gc2, .ref u1m])), (u1a, .inl (ta 1, ln2, .inl acc2))] ([(h0, .inr (0, [.ref lg, .ref e1, .ref e2, .ref e3, .ref rl, .int cur, .ref sh])), (lg, .inl (ta 6, 12, .inr (.inr (.inr (.inr lgf))))), (u0, .inr (lci kd, [.ref u0a, .ref u0d, .ref u0g, .int gc, .ref u0m])), (u0a, .inl (ta 1, ln, .inl acc)), (u1, .inr (lci ke, [.ref u1a, .ref u1d, .ref u1g, .int gc2, .ref u1m])), (u1a, .inl (ta 1, ln2, .inl acc2))]) 0 0 K := by
  refine x_sti0 hlt (plainFor_of_name (by decide +kernel)) (Nat.le_of_ble_eq_true rfl) (fun g G hl hD hT Q => ?_)
  subst hl; subst hD; subst hT
  unfold wX1_mix_B at h
  show X g 12 0 [(0, .ref h0), (1, .int p0), (2, .int p1), (3, .int p2)] [] [(h0, .inr (0, [.ref lg, .ref e1, .ref e2, .ref e3, .ref rl, .int cur, .ref sh])), (lg, .inl ((xT g) 6, 12, .inr (.inr (.inr (.inr lgf))))), (u0, .inr (lci kd, [.ref u0a, .ref u0d, .ref u0g, .int gc, .ref u0m])), (u0a, .inl ((xT g) 1, ln, .inl acc)), (u1, .inr (lci ke, [.ref u1a, .ref u1d, .ref u1g, .int gc2, .ref u1m])), (u1a, .inl ((xT g) 1, ln2, .inl acc2))] 0 0
  refine x_aload_n G rfl dX1_mix_0 0 rfl ?_
  refine x_get G in_X1 0 rfl rfl 0 (by decide) q159 (fun _ h => h) rfl dX1_mix_1 ?_
  refine x_iload_n G rfl dX1_mix_4 1 rfl ?_
  obtain ⟨hz, h⟩ := h
  refine x_aald G 1 6 rfl rfl hz dX1_mix_5 ?_
  refine x_astoreQ (lv' := [(4, va_rf (lgf p0.toNatClampNeg)), (0, .ref h0), (1, .int p0), (2, .int p1), (3, .int p2)]) G dX1_mix_6 (by decide) rfl ?_
  refine x_lv (lv' := [(0, .ref h0), (1, .int p0), (2, .int p1), (3, .int p2)]) [1, 2, 3, 4] rfl ?_
  refine x_aload_n G rfl dX1_mix_8 0 rfl ?_
  refine x_get G in_X1 0 rfl rfl 0 (by decide) q159 (fun _ h => h) rfl dX1_mix_9 ?_
  refine x_iload_n G rfl dX1_mix_12 2 rfl ?_
  obtain ⟨hz, hq, h⟩ := h
  refine x_aald G 1 6 rfl rfl hz dX1_mix_13 ?_
  rw [hq]
  show X g 12 14 [(0, .ref h0), (1, .int p0), (2, .int p1), (3, .int p2)] [.ref u0] [(h0, .inr (0, [.ref lg, .ref e1, .ref e2, .ref e3, .ref rl, .int cur, .ref sh])), (lg, .inl ((xT g) 6, 12, .inr (.inr (.inr (.inr lgf))))), (u0, .inr (lci kd, [.ref u0a, .ref u0d, .ref u0g, .int gc, .ref u0m])), (u0a, .inl ((xT g) 1, ln, .inl acc)), (u1, .inr (lci ke, [.ref u1a, .ref u1d, .ref u1g, .int gc2, .ref u1m])), (u1a, .inl ((xT g) 1, ln2, .inl acc2))] 0 0
  refine x_astore (lv' := [(5, .ref u0), (0, .ref h0), (1, .int p0), (2, .int p1), (3, .int p2)]) G dX1_mix_14 (by decide) rfl ?_
  refine x_aload G dX1_mix_16 0 rfl ?_
  refine x_cUi0 (C := lnm kd) (owner := "RoundingAuditor$Ledger") (x := ⟨"RoundingAuditor$Ledger", "length", "()I"⟩) (wc := [(u0, .inr (lci kd, [.ref u0a, .ref u0d, .ref u0g, .int gc, .ref u0m])), (u0a, .inl ((xT g) 1, ln, .inl acc))]) (As := []) (rest := []) G [(h0, .inr (0, [.ref lg, .ref e1, .ref e2, .ref e3, .ref rl, .int cur, .ref sh])), (lg, .inl ((xT g) 6, 12, .inr (.inr (.inr (.inr lgf))))), (u1, .inr (lci ke, [.ref u1a, .ref u1d, .ref u1g, .int gc2, .ref u1m])), (u1a, .inl ((xT g) 1, ln2, .inl acc2))] (XSub.of [0, 1, 4, 5, 2, 3] rfl (by decide)) (tX4_length G.noTraces h) q661 q663 (va_Decl.of (G.hts _ q662) (G.hts _ q666)) (sL_length kd) q662 q78 q666 cdL_length (lci kd) 2 (lci_at kd) rfl rfl (by decide) (by decide) rfl (Nat.le_of_ble_eq_true rfl) (Nat.le_of_ble_eq_true rfl) (Nat.le_of_ble_eq_true rfl) dX1_mix_18 (fun r_1 h => ?_)
  show X g 12 21 [(5, .ref u0), (0, .ref h0), (1, .int p0), (2, .int p1), (3, .int p2)] [.int r_1] [(h0, .inr (0, [.ref lg, .ref e1, .ref e2, .ref e3, .ref rl, .int cur, .ref sh])), (lg, .inl ((xT g) 6, 12, .inr (.inr (.inr (.inr lgf))))), (u1, .inr (lci ke, [.ref u1a, .ref u1d, .ref u1g, .int gc2, .ref u1m])), (u1a, .inl ((xT g) 1, ln2, .inl acc2)), (u0, .inr (lci kd, [.ref u0a, .ref u0d, .ref u0g, .int gc, .ref u0m])), (u0a, .inl ((xT g) 1, ln, .inl acc))] 0 0
  refine x_istore (lv' := [(6, .int r_1), (5, .ref u0), (0, .ref h0), (1, .int p0), (2, .int p1), (3, .int p2)]) G dX1_mix_21 (by decide) rfl ?_
  refine x_aload_n G rfl dX1_mix_23 2 rfl ?_
  refine x_get G in_X1 0 rfl rfl 0 (by decide) q159 (fun _ h => h) rfl dX1_mix_24 ?_
  refine x_iload_n G rfl dX1_mix_27 5 rfl ?_
  obtain ⟨hz, hq, h⟩ := h
  refine x_aald G 1 6 rfl rfl hz dX1_mix_28 ?_
  rw [hq]
  show X g 12 29 [(6, .int r_1), (5, .ref u0), (0, .ref h0), (1, .int p0), (2, .int p1), (3, .int p2)] [.ref u1] [(h0, .inr (0, [.ref lg, .ref e1, .ref e2, .ref e3, .ref rl, .int cur, .ref sh])), (lg, .inl ((xT g) 6, 12, .inr (.inr (.inr (.inr lgf))))), (u1, .inr (lci ke, [.ref u1a, .ref u1d, .ref u1g, .int gc2, .ref u1m])), (u1a, .inl ((xT g) 1, ln2, .inl acc2)), (u0, .inr (lci kd, [.ref u0a, .ref u0d, .ref u0g, .int gc, .ref u0m])), (u0a, .inl ((xT g) 1, ln, .inl acc))] 0 0
  refine x_astore (lv' := [(7, .ref u1), (6, .int r_1), (5, .ref u0), (0, .ref h0), (1, .int p0), (2, .int p1), (3, .int p2)]) G dX1_mix_29 (by decide) rfl ?_
  refine x_aload G dX1_mix_31 0 rfl ?_
  refine x_cUi0 (C := lnm ke) (owner := "RoundingAuditor$Ledger") (x := ⟨"RoundingAuditor$Ledger", "length", "()I"⟩) (wc := [(u1, .inr (lci ke, [.ref u1a, .ref u1d, .ref u1g, .int gc2, .ref u1m])), (u1a, .inl ((xT g) 1, ln2, .inl acc2))]) (As := []) (rest := []) G [(h0, .inr (0, [.ref lg, .ref e1, .ref e2, .ref e3, .ref rl, .int cur, .ref sh])), (lg, .inl ((xT g) 6, 12, .inr (.inr (.inr (.inr lgf))))), (u0, .inr (lci kd, [.ref u0a, .ref u0d, .ref u0g, .int gc, .ref u0m])), (u0a, .inl ((xT g) 1, ln, .inl acc))] (XSub.of [0, 1, 4, 5, 2, 3] rfl (by decide)) (tX4_length G.noTraces h) q661 q663 (va_Decl.of (G.hts _ q662) (G.hts _ q666)) (sL_length ke) q662 q78 q666 cdL_length (lci ke) 2 (lci_at ke) rfl rfl (by decide) (by decide) rfl (Nat.le_of_ble_eq_true rfl) (Nat.le_of_ble_eq_true rfl) (Nat.le_of_ble_eq_true rfl) dX1_mix_33 (fun r_2 h => ?_)
  show X g 12 36 [(7, .ref u1), (6, .int r_1), (5, .ref u0), (0, .ref h0), (1, .int p0), (2, .int p1), (3, .int p2)] [.int r_2] [(h0, .inr (0, [.ref lg, .ref e1, .ref e2, .ref e3, .ref rl, .int cur, .ref sh])), (lg, .inl ((xT g) 6, 12, .inr (.inr (.inr (.inr lgf))))), (u0, .inr (lci kd, [.ref u0a, .ref u0d, .ref u0g, .int gc, .ref u0m])), (u0a, .inl ((xT g) 1, ln, .inl acc)), (u1, .inr (lci ke, [.ref u1a, .ref u1d, .ref u1g, .int gc2, .ref u1m])), (u1a, .inl ((xT g) 1, ln2, .inl acc2))] 0 0
  refine x_istore (lv' := [(8, .int r_2), (7, .ref u1), (6, .int r_1), (5, .ref u0), (0, .ref h0), (1, .int p0), (2, .int p1), (3, .int p2)]) G dX1_mix_36 (by decide) rfl ?_
  refine x_aload G dX1_mix_38 3 rfl ?_
  refine x_cUi0 (C := lnm kd) (owner := "RoundingAuditor$Ledger") (x := ⟨"RoundingAuditor$Ledger", "isWide", "()Z"⟩) (wc := []) (As := []) (rest := []) G [(h0, .inr (0, [.ref lg, .ref e1, .ref e2, .ref e3, .ref rl, .int cur, .ref sh])), (lg, .inl ((xT g) 6, 12, .inr (.inr (.inr (.inr lgf))))), (u0, .inr (lci kd, [.ref u0a, .ref u0d, .ref u0g, .int gc, .ref u0m])), (u0a, .inl ((xT g) 1, ln, .inl acc)), (u1, .inr (lci ke, [.ref u1a, .ref u1d, .ref u1g, .int gc2, .ref u1m])), (u1a, .inl ((xT g) 1, ln2, .inl acc2))] (XSub.of [0, 1, 2, 3, 4, 5] rfl (by decide)) (tL_isWide kd G.noTraces h) q667 q669 (va_Decl.abs (G.E.2.1.2.2.1 _ (by decide +kernel))) (sL_isWide kd) (hL_isWide kd).1 (hL_isWide kd).2.1 (hL_isWide kd).2.2.1 cdL_isWide (lci kd) 2 (lci_at kd) rfl rfl (by decide) (hL_isWide _).2.2.2 rfl (Nat.le_of_ble_eq_true rfl) (Nat.le_of_ble_eq_true rfl) (Nat.le_of_ble_eq_true rfl) dX1_mix_40 (fun r_3 h => ?_)
  show X g 12 43 [(8, .int r_2), (7, .ref u1), (6, .int r_1), (5, .ref u0), (0, .ref h0), (1, .int p0), (2, .int p1), (3, .int p2)] [.int r_3] [(h0, .inr (0, [.ref lg, .ref e1, .ref e2, .ref e3, .ref rl, .int cur, .ref sh])), (lg, .inl ((xT g) 6, 12, .inr (.inr (.inr (.inr lgf))))), (u0, .inr (lci kd, [.ref u0a, .ref u0d, .ref u0g, .int gc, .ref u0m])), (u0a, .inl ((xT g) 1, ln, .inl acc)), (u1, .inr (lci ke, [.ref u1a, .ref u1d, .ref u1g, .int gc2, .ref u1m])), (u1a, .inl ((xT g) 1, ln2, .inl acc2))] 0 0
  refine x_aload G dX1_mix_43 1 rfl ?_
  refine x_cUi0 (C := lnm ke) (owner := "RoundingAuditor$Ledger") (x := ⟨"RoundingAuditor$Ledger", "isWide", "()Z"⟩) (wc := []) (As := []) (rest := [.int r_3]) G [(h0, .inr (0, [.ref lg, .ref e1, .ref e2, .ref e3, .ref rl, .int cur, .ref sh])), (lg, .inl ((xT g) 6, 12, .inr (.inr (.inr (.inr lgf))))), (u0, .inr (lci kd, [.ref u0a, .ref u0d, .ref u0g, .int gc, .ref u0m])), (u0a, .inl ((xT g) 1, ln, .inl acc)), (u1, .inr (lci ke, [.ref u1a, .ref u1d, .ref u1g, .int gc2, .ref u1m])), (u1a, .inl ((xT g) 1, ln2, .inl acc2))] (XSub.of [0, 1, 2, 3, 4, 5] rfl (by decide)) (tL_isWide ke G.noTraces h) q667 q669 (va_Decl.abs (G.E.2.1.2.2.1 _ (by decide +kernel))) (sL_isWide ke) (hL_isWide ke).1 (hL_isWide ke).2.1 (hL_isWide ke).2.2.1 cdL_isWide (lci ke) 4 (lci_at ke) rfl rfl (by decide) (hL_isWide _).2.2.2 rfl (Nat.le_of_ble_eq_true rfl) (Nat.le_of_ble_eq_true rfl) (Nat.le_of_ble_eq_true rfl) dX1_mix_45 (fun r_4 h => ?_)
  show X g 12 48 [(8, .int r_2), (7, .ref u1), (6, .int r_1), (5, .ref u0), (0, .ref h0), (1, .int p0), (2, .int p1), (3, .int p2)] [.int r_4, .int r_3] [(h0, .inr (0, [.ref lg, .ref e1, .ref e2, .ref e3, .ref rl, .int cur, .ref sh])), (lg, .inl ((xT g) 6, 12, .inr (.inr (.inr (.inr lgf))))), (u0, .inr (lci kd, [.ref u0a, .ref u0d, .ref u0g, .int gc, .ref u0m])), (u0a, .inl ((xT g) 1, ln, .inl acc)), (u1, .inr (lci ke, [.ref u1a, .ref u1d, .ref u1g, .int gc2, .ref u1m])), (u1a, .inl ((xT g) 1, ln2, .inl acc2))] 0 0
  refine x_icmp_eq (tgt := 54) G dX1_mix_48 rfl (fun c => ?_) (fun c => ?_)
  · replace h := h.1 c
    refine x_iload G dX1_mix_54 2 rfl ?_
    refine x_iload G dX1_mix_56 0 rfl ?_
    refine x_iadd G dX1_mix_58 ?_
    refine x_bipush (v := (60 : Int32)) G dX1_mix_59 (by decide) ?_
    refine x_icmp_le (tgt := 67) G dX1_mix_61 rfl (fun c => ?_) (fun c => ?_)
    · replace h := h.1 c
      exact h.elim
    · replace h := h.2 c
      refine x_bipush (v := (-103 : Int32)) G dX1_mix_64 (by decide) ?_
      exact x_reti0 G Q dX1_mix_66 rfl  h XSub.rf (Nat.le_of_ble_eq_true rfl) (Nat.le_of_ble_eq_true rfl)
  · replace h := h.2 c
    refine x_bipush (v := (-104 : Int32)) G dX1_mix_51 (by decide) ?_
    exact x_reti0 G Q dX1_mix_53 rfl  h XSub.rf (Nat.le_of_ble_eq_true rfl) (Nat.le_of_ble_eq_true rfl)
def wX1_mix_BA (p0 : Int32) (p1 : Int32) (p2 : Int32) (lgf : Nat → Option Nat) (u0 : Nat) (kd : Bool) (ln : Nat) (K : Int32 → Prop) : Prop := (vp_in p0 12 ∧ (vp_in p1 12 ∧ ((lgf p1.toNatClampNeg) = some u0 ∧ (wX4_length ln (fun (r_1 : Int32) => (vp_in p2 12 ∧ ((lgf p2.toNatClampNeg) = some u0 ∧ (wX4_length ln (fun (r_2 : Int32) => (wL_isWide kd (fun (r_3 : Int32) => (wL_isWide kd (fun (r_4 : Int32) => ((r_3 = r_4 → (((r_1 + r_2) ≤ (60 : Int32) → False) ∧ (¬ (r_1 + r_2) ≤ (60 : Int32) → K (-103 : Int32)))) ∧ (¬ r_3 = r_4 → K (-104 : Int32))))))))))))))))
set_option maxRecDepth 20000 in
theorem tX1_mix_BA {l : Launch} {D : va_G} {ta : Nat → ClassId} {h0 : Nat} {lg : Nat} {e1 : Nat} {e2 : Nat} {e3 : Nat} {rl : Nat} {cur : Int32} {sh : Nat} {lgf : Nat → Option Nat} {u0 : Nat} {kd : Bool} {u0a : Nat} {u0d : Nat} {u0g : Nat} {gc : Int32} {u0m : Nat} {ln : Nat} {acc : Nat → Int32} {p0 : Int32} {p1 : Int32} {p2 : Int32} {K : Int32 → Prop} (hlt : l.stackTraces = false) (h : wX1_mix_BA p0 p1 p2 lgf u0 kd ln K) : SMi0 l D ta yX1_mix cX1_mix 12 FieldType.int 3 [.ref h0, .int p0, .int p1, .int p2] [(h0, .inr (0, [.ref lg, .ref e1, .ref e2, .ref e3, .ref rl, .int cur, .ref sh])), (lg, .inl (ta 6, 12, .inr (.inr (.inr (.inr lgf))))), (u0, .inr (lci kd, [.ref u0a, .ref u0d, .ref u0g, .int gc, .ref u0m])), (u0a, .inl (ta 1, ln, .inl acc))] ([(h0, .inr (0, [.ref lg, .ref e1, .ref e2, .ref e3, .ref rl, .int cur, .ref sh])), (lg, .inl (ta 6, 12, .inr (.inr (.inr (.inr lgf))))), (u0, .inr (lci kd, [.ref u0a, .ref u0d, .ref u0g, .int gc, .ref u0m])), (u0a, .inl (ta 1, ln, .inl acc))]) 0 0 K := by
  refine x_sti0 hlt (plainFor_of_name (by decide +kernel)) (Nat.le_of_ble_eq_true rfl) (fun g G hl hD hT Q => ?_)
  subst hl; subst hD; subst hT
  unfold wX1_mix_BA at h
  show X g 12 0 [(0, .ref h0), (1, .int p0), (2, .int p1), (3, .int p2)] [] [(h0, .inr (0, [.ref lg, .ref e1, .ref e2, .ref e3, .ref rl, .int cur, .ref sh])), (lg, .inl ((xT g) 6, 12, .inr (.inr (.inr (.inr lgf))))), (u0, .inr (lci kd, [.ref u0a, .ref u0d, .ref u0g, .int gc, .ref u0m])), (u0a, .inl ((xT g) 1, ln, .inl acc))] 0 0
  refine x_aload_n G rfl dX1_mix_0 0 rfl ?_
  refine x_get G in_X1 0 rfl rfl 0 (by decide) q159 (fun _ h => h) rfl dX1_mix_1 ?_
  refine x_iload_n G rfl dX1_mix_4 1 rfl ?_
  obtain ⟨hz, h⟩ := h
  refine x_aald G 1 6 rfl rfl hz dX1_mix_5 ?_
  refine x_astoreQ (lv' := [(4, va_rf (lgf p0.toNatClampNeg)), (0, .ref h0), (1, .int p0), (2, .int p1), (3, .int p2)]) G dX1_mix_6 (by decide) rfl ?_
  refine x_lv (lv' := [(0, .ref h0), (1, .int p0), (2, .int p1), (3, .int p2)]) [1, 2, 3, 4] rfl ?_
  refine x_aload_n G rfl dX1_mix_8 0 rfl ?_
  refine x_get G in_X1 0 rfl rfl 0 (by decide) q159 (fun _ h => h) rfl dX1_mix_9 ?_
  refine x_iload_n G rfl dX1_mix_12 2 rfl ?_
  obtain ⟨hz, hq, h⟩ := h
  refine x_aald G 1 6 rfl rfl hz dX1_mix_13 ?_
  rw [hq]
  show X g 12 14 [(0, .ref h0), (1, .int p0), (2, .int p1), (3, .int p2)] [.ref u0] [(h0, .inr (0, [.ref lg, .ref e1, .ref e2, .ref e3, .ref rl, .int cur, .ref sh])), (lg, .inl ((xT g) 6, 12, .inr (.inr (.inr (.inr lgf))))), (u0, .inr (lci kd, [.ref u0a, .ref u0d, .ref u0g, .int gc, .ref u0m])), (u0a, .inl ((xT g) 1, ln, .inl acc))] 0 0
  refine x_astore (lv' := [(5, .ref u0), (0, .ref h0), (1, .int p0), (2, .int p1), (3, .int p2)]) G dX1_mix_14 (by decide) rfl ?_
  refine x_aload G dX1_mix_16 0 rfl ?_
  refine x_cUi0 (C := lnm kd) (owner := "RoundingAuditor$Ledger") (x := ⟨"RoundingAuditor$Ledger", "length", "()I"⟩) (wc := [(u0, .inr (lci kd, [.ref u0a, .ref u0d, .ref u0g, .int gc, .ref u0m])), (u0a, .inl ((xT g) 1, ln, .inl acc))]) (As := []) (rest := []) G [(h0, .inr (0, [.ref lg, .ref e1, .ref e2, .ref e3, .ref rl, .int cur, .ref sh])), (lg, .inl ((xT g) 6, 12, .inr (.inr (.inr (.inr lgf)))))] (XSub.of [0, 1, 2, 3] rfl (by decide)) (tX4_length G.noTraces h) q661 q663 (va_Decl.of (G.hts _ q662) (G.hts _ q666)) (sL_length kd) q662 q78 q666 cdL_length (lci kd) 2 (lci_at kd) rfl rfl (by decide) (by decide) rfl (Nat.le_of_ble_eq_true rfl) (Nat.le_of_ble_eq_true rfl) (Nat.le_of_ble_eq_true rfl) dX1_mix_18 (fun r_1 h => ?_)
  show X g 12 21 [(5, .ref u0), (0, .ref h0), (1, .int p0), (2, .int p1), (3, .int p2)] [.int r_1] [(h0, .inr (0, [.ref lg, .ref e1, .ref e2, .ref e3, .ref rl, .int cur, .ref sh])), (lg, .inl ((xT g) 6, 12, .inr (.inr (.inr (.inr lgf))))), (u0, .inr (lci kd, [.ref u0a, .ref u0d, .ref u0g, .int gc, .ref u0m])), (u0a, .inl ((xT g) 1, ln, .inl acc))] 0 0
  refine x_istore (lv' := [(6, .int r_1), (5, .ref u0), (0, .ref h0), (1, .int p0), (2, .int p1), (3, .int p2)]) G dX1_mix_21 (by decide) rfl ?_
  refine x_aload_n G rfl dX1_mix_23 2 rfl ?_
  refine x_get G in_X1 0 rfl rfl 0 (by decide) q159 (fun _ h => h) rfl dX1_mix_24 ?_
  refine x_iload_n G rfl dX1_mix_27 5 rfl ?_
  obtain ⟨hz, hq, h⟩ := h
  refine x_aald G 1 6 rfl rfl hz dX1_mix_28 ?_
  rw [hq]
  show X g 12 29 [(6, .int r_1), (5, .ref u0), (0, .ref h0), (1, .int p0), (2, .int p1), (3, .int p2)] [.ref u0] [(h0, .inr (0, [.ref lg, .ref e1, .ref e2, .ref e3, .ref rl, .int cur, .ref sh])), (lg, .inl ((xT g) 6, 12, .inr (.inr (.inr (.inr lgf))))), (u0, .inr (lci kd, [.ref u0a, .ref u0d, .ref u0g, .int gc, .ref u0m])), (u0a, .inl ((xT g) 1, ln, .inl acc))] 0 0
  refine x_astore (lv' := [(7, .ref u0), (6, .int r_1), (5, .ref u0), (0, .ref h0), (1, .int p0), (2, .int p1), (3, .int p2)]) G dX1_mix_29 (by decide) rfl ?_
  refine x_aload G dX1_mix_31 0 rfl ?_
  refine x_cUi0 (C := lnm kd) (owner := "RoundingAuditor$Ledger") (x := ⟨"RoundingAuditor$Ledger", "length", "()I"⟩) (wc := [(u0, .inr (lci kd, [.ref u0a, .ref u0d, .ref u0g, .int gc, .ref u0m])), (u0a, .inl ((xT g) 1, ln, .inl acc))]) (As := []) (rest := []) G [(h0, .inr (0, [.ref lg, .ref e1, .ref e2, .ref e3, .ref rl, .int cur, .ref sh])), (lg, .inl ((xT g) 6, 12, .inr (.inr (.inr (.inr lgf)))))] (XSub.of [0, 1, 2, 3] rfl (by decide)) (tX4_length G.noTraces h) q661 q663 (va_Decl.of (G.hts _ q662) (G.hts _ q666)) (sL_length kd) q662 q78 q666 cdL_length (lci kd) 2 (lci_at kd) rfl rfl (by decide) (by decide) rfl (Nat.le_of_ble_eq_true rfl) (Nat.le_of_ble_eq_true rfl) (Nat.le_of_ble_eq_true rfl) dX1_mix_33 (fun r_2 h => ?_)
  show X g 12 36 [(7, .ref u0), (6, .int r_1), (5, .ref u0), (0, .ref h0), (1, .int p0), (2, .int p1), (3, .int p2)] [.int r_2] [(h0, .inr (0, [.ref lg, .ref e1, .ref e2, .ref e3, .ref rl, .int cur, .ref sh])), (lg, .inl ((xT g) 6, 12, .inr (.inr (.inr (.inr lgf))))), (u0, .inr (lci kd, [.ref u0a, .ref u0d, .ref u0g, .int gc, .ref u0m])), (u0a, .inl ((xT g) 1, ln, .inl acc))] 0 0
  refine x_istore (lv' := [(8, .int r_2), (7, .ref u0), (6, .int r_1), (5, .ref u0), (0, .ref h0), (1, .int p0), (2, .int p1), (3, .int p2)]) G dX1_mix_36 (by decide) rfl ?_
  refine x_aload G dX1_mix_38 3 rfl ?_
  refine x_cUi0 (C := lnm kd) (owner := "RoundingAuditor$Ledger") (x := ⟨"RoundingAuditor$Ledger", "isWide", "()Z"⟩) (wc := []) (As := []) (rest := []) G [(h0, .inr (0, [.ref lg, .ref e1, .ref e2, .ref e3, .ref rl, .int cur, .ref sh])), (lg, .inl ((xT g) 6, 12, .inr (.inr (.inr (.inr lgf))))), (u0, .inr (lci kd, [.ref u0a, .ref u0d, .ref u0g, .int gc, .ref u0m])), (u0a, .inl ((xT g) 1, ln, .inl acc))] (XSub.of [0, 1, 2, 3] rfl (by decide)) (tL_isWide kd G.noTraces h) q667 q669 (va_Decl.abs (G.E.2.1.2.2.1 _ (by decide +kernel))) (sL_isWide kd) (hL_isWide kd).1 (hL_isWide kd).2.1 (hL_isWide kd).2.2.1 cdL_isWide (lci kd) 2 (lci_at kd) rfl rfl (by decide) (hL_isWide _).2.2.2 rfl (Nat.le_of_ble_eq_true rfl) (Nat.le_of_ble_eq_true rfl) (Nat.le_of_ble_eq_true rfl) dX1_mix_40 (fun r_3 h => ?_)
  show X g 12 43 [(8, .int r_2), (7, .ref u0), (6, .int r_1), (5, .ref u0), (0, .ref h0), (1, .int p0), (2, .int p1), (3, .int p2)] [.int r_3] [(h0, .inr (0, [.ref lg, .ref e1, .ref e2, .ref e3, .ref rl, .int cur, .ref sh])), (lg, .inl ((xT g) 6, 12, .inr (.inr (.inr (.inr lgf))))), (u0, .inr (lci kd, [.ref u0a, .ref u0d, .ref u0g, .int gc, .ref u0m])), (u0a, .inl ((xT g) 1, ln, .inl acc))] 0 0
  refine x_aload G dX1_mix_43 1 rfl ?_
  refine x_cUi0 (C := lnm kd) (owner := "RoundingAuditor$Ledger") (x := ⟨"RoundingAuditor$Ledger", "isWide", "()Z"⟩) (wc := []) (As := []) (rest := [.int r_3]) G [(h0, .inr (0, [.ref lg, .ref e1, .ref e2, .ref e3, .ref rl, .int cur, .ref sh])), (lg, .inl ((xT g) 6, 12, .inr (.inr (.inr (.inr lgf))))), (u0, .inr (lci kd, [.ref u0a, .ref u0d, .ref u0g, .int gc, .ref u0m])), (u0a, .inl ((xT g) 1, ln, .inl acc))] (XSub.of [0, 1, 2, 3] rfl (by decide)) (tL_isWide kd G.noTraces h) q667 q669 (va_Decl.abs (G.E.2.1.2.2.1 _ (by decide +kernel))) (sL_isWide kd) (hL_isWide kd).1 (hL_isWide kd).2.1 (hL_isWide kd).2.2.1 cdL_isWide (lci kd) 2 (lci_at kd) rfl rfl (by decide) (hL_isWide _).2.2.2 rfl (Nat.le_of_ble_eq_true rfl) (Nat.le_of_ble_eq_true rfl) (Nat.le_of_ble_eq_true rfl) dX1_mix_45 (fun r_4 h => ?_)
  show X g 12 48 [(8, .int r_2), (7, .ref u0), (6, .int r_1), (5, .ref u0), (0, .ref h0), (1, .int p0), (2, .int p1), (3, .int p2)] [.int r_4, .int r_3] [(h0, .inr (0, [.ref lg, .ref e1, .ref e2, .ref e3, .ref rl, .int cur, .ref sh])), (lg, .inl ((xT g) 6, 12, .inr (.inr (.inr (.inr lgf))))), (u0, .inr (lci kd, [.ref u0a, .ref u0d, .ref u0g, .int gc, .ref u0m])), (u0a, .inl ((xT g) 1, ln, .inl acc))] 0 0
  refine x_icmp_eq (tgt := 54) G dX1_mix_48 rfl (fun c => ?_) (fun c => ?_)
  · replace h := h.1 c
    refine x_iload G dX1_mix_54 2 rfl ?_
    refine x_iload G dX1_mix_56 0 rfl ?_
    refine x_iadd G dX1_mix_58 ?_
    refine x_bipush (v := (60 : Int32)) G dX1_mix_59 (by decide) ?_
    refine x_icmp_le (tgt := 67) G dX1_mix_61 rfl (fun c => ?_) (fun c => ?_)
    · replace h := h.1 c
      exact h.elim
    · replace h := h.2 c
      refine x_bipush (v := (-103 : Int32)) G dX1_mix_64 (by decide) ?_
      exact x_reti0 G Q dX1_mix_66 rfl  h XSub.rf (Nat.le_of_ble_eq_true rfl) (Nat.le_of_ble_eq_true rfl)
  · replace h := h.2 c
    refine x_bipush (v := (-104 : Int32)) G dX1_mix_51 (by decide) ?_
    exact x_reti0 G Q dX1_mix_53 rfl  h XSub.rf (Nat.le_of_ble_eq_true rfl) (Nat.le_of_ble_eq_true rfl)
def wX1_mix_J118 (kd : Bool) (ke : Bool) (ln2 : Nat) (acc2 : Nat → Int32) (day2 : Nat → Int32) (am2 : Nat → UInt64) (r_1 : Int32) (r_2 : Int32) (v11_12 : Int32) (X85 : Int32 → Int32 → (Nat → Int32) → (Nat → Int32) → (Nat → UInt64) → Prop) : Int32 → (Nat → Int32) → (Nat → Int32) → (Nat → UInt64) → Prop := fun (v10_17 : Int32) (el_11_c_18 : Nat → Int32) (el_12_c_19 : Nat → Int32) (el_14_c_20 : Nat → UInt64) => ((r_2 ≤ v11_12 → (∀ x_21 : Int32, x_21 = (v11_12 + (1 : Int32)) → X85 v10_17 x_21 el_11_c_18 el_12_c_19 el_14_c_20)) ∧ (¬ r_2 ≤ v11_12 → (wX4_copy v10_17 v11_12 kd ((r_1 + r_2).toNatClampNeg) el_11_c_18 el_12_c_19 el_14_c_20 ke ln2 acc2 day2 am2 (fun (acc_22 : Nat → Int32) (day_23 : Nat → Int32) (am_24 : Nat → UInt64) => (∀ x_25 : Int32, x_25 = (v10_17 + (1 : Int32)) → (∀ x_26 : Int32, x_26 = (v11_12 + (1 : Int32)) → X85 x_25 x_26 acc_22 day_23 am_24))))))
def wX1_mix_L85 (kd : Bool) (ln : Nat) (acc : Nat → Int32) (day : Nat → Int32) (am : Nat → UInt64) (ke : Bool) (ln2 : Nat) (acc2 : Nat → Int32) (day2 : Nat → Int32) (am2 : Nat → UInt64) (r_1 : Int32) (r_2 : Int32) (X145 : Int32 → Int32 → (Nat → Int32) → (Nat → Int32) → (Nat → UInt64) → Prop) : Nat → Int32 → Int32 → (Nat → Int32) → (Nat → Int32) → (Nat → UInt64) → Prop
  | 0, _, _, _, _, _ => False
  | n + 1, v10_11, v11_12, el_11_c_13, el_12_c_14, el_14_c_15 => (wJ13_max r_1 r_2 (fun (r_16 : Int32) => ((r_16 ≤ v11_12 → X145 v10_11 v11_12 el_11_c_13 el_12_c_14 el_14_c_15) ∧ (¬ r_16 ≤ v11_12 → ((r_1 ≤ v11_12 → (wX1_mix_J118 kd ke ln2 acc2 day2 am2 r_1 r_2 v11_12 (wX1_mix_L85 kd ln acc day am ke ln2 acc2 day2 am2 r_1 r_2 X145 n) v10_11 el_11_c_13 el_12_c_14 el_14_c_15)) ∧ (¬ r_1 ≤ v11_12 → (wX4_copy v10_11 v11_12 kd ((r_1 + r_2).toNatClampNeg) el_11_c_13 el_12_c_14 el_14_c_15 kd ln acc day am (fun (acc_32 : Nat → Int32) (day_33 : Nat → Int32) (am_34 : Nat → UInt64) => (∀ x_35 : Int32, x_35 = (v10_11 + (1 : Int32)) → (wX1_mix_J118 kd ke ln2 acc2 day2 am2 r_1 r_2 v11_12 (wX1_mix_L85 kd ln acc day am ke ln2 acc2 day2 am2 r_1 r_2 X145 n) x_35 acc_32 day_33 am_34))))))))))
def wX1_mix (p0 : Int32) (p1 : Int32) (p2 : Int32) (lgf : Nat → Option Nat) (u0 : Nat) (kd : Bool) (ln : Nat) (acc : Nat → Int32) (day : Nat → Int32) (am : Nat → UInt64) (u1 : Nat) (ke : Bool) (ln2 : Nat) (acc2 : Nat → Int32) (day2 : Nat → Int32) (am2 : Nat → UInt64) (K : Int32 → (Nat → Option Nat) → Nat → Nat → Nat → Nat → Nat → Nat → (Nat → Int32) → (Nat → Int32) → (Nat → Int32) → (Nat → UInt64) → Prop) : Prop := (vp_in p0 12 ∧ (vp_in p1 12 ∧ ((lgf p1.toNatClampNeg) = some u0 ∧ (wX4_length ln (fun (r_1 : Int32) => (vp_in p2 12 ∧ ((lgf p2.toNatClampNeg) = some u1 ∧ (wX4_length ln2 (fun (r_2 : Int32) => (wL_isWide kd (fun (r_3 : Int32) => (wL_isWide ke (fun (r_4 : Int32) => ((r_3 = r_4 → (((r_1 + r_2) ≤ (60 : Int32) → (wL_another kd (r_1 + r_2) (fun (r_5 : Option Nat) (hh_6 : Nat) (b1_7 : Nat) (b2_8 : Nat) (b3_9 : Nat) (b4_10 : Nat) => (r_5 = some hh_6 ∧ (∃ m85 : Nat, wX1_mix_L85 kd ln acc day am ke ln2 acc2 day2 am2 r_1 r_2 (fun (v10_41 : Int32) (v11_42 : Int32) (el_11_c_43 : Nat → Int32) (el_12_c_44 : Nat → Int32) (el_14_c_45 : Nat → UInt64) => (vp_in p0 12 ∧ (∀ f_46 : Nat → Option Nat, f_46 = va_up lgf p0.toNatClampNeg (some hh_6) → K v10_41 f_46 hh_6 b1_7 b2_8 b3_9 b4_10 ((r_1 + r_2).toNatClampNeg) el_11_c_43 el_12_c_44 (fun _ => 0) el_14_c_45))) m85 (0 : Int32) (0 : Int32) (fun _ => 0) (fun _ => 0) (fun _ => FP.dconst0)))))) ∧ (¬ (r_1 + r_2) ≤ (60 : Int32) → False))) ∧ (¬ r_3 = r_4 → False)))))))))))))))
set_option maxRecDepth 20000 in
theorem kX1_mix_J118 {g : XG} {h0 : Nat} {lg : Nat} {e1 : Nat} {e2 : Nat} {e3 : Nat} {rl : Nat} {cur : Int32} {sh : Nat} {lgf : Nat → Option Nat} {u0 : Nat} {kd : Bool} {u0a : Nat} {u0d : Nat} {u0g : Nat} {gc : Int32} {u0m : Nat} {ln : Nat} {acc : Nat → Int32} {day : Nat → Int32} {am : Nat → UInt64} {u1 : Nat} {ke : Bool} {u1a : Nat} {u1d : Nat} {u1g : Nat} {gc2 : Int32} {u1m : Nat} {ln2 : Nat} {acc2 : Nat → Int32} {day2 : Nat → Int32} {am2 : Nat → UInt64} {p0 : Int32} {p1 : Int32} {p2 : Int32} {r_1 : Int32} {r_2 : Int32} {hh_6 : Nat} {b1_7 : Nat} {b2_8 : Nat} {b3_9 : Nat} {b4_10 : Nat} {v11_12 : Int32} {X85 : Int32 → Int32 → (Nat → Int32) → (Nat → Int32) → (Nat → UInt64) → Prop} (G : XO g RX1 cX1_mix 12 5 5 245) (hX85 : ∀ (v10_27 : Int32) (v11_28 : Int32) (el_11_c_29 : Nat → Int32) (el_12_c_30 : Nat → Int32) (el_14_c_31 : Nat → UInt64), X85 v10_27 v11_28 el_11_c_29 el_12_c_30 el_14_c_31 → X g 12 85 [(11, .int v11_28), (10, .int v10_27), (9, .ref hh_6), (8, .int r_2), (7, .ref u1), (6, .int r_1), (5, .ref u0), (0, .ref h0), (1, .int p0), (2, .int p1), (3, .int p2)] [] [(h0, .inr (0, [.ref lg, .ref e1, .ref e2, .ref e3, .ref rl, .int cur, .ref sh])), (lg, .inl ((xT g) 6, 12, .inr (.inr (.inr (.inr lgf))))), (u0d, .inl ((xT g) 1, ln, .inl day)), (u0m, .inl (lamC kd (xT g) ln am)), (u1d, .inl ((xT g) 1, ln2, .inl day2)), (u1m, .inl (lamC ke (xT g) ln2 am2)), (u0, .inr (lci kd, [.ref u0a, .ref u0d, .ref u0g, .int gc, .ref u0m])), (u0a, .inl ((xT g) 1, ln, .inl acc)), (u1, .inr (lci ke, [.ref u1a, .ref u1d, .ref u1g, .int gc2, .ref u1m])), (u1a, .inl ((xT g) 1, ln2, .inl acc2)), (hh_6, .inr (lci kd, [.ref b1_7, .ref b2_8, .ref b3_9, .int (0 : Int32), .ref b4_10])), (b1_7, .inl ((xT g) 1, (r_1 + r_2).toNatClampNeg, .inl el_11_c_29)), (b2_8, .inl ((xT g) 1, (r_1 + r_2).toNatClampNeg, .inl el_12_c_30)), (b3_9, .inl ((xT g) 1, (r_1 + r_2).toNatClampNeg, .inl (fun _ => 0))), (b4_10, .inl (lamC kd (xT g) ((r_1 + r_2).toNatClampNeg) el_14_c_31))] 5 245) : ∀ (v10_17 : Int32) (el_11_c_18 : Nat → Int32) (el_12_c_19 : Nat → Int32) (el_14_c_20 : Nat → UInt64), wX1_mix_J118 kd ke ln2 acc2 day2 am2 r_1 r_2 v11_12 X85 v10_17 el_11_c_18 el_12_c_19 el_14_c_20 → X g 12 118 [(0, .ref h0), (1, .int p0), (2, .int p1), (3, .int p2), (5, .ref u0), (6, .int r_1), (7, .ref u1), (8, .int r_2), (9, .ref hh_6), (10, .int v10_17), (11, .int v11_12)] [] [(h0, .inr (0, [.ref lg, .ref e1, .ref e2, .ref e3, .ref rl, .int cur, .ref sh])), (lg, .inl ((xT g) 6, 12, .inr (.inr (.inr (.inr lgf))))), (u0d, .inl ((xT g) 1, ln, .inl day)), (u0m, .inl (lamC kd (xT g) ln am)), (u1d, .inl ((xT g) 1, ln2, .inl day2)), (u1m, .inl (lamC ke (xT g) ln2 am2)), (u0, .inr (lci kd, [.ref u0a, .ref u0d, .ref u0g, .int gc, .ref u0m])), (u0a, .inl ((xT g) 1, ln, .inl acc)), (u1, .inr (lci ke, [.ref u1a, .ref u1d, .ref u1g, .int gc2, .ref u1m])), (u1a, .inl ((xT g) 1, ln2, .inl acc2)), (hh_6, .inr (lci kd, [.ref b1_7, .ref b2_8, .ref b3_9, .int (0 : Int32), .ref b4_10])), (b1_7, .inl ((xT g) 1, (r_1 + r_2).toNatClampNeg, .inl el_11_c_18)), (b2_8, .inl ((xT g) 1, (r_1 + r_2).toNatClampNeg, .inl el_12_c_19)), (b3_9, .inl ((xT g) 1, (r_1 + r_2).toNatClampNeg, .inl (fun _ => 0))), (b4_10, .inl (lamC kd (xT g) ((r_1 + r_2).toNatClampNeg) el_14_c_20))] 5 245 := by
  intro v10_17 el_11_c_18 el_12_c_19 el_14_c_20 h
  unfold wX1_mix_J118 at h
  refine x_iload G dX1_mix_118 10 rfl ?_
  refine x_iload G dX1_mix_120 7 rfl ?_
  refine x_icmp_ge (tgt := 139) G dX1_mix_122 rfl (fun c => ?_) (fun c => ?_)
  · replace h := h.1 c
    obtain ⟨x_21, ex_21⟩ : ∃ z : Int32, z = (v11_12 + (1 : Int32)) := ⟨_, rfl⟩
    replace h := h x_21 ex_21
    refine x_iinc (v := x_21) (lv' := [(11, .int x_21), (0, .ref h0), (1, .int p0), (2, .int p1), (3, .int p2), (5, .ref u0), (6, .int r_1), (7, .ref u1), (8, .int r_2), (9, .ref hh_6), (10, .int v10_17)]) G dX1_mix_139 10 rfl (by rw [ex_21]; rfl) (by decide) rfl ?_
    refine x_goto (tgt := 85) G dX1_mix_142 rfl ?_
    refine x_lv (lv' := [(11, .int x_21), (10, .int v10_17), (9, .ref hh_6), (8, .int r_2), (7, .ref u1), (6, .int r_1), (5, .ref u0), (0, .ref h0), (1, .int p0), (2, .int p1), (3, .int p2)]) [0, 10, 9, 8, 7, 6, 5, 1, 2, 3, 4] rfl ?_
    exact hX85 v10_17 x_21 el_11_c_18 el_12_c_19 el_14_c_20 h
  · replace h := h.2 c
    refine x_aload G dX1_mix_125 8 rfl ?_
    refine x_iload G dX1_mix_127 9 rfl ?_
    refine x_aload G dX1_mix_129 6 rfl ?_
    refine x_iload G dX1_mix_131 10 rfl ?_
    refine x_cUv3 (C := lnm kd) (owner := "RoundingAuditor$Ledger") (x := ⟨"RoundingAuditor$Ledger", "copy", "(ILRoundingAuditor$Ledger;I)V"⟩) (wc := [(hh_6, .inr (lci kd, [.ref b1_7, .ref b2_8, .ref b3_9, .int (0 : Int32), .ref b4_10])), (b1_7, .inl ((xT g) 1, (r_1 + r_2).toNatClampNeg, .inl el_11_c_18)), (b2_8, .inl ((xT g) 1, (r_1 + r_2).toNatClampNeg, .inl el_12_c_19)), (b4_10, .inl (lamC kd (xT g) ((r_1 + r_2).toNatClampNeg) el_14_c_20)), (u1, .inr (lci ke, [.ref u1a, .ref u1d, .ref u1g, .int gc2, .ref u1m])), (u1a, .inl ((xT g) 1, ln2, .inl acc2)), (u1d, .inl ((xT g) 1, ln2, .inl day2)), (u1m, .inl (lamC ke (xT g) ln2 am2))]) (As := [.int v10_17, .ref u1, .int v11_12]) (rest := []) G [(h0, .inr (0, [.ref lg, .ref e1, .ref e2, .ref e3, .ref rl, .int cur, .ref sh])), (lg, .inl ((xT g) 6, 12, .inr (.inr (.inr (.inr lgf))))), (u0d, .inl ((xT g) 1, ln, .inl day)), (u0m, .inl (lamC kd (xT g) ln am)), (u0, .inr (lci kd, [.ref u0a, .ref u0d, .ref u0g, .int gc, .ref u0m])), (u0a, .inl ((xT g) 1, ln, .inl acc)), (b3_9, .inl ((xT g) 1, (r_1 + r_2).toNatClampNeg, .inl (fun _ => 0)))] (XSub.of [0, 1, 2, 3, 6, 7, 13, 10, 11, 12, 14, 8, 9, 4, 5] rfl (by decide)) (tX4_copy G.noTraces h) q724 q726 (va_Decl.of (G.hts _ q725) (G.hts _ q729)) (sL_copy kd) q725 q78 q729 cdL_copy (lci kd) 10 (lci_at kd) rfl rfl (by decide) (by decide) rfl (Nat.le_of_ble_eq_true rfl) (Nat.le_of_ble_eq_true rfl) (Nat.le_of_ble_eq_true rfl) dX1_mix_133 (fun acc_22 day_23 am_24 h => ?_)
    show X g 12 136 [(0, .ref h0), (1, .int p0), (2, .int p1), (3, .int p2), (5, .ref u0), (6, .int r_1), (7, .ref u1), (8, .int r_2), (9, .ref hh_6), (10, .int v10_17), (11, .int v11_12)] [] [(h0, .inr (0, [.ref lg, .ref e1, .ref e2, .ref e3, .ref rl, .int cur, .ref sh])), (lg, .inl ((xT g) 6, 12, .inr (.inr (.inr (.inr lgf))))), (u0d, .inl ((xT g) 1, ln, .inl day)), (u0m, .inl (lamC kd (xT g) ln am)), (u0, .inr (lci kd, [.ref u0a, .ref u0d, .ref u0g, .int gc, .ref u0m])), (u0a, .inl ((xT g) 1, ln, .inl acc)), (b3_9, .inl ((xT g) 1, (r_1 + r_2).toNatClampNeg, .inl (fun _ => 0))), (hh_6, .inr (lci kd, [.ref b1_7, .ref b2_8, .ref b3_9, .int (0 : Int32), .ref b4_10])), (b1_7, .inl ((xT g) 1, (r_1 + r_2).toNatClampNeg, .inl acc_22)), (b2_8, .inl ((xT g) 1, (r_1 + r_2).toNatClampNeg, .inl day_23)), (b4_10, .inl (lamC kd (xT g) ((r_1 + r_2).toNatClampNeg) am_24)), (u1, .inr (lci ke, [.ref u1a, .ref u1d, .ref u1g, .int gc2, .ref u1m])), (u1a, .inl ((xT g) 1, ln2, .inl acc2)), (u1d, .inl ((xT g) 1, ln2, .inl day2)), (u1m, .inl (lamC ke (xT g) ln2 am2))] 5 245
    obtain ⟨x_25, ex_25⟩ : ∃ z : Int32, z = (v10_17 + (1 : Int32)) := ⟨_, rfl⟩
    replace h := h x_25 ex_25
    refine x_iinc (v := x_25) (lv' := [(10, .int x_25), (0, .ref h0), (1, .int p0), (2, .int p1), (3, .int p2), (5, .ref u0), (6, .int r_1), (7, .ref u1), (8, .int r_2), (9, .ref hh_6), (11, .int v11_12)]) G dX1_mix_136 9 rfl (by rw [ex_25]; rfl) (by decide) rfl ?_
    obtain ⟨x_26, ex_26⟩ : ∃ z : Int32, z = (v11_12 + (1 : Int32)) := ⟨_, rfl⟩
    replace h := h x_26 ex_26
    refine x_iinc (v := x_26) (lv' := [(11, .int x_26), (10, .int x_25), (0, .ref h0), (1, .int p0), (2, .int p1), (3, .int p2), (5, .ref u0), (6, .int r_1), (7, .ref u1), (8, .int r_2), (9, .ref hh_6)]) G dX1_mix_139 10 rfl (by rw [ex_26]; rfl) (by decide) rfl ?_
    refine x_goto (tgt := 85) G dX1_mix_142 rfl ?_
    refine x_lv (lv' := [(11, .int x_26), (10, .int x_25), (9, .ref hh_6), (8, .int r_2), (7, .ref u1), (6, .int r_1), (5, .ref u0), (0, .ref h0), (1, .int p0), (2, .int p1), (3, .int p2)]) [0, 1, 10, 9, 8, 7, 6, 2, 3, 4, 5] rfl ?_
    refine x_ws (ws' := [(h0, .inr (0, [.ref lg, .ref e1, .ref e2, .ref e3, .ref rl, .int cur, .ref sh])), (lg, .inl ((xT g) 6, 12, .inr (.inr (.inr (.inr lgf))))), (u0d, .inl ((xT g) 1, ln, .inl day)), (u0m, .inl (lamC kd (xT g) ln am)), (u1d, .inl ((xT g) 1, ln2, .inl day2)), (u1m, .inl (lamC ke (xT g) ln2 am2)), (u0, .inr (lci kd, [.ref u0a, .ref u0d, .ref u0g, .int gc, .ref u0m])), (u0a, .inl ((xT g) 1, ln, .inl acc)), (u1, .inr (lci ke, [.ref u1a, .ref u1d, .ref u1g, .int gc2, .ref u1m])), (u1a, .inl ((xT g) 1, ln2, .inl acc2)), (hh_6, .inr (lci kd, [.ref b1_7, .ref b2_8, .ref b3_9, .int (0 : Int32), .ref b4_10])), (b1_7, .inl ((xT g) 1, (r_1 + r_2).toNatClampNeg, .inl acc_22)), (b2_8, .inl ((xT g) 1, (r_1 + r_2).toNatClampNeg, .inl day_23)), (b3_9, .inl ((xT g) 1, (r_1 + r_2).toNatClampNeg, .inl (fun _ => 0))), (b4_10, .inl (lamC kd (xT g) ((r_1 + r_2).toNatClampNeg) am_24))]) (XSub.of [0, 1, 2, 3, 13, 14, 4, 5, 11, 12, 7, 8, 9, 6, 10] rfl (by decide)) ?_
    exact hX85 x_25 x_26 acc_22 day_23 am_24 h
set_option maxRecDepth 20000 in
theorem kX1_mix_L85 {g : XG} {h0 : Nat} {lg : Nat} {e1 : Nat} {e2 : Nat} {e3 : Nat} {rl : Nat} {cur : Int32} {sh : Nat} {lgf : Nat → Option Nat} {u0 : Nat} {kd : Bool} {u0a : Nat} {u0d : Nat} {u0g : Nat} {gc : Int32} {u0m : Nat} {ln : Nat} {acc : Nat → Int32} {day : Nat → Int32} {am : Nat → UInt64} {u1 : Nat} {ke : Bool} {u1a : Nat} {u1d : Nat} {u1g : Nat} {gc2 : Int32} {u1m : Nat} {ln2 : Nat} {acc2 : Nat → Int32} {day2 : Nat → Int32} {am2 : Nat → UInt64} {p0 : Int32} {p1 : Int32} {p2 : Int32} {r_1 : Int32} {r_2 : Int32} {hh_6 : Nat} {b1_7 : Nat} {b2_8 : Nat} {b3_9 : Nat} {b4_10 : Nat} {X145 : Int32 → Int32 → (Nat → Int32) → (Nat → Int32) → (Nat → UInt64) → Prop} (G : XO g RX1 cX1_mix 12 5 5 245) (hX145 : ∀ (v10_36 : Int32) (v11_37 : Int32) (el_11_c_38 : Nat → Int32) (el_12_c_39 : Nat → Int32) (el_14_c_40 : Nat → UInt64), X145 v10_36 v11_37 el_11_c_38 el_12_c_39 el_14_c_40 → X g 12 145 [(11, .int v11_37), (10, .int v10_36), (9, .ref hh_6), (8, .int r_2), (7, .ref u1), (6, .int r_1), (5, .ref u0), (0, .ref h0), (1, .int p0), (2, .int p1), (3, .int p2)] [] [(h0, .inr (0, [.ref lg, .ref e1, .ref e2, .ref e3, .ref rl, .int cur, .ref sh])), (lg, .inl ((xT g) 6, 12, .inr (.inr (.inr (.inr lgf))))), (u0d, .inl ((xT g) 1, ln, .inl day)), (u0m, .inl (lamC kd (xT g) ln am)), (u1d, .inl ((xT g) 1, ln2, .inl day2)), (u1m, .inl (lamC ke (xT g) ln2 am2)), (u0, .inr (lci kd, [.ref u0a, .ref u0d, .ref u0g, .int gc, .ref u0m])), (u0a, .inl ((xT g) 1, ln, .inl acc)), (u1, .inr (lci ke, [.ref u1a, .ref u1d, .ref u1g, .int gc2, .ref u1m])), (u1a, .inl ((xT g) 1, ln2, .inl acc2)), (hh_6, .inr (lci kd, [.ref b1_7, .ref b2_8, .ref b3_9, .int (0 : Int32), .ref b4_10])), (b1_7, .inl ((xT g) 1, (r_1 + r_2).toNatClampNeg, .inl el_11_c_38)), (b2_8, .inl ((xT g) 1, (r_1 + r_2).toNatClampNeg, .inl el_12_c_39)), (b3_9, .inl ((xT g) 1, (r_1 + r_2).toNatClampNeg, .inl (fun _ => 0))), (b4_10, .inl (lamC kd (xT g) ((r_1 + r_2).toNatClampNeg) el_14_c_40))] 5 245) : ∀ (n : Nat) (v10_11 : Int32) (v11_12 : Int32) (el_11_c_13 : Nat → Int32) (el_12_c_14 : Nat → Int32) (el_14_c_15 : Nat → UInt64), wX1_mix_L85 kd ln acc day am ke ln2 acc2 day2 am2 r_1 r_2 X145 n v10_11 v11_12 el_11_c_13 el_12_c_14 el_14_c_15 → X g 12 85 [(11, .int v11_12), (10, .int v10_11), (9, .ref hh_6), (8, .int r_2), (7, .ref u1), (6, .int r_1), (5, .ref u0), (0, .ref h0), (1, .int p0), (2, .int p1), (3, .int p2)] [] [(h0, .inr (0, [.ref lg, .ref e1, .ref e2, .ref e3, .ref rl, .int cur, .ref sh])), (lg, .inl ((xT g) 6, 12, .inr (.inr (.inr (.inr lgf))))), (u0d, .inl ((xT g) 1, ln, .inl day)), (u0m, .inl (lamC kd (xT g) ln am)), (u1d, .inl ((xT g) 1, ln2, .inl day2)), (u1m, .inl (lamC ke (xT g) ln2 am2)), (u0, .inr (lci kd, [.ref u0a, .ref u0d, .ref u0g, .int gc, .ref u0m])), (u0a, .inl ((xT g) 1, ln, .inl acc)), (u1, .inr (lci ke, [.ref u1a, .ref u1d, .ref u1g, .int gc2, .ref u1m])), (u1a, .inl ((xT g) 1, ln2, .inl acc2)), (hh_6, .inr (lci kd, [.ref b1_7, .ref b2_8, .ref b3_9, .int (0 : Int32), .ref b4_10])), (b1_7, .inl ((xT g) 1, (r_1 + r_2).toNatClampNeg, .inl el_11_c_13)), (b2_8, .inl ((xT g) 1, (r_1 + r_2).toNatClampNeg, .inl el_12_c_14)), (b3_9, .inl ((xT g) 1, (r_1 + r_2).toNatClampNeg, .inl (fun _ => 0))), (b4_10, .inl (lamC kd (xT g) ((r_1 + r_2).toNatClampNeg) el_14_c_15))] 5 245 := by
  intro n
  induction n with
  | zero => intro _ _ _ _ _ h; exact h.elim
  | succ n ih =>
    intro v10_11 v11_12 el_11_c_13 el_12_c_14 el_14_c_15 h
    unfold wX1_mix_L85 at h
    refine x_iload G dX1_mix_85 0 rfl ?_
    refine x_iload G dX1_mix_87 5 rfl ?_
    refine x_iload G dX1_mix_89 3 rfl ?_
    refine x_cPi (As := [.int r_1, .int r_2]) (rest := [.int v11_12]) G (tJ13_max G.noTraces h) (lw_S q366 q306 q85 q307) cdJ13_max (by decide) (by decide) rfl (Nat.le_of_ble_eq_true rfl) (Nat.le_of_ble_eq_true rfl) (Nat.le_of_ble_eq_true rfl) dX1_mix_91 (fun r_16 h => ?_)
    refine x_icmp_ge (tgt := 145) G dX1_mix_94 rfl (fun c => ?_) (fun c => ?_)
    · replace h := h.1 c
      exact hX145 v10_11 v11_12 el_11_c_13 el_12_c_14 el_14_c_15 h
    · replace h := h.2 c
      refine x_iload G dX1_mix_97 0 rfl ?_
      refine x_iload G dX1_mix_99 5 rfl ?_
      refine x_icmp_ge (tgt := 118) G dX1_mix_101 rfl (fun c => ?_) (fun c => ?_)
      · replace h := h.1 c
        refine x_lv (lv' := [(0, .ref h0), (1, .int p0), (2, .int p1), (3, .int p2), (5, .ref u0), (6, .int r_1), (7, .ref u1), (8, .int r_2), (9, .ref hh_6), (10, .int v10_11), (11, .int v11_12)]) [7, 8, 9, 10, 6, 5, 4, 3, 2, 1, 0] rfl ?_
        refine kX1_mix_J118 G ih _ _ _ _ h
      · replace h := h.2 c
        refine x_aload G dX1_mix_104 2 rfl ?_
        refine x_iload G dX1_mix_106 1 rfl ?_
        refine x_aload G dX1_mix_108 6 rfl ?_
        refine x_iload G dX1_mix_110 0 rfl ?_
        refine x_cUv3 (C := lnm kd) (owner := "RoundingAuditor$Ledger") (x := ⟨"RoundingAuditor$Ledger", "copy", "(ILRoundingAuditor$Ledger;I)V"⟩) (wc := [(hh_6, .inr (lci kd, [.ref b1_7, .ref b2_8, .ref b3_9, .int (0 : Int32), .ref b4_10])), (b1_7, .inl ((xT g) 1, (r_1 + r_2).toNatClampNeg, .inl el_11_c_13)), (b2_8, .inl ((xT g) 1, (r_1 + r_2).toNatClampNeg, .inl el_12_c_14)), (b4_10, .inl (lamC kd (xT g) ((r_1 + r_2).toNatClampNeg) el_14_c_15)), (u0, .inr (lci kd, [.ref u0a, .ref u0d, .ref u0g, .int gc, .ref u0m])), (u0a, .inl ((xT g) 1, ln, .inl acc)), (u0d, .inl ((xT g) 1, ln, .inl day)), (u0m, .inl (lamC kd (xT g) ln am))]) (As := [.int v10_11, .ref u0, .int v11_12]) (rest := []) G [(h0, .inr (0, [.ref lg, .ref e1, .ref e2, .ref e3, .ref rl, .int cur, .ref sh])), (lg, .inl ((xT g) 6, 12, .inr (.inr (.inr (.inr lgf))))), (u1d, .inl ((xT g) 1, ln2, .inl day2)), (u1m, .inl (lamC ke (xT g) ln2 am2)), (u1, .inr (lci ke, [.ref u1a, .ref u1d, .ref u1g, .int gc2, .ref u1m])), (u1a, .inl ((xT g) 1, ln2, .inl acc2)), (b3_9, .inl ((xT g) 1, (r_1 + r_2).toNatClampNeg, .inl (fun _ => 0)))] (XSub.of [0, 1, 4, 5, 8, 9, 13, 10, 11, 12, 14, 6, 7, 2, 3] rfl (by decide)) (tX4_copy G.noTraces h) q724 q726 (va_Decl.of (G.hts _ q725) (G.hts _ q729)) (sL_copy kd) q725 q78 q729 cdL_copy (lci kd) 10 (lci_at kd) rfl rfl (by decide) (by decide) rfl (Nat.le_of_ble_eq_true rfl) (Nat.le_of_ble_eq_true rfl) (Nat.le_of_ble_eq_true rfl) dX1_mix_112 (fun acc_32 day_33 am_34 h => ?_)
        show X g 12 115 [(11, .int v11_12), (10, .int v10_11), (9, .ref hh_6), (8, .int r_2), (7, .ref u1), (6, .int r_1), (5, .ref u0), (0, .ref h0), (1, .int p0), (2, .int p1), (3, .int p2)] [] [(h0, .inr (0, [.ref lg, .ref e1, .ref e2, .ref e3, .ref rl, .int cur, .ref sh])), (lg, .inl ((xT g) 6, 12, .inr (.inr (.inr (.inr lgf))))), (u1d, .inl ((xT g) 1, ln2, .inl day2)), (u1m, .inl (lamC ke (xT g) ln2 am2)), (u1, .inr (lci ke, [.ref u1a, .ref u1d, .ref u1g, .int gc2, .ref u1m])), (u1a, .inl ((xT g) 1, ln2, .inl acc2)), (b3_9, .inl ((xT g) 1, (r_1 + r_2).toNatClampNeg, .inl (fun _ => 0))), (hh_6, .inr (lci kd, [.ref b1_7, .ref b2_8, .ref b3_9, .int (0 : Int32), .ref b4_10])), (b1_7, .inl ((xT g) 1, (r_1 + r_2).toNatClampNeg, .inl acc_32)), (b2_8, .inl ((xT g) 1, (r_1 + r_2).toNatClampNeg, .inl day_33)), (b4_10, .inl (lamC kd (xT g) ((r_1 + r_2).toNatClampNeg) am_34)), (u0, .inr (lci kd, [.ref u0a, .ref u0d, .ref u0g, .int gc, .ref u0m])), (u0a, .inl ((xT g) 1, ln, .inl acc)), (u0d, .inl ((xT g) 1, ln, .inl day)), (u0m, .inl (lamC kd (xT g) ln am))] 5 245
        obtain ⟨x_35, ex_35⟩ : ∃ z : Int32, z = (v10_11 + (1 : Int32)) := ⟨_, rfl⟩
        replace h := h x_35 ex_35
        refine x_iinc (v := x_35) (lv' := [(10, .int x_35), (11, .int v11_12), (9, .ref hh_6), (8, .int r_2), (7, .ref u1), (6, .int r_1), (5, .ref u0), (0, .ref h0), (1, .int p0), (2, .int p1), (3, .int p2)]) G dX1_mix_115 1 rfl (by rw [ex_35]; rfl) (by decide) rfl ?_
        refine x_lv (lv' := [(0, .ref h0), (1, .int p0), (2, .int p1), (3, .int p2), (5, .ref u0), (6, .int r_1), (7, .ref u1), (8, .int r_2), (9, .ref hh_6), (10, .int x_35), (11, .int v11_12)]) [7, 8, 9, 10, 6, 5, 4, 3, 2, 0, 1] rfl ?_
        refine x_ws (ws' := [(h0, .inr (0, [.ref lg, .ref e1, .ref e2, .ref e3, .ref rl, .int cur, .ref sh])), (lg, .inl ((xT g) 6, 12, .inr (.inr (.inr (.inr lgf))))), (u0d, .inl ((xT g) 1, ln, .inl day)), (u0m, .inl (lamC kd (xT g) ln am)), (u1d, .inl ((xT g) 1, ln2, .inl day2)), (u1m, .inl (lamC ke (xT g) ln2 am2)), (u0, .inr (lci kd, [.ref u0a, .ref u0d, .ref u0g, .int gc, .ref u0m])), (u0a, .inl ((xT g) 1, ln, .inl acc)), (u1, .inr (lci ke, [.ref u1a, .ref u1d, .ref u1g, .int gc2, .ref u1m])), (u1a, .inl ((xT g) 1, ln2, .inl acc2)), (hh_6, .inr (lci kd, [.ref b1_7, .ref b2_8, .ref b3_9, .int (0 : Int32), .ref b4_10])), (b1_7, .inl ((xT g) 1, (r_1 + r_2).toNatClampNeg, .inl acc_32)), (b2_8, .inl ((xT g) 1, (r_1 + r_2).toNatClampNeg, .inl day_33)), (b3_9, .inl ((xT g) 1, (r_1 + r_2).toNatClampNeg, .inl (fun _ => 0))), (b4_10, .inl (lamC kd (xT g) ((r_1 + r_2).toNatClampNeg) am_34))]) (XSub.of [0, 1, 13, 14, 2, 3, 11, 12, 4, 5, 7, 8, 9, 6, 10] rfl (by decide)) ?_
        refine kX1_mix_J118 G ih _ _ _ _ h
set_option maxRecDepth 20000 in
theorem tX1_mix {l : Launch} {D : va_G} {ta : Nat → ClassId} {h0 : Nat} {lg : Nat} {e1 : Nat} {e2 : Nat} {e3 : Nat} {rl : Nat} {cur : Int32} {sh : Nat} {lgf : Nat → Option Nat} {u0 : Nat} {kd : Bool} {u0a : Nat} {u0d : Nat} {u0g : Nat} {gc : Int32} {u0m : Nat} {ln : Nat} {acc : Nat → Int32} {day : Nat → Int32} {am : Nat → UInt64} {u1 : Nat} {ke : Bool} {u1a : Nat} {u1d : Nat} {u1g : Nat} {gc2 : Int32} {u1m : Nat} {ln2 : Nat} {acc2 : Nat → Int32} {day2 : Nat → Int32} {am2 : Nat → UInt64} {p0 : Int32} {p1 : Int32} {p2 : Int32} {K : Int32 → (Nat → Option Nat) → Nat → Nat → Nat → Nat → Nat → Nat → (Nat → Int32) → (Nat → Int32) → (Nat → Int32) → (Nat → UInt64) → Prop} (hlt : l.stackTraces = false) (h : wX1_mix p0 p1 p2 lgf u0 kd ln acc day am u1 ke ln2 acc2 day2 am2 K) : SMi11 l D ta yX1_mix cX1_mix 12 FieldType.int 5 [.ref h0, .int p0, .int p1, .int p2] [(h0, .inr (0, [.ref lg, .ref e1, .ref e2, .ref e3, .ref rl, .int cur, .ref sh])), (lg, .inl (ta 6, 12, .inr (.inr (.inr (.inr lgf))))), (u0, .inr (lci kd, [.ref u0a, .ref u0d, .ref u0g, .int gc, .ref u0m])), (u0a, .inl (ta 1, ln, .inl acc)), (u0d, .inl (ta 1, ln, .inl day)), (u0m, .inl (lamC kd ta ln am)), (u1, .inr (lci ke, [.ref u1a, .ref u1d, .ref u1g, .int gc2, .ref u1m])), (u1a, .inl (ta 1, ln2, .inl acc2)), (u1d, .inl (ta 1, ln2, .inl day2)), (u1m, .inl (lamC ke ta ln2 am2))] (fun (lgf' : Nat → Option Nat) (nw : Nat) (b1 : Nat) (b2 : Nat) (b3 : Nat) (b4 : Nat) (nn : Nat) (ac9 : Nat → Int32) (da9 : Nat → Int32) (gi9 : Nat → Int32) (am9 : Nat → UInt64) => [(h0, .inr (0, [.ref lg, .ref e1, .ref e2, .ref e3, .ref rl, .int cur, .ref sh])), (lg, .inl (ta 6, 12, .inr (.inr (.inr (.inr lgf'))))), (u0, .inr (lci kd, [.ref u0a, .ref u0d, .ref u0g, .int gc, .ref u0m])), (u0a, .inl (ta 1, ln, .inl acc)), (u0d, .inl (ta 1, ln, .inl day)), (u0m, .inl (lamC kd ta ln am)), (u1, .inr (lci ke, [.ref u1a, .ref u1d, .ref u1g, .int gc2, .ref u1m])), (u1a, .inl (ta 1, ln2, .inl acc2)), (u1d, .inl (ta 1, ln2, .inl day2)), (u1m, .inl (lamC ke ta ln2 am2)), (nw, .inr (lci kd, [.ref b1, .ref b2, .ref b3, .int (0 : Int32), .ref b4])), (b1, .inl (ta 1, nn, .inl ac9)), (b2, .inl (ta 1, nn, .inl da9)), (b3, .inl (ta 1, nn, .inl gi9)), (b4, .inl (lamC kd ta nn am9))]) 5 245 K := by
  refine x_sti11 hlt (plainFor_of_name (by decide +kernel)) (Nat.le_of_ble_eq_true rfl) (fun g G hl hD hT Q => ?_)
  subst hl; subst hD; subst hT
  unfold wX1_mix at h
  show X g 12 0 [(0, .ref h0), (1, .int p0), (2, .int p1), (3, .int p2)] [] [(h0, .inr (0, [.ref lg, .ref e1, .ref e2, .ref e3, .ref rl, .int cur, .ref sh])), (lg, .inl ((xT g) 6, 12, .inr (.inr (.inr (.inr lgf))))), (u0, .inr (lci kd, [.ref u0a, .ref u0d, .ref u0g, .int gc, .ref u0m])), (u0a, .inl ((xT g) 1, ln, .inl acc)), (u0d, .inl ((xT g) 1, ln, .inl day)), (u0m, .inl (lamC kd (xT g) ln am)), (u1, .inr (lci ke, [.ref u1a, .ref u1d, .ref u1g, .int gc2, .ref u1m])), (u1a, .inl ((xT g) 1, ln2, .inl acc2)), (u1d, .inl ((xT g) 1, ln2, .inl day2)), (u1m, .inl (lamC ke (xT g) ln2 am2))] 0 0
  refine x_aload_n G rfl dX1_mix_0 0 rfl ?_
  refine x_get G in_X1 0 rfl rfl 0 (by decide) q159 (fun _ h => h) rfl dX1_mix_1 ?_
  refine x_iload_n G rfl dX1_mix_4 1 rfl ?_
  obtain ⟨hz, h⟩ := h
  refine x_aald G 1 6 rfl rfl hz dX1_mix_5 ?_
  refine x_astoreQ (lv' := [(4, va_rf (lgf p0.toNatClampNeg)), (0, .ref h0), (1, .int p0), (2, .int p1), (3, .int p2)]) G dX1_mix_6 (by decide) rfl ?_
  refine x_lv (lv' := [(0, .ref h0), (1, .int p0), (2, .int p1), (3, .int p2)]) [1, 2, 3, 4] rfl ?_
  refine x_aload_n G rfl dX1_mix_8 0 rfl ?_
  refine x_get G in_X1 0 rfl rfl 0 (by decide) q159 (fun _ h => h) rfl dX1_mix_9 ?_
  refine x_iload_n G rfl dX1_mix_12 2 rfl ?_
  obtain ⟨hz, hq, h⟩ := h
  refine x_aald G 1 6 rfl rfl hz dX1_mix_13 ?_
  rw [hq]
  show X g 12 14 [(0, .ref h0), (1, .int p0), (2, .int p1), (3, .int p2)] [.ref u0] [(h0, .inr (0, [.ref lg, .ref e1, .ref e2, .ref e3, .ref rl, .int cur, .ref sh])), (lg, .inl ((xT g) 6, 12, .inr (.inr (.inr (.inr lgf))))), (u0, .inr (lci kd, [.ref u0a, .ref u0d, .ref u0g, .int gc, .ref u0m])), (u0a, .inl ((xT g) 1, ln, .inl acc)), (u0d, .inl ((xT g) 1, ln, .inl day)), (u0m, .inl (lamC kd (xT g) ln am)), (u1, .inr (lci ke, [.ref u1a, .ref u1d, .ref u1g, .int gc2, .ref u1m])), (u1a, .inl ((xT g) 1, ln2, .inl acc2)), (u1d, .inl ((xT g) 1, ln2, .inl day2)), (u1m, .inl (lamC ke (xT g) ln2 am2))] 0 0
  refine x_astore (lv' := [(5, .ref u0), (0, .ref h0), (1, .int p0), (2, .int p1), (3, .int p2)]) G dX1_mix_14 (by decide) rfl ?_
  refine x_aload G dX1_mix_16 0 rfl ?_
  refine x_cUi0 (C := lnm kd) (owner := "RoundingAuditor$Ledger") (x := ⟨"RoundingAuditor$Ledger", "length", "()I"⟩) (wc := [(u0, .inr (lci kd, [.ref u0a, .ref u0d, .ref u0g, .int gc, .ref u0m])), (u0a, .inl ((xT g) 1, ln, .inl acc))]) (As := []) (rest := []) G [(h0, .inr (0, [.ref lg, .ref e1, .ref e2, .ref e3, .ref rl, .int cur, .ref sh])), (lg, .inl ((xT g) 6, 12, .inr (.inr (.inr (.inr lgf))))), (u0d, .inl ((xT g) 1, ln, .inl day)), (u0m, .inl (lamC kd (xT g) ln am)), (u1, .inr (lci ke, [.ref u1a, .ref u1d, .ref u1g, .int gc2, .ref u1m])), (u1a, .inl ((xT g) 1, ln2, .inl acc2)), (u1d, .inl ((xT g) 1, ln2, .inl day2)), (u1m, .inl (lamC ke (xT g) ln2 am2))] (XSub.of [0, 1, 4, 5, 6, 7, 8, 9, 2, 3] rfl (by decide)) (tX4_length G.noTraces h) q661 q663 (va_Decl.of (G.hts _ q662) (G.hts _ q666)) (sL_length kd) q662 q78 q666 cdL_length (lci kd) 2 (lci_at kd) rfl rfl (by decide) (by decide) rfl (Nat.le_of_ble_eq_true rfl) (Nat.le_of_ble_eq_true rfl) (Nat.le_of_ble_eq_true rfl) dX1_mix_18 (fun r_1 h => ?_)
  show X g 12 21 [(5, .ref u0), (0, .ref h0), (1, .int p0), (2, .int p1), (3, .int p2)] [.int r_1] [(h0, .inr (0, [.ref lg, .ref e1, .ref e2, .ref e3, .ref rl, .int cur, .ref sh])), (lg, .inl ((xT g) 6, 12, .inr (.inr (.inr (.inr lgf))))), (u0d, .inl ((xT g) 1, ln, .inl day)), (u0m, .inl (lamC kd (xT g) ln am)), (u1, .inr (lci ke, [.ref u1a, .ref u1d, .ref u1g, .int gc2, .ref u1m])), (u1a, .inl ((xT g) 1, ln2, .inl acc2)), (u1d, .inl ((xT g) 1, ln2, .inl day2)), (u1m, .inl (lamC ke (xT g) ln2 am2)), (u0, .inr (lci kd, [.ref u0a, .ref u0d, .ref u0g, .int gc, .ref u0m])), (u0a, .inl ((xT g) 1, ln, .inl acc))] 0 0
  refine x_istore (lv' := [(6, .int r_1), (5, .ref u0), (0, .ref h0), (1, .int p0), (2, .int p1), (3, .int p2)]) G dX1_mix_21 (by decide) rfl ?_
  refine x_aload_n G rfl dX1_mix_23 2 rfl ?_
  refine x_get G in_X1 0 rfl rfl 0 (by decide) q159 (fun _ h => h) rfl dX1_mix_24 ?_
  refine x_iload_n G rfl dX1_mix_27 5 rfl ?_
  obtain ⟨hz, hq, h⟩ := h
  refine x_aald G 1 6 rfl rfl hz dX1_mix_28 ?_
  rw [hq]
  show X g 12 29 [(6, .int r_1), (5, .ref u0), (0, .ref h0), (1, .int p0), (2, .int p1), (3, .int p2)] [.ref u1] [(h0, .inr (0, [.ref lg, .ref e1, .ref e2, .ref e3, .ref rl, .int cur, .ref sh])), (lg, .inl ((xT g) 6, 12, .inr (.inr (.inr (.inr lgf))))), (u0d, .inl ((xT g) 1, ln, .inl day)), (u0m, .inl (lamC kd (xT g) ln am)), (u1, .inr (lci ke, [.ref u1a, .ref u1d, .ref u1g, .int gc2, .ref u1m])), (u1a, .inl ((xT g) 1, ln2, .inl acc2)), (u1d, .inl ((xT g) 1, ln2, .inl day2)), (u1m, .inl (lamC ke (xT g) ln2 am2)), (u0, .inr (lci kd, [.ref u0a, .ref u0d, .ref u0g, .int gc, .ref u0m])), (u0a, .inl ((xT g) 1, ln, .inl acc))] 0 0
  refine x_astore (lv' := [(7, .ref u1), (6, .int r_1), (5, .ref u0), (0, .ref h0), (1, .int p0), (2, .int p1), (3, .int p2)]) G dX1_mix_29 (by decide) rfl ?_
  refine x_aload G dX1_mix_31 0 rfl ?_
  refine x_cUi0 (C := lnm ke) (owner := "RoundingAuditor$Ledger") (x := ⟨"RoundingAuditor$Ledger", "length", "()I"⟩) (wc := [(u1, .inr (lci ke, [.ref u1a, .ref u1d, .ref u1g, .int gc2, .ref u1m])), (u1a, .inl ((xT g) 1, ln2, .inl acc2))]) (As := []) (rest := []) G [(h0, .inr (0, [.ref lg, .ref e1, .ref e2, .ref e3, .ref rl, .int cur, .ref sh])), (lg, .inl ((xT g) 6, 12, .inr (.inr (.inr (.inr lgf))))), (u0d, .inl ((xT g) 1, ln, .inl day)), (u0m, .inl (lamC kd (xT g) ln am)), (u1d, .inl ((xT g) 1, ln2, .inl day2)), (u1m, .inl (lamC ke (xT g) ln2 am2)), (u0, .inr (lci kd, [.ref u0a, .ref u0d, .ref u0g, .int gc, .ref u0m])), (u0a, .inl ((xT g) 1, ln, .inl acc))] (XSub.of [0, 1, 2, 3, 6, 7, 8, 9, 4, 5] rfl (by decide)) (tX4_length G.noTraces h) q661 q663 (va_Decl.of (G.hts _ q662) (G.hts _ q666)) (sL_length ke) q662 q78 q666 cdL_length (lci ke) 4 (lci_at ke) rfl rfl (by decide) (by decide) rfl (Nat.le_of_ble_eq_true rfl) (Nat.le_of_ble_eq_true rfl) (Nat.le_of_ble_eq_true rfl) dX1_mix_33 (fun r_2 h => ?_)
  show X g 12 36 [(7, .ref u1), (6, .int r_1), (5, .ref u0), (0, .ref h0), (1, .int p0), (2, .int p1), (3, .int p2)] [.int r_2] [(h0, .inr (0, [.ref lg, .ref e1, .ref e2, .ref e3, .ref rl, .int cur, .ref sh])), (lg, .inl ((xT g) 6, 12, .inr (.inr (.inr (.inr lgf))))), (u0d, .inl ((xT g) 1, ln, .inl day)), (u0m, .inl (lamC kd (xT g) ln am)), (u1d, .inl ((xT g) 1, ln2, .inl day2)), (u1m, .inl (lamC ke (xT g) ln2 am2)), (u0, .inr (lci kd, [.ref u0a, .ref u0d, .ref u0g, .int gc, .ref u0m])), (u0a, .inl ((xT g) 1, ln, .inl acc)), (u1, .inr (lci ke, [.ref u1a, .ref u1d, .ref u1g, .int gc2, .ref u1m])), (u1a, .inl ((xT g) 1, ln2, .inl acc2))] 0 0
  refine x_istore (lv' := [(8, .int r_2), (7, .ref u1), (6, .int r_1), (5, .ref u0), (0, .ref h0), (1, .int p0), (2, .int p1), (3, .int p2)]) G dX1_mix_36 (by decide) rfl ?_
  refine x_aload G dX1_mix_38 3 rfl ?_
  refine x_cUi0 (C := lnm kd) (owner := "RoundingAuditor$Ledger") (x := ⟨"RoundingAuditor$Ledger", "isWide", "()Z"⟩) (wc := []) (As := []) (rest := []) G [(h0, .inr (0, [.ref lg, .ref e1, .ref e2, .ref e3, .ref rl, .int cur, .ref sh])), (lg, .inl ((xT g) 6, 12, .inr (.inr (.inr (.inr lgf))))), (u0d, .inl ((xT g) 1, ln, .inl day)), (u0m, .inl (lamC kd (xT g) ln am)), (u1d, .inl ((xT g) 1, ln2, .inl day2)), (u1m, .inl (lamC ke (xT g) ln2 am2)), (u0, .inr (lci kd, [.ref u0a, .ref u0d, .ref u0g, .int gc, .ref u0m])), (u0a, .inl ((xT g) 1, ln, .inl acc)), (u1, .inr (lci ke, [.ref u1a, .ref u1d, .ref u1g, .int gc2, .ref u1m])), (u1a, .inl ((xT g) 1, ln2, .inl acc2))] (XSub.of [0, 1, 2, 3, 4, 5, 6, 7, 8, 9] rfl (by decide)) (tL_isWide kd G.noTraces h) q667 q669 (va_Decl.abs (G.E.2.1.2.2.1 _ (by decide +kernel))) (sL_isWide kd) (hL_isWide kd).1 (hL_isWide kd).2.1 (hL_isWide kd).2.2.1 cdL_isWide (lci kd) 6 (lci_at kd) rfl rfl (by decide) (hL_isWide _).2.2.2 rfl (Nat.le_of_ble_eq_true rfl) (Nat.le_of_ble_eq_true rfl) (Nat.le_of_ble_eq_true rfl) dX1_mix_40 (fun r_3 h => ?_)
  show X g 12 43 [(8, .int r_2), (7, .ref u1), (6, .int r_1), (5, .ref u0), (0, .ref h0), (1, .int p0), (2, .int p1), (3, .int p2)] [.int r_3] [(h0, .inr (0, [.ref lg, .ref e1, .ref e2, .ref e3, .ref rl, .int cur, .ref sh])), (lg, .inl ((xT g) 6, 12, .inr (.inr (.inr (.inr lgf))))), (u0d, .inl ((xT g) 1, ln, .inl day)), (u0m, .inl (lamC kd (xT g) ln am)), (u1d, .inl ((xT g) 1, ln2, .inl day2)), (u1m, .inl (lamC ke (xT g) ln2 am2)), (u0, .inr (lci kd, [.ref u0a, .ref u0d, .ref u0g, .int gc, .ref u0m])), (u0a, .inl ((xT g) 1, ln, .inl acc)), (u1, .inr (lci ke, [.ref u1a, .ref u1d, .ref u1g, .int gc2, .ref u1m])), (u1a, .inl ((xT g) 1, ln2, .inl acc2))] 0 0
  refine x_aload G dX1_mix_43 1 rfl ?_
  refine x_cUi0 (C := lnm ke) (owner := "RoundingAuditor$Ledger") (x := ⟨"RoundingAuditor$Ledger", "isWide", "()Z"⟩) (wc := []) (As := []) (rest := [.int r_3]) G [(h0, .inr (0, [.ref lg, .ref e1, .ref e2, .ref e3, .ref rl, .int cur, .ref sh])), (lg, .inl ((xT g) 6, 12, .inr (.inr (.inr (.inr lgf))))), (u0d, .inl ((xT g) 1, ln, .inl day)), (u0m, .inl (lamC kd (xT g) ln am)), (u1d, .inl ((xT g) 1, ln2, .inl day2)), (u1m, .inl (lamC ke (xT g) ln2 am2)), (u0, .inr (lci kd, [.ref u0a, .ref u0d, .ref u0g, .int gc, .ref u0m])), (u0a, .inl ((xT g) 1, ln, .inl acc)), (u1, .inr (lci ke, [.ref u1a, .ref u1d, .ref u1g, .int gc2, .ref u1m])), (u1a, .inl ((xT g) 1, ln2, .inl acc2))] (XSub.of [0, 1, 2, 3, 4, 5, 6, 7, 8, 9] rfl (by decide)) (tL_isWide ke G.noTraces h) q667 q669 (va_Decl.abs (G.E.2.1.2.2.1 _ (by decide +kernel))) (sL_isWide ke) (hL_isWide ke).1 (hL_isWide ke).2.1 (hL_isWide ke).2.2.1 cdL_isWide (lci ke) 8 (lci_at ke) rfl rfl (by decide) (hL_isWide _).2.2.2 rfl (Nat.le_of_ble_eq_true rfl) (Nat.le_of_ble_eq_true rfl) (Nat.le_of_ble_eq_true rfl) dX1_mix_45 (fun r_4 h => ?_)
  show X g 12 48 [(8, .int r_2), (7, .ref u1), (6, .int r_1), (5, .ref u0), (0, .ref h0), (1, .int p0), (2, .int p1), (3, .int p2)] [.int r_4, .int r_3] [(h0, .inr (0, [.ref lg, .ref e1, .ref e2, .ref e3, .ref rl, .int cur, .ref sh])), (lg, .inl ((xT g) 6, 12, .inr (.inr (.inr (.inr lgf))))), (u0d, .inl ((xT g) 1, ln, .inl day)), (u0m, .inl (lamC kd (xT g) ln am)), (u1d, .inl ((xT g) 1, ln2, .inl day2)), (u1m, .inl (lamC ke (xT g) ln2 am2)), (u0, .inr (lci kd, [.ref u0a, .ref u0d, .ref u0g, .int gc, .ref u0m])), (u0a, .inl ((xT g) 1, ln, .inl acc)), (u1, .inr (lci ke, [.ref u1a, .ref u1d, .ref u1g, .int gc2, .ref u1m])), (u1a, .inl ((xT g) 1, ln2, .inl acc2))] 0 0
  refine x_icmp_eq (tgt := 54) G dX1_mix_48 rfl (fun c => ?_) (fun c => ?_)
  · replace h := h.1 c
    refine x_iload G dX1_mix_54 2 rfl ?_
    refine x_iload G dX1_mix_56 0 rfl ?_
    refine x_iadd G dX1_mix_58 ?_
    refine x_bipush (v := (60 : Int32)) G dX1_mix_59 (by decide) ?_
    refine x_icmp_le (tgt := 67) G dX1_mix_61 rfl (fun c => ?_) (fun c => ?_)
    · replace h := h.1 c
      refine x_aload G dX1_mix_67 3 rfl ?_
      refine x_iload G dX1_mix_69 2 rfl ?_
      refine x_iload G dX1_mix_71 0 rfl ?_
      refine x_iadd G dX1_mix_73 ?_
      refine x_cUq5 (C := lnm kd) (owner := "RoundingAuditor$Ledger") (x := ⟨"RoundingAuditor$Ledger", "another", "(I)LRoundingAuditor$Ledger;"⟩) (wc := []) (As := [.int (r_1 + r_2)]) (rest := []) G [(h0, .inr (0, [.ref lg, .ref e1, .ref e2, .ref e3, .ref rl, .int cur, .ref sh])), (lg, .inl ((xT g) 6, 12, .inr (.inr (.inr (.inr lgf))))), (u0d, .inl ((xT g) 1, ln, .inl day)), (u0m, .inl (lamC kd (xT g) ln am)), (u1d, .inl ((xT g) 1, ln2, .inl day2)), (u1m, .inl (lamC ke (xT g) ln2 am2)), (u0, .inr (lci kd, [.ref u0a, .ref u0d, .ref u0g, .int gc, .ref u0m])), (u0a, .inl ((xT g) 1, ln, .inl acc)), (u1, .inr (lci ke, [.ref u1a, .ref u1d, .ref u1g, .int gc2, .ref u1m])), (u1a, .inl ((xT g) 1, ln2, .inl acc2))] (XSub.of [0, 1, 2, 3, 4, 5, 6, 7, 8, 9] rfl (by decide)) (tL_another kd G.noTraces h) q711 q713 (va_Decl.abs (G.E.2.1.2.2.1 _ (by decide +kernel))) (sL_another kd) (hL_another kd).1 (hL_another kd).2.1 (hL_another kd).2.2.1 cdL_another (lci kd) 6 (lci_at kd) rfl rfl (by decide) (hL_another _).2.2.2 rfl (Nat.le_of_ble_eq_true rfl) (Nat.le_of_ble_eq_true rfl) (Nat.le_of_ble_eq_true rfl) dX1_mix_74 (fun r_5 hh_6 b1_7 b2_8 b3_9 b4_10 h => ?_)
      obtain ⟨hq, h⟩ := h
      subst hq
      show X g 12 77 [(8, .int r_2), (7, .ref u1), (6, .int r_1), (5, .ref u0), (0, .ref h0), (1, .int p0), (2, .int p1), (3, .int p2)] [.ref hh_6] [(h0, .inr (0, [.ref lg, .ref e1, .ref e2, .ref e3, .ref rl, .int cur, .ref sh])), (lg, .inl ((xT g) 6, 12, .inr (.inr (.inr (.inr lgf))))), (u0d, .inl ((xT g) 1, ln, .inl day)), (u0m, .inl (lamC kd (xT g) ln am)), (u1d, .inl ((xT g) 1, ln2, .inl day2)), (u1m, .inl (lamC ke (xT g) ln2 am2)), (u0, .inr (lci kd, [.ref u0a, .ref u0d, .ref u0g, .int gc, .ref u0m])), (u0a, .inl ((xT g) 1, ln, .inl acc)), (u1, .inr (lci ke, [.ref u1a, .ref u1d, .ref u1g, .int gc2, .ref u1m])), (u1a, .inl ((xT g) 1, ln2, .inl acc2)), (hh_6, .inr (lci kd, [.ref b1_7, .ref b2_8, .ref b3_9, .int (0 : Int32), .ref b4_10])), (b1_7, .inl ((xT g) 1, (r_1 + r_2).toNatClampNeg, .inl (fun _ => 0))), (b2_8, .inl ((xT g) 1, (r_1 + r_2).toNatClampNeg, .inl (fun _ => 0))), (b3_9, .inl ((xT g) 1, (r_1 + r_2).toNatClampNeg, .inl (fun _ => 0))), (b4_10, .inl (lamC kd (xT g) ((r_1 + r_2).toNatClampNeg) (fun _ => FP.dconst0)))] 5 245
      refine x_astore (lv' := [(9, .ref hh_6), (8, .int r_2), (7, .ref u1), (6, .int r_1), (5, .ref u0), (0, .ref h0), (1, .int p0), (2, .int p1), (3, .int p2)]) G dX1_mix_77 (by decide) rfl ?_
      refine x_iconst (v := (0 : Int32)) G dX1_mix_79 (by decide) ?_
      refine x_istore (lv' := [(10, .int (0 : Int32)), (9, .ref hh_6), (8, .int r_2), (7, .ref u1), (6, .int r_1), (5, .ref u0), (0, .ref h0), (1, .int p0), (2, .int p1), (3, .int p2)]) G dX1_mix_80 (by decide) rfl ?_
      refine x_iconst (v := (0 : Int32)) G dX1_mix_82 (by decide) ?_
      refine x_istore (lv' := [(11, .int (0 : Int32)), (10, .int (0 : Int32)), (9, .ref hh_6), (8, .int r_2), (7, .ref u1), (6, .int r_1), (5, .ref u0), (0, .ref h0), (1, .int p0), (2, .int p1), (3, .int p2)]) G dX1_mix_83 (by decide) rfl ?_
      obtain ⟨n0, h⟩ := h
      refine kX1_mix_L85 G (fun v10_41 v11_42 el_11_c_43 el_12_c_44 el_14_c_45 h => ?_) n0 _ _ _ _ _ h
      · refine x_aload_n G rfl dX1_mix_145 7 rfl ?_
        refine x_get G in_X1 0 rfl rfl 0 (by decide) q159 (fun _ h => h) rfl dX1_mix_146 ?_
        refine x_iload_n G rfl dX1_mix_149 8 rfl ?_
        refine x_aload G dX1_mix_150 2 rfl ?_
        obtain ⟨hz, h⟩ := h
        obtain ⟨f_46, ef_46⟩ : ∃ z : Nat → Option Nat, z = va_up lgf p0.toNatClampNeg (some hh_6) := ⟨_, rfl⟩
        replace h := h f_46 ef_46
        refine x_aast G 1 6 10 rfl rfl (lnm_cast kd) rfl (lci_at kd) hz (by rw [← ef_46]) dX1_mix_152 ?_
        show X g 12 153 [(11, .int v11_42), (10, .int v10_41), (9, .ref hh_6), (8, .int r_2), (7, .ref u1), (6, .int r_1), (5, .ref u0), (0, .ref h0), (1, .int p0), (2, .int p1), (3, .int p2)] [] [(h0, .inr (0, [.ref lg, .ref e1, .ref e2, .ref e3, .ref rl, .int cur, .ref sh])), (lg, .inl ((xT g) 6, 12, .inr (.inr (.inr (.inr f_46))))), (u0d, .inl ((xT g) 1, ln, .inl day)), (u0m, .inl (lamC kd (xT g) ln am)), (u1d, .inl ((xT g) 1, ln2, .inl day2)), (u1m, .inl (lamC ke (xT g) ln2 am2)), (u0, .inr (lci kd, [.ref u0a, .ref u0d, .ref u0g, .int gc, .ref u0m])), (u0a, .inl ((xT g) 1, ln, .inl acc)), (u1, .inr (lci ke, [.ref u1a, .ref u1d, .ref u1g, .int gc2, .ref u1m])), (u1a, .inl ((xT g) 1, ln2, .inl acc2)), (hh_6, .inr (lci kd, [.ref b1_7, .ref b2_8, .ref b3_9, .int (0 : Int32), .ref b4_10])), (b1_7, .inl ((xT g) 1, (r_1 + r_2).toNatClampNeg, .inl el_11_c_43)), (b2_8, .inl ((xT g) 1, (r_1 + r_2).toNatClampNeg, .inl el_12_c_44)), (b3_9, .inl ((xT g) 1, (r_1 + r_2).toNatClampNeg, .inl (fun _ => 0))), (b4_10, .inl (lamC kd (xT g) ((r_1 + r_2).toNatClampNeg) el_14_c_45))] 5 245
        refine x_iload G dX1_mix_153 1 rfl ?_
        exact x_reti11 G Q dX1_mix_155 rfl f_46 hh_6 b1_7 b2_8 b3_9 b4_10 ((r_1 + r_2).toNatClampNeg) el_11_c_43 el_12_c_44 (fun _ => 0) el_14_c_45 h (XSub.of [0, 1, 6, 7, 2, 3, 8, 9, 4, 5, 10, 11, 12, 13, 14] rfl (by decide)) (Nat.le_of_ble_eq_true rfl) (Nat.le_of_ble_eq_true rfl)
    · replace h := h.2 c
      exact h.elim
  · replace h := h.2 c
    exact h.elim
def wX1_mix_A_J118 (kd : Bool) (ln : Nat) (acc : Nat → Int32) (day : Nat → Int32) (am : Nat → UInt64) (r_1 : Int32) (r_2 : Int32) (v11_12 : Int32) (X85 : Int32 → Int32 → (Nat → Int32) → (Nat → Int32) → (Nat → UInt64) → Prop) : Int32 → (Nat → Int32) → (Nat → Int32) → (Nat → UInt64) → Prop := fun (v10_17 : Int32) (el_7_c_18 : Nat → Int32) (el_8_c_19 : Nat → Int32) (el_10_c_20 : Nat → UInt64) => ((r_2 ≤ v11_12 → (∀ x_21 : Int32, x_21 = (v11_12 + (1 : Int32)) → X85 v10_17 x_21 el_7_c_18 el_8_c_19 el_10_c_20)) ∧ (¬ r_2 ≤ v11_12 → (wX4_copy v10_17 v11_12 kd ((r_1 + r_2).toNatClampNeg) el_7_c_18 el_8_c_19 el_10_c_20 kd ln acc day am (fun (acc_22 : Nat → Int32) (day_23 : Nat → Int32) (am_24 : Nat → UInt64) => (∀ x_25 : Int32, x_25 = (v10_17 + (1 : Int32)) → (∀ x_26 : Int32, x_26 = (v11_12 + (1 : Int32)) → X85 x_25 x_26 acc_22 day_23 am_24))))))
def wX1_mix_A_L85 (kd : Bool) (ln : Nat) (acc : Nat → Int32) (day : Nat → Int32) (am : Nat → UInt64) (r_1 : Int32) (r_2 : Int32) (X145 : Int32 → Int32 → (Nat → Int32) → (Nat → Int32) → (Nat → UInt64) → Prop) : Nat → Int32 → Int32 → (Nat → Int32) → (Nat → Int32) → (Nat → UInt64) → Prop
  | 0, _, _, _, _, _ => False
  | n + 1, v10_11, v11_12, el_7_c_13, el_8_c_14, el_10_c_15 => (wJ13_max r_1 r_2 (fun (r_16 : Int32) => ((r_16 ≤ v11_12 → X145 v10_11 v11_12 el_7_c_13 el_8_c_14 el_10_c_15) ∧ (¬ r_16 ≤ v11_12 → ((r_1 ≤ v11_12 → (wX1_mix_A_J118 kd ln acc day am r_1 r_2 v11_12 (wX1_mix_A_L85 kd ln acc day am r_1 r_2 X145 n) v10_11 el_7_c_13 el_8_c_14 el_10_c_15)) ∧ (¬ r_1 ≤ v11_12 → (wX4_copy v10_11 v11_12 kd ((r_1 + r_2).toNatClampNeg) el_7_c_13 el_8_c_14 el_10_c_15 kd ln acc day am (fun (acc_32 : Nat → Int32) (day_33 : Nat → Int32) (am_34 : Nat → UInt64) => (∀ x_35 : Int32, x_35 = (v10_11 + (1 : Int32)) → (wX1_mix_A_J118 kd ln acc day am r_1 r_2 v11_12 (wX1_mix_A_L85 kd ln acc day am r_1 r_2 X145 n) x_35 acc_32 day_33 am_34))))))))))
def wX1_mix_A (p0 : Int32) (p1 : Int32) (p2 : Int32) (lgf : Nat → Option Nat) (u0 : Nat) (kd : Bool) (ln : Nat) (acc : Nat → Int32) (day : Nat → Int32) (am : Nat → UInt64) (K : Int32 → (Nat → Option Nat) → Nat → Nat → Nat → Nat → Nat → Nat → (Nat → Int32) → (Nat → Int32) → (Nat → Int32) → (Nat → UInt64) → Prop) : Prop := (vp_in p0 12 ∧ (vp_in p1 12 ∧ ((lgf p1.toNatClampNeg) = some u0 ∧ (wX4_length ln (fun (r_1 : Int32) => (vp_in p2 12 ∧ ((lgf p2.toNatClampNeg) = some u0 ∧ (wX4_length ln (fun (r_2 : Int32) => (wL_isWide kd (fun (r_3 : Int32) => (wL_isWide kd (fun (r_4 : Int32) => ((r_3 = r_4 → (((r_1 + r_2) ≤ (60 : Int32) → (wL_another kd (r_1 + r_2) (fun (r_5 : Option Nat) (hh_6 : Nat) (b1_7 : Nat) (b2_8 : Nat) (b3_9 : Nat) (b4_10 : Nat) => (r_5 = some hh_6 ∧ (∃ m85 : Nat, wX1_mix_A_L85 kd ln acc day am r_1 r_2 (fun (v10_41 : Int32) (v11_42 : Int32) (el_7_c_43 : Nat → Int32) (el_8_c_44 : Nat → Int32) (el_10_c_45 : Nat → UInt64) => (vp_in p0 12 ∧ (∀ f_46 : Nat → Option Nat, f_46 = va_up lgf p0.toNatClampNeg (some hh_6) → K v10_41 f_46 hh_6 b1_7 b2_8 b3_9 b4_10 ((r_1 + r_2).toNatClampNeg) el_7_c_43 el_8_c_44 (fun _ => 0) el_10_c_45))) m85 (0 : Int32) (0 : Int32) (fun _ => 0) (fun _ => 0) (fun _ => FP.dconst0)))))) ∧ (¬ (r_1 + r_2) ≤ (60 : Int32) → False))) ∧ (¬ r_3 = r_4 → False)))))))))))))))
set_option maxRecDepth 20000 in
theorem kX1_mix_A_J118 {g : XG} {h0 : Nat} {lg : Nat} {e1 : Nat} {e2 : Nat} {e3 : Nat} {rl : Nat} {cur : Int32} {sh : Nat} {lgf : Nat → Option Nat} {u0 : Nat} {kd : Bool} {u0a : Nat} {u0d : Nat} {u0g : Nat} {gc : Int32} {u0m : Nat} {ln : Nat} {acc : Nat → Int32} {day : Nat → Int32} {am : Nat → UInt64} {p0 : Int32} {p1 : Int32} {p2 : Int32} {r_1 : Int32} {r_2 : Int32} {hh_6 : Nat} {b1_7 : Nat} {b2_8 : Nat} {b3_9 : Nat} {b4_10 : Nat} {v11_12 : Int32} {X85 : Int32 → Int32 → (Nat → Int32) → (Nat → Int32) → (Nat → UInt64) → Prop} (G : XO g RX1 cX1_mix 12 5 5 245) (hX85 : ∀ (v10_27 : Int32) (v11_28 : Int32) (el_7_c_29 : Nat → Int32) (el_8_c_30 : Nat → Int32) (el_10_c_31 : Nat → UInt64), X85 v10_27 v11_28 el_7_c_29 el_8_c_30 el_10_c_31 → X g 12 85 [(11, .int v11_28), (10, .int v10_27), (9, .ref hh_6), (8, .int r_2), (7, .ref u0), (6, .int r_1), (5, .ref u0), (0, .ref h0), (1, .int p0), (2, .int p1), (3, .int p2)] [] [(h0, .inr (0, [.ref lg, .ref e1, .ref e2, .ref e3, .ref rl, .int cur, .ref sh])), (lg, .inl ((xT g) 6, 12, .inr (.inr (.inr (.inr lgf))))), (u0d, .inl ((xT g) 1, ln, .inl day)), (u0m, .inl (lamC kd (xT g) ln am)), (u0, .inr (lci kd, [.ref u0a, .ref u0d, .ref u0g, .int gc, .ref u0m])), (u0a, .inl ((xT g) 1, ln, .inl acc)), (hh_6, .inr (lci kd, [.ref b1_7, .ref b2_8, .ref b3_9, .int (0 : Int32), .ref b4_10])), (b1_7, .inl ((xT g) 1, (r_1 + r_2).toNatClampNeg, .inl el_7_c_29)), (b2_8, .inl ((xT g) 1, (r_1 + r_2).toNatClampNeg, .inl el_8_c_30)), (b3_9, .inl ((xT g) 1, (r_1 + r_2).toNatClampNeg, .inl (fun _ => 0))), (b4_10, .inl (lamC kd (xT g) ((r_1 + r_2).toNatClampNeg) el_10_c_31))] 5 245) : ∀ (v10_17 : Int32) (el_7_c_18 : Nat → Int32) (el_8_c_19 : Nat → Int32) (el_10_c_20 : Nat → UInt64), wX1_mix_A_J118 kd ln acc day am r_1 r_2 v11_12 X85 v10_17 el_7_c_18 el_8_c_19 el_10_c_20 → X g 12 118 [(0, .ref h0), (1, .int p0), (2, .int p1), (3, .int p2), (5, .ref u0), (6, .int r_1), (7, .ref u0), (8, .int r_2), (9, .ref hh_6), (10, .int v10_17), (11, .int v11_12)] [] [(h0, .inr (0, [.ref lg, .ref e1, .ref e2, .ref e3, .ref rl, .int cur, .ref sh])), (lg, .inl ((xT g) 6, 12, .inr (.inr (.inr (.inr lgf))))), (u0d, .inl ((xT g) 1, ln, .inl day)), (u0m, .inl (lamC kd (xT g) ln am)), (u0, .inr (lci kd, [.ref u0a, .ref u0d, .ref u0g, .int gc, .ref u0m])), (u0a, .inl ((xT g) 1, ln, .inl acc)), (hh_6, .inr (lci kd, [.ref b1_7, .ref b2_8, .ref b3_9, .int (0 : Int32), .ref b4_10])), (b1_7, .inl ((xT g) 1, (r_1 + r_2).toNatClampNeg, .inl el_7_c_18)), (b2_8, .inl ((xT g) 1, (r_1 + r_2).toNatClampNeg, .inl el_8_c_19)), (b3_9, .inl ((xT g) 1, (r_1 + r_2).toNatClampNeg, .inl (fun _ => 0))), (b4_10, .inl (lamC kd (xT g) ((r_1 + r_2).toNatClampNeg) el_10_c_20))] 5 245 := by
  intro v10_17 el_7_c_18 el_8_c_19 el_10_c_20 h
  unfold wX1_mix_A_J118 at h
  refine x_iload G dX1_mix_118 10 rfl ?_
  refine x_iload G dX1_mix_120 7 rfl ?_
  refine x_icmp_ge (tgt := 139) G dX1_mix_122 rfl (fun c => ?_) (fun c => ?_)
  · replace h := h.1 c
    obtain ⟨x_21, ex_21⟩ : ∃ z : Int32, z = (v11_12 + (1 : Int32)) := ⟨_, rfl⟩
    replace h := h x_21 ex_21
    refine x_iinc (v := x_21) (lv' := [(11, .int x_21), (0, .ref h0), (1, .int p0), (2, .int p1), (3, .int p2), (5, .ref u0), (6, .int r_1), (7, .ref u0), (8, .int r_2), (9, .ref hh_6), (10, .int v10_17)]) G dX1_mix_139 10 rfl (by rw [ex_21]; rfl) (by decide) rfl ?_
    refine x_goto (tgt := 85) G dX1_mix_142 rfl ?_
    refine x_lv (lv' := [(11, .int x_21), (10, .int v10_17), (9, .ref hh_6), (8, .int r_2), (7, .ref u0), (6, .int r_1), (5, .ref u0), (0, .ref h0), (1, .int p0), (2, .int p1), (3, .int p2)]) [0, 10, 9, 8, 7, 6, 5, 1, 2, 3, 4] rfl ?_
    exact hX85 v10_17 x_21 el_7_c_18 el_8_c_19 el_10_c_20 h
  · replace h := h.2 c
    refine x_aload G dX1_mix_125 8 rfl ?_
    refine x_iload G dX1_mix_127 9 rfl ?_
    refine x_aload G dX1_mix_129 6 rfl ?_
    refine x_iload G dX1_mix_131 10 rfl ?_
    refine x_cUv3 (C := lnm kd) (owner := "RoundingAuditor$Ledger") (x := ⟨"RoundingAuditor$Ledger", "copy", "(ILRoundingAuditor$Ledger;I)V"⟩) (wc := [(hh_6, .inr (lci kd, [.ref b1_7, .ref b2_8, .ref b3_9, .int (0 : Int32), .ref b4_10])), (b1_7, .inl ((xT g) 1, (r_1 + r_2).toNatClampNeg, .inl el_7_c_18)), (b2_8, .inl ((xT g) 1, (r_1 + r_2).toNatClampNeg, .inl el_8_c_19)), (b4_10, .inl (lamC kd (xT g) ((r_1 + r_2).toNatClampNeg) el_10_c_20)), (u0, .inr (lci kd, [.ref u0a, .ref u0d, .ref u0g, .int gc, .ref u0m])), (u0a, .inl ((xT g) 1, ln, .inl acc)), (u0d, .inl ((xT g) 1, ln, .inl day)), (u0m, .inl (lamC kd (xT g) ln am))]) (As := [.int v10_17, .ref u0, .int v11_12]) (rest := []) G [(h0, .inr (0, [.ref lg, .ref e1, .ref e2, .ref e3, .ref rl, .int cur, .ref sh])), (lg, .inl ((xT g) 6, 12, .inr (.inr (.inr (.inr lgf))))), (b3_9, .inl ((xT g) 1, (r_1 + r_2).toNatClampNeg, .inl (fun _ => 0)))] (XSub.of [0, 1, 9, 6, 7, 8, 10, 4, 5, 2, 3] rfl (by decide)) (tX4_copy G.noTraces h) q724 q726 (va_Decl.of (G.hts _ q725) (G.hts _ q729)) (sL_copy kd) q725 q78 q729 cdL_copy (lci kd) 6 (lci_at kd) rfl rfl (by decide) (by decide) rfl (Nat.le_of_ble_eq_true rfl) (Nat.le_of_ble_eq_true rfl) (Nat.le_of_ble_eq_true rfl) dX1_mix_133 (fun acc_22 day_23 am_24 h => ?_)
    show X g 12 136 [(0, .ref h0), (1, .int p0), (2, .int p1), (3, .int p2), (5, .ref u0), (6, .int r_1), (7, .ref u0), (8, .int r_2), (9, .ref hh_6), (10, .int v10_17), (11, .int v11_12)] [] [(h0, .inr (0, [.ref lg, .ref e1, .ref e2, .ref e3, .ref rl, .int cur, .ref sh])), (lg, .inl ((xT g) 6, 12, .inr (.inr (.inr (.inr lgf))))), (b3_9, .inl ((xT g) 1, (r_1 + r_2).toNatClampNeg, .inl (fun _ => 0))), (hh_6, .inr (lci kd, [.ref b1_7, .ref b2_8, .ref b3_9, .int (0 : Int32), .ref b4_10])), (b1_7, .inl ((xT g) 1, (r_1 + r_2).toNatClampNeg, .inl acc_22)), (b2_8, .inl ((xT g) 1, (r_1 + r_2).toNatClampNeg, .inl day_23)), (b4_10, .inl (lamC kd (xT g) ((r_1 + r_2).toNatClampNeg) am_24)), (u0, .inr (lci kd, [.ref u0a, .ref u0d, .ref u0g, .int gc, .ref u0m])), (u0a, .inl ((xT g) 1, ln, .inl acc)), (u0d, .inl ((xT g) 1, ln, .inl day)), (u0m, .inl (lamC kd (xT g) ln am))] 5 245
    obtain ⟨x_25, ex_25⟩ : ∃ z : Int32, z = (v10_17 + (1 : Int32)) := ⟨_, rfl⟩
    replace h := h x_25 ex_25
    refine x_iinc (v := x_25) (lv' := [(10, .int x_25), (0, .ref h0), (1, .int p0), (2, .int p1), (3, .int p2), (5, .ref u0), (6, .int r_1), (7, .ref u0), (8, .int r_2), (9, .ref hh_6), (11, .int v11_12)]) G dX1_mix_136 9 rfl (by rw [ex_25]; rfl) (by decide) rfl ?_
    obtain ⟨x_26, ex_26⟩ : ∃ z : Int32, z = (v11_12 + (1 : Int32)) := ⟨_, rfl⟩
    replace h := h x_26 ex_26
    refine x_iinc (v := x_26) (lv' := [(11, .int x_26), (10, .int x_25), (0, .ref h0), (1, .int p0), (2, .int p1), (3, .int p2), (5, .ref u0), (6, .int r_1), (7, .ref u0), (8, .int r_2), (9, .ref hh_6)]) G dX1_mix_139 10 rfl (by rw [ex_26]; rfl) (by decide) rfl ?_
    refine x_goto (tgt := 85) G dX1_mix_142 rfl ?_
    refine x_lv (lv' := [(11, .int x_26), (10, .int x_25), (9, .ref hh_6), (8, .int r_2), (7, .ref u0), (6, .int r_1), (5, .ref u0), (0, .ref h0), (1, .int p0), (2, .int p1), (3, .int p2)]) [0, 1, 10, 9, 8, 7, 6, 2, 3, 4, 5] rfl ?_
    refine x_ws (ws' := [(h0, .inr (0, [.ref lg, .ref e1, .ref e2, .ref e3, .ref rl, .int cur, .ref sh])), (lg, .inl ((xT g) 6, 12, .inr (.inr (.inr (.inr lgf))))), (u0d, .inl ((xT g) 1, ln, .inl day)), (u0m, .inl (lamC kd (xT g) ln am)), (u0, .inr (lci kd, [.ref u0a, .ref u0d, .ref u0g, .int gc, .ref u0m])), (u0a, .inl ((xT g) 1, ln, .inl acc)), (hh_6, .inr (lci kd, [.ref b1_7, .ref b2_8, .ref b3_9, .int (0 : Int32), .ref b4_10])), (b1_7, .inl ((xT g) 1, (r_1 + r_2).toNatClampNeg, .inl acc_22)), (b2_8, .inl ((xT g) 1, (r_1 + r_2).toNatClampNeg, .inl day_23)), (b3_9, .inl ((xT g) 1, (r_1 + r_2).toNatClampNeg, .inl (fun _ => 0))), (b4_10, .inl (lamC kd (xT g) ((r_1 + r_2).toNatClampNeg) am_24))]) (XSub.of [0, 1, 9, 10, 7, 8, 3, 4, 5, 2, 6] rfl (by decide)) ?_
    exact hX85 x_25 x_26 acc_22 day_23 am_24 h
set_option maxRecDepth 20000 in
theorem kX1_mix_A_L85 {g : XG} {h0 : Nat} {lg : Nat} {e1 : Nat} {e2 : Nat} {e3 : Nat} {rl : Nat} {cur : Int32} {sh : Nat} {lgf : Nat → Option Nat} {u0 : Nat} {kd : Bool} {u0a : Nat} {u0d : Nat} {u0g : Nat} {gc : Int32} {u0m : Nat} {ln : Nat} {acc : Nat → Int32} {day : Nat → Int32} {am : Nat → UInt64} {p0 : Int32} {p1 : Int32} {p2 : Int32} {r_1 : Int32} {r_2 : Int32} {hh_6 : Nat} {b1_7 : Nat} {b2_8 : Nat} {b3_9 : Nat} {b4_10 : Nat} {X145 : Int32 → Int32 → (Nat → Int32) → (Nat → Int32) → (Nat → UInt64) → Prop} (G : XO g RX1 cX1_mix 12 5 5 245) (hX145 : ∀ (v10_36 : Int32) (v11_37 : Int32) (el_7_c_38 : Nat → Int32) (el_8_c_39 : Nat → Int32) (el_10_c_40 : Nat → UInt64), X145 v10_36 v11_37 el_7_c_38 el_8_c_39 el_10_c_40 → X g 12 145 [(11, .int v11_37), (10, .int v10_36), (9, .ref hh_6), (8, .int r_2), (7, .ref u0), (6, .int r_1), (5, .ref u0), (0, .ref h0), (1, .int p0), (2, .int p1), (3, .int p2)] [] [(h0, .inr (0, [.ref lg, .ref e1, .ref e2, .ref e3, .ref rl, .int cur, .ref sh])), (lg, .inl ((xT g) 6, 12, .inr (.inr (.inr (.inr lgf))))), (u0d, .inl ((xT g) 1, ln, .inl day)), (u0m, .inl (lamC kd (xT g) ln am)), (u0, .inr (lci kd, [.ref u0a, .ref u0d, .ref u0g, .int gc, .ref u0m])), (u0a, .inl ((xT g) 1, ln, .inl acc)), (hh_6, .inr (lci kd, [.ref b1_7, .ref b2_8, .ref b3_9, .int (0 : Int32), .ref b4_10])), (b1_7, .inl ((xT g) 1, (r_1 + r_2).toNatClampNeg, .inl el_7_c_38)), (b2_8, .inl ((xT g) 1, (r_1 + r_2).toNatClampNeg, .inl el_8_c_39)), (b3_9, .inl ((xT g) 1, (r_1 + r_2).toNatClampNeg, .inl (fun _ => 0))), (b4_10, .inl (lamC kd (xT g) ((r_1 + r_2).toNatClampNeg) el_10_c_40))] 5 245) : ∀ (n : Nat) (v10_11 : Int32) (v11_12 : Int32) (el_7_c_13 : Nat → Int32) (el_8_c_14 : Nat → Int32) (el_10_c_15 : Nat → UInt64), wX1_mix_A_L85 kd ln acc day am r_1 r_2 X145 n v10_11 v11_12 el_7_c_13 el_8_c_14 el_10_c_15 → X g 12 85 [(11, .int v11_12), (10, .int v10_11), (9, .ref hh_6), (8, .int r_2), (7, .ref u0), (6, .int r_1), (5, .ref u0), (0, .ref h0), (1, .int p0), (2, .int p1), (3, .int p2)] [] [(h0, .inr (0, [.ref lg, .ref e1, .ref e2, .ref e3, .ref rl, .int cur, .ref sh])), (lg, .inl ((xT g) 6, 12, .inr (.inr (.inr (.inr lgf))))), (u0d, .inl ((xT g) 1, ln, .inl day)), (u0m, .inl (lamC kd (xT g) ln am)), (u0, .inr (lci kd, [.ref u0a, .ref u0d, .ref u0g, .int gc, .ref u0m])), (u0a, .inl ((xT g) 1, ln, .inl acc)), (hh_6, .inr (lci kd, [.ref b1_7, .ref b2_8, .ref b3_9, .int (0 : Int32), .ref b4_10])), (b1_7, .inl ((xT g) 1, (r_1 + r_2).toNatClampNeg, .inl el_7_c_13)), (b2_8, .inl ((xT g) 1, (r_1 + r_2).toNatClampNeg, .inl el_8_c_14)), (b3_9, .inl ((xT g) 1, (r_1 + r_2).toNatClampNeg, .inl (fun _ => 0))), (b4_10, .inl (lamC kd (xT g) ((r_1 + r_2).toNatClampNeg) el_10_c_15))] 5 245 := by
  intro n
  induction n with
  | zero => intro _ _ _ _ _ h; exact h.elim
  | succ n ih =>
    intro v10_11 v11_12 el_7_c_13 el_8_c_14 el_10_c_15 h
    unfold wX1_mix_A_L85 at h
    refine x_iload G dX1_mix_85 0 rfl ?_
    refine x_iload G dX1_mix_87 5 rfl ?_
    refine x_iload G dX1_mix_89 3 rfl ?_
    refine x_cPi (As := [.int r_1, .int r_2]) (rest := [.int v11_12]) G (tJ13_max G.noTraces h) (lw_S q366 q306 q85 q307) cdJ13_max (by decide) (by decide) rfl (Nat.le_of_ble_eq_true rfl) (Nat.le_of_ble_eq_true rfl) (Nat.le_of_ble_eq_true rfl) dX1_mix_91 (fun r_16 h => ?_)
    refine x_icmp_ge (tgt := 145) G dX1_mix_94 rfl (fun c => ?_) (fun c => ?_)
    · replace h := h.1 c
      exact hX145 v10_11 v11_12 el_7_c_13 el_8_c_14 el_10_c_15 h
    · replace h := h.2 c
      refine x_iload G dX1_mix_97 0 rfl ?_
      refine x_iload G dX1_mix_99 5 rfl ?_
      refine x_icmp_ge (tgt := 118) G dX1_mix_101 rfl (fun c => ?_) (fun c => ?_)
      · replace h := h.1 c
        refine x_lv (lv' := [(0, .ref h0), (1, .int p0), (2, .int p1), (3, .int p2), (5, .ref u0), (6, .int r_1), (7, .ref u0), (8, .int r_2), (9, .ref hh_6), (10, .int v10_11), (11, .int v11_12)]) [7, 8, 9, 10, 6, 5, 4, 3, 2, 1, 0] rfl ?_
        refine kX1_mix_A_J118 G ih _ _ _ _ h
      · replace h := h.2 c
        refine x_aload G dX1_mix_104 2 rfl ?_
        refine x_iload G dX1_mix_106 1 rfl ?_
        refine x_aload G dX1_mix_108 6 rfl ?_
        refine x_iload G dX1_mix_110 0 rfl ?_
        refine x_cUv3 (C := lnm kd) (owner := "RoundingAuditor$Ledger") (x := ⟨"RoundingAuditor$Ledger", "copy", "(ILRoundingAuditor$Ledger;I)V"⟩) (wc := [(hh_6, .inr (lci kd, [.ref b1_7, .ref b2_8, .ref b3_9, .int (0 : Int32), .ref b4_10])), (b1_7, .inl ((xT g) 1, (r_1 + r_2).toNatClampNeg, .inl el_7_c_13)), (b2_8, .inl ((xT g) 1, (r_1 + r_2).toNatClampNeg, .inl el_8_c_14)), (b4_10, .inl (lamC kd (xT g) ((r_1 + r_2).toNatClampNeg) el_10_c_15)), (u0, .inr (lci kd, [.ref u0a, .ref u0d, .ref u0g, .int gc, .ref u0m])), (u0a, .inl ((xT g) 1, ln, .inl acc)), (u0d, .inl ((xT g) 1, ln, .inl day)), (u0m, .inl (lamC kd (xT g) ln am))]) (As := [.int v10_11, .ref u0, .int v11_12]) (rest := []) G [(h0, .inr (0, [.ref lg, .ref e1, .ref e2, .ref e3, .ref rl, .int cur, .ref sh])), (lg, .inl ((xT g) 6, 12, .inr (.inr (.inr (.inr lgf))))), (b3_9, .inl ((xT g) 1, (r_1 + r_2).toNatClampNeg, .inl (fun _ => 0)))] (XSub.of [0, 1, 9, 6, 7, 8, 10, 4, 5, 2, 3] rfl (by decide)) (tX4_copy G.noTraces h) q724 q726 (va_Decl.of (G.hts _ q725) (G.hts _ q729)) (sL_copy kd) q725 q78 q729 cdL_copy (lci kd) 6 (lci_at kd) rfl rfl (by decide) (by decide) rfl (Nat.le_of_ble_eq_true rfl) (Nat.le_of_ble_eq_true rfl) (Nat.le_of_ble_eq_true rfl) dX1_mix_112 (fun acc_32 day_33 am_34 h => ?_)
        show X g 12 115 [(11, .int v11_12), (10, .int v10_11), (9, .ref hh_6), (8, .int r_2), (7, .ref u0), (6, .int r_1), (5, .ref u0), (0, .ref h0), (1, .int p0), (2, .int p1), (3, .int p2)] [] [(h0, .inr (0, [.ref lg, .ref e1, .ref e2, .ref e3, .ref rl, .int cur, .ref sh])), (lg, .inl ((xT g) 6, 12, .inr (.inr (.inr (.inr lgf))))), (b3_9, .inl ((xT g) 1, (r_1 + r_2).toNatClampNeg, .inl (fun _ => 0))), (hh_6, .inr (lci kd, [.ref b1_7, .ref b2_8, .ref b3_9, .int (0 : Int32), .ref b4_10])), (b1_7, .inl ((xT g) 1, (r_1 + r_2).toNatClampNeg, .inl acc_32)), (b2_8, .inl ((xT g) 1, (r_1 + r_2).toNatClampNeg, .inl day_33)), (b4_10, .inl (lamC kd (xT g) ((r_1 + r_2).toNatClampNeg) am_34)), (u0, .inr (lci kd, [.ref u0a, .ref u0d, .ref u0g, .int gc, .ref u0m])), (u0a, .inl ((xT g) 1, ln, .inl acc)), (u0d, .inl ((xT g) 1, ln, .inl day)), (u0m, .inl (lamC kd (xT g) ln am))] 5 245
        obtain ⟨x_35, ex_35⟩ : ∃ z : Int32, z = (v10_11 + (1 : Int32)) := ⟨_, rfl⟩
        replace h := h x_35 ex_35
        refine x_iinc (v := x_35) (lv' := [(10, .int x_35), (11, .int v11_12), (9, .ref hh_6), (8, .int r_2), (7, .ref u0), (6, .int r_1), (5, .ref u0), (0, .ref h0), (1, .int p0), (2, .int p1), (3, .int p2)]) G dX1_mix_115 1 rfl (by rw [ex_35]; rfl) (by decide) rfl ?_
        refine x_lv (lv' := [(0, .ref h0), (1, .int p0), (2, .int p1), (3, .int p2), (5, .ref u0), (6, .int r_1), (7, .ref u0), (8, .int r_2), (9, .ref hh_6), (10, .int x_35), (11, .int v11_12)]) [7, 8, 9, 10, 6, 5, 4, 3, 2, 0, 1] rfl ?_
        refine x_ws (ws' := [(h0, .inr (0, [.ref lg, .ref e1, .ref e2, .ref e3, .ref rl, .int cur, .ref sh])), (lg, .inl ((xT g) 6, 12, .inr (.inr (.inr (.inr lgf))))), (u0d, .inl ((xT g) 1, ln, .inl day)), (u0m, .inl (lamC kd (xT g) ln am)), (u0, .inr (lci kd, [.ref u0a, .ref u0d, .ref u0g, .int gc, .ref u0m])), (u0a, .inl ((xT g) 1, ln, .inl acc)), (hh_6, .inr (lci kd, [.ref b1_7, .ref b2_8, .ref b3_9, .int (0 : Int32), .ref b4_10])), (b1_7, .inl ((xT g) 1, (r_1 + r_2).toNatClampNeg, .inl acc_32)), (b2_8, .inl ((xT g) 1, (r_1 + r_2).toNatClampNeg, .inl day_33)), (b3_9, .inl ((xT g) 1, (r_1 + r_2).toNatClampNeg, .inl (fun _ => 0))), (b4_10, .inl (lamC kd (xT g) ((r_1 + r_2).toNatClampNeg) am_34))]) (XSub.of [0, 1, 9, 10, 7, 8, 3, 4, 5, 2, 6] rfl (by decide)) ?_
        refine kX1_mix_A_J118 G ih _ _ _ _ h
set_option maxRecDepth 20000 in
theorem tX1_mix_A {l : Launch} {D : va_G} {ta : Nat → ClassId} {h0 : Nat} {lg : Nat} {e1 : Nat} {e2 : Nat} {e3 : Nat} {rl : Nat} {cur : Int32} {sh : Nat} {lgf : Nat → Option Nat} {u0 : Nat} {kd : Bool} {u0a : Nat} {u0d : Nat} {u0g : Nat} {gc : Int32} {u0m : Nat} {ln : Nat} {acc : Nat → Int32} {day : Nat → Int32} {am : Nat → UInt64} {p0 : Int32} {p1 : Int32} {p2 : Int32} {K : Int32 → (Nat → Option Nat) → Nat → Nat → Nat → Nat → Nat → Nat → (Nat → Int32) → (Nat → Int32) → (Nat → Int32) → (Nat → UInt64) → Prop} (hlt : l.stackTraces = false) (h : wX1_mix_A p0 p1 p2 lgf u0 kd ln acc day am K) : SMi11 l D ta yX1_mix cX1_mix 12 FieldType.int 5 [.ref h0, .int p0, .int p1, .int p2] [(h0, .inr (0, [.ref lg, .ref e1, .ref e2, .ref e3, .ref rl, .int cur, .ref sh])), (lg, .inl (ta 6, 12, .inr (.inr (.inr (.inr lgf))))), (u0, .inr (lci kd, [.ref u0a, .ref u0d, .ref u0g, .int gc, .ref u0m])), (u0a, .inl (ta 1, ln, .inl acc)), (u0d, .inl (ta 1, ln, .inl day)), (u0m, .inl (lamC kd ta ln am))] (fun (lgf' : Nat → Option Nat) (nw : Nat) (b1 : Nat) (b2 : Nat) (b3 : Nat) (b4 : Nat) (nn : Nat) (ac9 : Nat → Int32) (da9 : Nat → Int32) (gi9 : Nat → Int32) (am9 : Nat → UInt64) => [(h0, .inr (0, [.ref lg, .ref e1, .ref e2, .ref e3, .ref rl, .int cur, .ref sh])), (lg, .inl (ta 6, 12, .inr (.inr (.inr (.inr lgf'))))), (u0, .inr (lci kd, [.ref u0a, .ref u0d, .ref u0g, .int gc, .ref u0m])), (u0a, .inl (ta 1, ln, .inl acc)), (u0d, .inl (ta 1, ln, .inl day)), (u0m, .inl (lamC kd ta ln am)), (nw, .inr (lci kd, [.ref b1, .ref b2, .ref b3, .int (0 : Int32), .ref b4])), (b1, .inl (ta 1, nn, .inl ac9)), (b2, .inl (ta 1, nn, .inl da9)), (b3, .inl (ta 1, nn, .inl gi9)), (b4, .inl (lamC kd ta nn am9))]) 5 245 K := by
  refine x_sti11 hlt (plainFor_of_name (by decide +kernel)) (Nat.le_of_ble_eq_true rfl) (fun g G hl hD hT Q => ?_)
  subst hl; subst hD; subst hT
  unfold wX1_mix_A at h
  show X g 12 0 [(0, .ref h0), (1, .int p0), (2, .int p1), (3, .int p2)] [] [(h0, .inr (0, [.ref lg, .ref e1, .ref e2, .ref e3, .ref rl, .int cur, .ref sh])), (lg, .inl ((xT g) 6, 12, .inr (.inr (.inr (.inr lgf))))), (u0, .inr (lci kd, [.ref u0a, .ref u0d, .ref u0g, .int gc, .ref u0m])), (u0a, .inl ((xT g) 1, ln, .inl acc)), (u0d, .inl ((xT g) 1, ln, .inl day)), (u0m, .inl (lamC kd (xT g) ln am))] 0 0
  refine x_aload_n G rfl dX1_mix_0 0 rfl ?_
  refine x_get G in_X1 0 rfl rfl 0 (by decide) q159 (fun _ h => h) rfl dX1_mix_1 ?_
  refine x_iload_n G rfl dX1_mix_4 1 rfl ?_
  obtain ⟨hz, h⟩ := h
  refine x_aald G 1 6 rfl rfl hz dX1_mix_5 ?_
  refine x_astoreQ (lv' := [(4, va_rf (lgf p0.toNatClampNeg)), (0, .ref h0), (1, .int p0), (2, .int p1), (3, .int p2)]) G dX1_mix_6 (by decide) rfl ?_
  refine x_lv (lv' := [(0, .ref h0), (1, .int p0), (2, .int p1), (3, .int p2)]) [1, 2, 3, 4] rfl ?_
  refine x_aload_n G rfl dX1_mix_8 0 rfl ?_
  refine x_get G in_X1 0 rfl rfl 0 (by decide) q159 (fun _ h => h) rfl dX1_mix_9 ?_
  refine x_iload_n G rfl dX1_mix_12 2 rfl ?_
  obtain ⟨hz, hq, h⟩ := h
  refine x_aald G 1 6 rfl rfl hz dX1_mix_13 ?_
  rw [hq]
  show X g 12 14 [(0, .ref h0), (1, .int p0), (2, .int p1), (3, .int p2)] [.ref u0] [(h0, .inr (0, [.ref lg, .ref e1, .ref e2, .ref e3, .ref rl, .int cur, .ref sh])), (lg, .inl ((xT g) 6, 12, .inr (.inr (.inr (.inr lgf))))), (u0, .inr (lci kd, [.ref u0a, .ref u0d, .ref u0g, .int gc, .ref u0m])), (u0a, .inl ((xT g) 1, ln, .inl acc)), (u0d, .inl ((xT g) 1, ln, .inl day)), (u0m, .inl (lamC kd (xT g) ln am))] 0 0
  refine x_astore (lv' := [(5, .ref u0), (0, .ref h0), (1, .int p0), (2, .int p1), (3, .int p2)]) G dX1_mix_14 (by decide) rfl ?_
  refine x_aload G dX1_mix_16 0 rfl ?_
  refine x_cUi0 (C := lnm kd) (owner := "RoundingAuditor$Ledger") (x := ⟨"RoundingAuditor$Ledger", "length", "()I"⟩) (wc := [(u0, .inr (lci kd, [.ref u0a, .ref u0d, .ref u0g, .int gc, .ref u0m])), (u0a, .inl ((xT g) 1, ln, .inl acc))]) (As := []) (rest := []) G [(h0, .inr (0, [.ref lg, .ref e1, .ref e2, .ref e3, .ref rl, .int cur, .ref sh])), (lg, .inl ((xT g) 6, 12, .inr (.inr (.inr (.inr lgf))))), (u0d, .inl ((xT g) 1, ln, .inl day)), (u0m, .inl (lamC kd (xT g) ln am))] (XSub.of [0, 1, 4, 5, 2, 3] rfl (by decide)) (tX4_length G.noTraces h) q661 q663 (va_Decl.of (G.hts _ q662) (G.hts _ q666)) (sL_length kd) q662 q78 q666 cdL_length (lci kd) 2 (lci_at kd) rfl rfl (by decide) (by decide) rfl (Nat.le_of_ble_eq_true rfl) (Nat.le_of_ble_eq_true rfl) (Nat.le_of_ble_eq_true rfl) dX1_mix_18 (fun r_1 h => ?_)
  show X g 12 21 [(5, .ref u0), (0, .ref h0), (1, .int p0), (2, .int p1), (3, .int p2)] [.int r_1] [(h0, .inr (0, [.ref lg, .ref e1, .ref e2, .ref e3, .ref rl, .int cur, .ref sh])), (lg, .inl ((xT g) 6, 12, .inr (.inr (.inr (.inr lgf))))), (u0d, .inl ((xT g) 1, ln, .inl day)), (u0m, .inl (lamC kd (xT g) ln am)), (u0, .inr (lci kd, [.ref u0a, .ref u0d, .ref u0g, .int gc, .ref u0m])), (u0a, .inl ((xT g) 1, ln, .inl acc))] 0 0
  refine x_istore (lv' := [(6, .int r_1), (5, .ref u0), (0, .ref h0), (1, .int p0), (2, .int p1), (3, .int p2)]) G dX1_mix_21 (by decide) rfl ?_
  refine x_aload_n G rfl dX1_mix_23 2 rfl ?_
  refine x_get G in_X1 0 rfl rfl 0 (by decide) q159 (fun _ h => h) rfl dX1_mix_24 ?_
  refine x_iload_n G rfl dX1_mix_27 5 rfl ?_
  obtain ⟨hz, hq, h⟩ := h
  refine x_aald G 1 6 rfl rfl hz dX1_mix_28 ?_
  rw [hq]
  show X g 12 29 [(6, .int r_1), (5, .ref u0), (0, .ref h0), (1, .int p0), (2, .int p1), (3, .int p2)] [.ref u0] [(h0, .inr (0, [.ref lg, .ref e1, .ref e2, .ref e3, .ref rl, .int cur, .ref sh])), (lg, .inl ((xT g) 6, 12, .inr (.inr (.inr (.inr lgf))))), (u0d, .inl ((xT g) 1, ln, .inl day)), (u0m, .inl (lamC kd (xT g) ln am)), (u0, .inr (lci kd, [.ref u0a, .ref u0d, .ref u0g, .int gc, .ref u0m])), (u0a, .inl ((xT g) 1, ln, .inl acc))] 0 0
  refine x_astore (lv' := [(7, .ref u0), (6, .int r_1), (5, .ref u0), (0, .ref h0), (1, .int p0), (2, .int p1), (3, .int p2)]) G dX1_mix_29 (by decide) rfl ?_
  refine x_aload G dX1_mix_31 0 rfl ?_
  refine x_cUi0 (C := lnm kd) (owner := "RoundingAuditor$Ledger") (x := ⟨"RoundingAuditor$Ledger", "length", "()I"⟩) (wc := [(u0, .inr (lci kd, [.ref u0a, .ref u0d, .ref u0g, .int gc, .ref u0m])), (u0a, .inl ((xT g) 1, ln, .inl acc))]) (As := []) (rest := []) G [(h0, .inr (0, [.ref lg, .ref e1, .ref e2, .ref e3, .ref rl, .int cur, .ref sh])), (lg, .inl ((xT g) 6, 12, .inr (.inr (.inr (.inr lgf))))), (u0d, .inl ((xT g) 1, ln, .inl day)), (u0m, .inl (lamC kd (xT g) ln am))] (XSub.of [0, 1, 2, 3, 4, 5] rfl (by decide)) (tX4_length G.noTraces h) q661 q663 (va_Decl.of (G.hts _ q662) (G.hts _ q666)) (sL_length kd) q662 q78 q666 cdL_length (lci kd) 4 (lci_at kd) rfl rfl (by decide) (by decide) rfl (Nat.le_of_ble_eq_true rfl) (Nat.le_of_ble_eq_true rfl) (Nat.le_of_ble_eq_true rfl) dX1_mix_33 (fun r_2 h => ?_)
  show X g 12 36 [(7, .ref u0), (6, .int r_1), (5, .ref u0), (0, .ref h0), (1, .int p0), (2, .int p1), (3, .int p2)] [.int r_2] [(h0, .inr (0, [.ref lg, .ref e1, .ref e2, .ref e3, .ref rl, .int cur, .ref sh])), (lg, .inl ((xT g) 6, 12, .inr (.inr (.inr (.inr lgf))))), (u0d, .inl ((xT g) 1, ln, .inl day)), (u0m, .inl (lamC kd (xT g) ln am)), (u0, .inr (lci kd, [.ref u0a, .ref u0d, .ref u0g, .int gc, .ref u0m])), (u0a, .inl ((xT g) 1, ln, .inl acc))] 0 0
  refine x_istore (lv' := [(8, .int r_2), (7, .ref u0), (6, .int r_1), (5, .ref u0), (0, .ref h0), (1, .int p0), (2, .int p1), (3, .int p2)]) G dX1_mix_36 (by decide) rfl ?_
  refine x_aload G dX1_mix_38 3 rfl ?_
  refine x_cUi0 (C := lnm kd) (owner := "RoundingAuditor$Ledger") (x := ⟨"RoundingAuditor$Ledger", "isWide", "()Z"⟩) (wc := []) (As := []) (rest := []) G [(h0, .inr (0, [.ref lg, .ref e1, .ref e2, .ref e3, .ref rl, .int cur, .ref sh])), (lg, .inl ((xT g) 6, 12, .inr (.inr (.inr (.inr lgf))))), (u0d, .inl ((xT g) 1, ln, .inl day)), (u0m, .inl (lamC kd (xT g) ln am)), (u0, .inr (lci kd, [.ref u0a, .ref u0d, .ref u0g, .int gc, .ref u0m])), (u0a, .inl ((xT g) 1, ln, .inl acc))] (XSub.of [0, 1, 2, 3, 4, 5] rfl (by decide)) (tL_isWide kd G.noTraces h) q667 q669 (va_Decl.abs (G.E.2.1.2.2.1 _ (by decide +kernel))) (sL_isWide kd) (hL_isWide kd).1 (hL_isWide kd).2.1 (hL_isWide kd).2.2.1 cdL_isWide (lci kd) 4 (lci_at kd) rfl rfl (by decide) (hL_isWide _).2.2.2 rfl (Nat.le_of_ble_eq_true rfl) (Nat.le_of_ble_eq_true rfl) (Nat.le_of_ble_eq_true rfl) dX1_mix_40 (fun r_3 h => ?_)
  show X g 12 43 [(8, .int r_2), (7, .ref u0), (6, .int r_1), (5, .ref u0), (0, .ref h0), (1, .int p0), (2, .int p1), (3, .int p2)] [.int r_3] [(h0, .inr (0, [.ref lg, .ref e1, .ref e2, .ref e3, .ref rl, .int cur, .ref sh])), (lg, .inl ((xT g) 6, 12, .inr (.inr (.inr (.inr lgf))))), (u0d, .inl ((xT g) 1, ln, .inl day)), (u0m, .inl (lamC kd (xT g) ln am)), (u0, .inr (lci kd, [.ref u0a, .ref u0d, .ref u0g, .int gc, .ref u0m])), (u0a, .inl ((xT g) 1, ln, .inl acc))] 0 0
  refine x_aload G dX1_mix_43 1 rfl ?_
  refine x_cUi0 (C := lnm kd) (owner := "RoundingAuditor$Ledger") (x := ⟨"RoundingAuditor$Ledger", "isWide", "()Z"⟩) (wc := []) (As := []) (rest := [.int r_3]) G [(h0, .inr (0, [.ref lg, .ref e1, .ref e2, .ref e3, .ref rl, .int cur, .ref sh])), (lg, .inl ((xT g) 6, 12, .inr (.inr (.inr (.inr lgf))))), (u0d, .inl ((xT g) 1, ln, .inl day)), (u0m, .inl (lamC kd (xT g) ln am)), (u0, .inr (lci kd, [.ref u0a, .ref u0d, .ref u0g, .int gc, .ref u0m])), (u0a, .inl ((xT g) 1, ln, .inl acc))] (XSub.of [0, 1, 2, 3, 4, 5] rfl (by decide)) (tL_isWide kd G.noTraces h) q667 q669 (va_Decl.abs (G.E.2.1.2.2.1 _ (by decide +kernel))) (sL_isWide kd) (hL_isWide kd).1 (hL_isWide kd).2.1 (hL_isWide kd).2.2.1 cdL_isWide (lci kd) 4 (lci_at kd) rfl rfl (by decide) (hL_isWide _).2.2.2 rfl (Nat.le_of_ble_eq_true rfl) (Nat.le_of_ble_eq_true rfl) (Nat.le_of_ble_eq_true rfl) dX1_mix_45 (fun r_4 h => ?_)
  show X g 12 48 [(8, .int r_2), (7, .ref u0), (6, .int r_1), (5, .ref u0), (0, .ref h0), (1, .int p0), (2, .int p1), (3, .int p2)] [.int r_4, .int r_3] [(h0, .inr (0, [.ref lg, .ref e1, .ref e2, .ref e3, .ref rl, .int cur, .ref sh])), (lg, .inl ((xT g) 6, 12, .inr (.inr (.inr (.inr lgf))))), (u0d, .inl ((xT g) 1, ln, .inl day)), (u0m, .inl (lamC kd (xT g) ln am)), (u0, .inr (lci kd, [.ref u0a, .ref u0d, .ref u0g, .int gc, .ref u0m])), (u0a, .inl ((xT g) 1, ln, .inl acc))] 0 0
  refine x_icmp_eq (tgt := 54) G dX1_mix_48 rfl (fun c => ?_) (fun c => ?_)
  · replace h := h.1 c
    refine x_iload G dX1_mix_54 2 rfl ?_
    refine x_iload G dX1_mix_56 0 rfl ?_
    refine x_iadd G dX1_mix_58 ?_
    refine x_bipush (v := (60 : Int32)) G dX1_mix_59 (by decide) ?_
    refine x_icmp_le (tgt := 67) G dX1_mix_61 rfl (fun c => ?_) (fun c => ?_)
    · replace h := h.1 c
      refine x_aload G dX1_mix_67 3 rfl ?_
      refine x_iload G dX1_mix_69 2 rfl ?_
      refine x_iload G dX1_mix_71 0 rfl ?_
      refine x_iadd G dX1_mix_73 ?_
      refine x_cUq5 (C := lnm kd) (owner := "RoundingAuditor$Ledger") (x := ⟨"RoundingAuditor$Ledger", "another", "(I)LRoundingAuditor$Ledger;"⟩) (wc := []) (As := [.int (r_1 + r_2)]) (rest := []) G [(h0, .inr (0, [.ref lg, .ref e1, .ref e2, .ref e3, .ref rl, .int cur, .ref sh])), (lg, .inl ((xT g) 6, 12, .inr (.inr (.inr (.inr lgf))))), (u0d, .inl ((xT g) 1, ln, .inl day)), (u0m, .inl (lamC kd (xT g) ln am)), (u0, .inr (lci kd, [.ref u0a, .ref u0d, .ref u0g, .int gc, .ref u0m])), (u0a, .inl ((xT g) 1, ln, .inl acc))] (XSub.of [0, 1, 2, 3, 4, 5] rfl (by decide)) (tL_another kd G.noTraces h) q711 q713 (va_Decl.abs (G.E.2.1.2.2.1 _ (by decide +kernel))) (sL_another kd) (hL_another kd).1 (hL_another kd).2.1 (hL_another kd).2.2.1 cdL_another (lci kd) 4 (lci_at kd) rfl rfl (by decide) (hL_another _).2.2.2 rfl (Nat.le_of_ble_eq_true rfl) (Nat.le_of_ble_eq_true rfl) (Nat.le_of_ble_eq_true rfl) dX1_mix_74 (fun r_5 hh_6 b1_7 b2_8 b3_9 b4_10 h => ?_)
      obtain ⟨hq, h⟩ := h
      subst hq
      show X g 12 77 [(8, .int r_2), (7, .ref u0), (6, .int r_1), (5, .ref u0), (0, .ref h0), (1, .int p0), (2, .int p1), (3, .int p2)] [.ref hh_6] [(h0, .inr (0, [.ref lg, .ref e1, .ref e2, .ref e3, .ref rl, .int cur, .ref sh])), (lg, .inl ((xT g) 6, 12, .inr (.inr (.inr (.inr lgf))))), (u0d, .inl ((xT g) 1, ln, .inl day)), (u0m, .inl (lamC kd (xT g) ln am)), (u0, .inr (lci kd, [.ref u0a, .ref u0d, .ref u0g, .int gc, .ref u0m])), (u0a, .inl ((xT g) 1, ln, .inl acc)), (hh_6, .inr (lci kd, [.ref b1_7, .ref b2_8, .ref b3_9, .int (0 : Int32), .ref b4_10])), (b1_7, .inl ((xT g) 1, (r_1 + r_2).toNatClampNeg, .inl (fun _ => 0))), (b2_8, .inl ((xT g) 1, (r_1 + r_2).toNatClampNeg, .inl (fun _ => 0))), (b3_9, .inl ((xT g) 1, (r_1 + r_2).toNatClampNeg, .inl (fun _ => 0))), (b4_10, .inl (lamC kd (xT g) ((r_1 + r_2).toNatClampNeg) (fun _ => FP.dconst0)))] 5 245
      refine x_astore (lv' := [(9, .ref hh_6), (8, .int r_2), (7, .ref u0), (6, .int r_1), (5, .ref u0), (0, .ref h0), (1, .int p0), (2, .int p1), (3, .int p2)]) G dX1_mix_77 (by decide) rfl ?_
      refine x_iconst (v := (0 : Int32)) G dX1_mix_79 (by decide) ?_
      refine x_istore (lv' := [(10, .int (0 : Int32)), (9, .ref hh_6), (8, .int r_2), (7, .ref u0), (6, .int r_1), (5, .ref u0), (0, .ref h0), (1, .int p0), (2, .int p1), (3, .int p2)]) G dX1_mix_80 (by decide) rfl ?_
      refine x_iconst (v := (0 : Int32)) G dX1_mix_82 (by decide) ?_
      refine x_istore (lv' := [(11, .int (0 : Int32)), (10, .int (0 : Int32)), (9, .ref hh_6), (8, .int r_2), (7, .ref u0), (6, .int r_1), (5, .ref u0), (0, .ref h0), (1, .int p0), (2, .int p1), (3, .int p2)]) G dX1_mix_83 (by decide) rfl ?_
      obtain ⟨n0, h⟩ := h
      refine kX1_mix_A_L85 G (fun v10_41 v11_42 el_7_c_43 el_8_c_44 el_10_c_45 h => ?_) n0 _ _ _ _ _ h
      · refine x_aload_n G rfl dX1_mix_145 7 rfl ?_
        refine x_get G in_X1 0 rfl rfl 0 (by decide) q159 (fun _ h => h) rfl dX1_mix_146 ?_
        refine x_iload_n G rfl dX1_mix_149 8 rfl ?_
        refine x_aload G dX1_mix_150 2 rfl ?_
        obtain ⟨hz, h⟩ := h
        obtain ⟨f_46, ef_46⟩ : ∃ z : Nat → Option Nat, z = va_up lgf p0.toNatClampNeg (some hh_6) := ⟨_, rfl⟩
        replace h := h f_46 ef_46
        refine x_aast G 1 6 6 rfl rfl (lnm_cast kd) rfl (lci_at kd) hz (by rw [← ef_46]) dX1_mix_152 ?_
        show X g 12 153 [(11, .int v11_42), (10, .int v10_41), (9, .ref hh_6), (8, .int r_2), (7, .ref u0), (6, .int r_1), (5, .ref u0), (0, .ref h0), (1, .int p0), (2, .int p1), (3, .int p2)] [] [(h0, .inr (0, [.ref lg, .ref e1, .ref e2, .ref e3, .ref rl, .int cur, .ref sh])), (lg, .inl ((xT g) 6, 12, .inr (.inr (.inr (.inr f_46))))), (u0d, .inl ((xT g) 1, ln, .inl day)), (u0m, .inl (lamC kd (xT g) ln am)), (u0, .inr (lci kd, [.ref u0a, .ref u0d, .ref u0g, .int gc, .ref u0m])), (u0a, .inl ((xT g) 1, ln, .inl acc)), (hh_6, .inr (lci kd, [.ref b1_7, .ref b2_8, .ref b3_9, .int (0 : Int32), .ref b4_10])), (b1_7, .inl ((xT g) 1, (r_1 + r_2).toNatClampNeg, .inl el_7_c_43)), (b2_8, .inl ((xT g) 1, (r_1 + r_2).toNatClampNeg, .inl el_8_c_44)), (b3_9, .inl ((xT g) 1, (r_1 + r_2).toNatClampNeg, .inl (fun _ => 0))), (b4_10, .inl (lamC kd (xT g) ((r_1 + r_2).toNatClampNeg) el_10_c_45))] 5 245
        refine x_iload G dX1_mix_153 1 rfl ?_
        exact x_reti11 G Q dX1_mix_155 rfl f_46 hh_6 b1_7 b2_8 b3_9 b4_10 ((r_1 + r_2).toNatClampNeg) el_7_c_43 el_8_c_44 (fun _ => 0) el_10_c_45 h (XSub.of [0, 1, 4, 5, 2, 3, 6, 7, 8, 9, 10] rfl (by decide)) (Nat.le_of_ble_eq_true rfl) (Nat.le_of_ble_eq_true rfl)
    · replace h := h.2 c
      exact h.elim
  · replace h := h.2 c
    exact h.elim
def wX4_isLike_0 (kd : Bool) (K : Int32 → Prop) (E : String → Prop) : Prop := (wL_isWide kd (fun (r_1 : Int32) => E "java/lang/NullPointerException"))
set_option maxRecDepth 20000 in
theorem tX4_isLike_0 {l : Launch} {D : va_G} {ta : Nat → ClassId} {h0 : Nat} {kd : Bool} {h0a : Nat} {h0d : Nat} {h0g : Nat} {gc : Int32} {h0m : Nat} {K : Int32 → Prop} {E : String → Prop} (hlt : l.stackTraces = false) (h : wX4_isLike_0 kd K E) : SXi0 l D ta yX4_isLike cX4_isLike 4 FieldType.boolean 2 [.ref h0, .null] [(h0, .inr (lci kd, [.ref h0a, .ref h0d, .ref h0g, .int gc, .ref h0m]))] ([(h0, .inr (lci kd, [.ref h0a, .ref h0d, .ref h0g, .int gc, .ref h0m]))]) 1 8 K E := by
  refine x_sxi0 hlt (by decide +kernel) (Nat.le_of_ble_eq_true rfl) (fun g G hl hD hT hN Q => ?_)
  subst hl; subst hD; subst hT
  unfold wX4_isLike_0 at h
  show X g 4 0 [(0, .ref h0), (1, .null)] [] [(h0, .inr (lci kd, [.ref h0a, .ref h0d, .ref h0g, .int gc, .ref h0m]))] 0 0
  refine x_aload_n G rfl dX4_isLike_0 0 rfl ?_
  refine x_cUi0 (C := lnm kd) (owner := "RoundingAuditor$Ledger") (x := ⟨"RoundingAuditor$Ledger", "isWide", "()Z"⟩) (wc := []) (As := []) (rest := []) G [(h0, .inr (lci kd, [.ref h0a, .ref h0d, .ref h0g, .int gc, .ref h0m]))] (XSub.of [0] rfl (by decide)) (tL_isWide kd G.noTraces h) q756 q669 (va_Decl.abs (G.E.2.1.2.2.1 _ (by decide +kernel))) (sL_isWide kd) (hL_isWide kd).1 (hL_isWide kd).2.1 (hL_isWide kd).2.2.1 cdL_isWide (lci kd) 0 (lci_at kd) rfl rfl (by decide) (hL_isWide _).2.2.2 rfl (Nat.le_of_ble_eq_true rfl) (Nat.le_of_ble_eq_true rfl) (Nat.le_of_ble_eq_true rfl) dX4_isLike_1 (fun r_1 h => ?_)
  show X g 4 4 [(0, .ref h0), (1, .null)] [.int r_1] [(h0, .inr (lci kd, [.ref h0a, .ref h0d, .ref h0g, .int gc, .ref h0m]))] 0 0
  refine x_aload_nN G rfl dX4_isLike_4 1 rfl ?_
  refine x_invN (z := ⟨"RoundingAuditor$Ledger", "length", "()I"⟩) (As := []) (rest := [.int r_1]) G q756 (va_Decl.abs (G.E.2.1.2.2.1 _ (by decide +kernel))) rfl q665 (show ("RoundingAuditor$Ledger" : String) ≠ "java/lang/invoke/MethodHandle" ∧ ("RoundingAuditor$Ledger" : String) ≠ "java/lang/invoke/VarHandle" ∧ (parseMethodDescriptor "()Z").map (fun d => d.parameters.length) = some 0 from by decide +kernel) rfl (Nat.le_of_ble_eq_true rfl) (Nat.le_of_ble_eq_true rfl) (Nat.le_of_ble_eq_true rfl) dX4_isLike_5 ?_
  exact x_oi0 G Q h XSub.rf (Nat.le_of_ble_eq_true rfl) (Nat.le_of_ble_eq_true rfl)
def wX4_isLike_A_L30 (kd : Bool) (ln : Nat) (acc : Nat → Int32) (day : Nat → Int32) (am : Nat → UInt64) (X106 : Int32 → Int32 → Prop) : Nat → Int32 → Int32 → Prop
  | 0, _, _ => False
  | n + 1, v2_4, v3_5 => ((v2_4 = (0 : Int32) → X106 v2_4 v3_5) ∧ (¬ v2_4 = (0 : Int32) → (wX4_length ln (fun (r_6 : Int32) => ((r_6 ≤ v3_5 → X106 v2_4 v3_5) ∧ (¬ r_6 ≤ v3_5 → (wL_at kd v3_5 ln am (fun (r_7 : UInt64) => (wL_bits kd r_7 (fun (r_8 : Int64) => (wL_at kd v3_5 ln am (fun (r_9 : UInt64) => (wL_bits kd r_9 (fun (r_10 : Int64) => ((¬ r_8 = r_10 → (∀ x_11 : Int32, x_11 = (v3_5 + (1 : Int32)) → wX4_isLike_A_L30 kd ln acc day am X106 n (0 : Int32) x_11)) ∧ (r_8 = r_10 → (vp_in v3_5 ln ∧ (vp_in v3_5 ln ∧ ((¬ (acc v3_5.toNatClampNeg) = (acc v3_5.toNatClampNeg) → (∀ x_12 : Int32, x_12 = (v3_5 + (1 : Int32)) → wX4_isLike_A_L30 kd ln acc day am X106 n (0 : Int32) x_12)) ∧ ((acc v3_5.toNatClampNeg) = (acc v3_5.toNatClampNeg) → (vp_in v3_5 ln ∧ (vp_in v3_5 ln ∧ ((¬ (day v3_5.toNatClampNeg) = (day v3_5.toNatClampNeg) → (∀ x_13 : Int32, x_13 = (v3_5 + (1 : Int32)) → wX4_isLike_A_L30 kd ln acc day am X106 n (0 : Int32) x_13)) ∧ ((day v3_5.toNatClampNeg) = (day v3_5.toNatClampNeg) → (∀ x_14 : Int32, x_14 = (v3_5 + (1 : Int32)) → wX4_isLike_A_L30 kd ln acc day am X106 n (1 : Int32) x_14)))))))))))))))))))))))))
def wX4_isLike_A_J27 (kd : Bool) (ln : Nat) (acc : Nat → Int32) (day : Nat → Int32) (am : Nat → UInt64) (K : Int32 → Prop) : Int32 → Prop := fun (s_3 : Int32) => (∃ m30 : Nat, wX4_isLike_A_L30 kd ln acc day am (fun (v2_17 : Int32) (v3_18 : Int32) => (isB v2_17 ∧ K v2_17)) m30 s_3 (0 : Int32))
def wX4_isLike_A (kd : Bool) (ln : Nat) (acc : Nat → Int32) (day : Nat → Int32) (am : Nat → UInt64) (K : Int32 → Prop) : Prop := (wL_isWide kd (fun (r_1 : Int32) => (wL_isWide kd (fun (r_2 : Int32) => ((¬ r_1 = r_2 → (wX4_isLike_A_J27 kd ln acc day am K (0 : Int32))) ∧ (r_1 = r_2 → (wX4_length ln (fun (r_19 : Int32) => (wX4_length ln (fun (r_20 : Int32) => ((¬ r_19 = r_20 → (wX4_isLike_A_J27 kd ln acc day am K (0 : Int32))) ∧ (r_19 = r_20 → (wX4_isLike_A_J27 kd ln acc day am K (1 : Int32))))))))))))))
set_option maxRecDepth 20000 in
theorem kX4_isLike_A_L30 {g : XG} {h0 : Nat} {kd : Bool} {h0a : Nat} {h0d : Nat} {h0g : Nat} {gc : Int32} {h0m : Nat} {ln : Nat} {acc : Nat → Int32} {day : Nat → Int32} {am : Nat → UInt64} {X106 : Int32 → Int32 → Prop} (G : XO g RX4 cX4_isLike 4 4 0 0) (hX106 : ∀ (v2_15 : Int32) (v3_16 : Int32), X106 v2_15 v3_16 → X g 4 106 [(3, .int v3_16), (2, .int v2_15), (0, .ref h0), (1, .ref h0)] [] [(h0, .inr (lci kd, [.ref h0a, .ref h0d, .ref h0g, .int gc, .ref h0m])), (h0a, .inl ((xT g) 1, ln, .inl acc)), (h0d, .inl ((xT g) 1, ln, .inl day)), (h0m, .inl (lamC kd (xT g) ln am))] 0 0) : ∀ (n : Nat) (v2_4 : Int32) (v3_5 : Int32), wX4_isLike_A_L30 kd ln acc day am X106 n v2_4 v3_5 → X g 4 30 [(3, .int v3_5), (2, .int v2_4), (0, .ref h0), (1, .ref h0)] [] [(h0, .inr (lci kd, [.ref h0a, .ref h0d, .ref h0g, .int gc, .ref h0m])), (h0a, .inl ((xT g) 1, ln, .inl acc)), (h0d, .inl ((xT g) 1, ln, .inl day)), (h0m, .inl (lamC kd (xT g) ln am))] 0 0 := by
  intro n
  induction n with
  | zero => intro _ _ h; exact h.elim
  | succ n ih =>
    intro v2_4 v3_5 h
    unfold wX4_isLike_A_L30 at h
    refine x_iload_n G rfl dX4_isLike_30 1 rfl ?_
    refine x_if_eq (tgt := 106) G dX4_isLike_31 rfl (fun c => ?_) (fun c => ?_)
    · replace h := h.1 c
      exact hX106 v2_4 v3_5 h
    · replace h := h.2 c
      refine x_iload_n G rfl dX4_isLike_34 0 rfl ?_
      refine x_aload_n G rfl dX4_isLike_35 2 rfl ?_
      refine x_cUi0 (C := lnm kd) (owner := "RoundingAuditor$Ledger") (x := ⟨"RoundingAuditor$Ledger", "length", "()I"⟩) (wc := [(h0, .inr (lci kd, [.ref h0a, .ref h0d, .ref h0g, .int gc, .ref h0m])), (h0a, .inl ((xT g) 1, ln, .inl acc))]) (As := []) (rest := [.int v3_5]) G [(h0d, .inl ((xT g) 1, ln, .inl day)), (h0m, .inl (lamC kd (xT g) ln am))] (XSub.of [2, 3, 0, 1] rfl (by decide)) (tX4_length G.noTraces h) q757 q663 (va_Decl.of (G.hts _ q662) (G.hts _ q666)) (sL_length kd) q662 q78 q666 cdL_length (lci kd) 0 (lci_at kd) rfl rfl (by decide) (by decide) rfl (Nat.le_of_ble_eq_true rfl) (Nat.le_of_ble_eq_true rfl) (Nat.le_of_ble_eq_true rfl) dX4_isLike_36 (fun r_6 h => ?_)
      show X g 4 39 [(3, .int v3_5), (2, .int v2_4), (0, .ref h0), (1, .ref h0)] [.int r_6, .int v3_5] [(h0d, .inl ((xT g) 1, ln, .inl day)), (h0m, .inl (lamC kd (xT g) ln am)), (h0, .inr (lci kd, [.ref h0a, .ref h0d, .ref h0g, .int gc, .ref h0m])), (h0a, .inl ((xT g) 1, ln, .inl acc))] 0 0
      refine x_icmp_ge (tgt := 106) G dX4_isLike_39 rfl (fun c => ?_) (fun c => ?_)
      · replace h := h.1 c
        refine x_ws (ws' := [(h0, .inr (lci kd, [.ref h0a, .ref h0d, .ref h0g, .int gc, .ref h0m])), (h0a, .inl ((xT g) 1, ln, .inl acc)), (h0d, .inl ((xT g) 1, ln, .inl day)), (h0m, .inl (lamC kd (xT g) ln am))]) (XSub.of [2, 3, 0, 1] rfl (by decide)) ?_
        exact hX106 v2_4 v3_5 h
      · replace h := h.2 c
        refine x_aload_n G rfl dX4_isLike_42 2 rfl ?_
        refine x_aload_n G rfl dX4_isLike_43 2 rfl ?_
        refine x_iload_n G rfl dX4_isLike_44 0 rfl ?_
        refine x_cUd0 (C := lnm kd) (owner := "RoundingAuditor$Ledger") (x := ⟨"RoundingAuditor$Ledger", "at", "(I)D"⟩) (wc := [(h0, .inr (lci kd, [.ref h0a, .ref h0d, .ref h0g, .int gc, .ref h0m])), (h0m, .inl (lamC kd (xT g) ln am))]) (As := [.int v3_5]) (rest := [.ref h0]) G [(h0d, .inl ((xT g) 1, ln, .inl day)), (h0a, .inl ((xT g) 1, ln, .inl acc))] (XSub.of [0, 3, 2, 1] rfl (by decide)) (tL_at kd G.noTraces h) q730 q619 (va_Decl.abs (G.E.2.1.2.2.1 _ (by decide +kernel))) (sL_at kd) (hL_at kd).1 (hL_at kd).2.1 (hL_at kd).2.2.1 cdL_at (lci kd) 2 (lci_at kd) rfl rfl (by decide) (hL_at _).2.2.2 rfl (Nat.le_of_ble_eq_true rfl) (Nat.le_of_ble_eq_true rfl) (Nat.le_of_ble_eq_true rfl) dX4_isLike_45 (fun r_7 h => ?_)
        show X g 4 48 [(3, .int v3_5), (2, .int v2_4), (0, .ref h0), (1, .ref h0)] [.double r_7, .ref h0] [(h0d, .inl ((xT g) 1, ln, .inl day)), (h0a, .inl ((xT g) 1, ln, .inl acc)), (h0, .inr (lci kd, [.ref h0a, .ref h0d, .ref h0g, .int gc, .ref h0m])), (h0m, .inl (lamC kd (xT g) ln am))] 0 0
        refine x_cUl0 (C := lnm kd) (owner := "RoundingAuditor$Ledger") (x := ⟨"RoundingAuditor$Ledger", "bits", "(D)J"⟩) (wc := []) (As := [.double r_7]) (rest := []) G [(h0d, .inl ((xT g) 1, ln, .inl day)), (h0a, .inl ((xT g) 1, ln, .inl acc)), (h0, .inr (lci kd, [.ref h0a, .ref h0d, .ref h0g, .int gc, .ref h0m])), (h0m, .inl (lamC kd (xT g) ln am))] (XSub.of [0, 1, 2, 3] rfl (by decide)) (tL_bits kd G.noTraces h) q731 q628 (va_Decl.abs (G.E.2.1.2.2.1 _ (by decide +kernel))) (sL_bits kd) (hL_bits kd).1 (hL_bits kd).2.1 (hL_bits kd).2.2.1 cdL_bits (lci kd) 2 (lci_at kd) rfl rfl (by decide) (hL_bits _).2.2.2 rfl (Nat.le_of_ble_eq_true rfl) (Nat.le_of_ble_eq_true rfl) (Nat.le_of_ble_eq_true rfl) dX4_isLike_48 (fun r_8 h => ?_)
        show X g 4 51 [(3, .int v3_5), (2, .int v2_4), (0, .ref h0), (1, .ref h0)] [.long r_8] [(h0d, .inl ((xT g) 1, ln, .inl day)), (h0a, .inl ((xT g) 1, ln, .inl acc)), (h0, .inr (lci kd, [.ref h0a, .ref h0d, .ref h0g, .int gc, .ref h0m])), (h0m, .inl (lamC kd (xT g) ln am))] 0 0
        refine x_aload_n G rfl dX4_isLike_51 3 rfl ?_
        refine x_aload_n G rfl dX4_isLike_52 3 rfl ?_
        refine x_iload_n G rfl dX4_isLike_53 0 rfl ?_
        refine x_cUd0 (C := lnm kd) (owner := "RoundingAuditor$Ledger") (x := ⟨"RoundingAuditor$Ledger", "at", "(I)D"⟩) (wc := [(h0, .inr (lci kd, [.ref h0a, .ref h0d, .ref h0g, .int gc, .ref h0m])), (h0m, .inl (lamC kd (xT g) ln am))]) (As := [.int v3_5]) (rest := [.ref h0, .long r_8]) G [(h0d, .inl ((xT g) 1, ln, .inl day)), (h0a, .inl ((xT g) 1, ln, .inl acc))] (XSub.of [0, 1, 2, 3] rfl (by decide)) (tL_at kd G.noTraces h) q730 q619 (va_Decl.abs (G.E.2.1.2.2.1 _ (by decide +kernel))) (sL_at kd) (hL_at kd).1 (hL_at kd).2.1 (hL_at kd).2.2.1 cdL_at (lci kd) 2 (lci_at kd) rfl rfl (by decide) (hL_at _).2.2.2 rfl (Nat.le_of_ble_eq_true rfl) (Nat.le_of_ble_eq_true rfl) (Nat.le_of_ble_eq_true rfl) dX4_isLike_54 (fun r_9 h => ?_)
        show X g 4 57 [(3, .int v3_5), (2, .int v2_4), (0, .ref h0), (1, .ref h0)] [.double r_9, .ref h0, .long r_8] [(h0d, .inl ((xT g) 1, ln, .inl day)), (h0a, .inl ((xT g) 1, ln, .inl acc)), (h0, .inr (lci kd, [.ref h0a, .ref h0d, .ref h0g, .int gc, .ref h0m])), (h0m, .inl (lamC kd (xT g) ln am))] 0 0
        refine x_cUl0 (C := lnm kd) (owner := "RoundingAuditor$Ledger") (x := ⟨"RoundingAuditor$Ledger", "bits", "(D)J"⟩) (wc := []) (As := [.double r_9]) (rest := [.long r_8]) G [(h0d, .inl ((xT g) 1, ln, .inl day)), (h0a, .inl ((xT g) 1, ln, .inl acc)), (h0, .inr (lci kd, [.ref h0a, .ref h0d, .ref h0g, .int gc, .ref h0m])), (h0m, .inl (lamC kd (xT g) ln am))] (XSub.of [0, 1, 2, 3] rfl (by decide)) (tL_bits kd G.noTraces h) q731 q628 (va_Decl.abs (G.E.2.1.2.2.1 _ (by decide +kernel))) (sL_bits kd) (hL_bits kd).1 (hL_bits kd).2.1 (hL_bits kd).2.2.1 cdL_bits (lci kd) 2 (lci_at kd) rfl rfl (by decide) (hL_bits _).2.2.2 rfl (Nat.le_of_ble_eq_true rfl) (Nat.le_of_ble_eq_true rfl) (Nat.le_of_ble_eq_true rfl) dX4_isLike_57 (fun r_10 h => ?_)
        show X g 4 60 [(3, .int v3_5), (2, .int v2_4), (0, .ref h0), (1, .ref h0)] [.long r_10, .long r_8] [(h0d, .inl ((xT g) 1, ln, .inl day)), (h0a, .inl ((xT g) 1, ln, .inl acc)), (h0, .inr (lci kd, [.ref h0a, .ref h0d, .ref h0g, .int gc, .ref h0m])), (h0m, .inl (lamC kd (xT g) ln am))] 0 0
        refine x_lcmp_ne (tgt := 98) G dX4_isLike_60 dX4_isLike_61 rfl (fun c => ?_) (fun c => ?_)
        · replace h := h.1 c
          refine x_iconst (v := (0 : Int32)) G dX4_isLike_98 (by decide) ?_
          refine x_istore_n (lv' := [(2, .int (0 : Int32)), (3, .int v3_5), (0, .ref h0), (1, .ref h0)]) G rfl dX4_isLike_99 (by decide) rfl ?_
          obtain ⟨x_11, ex_11⟩ : ∃ z : Int32, z = (v3_5 + (1 : Int32)) := ⟨_, rfl⟩
          replace h := h x_11 ex_11
          refine x_iinc (v := x_11) (lv' := [(3, .int x_11), (2, .int (0 : Int32)), (0, .ref h0), (1, .ref h0)]) G dX4_isLike_100 1 rfl (by rw [ex_11]; rfl) (by decide) rfl ?_
          refine x_goto (tgt := 30) G dX4_isLike_103 rfl ?_
          refine x_ws (ws' := [(h0, .inr (lci kd, [.ref h0a, .ref h0d, .ref h0g, .int gc, .ref h0m])), (h0a, .inl ((xT g) 1, ln, .inl acc)), (h0d, .inl ((xT g) 1, ln, .inl day)), (h0m, .inl (lamC kd (xT g) ln am))]) (XSub.of [2, 1, 0, 3] rfl (by decide)) ?_
          exact ih (0 : Int32) x_11 h
        · replace h := h.2 c
          refine x_aload_n G rfl dX4_isLike_64 2 rfl ?_
          refine x_getL kd G 2 rfl 0 (by decide) q514 rfl dX4_isLike_65 ?_
          refine x_iload_n G rfl dX4_isLike_68 0 rfl ?_
          obtain ⟨hz, h⟩ := h
          refine x_bald G 1 rfl hz dX4_isLike_69 ?_
          refine x_aload_n G rfl dX4_isLike_70 3 rfl ?_
          refine x_getL kd G 2 rfl 0 (by decide) q514 rfl dX4_isLike_71 ?_
          refine x_iload_n G rfl dX4_isLike_74 0 rfl ?_
          obtain ⟨hz, h⟩ := h
          refine x_bald G 1 rfl hz dX4_isLike_75 ?_
          refine x_icmp_ne (tgt := 98) G dX4_isLike_76 rfl (fun c => ?_) (fun c => ?_)
          · replace h := h.1 c
            refine x_iconst (v := (0 : Int32)) G dX4_isLike_98 (by decide) ?_
            refine x_istore_n (lv' := [(2, .int (0 : Int32)), (3, .int v3_5), (0, .ref h0), (1, .ref h0)]) G rfl dX4_isLike_99 (by decide) rfl ?_
            obtain ⟨x_12, ex_12⟩ : ∃ z : Int32, z = (v3_5 + (1 : Int32)) := ⟨_, rfl⟩
            replace h := h x_12 ex_12
            refine x_iinc (v := x_12) (lv' := [(3, .int x_12), (2, .int (0 : Int32)), (0, .ref h0), (1, .ref h0)]) G dX4_isLike_100 1 rfl (by rw [ex_12]; rfl) (by decide) rfl ?_
            refine x_goto (tgt := 30) G dX4_isLike_103 rfl ?_
            refine x_ws (ws' := [(h0, .inr (lci kd, [.ref h0a, .ref h0d, .ref h0g, .int gc, .ref h0m])), (h0a, .inl ((xT g) 1, ln, .inl acc)), (h0d, .inl ((xT g) 1, ln, .inl day)), (h0m, .inl (lamC kd (xT g) ln am))]) (XSub.of [2, 1, 0, 3] rfl (by decide)) ?_
            exact ih (0 : Int32) x_12 h
          · replace h := h.2 c
            refine x_aload_n G rfl dX4_isLike_79 2 rfl ?_
            refine x_getL kd G 2 rfl 1 (by decide) q515 rfl dX4_isLike_80 ?_
            refine x_iload_n G rfl dX4_isLike_83 0 rfl ?_
            obtain ⟨hz, h⟩ := h
            refine x_bald G 0 rfl hz dX4_isLike_84 ?_
            refine x_aload_n G rfl dX4_isLike_85 3 rfl ?_
            refine x_getL kd G 2 rfl 1 (by decide) q515 rfl dX4_isLike_86 ?_
            refine x_iload_n G rfl dX4_isLike_89 0 rfl ?_
            obtain ⟨hz, h⟩ := h
            refine x_bald G 0 rfl hz dX4_isLike_90 ?_
            refine x_icmp_ne (tgt := 98) G dX4_isLike_91 rfl (fun c => ?_) (fun c => ?_)
            · replace h := h.1 c
              refine x_iconst (v := (0 : Int32)) G dX4_isLike_98 (by decide) ?_
              refine x_istore_n (lv' := [(2, .int (0 : Int32)), (3, .int v3_5), (0, .ref h0), (1, .ref h0)]) G rfl dX4_isLike_99 (by decide) rfl ?_
              obtain ⟨x_13, ex_13⟩ : ∃ z : Int32, z = (v3_5 + (1 : Int32)) := ⟨_, rfl⟩
              replace h := h x_13 ex_13
              refine x_iinc (v := x_13) (lv' := [(3, .int x_13), (2, .int (0 : Int32)), (0, .ref h0), (1, .ref h0)]) G dX4_isLike_100 1 rfl (by rw [ex_13]; rfl) (by decide) rfl ?_
              refine x_goto (tgt := 30) G dX4_isLike_103 rfl ?_
              refine x_ws (ws' := [(h0, .inr (lci kd, [.ref h0a, .ref h0d, .ref h0g, .int gc, .ref h0m])), (h0a, .inl ((xT g) 1, ln, .inl acc)), (h0d, .inl ((xT g) 1, ln, .inl day)), (h0m, .inl (lamC kd (xT g) ln am))]) (XSub.of [2, 1, 0, 3] rfl (by decide)) ?_
              exact ih (0 : Int32) x_13 h
            · replace h := h.2 c
              refine x_iconst (v := (1 : Int32)) G dX4_isLike_94 (by decide) ?_
              refine x_goto (tgt := 99) G dX4_isLike_95 rfl ?_
              refine x_istore_n (lv' := [(2, .int (1 : Int32)), (3, .int v3_5), (0, .ref h0), (1, .ref h0)]) G rfl dX4_isLike_99 (by decide) rfl ?_
              obtain ⟨x_14, ex_14⟩ : ∃ z : Int32, z = (v3_5 + (1 : Int32)) := ⟨_, rfl⟩
              replace h := h x_14 ex_14
              refine x_iinc (v := x_14) (lv' := [(3, .int x_14), (2, .int (1 : Int32)), (0, .ref h0), (1, .ref h0)]) G dX4_isLike_100 1 rfl (by rw [ex_14]; rfl) (by decide) rfl ?_
              refine x_goto (tgt := 30) G dX4_isLike_103 rfl ?_
              refine x_ws (ws' := [(h0, .inr (lci kd, [.ref h0a, .ref h0d, .ref h0g, .int gc, .ref h0m])), (h0a, .inl ((xT g) 1, ln, .inl acc)), (h0d, .inl ((xT g) 1, ln, .inl day)), (h0m, .inl (lamC kd (xT g) ln am))]) (XSub.of [2, 1, 0, 3] rfl (by decide)) ?_
              exact ih (1 : Int32) x_14 h
set_option maxRecDepth 20000 in
theorem kX4_isLike_A_J27 {g : XG} {h0 : Nat} {kd : Bool} {h0a : Nat} {h0d : Nat} {h0g : Nat} {gc : Int32} {h0m : Nat} {ln : Nat} {acc : Nat → Int32} {day : Nat → Int32} {am : Nat → UInt64} {K : Int32 → Prop} (G : XO g RX4 cX4_isLike 4 4 0 0) (Q : XQi0 g FieldType.boolean 0 0 ([(h0, .inr (lci kd, [.ref h0a, .ref h0d, .ref h0g, .int gc, .ref h0m])), (h0a, .inl ((xT g) 1, ln, .inl acc)), (h0d, .inl ((xT g) 1, ln, .inl day)), (h0m, .inl (lamC kd (xT g) ln am))]) K) : ∀ (s_3 : Int32), wX4_isLike_A_J27 kd ln acc day am K s_3 → X g 4 27 [(0, .ref h0), (1, .ref h0)] [.int s_3] [(h0, .inr (lci kd, [.ref h0a, .ref h0d, .ref h0g, .int gc, .ref h0m])), (h0a, .inl ((xT g) 1, ln, .inl acc)), (h0d, .inl ((xT g) 1, ln, .inl day)), (h0m, .inl (lamC kd (xT g) ln am))] 0 0 := by
  intro s_3 h
  unfold wX4_isLike_A_J27 at h
  refine x_istore_n (lv' := [(2, .int s_3), (0, .ref h0), (1, .ref h0)]) G rfl dX4_isLike_27 (by decide) rfl ?_
  refine x_iconst (v := (0 : Int32)) G dX4_isLike_28 (by decide) ?_
  refine x_istore_n (lv' := [(3, .int (0 : Int32)), (2, .int s_3), (0, .ref h0), (1, .ref h0)]) G rfl dX4_isLike_29 (by decide) rfl ?_
  obtain ⟨n0, h⟩ := h
  refine kX4_isLike_A_L30 G (fun v2_17 v3_18 h => ?_) n0 _ _ h
  · refine x_iload_n G rfl dX4_isLike_106 1 rfl ?_
    obtain ⟨hb, h⟩ := h
    exact x_reti0 G Q dX4_isLike_107 hb.nar  h XSub.rf (Nat.le_of_ble_eq_true rfl) (Nat.le_of_ble_eq_true rfl)
set_option maxRecDepth 20000 in
theorem tX4_isLike_A {l : Launch} {D : va_G} {ta : Nat → ClassId} {h0 : Nat} {kd : Bool} {h0a : Nat} {h0d : Nat} {h0g : Nat} {gc : Int32} {h0m : Nat} {ln : Nat} {acc : Nat → Int32} {day : Nat → Int32} {am : Nat → UInt64} {K : Int32 → Prop} (hlt : l.stackTraces = false) (h : wX4_isLike_A kd ln acc day am K) : SMi0 l D ta yX4_isLike cX4_isLike 4 FieldType.boolean 4 [.ref h0, .ref h0] [(h0, .inr (lci kd, [.ref h0a, .ref h0d, .ref h0g, .int gc, .ref h0m])), (h0a, .inl (ta 1, ln, .inl acc)), (h0d, .inl (ta 1, ln, .inl day)), (h0m, .inl (lamC kd ta ln am))] ([(h0, .inr (lci kd, [.ref h0a, .ref h0d, .ref h0g, .int gc, .ref h0m])), (h0a, .inl (ta 1, ln, .inl acc)), (h0d, .inl (ta 1, ln, .inl day)), (h0m, .inl (lamC kd ta ln am))]) 0 0 K := by
  refine x_sti0 hlt (plainFor_of_name (by decide +kernel)) (Nat.le_of_ble_eq_true rfl) (fun g G hl hD hT Q => ?_)
  subst hl; subst hD; subst hT
  unfold wX4_isLike_A at h
  show X g 4 0 [(0, .ref h0), (1, .ref h0)] [] [(h0, .inr (lci kd, [.ref h0a, .ref h0d, .ref h0g, .int gc, .ref h0m])), (h0a, .inl ((xT g) 1, ln, .inl acc)), (h0d, .inl ((xT g) 1, ln, .inl day)), (h0m, .inl (lamC kd (xT g) ln am))] 0 0
  refine x_aload_n G rfl dX4_isLike_0 0 rfl ?_
  refine x_cUi0 (C := lnm kd) (owner := "RoundingAuditor$Ledger") (x := ⟨"RoundingAuditor$Ledger", "isWide", "()Z"⟩) (wc := []) (As := []) (rest := []) G [(h0, .inr (lci kd, [.ref h0a, .ref h0d, .ref h0g, .int gc, .ref h0m])), (h0a, .inl ((xT g) 1, ln, .inl acc)), (h0d, .inl ((xT g) 1, ln, .inl day)), (h0m, .inl (lamC kd (xT g) ln am))] (XSub.of [0, 1, 2, 3] rfl (by decide)) (tL_isWide kd G.noTraces h) q756 q669 (va_Decl.abs (G.E.2.1.2.2.1 _ (by decide +kernel))) (sL_isWide kd) (hL_isWide kd).1 (hL_isWide kd).2.1 (hL_isWide kd).2.2.1 cdL_isWide (lci kd) 0 (lci_at kd) rfl rfl (by decide) (hL_isWide _).2.2.2 rfl (Nat.le_of_ble_eq_true rfl) (Nat.le_of_ble_eq_true rfl) (Nat.le_of_ble_eq_true rfl) dX4_isLike_1 (fun r_1 h => ?_)
  show X g 4 4 [(0, .ref h0), (1, .ref h0)] [.int r_1] [(h0, .inr (lci kd, [.ref h0a, .ref h0d, .ref h0g, .int gc, .ref h0m])), (h0a, .inl ((xT g) 1, ln, .inl acc)), (h0d, .inl ((xT g) 1, ln, .inl day)), (h0m, .inl (lamC kd (xT g) ln am))] 0 0
  refine x_aload_n G rfl dX4_isLike_4 1 rfl ?_
  refine x_cUi0 (C := lnm kd) (owner := "RoundingAuditor$Ledger") (x := ⟨"RoundingAuditor$Ledger", "isWide", "()Z"⟩) (wc := []) (As := []) (rest := [.int r_1]) G [(h0, .inr (lci kd, [.ref h0a, .ref h0d, .ref h0g, .int gc, .ref h0m])), (h0a, .inl ((xT g) 1, ln, .inl acc)), (h0d, .inl ((xT g) 1, ln, .inl day)), (h0m, .inl (lamC kd (xT g) ln am))] (XSub.of [0, 1, 2, 3] rfl (by decide)) (tL_isWide kd G.noTraces h) q756 q669 (va_Decl.abs (G.E.2.1.2.2.1 _ (by decide +kernel))) (sL_isWide kd) (hL_isWide kd).1 (hL_isWide kd).2.1 (hL_isWide kd).2.2.1 cdL_isWide (lci kd) 0 (lci_at kd) rfl rfl (by decide) (hL_isWide _).2.2.2 rfl (Nat.le_of_ble_eq_true rfl) (Nat.le_of_ble_eq_true rfl) (Nat.le_of_ble_eq_true rfl) dX4_isLike_5 (fun r_2 h => ?_)
  show X g 4 8 [(0, .ref h0), (1, .ref h0)] [.int r_2, .int r_1] [(h0, .inr (lci kd, [.ref h0a, .ref h0d, .ref h0g, .int gc, .ref h0m])), (h0a, .inl ((xT g) 1, ln, .inl acc)), (h0d, .inl ((xT g) 1, ln, .inl day)), (h0m, .inl (lamC kd (xT g) ln am))] 0 0
  refine x_icmp_ne (tgt := 26) G dX4_isLike_8 rfl (fun c => ?_) (fun c => ?_)
  · replace h := h.1 c
    refine x_iconst (v := (0 : Int32)) G dX4_isLike_26 (by decide) ?_
    refine kX4_isLike_A_J27 G Q  _ h
  · replace h := h.2 c
    refine x_aload_n G rfl dX4_isLike_11 0 rfl ?_
    refine x_cUi0 (C := lnm kd) (owner := "RoundingAuditor$Ledger") (x := ⟨"RoundingAuditor$Ledger", "length", "()I"⟩) (wc := [(h0, .inr (lci kd, [.ref h0a, .ref h0d, .ref h0g, .int gc, .ref h0m])), (h0a, .inl ((xT g) 1, ln, .inl acc))]) (As := []) (rest := []) G [(h0d, .inl ((xT g) 1, ln, .inl day)), (h0m, .inl (lamC kd (xT g) ln am))] (XSub.of [2, 3, 0, 1] rfl (by decide)) (tX4_length G.noTraces h) q757 q663 (va_Decl.of (G.hts _ q662) (G.hts _ q666)) (sL_length kd) q662 q78 q666 cdL_length (lci kd) 0 (lci_at kd) rfl rfl (by decide) (by decide) rfl (Nat.le_of_ble_eq_true rfl) (Nat.le_of_ble_eq_true rfl) (Nat.le_of_ble_eq_true rfl) dX4_isLike_12 (fun r_19 h => ?_)
    show X g 4 15 [(0, .ref h0), (1, .ref h0)] [.int r_19] [(h0d, .inl ((xT g) 1, ln, .inl day)), (h0m, .inl (lamC kd (xT g) ln am)), (h0, .inr (lci kd, [.ref h0a, .ref h0d, .ref h0g, .int gc, .ref h0m])), (h0a, .inl ((xT g) 1, ln, .inl acc))] 0 0
    refine x_aload_n G rfl dX4_isLike_15 1 rfl ?_
    refine x_cUi0 (C := lnm kd) (owner := "RoundingAuditor$Ledger") (x := ⟨"RoundingAuditor$Ledger", "length", "()I"⟩) (wc := [(h0, .inr (lci kd, [.ref h0a, .ref h0d, .ref h0g, .int gc, .ref h0m])), (h0a, .inl ((xT g) 1, ln, .inl acc))]) (As := []) (rest := [.int r_19]) G [(h0d, .inl ((xT g) 1, ln, .inl day)), (h0m, .inl (lamC kd (xT g) ln am))] (XSub.of [0, 1, 2, 3] rfl (by decide)) (tX4_length G.noTraces h) q757 q663 (va_Decl.of (G.hts _ q662) (G.hts _ q666)) (sL_length kd) q662 q78 q666 cdL_length (lci kd) 2 (lci_at kd) rfl rfl (by decide) (by decide) rfl (Nat.le_of_ble_eq_true rfl) (Nat.le_of_ble_eq_true rfl) (Nat.le_of_ble_eq_true rfl) dX4_isLike_16 (fun r_20 h => ?_)
    show X g 4 19 [(0, .ref h0), (1, .ref h0)] [.int r_20, .int r_19] [(h0d, .inl ((xT g) 1, ln, .inl day)), (h0m, .inl (lamC kd (xT g) ln am)), (h0, .inr (lci kd, [.ref h0a, .ref h0d, .ref h0g, .int gc, .ref h0m])), (h0a, .inl ((xT g) 1, ln, .inl acc))] 0 0
    refine x_icmp_ne (tgt := 26) G dX4_isLike_19 rfl (fun c => ?_) (fun c => ?_)
    · replace h := h.1 c
      refine x_iconst (v := (0 : Int32)) G dX4_isLike_26 (by decide) ?_
      refine x_ws (ws' := [(h0, .inr (lci kd, [.ref h0a, .ref h0d, .ref h0g, .int gc, .ref h0m])), (h0a, .inl ((xT g) 1, ln, .inl acc)), (h0d, .inl ((xT g) 1, ln, .inl day)), (h0m, .inl (lamC kd (xT g) ln am))]) (XSub.of [2, 3, 0, 1] rfl (by decide)) ?_
      refine kX4_isLike_A_J27 G Q  _ h
    · replace h := h.2 c
      refine x_iconst (v := (1 : Int32)) G dX4_isLike_22 (by decide) ?_
      refine x_goto (tgt := 27) G dX4_isLike_23 rfl ?_
      refine x_ws (ws' := [(h0, .inr (lci kd, [.ref h0a, .ref h0d, .ref h0g, .int gc, .ref h0m])), (h0a, .inl ((xT g) 1, ln, .inl acc)), (h0d, .inl ((xT g) 1, ln, .inl day)), (h0m, .inl (lamC kd (xT g) ln am))]) (XSub.of [2, 3, 0, 1] rfl (by decide)) ?_
      refine kX4_isLike_A_J27 G Q  _ h
theorem cdX1_same : yX1_same.cls = RX1 ∧ yX1_same.cls ≠ "java/lang/invoke/MethodHandle" ∧ yX1_same.cls ≠ "java/lang/invoke/VarHandle" ∧ (parseMethodDescriptor yX1_same.desc).map (fun d => d.parameters.length) = some 2 := by decide +kernel
def wX1_same_F (p0 : Int32) (p1 : Int32) (lgf : Nat → Option Nat) (K : Int32 → Prop) (E : String → Prop) : Prop := ((¬ vp_in p0 12 → E "java/lang/ArrayIndexOutOfBoundsException") ∧ (vp_in p0 12 → ((lgf p0.toNatClampNeg) = none ∧ E "java/lang/NullPointerException")))
set_option maxRecDepth 20000 in
theorem tX1_same_F {l : Launch} {D : va_G} {ta : Nat → ClassId} {h0 : Nat} {lg : Nat} {e1 : Nat} {e2 : Nat} {e3 : Nat} {rl : Nat} {cur : Int32} {sh : Nat} {lgf : Nat → Option Nat} {p0 : Int32} {p1 : Int32} {K : Int32 → Prop} {E : String → Prop} (hlt : l.stackTraces = false) (h : wX1_same_F p0 p1 lgf K E) : SXi0 l D ta yX1_same cX1_same 6 FieldType.int 3 [.ref h0, .int p0, .int p1] [(h0, .inr (0, [.ref lg, .ref e1, .ref e2, .ref e3, .ref rl, .int cur, .ref sh])), (lg, .inl (ta 6, 12, .inr (.inr (.inr (.inr lgf)))))] ([(h0, .inr (0, [.ref lg, .ref e1, .ref e2, .ref e3, .ref rl, .int cur, .ref sh])), (lg, .inl (ta 6, 12, .inr (.inr (.inr (.inr lgf)))))]) 3 222 K E := by
  refine x_sxi0 hlt (by decide +kernel) (Nat.le_of_ble_eq_true rfl) (fun g G hl hD hT hN Q => ?_)
  subst hl; subst hD; subst hT
  unfold wX1_same_F at h
  show X g 6 0 [(0, .ref h0), (1, .int p0), (2, .int p1)] [] [(h0, .inr (0, [.ref lg, .ref e1, .ref e2, .ref e3, .ref rl, .int cur, .ref sh])), (lg, .inl ((xT g) 6, 12, .inr (.inr (.inr (.inr lgf)))))] 0 0
  refine x_aload_n G rfl dX1_same_0 0 rfl ?_
  refine x_get G in_X1 0 rfl rfl 0 (by decide) q159 (fun _ h => h) rfl dX1_same_1 ?_
  refine x_iload_n G rfl dX1_same_4 1 rfl ?_
  by_cases hz : vp_in p0 12
  case neg =>
    replace h := h.1 hz
    refine x_aaldZ G 1 rfl rfl (by decide) hz (Nat.le_of_ble_eq_true rfl) (Nat.le_of_ble_eq_true rfl) (Nat.le_of_ble_eq_true rfl) dX1_same_5 ?_
    exact x_oi0 G Q h XSub.rf (Nat.le_of_ble_eq_true rfl) (Nat.le_of_ble_eq_true rfl)
  replace h := h.2 hz
  obtain ⟨hq, h⟩ := h
  refine x_aald G 1 6 rfl rfl hz dX1_same_5 ?_
  rw [hq]
  show X g 6 6 [(0, .ref h0), (1, .int p0), (2, .int p1)] [.null] [(h0, .inr (0, [.ref lg, .ref e1, .ref e2, .ref e3, .ref rl, .int cur, .ref sh])), (lg, .inl ((xT g) 6, 12, .inr (.inr (.inr (.inr lgf)))))] 0 0
  refine x_astore_nN (lv' := [(3, .null), (0, .ref h0), (1, .int p0), (2, .int p1)]) G rfl dX1_same_6 (by decide) rfl ?_
  refine x_aload_nN G rfl dX1_same_7 0 rfl ?_
  refine x_invN (z := ⟨"RoundingAuditor$Ledger", "length", "()I"⟩) (As := []) (rest := []) G q661 (va_Decl.of (G.hts _ q662) (G.hts _ q666)) rfl q665 (show ("RoundingAuditor$Ledger" : String) ≠ "java/lang/invoke/MethodHandle" ∧ ("RoundingAuditor$Ledger" : String) ≠ "java/lang/invoke/VarHandle" ∧ (parseMethodDescriptor "()I").map (fun d => d.parameters.length) = some 0 from by decide +kernel) rfl (Nat.le_of_ble_eq_true rfl) (Nat.le_of_ble_eq_true rfl) (Nat.le_of_ble_eq_true rfl) dX1_same_8 ?_
  exact x_oi0 G Q h XSub.rf (Nat.le_of_ble_eq_true rfl) (Nat.le_of_ble_eq_true rfl)
def wX1_same_G (p0 : Int32) (p1 : Int32) (lgf : Nat → Option Nat) (u0 : Nat) (kd : Bool) (ln : Nat) (K : Int32 → Prop) (E : String → Prop) : Prop := (vp_in p0 12 ∧ ((lgf p0.toNatClampNeg) = some u0 ∧ (wX4_length ln (fun (r_1 : Int32) => ((¬ vp_in p1 12 → E "java/lang/ArrayIndexOutOfBoundsException") ∧ (vp_in p1 12 → ((lgf p1.toNatClampNeg) = none ∧ (wX4_isLike_0 kd (fun (r_2 : Int32) => False) (fun (En : String) => E En)))))))))
set_option maxRecDepth 20000 in
theorem tX1_same_G {l : Launch} {D : va_G} {ta : Nat → ClassId} {h0 : Nat} {lg : Nat} {e1 : Nat} {e2 : Nat} {e3 : Nat} {rl : Nat} {cur : Int32} {sh : Nat} {lgf : Nat → Option Nat} {u0 : Nat} {kd : Bool} {u0a : Nat} {u0d : Nat} {u0g : Nat} {gc : Int32} {u0m : Nat} {ln : Nat} {acc : Nat → Int32} {p0 : Int32} {p1 : Int32} {K : Int32 → Prop} {E : String → Prop} (hlt : l.stackTraces = false) (h : wX1_same_G p0 p1 lgf u0 kd ln K E) : SXi0 l D ta yX1_same cX1_same 6 FieldType.int 3 [.ref h0, .int p0, .int p1] [(h0, .inr (0, [.ref lg, .ref e1, .ref e2, .ref e3, .ref rl, .int cur, .ref sh])), (lg, .inl (ta 6, 12, .inr (.inr (.inr (.inr lgf))))), (u0, .inr (lci kd, [.ref u0a, .ref u0d, .ref u0g, .int gc, .ref u0m])), (u0a, .inl (ta 1, ln, .inl acc))] ([(h0, .inr (0, [.ref lg, .ref e1, .ref e2, .ref e3, .ref rl, .int cur, .ref sh])), (lg, .inl (ta 6, 12, .inr (.inr (.inr (.inr lgf))))), (u0, .inr (lci kd, [.ref u0a, .ref u0d, .ref u0g, .int gc, .ref u0m])), (u0a, .inl (ta 1, ln, .inl acc))]) 3 222 K E := by
  refine x_sxi0 hlt (by decide +kernel) (Nat.le_of_ble_eq_true rfl) (fun g G hl hD hT hN Q => ?_)
  subst hl; subst hD; subst hT
  unfold wX1_same_G at h
  show X g 6 0 [(0, .ref h0), (1, .int p0), (2, .int p1)] [] [(h0, .inr (0, [.ref lg, .ref e1, .ref e2, .ref e3, .ref rl, .int cur, .ref sh])), (lg, .inl ((xT g) 6, 12, .inr (.inr (.inr (.inr lgf))))), (u0, .inr (lci kd, [.ref u0a, .ref u0d, .ref u0g, .int gc, .ref u0m])), (u0a, .inl ((xT g) 1, ln, .inl acc))] 0 0
  refine x_aload_n G rfl dX1_same_0 0 rfl ?_
  refine x_get G in_X1 0 rfl rfl 0 (by decide) q159 (fun _ h => h) rfl dX1_same_1 ?_
  refine x_iload_n G rfl dX1_same_4 1 rfl ?_
  obtain ⟨hz, hq, h⟩ := h
  refine x_aald G 1 6 rfl rfl hz dX1_same_5 ?_
  rw [hq]
  show X g 6 6 [(0, .ref h0), (1, .int p0), (2, .int p1)] [.ref u0] [(h0, .inr (0, [.ref lg, .ref e1, .ref e2, .ref e3, .ref rl, .int cur, .ref sh])), (lg, .inl ((xT g) 6, 12, .inr (.inr (.inr (.inr lgf))))), (u0, .inr (lci kd, [.ref u0a, .ref u0d, .ref u0g, .int gc, .ref u0m])), (u0a, .inl ((xT g) 1, ln, .inl acc))] 0 0
  refine x_astore_n (lv' := [(3, .ref u0), (0, .ref h0), (1, .int p0), (2, .int p1)]) G rfl dX1_same_6 (by decide) rfl ?_
  refine x_aload_n G rfl dX1_same_7 0 rfl ?_
  refine x_cUi0 (C := lnm kd) (owner := "RoundingAuditor$Ledger") (x := ⟨"RoundingAuditor$Ledger", "length", "()I"⟩) (wc := [(u0, .inr (lci kd, [.ref u0a, .ref u0d, .ref u0g, .int gc, .ref u0m])), (u0a, .inl ((xT g) 1, ln, .inl acc))]) (As := []) (rest := []) G [(h0, .inr (0, [.ref lg, .ref e1, .ref e2, .ref e3, .ref rl, .int cur, .ref sh])), (lg, .inl ((xT g) 6, 12, .inr (.inr (.inr (.inr lgf)))))] (XSub.of [0, 1, 2, 3] rfl (by decide)) (tX4_length G.noTraces h) q661 q663 (va_Decl.of (G.hts _ q662) (G.hts _ q666)) (sL_length kd) q662 q78 q666 cdL_length (lci kd) 2 (lci_at kd) rfl rfl (by decide) (by decide) rfl (Nat.le_of_ble_eq_true rfl) (Nat.le_of_ble_eq_true rfl) (Nat.le_of_ble_eq_true rfl) dX1_same_8 (fun r_1 h => ?_)
  show X g 6 11 [(3, .ref u0), (0, .ref h0), (1, .int p0), (2, .int p1)] [.int r_1] [(h0, .inr (0, [.ref lg, .ref e1, .ref e2, .ref e3, .ref rl, .int cur, .ref sh])), (lg, .inl ((xT g) 6, 12, .inr (.inr (.inr (.inr lgf))))), (u0, .inr (lci kd, [.ref u0a, .ref u0d, .ref u0g, .int gc, .ref u0m])), (u0a, .inl ((xT g) 1, ln, .inl acc))] 0 0
  refine x_istore (lv' := [(4, .int r_1), (3, .ref u0), (0, .ref h0), (1, .int p0), (2, .int p1)]) G dX1_same_11 (by decide) rfl ?_
  refine x_aload_n G rfl dX1_same_13 2 rfl ?_
  refine x_get G in_X1 0 rfl rfl 0 (by decide) q159 (fun _ h => h) rfl dX1_same_14 ?_
  refine x_iload_n G rfl dX1_same_17 4 rfl ?_
  by_cases hz : vp_in p1 12
  case neg =>
    replace h := h.1 hz
    refine x_aaldZ G 1 rfl rfl (by decide) hz (Nat.le_of_ble_eq_true rfl) (Nat.le_of_ble_eq_true rfl) (Nat.le_of_ble_eq_true rfl) dX1_same_18 ?_
    exact x_oi0 G Q h XSub.rf (Nat.le_of_ble_eq_true rfl) (Nat.le_of_ble_eq_true rfl)
  replace h := h.2 hz
  obtain ⟨hq, h⟩ := h
  refine x_aald G 1 6 rfl rfl hz dX1_same_18 ?_
  rw [hq]
  show X g 6 19 [(4, .int r_1), (3, .ref u0), (0, .ref h0), (1, .int p0), (2, .int p1)] [.null] [(h0, .inr (0, [.ref lg, .ref e1, .ref e2, .ref e3, .ref rl, .int cur, .ref sh])), (lg, .inl ((xT g) 6, 12, .inr (.inr (.inr (.inr lgf))))), (u0, .inr (lci kd, [.ref u0a, .ref u0d, .ref u0g, .int gc, .ref u0m])), (u0a, .inl ((xT g) 1, ln, .inl acc))] 0 0
  refine x_astoreN (lv' := [(5, .null), (4, .int r_1), (3, .ref u0), (0, .ref h0), (1, .int p0), (2, .int p1)]) G dX1_same_19 (by decide) rfl ?_
  refine x_aload_n G rfl dX1_same_21 2 rfl ?_
  refine x_aloadNN G dX1_same_22 0 rfl ?_
  refine x_cXUi0 (C := lnm kd) (owner := "RoundingAuditor$Ledger") (x := ⟨"RoundingAuditor$Ledger", "isLike", "(LRoundingAuditor$Ledger;)Z"⟩) (wc := [(u0, .inr (lci kd, [.ref u0a, .ref u0d, .ref u0g, .int gc, .ref u0m]))]) (As := [.null]) (rest := []) G [(h0, .inr (0, [.ref lg, .ref e1, .ref e2, .ref e3, .ref rl, .int cur, .ref sh])), (lg, .inl ((xT g) 6, 12, .inr (.inr (.inr (.inr lgf))))), (u0a, .inl ((xT g) 1, ln, .inl acc))] (XSub.of [0, 1, 3, 2] rfl (by decide)) (tX4_isLike_0 G.noTraces h) q750 q752 (va_Decl.of (G.hts _ q751) (G.hts _ q755)) (sL_isLike kd) q751 q78 q755 cdL_isLike (lci kd) 2 (lci_at kd) rfl rfl (by decide) (by decide) rfl (Nat.le_of_ble_eq_true rfl) (Nat.le_of_ble_eq_true rfl) (Nat.le_of_ble_eq_true rfl) dX1_same_24 (fun En h => ?_) (fun r_2 h => ?_)
  · exact x_oi0 G Q h (XSub.of [0, 1, 3, 2] rfl (by decide)) (Nat.le_of_ble_eq_true rfl) (Nat.le_of_ble_eq_true rfl)
  exact h.elim
def wX1_same (p0 : Int32) (p1 : Int32) (lgf : Nat → Option Nat) (u0 : Nat) (kd : Bool) (ln : Nat) (acc : Nat → Int32) (day : Nat → Int32) (am : Nat → UInt64) (u1 : Nat) (ke : Bool) (ln2 : Nat) (acc2 : Nat → Int32) (day2 : Nat → Int32) (am2 : Nat → UInt64) (K : Int32 → Prop) : Prop := (vp_in p0 12 ∧ ((lgf p0.toNatClampNeg) = some u0 ∧ (wX4_length ln (fun (r_1 : Int32) => (vp_in p1 12 ∧ ((lgf p1.toNatClampNeg) = some u1 ∧ (wX4_isLike kd ln acc day am ke ln2 acc2 day2 am2 (fun (r_2 : Int32) => ((r_2 = (0 : Int32) → K (0 : Int32)) ∧ (¬ r_2 = (0 : Int32) → K (1 : Int32)))))))))))
set_option maxRecDepth 20000 in
theorem tX1_same {l : Launch} {D : va_G} {ta : Nat → ClassId} {h0 : Nat} {lg : Nat} {e1 : Nat} {e2 : Nat} {e3 : Nat} {rl : Nat} {cur : Int32} {sh : Nat} {lgf : Nat → Option Nat} {u0 : Nat} {kd : Bool} {u0a : Nat} {u0d : Nat} {u0g : Nat} {gc : Int32} {u0m : Nat} {ln : Nat} {acc : Nat → Int32} {day : Nat → Int32} {am : Nat → UInt64} {u1 : Nat} {ke : Bool} {u1a : Nat} {u1d : Nat} {u1g : Nat} {gc2 : Int32} {u1m : Nat} {ln2 : Nat} {acc2 : Nat → Int32} {day2 : Nat → Int32} {am2 : Nat → UInt64} {p0 : Int32} {p1 : Int32} {K : Int32 → Prop} (hlt : l.stackTraces = false) (h : wX1_same p0 p1 lgf u0 kd ln acc day am u1 ke ln2 acc2 day2 am2 K) : SMi0 l D ta yX1_same cX1_same 6 FieldType.int 5 [.ref h0, .int p0, .int p1] [(h0, .inr (0, [.ref lg, .ref e1, .ref e2, .ref e3, .ref rl, .int cur, .ref sh])), (lg, .inl (ta 6, 12, .inr (.inr (.inr (.inr lgf))))), (u0, .inr (lci kd, [.ref u0a, .ref u0d, .ref u0g, .int gc, .ref u0m])), (u0a, .inl (ta 1, ln, .inl acc)), (u0d, .inl (ta 1, ln, .inl day)), (u0m, .inl (lamC kd ta ln am)), (u1, .inr (lci ke, [.ref u1a, .ref u1d, .ref u1g, .int gc2, .ref u1m])), (u1a, .inl (ta 1, ln2, .inl acc2)), (u1d, .inl (ta 1, ln2, .inl day2)), (u1m, .inl (lamC ke ta ln2 am2))] ([(h0, .inr (0, [.ref lg, .ref e1, .ref e2, .ref e3, .ref rl, .int cur, .ref sh])), (lg, .inl (ta 6, 12, .inr (.inr (.inr (.inr lgf))))), (u0, .inr (lci kd, [.ref u0a, .ref u0d, .ref u0g, .int gc, .ref u0m])), (u0a, .inl (ta 1, ln, .inl acc)), (u0d, .inl (ta 1, ln, .inl day)), (u0m, .inl (lamC kd ta ln am)), (u1, .inr (lci ke, [.ref u1a, .ref u1d, .ref u1g, .int gc2, .ref u1m])), (u1a, .inl (ta 1, ln2, .inl acc2)), (u1d, .inl (ta 1, ln2, .inl day2)), (u1m, .inl (lamC ke ta ln2 am2))]) 0 0 K := by
  refine x_sti0 hlt (plainFor_of_name (by decide +kernel)) (Nat.le_of_ble_eq_true rfl) (fun g G hl hD hT Q => ?_)
  subst hl; subst hD; subst hT
  unfold wX1_same at h
  show X g 6 0 [(0, .ref h0), (1, .int p0), (2, .int p1)] [] [(h0, .inr (0, [.ref lg, .ref e1, .ref e2, .ref e3, .ref rl, .int cur, .ref sh])), (lg, .inl ((xT g) 6, 12, .inr (.inr (.inr (.inr lgf))))), (u0, .inr (lci kd, [.ref u0a, .ref u0d, .ref u0g, .int gc, .ref u0m])), (u0a, .inl ((xT g) 1, ln, .inl acc)), (u0d, .inl ((xT g) 1, ln, .inl day)), (u0m, .inl (lamC kd (xT g) ln am)), (u1, .inr (lci ke, [.ref u1a, .ref u1d, .ref u1g, .int gc2, .ref u1m])), (u1a, .inl ((xT g) 1, ln2, .inl acc2)), (u1d, .inl ((xT g) 1, ln2, .inl day2)), (u1m, .inl (lamC ke (xT g) ln2 am2))] 0 0
  refine x_aload_n G rfl dX1_same_0 0 rfl ?_
  refine x_get G in_X1 0 rfl rfl 0 (by decide) q159 (fun _ h => h) rfl dX1_same_1 ?_
  refine x_iload_n G rfl dX1_same_4 1 rfl ?_
  obtain ⟨hz, hq, h⟩ := h
  refine x_aald G 1 6 rfl rfl hz dX1_same_5 ?_
  rw [hq]
  show X g 6 6 [(0, .ref h0), (1, .int p0), (2, .int p1)] [.ref u0] [(h0, .inr (0, [.ref lg, .ref e1, .ref e2, .ref e3, .ref rl, .int cur, .ref sh])), (lg, .inl ((xT g) 6, 12, .inr (.inr (.inr (.inr lgf))))), (u0, .inr (lci kd, [.ref u0a, .ref u0d, .ref u0g, .int gc, .ref u0m])), (u0a, .inl ((xT g) 1, ln, .inl acc)), (u0d, .inl ((xT g) 1, ln, .inl day)), (u0m, .inl (lamC kd (xT g) ln am)), (u1, .inr (lci ke, [.ref u1a, .ref u1d, .ref u1g, .int gc2, .ref u1m])), (u1a, .inl ((xT g) 1, ln2, .inl acc2)), (u1d, .inl ((xT g) 1, ln2, .inl day2)), (u1m, .inl (lamC ke (xT g) ln2 am2))] 0 0
  refine x_astore_n (lv' := [(3, .ref u0), (0, .ref h0), (1, .int p0), (2, .int p1)]) G rfl dX1_same_6 (by decide) rfl ?_
  refine x_aload_n G rfl dX1_same_7 0 rfl ?_
  refine x_cUi0 (C := lnm kd) (owner := "RoundingAuditor$Ledger") (x := ⟨"RoundingAuditor$Ledger", "length", "()I"⟩) (wc := [(u0, .inr (lci kd, [.ref u0a, .ref u0d, .ref u0g, .int gc, .ref u0m])), (u0a, .inl ((xT g) 1, ln, .inl acc))]) (As := []) (rest := []) G [(h0, .inr (0, [.ref lg, .ref e1, .ref e2, .ref e3, .ref rl, .int cur, .ref sh])), (lg, .inl ((xT g) 6, 12, .inr (.inr (.inr (.inr lgf))))), (u0d, .inl ((xT g) 1, ln, .inl day)), (u0m, .inl (lamC kd (xT g) ln am)), (u1, .inr (lci ke, [.ref u1a, .ref u1d, .ref u1g, .int gc2, .ref u1m])), (u1a, .inl ((xT g) 1, ln2, .inl acc2)), (u1d, .inl ((xT g) 1, ln2, .inl day2)), (u1m, .inl (lamC ke (xT g) ln2 am2))] (XSub.of [0, 1, 4, 5, 6, 7, 8, 9, 2, 3] rfl (by decide)) (tX4_length G.noTraces h) q661 q663 (va_Decl.of (G.hts _ q662) (G.hts _ q666)) (sL_length kd) q662 q78 q666 cdL_length (lci kd) 2 (lci_at kd) rfl rfl (by decide) (by decide) rfl (Nat.le_of_ble_eq_true rfl) (Nat.le_of_ble_eq_true rfl) (Nat.le_of_ble_eq_true rfl) dX1_same_8 (fun r_1 h => ?_)
  show X g 6 11 [(3, .ref u0), (0, .ref h0), (1, .int p0), (2, .int p1)] [.int r_1] [(h0, .inr (0, [.ref lg, .ref e1, .ref e2, .ref e3, .ref rl, .int cur, .ref sh])), (lg, .inl ((xT g) 6, 12, .inr (.inr (.inr (.inr lgf))))), (u0d, .inl ((xT g) 1, ln, .inl day)), (u0m, .inl (lamC kd (xT g) ln am)), (u1, .inr (lci ke, [.ref u1a, .ref u1d, .ref u1g, .int gc2, .ref u1m])), (u1a, .inl ((xT g) 1, ln2, .inl acc2)), (u1d, .inl ((xT g) 1, ln2, .inl day2)), (u1m, .inl (lamC ke (xT g) ln2 am2)), (u0, .inr (lci kd, [.ref u0a, .ref u0d, .ref u0g, .int gc, .ref u0m])), (u0a, .inl ((xT g) 1, ln, .inl acc))] 0 0
  refine x_istore (lv' := [(4, .int r_1), (3, .ref u0), (0, .ref h0), (1, .int p0), (2, .int p1)]) G dX1_same_11 (by decide) rfl ?_
  refine x_aload_n G rfl dX1_same_13 2 rfl ?_
  refine x_get G in_X1 0 rfl rfl 0 (by decide) q159 (fun _ h => h) rfl dX1_same_14 ?_
  refine x_iload_n G rfl dX1_same_17 4 rfl ?_
  obtain ⟨hz, hq, h⟩ := h
  refine x_aald G 1 6 rfl rfl hz dX1_same_18 ?_
  rw [hq]
  show X g 6 19 [(4, .int r_1), (3, .ref u0), (0, .ref h0), (1, .int p0), (2, .int p1)] [.ref u1] [(h0, .inr (0, [.ref lg, .ref e1, .ref e2, .ref e3, .ref rl, .int cur, .ref sh])), (lg, .inl ((xT g) 6, 12, .inr (.inr (.inr (.inr lgf))))), (u0d, .inl ((xT g) 1, ln, .inl day)), (u0m, .inl (lamC kd (xT g) ln am)), (u1, .inr (lci ke, [.ref u1a, .ref u1d, .ref u1g, .int gc2, .ref u1m])), (u1a, .inl ((xT g) 1, ln2, .inl acc2)), (u1d, .inl ((xT g) 1, ln2, .inl day2)), (u1m, .inl (lamC ke (xT g) ln2 am2)), (u0, .inr (lci kd, [.ref u0a, .ref u0d, .ref u0g, .int gc, .ref u0m])), (u0a, .inl ((xT g) 1, ln, .inl acc))] 0 0
  refine x_astore (lv' := [(5, .ref u1), (4, .int r_1), (3, .ref u0), (0, .ref h0), (1, .int p0), (2, .int p1)]) G dX1_same_19 (by decide) rfl ?_
  refine x_aload_n G rfl dX1_same_21 2 rfl ?_
  refine x_aload G dX1_same_22 0 rfl ?_
  refine x_cUi0 (C := lnm kd) (owner := "RoundingAuditor$Ledger") (x := ⟨"RoundingAuditor$Ledger", "isLike", "(LRoundingAuditor$Ledger;)Z"⟩) (wc := [(u0, .inr (lci kd, [.ref u0a, .ref u0d, .ref u0g, .int gc, .ref u0m])), (u0a, .inl ((xT g) 1, ln, .inl acc)), (u0d, .inl ((xT g) 1, ln, .inl day)), (u0m, .inl (lamC kd (xT g) ln am)), (u1, .inr (lci ke, [.ref u1a, .ref u1d, .ref u1g, .int gc2, .ref u1m])), (u1a, .inl ((xT g) 1, ln2, .inl acc2)), (u1d, .inl ((xT g) 1, ln2, .inl day2)), (u1m, .inl (lamC ke (xT g) ln2 am2))]) (As := [.ref u1]) (rest := []) G [(h0, .inr (0, [.ref lg, .ref e1, .ref e2, .ref e3, .ref rl, .int cur, .ref sh])), (lg, .inl ((xT g) 6, 12, .inr (.inr (.inr (.inr lgf)))))] (XSub.of [0, 1, 8, 9, 2, 3, 4, 5, 6, 7] rfl (by decide)) (tX4_isLike G.noTraces h) q750 q752 (va_Decl.of (G.hts _ q751) (G.hts _ q755)) (sL_isLike kd) q751 q78 q755 cdL_isLike (lci kd) 8 (lci_at kd) rfl rfl (by decide) (by decide) rfl (Nat.le_of_ble_eq_true rfl) (Nat.le_of_ble_eq_true rfl) (Nat.le_of_ble_eq_true rfl) dX1_same_24 (fun r_2 h => ?_)
  show X g 6 27 [(5, .ref u1), (4, .int r_1), (3, .ref u0), (0, .ref h0), (1, .int p0), (2, .int p1)] [.int r_2] [(h0, .inr (0, [.ref lg, .ref e1, .ref e2, .ref e3, .ref rl, .int cur, .ref sh])), (lg, .inl ((xT g) 6, 12, .inr (.inr (.inr (.inr lgf))))), (u0, .inr (lci kd, [.ref u0a, .ref u0d, .ref u0g, .int gc, .ref u0m])), (u0a, .inl ((xT g) 1, ln, .inl acc)), (u0d, .inl ((xT g) 1, ln, .inl day)), (u0m, .inl (lamC kd (xT g) ln am)), (u1, .inr (lci ke, [.ref u1a, .ref u1d, .ref u1g, .int gc2, .ref u1m])), (u1a, .inl ((xT g) 1, ln2, .inl acc2)), (u1d, .inl ((xT g) 1, ln2, .inl day2)), (u1m, .inl (lamC ke (xT g) ln2 am2))] 0 0
  refine x_if_eq (tgt := 34) G dX1_same_27 rfl (fun c => ?_) (fun c => ?_)
  · replace h := h.1 c
    refine x_iconst (v := (0 : Int32)) G dX1_same_34 (by decide) ?_
    exact x_reti0 G Q dX1_same_35 rfl  h XSub.rf (Nat.le_of_ble_eq_true rfl) (Nat.le_of_ble_eq_true rfl)
  · replace h := h.2 c
    refine x_iconst (v := (1 : Int32)) G dX1_same_30 (by decide) ?_
    refine x_goto (tgt := 35) G dX1_same_31 rfl ?_
    exact x_reti0 G Q dX1_same_35 rfl  h XSub.rf (Nat.le_of_ble_eq_true rfl) (Nat.le_of_ble_eq_true rfl)
def wX1_same_A (p0 : Int32) (p1 : Int32) (lgf : Nat → Option Nat) (u0 : Nat) (kd : Bool) (ln : Nat) (acc : Nat → Int32) (day : Nat → Int32) (am : Nat → UInt64) (K : Int32 → Prop) : Prop := (vp_in p0 12 ∧ ((lgf p0.toNatClampNeg) = some u0 ∧ (wX4_length ln (fun (r_1 : Int32) => (vp_in p1 12 ∧ ((lgf p1.toNatClampNeg) = some u0 ∧ (wX4_isLike_A kd ln acc day am (fun (r_2 : Int32) => ((r_2 = (0 : Int32) → K (0 : Int32)) ∧ (¬ r_2 = (0 : Int32) → K (1 : Int32)))))))))))
set_option maxRecDepth 20000 in
theorem tX1_same_A {l : Launch} {D : va_G} {ta : Nat → ClassId} {h0 : Nat} {lg : Nat} {e1 : Nat} {e2 : Nat} {e3 : Nat} {rl : Nat} {cur : Int32} {sh : Nat} {lgf : Nat → Option Nat} {u0 : Nat} {kd : Bool} {u0a : Nat} {u0d : Nat} {u0g : Nat} {gc : Int32} {u0m : Nat} {ln : Nat} {acc : Nat → Int32} {day : Nat → Int32} {am : Nat → UInt64} {p0 : Int32} {p1 : Int32} {K : Int32 → Prop} (hlt : l.stackTraces = false) (h : wX1_same_A p0 p1 lgf u0 kd ln acc day am K) : SMi0 l D ta yX1_same cX1_same 6 FieldType.int 5 [.ref h0, .int p0, .int p1] [(h0, .inr (0, [.ref lg, .ref e1, .ref e2, .ref e3, .ref rl, .int cur, .ref sh])), (lg, .inl (ta 6, 12, .inr (.inr (.inr (.inr lgf))))), (u0, .inr (lci kd, [.ref u0a, .ref u0d, .ref u0g, .int gc, .ref u0m])), (u0a, .inl (ta 1, ln, .inl acc)), (u0d, .inl (ta 1, ln, .inl day)), (u0m, .inl (lamC kd ta ln am))] ([(h0, .inr (0, [.ref lg, .ref e1, .ref e2, .ref e3, .ref rl, .int cur, .ref sh])), (lg, .inl (ta 6, 12, .inr (.inr (.inr (.inr lgf))))), (u0, .inr (lci kd, [.ref u0a, .ref u0d, .ref u0g, .int gc, .ref u0m])), (u0a, .inl (ta 1, ln, .inl acc)), (u0d, .inl (ta 1, ln, .inl day)), (u0m, .inl (lamC kd ta ln am))]) 0 0 K := by
  refine x_sti0 hlt (plainFor_of_name (by decide +kernel)) (Nat.le_of_ble_eq_true rfl) (fun g G hl hD hT Q => ?_)
  subst hl; subst hD; subst hT
  unfold wX1_same_A at h
  show X g 6 0 [(0, .ref h0), (1, .int p0), (2, .int p1)] [] [(h0, .inr (0, [.ref lg, .ref e1, .ref e2, .ref e3, .ref rl, .int cur, .ref sh])), (lg, .inl ((xT g) 6, 12, .inr (.inr (.inr (.inr lgf))))), (u0, .inr (lci kd, [.ref u0a, .ref u0d, .ref u0g, .int gc, .ref u0m])), (u0a, .inl ((xT g) 1, ln, .inl acc)), (u0d, .inl ((xT g) 1, ln, .inl day)), (u0m, .inl (lamC kd (xT g) ln am))] 0 0
  refine x_aload_n G rfl dX1_same_0 0 rfl ?_
  refine x_get G in_X1 0 rfl rfl 0 (by decide) q159 (fun _ h => h) rfl dX1_same_1 ?_
  refine x_iload_n G rfl dX1_same_4 1 rfl ?_
  obtain ⟨hz, hq, h⟩ := h
  refine x_aald G 1 6 rfl rfl hz dX1_same_5 ?_
  rw [hq]
  show X g 6 6 [(0, .ref h0), (1, .int p0), (2, .int p1)] [.ref u0] [(h0, .inr (0, [.ref lg, .ref e1, .ref e2, .ref e3, .ref rl, .int cur, .ref sh])), (lg, .inl ((xT g) 6, 12, .inr (.inr (.inr (.inr lgf))))), (u0, .inr (lci kd, [.ref u0a, .ref u0d, .ref u0g, .int gc, .ref u0m])), (u0a, .inl ((xT g) 1, ln, .inl acc)), (u0d, .inl ((xT g) 1, ln, .inl day)), (u0m, .inl (lamC kd (xT g) ln am))] 0 0
  refine x_astore_n (lv' := [(3, .ref u0), (0, .ref h0), (1, .int p0), (2, .int p1)]) G rfl dX1_same_6 (by decide) rfl ?_
  refine x_aload_n G rfl dX1_same_7 0 rfl ?_
  refine x_cUi0 (C := lnm kd) (owner := "RoundingAuditor$Ledger") (x := ⟨"RoundingAuditor$Ledger", "length", "()I"⟩) (wc := [(u0, .inr (lci kd, [.ref u0a, .ref u0d, .ref u0g, .int gc, .ref u0m])), (u0a, .inl ((xT g) 1, ln, .inl acc))]) (As := []) (rest := []) G [(h0, .inr (0, [.ref lg, .ref e1, .ref e2, .ref e3, .ref rl, .int cur, .ref sh])), (lg, .inl ((xT g) 6, 12, .inr (.inr (.inr (.inr lgf))))), (u0d, .inl ((xT g) 1, ln, .inl day)), (u0m, .inl (lamC kd (xT g) ln am))] (XSub.of [0, 1, 4, 5, 2, 3] rfl (by decide)) (tX4_length G.noTraces h) q661 q663 (va_Decl.of (G.hts _ q662) (G.hts _ q666)) (sL_length kd) q662 q78 q666 cdL_length (lci kd) 2 (lci_at kd) rfl rfl (by decide) (by decide) rfl (Nat.le_of_ble_eq_true rfl) (Nat.le_of_ble_eq_true rfl) (Nat.le_of_ble_eq_true rfl) dX1_same_8 (fun r_1 h => ?_)
  show X g 6 11 [(3, .ref u0), (0, .ref h0), (1, .int p0), (2, .int p1)] [.int r_1] [(h0, .inr (0, [.ref lg, .ref e1, .ref e2, .ref e3, .ref rl, .int cur, .ref sh])), (lg, .inl ((xT g) 6, 12, .inr (.inr (.inr (.inr lgf))))), (u0d, .inl ((xT g) 1, ln, .inl day)), (u0m, .inl (lamC kd (xT g) ln am)), (u0, .inr (lci kd, [.ref u0a, .ref u0d, .ref u0g, .int gc, .ref u0m])), (u0a, .inl ((xT g) 1, ln, .inl acc))] 0 0
  refine x_istore (lv' := [(4, .int r_1), (3, .ref u0), (0, .ref h0), (1, .int p0), (2, .int p1)]) G dX1_same_11 (by decide) rfl ?_
  refine x_aload_n G rfl dX1_same_13 2 rfl ?_
  refine x_get G in_X1 0 rfl rfl 0 (by decide) q159 (fun _ h => h) rfl dX1_same_14 ?_
  refine x_iload_n G rfl dX1_same_17 4 rfl ?_
  obtain ⟨hz, hq, h⟩ := h
  refine x_aald G 1 6 rfl rfl hz dX1_same_18 ?_
  rw [hq]
  show X g 6 19 [(4, .int r_1), (3, .ref u0), (0, .ref h0), (1, .int p0), (2, .int p1)] [.ref u0] [(h0, .inr (0, [.ref lg, .ref e1, .ref e2, .ref e3, .ref rl, .int cur, .ref sh])), (lg, .inl ((xT g) 6, 12, .inr (.inr (.inr (.inr lgf))))), (u0d, .inl ((xT g) 1, ln, .inl day)), (u0m, .inl (lamC kd (xT g) ln am)), (u0, .inr (lci kd, [.ref u0a, .ref u0d, .ref u0g, .int gc, .ref u0m])), (u0a, .inl ((xT g) 1, ln, .inl acc))] 0 0
  refine x_astore (lv' := [(5, .ref u0), (4, .int r_1), (3, .ref u0), (0, .ref h0), (1, .int p0), (2, .int p1)]) G dX1_same_19 (by decide) rfl ?_
  refine x_aload_n G rfl dX1_same_21 2 rfl ?_
  refine x_aload G dX1_same_22 0 rfl ?_
  refine x_cUi0 (C := lnm kd) (owner := "RoundingAuditor$Ledger") (x := ⟨"RoundingAuditor$Ledger", "isLike", "(LRoundingAuditor$Ledger;)Z"⟩) (wc := [(u0, .inr (lci kd, [.ref u0a, .ref u0d, .ref u0g, .int gc, .ref u0m])), (u0a, .inl ((xT g) 1, ln, .inl acc)), (u0d, .inl ((xT g) 1, ln, .inl day)), (u0m, .inl (lamC kd (xT g) ln am))]) (As := [.ref u0]) (rest := []) G [(h0, .inr (0, [.ref lg, .ref e1, .ref e2, .ref e3, .ref rl, .int cur, .ref sh])), (lg, .inl ((xT g) 6, 12, .inr (.inr (.inr (.inr lgf)))))] (XSub.of [0, 1, 4, 5, 2, 3] rfl (by decide)) (tX4_isLike_A G.noTraces h) q750 q752 (va_Decl.of (G.hts _ q751) (G.hts _ q755)) (sL_isLike kd) q751 q78 q755 cdL_isLike (lci kd) 4 (lci_at kd) rfl rfl (by decide) (by decide) rfl (Nat.le_of_ble_eq_true rfl) (Nat.le_of_ble_eq_true rfl) (Nat.le_of_ble_eq_true rfl) dX1_same_24 (fun r_2 h => ?_)
  show X g 6 27 [(5, .ref u0), (4, .int r_1), (3, .ref u0), (0, .ref h0), (1, .int p0), (2, .int p1)] [.int r_2] [(h0, .inr (0, [.ref lg, .ref e1, .ref e2, .ref e3, .ref rl, .int cur, .ref sh])), (lg, .inl ((xT g) 6, 12, .inr (.inr (.inr (.inr lgf))))), (u0, .inr (lci kd, [.ref u0a, .ref u0d, .ref u0g, .int gc, .ref u0m])), (u0a, .inl ((xT g) 1, ln, .inl acc)), (u0d, .inl ((xT g) 1, ln, .inl day)), (u0m, .inl (lamC kd (xT g) ln am))] 0 0
  refine x_if_eq (tgt := 34) G dX1_same_27 rfl (fun c => ?_) (fun c => ?_)
  · replace h := h.1 c
    refine x_iconst (v := (0 : Int32)) G dX1_same_34 (by decide) ?_
    exact x_reti0 G Q dX1_same_35 rfl  h XSub.rf (Nat.le_of_ble_eq_true rfl) (Nat.le_of_ble_eq_true rfl)
  · replace h := h.2 c
    refine x_iconst (v := (1 : Int32)) G dX1_same_30 (by decide) ?_
    refine x_goto (tgt := 35) G dX1_same_31 rfl ?_
    exact x_reti0 G Q dX1_same_35 rfl  h XSub.rf (Nat.le_of_ble_eq_true rfl) (Nat.le_of_ble_eq_true rfl)
theorem cdX1_worked : yX1_worked.cls = RX1 ∧ yX1_worked.cls ≠ "java/lang/invoke/MethodHandle" ∧ yX1_worked.cls ≠ "java/lang/invoke/VarHandle" ∧ (parseMethodDescriptor yX1_worked.desc).map (fun d => d.parameters.length) = some 4 := by decide +kernel
def wX1_worked_F (p0 : Int32) (p1 : Int32) (p2 : Int32) (p3 : Int32) (lgf : Nat → Option Nat) (K : Int64 → Prop) (E : String → Prop) : Prop := (wX1_isIn p3.toInt64 (0 : Int64) (8 : Int64) (fun (r_1 : Int32) => ((¬ r_1 = (0 : Int32) → ((¬ vp_in p0 12 → E "java/lang/ArrayIndexOutOfBoundsException") ∧ (vp_in p0 12 → ((lgf p0.toNatClampNeg) = none ∧ E "java/lang/NullPointerException")))) ∧ (r_1 = (0 : Int32) → K (-102 : Int64)))))
set_option maxRecDepth 20000 in
theorem tX1_worked_F {l : Launch} {D : va_G} {ta : Nat → ClassId} {h0 : Nat} {lg : Nat} {e1 : Nat} {e2 : Nat} {e3 : Nat} {rl : Nat} {cur : Int32} {sh : Nat} {lgf : Nat → Option Nat} {p0 : Int32} {p1 : Int32} {p2 : Int32} {p3 : Int32} {K : Int64 → Prop} {E : String → Prop} (hlt : l.stackTraces = false) (h : wX1_worked_F p0 p1 p2 p3 lgf K E) : SXl0 l D ta yX1_worked cX1_worked 10 FieldType.long 6 [.ref h0, .int p0, .int p1, .int p2, .int p3] [(h0, .inr (0, [.ref lg, .ref e1, .ref e2, .ref e3, .ref rl, .int cur, .ref sh])), (lg, .inl (ta 6, 12, .inr (.inr (.inr (.inr lgf)))))] ([(h0, .inr (0, [.ref lg, .ref e1, .ref e2, .ref e3, .ref rl, .int cur, .ref sh])), (lg, .inl (ta 6, 12, .inr (.inr (.inr (.inr lgf)))))]) 3 222 K E := by
  refine x_sxl0 hlt (by decide +kernel) (Nat.le_of_ble_eq_true rfl) (fun g G hl hD hT hN Q => ?_)
  subst hl; subst hD; subst hT
  unfold wX1_worked_F at h
  show X g 10 0 [(0, .ref h0), (1, .int p0), (2, .int p1), (3, .int p2), (4, .int p3)] [] [(h0, .inr (0, [.ref lg, .ref e1, .ref e2, .ref e3, .ref rl, .int cur, .ref sh])), (lg, .inl ((xT g) 6, 12, .inr (.inr (.inr (.inr lgf)))))] 0 0
  refine x_iload G dX1_worked_0 4 rfl ?_
  refine x_i2l G dX1_worked_2 ?_
  refine x_lconst (v := (0 : Int64)) G dX1_worked_3 (by decide) ?_
  refine x_ldc2 G q779 dX1_worked_4 ?_
  refine x_cPi (As := [.long p3.toInt64, .long (0 : Int64), .long (8 : Int64)]) (rest := []) G (tX1_isIn G.noTraces h) (lw_S q199 q200 q65 q201) cdX1_isIn (by decide) (by decide) rfl (Nat.le_of_ble_eq_true rfl) (Nat.le_of_ble_eq_true rfl) (Nat.le_of_ble_eq_true rfl) dX1_worked_7 (fun r_1 h => ?_)
  refine x_if_ne (tgt := 17) G dX1_worked_10 rfl (fun c => ?_) (fun c => ?_)
  · replace h := h.1 c
    refine x_aload_n G rfl dX1_worked_17 0 rfl ?_
    refine x_get G in_X1 0 rfl rfl 0 (by decide) q159 (fun _ h => h) rfl dX1_worked_18 ?_
    refine x_iload_n G rfl dX1_worked_21 1 rfl ?_
    by_cases hz : vp_in p0 12
    case neg =>
      replace h := h.1 hz
      refine x_aaldZ G 1 rfl rfl (by decide) hz (Nat.le_of_ble_eq_true rfl) (Nat.le_of_ble_eq_true rfl) (Nat.le_of_ble_eq_true rfl) dX1_worked_22 ?_
      exact x_ol0 G Q h XSub.rf (Nat.le_of_ble_eq_true rfl) (Nat.le_of_ble_eq_true rfl)
    replace h := h.2 hz
    obtain ⟨hq, h⟩ := h
    refine x_aald G 1 6 rfl rfl hz dX1_worked_22 ?_
    rw [hq]
    show X g 10 23 [(0, .ref h0), (1, .int p0), (2, .int p1), (3, .int p2), (4, .int p3)] [.null] [(h0, .inr (0, [.ref lg, .ref e1, .ref e2, .ref e3, .ref rl, .int cur, .ref sh])), (lg, .inl ((xT g) 6, 12, .inr (.inr (.inr (.inr lgf)))))] 0 0
    refine x_astoreN (lv' := [(5, .null), (0, .ref h0), (1, .int p0), (2, .int p1), (3, .int p2), (4, .int p3)]) G dX1_worked_23 (by decide) rfl ?_
    refine x_aloadNN G dX1_worked_25 0 rfl ?_
    refine x_iload_n G rfl dX1_worked_27 3 rfl ?_
    refine x_invN (z := ⟨"RoundingAuditor$Ledger", "length", "()I"⟩) (As := [.int p1]) (rest := []) G q617 (va_Decl.abs (G.E.2.1.2.2.1 _ (by decide +kernel))) rfl q665 (show ("RoundingAuditor$Ledger" : String) ≠ "java/lang/invoke/MethodHandle" ∧ ("RoundingAuditor$Ledger" : String) ≠ "java/lang/invoke/VarHandle" ∧ (parseMethodDescriptor "(I)D").map (fun d => d.parameters.length) = some 1 from by decide +kernel) rfl (Nat.le_of_ble_eq_true rfl) (Nat.le_of_ble_eq_true rfl) (Nat.le_of_ble_eq_true rfl) dX1_worked_28 ?_
    exact x_ol0 G Q h XSub.rf (Nat.le_of_ble_eq_true rfl) (Nat.le_of_ble_eq_true rfl)
  · replace h := h.2 c
    refine x_ldc2 G q260 dX1_worked_13 ?_
    exact x_yl0 G Q dX1_worked_16  h XSub.rf (Nat.le_of_ble_eq_true rfl) (Nat.le_of_ble_eq_true rfl)
def wX1_worked_J49 (kd : Bool) (p3 : Int32) (K : Int64 → Prop) (E : String → Prop) : UInt64 → UInt64 → Prop := fun (v6_4 : UInt64) (s_5 : UInt64) => ((¬ p3 = (8 : Int32) → (wL_worked kd v6_4 s_5 p3 (fun (r_6 : UInt64) => (wL_bits kd r_6 (fun (r_7 : Int64) => K r_7))))) ∧ (p3 = (8 : Int32) → ((¬ deq s_5 FP.dconst0 → (wL_worked kd v6_4 s_5 p3 (fun (r_8 : UInt64) => (wL_bits kd r_8 (fun (r_9 : Int64) => K r_9))))) ∧ (deq s_5 FP.dconst0 → E "java/lang/ArithmeticException"))))
def wX1_worked (p0 : Int32) (p1 : Int32) (p2 : Int32) (p3 : Int32) (lgf : Nat → Option Nat) (u0 : Nat) (kd : Bool) (ln : Nat) (am : Nat → UInt64) (K : Int64 → Prop) (E : String → Prop) : Prop := (wX1_isIn p3.toInt64 (0 : Int64) (8 : Int64) (fun (r_1 : Int32) => ((¬ r_1 = (0 : Int32) → (vp_in p0 12 ∧ ((lgf p0.toNatClampNeg) = some u0 ∧ (wL_at_X kd p1 ln am (fun (r_2 : UInt64) => (((5 : Int32) ≤ p3 → (wL_at_X kd p2 ln am (fun (r_3 : UInt64) => (wX1_worked_J49 kd p3 K E r_2 r_3)) (fun (En : String) => E En))) ∧ (¬ (5 : Int32) ≤ p3 → (wX1_worked_J49 kd p3 K E r_2 FP.dconst0)))) (fun (En : String) => E En))))) ∧ (r_1 = (0 : Int32) → K (-102 : Int64)))))
set_option maxRecDepth 20000 in
theorem kX1_worked_J49 {g : XG} {h0 : Nat} {lg : Nat} {e1 : Nat} {e2 : Nat} {e3 : Nat} {rl : Nat} {cur : Int32} {sh : Nat} {lgf : Nat → Option Nat} {u0 : Nat} {kd : Bool} {u0a : Nat} {u0d : Nat} {u0g : Nat} {gc : Int32} {u0m : Nat} {ln : Nat} {am : Nat → UInt64} {p3 : Int32} {K : Int64 → Prop} {E : String → Prop} (G : XO g RX1 cX1_worked 10 21 7 450) (Q : XYl0 g FieldType.long 7 450 ([(h0, .inr (0, [.ref lg, .ref e1, .ref e2, .ref e3, .ref rl, .int cur, .ref sh])), (lg, .inl ((xT g) 6, 12, .inr (.inr (.inr (.inr lgf))))), (u0, .inr (lci kd, [.ref u0a, .ref u0d, .ref u0g, .int gc, .ref u0m])), (u0m, .inl (lamC kd (xT g) ln am))]) K E) : ∀ (v6_4 : UInt64) (s_5 : UInt64), wX1_worked_J49 kd p3 K E v6_4 s_5 → X g 10 49 [(0, .ref h0), (4, .int p3), (5, .ref u0), (6, .double v6_4)] [.double s_5] [(h0, .inr (0, [.ref lg, .ref e1, .ref e2, .ref e3, .ref rl, .int cur, .ref sh])), (lg, .inl ((xT g) 6, 12, .inr (.inr (.inr (.inr lgf))))), (u0, .inr (lci kd, [.ref u0a, .ref u0d, .ref u0g, .int gc, .ref u0m])), (u0m, .inl (lamC kd (xT g) ln am))] 6 444 := by
  intro v6_4 s_5 h
  unfold wX1_worked_J49 at h
  refine x_dstore (lv' := [(8, .double s_5), (0, .ref h0), (4, .int p3), (5, .ref u0), (6, .double v6_4)]) G dX1_worked_49 (by decide) rfl ?_
  refine x_iload G dX1_worked_51 2 rfl ?_
  refine x_bipush (v := (8 : Int32)) G dX1_worked_53 (by decide) ?_
  refine x_icmp_ne (tgt := 73) G dX1_worked_55 rfl (fun c => ?_) (fun c => ?_)
  · replace h := h.1 c
    refine x_aload G dX1_worked_73 3 rfl ?_
    refine x_aload G dX1_worked_75 3 rfl ?_
    refine x_dload G dX1_worked_77 4 rfl ?_
    refine x_dload G dX1_worked_79 0 rfl ?_
    refine x_iload G dX1_worked_81 2 rfl ?_
    refine x_cUd0 (C := lnm kd) (owner := "RoundingAuditor$Ledger") (x := ⟨"RoundingAuditor$Ledger", "worked", "(DDI)D"⟩) (wc := []) (As := [.double v6_4, .double s_5, .int p3]) (rest := [.ref u0]) G [(h0, .inr (0, [.ref lg, .ref e1, .ref e2, .ref e3, .ref rl, .int cur, .ref sh])), (lg, .inl ((xT g) 6, 12, .inr (.inr (.inr (.inr lgf))))), (u0, .inr (lci kd, [.ref u0a, .ref u0d, .ref u0g, .int gc, .ref u0m])), (u0m, .inl (lamC kd (xT g) ln am))] (XSub.of [0, 1, 2, 3] rfl (by decide)) (tL_worked kd G.noTraces h) q785 q787 (va_Decl.abs (G.E.2.1.2.2.1 _ (by decide +kernel))) (sL_worked kd) (hL_worked kd).1 (hL_worked kd).2.1 (hL_worked kd).2.2.1 cdL_worked (lci kd) 2 (lci_at kd) rfl rfl (by decide) (hL_worked _).2.2.2 rfl (Nat.le_of_ble_eq_true rfl) (Nat.le_of_ble_eq_true rfl) (Nat.le_of_ble_eq_true rfl) dX1_worked_83 (fun r_6 h => ?_)
    show X g 10 86 [(8, .double s_5), (0, .ref h0), (4, .int p3), (5, .ref u0), (6, .double v6_4)] [.double r_6, .ref u0] [(h0, .inr (0, [.ref lg, .ref e1, .ref e2, .ref e3, .ref rl, .int cur, .ref sh])), (lg, .inl ((xT g) 6, 12, .inr (.inr (.inr (.inr lgf))))), (u0, .inr (lci kd, [.ref u0a, .ref u0d, .ref u0g, .int gc, .ref u0m])), (u0m, .inl (lamC kd (xT g) ln am))] 6 444
    refine x_cUl0 (C := lnm kd) (owner := "RoundingAuditor$Ledger") (x := ⟨"RoundingAuditor$Ledger", "bits", "(D)J"⟩) (wc := []) (As := [.double r_6]) (rest := []) G [(h0, .inr (0, [.ref lg, .ref e1, .ref e2, .ref e3, .ref rl, .int cur, .ref sh])), (lg, .inl ((xT g) 6, 12, .inr (.inr (.inr (.inr lgf))))), (u0, .inr (lci kd, [.ref u0a, .ref u0d, .ref u0g, .int gc, .ref u0m])), (u0m, .inl (lamC kd (xT g) ln am))] (XSub.of [0, 1, 2, 3] rfl (by decide)) (tL_bits kd G.noTraces h) q626 q628 (va_Decl.abs (G.E.2.1.2.2.1 _ (by decide +kernel))) (sL_bits kd) (hL_bits kd).1 (hL_bits kd).2.1 (hL_bits kd).2.2.1 cdL_bits (lci kd) 2 (lci_at kd) rfl rfl (by decide) (hL_bits _).2.2.2 rfl (Nat.le_of_ble_eq_true rfl) (Nat.le_of_ble_eq_true rfl) (Nat.le_of_ble_eq_true rfl) dX1_worked_86 (fun r_7 h => ?_)
    show X g 10 89 [(8, .double s_5), (0, .ref h0), (4, .int p3), (5, .ref u0), (6, .double v6_4)] [.long r_7] [(h0, .inr (0, [.ref lg, .ref e1, .ref e2, .ref e3, .ref rl, .int cur, .ref sh])), (lg, .inl ((xT g) 6, 12, .inr (.inr (.inr (.inr lgf))))), (u0, .inr (lci kd, [.ref u0a, .ref u0d, .ref u0g, .int gc, .ref u0m])), (u0m, .inl (lamC kd (xT g) ln am))] 6 444
    exact x_yl0 G Q dX1_worked_89  h XSub.rf (Nat.le_of_ble_eq_true rfl) (Nat.le_of_ble_eq_true rfl)
  · replace h := h.2 c
    refine x_dload G dX1_worked_58 0 rfl ?_
    refine x_dconst0 G dX1_worked_60 ?_
    refine x_dcmpl_ne (tgt := 73) G dX1_worked_61 dX1_worked_62 rfl (fun c => ?_) (fun c => ?_)
    · replace h := h.1 c
      refine x_aload G dX1_worked_73 3 rfl ?_
      refine x_aload G dX1_worked_75 3 rfl ?_
      refine x_dload G dX1_worked_77 4 rfl ?_
      refine x_dload G dX1_worked_79 0 rfl ?_
      refine x_iload G dX1_worked_81 2 rfl ?_
      refine x_cUd0 (C := lnm kd) (owner := "RoundingAuditor$Ledger") (x := ⟨"RoundingAuditor$Ledger", "worked", "(DDI)D"⟩) (wc := []) (As := [.double v6_4, .double s_5, .int p3]) (rest := [.ref u0]) G [(h0, .inr (0, [.ref lg, .ref e1, .ref e2, .ref e3, .ref rl, .int cur, .ref sh])), (lg, .inl ((xT g) 6, 12, .inr (.inr (.inr (.inr lgf))))), (u0, .inr (lci kd, [.ref u0a, .ref u0d, .ref u0g, .int gc, .ref u0m])), (u0m, .inl (lamC kd (xT g) ln am))] (XSub.of [0, 1, 2, 3] rfl (by decide)) (tL_worked kd G.noTraces h) q785 q787 (va_Decl.abs (G.E.2.1.2.2.1 _ (by decide +kernel))) (sL_worked kd) (hL_worked kd).1 (hL_worked kd).2.1 (hL_worked kd).2.2.1 cdL_worked (lci kd) 2 (lci_at kd) rfl rfl (by decide) (hL_worked _).2.2.2 rfl (Nat.le_of_ble_eq_true rfl) (Nat.le_of_ble_eq_true rfl) (Nat.le_of_ble_eq_true rfl) dX1_worked_83 (fun r_8 h => ?_)
      show X g 10 86 [(8, .double s_5), (0, .ref h0), (4, .int p3), (5, .ref u0), (6, .double v6_4)] [.double r_8, .ref u0] [(h0, .inr (0, [.ref lg, .ref e1, .ref e2, .ref e3, .ref rl, .int cur, .ref sh])), (lg, .inl ((xT g) 6, 12, .inr (.inr (.inr (.inr lgf))))), (u0, .inr (lci kd, [.ref u0a, .ref u0d, .ref u0g, .int gc, .ref u0m])), (u0m, .inl (lamC kd (xT g) ln am))] 6 444
      refine x_cUl0 (C := lnm kd) (owner := "RoundingAuditor$Ledger") (x := ⟨"RoundingAuditor$Ledger", "bits", "(D)J"⟩) (wc := []) (As := [.double r_8]) (rest := []) G [(h0, .inr (0, [.ref lg, .ref e1, .ref e2, .ref e3, .ref rl, .int cur, .ref sh])), (lg, .inl ((xT g) 6, 12, .inr (.inr (.inr (.inr lgf))))), (u0, .inr (lci kd, [.ref u0a, .ref u0d, .ref u0g, .int gc, .ref u0m])), (u0m, .inl (lamC kd (xT g) ln am))] (XSub.of [0, 1, 2, 3] rfl (by decide)) (tL_bits kd G.noTraces h) q626 q628 (va_Decl.abs (G.E.2.1.2.2.1 _ (by decide +kernel))) (sL_bits kd) (hL_bits kd).1 (hL_bits kd).2.1 (hL_bits kd).2.2.1 cdL_bits (lci kd) 2 (lci_at kd) rfl rfl (by decide) (hL_bits _).2.2.2 rfl (Nat.le_of_ble_eq_true rfl) (Nat.le_of_ble_eq_true rfl) (Nat.le_of_ble_eq_true rfl) dX1_worked_86 (fun r_9 h => ?_)
      show X g 10 89 [(8, .double s_5), (0, .ref h0), (4, .int p3), (5, .ref u0), (6, .double v6_4)] [.long r_9] [(h0, .inr (0, [.ref lg, .ref e1, .ref e2, .ref e3, .ref rl, .int cur, .ref sh])), (lg, .inl ((xT g) 6, 12, .inr (.inr (.inr (.inr lgf))))), (u0, .inr (lci kd, [.ref u0a, .ref u0d, .ref u0g, .int gc, .ref u0m])), (u0m, .inl (lamC kd (xT g) ln am))] 6 444
      exact x_yl0 G Q dX1_worked_89  h XSub.rf (Nat.le_of_ble_eq_true rfl) (Nat.le_of_ble_eq_true rfl)
    · replace h := h.2 c
      exact x_throwAR (st := []) G Q.1.2 Q.2 q780 q87 (Nat.le_of_ble_eq_true rfl) dX1_worked_65 dX1_worked_68 dX1_worked_69 dX1_worked_72 () h XSub.rf (Nat.le_of_ble_eq_true rfl) (Nat.le_of_ble_eq_true rfl)
set_option maxRecDepth 20000 in
theorem tX1_worked {l : Launch} {D : va_G} {ta : Nat → ClassId} {h0 : Nat} {lg : Nat} {e1 : Nat} {e2 : Nat} {e3 : Nat} {rl : Nat} {cur : Int32} {sh : Nat} {lgf : Nat → Option Nat} {u0 : Nat} {kd : Bool} {u0a : Nat} {u0d : Nat} {u0g : Nat} {gc : Int32} {u0m : Nat} {ln : Nat} {am : Nat → UInt64} {p0 : Int32} {p1 : Int32} {p2 : Int32} {p3 : Int32} {K : Int64 → Prop} {E : String → Prop} (hlt : l.stackTraces = false) (h : wX1_worked p0 p1 p2 p3 lgf u0 kd ln am K E) : SXl0 l D ta yX1_worked cX1_worked 10 FieldType.long 21 [.ref h0, .int p0, .int p1, .int p2, .int p3] [(h0, .inr (0, [.ref lg, .ref e1, .ref e2, .ref e3, .ref rl, .int cur, .ref sh])), (lg, .inl (ta 6, 12, .inr (.inr (.inr (.inr lgf))))), (u0, .inr (lci kd, [.ref u0a, .ref u0d, .ref u0g, .int gc, .ref u0m])), (u0m, .inl (lamC kd ta ln am))] ([(h0, .inr (0, [.ref lg, .ref e1, .ref e2, .ref e3, .ref rl, .int cur, .ref sh])), (lg, .inl (ta 6, 12, .inr (.inr (.inr (.inr lgf))))), (u0, .inr (lci kd, [.ref u0a, .ref u0d, .ref u0g, .int gc, .ref u0m])), (u0m, .inl (lamC kd ta ln am))]) 7 450 K E := by
  refine x_sxl0 hlt (by decide +kernel) (Nat.le_of_ble_eq_true rfl) (fun g G hl hD hT hN Q => ?_)
  subst hl; subst hD; subst hT
  unfold wX1_worked at h
  show X g 10 0 [(0, .ref h0), (1, .int p0), (2, .int p1), (3, .int p2), (4, .int p3)] [] [(h0, .inr (0, [.ref lg, .ref e1, .ref e2, .ref e3, .ref rl, .int cur, .ref sh])), (lg, .inl ((xT g) 6, 12, .inr (.inr (.inr (.inr lgf))))), (u0, .inr (lci kd, [.ref u0a, .ref u0d, .ref u0g, .int gc, .ref u0m])), (u0m, .inl (lamC kd (xT g) ln am))] 0 0
  refine x_iload G dX1_worked_0 4 rfl ?_
  refine x_i2l G dX1_worked_2 ?_
  refine x_lconst (v := (0 : Int64)) G dX1_worked_3 (by decide) ?_
  refine x_ldc2 G q779 dX1_worked_4 ?_
  refine x_cPi (As := [.long p3.toInt64, .long (0 : Int64), .long (8 : Int64)]) (rest := []) G (tX1_isIn G.noTraces h) (lw_S q199 q200 q65 q201) cdX1_isIn (by decide) (by decide) rfl (Nat.le_of_ble_eq_true rfl) (Nat.le_of_ble_eq_true rfl) (Nat.le_of_ble_eq_true rfl) dX1_worked_7 (fun r_1 h => ?_)
  refine x_if_ne (tgt := 17) G dX1_worked_10 rfl (fun c => ?_) (fun c => ?_)
  · replace h := h.1 c
    refine x_aload_n G rfl dX1_worked_17 0 rfl ?_
    refine x_get G in_X1 0 rfl rfl 0 (by decide) q159 (fun _ h => h) rfl dX1_worked_18 ?_
    refine x_iload_n G rfl dX1_worked_21 1 rfl ?_
    obtain ⟨hz, hq, h⟩ := h
    refine x_aald G 1 6 rfl rfl hz dX1_worked_22 ?_
    rw [hq]
    show X g 10 23 [(0, .ref h0), (1, .int p0), (2, .int p1), (3, .int p2), (4, .int p3)] [.ref u0] [(h0, .inr (0, [.ref lg, .ref e1, .ref e2, .ref e3, .ref rl, .int cur, .ref sh])), (lg, .inl ((xT g) 6, 12, .inr (.inr (.inr (.inr lgf))))), (u0, .inr (lci kd, [.ref u0a, .ref u0d, .ref u0g, .int gc, .ref u0m])), (u0m, .inl (lamC kd (xT g) ln am))] 0 0
    refine x_astore (lv' := [(5, .ref u0), (0, .ref h0), (1, .int p0), (2, .int p1), (3, .int p2), (4, .int p3)]) G dX1_worked_23 (by decide) rfl ?_
    refine x_aload G dX1_worked_25 0 rfl ?_
    refine x_iload_n G rfl dX1_worked_27 3 rfl ?_
    refine x_cXUd0 (C := lnm kd) (owner := "RoundingAuditor$Ledger") (x := ⟨"RoundingAuditor$Ledger", "at", "(I)D"⟩) (wc := [(u0, .inr (lci kd, [.ref u0a, .ref u0d, .ref u0g, .int gc, .ref u0m])), (u0m, .inl (lamC kd (xT g) ln am))]) (As := [.int p1]) (rest := []) G [(h0, .inr (0, [.ref lg, .ref e1, .ref e2, .ref e3, .ref rl, .int cur, .ref sh])), (lg, .inl ((xT g) 6, 12, .inr (.inr (.inr (.inr lgf)))))] (XSub.of [0, 1, 2, 3] rfl (by decide)) (tL_at_X kd G.noTraces h) q617 q619 (va_Decl.abs (G.E.2.1.2.2.1 _ (by decide +kernel))) (sL_at kd) (hL_at kd).1 (hL_at kd).2.1 (hL_at kd).2.2.1 cdL_at (lci kd) 2 (lci_at kd) rfl rfl (by decide) (hL_at _).2.2.2 rfl (Nat.le_of_ble_eq_true rfl) (Nat.le_of_ble_eq_true rfl) (Nat.le_of_ble_eq_true rfl) dX1_worked_28 (fun En h => ?_) (fun r_2 h => ?_)
    · exact x_ol0 G Q h XSub.rf (Nat.le_of_ble_eq_true rfl) (Nat.le_of_ble_eq_true rfl)
    show X g 10 31 [(5, .ref u0), (0, .ref h0), (1, .int p0), (2, .int p1), (3, .int p2), (4, .int p3)] [.double r_2] [(h0, .inr (0, [.ref lg, .ref e1, .ref e2, .ref e3, .ref rl, .int cur, .ref sh])), (lg, .inl ((xT g) 6, 12, .inr (.inr (.inr (.inr lgf))))), (u0, .inr (lci kd, [.ref u0a, .ref u0d, .ref u0g, .int gc, .ref u0m])), (u0m, .inl (lamC kd (xT g) ln am))] 3 222
    refine x_dstore (lv' := [(6, .double r_2), (5, .ref u0), (0, .ref h0), (1, .int p0), (2, .int p1), (3, .int p2), (4, .int p3)]) G dX1_worked_31 (by decide) rfl ?_
    refine x_iload G dX1_worked_33 6 rfl ?_
    refine x_iconst (v := (5 : Int32)) G dX1_worked_35 (by decide) ?_
    refine x_icmp_ge (tgt := 43) G dX1_worked_36 rfl (fun c => ?_) (fun c => ?_)
    · replace h := h.1 c
      refine x_aload G dX1_worked_43 1 rfl ?_
      refine x_iload_n G rfl dX1_worked_45 5 rfl ?_
      refine x_cXUd0 (C := lnm kd) (owner := "RoundingAuditor$Ledger") (x := ⟨"RoundingAuditor$Ledger", "at", "(I)D"⟩) (wc := [(u0, .inr (lci kd, [.ref u0a, .ref u0d, .ref u0g, .int gc, .ref u0m])), (u0m, .inl (lamC kd (xT g) ln am))]) (As := [.int p2]) (rest := []) G [(h0, .inr (0, [.ref lg, .ref e1, .ref e2, .ref e3, .ref rl, .int cur, .ref sh])), (lg, .inl ((xT g) 6, 12, .inr (.inr (.inr (.inr lgf)))))] (XSub.of [0, 1, 2, 3] rfl (by decide)) (tL_at_X kd G.noTraces h) q617 q619 (va_Decl.abs (G.E.2.1.2.2.1 _ (by decide +kernel))) (sL_at kd) (hL_at kd).1 (hL_at kd).2.1 (hL_at kd).2.2.1 cdL_at (lci kd) 2 (lci_at kd) rfl rfl (by decide) (hL_at _).2.2.2 rfl (Nat.le_of_ble_eq_true rfl) (Nat.le_of_ble_eq_true rfl) (Nat.le_of_ble_eq_true rfl) dX1_worked_46 (fun En h => ?_) (fun r_3 h => ?_)
      · exact x_ol0 G Q h XSub.rf (Nat.le_of_ble_eq_true rfl) (Nat.le_of_ble_eq_true rfl)
      show X g 10 49 [(6, .double r_2), (5, .ref u0), (0, .ref h0), (1, .int p0), (2, .int p1), (3, .int p2), (4, .int p3)] [.double r_3] [(h0, .inr (0, [.ref lg, .ref e1, .ref e2, .ref e3, .ref rl, .int cur, .ref sh])), (lg, .inl ((xT g) 6, 12, .inr (.inr (.inr (.inr lgf))))), (u0, .inr (lci kd, [.ref u0a, .ref u0d, .ref u0g, .int gc, .ref u0m])), (u0m, .inl (lamC kd (xT g) ln am))] 6 444
      refine x_lv (lv' := [(0, .ref h0), (4, .int p3), (5, .ref u0), (6, .double r_2)]) [2, 6, 1, 0] rfl ?_
      refine kX1_worked_J49 G Q  _ _ h
    · replace h := h.2 c
      refine x_dconst0 G dX1_worked_39 ?_
      refine x_goto (tgt := 49) G dX1_worked_40 rfl ?_
      refine x_lv (lv' := [(0, .ref h0), (4, .int p3), (5, .ref u0), (6, .double r_2)]) [2, 6, 1, 0] rfl ?_
      refine x_mono (k' := 6) (n' := 444) (Nat.le_of_ble_eq_true rfl) (Nat.le_of_ble_eq_true rfl) ?_
      refine kX1_worked_J49 G Q  _ _ h
  · replace h := h.2 c
    refine x_ldc2 G q260 dX1_worked_13 ?_
    exact x_yl0 G Q dX1_worked_16  h XSub.rf (Nat.le_of_ble_eq_true rfl) (Nat.le_of_ble_eq_true rfl)
theorem cdX1_whole : yX1_whole.cls = RX1 ∧ yX1_whole.cls ≠ "java/lang/invoke/MethodHandle" ∧ yX1_whole.cls ≠ "java/lang/invoke/VarHandle" ∧ (parseMethodDescriptor yX1_whole.desc).map (fun d => d.parameters.length) = some 3 := by decide +kernel
def wX1_whole_F (p0 : Int32) (p1 : Int32) (p2 : Int32) (lgf : Nat → Option Nat) (K : Int64 → Prop) (E : String → Prop) : Prop := (wX1_isIn p2.toInt64 (0 : Int64) (3 : Int64) (fun (r_1 : Int32) => ((¬ r_1 = (0 : Int32) → ((¬ vp_in p0 12 → E "java/lang/ArrayIndexOutOfBoundsException") ∧ (vp_in p0 12 → ((lgf p0.toNatClampNeg) = none ∧ E "java/lang/NullPointerException")))) ∧ (r_1 = (0 : Int32) → K (-102 : Int64)))))
set_option maxRecDepth 20000 in
theorem tX1_whole_F {l : Launch} {D : va_G} {ta : Nat → ClassId} {h0 : Nat} {lg : Nat} {e1 : Nat} {e2 : Nat} {e3 : Nat} {rl : Nat} {cur : Int32} {sh : Nat} {lgf : Nat → Option Nat} {p0 : Int32} {p1 : Int32} {p2 : Int32} {K : Int64 → Prop} {E : String → Prop} (hlt : l.stackTraces = false) (h : wX1_whole_F p0 p1 p2 lgf K E) : SXl0 l D ta yX1_whole cX1_whole 5 FieldType.long 2 [.ref h0, .int p0, .int p1, .int p2] [(h0, .inr (0, [.ref lg, .ref e1, .ref e2, .ref e3, .ref rl, .int cur, .ref sh])), (lg, .inl (ta 6, 12, .inr (.inr (.inr (.inr lgf)))))] ([(h0, .inr (0, [.ref lg, .ref e1, .ref e2, .ref e3, .ref rl, .int cur, .ref sh])), (lg, .inl (ta 6, 12, .inr (.inr (.inr (.inr lgf)))))]) 3 222 K E := by
  refine x_sxl0 hlt (by decide +kernel) (Nat.le_of_ble_eq_true rfl) (fun g G hl hD hT hN Q => ?_)
  subst hl; subst hD; subst hT
  unfold wX1_whole_F at h
  show X g 5 0 [(0, .ref h0), (1, .int p0), (2, .int p1), (3, .int p2)] [] [(h0, .inr (0, [.ref lg, .ref e1, .ref e2, .ref e3, .ref rl, .int cur, .ref sh])), (lg, .inl ((xT g) 6, 12, .inr (.inr (.inr (.inr lgf)))))] 0 0
  refine x_iload_n G rfl dX1_whole_0 3 rfl ?_
  refine x_i2l G dX1_whole_1 ?_
  refine x_lconst (v := (0 : Int64)) G dX1_whole_2 (by decide) ?_
  refine x_ldc2 G q867 dX1_whole_3 ?_
  refine x_cPi (As := [.long p2.toInt64, .long (0 : Int64), .long (3 : Int64)]) (rest := []) G (tX1_isIn G.noTraces h) (lw_S q199 q200 q65 q201) cdX1_isIn (by decide) (by decide) rfl (Nat.le_of_ble_eq_true rfl) (Nat.le_of_ble_eq_true rfl) (Nat.le_of_ble_eq_true rfl) dX1_whole_6 (fun r_1 h => ?_)
  refine x_if_ne (tgt := 16) G dX1_whole_9 rfl (fun c => ?_) (fun c => ?_)
  · replace h := h.1 c
    refine x_aload_n G rfl dX1_whole_16 0 rfl ?_
    refine x_get G in_X1 0 rfl rfl 0 (by decide) q159 (fun _ h => h) rfl dX1_whole_17 ?_
    refine x_iload_n G rfl dX1_whole_20 1 rfl ?_
    by_cases hz : vp_in p0 12
    case neg =>
      replace h := h.1 hz
      refine x_aaldZ G 1 rfl rfl (by decide) hz (Nat.le_of_ble_eq_true rfl) (Nat.le_of_ble_eq_true rfl) (Nat.le_of_ble_eq_true rfl) dX1_whole_21 ?_
      exact x_ol0 G Q h XSub.rf (Nat.le_of_ble_eq_true rfl) (Nat.le_of_ble_eq_true rfl)
    replace h := h.2 hz
    obtain ⟨hq, h⟩ := h
    refine x_aald G 1 6 rfl rfl hz dX1_whole_21 ?_
    rw [hq]
    show X g 5 22 [(0, .ref h0), (1, .int p0), (2, .int p1), (3, .int p2)] [.null] [(h0, .inr (0, [.ref lg, .ref e1, .ref e2, .ref e3, .ref rl, .int cur, .ref sh])), (lg, .inl ((xT g) 6, 12, .inr (.inr (.inr (.inr lgf)))))] 0 0
    refine x_astoreN (lv' := [(4, .null), (0, .ref h0), (1, .int p0), (2, .int p1), (3, .int p2)]) G dX1_whole_22 (by decide) rfl ?_
    refine x_aloadNN G dX1_whole_24 0 rfl ?_
    refine x_aloadNN G dX1_whole_26 0 rfl ?_
    refine x_iload_n G rfl dX1_whole_28 3 rfl ?_
    refine x_invN (z := ⟨"RoundingAuditor$Ledger", "length", "()I"⟩) (As := [.int p1]) (rest := [.null]) G q617 (va_Decl.abs (G.E.2.1.2.2.1 _ (by decide +kernel))) rfl q665 (show ("RoundingAuditor$Ledger" : String) ≠ "java/lang/invoke/MethodHandle" ∧ ("RoundingAuditor$Ledger" : String) ≠ "java/lang/invoke/VarHandle" ∧ (parseMethodDescriptor "(I)D").map (fun d => d.parameters.length) = some 1 from by decide +kernel) rfl (Nat.le_of_ble_eq_true rfl) (Nat.le_of_ble_eq_true rfl) (Nat.le_of_ble_eq_true rfl) dX1_whole_29 ?_
    exact x_ol0 G Q h XSub.rf (Nat.le_of_ble_eq_true rfl) (Nat.le_of_ble_eq_true rfl)
  · replace h := h.2 c
    refine x_ldc2 G q260 dX1_whole_12 ?_
    exact x_yl0 G Q dX1_whole_15  h XSub.rf (Nat.le_of_ble_eq_true rfl) (Nat.le_of_ble_eq_true rfl)
def wX1_whole (p0 : Int32) (p1 : Int32) (p2 : Int32) (lgf : Nat → Option Nat) (u0 : Nat) (kd : Bool) (ln : Nat) (am : Nat → UInt64) (K : Int64 → Prop) (E : String → Prop) : Prop := (wX1_isIn p2.toInt64 (0 : Int64) (3 : Int64) (fun (r_1 : Int32) => ((¬ r_1 = (0 : Int32) → (vp_in p0 12 ∧ ((lgf p0.toNatClampNeg) = some u0 ∧ (wL_at_X kd p1 ln am (fun (r_2 : UInt64) => (wL_whole kd r_2 p2 (fun (r_3 : Int64) => K r_3))) (fun (En : String) => E En))))) ∧ (r_1 = (0 : Int32) → K (-102 : Int64)))))
set_option maxRecDepth 20000 in
theorem tX1_whole {l : Launch} {D : va_G} {ta : Nat → ClassId} {h0 : Nat} {lg : Nat} {e1 : Nat} {e2 : Nat} {e3 : Nat} {rl : Nat} {cur : Int32} {sh : Nat} {lgf : Nat → Option Nat} {u0 : Nat} {kd : Bool} {u0a : Nat} {u0d : Nat} {u0g : Nat} {gc : Int32} {u0m : Nat} {ln : Nat} {am : Nat → UInt64} {p0 : Int32} {p1 : Int32} {p2 : Int32} {K : Int64 → Prop} {E : String → Prop} (hlt : l.stackTraces = false) (h : wX1_whole p0 p1 p2 lgf u0 kd ln am K E) : SXl0 l D ta yX1_whole cX1_whole 5 FieldType.long 2 [.ref h0, .int p0, .int p1, .int p2] [(h0, .inr (0, [.ref lg, .ref e1, .ref e2, .ref e3, .ref rl, .int cur, .ref sh])), (lg, .inl (ta 6, 12, .inr (.inr (.inr (.inr lgf))))), (u0, .inr (lci kd, [.ref u0a, .ref u0d, .ref u0g, .int gc, .ref u0m])), (u0m, .inl (lamC kd ta ln am))] ([(h0, .inr (0, [.ref lg, .ref e1, .ref e2, .ref e3, .ref rl, .int cur, .ref sh])), (lg, .inl (ta 6, 12, .inr (.inr (.inr (.inr lgf))))), (u0, .inr (lci kd, [.ref u0a, .ref u0d, .ref u0g, .int gc, .ref u0m])), (u0m, .inl (lamC kd ta ln am))]) 3 222 K E := by
  refine x_sxl0 hlt (by decide +kernel) (Nat.le_of_ble_eq_true rfl) (fun g G hl hD hT hN Q => ?_)
  subst hl; subst hD; subst hT
  unfold wX1_whole at h
  show X g 5 0 [(0, .ref h0), (1, .int p0), (2, .int p1), (3, .int p2)] [] [(h0, .inr (0, [.ref lg, .ref e1, .ref e2, .ref e3, .ref rl, .int cur, .ref sh])), (lg, .inl ((xT g) 6, 12, .inr (.inr (.inr (.inr lgf))))), (u0, .inr (lci kd, [.ref u0a, .ref u0d, .ref u0g, .int gc, .ref u0m])), (u0m, .inl (lamC kd (xT g) ln am))] 0 0
  refine x_iload_n G rfl dX1_whole_0 3 rfl ?_
  refine x_i2l G dX1_whole_1 ?_
  refine x_lconst (v := (0 : Int64)) G dX1_whole_2 (by decide) ?_
  refine x_ldc2 G q867 dX1_whole_3 ?_
  refine x_cPi (As := [.long p2.toInt64, .long (0 : Int64), .long (3 : Int64)]) (rest := []) G (tX1_isIn G.noTraces h) (lw_S q199 q200 q65 q201) cdX1_isIn (by decide) (by decide) rfl (Nat.le_of_ble_eq_true rfl) (Nat.le_of_ble_eq_true rfl) (Nat.le_of_ble_eq_true rfl) dX1_whole_6 (fun r_1 h => ?_)
  refine x_if_ne (tgt := 16) G dX1_whole_9 rfl (fun c => ?_) (fun c => ?_)
  · replace h := h.1 c
    refine x_aload_n G rfl dX1_whole_16 0 rfl ?_
    refine x_get G in_X1 0 rfl rfl 0 (by decide) q159 (fun _ h => h) rfl dX1_whole_17 ?_
    refine x_iload_n G rfl dX1_whole_20 1 rfl ?_
    obtain ⟨hz, hq, h⟩ := h
    refine x_aald G 1 6 rfl rfl hz dX1_whole_21 ?_
    rw [hq]
    show X g 5 22 [(0, .ref h0), (1, .int p0), (2, .int p1), (3, .int p2)] [.ref u0] [(h0, .inr (0, [.ref lg, .ref e1, .ref e2, .ref e3, .ref rl, .int cur, .ref sh])), (lg, .inl ((xT g) 6, 12, .inr (.inr (.inr (.inr lgf))))), (u0, .inr (lci kd, [.ref u0a, .ref u0d, .ref u0g, .int gc, .ref u0m])), (u0m, .inl (lamC kd (xT g) ln am))] 0 0
    refine x_astore (lv' := [(4, .ref u0), (0, .ref h0), (1, .int p0), (2, .int p1), (3, .int p2)]) G dX1_whole_22 (by decide) rfl ?_
    refine x_aload G dX1_whole_24 0 rfl ?_
    refine x_aload G dX1_whole_26 0 rfl ?_
    refine x_iload_n G rfl dX1_whole_28 3 rfl ?_
    refine x_cXUd0 (C := lnm kd) (owner := "RoundingAuditor$Ledger") (x := ⟨"RoundingAuditor$Ledger", "at", "(I)D"⟩) (wc := [(u0, .inr (lci kd, [.ref u0a, .ref u0d, .ref u0g, .int gc, .ref u0m])), (u0m, .inl (lamC kd (xT g) ln am))]) (As := [.int p1]) (rest := [.ref u0]) G [(h0, .inr (0, [.ref lg, .ref e1, .ref e2, .ref e3, .ref rl, .int cur, .ref sh])), (lg, .inl ((xT g) 6, 12, .inr (.inr (.inr (.inr lgf)))))] (XSub.of [0, 1, 2, 3] rfl (by decide)) (tL_at_X kd G.noTraces h) q617 q619 (va_Decl.abs (G.E.2.1.2.2.1 _ (by decide +kernel))) (sL_at kd) (hL_at kd).1 (hL_at kd).2.1 (hL_at kd).2.2.1 cdL_at (lci kd) 2 (lci_at kd) rfl rfl (by decide) (hL_at _).2.2.2 rfl (Nat.le_of_ble_eq_true rfl) (Nat.le_of_ble_eq_true rfl) (Nat.le_of_ble_eq_true rfl) dX1_whole_29 (fun En h => ?_) (fun r_2 h => ?_)
    · exact x_ol0 G Q h XSub.rf (Nat.le_of_ble_eq_true rfl) (Nat.le_of_ble_eq_true rfl)
    show X g 5 32 [(4, .ref u0), (0, .ref h0), (1, .int p0), (2, .int p1), (3, .int p2)] [.double r_2, .ref u0] [(h0, .inr (0, [.ref lg, .ref e1, .ref e2, .ref e3, .ref rl, .int cur, .ref sh])), (lg, .inl ((xT g) 6, 12, .inr (.inr (.inr (.inr lgf))))), (u0, .inr (lci kd, [.ref u0a, .ref u0d, .ref u0g, .int gc, .ref u0m])), (u0m, .inl (lamC kd (xT g) ln am))] 3 222
    refine x_iload_n G rfl dX1_whole_32 4 rfl ?_
    refine x_cUl0 (C := lnm kd) (owner := "RoundingAuditor$Ledger") (x := ⟨"RoundingAuditor$Ledger", "whole", "(DI)J"⟩) (wc := []) (As := [.double r_2, .int p2]) (rest := []) G [(h0, .inr (0, [.ref lg, .ref e1, .ref e2, .ref e3, .ref rl, .int cur, .ref sh])), (lg, .inl ((xT g) 6, 12, .inr (.inr (.inr (.inr lgf))))), (u0, .inr (lci kd, [.ref u0a, .ref u0d, .ref u0g, .int gc, .ref u0m])), (u0m, .inl (lamC kd (xT g) ln am))] (XSub.of [0, 1, 2, 3] rfl (by decide)) (tL_whole kd G.noTraces h) q868 q870 (va_Decl.abs (G.E.2.1.2.2.1 _ (by decide +kernel))) (sL_whole kd) (hL_whole kd).1 (hL_whole kd).2.1 (hL_whole kd).2.2.1 cdL_whole (lci kd) 2 (lci_at kd) rfl rfl (by decide) (hL_whole _).2.2.2 rfl (Nat.le_of_ble_eq_true rfl) (Nat.le_of_ble_eq_true rfl) (Nat.le_of_ble_eq_true rfl) dX1_whole_33 (fun r_3 h => ?_)
    show X g 5 36 [(4, .ref u0), (0, .ref h0), (1, .int p0), (2, .int p1), (3, .int p2)] [.long r_3] [(h0, .inr (0, [.ref lg, .ref e1, .ref e2, .ref e3, .ref rl, .int cur, .ref sh])), (lg, .inl ((xT g) 6, 12, .inr (.inr (.inr (.inr lgf))))), (u0, .inr (lci kd, [.ref u0a, .ref u0d, .ref u0g, .int gc, .ref u0m])), (u0m, .inl (lamC kd (xT g) ln am))] 3 222
    exact x_yl0 G Q dX1_whole_36  h XSub.rf (Nat.le_of_ble_eq_true rfl) (Nat.le_of_ble_eq_true rfl)
  · replace h := h.2 c
    refine x_ldc2 G q260 dX1_whole_12 ?_
    exact x_yl0 G Q dX1_whole_15  h XSub.rf (Nat.le_of_ble_eq_true rfl) (Nat.le_of_ble_eq_true rfl)
