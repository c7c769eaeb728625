/-! RoundingAuditor: runs. Printed by gen/x1.py -/
theorem cdX1_isRun : yX1_isRun.cls = RX1 ∧ yX1_isRun.cls ≠ "java/lang/invoke/MethodHandle" ∧ yX1_isRun.cls ≠ "java/lang/invoke/VarHandle" ∧ (parseMethodDescriptor yX1_isRun.desc).map (fun d => d.parameters.length) = some 1 := by decide +kernel
def wX1_isRun (p0 : Int32) (lz : Int32) (K : Int32 → Prop) : Prop := (wJ2_size lz (fun (r_1 : Int32) => (wX1_isIn p0.toInt64 (0 : Int64) ((r_1 - (1 : Int32)).toInt64) (fun (r_2 : Int32) => (isB r_2 ∧ K r_2)))))
set_option maxRecDepth 20000 in
theorem tX1_isRun {l : Launch} {D : va_G} {ta : Nat → ClassId} {h0 : Nat} {lg : Nat} {e1 : Nat} {e2 : Nat} {e3 : Nat} {rl : Nat} {cur : Int32} {sh : Nat} {lm : Int32} {rle : Nat} {lz : Int32} {p0 : Int32} {K : Int32 → Prop} (hlt : l.stackTraces = false) (h : wX1_isRun p0 lz K) : SMi0 l D ta yX1_isRun cX1_isRun 2 FieldType.boolean 2 [.ref h0, .int p0] [(h0, .inr (0, [.ref lg, .ref e1, .ref e2, .ref e3, .ref rl, .int cur, .ref sh])), (rl, .inr (2, [.int lm, .ref rle, .int lz]))] ([(h0, .inr (0, [.ref lg, .ref e1, .ref e2, .ref e3, .ref rl, .int cur, .ref sh])), (rl, .inr (2, [.int lm, .ref rle, .int lz]))]) 0 0 K := by
  refine x_sti0 hlt (plainFor_of_name (by decide +kernel)) (Nat.le_of_ble_eq_true rfl) (fun g G hl hD hT Q => ?_)
  subst hl; subst hD; subst hT
  unfold wX1_isRun at h
  show X g 2 0 [(0, .ref h0), (1, .int p0)] [] [(h0, .inr (0, [.ref lg, .ref e1, .ref e2, .ref e3, .ref rl, .int cur, .ref sh])), (rl, .inr (2, [.int lm, .ref rle, .int lz]))] 0 0
  refine x_iload_n G rfl dX1_isRun_0 1 rfl ?_
  refine x_i2l G dX1_isRun_1 ?_
  refine x_lconst (v := (0 : Int64)) G dX1_isRun_2 (by decide) ?_
  refine x_aload_n G rfl dX1_isRun_3 0 rfl ?_
  refine x_get G in_X1 0 rfl rfl 4 (by decide) q163 (fun _ h => h) rfl dX1_isRun_4 ?_
  refine x_cFi0 (C := "java/util/ArrayList") (x := ⟨"java/util/List", "size", "()I"⟩) (wc := [(rl, .inr (2, [.int lm, .ref rle, .int lz]))]) (As := []) (rest := [.long (0 : Int64), .long p0.toInt64]) G [(h0, .inr (0, [.ref lg, .ref e1, .ref e2, .ref e3, .ref rl, .int cur, .ref sh]))] (XSub.of [0, 1] rfl (by decide)) (tJ2_size G.noTraces h) q190 q194 q196 q69 q198 (by decide) (show ("java/util/List" : String) ≠ "java/lang/invoke/MethodHandle" ∧ ("java/util/List" : String) ≠ "java/lang/invoke/VarHandle" ∧ (parseMethodDescriptor "()I").map (fun d => d.parameters.length) = some 0 from by decide +kernel) 2 1 rfl rfl rfl (by decide) (by decide) rfl (Nat.le_of_ble_eq_true rfl) (Nat.le_of_ble_eq_true rfl) (Nat.le_of_ble_eq_true rfl) dX1_isRun_7 (fun r_1 h => ?_)
  show X g 2 12 [(0, .ref h0), (1, .int p0)] [.int r_1, .long (0 : Int64), .long p0.toInt64] [(h0, .inr (0, [.ref lg, .ref e1, .ref e2, .ref e3, .ref rl, .int cur, .ref sh])), (rl, .inr (2, [.int lm, .ref rle, .int lz]))] 0 0
  refine x_iconst (v := (1 : Int32)) G dX1_isRun_12 (by decide) ?_
  refine x_isub G dX1_isRun_13 ?_
  refine x_i2l G dX1_isRun_14 ?_
  refine x_cPi (As := [.long p0.toInt64, .long (0 : Int64), .long (r_1 - (1 : Int32)).toInt64]) (rest := []) G (tX1_isIn G.noTraces h) (lw_S q199 q200 q65 q201) cdX1_isIn (by decide) (by decide) rfl (Nat.le_of_ble_eq_true rfl) (Nat.le_of_ble_eq_true rfl) (Nat.le_of_ble_eq_true rfl) dX1_isRun_15 (fun r_2 h => ?_)
  obtain ⟨hb, h⟩ := h
  exact x_reti0 G Q dX1_isRun_18 hb.nar  h XSub.rf (Nat.le_of_ble_eq_true rfl) (Nat.le_of_ble_eq_true rfl)
theorem cdX1_isStep : yX1_isStep.cls = RX1 ∧ yX1_isStep.cls ≠ "java/lang/invoke/MethodHandle" ∧ yX1_isStep.cls ≠ "java/lang/invoke/VarHandle" ∧ (parseMethodDescriptor yX1_isStep.desc).map (fun d => d.parameters.length) = some 2 := by decide +kernel
def wX1_isStep_N (p0 : Int32) (p1 : Int32) (lz : Int32) (K : Int32 → Prop) : Prop := (wX1_isRun p0 lz (fun (r_1 : Int32) => ((r_1 = (0 : Int32) → K (0 : Int32)) ∧ (¬ r_1 = (0 : Int32) → False))))
set_option maxRecDepth 20000 in
theorem tX1_isStep_N {l : Launch} {D : va_G} {ta : Nat → ClassId} {h0 : Nat} {lg : Nat} {e1 : Nat} {e2 : Nat} {e3 : Nat} {rl : Nat} {cur : Int32} {sh : Nat} {lm : Int32} {rle : Nat} {lz : Int32} {p0 : Int32} {p1 : Int32} {K : Int32 → Prop} (hlt : l.stackTraces = false) (h : wX1_isStep_N p0 p1 lz K) : SMi0 l D ta yX1_isStep cX1_isStep 3 FieldType.boolean 3 [.ref h0, .int p0, .int p1] [(h0, .inr (0, [.ref lg, .ref e1, .ref e2, .ref e3, .ref rl, .int cur, .ref sh])), (rl, .inr (2, [.int lm, .ref rle, .int lz]))] ([(h0, .inr (0, [.ref lg, .ref e1, .ref e2, .ref e3, .ref rl, .int cur, .ref sh])), (rl, .inr (2, [.int lm, .ref rle, .int lz]))]) 0 0 K := by
  refine x_sti0 hlt (plainFor_of_name (by decide +kernel)) (Nat.le_of_ble_eq_true rfl) (fun g G hl hD hT Q => ?_)
  subst hl; subst hD; subst hT
  unfold wX1_isStep_N at h
  show X g 3 0 [(0, .ref h0), (1, .int p0), (2, .int p1)] [] [(h0, .inr (0, [.ref lg, .ref e1, .ref e2, .ref e3, .ref rl, .int cur, .ref sh])), (rl, .inr (2, [.int lm, .ref rle, .int lz]))] 0 0
  refine x_aload_n G rfl dX1_isStep_0 0 rfl ?_
  refine x_iload_n G rfl dX1_isStep_1 1 rfl ?_
  refine x_cVi0 (wc := [(h0, .inr (0, [.ref lg, .ref e1, .ref e2, .ref e3, .ref rl, .int cur, .ref sh])), (rl, .inr (2, [.int lm, .ref rle, .int lz]))]) (As := [.int p0]) (rest := []) G [] (XSub.of [0, 1] rfl (by decide)) (tX1_isRun G.noTraces h) (lw_V q185 q187 qs0 q65 q188) cdX1_isRun 0 0 rfl rfl rfl (by decide) (by decide) rfl (Nat.le_of_ble_eq_true rfl) (Nat.le_of_ble_eq_true rfl) (Nat.le_of_ble_eq_true rfl) dX1_isStep_2 (fun r_1 h => ?_)
  show X g 3 5 [(0, .ref h0), (1, .int p0), (2, .int p1)] [.int r_1] [(h0, .inr (0, [.ref lg, .ref e1, .ref e2, .ref e3, .ref rl, .int cur, .ref sh])), (rl, .inr (2, [.int lm, .ref rle, .int lz]))] 0 0
  refine x_if_eq (tgt := 40) G dX1_isStep_5 rfl (fun c => ?_) (fun c => ?_)
  · replace h := h.1 c
    refine x_iconst (v := (0 : Int32)) G dX1_isStep_40 (by decide) ?_
    exact x_reti0 G Q dX1_isStep_41 rfl  h XSub.rf (Nat.le_of_ble_eq_true rfl) (Nat.le_of_ble_eq_true rfl)
  · replace h := h.2 c
    refine x_iload_n G rfl dX1_isStep_8 2 rfl ?_
    refine x_i2l G dX1_isStep_9 ?_
    refine x_lconst (v := (0 : Int64)) G dX1_isStep_10 (by decide) ?_
    refine x_aload_n G rfl dX1_isStep_11 0 rfl ?_
    refine x_get G in_X1 0 rfl rfl 4 (by decide) q163 (fun _ h => h) rfl dX1_isStep_12 ?_
    refine x_iload_n G rfl dX1_isStep_15 1 rfl ?_
    exact h.elim
def wX1_isStep (p0 : Int32) (p1 : Int32) (lz : Int32) (lcap : Nat) (lef : Nat → Option Nat) (t0 : Nat) (tc : Int32) (K : Int32 → Prop) : Prop := (wX1_isRun p0 lz (fun (r_1 : Int32) => ((r_1 = (0 : Int32) → K (0 : Int32)) ∧ (¬ r_1 = (0 : Int32) → (wJ2_get p0 lz lcap lef (fun (r_2 : Option Nat) => (r_2 = some t0 ∧ (wX1_isIn p1.toInt64 (0 : Int64) ((tc - (1 : Int32)).toInt64) (fun (r_3 : Int32) => ((r_3 = (0 : Int32) → K (0 : Int32)) ∧ (¬ r_3 = (0 : Int32) → K (1 : Int32))))))))))))
set_option maxRecDepth 20000 in
theorem tX1_isStep {l : Launch} {D : va_G} {ta : Nat → ClassId} {h0 : Nat} {lg : Nat} {e1 : Nat} {e2 : Nat} {e3 : Nat} {rl : Nat} {cur : Int32} {sh : Nat} {lm : Int32} {rle : Nat} {lz : Int32} {lcap : Nat} {lef : Nat → Option Nat} {t0 : Nat} {tw : Int32} {ty : Int32} {t0l : Nat} {t0r : Nat} {t0s : Nat} {tc : Int32} {tt : UInt64} {p0 : Int32} {p1 : Int32} {K : Int32 → Prop} (hlt : l.stackTraces = false) (h : wX1_isStep p0 p1 lz lcap lef t0 tc K) : SMi0 l D ta yX1_isStep cX1_isStep 3 FieldType.boolean 4 [.ref h0, .int p0, .int p1] [(h0, .inr (0, [.ref lg, .ref e1, .ref e2, .ref e3, .ref rl, .int cur, .ref sh])), (rl, .inr (2, [.int lm, .ref rle, .int lz])), (rle, .inl (ta 8, lcap, .inr (.inr (.inr (.inr lef))))), (t0, .inr (7, [.int tw, .int ty, .ref t0l, .ref t0r, .ref t0s, .int tc, .double tt]))] ([(h0, .inr (0, [.ref lg, .ref e1, .ref e2, .ref e3, .ref rl, .int cur, .ref sh])), (rl, .inr (2, [.int lm, .ref rle, .int lz])), (rle, .inl (ta 8, lcap, .inr (.inr (.inr (.inr lef))))), (t0, .inr (7, [.int tw, .int ty, .ref t0l, .ref t0r, .ref t0s, .int tc, .double tt]))]) 0 0 K := by
  refine x_sti0 hlt (plainFor_of_name (by decide +kernel)) (Nat.le_of_ble_eq_true rfl) (fun g G hl hD hT Q => ?_)
  subst hl; subst hD; subst hT
  unfold wX1_isStep at h
  show X g 3 0 [(0, .ref h0), (1, .int p0), (2, .int p1)] [] [(h0, .inr (0, [.ref lg, .ref e1, .ref e2, .ref e3, .ref rl, .int cur, .ref sh])), (rl, .inr (2, [.int lm, .ref rle, .int lz])), (rle, .inl ((xT g) 8, lcap, .inr (.inr (.inr (.inr lef))))), (t0, .inr (7, [.int tw, .int ty, .ref t0l, .ref t0r, .ref t0s, .int tc, .double tt]))] 0 0
  refine x_aload_n G rfl dX1_isStep_0 0 rfl ?_
  refine x_iload_n G rfl dX1_isStep_1 1 rfl ?_
  refine x_cVi0 (wc := [(h0, .inr (0, [.ref lg, .ref e1, .ref e2, .ref e3, .ref rl, .int cur, .ref sh])), (rl, .inr (2, [.int lm, .ref rle, .int lz]))]) (As := [.int p0]) (rest := []) G [(rle, .inl ((xT g) 8, lcap, .inr (.inr (.inr (.inr lef))))), (t0, .inr (7, [.int tw, .int ty, .ref t0l, .ref t0r, .ref t0s, .int tc, .double tt]))] (XSub.of [2, 3, 0, 1] rfl (by decide)) (tX1_isRun G.noTraces h) (lw_V q185 q187 qs0 q65 q188) cdX1_isRun 0 0 rfl rfl rfl (by decide) (by decide) rfl (Nat.le_of_ble_eq_true rfl) (Nat.le_of_ble_eq_true rfl) (Nat.le_of_ble_eq_true rfl) dX1_isStep_2 (fun r_1 h => ?_)
  show X g 3 5 [(0, .ref h0), (1, .int p0), (2, .int p1)] [.int r_1] [(rle, .inl ((xT g) 8, lcap, .inr (.inr (.inr (.inr lef))))), (t0, .inr (7, [.int tw, .int ty, .ref t0l, .ref t0r, .ref t0s, .int tc, .double tt])), (h0, .inr (0, [.ref lg, .ref e1, .ref e2, .ref e3, .ref rl, .int cur, .ref sh])), (rl, .inr (2, [.int lm, .ref rle, .int lz]))] 0 0
  refine x_if_eq (tgt := 40) G dX1_isStep_5 rfl (fun c => ?_) (fun c => ?_)
  · replace h := h.1 c
    refine x_iconst (v := (0 : Int32)) G dX1_isStep_40 (by decide) ?_
    exact x_reti0 G Q dX1_isStep_41 rfl  h (XSub.of [2, 3, 0, 1] rfl (by decide)) (Nat.le_of_ble_eq_true rfl) (Nat.le_of_ble_eq_true rfl)
  · replace h := h.2 c
    refine x_iload_n G rfl dX1_isStep_8 2 rfl ?_
    refine x_i2l G dX1_isStep_9 ?_
    refine x_lconst (v := (0 : Int64)) G dX1_isStep_10 (by decide) ?_
    refine x_aload_n G rfl dX1_isStep_11 0 rfl ?_
    refine x_get G in_X1 2 rfl rfl 4 (by decide) q163 (fun _ h => h) rfl dX1_isStep_12 ?_
    refine x_iload_n G rfl dX1_isStep_15 1 rfl ?_
    refine x_cFq0 (C := "java/util/ArrayList") (x := ⟨"java/util/List", "get", "(I)Ljava/lang/Object;"⟩) (wc := [(rl, .inr (2, [.int lm, .ref rle, .int lz])), (rle, .inl ((xT g) 8, lcap, .inr (.inr (.inr (.inr lef)))))]) (As := [.int p0]) (rest := [.long (0 : Int64), .long p1.toInt64]) G [(t0, .inr (7, [.int tw, .int ty, .ref t0l, .ref t0r, .ref t0s, .int tc, .double tt])), (h0, .inr (0, [.ref lg, .ref e1, .ref e2, .ref e3, .ref rl, .int cur, .ref sh]))] (XSub.of [1, 2, 3, 0] rfl (by decide)) (tJ2_get G.noTraces h) q203 q206 q208 q69 q210 (by decide) (show ("java/util/List" : String) ≠ "java/lang/invoke/MethodHandle" ∧ ("java/util/List" : String) ≠ "java/lang/invoke/VarHandle" ∧ (parseMethodDescriptor "(I)Ljava/lang/Object;").map (fun d => d.parameters.length) = some 1 from by decide +kernel) 2 3 rfl rfl rfl (by decide) (by decide) rfl (Nat.le_of_ble_eq_true rfl) (Nat.le_of_ble_eq_true rfl) (Nat.le_of_ble_eq_true rfl) dX1_isStep_16 (fun r_2 h => ?_)
    obtain ⟨hq, h⟩ := h
    subst hq
    show X g 3 21 [(0, .ref h0), (1, .int p0), (2, .int p1)] [.ref t0, .long (0 : Int64), .long p1.toInt64] [(t0, .inr (7, [.int tw, .int ty, .ref t0l, .ref t0r, .ref t0s, .int tc, .double tt])), (h0, .inr (0, [.ref lg, .ref e1, .ref e2, .ref e3, .ref rl, .int cur, .ref sh])), (rl, .inr (2, [.int lm, .ref rle, .int lz])), (rle, .inl ((xT g) 8, lcap, .inr (.inr (.inr (.inr lef)))))] 0 0
    refine x_castS (q := (RX8, TX8, 7)) G q221 0 rfl rfl dX1_isStep_21 ?_
    refine x_getN (host := "RoundingAuditor") G in_X8 0 rfl rfl 5 (by decide) (by decide) (fun _ h => h) rfl dX1_isStep_24 ?_
    refine x_iconst (v := (1 : Int32)) G dX1_isStep_27 (by decide) ?_
    refine x_isub G dX1_isStep_28 ?_
    refine x_i2l G dX1_isStep_29 ?_
    refine x_cPi (As := [.long p1.toInt64, .long (0 : Int64), .long (tc - (1 : Int32)).toInt64]) (rest := []) G (tX1_isIn G.noTraces h) (lw_S q199 q200 q65 q201) cdX1_isIn (by decide) (by decide) rfl (Nat.le_of_ble_eq_true rfl) (Nat.le_of_ble_eq_true rfl) (Nat.le_of_ble_eq_true rfl) dX1_isStep_30 (fun r_3 h => ?_)
    refine x_if_eq (tgt := 40) G dX1_isStep_33 rfl (fun c => ?_) (fun c => ?_)
    · replace h := h.1 c
      refine x_iconst (v := (0 : Int32)) G dX1_isStep_40 (by decide) ?_
      exact x_reti0 G Q dX1_isStep_41 rfl  h (XSub.of [1, 2, 3, 0] rfl (by decide)) (Nat.le_of_ble_eq_true rfl) (Nat.le_of_ble_eq_true rfl)
    · replace h := h.2 c
      refine x_iconst (v := (1 : Int32)) G dX1_isStep_36 (by decide) ?_
      refine x_goto (tgt := 41) G dX1_isStep_37 rfl ?_
      exact x_reti0 G Q dX1_isStep_41 rfl  h (XSub.of [1, 2, 3, 0] rfl (by decide)) (Nat.le_of_ble_eq_true rfl) (Nat.le_of_ble_eq_true rfl)
theorem cdX1_total : yX1_total.cls = RX1 ∧ yX1_total.cls ≠ "java/lang/invoke/MethodHandle" ∧ yX1_total.cls ≠ "java/lang/invoke/VarHandle" ∧ (parseMethodDescriptor yX1_total.desc).map (fun d => d.parameters.length) = some 1 := by decide +kernel
def wX1_total_N (p0 : Int32) (lz : Int32) (K : Int64 → Prop) : Prop := (wX1_isRun p0 lz (fun (r_1 : Int32) => ((r_1 = (0 : Int32) → K (-101 : Int64)) ∧ (¬ r_1 = (0 : Int32) → False))))
set_option maxRecDepth 20000 in
theorem tX1_total_N {l : Launch} {D : va_G} {ta : Nat → ClassId} {h0 : Nat} {lg : Nat} {e1 : Nat} {e2 : Nat} {e3 : Nat} {rl : Nat} {cur : Int32} {sh : Nat} {lm : Int32} {rle : Nat} {lz : Int32} {p0 : Int32} {K : Int64 → Prop} (hlt : l.stackTraces = false) (h : wX1_total_N p0 lz K) : SMl0 l D ta yX1_total cX1_total 2 FieldType.long 4 [.ref h0, .int p0] [(h0, .inr (0, [.ref lg, .ref e1, .ref e2, .ref e3, .ref rl, .int cur, .ref sh])), (rl, .inr (2, [.int lm, .ref rle, .int lz]))] ([(h0, .inr (0, [.ref lg, .ref e1, .ref e2, .ref e3, .ref rl, .int cur, .ref sh])), (rl, .inr (2, [.int lm, .ref rle, .int lz]))]) 0 0 K := by
  refine x_stl0 hlt (plainFor_of_name (by decide +kernel)) (Nat.le_of_ble_eq_true rfl) (fun g G hl hD hT Q => ?_)
  subst hl; subst hD; subst hT
  unfold wX1_total_N at h
  show X g 2 0 [(0, .ref h0), (1, .int p0)] [] [(h0, .inr (0, [.ref lg, .ref e1, .ref e2, .ref e3, .ref rl, .int cur, .ref sh])), (rl, .inr (2, [.int lm, .ref rle, .int lz]))] 0 0
  refine x_aload_n G rfl dX1_total_0 0 rfl ?_
  refine x_iload_n G rfl dX1_total_1 1 rfl ?_
  refine x_cVi0 (wc := [(h0, .inr (0, [.ref lg, .ref e1, .ref e2, .ref e3, .ref rl, .int cur, .ref sh])), (rl, .inr (2, [.int lm, .ref rle, .int lz]))]) (As := [.int p0]) (rest := []) G [] (XSub.of [0, 1] rfl (by decide)) (tX1_isRun G.noTraces h) (lw_V q185 q187 qs0 q65 q188) cdX1_isRun 0 0 rfl rfl rfl (by decide) (by decide) rfl (Nat.le_of_ble_eq_true rfl) (Nat.le_of_ble_eq_true rfl) (Nat.le_of_ble_eq_true rfl) dX1_total_2 (fun r_1 h => ?_)
  show X g 2 5 [(0, .ref h0), (1, .int p0)] [.int r_1] [(h0, .inr (0, [.ref lg, .ref e1, .ref e2, .ref e3, .ref rl, .int cur, .ref sh])), (rl, .inr (2, [.int lm, .ref rle, .int lz]))] 0 0
  refine x_if_eq (tgt := 43) G dX1_total_5 rfl (fun c => ?_) (fun c => ?_)
  · replace h := h.1 c
    refine x_ldc2 G q246 dX1_total_43 ?_
    exact x_retl0 G Q dX1_total_46  h XSub.rf (Nat.le_of_ble_eq_true rfl) (Nat.le_of_ble_eq_true rfl)
  · replace h := h.2 c
    refine x_aload_n G rfl dX1_total_8 0 rfl ?_
    refine x_get G in_X1 0 rfl rfl 4 (by decide) q163 (fun _ h => h) rfl dX1_total_9 ?_
    refine x_iload_n G rfl dX1_total_12 1 rfl ?_
    exact h.elim
def wX1_total (p0 : Int32) (lz : Int32) (lcap : Nat) (lef : Nat → Option Nat) (t0 : Nat) (tw : Int32) (tt : UInt64) (K : Int64 → Prop) : Prop := (wX1_isRun p0 lz (fun (r_1 : Int32) => ((r_1 = (0 : Int32) → K (-101 : Int64)) ∧ (¬ r_1 = (0 : Int32) → (wJ2_get p0 lz lcap lef (fun (r_2 : Option Nat) => (r_2 = some t0 ∧ (wJ2_get p0 lz lcap lef (fun (r_3 : Option Nat) => (r_3 = some t0 ∧ (wX8_bits tt tw (fun (r_4 : Int64) => K r_4))))))))))))
set_option maxRecDepth 20000 in
theorem tX1_total {l : Launch} {D : va_G} {ta : Nat → ClassId} {h0 : Nat} {lg : Nat} {e1 : Nat} {e2 : Nat} {e3 : Nat} {rl : Nat} {cur : Int32} {sh : Nat} {lm : Int32} {rle : Nat} {lz : Int32} {lcap : Nat} {lef : Nat → Option Nat} {t0 : Nat} {tw : Int32} {ty : Int32} {t0l : Nat} {t0r : Nat} {t0s : Nat} {tc : Int32} {tt : UInt64} {p0 : Int32} {K : Int64 → Prop} (hlt : l.stackTraces = false) (h : wX1_total p0 lz lcap lef t0 tw tt K) : SMl0 l D ta yX1_total cX1_total 2 FieldType.long 4 [.ref h0, .int p0] [(h0, .inr (0, [.ref lg, .ref e1, .ref e2, .ref e3, .ref rl, .int cur, .ref sh])), (rl, .inr (2, [.int lm, .ref rle, .int lz])), (rle, .inl (ta 8, lcap, .inr (.inr (.inr (.inr lef))))), (t0, .inr (7, [.int tw, .int ty, .ref t0l, .ref t0r, .ref t0s, .int tc, .double tt]))] ([(h0, .inr (0, [.ref lg, .ref e1, .ref e2, .ref e3, .ref rl, .int cur, .ref sh])), (rl, .inr (2, [.int lm, .ref rle, .int lz])), (rle, .inl (ta 8, lcap, .inr (.inr (.inr (.inr lef))))), (t0, .inr (7, [.int tw, .int ty, .ref t0l, .ref t0r, .ref t0s, .int tc, .double tt]))]) 0 0 K := by
  refine x_stl0 hlt (plainFor_of_name (by decide +kernel)) (Nat.le_of_ble_eq_true rfl) (fun g G hl hD hT Q => ?_)
  subst hl; subst hD; subst hT
  unfold wX1_total at h
  show X g 2 0 [(0, .ref h0), (1, .int p0)] [] [(h0, .inr (0, [.ref lg, .ref e1, .ref e2, .ref e3, .ref rl, .int cur, .ref sh])), (rl, .inr (2, [.int lm, .ref rle, .int lz])), (rle, .inl ((xT g) 8, lcap, .inr (.inr (.inr (.inr lef))))), (t0, .inr (7, [.int tw, .int ty, .ref t0l, .ref t0r, .ref t0s, .int tc, .double tt]))] 0 0
  refine x_aload_n G rfl dX1_total_0 0 rfl ?_
  refine x_iload_n G rfl dX1_total_1 1 rfl ?_
  refine x_cVi0 (wc := [(h0, .inr (0, [.ref lg, .ref e1, .ref e2, .ref e3, .ref rl, .int cur, .ref sh])), (rl, .inr (2, [.int lm, .ref rle, .int lz]))]) (As := [.int p0]) (rest := []) G [(rle, .inl ((xT g) 8, lcap, .inr (.inr (.inr (.inr lef))))), (t0, .inr (7, [.int tw, .int ty, .ref t0l, .ref t0r, .ref t0s, .int tc, .double tt]))] (XSub.of [2, 3, 0, 1] rfl (by decide)) (tX1_isRun G.noTraces h) (lw_V q185 q187 qs0 q65 q188) cdX1_isRun 0 0 rfl rfl rfl (by decide) (by decide) rfl (Nat.le_of_ble_eq_true rfl) (Nat.le_of_ble_eq_true rfl) (Nat.le_of_ble_eq_true rfl) dX1_total_2 (fun r_1 h => ?_)
  show X g 2 5 [(0, .ref h0), (1, .int p0)] [.int r_1] [(rle, .inl ((xT g) 8, lcap, .inr (.inr (.inr (.inr lef))))), (t0, .inr (7, [.int tw, .int ty, .ref t0l, .ref t0r, .ref t0s, .int tc, .double tt])), (h0, .inr (0, [.ref lg, .ref e1, .ref e2, .ref e3, .ref rl, .int cur, .ref sh])), (rl, .inr (2, [.int lm, .ref rle, .int lz]))] 0 0
  refine x_if_eq (tgt := 43) G dX1_total_5 rfl (fun c => ?_) (fun c => ?_)
  · replace h := h.1 c
    refine x_ldc2 G q246 dX1_total_43 ?_
    exact x_retl0 G Q dX1_total_46  h (XSub.of [2, 3, 0, 1] rfl (by decide)) (Nat.le_of_ble_eq_true rfl) (Nat.le_of_ble_eq_true rfl)
  · replace h := h.2 c
    refine x_aload_n G rfl dX1_total_8 0 rfl ?_
    refine x_get G in_X1 2 rfl rfl 4 (by decide) q163 (fun _ h => h) rfl dX1_total_9 ?_
    refine x_iload_n G rfl dX1_total_12 1 rfl ?_
    refine x_cFq0 (C := "java/util/ArrayList") (x := ⟨"java/util/List", "get", "(I)Ljava/lang/Object;"⟩) (wc := [(rl, .inr (2, [.int lm, .ref rle, .int lz])), (rle, .inl ((xT g) 8, lcap, .inr (.inr (.inr (.inr lef)))))]) (As := [.int p0]) (rest := []) G [(t0, .inr (7, [.int tw, .int ty, .ref t0l, .ref t0r, .ref t0s, .int tc, .double tt])), (h0, .inr (0, [.ref lg, .ref e1, .ref e2, .ref e3, .ref rl, .int cur, .ref sh]))] (XSub.of [1, 2, 3, 0] rfl (by decide)) (tJ2_get G.noTraces h) q203 q206 q208 q69 q210 (by decide) (show ("java/util/List" : String) ≠ "java/lang/invoke/MethodHandle" ∧ ("java/util/List" : String) ≠ "java/lang/invoke/VarHandle" ∧ (parseMethodDescriptor "(I)Ljava/lang/Object;").map (fun d => d.parameters.length) = some 1 from by decide +kernel) 2 3 rfl rfl rfl (by decide) (by decide) rfl (Nat.le_of_ble_eq_true rfl) (Nat.le_of_ble_eq_true rfl) (Nat.le_of_ble_eq_true rfl) dX1_total_13 (fun r_2 h => ?_)
    obtain ⟨hq, h⟩ := h
    subst hq
    show X g 2 18 [(0, .ref h0), (1, .int p0)] [.ref t0] [(t0, .inr (7, [.int tw, .int ty, .ref t0l, .ref t0r, .ref t0s, .int tc, .double tt])), (h0, .inr (0, [.ref lg, .ref e1, .ref e2, .ref e3, .ref rl, .int cur, .ref sh])), (rl, .inr (2, [.int lm, .ref rle, .int lz])), (rle, .inl ((xT g) 8, lcap, .inr (.inr (.inr (.inr lef)))))] 0 0
    refine x_castS (q := (RX8, TX8, 7)) G q221 0 rfl rfl dX1_total_18 ?_
    refine x_aload_n G rfl dX1_total_21 0 rfl ?_
    refine x_get G in_X1 1 rfl rfl 4 (by decide) q163 (fun _ h => h) rfl dX1_total_22 ?_
    refine x_iload_n G rfl dX1_total_25 1 rfl ?_
    refine x_cFq0 (C := "java/util/ArrayList") (x := ⟨"java/util/List", "get", "(I)Ljava/lang/Object;"⟩) (wc := [(rl, .inr (2, [.int lm, .ref rle, .int lz])), (rle, .inl ((xT g) 8, lcap, .inr (.inr (.inr (.inr lef)))))]) (As := [.int p0]) (rest := [.ref t0]) G [(t0, .inr (7, [.int tw, .int ty, .ref t0l, .ref t0r, .ref t0s, .int tc, .double tt])), (h0, .inr (0, [.ref lg, .ref e1, .ref e2, .ref e3, .ref rl, .int cur, .ref sh]))] (XSub.of [0, 1, 2, 3] rfl (by decide)) (tJ2_get G.noTraces h) q203 q206 q208 q69 q210 (by decide) (show ("java/util/List" : String) ≠ "java/lang/invoke/MethodHandle" ∧ ("java/util/List" : String) ≠ "java/lang/invoke/VarHandle" ∧ (parseMethodDescriptor "(I)Ljava/lang/Object;").map (fun d => d.parameters.length) = some 1 from by decide +kernel) 2 2 rfl rfl rfl (by decide) (by decide) rfl (Nat.le_of_ble_eq_true rfl) (Nat.le_of_ble_eq_true rfl) (Nat.le_of_ble_eq_true rfl) dX1_total_26 (fun r_3 h => ?_)
    obtain ⟨hq, h⟩ := h
    subst hq
    show X g 2 31 [(0, .ref h0), (1, .int p0)] [.ref t0, .ref t0] [(t0, .inr (7, [.int tw, .int ty, .ref t0l, .ref t0r, .ref t0s, .int tc, .double tt])), (h0, .inr (0, [.ref lg, .ref e1, .ref e2, .ref e3, .ref rl, .int cur, .ref sh])), (rl, .inr (2, [.int lm, .ref rle, .int lz])), (rle, .inl ((xT g) 8, lcap, .inr (.inr (.inr (.inr lef)))))] 0 0
    refine x_castS (q := (RX8, TX8, 7)) G q221 0 rfl rfl dX1_total_31 ?_
    refine x_getN (host := "RoundingAuditor") G in_X8 0 rfl rfl 6 (by decide) (by decide) (fun _ h => h) rfl dX1_total_34 ?_
    refine x_cVl0 (wc := [(t0, .inr (7, [.int tw, .int ty, .ref t0l, .ref t0r, .ref t0s, .int tc, .double tt]))]) (As := [.double tt]) (rest := []) G [(h0, .inr (0, [.ref lg, .ref e1, .ref e2, .ref e3, .ref rl, .int cur, .ref sh])), (rl, .inr (2, [.int lm, .ref rle, .int lz])), (rle, .inl ((xT g) 8, lcap, .inr (.inr (.inr (.inr lef)))))] (XSub.of [1, 2, 3, 0] rfl (by decide)) (tX8_bits G.noTraces h) (lw_V q222 q223 q224 q89 q225) cdX8_bits 7 0 rfl rfl rfl (by decide) (by decide) rfl (Nat.le_of_ble_eq_true rfl) (Nat.le_of_ble_eq_true rfl) (Nat.le_of_ble_eq_true rfl) dX1_total_37 (fun r_4 h => ?_)
    show X g 2 40 [(0, .ref h0), (1, .int p0)] [.long r_4] [(h0, .inr (0, [.ref lg, .ref e1, .ref e2, .ref e3, .ref rl, .int cur, .ref sh])), (rl, .inr (2, [.int lm, .ref rle, .int lz])), (rle, .inl ((xT g) 8, lcap, .inr (.inr (.inr (.inr lef))))), (t0, .inr (7, [.int tw, .int ty, .ref t0l, .ref t0r, .ref t0s, .int tc, .double tt]))] 0 0
    refine x_goto (tgt := 46) G dX1_total_40 rfl ?_
    exact x_retl0 G Q dX1_total_46  h XSub.rf (Nat.le_of_ble_eq_true rfl) (Nat.le_of_ble_eq_true rfl)
theorem cdX1_steps : yX1_steps.cls = RX1 ∧ yX1_steps.cls ≠ "java/lang/invoke/MethodHandle" ∧ yX1_steps.cls ≠ "java/lang/invoke/VarHandle" ∧ (parseMethodDescriptor yX1_steps.desc).map (fun d => d.parameters.length) = some 1 := by decide +kernel
def wX1_steps_N (p0 : Int32) (lz : Int32) (K : Int32 → Prop) : Prop := (wX1_isRun p0 lz (fun (r_1 : Int32) => ((r_1 = (0 : Int32) → K (-101 : Int32)) ∧ (¬ r_1 = (0 : Int32) → False))))
set_option maxRecDepth 20000 in
theorem tX1_steps_N {l : Launch} {D : va_G} {ta : Nat → ClassId} {h0 : Nat} {lg : Nat} {e1 : Nat} {e2 : Nat} {e3 : Nat} {rl : Nat} {cur : Int32} {sh : Nat} {lm : Int32} {rle : Nat} {lz : Int32} {p0 : Int32} {K : Int32 → Prop} (hlt : l.stackTraces = false) (h : wX1_steps_N p0 lz K) : SMi0 l D ta yX1_steps cX1_steps 2 FieldType.int 3 [.ref h0, .int p0] [(h0, .inr (0, [.ref lg, .ref e1, .ref e2, .ref e3, .ref rl, .int cur, .ref sh])), (rl, .inr (2, [.int lm, .ref rle, .int lz]))] ([(h0, .inr (0, [.ref lg, .ref e1, .ref e2, .ref e3, .ref rl, .int cur, .ref sh])), (rl, .inr (2, [.int lm, .ref rle, .int lz]))]) 0 0 K := by
  refine x_sti0 hlt (plainFor_of_name (by decide +kernel)) (Nat.le_of_ble_eq_true rfl) (fun g G hl hD hT Q => ?_)
  subst hl; subst hD; subst hT
  unfold wX1_steps_N at h
  show X g 2 0 [(0, .ref h0), (1, .int p0)] [] [(h0, .inr (0, [.ref lg, .ref e1, .ref e2, .ref e3, .ref rl, .int cur, .ref sh])), (rl, .inr (2, [.int lm, .ref rle, .int lz]))] 0 0
  refine x_aload_n G rfl dX1_steps_0 0 rfl ?_
  refine x_iload_n G rfl dX1_steps_1 1 rfl ?_
  refine x_cVi0 (wc := [(h0, .inr (0, [.ref lg, .ref e1, .ref e2, .ref e3, .ref rl, .int cur, .ref sh])), (rl, .inr (2, [.int lm, .ref rle, .int lz]))]) (As := [.int p0]) (rest := []) G [] (XSub.of [0, 1] rfl (by decide)) (tX1_isRun G.noTraces h) (lw_V q185 q187 qs0 q65 q188) cdX1_isRun 0 0 rfl rfl rfl (by decide) (by decide) rfl (Nat.le_of_ble_eq_true rfl) (Nat.le_of_ble_eq_true rfl) (Nat.le_of_ble_eq_true rfl) dX1_steps_2 (fun r_1 h => ?_)
  show X g 2 5 [(0, .ref h0), (1, .int p0)] [.int r_1] [(h0, .inr (0, [.ref lg, .ref e1, .ref e2, .ref e3, .ref rl, .int cur, .ref sh])), (rl, .inr (2, [.int lm, .ref rle, .int lz]))] 0 0
  refine x_if_eq (tgt := 27) G dX1_steps_5 rfl (fun c => ?_) (fun c => ?_)
  · replace h := h.1 c
    refine x_bipush (v := (-101 : Int32)) G dX1_steps_27 (by decide) ?_
    exact x_reti0 G Q dX1_steps_29 rfl  h XSub.rf (Nat.le_of_ble_eq_true rfl) (Nat.le_of_ble_eq_true rfl)
  · replace h := h.2 c
    refine x_aload_n G rfl dX1_steps_8 0 rfl ?_
    refine x_get G in_X1 0 rfl rfl 4 (by decide) q163 (fun _ h => h) rfl dX1_steps_9 ?_
    refine x_iload_n G rfl dX1_steps_12 1 rfl ?_
    exact h.elim
def wX1_steps (p0 : Int32) (lz : Int32) (lcap : Nat) (lef : Nat → Option Nat) (t0 : Nat) (tc : Int32) (K : Int32 → Prop) : Prop := (wX1_isRun p0 lz (fun (r_1 : Int32) => ((r_1 = (0 : Int32) → K (-101 : Int32)) ∧ (¬ r_1 = (0 : Int32) → (wJ2_get p0 lz lcap lef (fun (r_2 : Option Nat) => (r_2 = some t0 ∧ K tc)))))))
set_option maxRecDepth 20000 in
theorem tX1_steps {l : Launch} {D : va_G} {ta : Nat → ClassId} {h0 : Nat} {lg : Nat} {e1 : Nat} {e2 : Nat} {e3 : Nat} {rl : Nat} {cur : Int32} {sh : Nat} {lm : Int32} {rle : Nat} {lz : Int32} {lcap : Nat} {lef : Nat → Option Nat} {t0 : Nat} {tw : Int32} {ty : Int32} {t0l : Nat} {t0r : Nat} {t0s : Nat} {tc : Int32} {tt : UInt64} {p0 : Int32} {K : Int32 → Prop} (hlt : l.stackTraces = false) (h : wX1_steps p0 lz lcap lef t0 tc K) : SMi0 l D ta yX1_steps cX1_steps 2 FieldType.int 4 [.ref h0, .int p0] [(h0, .inr (0, [.ref lg, .ref e1, .ref e2, .ref e3, .ref rl, .int cur, .ref sh])), (rl, .inr (2, [.int lm, .ref rle, .int lz])), (rle, .inl (ta 8, lcap, .inr (.inr (.inr (.inr lef))))), (t0, .inr (7, [.int tw, .int ty, .ref t0l, .ref t0r, .ref t0s, .int tc, .double tt]))] ([(h0, .inr (0, [.ref lg, .ref e1, .ref e2, .ref e3, .ref rl, .int cur, .ref sh])), (rl, .inr (2, [.int lm, .ref rle, .int lz])), (rle, .inl (ta 8, lcap, .inr (.inr (.inr (.inr lef))))), (t0, .inr (7, [.int tw, .int ty, .ref t0l, .ref t0r, .ref t0s, .int tc, .double tt]))]) 0 0 K := by
  refine x_sti0 hlt (plainFor_of_name (by decide +kernel)) (Nat.le_of_ble_eq_true rfl) (fun g G hl hD hT Q => ?_)
  subst hl; subst hD; subst hT
  unfold wX1_steps at h
  show X g 2 0 [(0, .ref h0), (1, .int p0)] [] [(h0, .inr (0, [.ref lg, .ref e1, .ref e2, .ref e3, .ref rl, .int cur, .ref sh])), (rl, .inr (2, [.int lm, .ref rle, .int lz])), (rle, .inl ((xT g) 8, lcap, .inr (.inr (.inr (.inr lef))))), (t0, .inr (7, [.int tw, .int ty, .ref t0l, .ref t0r, .ref t0s, .int tc, .double tt]))] 0 0
  refine x_aload_n G rfl dX1_steps_0 0 rfl ?_
  refine x_iload_n G rfl dX1_steps_1 1 rfl ?_
  refine x_cVi0 (wc := [(h0, .inr (0, [.ref lg, .ref e1, .ref e2, .ref e3, .ref rl, .int cur, .ref sh])), (rl, .inr (2, [.int lm, .ref rle, .int lz]))]) (As := [.int p0]) (rest := []) G [(rle, .inl ((xT g) 8, lcap, .inr (.inr (.inr (.inr lef))))), (t0, .inr (7, [.int tw, .int ty, .ref t0l, .ref t0r, .ref t0s, .int tc, .double tt]))] (XSub.of [2, 3, 0, 1] rfl (by decide)) (tX1_isRun G.noTraces h) (lw_V q185 q187 qs0 q65 q188) cdX1_isRun 0 0 rfl rfl rfl (by decide) (by decide) rfl (Nat.le_of_ble_eq_true rfl) (Nat.le_of_ble_eq_true rfl) (Nat.le_of_ble_eq_true rfl) dX1_steps_2 (fun r_1 h => ?_)
  show X g 2 5 [(0, .ref h0), (1, .int p0)] [.int r_1] [(rle, .inl ((xT g) 8, lcap, .inr (.inr (.inr (.inr lef))))), (t0, .inr (7, [.int tw, .int ty, .ref t0l, .ref t0r, .ref t0s, .int tc, .double tt])), (h0, .inr (0, [.ref lg, .ref e1, .ref e2, .ref e3, .ref rl, .int cur, .ref sh])), (rl, .inr (2, [.int lm, .ref rle, .int lz]))] 0 0
  refine x_if_eq (tgt := 27) G dX1_steps_5 rfl (fun c => ?_) (fun c => ?_)
  · replace h := h.1 c
    refine x_bipush (v := (-101 : Int32)) G dX1_steps_27 (by decide) ?_
    exact x_reti0 G Q dX1_steps_29 rfl  h (XSub.of [2, 3, 0, 1] rfl (by decide)) (Nat.le_of_ble_eq_true rfl) (Nat.le_of_ble_eq_true rfl)
  · replace h := h.2 c
    refine x_aload_n G rfl dX1_steps_8 0 rfl ?_
    refine x_get G in_X1 2 rfl rfl 4 (by decide) q163 (fun _ h => h) rfl dX1_steps_9 ?_
    refine x_iload_n G rfl dX1_steps_12 1 rfl ?_
    refine x_cFq0 (C := "java/util/ArrayList") (x := ⟨"java/util/List", "get", "(I)Ljava/lang/Object;"⟩) (wc := [(rl, .inr (2, [.int lm, .ref rle, .int lz])), (rle, .inl ((xT g) 8, lcap, .inr (.inr (.inr (.inr lef)))))]) (As := [.int p0]) (rest := []) G [(t0, .inr (7, [.int tw, .int ty, .ref t0l, .ref t0r, .ref t0s, .int tc, .double tt])), (h0, .inr (0, [.ref lg, .ref e1, .ref e2, .ref e3, .ref rl, .int cur, .ref sh]))] (XSub.of [1, 2, 3, 0] rfl (by decide)) (tJ2_get G.noTraces h) q203 q206 q208 q69 q210 (by decide) (show ("java/util/List" : String) ≠ "java/lang/invoke/MethodHandle" ∧ ("java/util/List" : String) ≠ "java/lang/invoke/VarHandle" ∧ (parseMethodDescriptor "(I)Ljava/lang/Object;").map (fun d => d.parameters.length) = some 1 from by decide +kernel) 2 3 rfl rfl rfl (by decide) (by decide) rfl (Nat.le_of_ble_eq_true rfl) (Nat.le_of_ble_eq_true rfl) (Nat.le_of_ble_eq_true rfl) dX1_steps_13 (fun r_2 h => ?_)
    obtain ⟨hq, h⟩ := h
    subst hq
    show X g 2 18 [(0, .ref h0), (1, .int p0)] [.ref t0] [(t0, .inr (7, [.int tw, .int ty, .ref t0l, .ref t0r, .ref t0s, .int tc, .double tt])), (h0, .inr (0, [.ref lg, .ref e1, .ref e2, .ref e3, .ref rl, .int cur, .ref sh])), (rl, .inr (2, [.int lm, .ref rle, .int lz])), (rle, .inl ((xT g) 8, lcap, .inr (.inr (.inr (.inr lef)))))] 0 0
    refine x_castS (q := (RX8, TX8, 7)) G q221 0 rfl rfl dX1_steps_18 ?_
    refine x_getN (host := "RoundingAuditor") G in_X8 0 rfl rfl 5 (by decide) (by decide) (fun _ h => h) rfl dX1_steps_21 ?_
    refine x_goto (tgt := 29) G dX1_steps_24 rfl ?_
    exact x_reti0 G Q dX1_steps_29 rfl  h (XSub.of [1, 2, 3, 0] rfl (by decide)) (Nat.le_of_ble_eq_true rfl) (Nat.le_of_ble_eq_true rfl)
theorem cdX1_lose : yX1_lose.cls = RX1 ∧ yX1_lose.cls ≠ "java/lang/invoke/MethodHandle" ∧ yX1_lose.cls ≠ "java/lang/invoke/VarHandle" ∧ (parseMethodDescriptor yX1_lose.desc).map (fun d => d.parameters.length) = some 3 := by decide +kernel
def wX1_lose (p2 : Int32) (w : Nat → Int32) (tn : Nat) (tl : Nat → UInt64) (tr : Nat → UInt64) (ts : Nat → UInt64) (K : (Nat → Int32) → Prop) : Prop := (wX2_clear w (fun (w_1 : Nat → Int32) => (vp_in p2 tn ∧ (wX2_add (tl p2.toNatClampNeg) (0 : Int32) w_1 (fun (w_2 : Nat → Int32) => (vp_in p2 tn ∧ (wX2_add (tr p2.toNatClampNeg) (0 : Int32) w_2 (fun (w_3 : Nat → Int32) => (vp_in p2 tn ∧ (wX2_add (ts p2.toNatClampNeg) (1 : Int32) w_3 (fun (w_4 : Nat → Int32) => K w_4)))))))))))
set_option maxRecDepth 20000 in
theorem tX1_lose {l : Launch} {D : va_G} {ta : Nat → ClassId} {q0 : Nat} {q0w : Nat} {w : Nat → Int32} {q1 : Nat} {tw : Int32} {ty : Int32} {q1l : Nat} {q1r : Nat} {q1s : Nat} {tc : Int32} {tt : UInt64} {tn : Nat} {tl : Nat → UInt64} {tr : Nat → UInt64} {ts : Nat → UInt64} {h0 : Nat} {p2 : Int32} {K : (Nat → Int32) → Prop} (hlt : l.stackTraces = false) (h : wX1_lose p2 w tn tl tr ts K) : SMv1 l D ta yX1_lose cX1_lose 4 4 [.ref h0, .ref q0, .ref q1, .int p2] [(q0, .inr (1, [.ref q0w])), (q0w, .inl (ta 2, 40, .inl w)), (q1, .inr (7, [.int tw, .int ty, .ref q1l, .ref q1r, .ref q1s, .int tc, .double tt])), (q1l, .inl (ta 5, tn, .inr (.inr (.inr (.inl tl))))), (q1r, .inl (ta 5, tn, .inr (.inr (.inr (.inl tr))))), (q1s, .inl (ta 5, tn, .inr (.inr (.inr (.inl ts)))))] (fun (w' : Nat → Int32) => [(q0, .inr (1, [.ref q0w])), (q0w, .inl (ta 2, 40, .inl w')), (q1, .inr (7, [.int tw, .int ty, .ref q1l, .ref q1r, .ref q1s, .int tc, .double tt])), (q1l, .inl (ta 5, tn, .inr (.inr (.inr (.inl tl))))), (q1r, .inl (ta 5, tn, .inr (.inr (.inr (.inl tr))))), (q1s, .inl (ta 5, tn, .inr (.inr (.inr (.inl ts)))))]) 0 0 K := by
  refine x_stv1 hlt (plainFor_of_name (by decide +kernel)) (Nat.le_of_ble_eq_true rfl) (fun g G hl hD hT Q => ?_)
  subst hl; subst hD; subst hT
  unfold wX1_lose at h
  show X g 4 0 [(0, .ref h0), (1, .ref q0), (2, .ref q1), (3, .int p2)] [] [(q0, .inr (1, [.ref q0w])), (q0w, .inl ((xT g) 2, 40, .inl w)), (q1, .inr (7, [.int tw, .int ty, .ref q1l, .ref q1r, .ref q1s, .int tc, .double tt])), (q1l, .inl ((xT g) 5, tn, .inr (.inr (.inr (.inl tl))))), (q1r, .inl ((xT g) 5, tn, .inr (.inr (.inr (.inl tr))))), (q1s, .inl ((xT g) 5, tn, .inr (.inr (.inr (.inl ts)))))] 0 0
  refine x_aload_n G rfl dX1_lose_0 1 rfl ?_
  refine x_cVv1 (wc := [(q0, .inr (1, [.ref q0w])), (q0w, .inl ((xT g) 2, 40, .inl w))]) (As := []) (rest := []) G [(q1, .inr (7, [.int tw, .int ty, .ref q1l, .ref q1r, .ref q1s, .int tc, .double tt])), (q1l, .inl ((xT g) 5, tn, .inr (.inr (.inr (.inl tl))))), (q1r, .inl ((xT g) 5, tn, .inr (.inr (.inr (.inl tr))))), (q1s, .inl ((xT g) 5, tn, .inr (.inr (.inr (.inl ts)))))] (XSub.of [2, 3, 4, 5, 0, 1] rfl (by decide)) (tX2_clear G.noTraces h) (lw_V q265 q266 q267 q66 q268) cdX2_clear 1 0 rfl rfl rfl (by decide) (by decide) rfl (Nat.le_of_ble_eq_true rfl) (Nat.le_of_ble_eq_true rfl) (Nat.le_of_ble_eq_true rfl) dX1_lose_1 (fun w_1 h => ?_)
  show X g 4 4 [(0, .ref h0), (1, .ref q0), (2, .ref q1), (3, .int p2)] [] [(q1, .inr (7, [.int tw, .int ty, .ref q1l, .ref q1r, .ref q1s, .int tc, .double tt])), (q1l, .inl ((xT g) 5, tn, .inr (.inr (.inr (.inl tl))))), (q1r, .inl ((xT g) 5, tn, .inr (.inr (.inr (.inl tr))))), (q1s, .inl ((xT g) 5, tn, .inr (.inr (.inr (.inl ts))))), (q0, .inr (1, [.ref q0w])), (q0w, .inl ((xT g) 2, 40, .inl w_1))] 0 0
  refine x_aload_n G rfl dX1_lose_4 1 rfl ?_
  refine x_aload_n G rfl dX1_lose_5 2 rfl ?_
  refine x_getN (host := "RoundingAuditor") G in_X8 0 rfl rfl 2 (by decide) (by decide) (fun _ h => h) rfl dX1_lose_6 ?_
  refine x_iload_n G rfl dX1_lose_9 3 rfl ?_
  obtain ⟨hz, h⟩ := h
  refine x_dald G 1 rfl hz dX1_lose_10 ?_
  refine x_iconst (v := (0 : Int32)) G dX1_lose_11 (by decide) ?_
  refine x_cVv1 (wc := [(q0, .inr (1, [.ref q0w])), (q0w, .inl ((xT g) 2, 40, .inl w_1))]) (As := [.double (tl p2.toNatClampNeg), .int (0 : Int32)]) (rest := []) G [(q1, .inr (7, [.int tw, .int ty, .ref q1l, .ref q1r, .ref q1s, .int tc, .double tt])), (q1l, .inl ((xT g) 5, tn, .inr (.inr (.inr (.inl tl))))), (q1r, .inl ((xT g) 5, tn, .inr (.inr (.inr (.inl tr))))), (q1s, .inl ((xT g) 5, tn, .inr (.inr (.inr (.inl ts)))))] (XSub.of [0, 1, 2, 3, 4, 5] rfl (by decide)) (tX2_add G.noTraces h) (lw_V q269 q270 q271 q66 q272) cdX2_add 1 4 rfl rfl rfl (by decide) (by decide) rfl (Nat.le_of_ble_eq_true rfl) (Nat.le_of_ble_eq_true rfl) (Nat.le_of_ble_eq_true rfl) dX1_lose_12 (fun w_2 h => ?_)
  show X g 4 15 [(0, .ref h0), (1, .ref q0), (2, .ref q1), (3, .int p2)] [] [(q1, .inr (7, [.int tw, .int ty, .ref q1l, .ref q1r, .ref q1s, .int tc, .double tt])), (q1l, .inl ((xT g) 5, tn, .inr (.inr (.inr (.inl tl))))), (q1r, .inl ((xT g) 5, tn, .inr (.inr (.inr (.inl tr))))), (q1s, .inl ((xT g) 5, tn, .inr (.inr (.inr (.inl ts))))), (q0, .inr (1, [.ref q0w])), (q0w, .inl ((xT g) 2, 40, .inl w_2))] 0 0
  refine x_aload_n G rfl dX1_lose_15 1 rfl ?_
  refine x_aload_n G rfl dX1_lose_16 2 rfl ?_
  refine x_getN (host := "RoundingAuditor") G in_X8 0 rfl rfl 3 (by decide) (by decide) (fun _ h => h) rfl dX1_lose_17 ?_
  refine x_iload_n G rfl dX1_lose_20 3 rfl ?_
  obtain ⟨hz, h⟩ := h
  refine x_dald G 2 rfl hz dX1_lose_21 ?_
  refine x_iconst (v := (0 : Int32)) G dX1_lose_22 (by decide) ?_
  refine x_cVv1 (wc := [(q0, .inr (1, [.ref q0w])), (q0w, .inl ((xT g) 2, 40, .inl w_2))]) (As := [.double (tr p2.toNatClampNeg), .int (0 : Int32)]) (rest := []) G [(q1, .inr (7, [.int tw, .int ty, .ref q1l, .ref q1r, .ref q1s, .int tc, .double tt])), (q1l, .inl ((xT g) 5, tn, .inr (.inr (.inr (.inl tl))))), (q1r, .inl ((xT g) 5, tn, .inr (.inr (.inr (.inl tr))))), (q1s, .inl ((xT g) 5, tn, .inr (.inr (.inr (.inl ts)))))] (XSub.of [0, 1, 2, 3, 4, 5] rfl (by decide)) (tX2_add G.noTraces h) (lw_V q269 q270 q271 q66 q272) cdX2_add 1 4 rfl rfl rfl (by decide) (by decide) rfl (Nat.le_of_ble_eq_true rfl) (Nat.le_of_ble_eq_true rfl) (Nat.le_of_ble_eq_true rfl) dX1_lose_23 (fun w_3 h => ?_)
  show X g 4 26 [(0, .ref h0), (1, .ref q0), (2, .ref q1), (3, .int p2)] [] [(q1, .inr (7, [.int tw, .int ty, .ref q1l, .ref q1r, .ref q1s, .int tc, .double tt])), (q1l, .inl ((xT g) 5, tn, .inr (.inr (.inr (.inl tl))))), (q1r, .inl ((xT g) 5, tn, .inr (.inr (.inr (.inl tr))))), (q1s, .inl ((xT g) 5, tn, .inr (.inr (.inr (.inl ts))))), (q0, .inr (1, [.ref q0w])), (q0w, .inl ((xT g) 2, 40, .inl w_3))] 0 0
  refine x_aload_n G rfl dX1_lose_26 1 rfl ?_
  refine x_aload_n G rfl dX1_lose_27 2 rfl ?_
  refine x_getN (host := "RoundingAuditor") G in_X8 0 rfl rfl 4 (by decide) (by decide) (fun _ h => h) rfl dX1_lose_28 ?_
  refine x_iload_n G rfl dX1_lose_31 3 rfl ?_
  obtain ⟨hz, h⟩ := h
  refine x_dald G 3 rfl hz dX1_lose_32 ?_
  refine x_iconst (v := (1 : Int32)) G dX1_lose_33 (by decide) ?_
  refine x_cVv1 (wc := [(q0, .inr (1, [.ref q0w])), (q0w, .inl ((xT g) 2, 40, .inl w_3))]) (As := [.double (ts p2.toNatClampNeg), .int (1 : Int32)]) (rest := []) G [(q1, .inr (7, [.int tw, .int ty, .ref q1l, .ref q1r, .ref q1s, .int tc, .double tt])), (q1l, .inl ((xT g) 5, tn, .inr (.inr (.inr (.inl tl))))), (q1r, .inl ((xT g) 5, tn, .inr (.inr (.inr (.inl tr))))), (q1s, .inl ((xT g) 5, tn, .inr (.inr (.inr (.inl ts)))))] (XSub.of [0, 1, 2, 3, 4, 5] rfl (by decide)) (tX2_add G.noTraces h) (lw_V q269 q270 q271 q66 q272) cdX2_add 1 4 rfl rfl rfl (by decide) (by decide) rfl (Nat.le_of_ble_eq_true rfl) (Nat.le_of_ble_eq_true rfl) (Nat.le_of_ble_eq_true rfl) dX1_lose_34 (fun w_4 h => ?_)
  show X g 4 37 [(0, .ref h0), (1, .ref q0), (2, .ref q1), (3, .int p2)] [] [(q1, .inr (7, [.int tw, .int ty, .ref q1l, .ref q1r, .ref q1s, .int tc, .double tt])), (q1l, .inl ((xT g) 5, tn, .inr (.inr (.inr (.inl tl))))), (q1r, .inl ((xT g) 5, tn, .inr (.inr (.inr (.inl tr))))), (q1s, .inl ((xT g) 5, tn, .inr (.inr (.inr (.inl ts))))), (q0, .inr (1, [.ref q0w])), (q0w, .inl ((xT g) 2, 40, .inl w_4))] 0 0
  exact x_retv1 G Q dX1_lose_37 w_4 h (XSub.of [4, 5, 0, 1, 2, 3] rfl (by decide)) (Nat.le_of_ble_eq_true rfl) (Nat.le_of_ble_eq_true rfl)
theorem cdX1_step : yX1_step.cls = RX1 ∧ yX1_step.cls ≠ "java/lang/invoke/MethodHandle" ∧ yX1_step.cls ≠ "java/lang/invoke/VarHandle" ∧ (parseMethodDescriptor yX1_step.desc).map (fun d => d.parameters.length) = some 3 := by decide +kernel
def wX1_step_N (p0 : Int32) (p1 : Int32) (p2 : Int32) (lz : Int32) (K : Int64 → Prop) : Prop := (wX1_isStep_N p0 p1 lz (fun (r_1 : Int32) => ((¬ r_1 = (0 : Int32) → (wX1_isIn p2.toInt64 (0 : Int64) (4 : Int64) (fun (r_2 : Int32) => ((¬ r_2 = (0 : Int32) → False) ∧ (r_2 = (0 : Int32) → K (-102 : Int64)))))) ∧ (r_1 = (0 : Int32) → K (-101 : Int64)))))
set_option maxRecDepth 20000 in
theorem tX1_step_N {l : Launch} {D : va_G} {ta : Nat → ClassId} {h0 : Nat} {lg : Nat} {e1 : Nat} {e2 : Nat} {e3 : Nat} {rl : Nat} {cur : Int32} {sh : Nat} {lm : Int32} {rle : Nat} {lz : Int32} {p0 : Int32} {p1 : Int32} {p2 : Int32} {K : Int64 → Prop} (hlt : l.stackTraces = false) (h : wX1_step_N p0 p1 p2 lz K) : SMl0 l D ta yX1_step cX1_step 7 FieldType.long 6 [.ref h0, .int p0, .int p1, .int p2] [(h0, .inr (0, [.ref lg, .ref e1, .ref e2, .ref e3, .ref rl, .int cur, .ref sh])), (rl, .inr (2, [.int lm, .ref rle, .int lz]))] ([(h0, .inr (0, [.ref lg, .ref e1, .ref e2, .ref e3, .ref rl, .int cur, .ref sh])), (rl, .inr (2, [.int lm, .ref rle, .int lz]))]) 0 0 K := by
  refine x_stl0 hlt (plainFor_of_name (by decide +kernel)) (Nat.le_of_ble_eq_true rfl) (fun g G hl hD hT Q => ?_)
  subst hl; subst hD; subst hT
  unfold wX1_step_N at h
  show X g 7 0 [(0, .ref h0), (1, .int p0), (2, .int p1), (3, .int p2)] [] [(h0, .inr (0, [.ref lg, .ref e1, .ref e2, .ref e3, .ref rl, .int cur, .ref sh])), (rl, .inr (2, [.int lm, .ref rle, .int lz]))] 0 0
  refine x_aload_n G rfl dX1_step_0 0 rfl ?_
  refine x_iload_n G rfl dX1_step_1 1 rfl ?_
  refine x_iload_n G rfl dX1_step_2 2 rfl ?_
  refine x_cVi0 (wc := [(h0, .inr (0, [.ref lg, .ref e1, .ref e2, .ref e3, .ref rl, .int cur, .ref sh])), (rl, .inr (2, [.int lm, .ref rle, .int lz]))]) (As := [.int p0, .int p1]) (rest := []) G [] (XSub.of [0, 1] rfl (by decide)) (tX1_isStep_N G.noTraces h) (lw_V q255 q257 qs1 q65 q258) cdX1_isStep 0 0 rfl rfl rfl (by decide) (by decide) rfl (Nat.le_of_ble_eq_true rfl) (Nat.le_of_ble_eq_true rfl) (Nat.le_of_ble_eq_true rfl) dX1_step_3 (fun r_1 h => ?_)
  show X g 7 6 [(0, .ref h0), (1, .int p0), (2, .int p1), (3, .int p2)] [.int r_1] [(h0, .inr (0, [.ref lg, .ref e1, .ref e2, .ref e3, .ref rl, .int cur, .ref sh])), (rl, .inr (2, [.int lm, .ref rle, .int lz]))] 0 0
  refine x_if_ne (tgt := 13) G dX1_step_6 rfl (fun c => ?_) (fun c => ?_)
  · replace h := h.1 c
    refine x_iload_n G rfl dX1_step_13 3 rfl ?_
    refine x_i2l G dX1_step_14 ?_
    refine x_lconst (v := (0 : Int64)) G dX1_step_15 (by decide) ?_
    refine x_ldc2 G q259 dX1_step_16 ?_
    refine x_cPi (As := [.long p2.toInt64, .long (0 : Int64), .long (4 : Int64)]) (rest := []) G (tX1_isIn G.noTraces h) (lw_S q199 q200 q65 q201) cdX1_isIn (by decide) (by decide) rfl (Nat.le_of_ble_eq_true rfl) (Nat.le_of_ble_eq_true rfl) (Nat.le_of_ble_eq_true rfl) dX1_step_19 (fun r_2 h => ?_)
    refine x_if_ne (tgt := 29) G dX1_step_22 rfl (fun c => ?_) (fun c => ?_)
    · replace h := h.1 c
      refine x_aload_n G rfl dX1_step_29 0 rfl ?_
      refine x_get G in_X1 0 rfl rfl 4 (by decide) q163 (fun _ h => h) rfl dX1_step_30 ?_
      refine x_iload_n G rfl dX1_step_33 1 rfl ?_
      exact h.elim
    · replace h := h.2 c
      refine x_ldc2 G q260 dX1_step_25 ?_
      exact x_retl0 G Q dX1_step_28  h XSub.rf (Nat.le_of_ble_eq_true rfl) (Nat.le_of_ble_eq_true rfl)
  · replace h := h.2 c
    refine x_ldc2 G q246 dX1_step_9 ?_
    exact x_retl0 G Q dX1_step_12  h XSub.rf (Nat.le_of_ble_eq_true rfl) (Nat.le_of_ble_eq_true rfl)
def wX1_step (p0 : Int32) (p1 : Int32) (p2 : Int32) (lz : Int32) (lcap : Nat) (lef : Nat → Option Nat) (t0 : Nat) (tw : Int32) (tc : Int32) (tn : Nat) (tl : Nat → UInt64) (tr : Nat → UInt64) (ts : Nat → UInt64) (w1 : Nat → Int32) (K : Int64 → (Nat → Int32) → Prop) : Prop := (wX1_isStep p0 p1 lz lcap lef t0 tc (fun (r_1 : Int32) => ((¬ r_1 = (0 : Int32) → (wX1_isIn p2.toInt64 (0 : Int64) (4 : Int64) (fun (r_2 : Int32) => ((¬ r_2 = (0 : Int32) → (wJ2_get p0 lz lcap lef (fun (r_3 : Option Nat) => (r_3 = some t0 ∧ (((3 : Int32) ≤ p2 → (wX1_lose p1 w1 tn tl tr ts (fun (w_4 : Nat → Int32) => (wX2_toDouble w_4 (fun (r_5 : UInt64) (w_6 : Nat → Int32) => ((¬ p2 = (3 : Int32) → (wX2_add r_5 (1 : Int32) w_6 (fun (w_7 : Nat → Int32) => (wX2_toDouble w_7 (fun (r_8 : UInt64) (w_9 : Nat → Int32) => (wJ12_doubleToLongBits r_8 (fun (r_10 : Int64) => K r_10 w_9))))))) ∧ (p2 = (3 : Int32) → (wJ12_doubleToLongBits r_5 (fun (r_11 : Int64) => K r_11 w_6))))))))) ∧ (¬ (3 : Int32) ≤ p2 → ((¬ p2 = (0 : Int32) → ((¬ p2 = (1 : Int32) → (vp_in p1 tn ∧ (wX8_bits (ts p1.toNatClampNeg) tw (fun (r_12 : Int64) => K r_12 w1)))) ∧ (p2 = (1 : Int32) → (vp_in p1 tn ∧ (wX8_bits (tr p1.toNatClampNeg) tw (fun (r_13 : Int64) => K r_13 w1)))))) ∧ (p2 = (0 : Int32) → (vp_in p1 tn ∧ (wX8_bits (tl p1.toNatClampNeg) tw (fun (r_14 : Int64) => K r_14 w1))))))))))) ∧ (r_2 = (0 : Int32) → K (-102 : Int64) w1))))) ∧ (r_1 = (0 : Int32) → K (-101 : Int64) w1))))
set_option maxRecDepth 20000 in
theorem tX1_step {l : Launch} {D : va_G} {ta : Nat → ClassId} {h0 : Nat} {lg : Nat} {e1 : Nat} {e2 : Nat} {e3 : Nat} {rl : Nat} {cur : Int32} {sh : Nat} {lm : Int32} {rle : Nat} {lz : Int32} {lcap : Nat} {lef : Nat → Option Nat} {t0 : Nat} {tw : Int32} {ty : Int32} {t0l : Nat} {t0r : Nat} {t0s : Nat} {tc : Int32} {tt : UInt64} {tn : Nat} {tl : Nat → UInt64} {tr : Nat → UInt64} {ts : Nat → UInt64} {e1w : Nat} {w1 : Nat → Int32} {p0 : Int32} {p1 : Int32} {p2 : Int32} {K : Int64 → (Nat → Int32) → Prop} (hlt : l.stackTraces = false) (h : wX1_step p0 p1 p2 lz lcap lef t0 tw tc tn tl tr ts w1 K) : SMl1 l D ta yX1_step cX1_step 7 FieldType.long 6 [.ref h0, .int p0, .int p1, .int p2] [(h0, .inr (0, [.ref lg, .ref e1, .ref e2, .ref e3, .ref rl, .int cur, .ref sh])), (rl, .inr (2, [.int lm, .ref rle, .int lz])), (rle, .inl (ta 8, lcap, .inr (.inr (.inr (.inr lef))))), (t0, .inr (7, [.int tw, .int ty, .ref t0l, .ref t0r, .ref t0s, .int tc, .double tt])), (t0l, .inl (ta 5, tn, .inr (.inr (.inr (.inl tl))))), (t0r, .inl (ta 5, tn, .inr (.inr (.inr (.inl tr))))), (t0s, .inl (ta 5, tn, .inr (.inr (.inr (.inl ts))))), (e1, .inr (1, [.ref e1w])), (e1w, .inl (ta 2, 40, .inl w1))] (fun (w1' : Nat → Int32) => [(h0, .inr (0, [.ref lg, .ref e1, .ref e2, .ref e3, .ref rl, .int cur, .ref sh])), (rl, .inr (2, [.int lm, .ref rle, .int lz])), (rle, .inl (ta 8, lcap, .inr (.inr (.inr (.inr lef))))), (t0, .inr (7, [.int tw, .int ty, .ref t0l, .ref t0r, .ref t0s, .int tc, .double tt])), (t0l, .inl (ta 5, tn, .inr (.inr (.inr (.inl tl))))), (t0r, .inl (ta 5, tn, .inr (.inr (.inr (.inl tr))))), (t0s, .inl (ta 5, tn, .inr (.inr (.inr (.inl ts))))), (e1, .inr (1, [.ref e1w])), (e1w, .inl (ta 2, 40, .inl w1'))]) 0 0 K := by
  refine x_stl1 hlt (plainFor_of_name (by decide +kernel)) (Nat.le_of_ble_eq_true rfl) (fun g G hl hD hT Q => ?_)
  subst hl; subst hD; subst hT
  unfold wX1_step at h
  show X g 7 0 [(0, .ref h0), (1, .int p0), (2, .int p1), (3, .int p2)] [] [(h0, .inr (0, [.ref lg, .ref e1, .ref e2, .ref e3, .ref rl, .int cur, .ref sh])), (rl, .inr (2, [.int lm, .ref rle, .int lz])), (rle, .inl ((xT g) 8, lcap, .inr (.inr (.inr (.inr lef))))), (t0, .inr (7, [.int tw, .int ty, .ref t0l, .ref t0r, .ref t0s, .int tc, .double tt])), (t0l, .inl ((xT g) 5, tn, .inr (.inr (.inr (.inl tl))))), (t0r, .inl ((xT g) 5, tn, .inr (.inr (.inr (.inl tr))))), (t0s, .inl ((xT g) 5, tn, .inr (.inr (.inr (.inl ts))))), (e1, .inr (1, [.ref e1w])), (e1w, .inl ((xT g) 2, 40, .inl w1))] 0 0
  refine x_aload_n G rfl dX1_step_0 0 rfl ?_
  refine x_iload_n G rfl dX1_step_1 1 rfl ?_
  refine x_iload_n G rfl dX1_step_2 2 rfl ?_
  refine x_cVi0 (wc := [(h0, .inr (0, [.ref lg, .ref e1, .ref e2, .ref e3, .ref rl, .int cur, .ref sh])), (rl, .inr (2, [.int lm, .ref rle, .int lz])), (rle, .inl ((xT g) 8, lcap, .inr (.inr (.inr (.inr lef))))), (t0, .inr (7, [.int tw, .int ty, .ref t0l, .ref t0r, .ref t0s, .int tc, .double tt]))]) (As := [.int p0, .int p1]) (rest := []) G [(t0l, .inl ((xT g) 5, tn, .inr (.inr (.inr (.inl tl))))), (t0r, .inl ((xT g) 5, tn, .inr (.inr (.inr (.inl tr))))), (t0s, .inl ((xT g) 5, tn, .inr (.inr (.inr (.inl ts))))), (e1, .inr (1, [.ref e1w])), (e1w, .inl ((xT g) 2, 40, .inl w1))] (XSub.of [4, 5, 6, 7, 8, 0, 1, 2, 3] rfl (by decide)) (tX1_isStep G.noTraces h) (lw_V q255 q257 qs1 q65 q258) cdX1_isStep 0 0 rfl rfl rfl (by decide) (by decide) rfl (Nat.le_of_ble_eq_true rfl) (Nat.le_of_ble_eq_true rfl) (Nat.le_of_ble_eq_true rfl) dX1_step_3 (fun r_1 h => ?_)
  show X g 7 6 [(0, .ref h0), (1, .int p0), (2, .int p1), (3, .int p2)] [.int r_1] [(t0l, .inl ((xT g) 5, tn, .inr (.inr (.inr (.inl tl))))), (t0r, .inl ((xT g) 5, tn, .inr (.inr (.inr (.inl tr))))), (t0s, .inl ((xT g) 5, tn, .inr (.inr (.inr (.inl ts))))), (e1, .inr (1, [.ref e1w])), (e1w, .inl ((xT g) 2, 40, .inl w1)), (h0, .inr (0, [.ref lg, .ref e1, .ref e2, .ref e3, .ref rl, .int cur, .ref sh])), (rl, .inr (2, [.int lm, .ref rle, .int lz])), (rle, .inl ((xT g) 8, lcap, .inr (.inr (.inr (.inr lef))))), (t0, .inr (7, [.int tw, .int ty, .ref t0l, .ref t0r, .ref t0s, .int tc, .double tt]))] 0 0
  refine x_if_ne (tgt := 13) G dX1_step_6 rfl (fun c => ?_) (fun c => ?_)
  · replace h := h.1 c
    refine x_iload_n G rfl dX1_step_13 3 rfl ?_
    refine x_i2l G dX1_step_14 ?_
    refine x_lconst (v := (0 : Int64)) G dX1_step_15 (by decide) ?_
    refine x_ldc2 G q259 dX1_step_16 ?_
    refine x_cPi (As := [.long p2.toInt64, .long (0 : Int64), .long (4 : Int64)]) (rest := []) G (tX1_isIn G.noTraces h) (lw_S q199 q200 q65 q201) cdX1_isIn (by decide) (by decide) rfl (Nat.le_of_ble_eq_true rfl) (Nat.le_of_ble_eq_true rfl) (Nat.le_of_ble_eq_true rfl) dX1_step_19 (fun r_2 h => ?_)
    refine x_if_ne (tgt := 29) G dX1_step_22 rfl (fun c => ?_) (fun c => ?_)
    · replace h := h.1 c
      refine x_aload_n G rfl dX1_step_29 0 rfl ?_
      refine x_get G in_X1 5 rfl rfl 4 (by decide) q163 (fun _ h => h) rfl dX1_step_30 ?_
      refine x_iload_n G rfl dX1_step_33 1 rfl ?_
      refine x_cFq0 (C := "java/util/ArrayList") (x := ⟨"java/util/List", "get", "(I)Ljava/lang/Object;"⟩) (wc := [(rl, .inr (2, [.int lm, .ref rle, .int lz])), (rle, .inl ((xT g) 8, lcap, .inr (.inr (.inr (.inr lef)))))]) (As := [.int p0]) (rest := []) G [(t0l, .inl ((xT g) 5, tn, .inr (.inr (.inr (.inl tl))))), (t0r, .inl ((xT g) 5, tn, .inr (.inr (.inr (.inl tr))))), (t0s, .inl ((xT g) 5, tn, .inr (.inr (.inr (.inl ts))))), (e1, .inr (1, [.ref e1w])), (e1w, .inl ((xT g) 2, 40, .inl w1)), (h0, .inr (0, [.ref lg, .ref e1, .ref e2, .ref e3, .ref rl, .int cur, .ref sh])), (t0, .inr (7, [.int tw, .int ty, .ref t0l, .ref t0r, .ref t0s, .int tc, .double tt]))] (XSub.of [0, 1, 2, 3, 4, 5, 8, 6, 7] rfl (by decide)) (tJ2_get G.noTraces h) q203 q206 q208 q69 q210 (by decide) (show ("java/util/List" : String) ≠ "java/lang/invoke/MethodHandle" ∧ ("java/util/List" : String) ≠ "java/lang/invoke/VarHandle" ∧ (parseMethodDescriptor "(I)Ljava/lang/Object;").map (fun d => d.parameters.length) = some 1 from by decide +kernel) 2 6 rfl rfl rfl (by decide) (by decide) rfl (Nat.le_of_ble_eq_true rfl) (Nat.le_of_ble_eq_true rfl) (Nat.le_of_ble_eq_true rfl) dX1_step_34 (fun r_3 h => ?_)
      obtain ⟨hq, h⟩ := h
      subst hq
      show X g 7 39 [(0, .ref h0), (1, .int p0), (2, .int p1), (3, .int p2)] [.ref t0] [(t0l, .inl ((xT g) 5, tn, .inr (.inr (.inr (.inl tl))))), (t0r, .inl ((xT g) 5, tn, .inr (.inr (.inr (.inl tr))))), (t0s, .inl ((xT g) 5, tn, .inr (.inr (.inr (.inl ts))))), (e1, .inr (1, [.ref e1w])), (e1w, .inl ((xT g) 2, 40, .inl w1)), (h0, .inr (0, [.ref lg, .ref e1, .ref e2, .ref e3, .ref rl, .int cur, .ref sh])), (t0, .inr (7, [.int tw, .int ty, .ref t0l, .ref t0r, .ref t0s, .int tc, .double tt])), (rl, .inr (2, [.int lm, .ref rle, .int lz])), (rle, .inl ((xT g) 8, lcap, .inr (.inr (.inr (.inr lef)))))] 0 0
      refine x_castS (q := (RX8, TX8, 7)) G q221 6 rfl rfl dX1_step_39 ?_
      refine x_astore (lv' := [(4, .ref t0), (0, .ref h0), (1, .int p0), (2, .int p1), (3, .int p2)]) G dX1_step_42 (by decide) rfl ?_
      refine x_iload_n G rfl dX1_step_44 4 rfl ?_
      refine x_iconst (v := (3 : Int32)) G dX1_step_45 (by decide) ?_
      refine x_icmp_ge (tgt := 91) G dX1_step_46 rfl (fun c => ?_) (fun c => ?_)
      · replace h := h.1 c
        refine x_aload_n G rfl dX1_step_91 1 rfl ?_
        refine x_aload_n G rfl dX1_step_92 1 rfl ?_
        refine x_get G in_X1 5 rfl rfl 1 (by decide) q160 (fun _ h => h) rfl dX1_step_93 ?_
        refine x_aload G dX1_step_96 0 rfl ?_
        refine x_iload_n G rfl dX1_step_98 3 rfl ?_
        refine x_cVv1 (wc := [(e1, .inr (1, [.ref e1w])), (e1w, .inl ((xT g) 2, 40, .inl w1)), (t0, .inr (7, [.int tw, .int ty, .ref t0l, .ref t0r, .ref t0s, .int tc, .double tt])), (t0l, .inl ((xT g) 5, tn, .inr (.inr (.inr (.inl tl))))), (t0r, .inl ((xT g) 5, tn, .inr (.inr (.inr (.inl tr))))), (t0s, .inl ((xT g) 5, tn, .inr (.inr (.inr (.inl ts)))))]) (As := [.ref e1, .ref t0, .int p1]) (rest := []) G [(h0, .inr (0, [.ref lg, .ref e1, .ref e2, .ref e3, .ref rl, .int cur, .ref sh])), (rl, .inr (2, [.int lm, .ref rle, .int lz])), (rle, .inl ((xT g) 8, lcap, .inr (.inr (.inr (.inr lef)))))] (XSub.of [5, 7, 8, 3, 4, 6, 0, 1, 2] rfl (by decide)) (tX1_lose G.noTraces h) (lw_V q261 q263 qs2 q65 q264) cdX1_lose 0 5 rfl rfl rfl (by decide) (by decide) rfl (Nat.le_of_ble_eq_true rfl) (Nat.le_of_ble_eq_true rfl) (Nat.le_of_ble_eq_true rfl) dX1_step_99 (fun w_4 h => ?_)
        show X g 7 102 [(4, .ref t0), (0, .ref h0), (1, .int p0), (2, .int p1), (3, .int p2)] [] [(h0, .inr (0, [.ref lg, .ref e1, .ref e2, .ref e3, .ref rl, .int cur, .ref sh])), (rl, .inr (2, [.int lm, .ref rle, .int lz])), (rle, .inl ((xT g) 8, lcap, .inr (.inr (.inr (.inr lef))))), (e1, .inr (1, [.ref e1w])), (e1w, .inl ((xT g) 2, 40, .inl w_4)), (t0, .inr (7, [.int tw, .int ty, .ref t0l, .ref t0r, .ref t0s, .int tc, .double tt])), (t0l, .inl ((xT g) 5, tn, .inr (.inr (.inr (.inl tl))))), (t0r, .inl ((xT g) 5, tn, .inr (.inr (.inr (.inl tr))))), (t0s, .inl ((xT g) 5, tn, .inr (.inr (.inr (.inl ts)))))] 0 0
        refine x_aload_n G rfl dX1_step_102 1 rfl ?_
        refine x_get G in_X1 0 rfl rfl 1 (by decide) q160 (fun _ h => h) rfl dX1_step_103 ?_
        refine x_cVd1 (wc := [(e1, .inr (1, [.ref e1w])), (e1w, .inl ((xT g) 2, 40, .inl w_4))]) (As := []) (rest := []) G [(h0, .inr (0, [.ref lg, .ref e1, .ref e2, .ref e3, .ref rl, .int cur, .ref sh])), (rl, .inr (2, [.int lm, .ref rle, .int lz])), (rle, .inl ((xT g) 8, lcap, .inr (.inr (.inr (.inr lef))))), (t0, .inr (7, [.int tw, .int ty, .ref t0l, .ref t0r, .ref t0s, .int tc, .double tt])), (t0l, .inl ((xT g) 5, tn, .inr (.inr (.inr (.inl tl))))), (t0r, .inl ((xT g) 5, tn, .inr (.inr (.inr (.inl tr))))), (t0s, .inl ((xT g) 5, tn, .inr (.inr (.inr (.inl ts)))))] (XSub.of [0, 1, 2, 5, 6, 7, 8, 3, 4] rfl (by decide)) (tX2_toDouble G.noTraces h) (lw_V q281 q282 q283 q66 q284) cdX2_toDouble 1 3 rfl rfl rfl (by decide) (by decide) rfl (Nat.le_of_ble_eq_true rfl) (Nat.le_of_ble_eq_true rfl) (Nat.le_of_ble_eq_true rfl) dX1_step_106 (fun r_5 w_6 h => ?_)
        show X g 7 109 [(4, .ref t0), (0, .ref h0), (1, .int p0), (2, .int p1), (3, .int p2)] [.double r_5] [(h0, .inr (0, [.ref lg, .ref e1, .ref e2, .ref e3, .ref rl, .int cur, .ref sh])), (rl, .inr (2, [.int lm, .ref rle, .int lz])), (rle, .inl ((xT g) 8, lcap, .inr (.inr (.inr (.inr lef))))), (t0, .inr (7, [.int tw, .int ty, .ref t0l, .ref t0r, .ref t0s, .int tc, .double tt])), (t0l, .inl ((xT g) 5, tn, .inr (.inr (.inr (.inl tl))))), (t0r, .inl ((xT g) 5, tn, .inr (.inr (.inr (.inl tr))))), (t0s, .inl ((xT g) 5, tn, .inr (.inr (.inr (.inl ts))))), (e1, .inr (1, [.ref e1w])), (e1w, .inl ((xT g) 2, 40, .inl w_6))] 0 0
        refine x_dstore (lv' := [(5, .double r_5), (4, .ref t0), (0, .ref h0), (1, .int p0), (2, .int p1), (3, .int p2)]) G dX1_step_109 (by decide) rfl ?_
        refine x_iload_n G rfl dX1_step_111 5 rfl ?_
        refine x_iconst (v := (3 : Int32)) G dX1_step_112 (by decide) ?_
        refine x_icmp_ne (tgt := 122) G dX1_step_113 rfl (fun c => ?_) (fun c => ?_)
        · replace h := h.1 c
          refine x_aload_n G rfl dX1_step_122 2 rfl ?_
          refine x_get G in_X1 0 rfl rfl 1 (by decide) q160 (fun _ h => h) rfl dX1_step_123 ?_
          refine x_dload G dX1_step_126 0 rfl ?_
          refine x_iconst (v := (1 : Int32)) G dX1_step_128 (by decide) ?_
          refine x_cVv1 (wc := [(e1, .inr (1, [.ref e1w])), (e1w, .inl ((xT g) 2, 40, .inl w_6))]) (As := [.double r_5, .int (1 : Int32)]) (rest := []) G [(h0, .inr (0, [.ref lg, .ref e1, .ref e2, .ref e3, .ref rl, .int cur, .ref sh])), (rl, .inr (2, [.int lm, .ref rle, .int lz])), (rle, .inl ((xT g) 8, lcap, .inr (.inr (.inr (.inr lef))))), (t0, .inr (7, [.int tw, .int ty, .ref t0l, .ref t0r, .ref t0s, .int tc, .double tt])), (t0l, .inl ((xT g) 5, tn, .inr (.inr (.inr (.inl tl))))), (t0r, .inl ((xT g) 5, tn, .inr (.inr (.inr (.inl tr))))), (t0s, .inl ((xT g) 5, tn, .inr (.inr (.inr (.inl ts)))))] (XSub.of [0, 1, 2, 3, 4, 5, 6, 7, 8] rfl (by decide)) (tX2_add G.noTraces h) (lw_V q269 q270 q271 q66 q272) cdX2_add 1 7 rfl rfl rfl (by decide) (by decide) rfl (Nat.le_of_ble_eq_true rfl) (Nat.le_of_ble_eq_true rfl) (Nat.le_of_ble_eq_true rfl) dX1_step_129 (fun w_7 h => ?_)
          show X g 7 132 [(5, .double r_5), (4, .ref t0), (0, .ref h0), (1, .int p0), (2, .int p1), (3, .int p2)] [] [(h0, .inr (0, [.ref lg, .ref e1, .ref e2, .ref e3, .ref rl, .int cur, .ref sh])), (rl, .inr (2, [.int lm, .ref rle, .int lz])), (rle, .inl ((xT g) 8, lcap, .inr (.inr (.inr (.inr lef))))), (t0, .inr (7, [.int tw, .int ty, .ref t0l, .ref t0r, .ref t0s, .int tc, .double tt])), (t0l, .inl ((xT g) 5, tn, .inr (.inr (.inr (.inl tl))))), (t0r, .inl ((xT g) 5, tn, .inr (.inr (.inr (.inl tr))))), (t0s, .inl ((xT g) 5, tn, .inr (.inr (.inr (.inl ts))))), (e1, .inr (1, [.ref e1w])), (e1w, .inl ((xT g) 2, 40, .inl w_7))] 0 0
          refine x_aload_n G rfl dX1_step_132 2 rfl ?_
          refine x_get G in_X1 0 rfl rfl 1 (by decide) q160 (fun _ h => h) rfl dX1_step_133 ?_
          refine x_cVd1 (wc := [(e1, .inr (1, [.ref e1w])), (e1w, .inl ((xT g) 2, 40, .inl w_7))]) (As := []) (rest := []) G [(h0, .inr (0, [.ref lg, .ref e1, .ref e2, .ref e3, .ref rl, .int cur, .ref sh])), (rl, .inr (2, [.int lm, .ref rle, .int lz])), (rle, .inl ((xT g) 8, lcap, .inr (.inr (.inr (.inr lef))))), (t0, .inr (7, [.int tw, .int ty, .ref t0l, .ref t0r, .ref t0s, .int tc, .double tt])), (t0l, .inl ((xT g) 5, tn, .inr (.inr (.inr (.inl tl))))), (t0r, .inl ((xT g) 5, tn, .inr (.inr (.inr (.inl tr))))), (t0s, .inl ((xT g) 5, tn, .inr (.inr (.inr (.inl ts)))))] (XSub.of [0, 1, 2, 3, 4, 5, 6, 7, 8] rfl (by decide)) (tX2_toDouble G.noTraces h) (lw_V q281 q282 q283 q66 q284) cdX2_toDouble 1 7 rfl rfl rfl (by decide) (by decide) rfl (Nat.le_of_ble_eq_true rfl) (Nat.le_of_ble_eq_true rfl) (Nat.le_of_ble_eq_true rfl) dX1_step_136 (fun r_8 w_9 h => ?_)
          show X g 7 139 [(5, .double r_5), (4, .ref t0), (0, .ref h0), (1, .int p0), (2, .int p1), (3, .int p2)] [.double r_8] [(h0, .inr (0, [.ref lg, .ref e1, .ref e2, .ref e3, .ref rl, .int cur, .ref sh])), (rl, .inr (2, [.int lm, .ref rle, .int lz])), (rle, .inl ((xT g) 8, lcap, .inr (.inr (.inr (.inr lef))))), (t0, .inr (7, [.int tw, .int ty, .ref t0l, .ref t0r, .ref t0s, .int tc, .double tt])), (t0l, .inl ((xT g) 5, tn, .inr (.inr (.inr (.inl tl))))), (t0r, .inl ((xT g) 5, tn, .inr (.inr (.inr (.inl tr))))), (t0s, .inl ((xT g) 5, tn, .inr (.inr (.inr (.inl ts))))), (e1, .inr (1, [.ref e1w])), (e1w, .inl ((xT g) 2, 40, .inl w_9))] 0 0
          refine x_cPl (As := [.double r_8]) (rest := []) G (tJ12_doubleToLongBits G.noTraces h) (lw_S q315 q227 q84 q228) cdJ12_doubleToLongBits (by decide) (by decide) rfl (Nat.le_of_ble_eq_true rfl) (Nat.le_of_ble_eq_true rfl) (Nat.le_of_ble_eq_true rfl) dX1_step_139 (fun r_10 h => ?_)
          exact x_retl1 G Q dX1_step_142 w_9 h XSub.rf (Nat.le_of_ble_eq_true rfl) (Nat.le_of_ble_eq_true rfl)
        · replace h := h.2 c
          refine x_dload G dX1_step_116 0 rfl ?_
          refine x_cPl (As := [.double r_5]) (rest := []) G (tJ12_doubleToLongBits G.noTraces h) (lw_S q315 q227 q84 q228) cdJ12_doubleToLongBits (by decide) (by decide) rfl (Nat.le_of_ble_eq_true rfl) (Nat.le_of_ble_eq_true rfl) (Nat.le_of_ble_eq_true rfl) dX1_step_118 (fun r_11 h => ?_)
          exact x_retl1 G Q dX1_step_121 w_6 h XSub.rf (Nat.le_of_ble_eq_true rfl) (Nat.le_of_ble_eq_true rfl)
      · replace h := h.2 c
        refine x_aload G dX1_step_49 0 rfl ?_
        refine x_iload_n G rfl dX1_step_51 4 rfl ?_
        refine x_if_ne (tgt := 65) G dX1_step_52 rfl (fun c => ?_) (fun c => ?_)
        · replace h := h.1 c
          refine x_iload_n G rfl dX1_step_65 4 rfl ?_
          refine x_iconst (v := (1 : Int32)) G dX1_step_66 (by decide) ?_
          refine x_icmp_ne (tgt := 80) G dX1_step_67 rfl (fun c => ?_) (fun c => ?_)
          · replace h := h.1 c
            refine x_aload G dX1_step_80 0 rfl ?_
            refine x_getN (host := "RoundingAuditor") G in_X8 6 rfl rfl 4 (by decide) (by decide) (fun _ h => h) rfl dX1_step_82 ?_
            refine x_iload_n G rfl dX1_step_85 3 rfl ?_
            obtain ⟨hz, h⟩ := h
            refine x_dald G 2 rfl hz dX1_step_86 ?_
            refine x_cVl0 (wc := [(t0, .inr (7, [.int tw, .int ty, .ref t0l, .ref t0r, .ref t0s, .int tc, .double tt]))]) (As := [.double (ts p1.toNatClampNeg)]) (rest := []) G [(t0l, .inl ((xT g) 5, tn, .inr (.inr (.inr (.inl tl))))), (t0r, .inl ((xT g) 5, tn, .inr (.inr (.inr (.inl tr))))), (t0s, .inl ((xT g) 5, tn, .inr (.inr (.inr (.inl ts))))), (e1, .inr (1, [.ref e1w])), (e1w, .inl ((xT g) 2, 40, .inl w1)), (h0, .inr (0, [.ref lg, .ref e1, .ref e2, .ref e3, .ref rl, .int cur, .ref sh])), (rl, .inr (2, [.int lm, .ref rle, .int lz])), (rle, .inl ((xT g) 8, lcap, .inr (.inr (.inr (.inr lef)))))] (XSub.of [0, 1, 2, 3, 4, 5, 7, 8, 6] rfl (by decide)) (tX8_bits G.noTraces h) (lw_V q222 q223 q224 q89 q225) cdX8_bits 7 6 rfl rfl rfl (by decide) (by decide) rfl (Nat.le_of_ble_eq_true rfl) (Nat.le_of_ble_eq_true rfl) (Nat.le_of_ble_eq_true rfl) dX1_step_87 (fun r_12 h => ?_)
            show X g 7 90 [(4, .ref t0), (0, .ref h0), (1, .int p0), (2, .int p1), (3, .int p2)] [.long r_12] [(t0l, .inl ((xT g) 5, tn, .inr (.inr (.inr (.inl tl))))), (t0r, .inl ((xT g) 5, tn, .inr (.inr (.inr (.inl tr))))), (t0s, .inl ((xT g) 5, tn, .inr (.inr (.inr (.inl ts))))), (e1, .inr (1, [.ref e1w])), (e1w, .inl ((xT g) 2, 40, .inl w1)), (h0, .inr (0, [.ref lg, .ref e1, .ref e2, .ref e3, .ref rl, .int cur, .ref sh])), (rl, .inr (2, [.int lm, .ref rle, .int lz])), (rle, .inl ((xT g) 8, lcap, .inr (.inr (.inr (.inr lef))))), (t0, .inr (7, [.int tw, .int ty, .ref t0l, .ref t0r, .ref t0s, .int tc, .double tt]))] 0 0
            exact x_retl1 G Q dX1_step_90 w1 h (XSub.of [5, 6, 7, 8, 0, 1, 2, 3, 4] rfl (by decide)) (Nat.le_of_ble_eq_true rfl) (Nat.le_of_ble_eq_true rfl)
          · replace h := h.2 c
            refine x_aload G dX1_step_70 0 rfl ?_
            refine x_getN (host := "RoundingAuditor") G in_X8 6 rfl rfl 3 (by decide) (by decide) (fun _ h => h) rfl dX1_step_72 ?_
            refine x_iload_n G rfl dX1_step_75 3 rfl ?_
            obtain ⟨hz, h⟩ := h
            refine x_dald G 1 rfl hz dX1_step_76 ?_
            refine x_goto (tgt := 87) G dX1_step_77 rfl ?_
            refine x_cVl0 (wc := [(t0, .inr (7, [.int tw, .int ty, .ref t0l, .ref t0r, .ref t0s, .int tc, .double tt]))]) (As := [.double (tr p1.toNatClampNeg)]) (rest := []) G [(t0l, .inl ((xT g) 5, tn, .inr (.inr (.inr (.inl tl))))), (t0r, .inl ((xT g) 5, tn, .inr (.inr (.inr (.inl tr))))), (t0s, .inl ((xT g) 5, tn, .inr (.inr (.inr (.inl ts))))), (e1, .inr (1, [.ref e1w])), (e1w, .inl ((xT g) 2, 40, .inl w1)), (h0, .inr (0, [.ref lg, .ref e1, .ref e2, .ref e3, .ref rl, .int cur, .ref sh])), (rl, .inr (2, [.int lm, .ref rle, .int lz])), (rle, .inl ((xT g) 8, lcap, .inr (.inr (.inr (.inr lef)))))] (XSub.of [0, 1, 2, 3, 4, 5, 7, 8, 6] rfl (by decide)) (tX8_bits G.noTraces h) (lw_V q222 q223 q224 q89 q225) cdX8_bits 7 6 rfl rfl rfl (by decide) (by decide) rfl (Nat.le_of_ble_eq_true rfl) (Nat.le_of_ble_eq_true rfl) (Nat.le_of_ble_eq_true rfl) dX1_step_87 (fun r_13 h => ?_)
            show X g 7 90 [(4, .ref t0), (0, .ref h0), (1, .int p0), (2, .int p1), (3, .int p2)] [.long r_13] [(t0l, .inl ((xT g) 5, tn, .inr (.inr (.inr (.inl tl))))), (t0r, .inl ((xT g) 5, tn, .inr (.inr (.inr (.inl tr))))), (t0s, .inl ((xT g) 5, tn, .inr (.inr (.inr (.inl ts))))), (e1, .inr (1, [.ref e1w])), (e1w, .inl ((xT g) 2, 40, .inl w1)), (h0, .inr (0, [.ref lg, .ref e1, .ref e2, .ref e3, .ref rl, .int cur, .ref sh])), (rl, .inr (2, [.int lm, .ref rle, .int lz])), (rle, .inl ((xT g) 8, lcap, .inr (.inr (.inr (.inr lef))))), (t0, .inr (7, [.int tw, .int ty, .ref t0l, .ref t0r, .ref t0s, .int tc, .double tt]))] 0 0
            exact x_retl1 G Q dX1_step_90 w1 h (XSub.of [5, 6, 7, 8, 0, 1, 2, 3, 4] rfl (by decide)) (Nat.le_of_ble_eq_true rfl) (Nat.le_of_ble_eq_true rfl)
        · replace h := h.2 c
          refine x_aload G dX1_step_55 0 rfl ?_
          refine x_getN (host := "RoundingAuditor") G in_X8 6 rfl rfl 2 (by decide) (by decide) (fun _ h => h) rfl dX1_step_57 ?_
          refine x_iload_n G rfl dX1_step_60 3 rfl ?_
          obtain ⟨hz, h⟩ := h
          refine x_dald G 0 rfl hz dX1_step_61 ?_
          refine x_goto (tgt := 87) G dX1_step_62 rfl ?_
          refine x_cVl0 (wc := [(t0, .inr (7, [.int tw, .int ty, .ref t0l, .ref t0r, .ref t0s, .int tc, .double tt]))]) (As := [.double (tl p1.toNatClampNeg)]) (rest := []) G [(t0l, .inl ((xT g) 5, tn, .inr (.inr (.inr (.inl tl))))), (t0r, .inl ((xT g) 5, tn, .inr (.inr (.inr (.inl tr))))), (t0s, .inl ((xT g) 5, tn, .inr (.inr (.inr (.inl ts))))), (e1, .inr (1, [.ref e1w])), (e1w, .inl ((xT g) 2, 40, .inl w1)), (h0, .inr (0, [.ref lg, .ref e1, .ref e2, .ref e3, .ref rl, .int cur, .ref sh])), (rl, .inr (2, [.int lm, .ref rle, .int lz])), (rle, .inl ((xT g) 8, lcap, .inr (.inr (.inr (.inr lef)))))] (XSub.of [0, 1, 2, 3, 4, 5, 7, 8, 6] rfl (by decide)) (tX8_bits G.noTraces h) (lw_V q222 q223 q224 q89 q225) cdX8_bits 7 6 rfl rfl rfl (by decide) (by decide) rfl (Nat.le_of_ble_eq_true rfl) (Nat.le_of_ble_eq_true rfl) (Nat.le_of_ble_eq_true rfl) dX1_step_87 (fun r_14 h => ?_)
          show X g 7 90 [(4, .ref t0), (0, .ref h0), (1, .int p0), (2, .int p1), (3, .int p2)] [.long r_14] [(t0l, .inl ((xT g) 5, tn, .inr (.inr (.inr (.inl tl))))), (t0r, .inl ((xT g) 5, tn, .inr (.inr (.inr (.inl tr))))), (t0s, .inl ((xT g) 5, tn, .inr (.inr (.inr (.inl ts))))), (e1, .inr (1, [.ref e1w])), (e1w, .inl ((xT g) 2, 40, .inl w1)), (h0, .inr (0, [.ref lg, .ref e1, .ref e2, .ref e3, .ref rl, .int cur, .ref sh])), (rl, .inr (2, [.int lm, .ref rle, .int lz])), (rle, .inl ((xT g) 8, lcap, .inr (.inr (.inr (.inr lef))))), (t0, .inr (7, [.int tw, .int ty, .ref t0l, .ref t0r, .ref t0s, .int tc, .double tt]))] 0 0
          exact x_retl1 G Q dX1_step_90 w1 h (XSub.of [5, 6, 7, 8, 0, 1, 2, 3, 4] rfl (by decide)) (Nat.le_of_ble_eq_true rfl) (Nat.le_of_ble_eq_true rfl)
    · replace h := h.2 c
      refine x_ldc2 G q260 dX1_step_25 ?_
      exact x_retl1 G Q dX1_step_28 w1 h (XSub.of [5, 6, 7, 8, 0, 1, 2, 3, 4] rfl (by decide)) (Nat.le_of_ble_eq_true rfl) (Nat.le_of_ble_eq_true rfl)
  · replace h := h.2 c
    refine x_ldc2 G q246 dX1_step_9 ?_
    exact x_retl1 G Q dX1_step_12 w1 h (XSub.of [5, 6, 7, 8, 0, 1, 2, 3, 4] rfl (by decide)) (Nat.le_of_ble_eq_true rfl) (Nat.le_of_ble_eq_true rfl)
theorem cdX1_story : yX1_story.cls = RX1 ∧ yX1_story.cls ≠ "java/lang/invoke/MethodHandle" ∧ yX1_story.cls ≠ "java/lang/invoke/VarHandle" ∧ (parseMethodDescriptor yX1_story.desc).map (fun d => d.parameters.length) = some 2 := by decide +kernel
def wX1_story_N (p0 : Int32) (p1 : Int32) (lz : Int32) (K : Int32 → Prop) : Prop := (wX1_isStep_N p0 p1 lz (fun (r_1 : Int32) => ((¬ r_1 = (0 : Int32) → False) ∧ (r_1 = (0 : Int32) → K (-101 : Int32)))))
set_option maxRecDepth 20000 in
theorem tX1_story_N {l : Launch} {D : va_G} {ta : Nat → ClassId} {h0 : Nat} {lg : Nat} {e1 : Nat} {e2 : Nat} {e3 : Nat} {rl : Nat} {cur : Int32} {sh : Nat} {lm : Int32} {rle : Nat} {lz : Int32} {p0 : Int32} {p1 : Int32} {K : Int32 → Prop} (hlt : l.stackTraces = false) (h : wX1_story_N p0 p1 lz K) : SMi0 l D ta yX1_story cX1_story 11 FieldType.int 5 [.ref h0, .int p0, .int p1] [(h0, .inr (0, [.ref lg, .ref e1, .ref e2, .ref e3, .ref rl, .int cur, .ref sh])), (rl, .inr (2, [.int lm, .ref rle, .int lz]))] ([(h0, .inr (0, [.ref lg, .ref e1, .ref e2, .ref e3, .ref rl, .int cur, .ref sh])), (rl, .inr (2, [.int lm, .ref rle, .int lz]))]) 0 0 K := by
  refine x_sti0 hlt (plainFor_of_name (by decide +kernel)) (Nat.le_of_ble_eq_true rfl) (fun g G hl hD hT Q => ?_)
  subst hl; subst hD; subst hT
  unfold wX1_story_N at h
  show X g 11 0 [(0, .ref h0), (1, .int p0), (2, .int p1)] [] [(h0, .inr (0, [.ref lg, .ref e1, .ref e2, .ref e3, .ref rl, .int cur, .ref sh])), (rl, .inr (2, [.int lm, .ref rle, .int lz]))] 0 0
  refine x_aload_n G rfl dX1_story_0 0 rfl ?_
  refine x_iload_n G rfl dX1_story_1 1 rfl ?_
  refine x_iload_n G rfl dX1_story_2 2 rfl ?_
  refine x_cVi0 (wc := [(h0, .inr (0, [.ref lg, .ref e1, .ref e2, .ref e3, .ref rl, .int cur, .ref sh])), (rl, .inr (2, [.int lm, .ref rle, .int lz]))]) (As := [.int p0, .int p1]) (rest := []) G [] (XSub.of [0, 1] rfl (by decide)) (tX1_isStep_N G.noTraces h) (lw_V q255 q257 qs1 q65 q258) cdX1_isStep 0 0 rfl rfl rfl (by decide) (by decide) rfl (Nat.le_of_ble_eq_true rfl) (Nat.le_of_ble_eq_true rfl) (Nat.le_of_ble_eq_true rfl) dX1_story_3 (fun r_1 h => ?_)
  show X g 11 6 [(0, .ref h0), (1, .int p0), (2, .int p1)] [.int r_1] [(h0, .inr (0, [.ref lg, .ref e1, .ref e2, .ref e3, .ref rl, .int cur, .ref sh])), (rl, .inr (2, [.int lm, .ref rle, .int lz]))] 0 0
  refine x_if_ne (tgt := 12) G dX1_story_6 rfl (fun c => ?_) (fun c => ?_)
  · replace h := h.1 c
    refine x_aload_n G rfl dX1_story_12 0 rfl ?_
    refine x_get G in_X1 0 rfl rfl 4 (by decide) q163 (fun _ h => h) rfl dX1_story_13 ?_
    refine x_iload_n G rfl dX1_story_16 1 rfl ?_
    exact h.elim
  · replace h := h.2 c
    refine x_bipush (v := (-101 : Int32)) G dX1_story_9 (by decide) ?_
    exact x_reti0 G Q dX1_story_11 rfl  h XSub.rf (Nat.le_of_ble_eq_true rfl) (Nat.le_of_ble_eq_true rfl)
def wX1_story_J138 (tn : Nat) (tl : Nat → UInt64) (tr : Nat → UInt64) (ts : Nat → UInt64) (w1 : Nat → Int32) (p1 : Int32) (K : Int32 → (Nat → Int32) → Prop) : Prop := (wX1_lose p1 w1 tn tl tr ts (fun (w_9 : Nat → Int32) => (wX2_sign w_9 (fun (r_10 : Int32) => ((¬ r_10 = (0 : Int32) → (((0 : Int32) ≤ r_10 → K (4 : Int32) w_9) ∧ (¬ (0 : Int32) ≤ r_10 → K (3 : Int32) w_9))) ∧ (r_10 = (0 : Int32) → K (2 : Int32) w_9))))))
def wX1_story_J82 (tn : Nat) (tl : Nat → UInt64) (tr : Nat → UInt64) (ts : Nat → UInt64) (w1 : Nat → Int32) (p1 : Int32) (K : Int32 → (Nat → Int32) → Prop) : UInt64 → UInt64 → UInt64 → Prop := fun (v4_6 : UInt64) (v6_7 : UInt64) (v8_8 : UInt64) => (vf_n64 v8_8 ∧ (vf_n64 (FP.dmul (4611686018427387904 : UInt64) (mAbs v8_8)) ∧ (vf_n64 v4_6 ∧ (vf_n64 v6_7 ∧ (FP.dIsNaN (mAbs v4_6) = false ∧ (FP.dIsNaN (mAbs v6_7) = false ∧ ((¬ dle (FP.dmul (4611686018427387904 : UInt64) (mAbs v8_8)) (mMax (mAbs v4_6) (mAbs v6_7)) → (wX1_story_J138 tn tl tr ts w1 p1 K )) ∧ (dle (FP.dmul (4611686018427387904 : UInt64) (mAbs v8_8)) (mMax (mAbs v4_6) (mAbs v6_7)) → ((¬ dlt v4_6 FP.dconst0 → ((¬ dgt v4_6 FP.dconst0 → (wX1_story_J138 tn tl tr ts w1 p1 K )) ∧ (dgt v4_6 FP.dconst0 → ((¬ dlt v6_7 FP.dconst0 → (wX1_story_J138 tn tl tr ts w1 p1 K )) ∧ (dlt v6_7 FP.dconst0 → K (1 : Int32) w1))))) ∧ (dlt v4_6 FP.dconst0 → ((dgt v6_7 FP.dconst0 → K (1 : Int32) w1) ∧ (¬ dgt v6_7 FP.dconst0 → ((¬ dgt v4_6 FP.dconst0 → (wX1_story_J138 tn tl tr ts w1 p1 K )) ∧ (dgt v4_6 FP.dconst0 → ((¬ dlt v6_7 FP.dconst0 → (wX1_story_J138 tn tl tr ts w1 p1 K )) ∧ (dlt v6_7 FP.dconst0 → K (1 : Int32) w1))))))))))))))))
def wX1_story (p0 : Int32) (p1 : Int32) (lz : Int32) (lcap : Nat) (lef : Nat → Option Nat) (t0 : Nat) (tc : Int32) (tn : Nat) (tl : Nat → UInt64) (tr : Nat → UInt64) (ts : Nat → UInt64) (w1 : Nat → Int32) (K : Int32 → (Nat → Int32) → Prop) : Prop := (wX1_isStep p0 p1 lz lcap lef t0 tc (fun (r_1 : Int32) => ((¬ r_1 = (0 : Int32) → (wJ2_get p0 lz lcap lef (fun (r_2 : Option Nat) => (r_2 = some t0 ∧ (vp_in p1 tn ∧ (∀ r_3 : UInt64, r_3 = (tl p1.toNatClampNeg) → (vp_in p1 tn ∧ (∀ r_4 : UInt64, r_4 = (tr p1.toNatClampNeg) → (vp_in p1 tn ∧ (∀ r_5 : UInt64, r_5 = (ts p1.toNatClampNeg) → ((¬ deq r_5 r_3 → ((¬ deq r_5 r_4 → (wX1_story_J82 tn tl tr ts w1 p1 K r_3 r_4 r_5)) ∧ (deq r_5 r_4 → ((deq r_3 FP.dconst0 → (wX1_story_J82 tn tl tr ts w1 p1 K r_3 r_4 r_5)) ∧ (¬ deq r_3 FP.dconst0 → K (0 : Int32) w1))))) ∧ (deq r_5 r_3 → ((¬ deq r_4 FP.dconst0 → K (0 : Int32) w1) ∧ (deq r_4 FP.dconst0 → ((¬ deq r_5 r_4 → (wX1_story_J82 tn tl tr ts w1 p1 K r_3 r_4 r_5)) ∧ (deq r_5 r_4 → ((deq r_3 FP.dconst0 → (wX1_story_J82 tn tl tr ts w1 p1 K r_3 r_4 r_5)) ∧ (¬ deq r_3 FP.dconst0 → K (0 : Int32) w1)))))))))))))))))) ∧ (r_1 = (0 : Int32) → K (-101 : Int32) w1))))
set_option maxRecDepth 20000 in
theorem kX1_story_J138 {g : XG} {h0 : Nat} {lg : Nat} {e1 : Nat} {e2 : Nat} {e3 : Nat} {rl : Nat} {cur : Int32} {sh : Nat} {lm : Int32} {rle : Nat} {lz : Int32} {lcap : Nat} {lef : Nat → Option Nat} {t0 : Nat} {tw : Int32} {ty : Int32} {t0l : Nat} {t0r : Nat} {t0s : Nat} {tc : Int32} {tt : UInt64} {tn : Nat} {tl : Nat → UInt64} {tr : Nat → UInt64} {ts : Nat → UInt64} {e1w : Nat} {w1 : Nat → Int32} {p1 : Int32} {K : Int32 → (Nat → Int32) → Prop} (G : XO g RX1 cX1_story 11 5 0 0) (Q : XQi1 g FieldType.int 0 0 (fun (w1' : Nat → Int32) => [(h0, .inr (0, [.ref lg, .ref e1, .ref e2, .ref e3, .ref rl, .int cur, .ref sh])), (rl, .inr (2, [.int lm, .ref rle, .int lz])), (rle, .inl ((xT g) 8, lcap, .inr (.inr (.inr (.inr lef))))), (t0, .inr (7, [.int tw, .int ty, .ref t0l, .ref t0r, .ref t0s, .int tc, .double tt])), (t0l, .inl ((xT g) 5, tn, .inr (.inr (.inr (.inl tl))))), (t0r, .inl ((xT g) 5, tn, .inr (.inr (.inr (.inl tr))))), (t0s, .inl ((xT g) 5, tn, .inr (.inr (.inr (.inl ts))))), (e1, .inr (1, [.ref e1w])), (e1w, .inl ((xT g) 2, 40, .inl w1'))]) K) : wX1_story_J138 tn tl tr ts w1 p1 K  → X g 11 138 [(0, .ref h0), (2, .int p1), (3, .ref t0)] [] [(t0l, .inl ((xT g) 5, tn, .inr (.inr (.inr (.inl tl))))), (t0r, .inl ((xT g) 5, tn, .inr (.inr (.inr (.inl tr))))), (t0s, .inl ((xT g) 5, tn, .inr (.inr (.inr (.inl ts))))), (e1, .inr (1, [.ref e1w])), (e1w, .inl ((xT g) 2, 40, .inl w1)), (h0, .inr (0, [.ref lg, .ref e1, .ref e2, .ref e3, .ref rl, .int cur, .ref sh])), (t0, .inr (7, [.int tw, .int ty, .ref t0l, .ref t0r, .ref t0s, .int tc, .double tt])), (rl, .inr (2, [.int lm, .ref rle, .int lz])), (rle, .inl ((xT g) 8, lcap, .inr (.inr (.inr (.inr lef)))))] 0 0 := by
  intro  h
  unfold wX1_story_J138 at h
  refine x_aload_n G rfl dX1_story_138 0 rfl ?_
  refine x_aload_n G rfl dX1_story_139 0 rfl ?_
  refine x_get G in_X1 5 rfl rfl 1 (by decide) q160 (fun _ h => h) rfl dX1_story_140 ?_
  refine x_aload_n G rfl dX1_story_143 2 rfl ?_
  refine x_iload_n G rfl dX1_story_144 1 rfl ?_
  refine x_cVv1 (wc := [(e1, .inr (1, [.ref e1w])), (e1w, .inl ((xT g) 2, 40, .inl w1)), (t0, .inr (7, [.int tw, .int ty, .ref t0l, .ref t0r, .ref t0s, .int tc, .double tt])), (t0l, .inl ((xT g) 5, tn, .inr (.inr (.inr (.inl tl))))), (t0r, .inl ((xT g) 5, tn, .inr (.inr (.inr (.inl tr))))), (t0s, .inl ((xT g) 5, tn, .inr (.inr (.inr (.inl ts)))))]) (As := [.ref e1, .ref t0, .int p1]) (rest := []) G [(h0, .inr (0, [.ref lg, .ref e1, .ref e2, .ref e3, .ref rl, .int cur, .ref sh])), (rl, .inr (2, [.int lm, .ref rle, .int lz])), (rle, .inl ((xT g) 8, lcap, .inr (.inr (.inr (.inr lef)))))] (XSub.of [5, 7, 8, 3, 4, 6, 0, 1, 2] rfl (by decide)) (tX1_lose G.noTraces h) (lw_V q261 q263 qs2 q65 q264) cdX1_lose 0 5 rfl rfl rfl (by decide) (by decide) rfl (Nat.le_of_ble_eq_true rfl) (Nat.le_of_ble_eq_true rfl) (Nat.le_of_ble_eq_true rfl) dX1_story_145 (fun w_9 h => ?_)
  show X g 11 148 [(0, .ref h0), (2, .int p1), (3, .ref t0)] [] [(h0, .inr (0, [.ref lg, .ref e1, .ref e2, .ref e3, .ref rl, .int cur, .ref sh])), (rl, .inr (2, [.int lm, .ref rle, .int lz])), (rle, .inl ((xT g) 8, lcap, .inr (.inr (.inr (.inr lef))))), (e1, .inr (1, [.ref e1w])), (e1w, .inl ((xT g) 2, 40, .inl w_9)), (t0, .inr (7, [.int tw, .int ty, .ref t0l, .ref t0r, .ref t0s, .int tc, .double tt])), (t0l, .inl ((xT g) 5, tn, .inr (.inr (.inr (.inl tl))))), (t0r, .inl ((xT g) 5, tn, .inr (.inr (.inr (.inl tr))))), (t0s, .inl ((xT g) 5, tn, .inr (.inr (.inr (.inl ts)))))] 0 0
  refine x_aload_n G rfl dX1_story_148 0 rfl ?_
  refine x_get G in_X1 0 rfl rfl 1 (by decide) q160 (fun _ h => h) rfl dX1_story_149 ?_
  refine x_cVi0 (wc := [(e1, .inr (1, [.ref e1w])), (e1w, .inl ((xT g) 2, 40, .inl w_9))]) (As := []) (rest := []) G [(h0, .inr (0, [.ref lg, .ref e1, .ref e2, .ref e3, .ref rl, .int cur, .ref sh])), (rl, .inr (2, [.int lm, .ref rle, .int lz])), (rle, .inl ((xT g) 8, lcap, .inr (.inr (.inr (.inr lef))))), (t0, .inr (7, [.int tw, .int ty, .ref t0l, .ref t0r, .ref t0s, .int tc, .double tt])), (t0l, .inl ((xT g) 5, tn, .inr (.inr (.inr (.inl tl))))), (t0r, .inl ((xT g) 5, tn, .inr (.inr (.inr (.inl tr))))), (t0s, .inl ((xT g) 5, tn, .inr (.inr (.inr (.inl ts)))))] (XSub.of [0, 1, 2, 5, 6, 7, 8, 3, 4] rfl (by decide)) (tX2_sign G.noTraces h) (lw_V q332 q286 q287 q66 q288) cdX2_sign 1 3 rfl rfl rfl (by decide) (by decide) rfl (Nat.le_of_ble_eq_true rfl) (Nat.le_of_ble_eq_true rfl) (Nat.le_of_ble_eq_true rfl) dX1_story_152 (fun r_10 h => ?_)
  show X g 11 155 [(0, .ref h0), (2, .int p1), (3, .ref t0)] [.int r_10] [(h0, .inr (0, [.ref lg, .ref e1, .ref e2, .ref e3, .ref rl, .int cur, .ref sh])), (rl, .inr (2, [.int lm, .ref rle, .int lz])), (rle, .inl ((xT g) 8, lcap, .inr (.inr (.inr (.inr lef))))), (t0, .inr (7, [.int tw, .int ty, .ref t0l, .ref t0r, .ref t0s, .int tc, .double tt])), (t0l, .inl ((xT g) 5, tn, .inr (.inr (.inr (.inl tl))))), (t0r, .inl ((xT g) 5, tn, .inr (.inr (.inr (.inl tr))))), (t0s, .inl ((xT g) 5, tn, .inr (.inr (.inr (.inl ts))))), (e1, .inr (1, [.ref e1w])), (e1w, .inl ((xT g) 2, 40, .inl w_9))] 0 0
  refine x_istore (lv' := [(10, .int r_10), (0, .ref h0), (2, .int p1), (3, .ref t0)]) G dX1_story_155 (by decide) rfl ?_
  refine x_iload G dX1_story_157 0 rfl ?_
  refine x_if_ne (tgt := 166) G dX1_story_159 rfl (fun c => ?_) (fun c => ?_)
  · replace h := h.1 c
    refine x_iload G dX1_story_166 0 rfl ?_
    refine x_if_ge (tgt := 175) G dX1_story_168 rfl (fun c => ?_) (fun c => ?_)
    · replace h := h.1 c
      refine x_iconst (v := (4 : Int32)) G dX1_story_175 (by decide) ?_
      exact x_reti1 G Q dX1_story_176 rfl w_9 h XSub.rf (Nat.le_of_ble_eq_true rfl) (Nat.le_of_ble_eq_true rfl)
    · replace h := h.2 c
      refine x_iconst (v := (3 : Int32)) G dX1_story_171 (by decide) ?_
      refine x_goto (tgt := 176) G dX1_story_172 rfl ?_
      exact x_reti1 G Q dX1_story_176 rfl w_9 h XSub.rf (Nat.le_of_ble_eq_true rfl) (Nat.le_of_ble_eq_true rfl)
  · replace h := h.2 c
    refine x_iconst (v := (2 : Int32)) G dX1_story_162 (by decide) ?_
    refine x_goto (tgt := 176) G dX1_story_163 rfl ?_
    exact x_reti1 G Q dX1_story_176 rfl w_9 h XSub.rf (Nat.le_of_ble_eq_true rfl) (Nat.le_of_ble_eq_true rfl)
set_option maxRecDepth 20000 in
theorem kX1_story_J82 {g : XG} {h0 : Nat} {lg : Nat} {e1 : Nat} {e2 : Nat} {e3 : Nat} {rl : Nat} {cur : Int32} {sh : Nat} {lm : Int32} {rle : Nat} {lz : Int32} {lcap : Nat} {lef : Nat → Option Nat} {t0 : Nat} {tw : Int32} {ty : Int32} {t0l : Nat} {t0r : Nat} {t0s : Nat} {tc : Int32} {tt : UInt64} {tn : Nat} {tl : Nat → UInt64} {tr : Nat → UInt64} {ts : Nat → UInt64} {e1w : Nat} {w1 : Nat → Int32} {p1 : Int32} {K : Int32 → (Nat → Int32) → Prop} (G : XO g RX1 cX1_story 11 5 0 0) (Q : XQi1 g FieldType.int 0 0 (fun (w1' : Nat → Int32) => [(h0, .inr (0, [.ref lg, .ref e1, .ref e2, .ref e3, .ref rl, .int cur, .ref sh])), (rl, .inr (2, [.int lm, .ref rle, .int lz])), (rle, .inl ((xT g) 8, lcap, .inr (.inr (.inr (.inr lef))))), (t0, .inr (7, [.int tw, .int ty, .ref t0l, .ref t0r, .ref t0s, .int tc, .double tt])), (t0l, .inl ((xT g) 5, tn, .inr (.inr (.inr (.inl tl))))), (t0r, .inl ((xT g) 5, tn, .inr (.inr (.inr (.inl tr))))), (t0s, .inl ((xT g) 5, tn, .inr (.inr (.inr (.inl ts))))), (e1, .inr (1, [.ref e1w])), (e1w, .inl ((xT g) 2, 40, .inl w1'))]) K) : ∀ (v4_6 : UInt64) (v6_7 : UInt64) (v8_8 : UInt64), wX1_story_J82 tn tl tr ts w1 p1 K v4_6 v6_7 v8_8 → X g 11 82 [(0, .ref h0), (2, .int p1), (3, .ref t0), (4, .double v4_6), (6, .double v6_7), (8, .double v8_8)] [] [(t0l, .inl ((xT g) 5, tn, .inr (.inr (.inr (.inl tl))))), (t0r, .inl ((xT g) 5, tn, .inr (.inr (.inr (.inl tr))))), (t0s, .inl ((xT g) 5, tn, .inr (.inr (.inr (.inl ts))))), (e1, .inr (1, [.ref e1w])), (e1w, .inl ((xT g) 2, 40, .inl w1)), (h0, .inr (0, [.ref lg, .ref e1, .ref e2, .ref e3, .ref rl, .int cur, .ref sh])), (t0, .inr (7, [.int tw, .int ty, .ref t0l, .ref t0r, .ref t0s, .int tc, .double tt])), (rl, .inr (2, [.int lm, .ref rle, .int lz])), (rle, .inl ((xT g) 8, lcap, .inr (.inr (.inr (.inr lef)))))] 0 0 := by
  intro v4_6 v6_7 v8_8 h
  unfold wX1_story_J82 at h
  refine x_ldc2d G q320 dX1_story_82 ?_
  refine x_dload G dX1_story_85 5 rfl ?_
  obtain ⟨hz0, h⟩ := h
  refine x_ovD1 G q321 q322 q85 q323 rfl rfl rmAbs_row (rmAbs_run hz0) (by decide) (Nat.le_of_ble_eq_true rfl) dX1_story_87 ?_
  obtain ⟨hz, h⟩ := h
  refine x_dmul G dX1_story_90 hz ?_
  refine x_dload G dX1_story_91 3 rfl ?_
  obtain ⟨hz0, h⟩ := h
  refine x_ovD1 G q321 q322 q85 q323 rfl rfl rmAbs_row (rmAbs_run hz0) (by decide) (Nat.le_of_ble_eq_true rfl) dX1_story_93 ?_
  refine x_dload G dX1_story_96 4 rfl ?_
  obtain ⟨hz0, h⟩ := h
  refine x_ovD1 G q321 q322 q85 q323 rfl rfl rmAbs_row (rmAbs_run hz0) (by decide) (Nat.le_of_ble_eq_true rfl) dX1_story_98 ?_
  obtain ⟨hz0, hz1, h⟩ := h
  refine x_ovD2 G q327 q328 q85 q329 rfl rfl rmMax_row (rmMax_run hz0 hz1) (by decide) (Nat.le_of_ble_eq_true rfl) dX1_story_101 ?_
  refine x_dcmpg_gt (tgt := 138) G dX1_story_104 dX1_story_105 rfl (fun c => ?_) (fun c => ?_)
  · replace h := h.1 c
    refine x_lv (lv' := [(0, .ref h0), (2, .int p1), (3, .ref t0)]) [0, 1, 2] rfl ?_
    refine kX1_story_J138 G Q   h
  · replace h := h.2 c
    refine x_dload G dX1_story_108 3 rfl ?_
    refine x_dconst0 G dX1_story_110 ?_
    refine x_dcmpg_ge (tgt := 122) G dX1_story_111 dX1_story_112 rfl (fun c => ?_) (fun c => ?_)
    · replace h := h.1 c
      refine x_dload G dX1_story_122 3 rfl ?_
      refine x_dconst0 G dX1_story_124 ?_
      refine x_dcmpl_le (tgt := 138) G dX1_story_125 dX1_story_126 rfl (fun c => ?_) (fun c => ?_)
      · replace h := h.1 c
        refine x_lv (lv' := [(0, .ref h0), (2, .int p1), (3, .ref t0)]) [0, 1, 2] rfl ?_
        refine kX1_story_J138 G Q   h
      · replace h := h.2 c
        refine x_dload G dX1_story_129 4 rfl ?_
        refine x_dconst0 G dX1_story_131 ?_
        refine x_dcmpg_ge (tgt := 138) G dX1_story_132 dX1_story_133 rfl (fun c => ?_) (fun c => ?_)
        · replace h := h.1 c
          refine x_lv (lv' := [(0, .ref h0), (2, .int p1), (3, .ref t0)]) [0, 1, 2] rfl ?_
          refine kX1_story_J138 G Q   h
        · replace h := h.2 c
          refine x_iconst (v := (1 : Int32)) G dX1_story_136 (by decide) ?_
          exact x_reti1 G Q dX1_story_137 rfl w1 h (XSub.of [5, 7, 8, 6, 0, 1, 2, 3, 4] rfl (by decide)) (Nat.le_of_ble_eq_true rfl) (Nat.le_of_ble_eq_true rfl)
    · replace h := h.2 c
      refine x_dload G dX1_story_115 4 rfl ?_
      refine x_dconst0 G dX1_story_117 ?_
      refine x_dcmpl_gt (tgt := 136) G dX1_story_118 dX1_story_119 rfl (fun c => ?_) (fun c => ?_)
      · replace h := h.1 c
        refine x_iconst (v := (1 : Int32)) G dX1_story_136 (by decide) ?_
        exact x_reti1 G Q dX1_story_137 rfl w1 h (XSub.of [5, 7, 8, 6, 0, 1, 2, 3, 4] rfl (by decide)) (Nat.le_of_ble_eq_true rfl) (Nat.le_of_ble_eq_true rfl)
      · replace h := h.2 c
        refine x_dload G dX1_story_122 3 rfl ?_
        refine x_dconst0 G dX1_story_124 ?_
        refine x_dcmpl_le (tgt := 138) G dX1_story_125 dX1_story_126 rfl (fun c => ?_) (fun c => ?_)
        · replace h := h.1 c
          refine x_lv (lv' := [(0, .ref h0), (2, .int p1), (3, .ref t0)]) [0, 1, 2] rfl ?_
          refine kX1_story_J138 G Q   h
        · replace h := h.2 c
          refine x_dload G dX1_story_129 4 rfl ?_
          refine x_dconst0 G dX1_story_131 ?_
          refine x_dcmpg_ge (tgt := 138) G dX1_story_132 dX1_story_133 rfl (fun c => ?_) (fun c => ?_)
          · replace h := h.1 c
            refine x_lv (lv' := [(0, .ref h0), (2, .int p1), (3, .ref t0)]) [0, 1, 2] rfl ?_
            refine kX1_story_J138 G Q   h
          · replace h := h.2 c
            refine x_iconst (v := (1 : Int32)) G dX1_story_136 (by decide) ?_
            exact x_reti1 G Q dX1_story_137 rfl w1 h (XSub.of [5, 7, 8, 6, 0, 1, 2, 3, 4] rfl (by decide)) (Nat.le_of_ble_eq_true rfl) (Nat.le_of_ble_eq_true rfl)
set_option maxRecDepth 20000 in
theorem tX1_story {l : Launch} {D : va_G} {ta : Nat → ClassId} {h0 : Nat} {lg : Nat} {e1 : Nat} {e2 : Nat} {e3 : Nat} {rl : Nat} {cur : Int32} {sh : Nat} {lm : Int32} {rle : Nat} {lz : Int32} {lcap : Nat} {lef : Nat → Option Nat} {t0 : Nat} {tw : Int32} {ty : Int32} {t0l : Nat} {t0r : Nat} {t0s : Nat} {tc : Int32} {tt : UInt64} {tn : Nat} {tl : Nat → UInt64} {tr : Nat → UInt64} {ts : Nat → UInt64} {e1w : Nat} {w1 : Nat → Int32} {p0 : Int32} {p1 : Int32} {K : Int32 → (Nat → Int32) → Prop} (hlt : l.stackTraces = false) (h : wX1_story p0 p1 lz lcap lef t0 tc tn tl tr ts w1 K) : SMi1 l D ta yX1_story cX1_story 11 FieldType.int 5 [.ref h0, .int p0, .int p1] [(h0, .inr (0, [.ref lg, .ref e1, .ref e2, .ref e3, .ref rl, .int cur, .ref sh])), (rl, .inr (2, [.int lm, .ref rle, .int lz])), (rle, .inl (ta 8, lcap, .inr (.inr (.inr (.inr lef))))), (t0, .inr (7, [.int tw, .int ty, .ref t0l, .ref t0r, .ref t0s, .int tc, .double tt])), (t0l, .inl (ta 5, tn, .inr (.inr (.inr (.inl tl))))), (t0r, .inl (ta 5, tn, .inr (.inr (.inr (.inl tr))))), (t0s, .inl (ta 5, tn, .inr (.inr (.inr (.inl ts))))), (e1, .inr (1, [.ref e1w])), (e1w, .inl (ta 2, 40, .inl w1))] (fun (w1' : Nat → Int32) => [(h0, .inr (0, [.ref lg, .ref e1, .ref e2, .ref e3, .ref rl, .int cur, .ref sh])), (rl, .inr (2, [.int lm, .ref rle, .int lz])), (rle, .inl (ta 8, lcap, .inr (.inr (.inr (.inr lef))))), (t0, .inr (7, [.int tw, .int ty, .ref t0l, .ref t0r, .ref t0s, .int tc, .double tt])), (t0l, .inl (ta 5, tn, .inr (.inr (.inr (.inl tl))))), (t0r, .inl (ta 5, tn, .inr (.inr (.inr (.inl tr))))), (t0s, .inl (ta 5, tn, .inr (.inr (.inr (.inl ts))))), (e1, .inr (1, [.ref e1w])), (e1w, .inl (ta 2, 40, .inl w1'))]) 0 0 K := by
  refine x_sti1 hlt (plainFor_of_name (by decide +kernel)) (Nat.le_of_ble_eq_true rfl) (fun g G hl hD hT Q => ?_)
  subst hl; subst hD; subst hT
  unfold wX1_story at h
  show X g 11 0 [(0, .ref h0), (1, .int p0), (2, .int p1)] [] [(h0, .inr (0, [.ref lg, .ref e1, .ref e2, .ref e3, .ref rl, .int cur, .ref sh])), (rl, .inr (2, [.int lm, .ref rle, .int lz])), (rle, .inl ((xT g) 8, lcap, .inr (.inr (.inr (.inr lef))))), (t0, .inr (7, [.int tw, .int ty, .ref t0l, .ref t0r, .ref t0s, .int tc, .double tt])), (t0l, .inl ((xT g) 5, tn, .inr (.inr (.inr (.inl tl))))), (t0r, .inl ((xT g) 5, tn, .inr (.inr (.inr (.inl tr))))), (t0s, .inl ((xT g) 5, tn, .inr (.inr (.inr (.inl ts))))), (e1, .inr (1, [.ref e1w])), (e1w, .inl ((xT g) 2, 40, .inl w1))] 0 0
  refine x_aload_n G rfl dX1_story_0 0 rfl ?_
  refine x_iload_n G rfl dX1_story_1 1 rfl ?_
  refine x_iload_n G rfl dX1_story_2 2 rfl ?_
  refine x_cVi0 (wc := [(h0, .inr (0, [.ref lg, .ref e1, .ref e2, .ref e3, .ref rl, .int cur, .ref sh])), (rl, .inr (2, [.int lm, .ref rle, .int lz])), (rle, .inl ((xT g) 8, lcap, .inr (.inr (.inr (.inr lef))))), (t0, .inr (7, [.int tw, .int ty, .ref t0l, .ref t0r, .ref t0s, .int tc, .double tt]))]) (As := [.int p0, .int p1]) (rest := []) G [(t0l, .inl ((xT g) 5, tn, .inr (.inr (.inr (.inl tl))))), (t0r, .inl ((xT g) 5, tn, .inr (.inr (.inr (.inl tr))))), (t0s, .inl ((xT g) 5, tn, .inr (.inr (.inr (.inl ts))))), (e1, .inr (1, [.ref e1w])), (e1w, .inl ((xT g) 2, 40, .inl w1))] (XSub.of [4, 5, 6, 7, 8, 0, 1, 2, 3] rfl (by decide)) (tX1_isStep G.noTraces h) (lw_V q255 q257 qs1 q65 q258) cdX1_isStep 0 0 rfl rfl rfl (by decide) (by decide) rfl (Nat.le_of_ble_eq_true rfl) (Nat.le_of_ble_eq_true rfl) (Nat.le_of_ble_eq_true rfl) dX1_story_3 (fun r_1 h => ?_)
  show X g 11 6 [(0, .ref h0), (1, .int p0), (2, .int p1)] [.int r_1] [(t0l, .inl ((xT g) 5, tn, .inr (.inr (.inr (.inl tl))))), (t0r, .inl ((xT g) 5, tn, .inr (.inr (.inr (.inl tr))))), (t0s, .inl ((xT g) 5, tn, .inr (.inr (.inr (.inl ts))))), (e1, .inr (1, [.ref e1w])), (e1w, .inl ((xT g) 2, 40, .inl w1)), (h0, .inr (0, [.ref lg, .ref e1, .ref e2, .ref e3, .ref rl, .int cur, .ref sh])), (rl, .inr (2, [.int lm, .ref rle, .int lz])), (rle, .inl ((xT g) 8, lcap, .inr (.inr (.inr (.inr lef))))), (t0, .inr (7, [.int tw, .int ty, .ref t0l, .ref t0r, .ref t0s, .int tc, .double tt]))] 0 0
  refine x_if_ne (tgt := 12) G dX1_story_6 rfl (fun c => ?_) (fun c => ?_)
  · replace h := h.1 c
    refine x_aload_n G rfl dX1_story_12 0 rfl ?_
    refine x_get G in_X1 5 rfl rfl 4 (by decide) q163 (fun _ h => h) rfl dX1_story_13 ?_
    refine x_iload_n G rfl dX1_story_16 1 rfl ?_
    refine x_cFq0 (C := "java/util/ArrayList") (x := ⟨"java/util/List", "get", "(I)Ljava/lang/Object;"⟩) (wc := [(rl, .inr (2, [.int lm, .ref rle, .int lz])), (rle, .inl ((xT g) 8, lcap, .inr (.inr (.inr (.inr lef)))))]) (As := [.int p0]) (rest := []) G [(t0l, .inl ((xT g) 5, tn, .inr (.inr (.inr (.inl tl))))), (t0r, .inl ((xT g) 5, tn, .inr (.inr (.inr (.inl tr))))), (t0s, .inl ((xT g) 5, tn, .inr (.inr (.inr (.inl ts))))), (e1, .inr (1, [.ref e1w])), (e1w, .inl ((xT g) 2, 40, .inl w1)), (h0, .inr (0, [.ref lg, .ref e1, .ref e2, .ref e3, .ref rl, .int cur, .ref sh])), (t0, .inr (7, [.int tw, .int ty, .ref t0l, .ref t0r, .ref t0s, .int tc, .double tt]))] (XSub.of [0, 1, 2, 3, 4, 5, 8, 6, 7] rfl (by decide)) (tJ2_get G.noTraces h) q203 q206 q208 q69 q210 (by decide) (show ("java/util/List" : String) ≠ "java/lang/invoke/MethodHandle" ∧ ("java/util/List" : String) ≠ "java/lang/invoke/VarHandle" ∧ (parseMethodDescriptor "(I)Ljava/lang/Object;").map (fun d => d.parameters.length) = some 1 from by decide +kernel) 2 6 rfl rfl rfl (by decide) (by decide) rfl (Nat.le_of_ble_eq_true rfl) (Nat.le_of_ble_eq_true rfl) (Nat.le_of_ble_eq_true rfl) dX1_story_17 (fun r_2 h => ?_)
    obtain ⟨hq, h⟩ := h
    subst hq
    show X g 11 22 [(0, .ref h0), (1, .int p0), (2, .int p1)] [.ref t0] [(t0l, .inl ((xT g) 5, tn, .inr (.inr (.inr (.inl tl))))), (t0r, .inl ((xT g) 5, tn, .inr (.inr (.inr (.inl tr))))), (t0s, .inl ((xT g) 5, tn, .inr (.inr (.inr (.inl ts))))), (e1, .inr (1, [.ref e1w])), (e1w, .inl ((xT g) 2, 40, .inl w1)), (h0, .inr (0, [.ref lg, .ref e1, .ref e2, .ref e3, .ref rl, .int cur, .ref sh])), (t0, .inr (7, [.int tw, .int ty, .ref t0l, .ref t0r, .ref t0s, .int tc, .double tt])), (rl, .inr (2, [.int lm, .ref rle, .int lz])), (rle, .inl ((xT g) 8, lcap, .inr (.inr (.inr (.inr lef)))))] 0 0
    refine x_castS (q := (RX8, TX8, 7)) G q221 6 rfl rfl dX1_story_22 ?_
    refine x_astore_n (lv' := [(3, .ref t0), (0, .ref h0), (1, .int p0), (2, .int p1)]) G rfl dX1_story_25 (by decide) rfl ?_
    refine x_aload_n G rfl dX1_story_26 0 rfl ?_
    refine x_getN (host := "RoundingAuditor") G in_X8 6 rfl rfl 2 (by decide) (by decide) (fun _ h => h) rfl dX1_story_27 ?_
    refine x_iload_n G rfl dX1_story_30 3 rfl ?_
    obtain ⟨hz, h⟩ := h
    refine x_dald G 0 rfl hz dX1_story_31 ?_
    refine x_topd (fun r_3 er_3 => ?_)
    replace h := h r_3 er_3
    refine x_dstore (lv' := [(4, .double r_3), (3, .ref t0), (0, .ref h0), (1, .int p0), (2, .int p1)]) G dX1_story_32 (by decide) rfl ?_
    refine x_aload_n G rfl dX1_story_34 1 rfl ?_
    refine x_getN (host := "RoundingAuditor") G in_X8 6 rfl rfl 3 (by decide) (by decide) (fun _ h => h) rfl dX1_story_35 ?_
    refine x_iload_n G rfl dX1_story_38 4 rfl ?_
    obtain ⟨hz, h⟩ := h
    refine x_dald G 1 rfl hz dX1_story_39 ?_
    refine x_topd (fun r_4 er_4 => ?_)
    replace h := h r_4 er_4
    refine x_dstore (lv' := [(6, .double r_4), (4, .double r_3), (3, .ref t0), (0, .ref h0), (1, .int p0), (2, .int p1)]) G dX1_story_40 (by decide) rfl ?_
    refine x_aload_n G rfl dX1_story_42 2 rfl ?_
    refine x_getN (host := "RoundingAuditor") G in_X8 6 rfl rfl 4 (by decide) (by decide) (fun _ h => h) rfl dX1_story_43 ?_
    refine x_iload_n G rfl dX1_story_46 5 rfl ?_
    obtain ⟨hz, h⟩ := h
    refine x_dald G 2 rfl hz dX1_story_47 ?_
    refine x_topd (fun r_5 er_5 => ?_)
    replace h := h r_5 er_5
    refine x_dstore (lv' := [(8, .double r_5), (6, .double r_4), (4, .double r_3), (3, .ref t0), (0, .ref h0), (1, .int p0), (2, .int p1)]) G dX1_story_48 (by decide) rfl ?_
    refine x_dload G dX1_story_50 0 rfl ?_
    refine x_dload G dX1_story_52 2 rfl ?_
    refine x_dcmpl_ne (tgt := 65) G dX1_story_54 dX1_story_55 rfl (fun c => ?_) (fun c => ?_)
    · replace h := h.1 c
      refine x_dload G dX1_story_65 0 rfl ?_
      refine x_dload G dX1_story_67 1 rfl ?_
      refine x_dcmpl_ne (tgt := 82) G dX1_story_69 dX1_story_70 rfl (fun c => ?_) (fun c => ?_)
      · replace h := h.1 c
        refine x_lv (lv' := [(0, .ref h0), (2, .int p1), (3, .ref t0), (4, .double r_3), (6, .double r_4), (8, .double r_5)]) [4, 6, 3, 2, 1, 0] rfl ?_
        refine kX1_story_J82 G Q  _ _ _ h
      · replace h := h.2 c
        refine x_dload G dX1_story_73 2 rfl ?_
        refine x_dconst0 G dX1_story_75 ?_
        refine x_dcmpl_eq (tgt := 82) G dX1_story_76 dX1_story_77 rfl (fun c => ?_) (fun c => ?_)
        · replace h := h.1 c
          refine x_lv (lv' := [(0, .ref h0), (2, .int p1), (3, .ref t0), (4, .double r_3), (6, .double r_4), (8, .double r_5)]) [4, 6, 3, 2, 1, 0] rfl ?_
          refine kX1_story_J82 G Q  _ _ _ h
        · replace h := h.2 c
          refine x_iconst (v := (0 : Int32)) G dX1_story_80 (by decide) ?_
          exact x_reti1 G Q dX1_story_81 rfl w1 h (XSub.of [5, 7, 8, 6, 0, 1, 2, 3, 4] rfl (by decide)) (Nat.le_of_ble_eq_true rfl) (Nat.le_of_ble_eq_true rfl)
    · replace h := h.2 c
      refine x_dload G dX1_story_58 1 rfl ?_
      refine x_dconst0 G dX1_story_60 ?_
      refine x_dcmpl_ne (tgt := 80) G dX1_story_61 dX1_story_62 rfl (fun c => ?_) (fun c => ?_)
      · replace h := h.1 c
        refine x_iconst (v := (0 : Int32)) G dX1_story_80 (by decide) ?_
        exact x_reti1 G Q dX1_story_81 rfl w1 h (XSub.of [5, 7, 8, 6, 0, 1, 2, 3, 4] rfl (by decide)) (Nat.le_of_ble_eq_true rfl) (Nat.le_of_ble_eq_true rfl)
      · replace h := h.2 c
        refine x_dload G dX1_story_65 0 rfl ?_
        refine x_dload G dX1_story_67 1 rfl ?_
        refine x_dcmpl_ne (tgt := 82) G dX1_story_69 dX1_story_70 rfl (fun c => ?_) (fun c => ?_)
        · replace h := h.1 c
          refine x_lv (lv' := [(0, .ref h0), (2, .int p1), (3, .ref t0), (4, .double r_3), (6, .double r_4), (8, .double r_5)]) [4, 6, 3, 2, 1, 0] rfl ?_
          refine kX1_story_J82 G Q  _ _ _ h
        · replace h := h.2 c
          refine x_dload G dX1_story_73 2 rfl ?_
          refine x_dconst0 G dX1_story_75 ?_
          refine x_dcmpl_eq (tgt := 82) G dX1_story_76 dX1_story_77 rfl (fun c => ?_) (fun c => ?_)
          · replace h := h.1 c
            refine x_lv (lv' := [(0, .ref h0), (2, .int p1), (3, .ref t0), (4, .double r_3), (6, .double r_4), (8, .double r_5)]) [4, 6, 3, 2, 1, 0] rfl ?_
            refine kX1_story_J82 G Q  _ _ _ h
          · replace h := h.2 c
            refine x_iconst (v := (0 : Int32)) G dX1_story_80 (by decide) ?_
            exact x_reti1 G Q dX1_story_81 rfl w1 h (XSub.of [5, 7, 8, 6, 0, 1, 2, 3, 4] rfl (by decide)) (Nat.le_of_ble_eq_true rfl) (Nat.le_of_ble_eq_true rfl)
  · replace h := h.2 c
    refine x_bipush (v := (-101 : Int32)) G dX1_story_9 (by decide) ?_
    exact x_reti1 G Q dX1_story_11 rfl w1 h (XSub.of [5, 6, 7, 8, 0, 1, 2, 3, 4] rfl (by decide)) (Nat.le_of_ble_eq_true rfl) (Nat.le_of_ble_eq_true rfl)
theorem cdX1_worst : yX1_worst.cls = RX1 ∧ yX1_worst.cls ≠ "java/lang/invoke/MethodHandle" ∧ yX1_worst.cls ≠ "java/lang/invoke/VarHandle" ∧ (parseMethodDescriptor yX1_worst.desc).map (fun d => d.parameters.length) = some 1 := by decide +kernel
def wX1_worst_N (p0 : Int32) (lz : Int32) (K : Int32 → Prop) : Prop := (wX1_isRun p0 lz (fun (r_1 : Int32) => ((¬ r_1 = (0 : Int32) → False) ∧ (r_1 = (0 : Int32) → K (-101 : Int32)))))
set_option maxRecDepth 20000 in
theorem tX1_worst_N {l : Launch} {D : va_G} {ta : Nat → ClassId} {h0 : Nat} {lg : Nat} {e1 : Nat} {e2 : Nat} {e3 : Nat} {rl : Nat} {cur : Int32} {sh : Nat} {lm : Int32} {rle : Nat} {lz : Int32} {p0 : Int32} {K : Int32 → Prop} (hlt : l.stackTraces = false) (h : wX1_worst_N p0 lz K) : SMi0 l D ta yX1_worst cX1_worst 5 FieldType.int 5 [.ref h0, .int p0] [(h0, .inr (0, [.ref lg, .ref e1, .ref e2, .ref e3, .ref rl, .int cur, .ref sh])), (rl, .inr (2, [.int lm, .ref rle, .int lz]))] ([(h0, .inr (0, [.ref lg, .ref e1, .ref e2, .ref e3, .ref rl, .int cur, .ref sh])), (rl, .inr (2, [.int lm, .ref rle, .int lz]))]) 0 0 K := by
  refine x_sti0 hlt (plainFor_of_name (by decide +kernel)) (Nat.le_of_ble_eq_true rfl) (fun g G hl hD hT Q => ?_)
  subst hl; subst hD; subst hT
  unfold wX1_worst_N at h
  show X g 5 0 [(0, .ref h0), (1, .int p0)] [] [(h0, .inr (0, [.ref lg, .ref e1, .ref e2, .ref e3, .ref rl, .int cur, .ref sh])), (rl, .inr (2, [.int lm, .ref rle, .int lz]))] 0 0
  refine x_aload_n G rfl dX1_worst_0 0 rfl ?_
  refine x_iload_n G rfl dX1_worst_1 1 rfl ?_
  refine x_cVi0 (wc := [(h0, .inr (0, [.ref lg, .ref e1, .ref e2, .ref e3, .ref rl, .int cur, .ref sh])), (rl, .inr (2, [.int lm, .ref rle, .int lz]))]) (As := [.int p0]) (rest := []) G [] (XSub.of [0, 1] rfl (by decide)) (tX1_isRun G.noTraces h) (lw_V q185 q187 qs0 q65 q188) cdX1_isRun 0 0 rfl rfl rfl (by decide) (by decide) rfl (Nat.le_of_ble_eq_true rfl) (Nat.le_of_ble_eq_true rfl) (Nat.le_of_ble_eq_true rfl) dX1_worst_2 (fun r_1 h => ?_)
  show X g 5 5 [(0, .ref h0), (1, .int p0)] [.int r_1] [(h0, .inr (0, [.ref lg, .ref e1, .ref e2, .ref e3, .ref rl, .int cur, .ref sh])), (rl, .inr (2, [.int lm, .ref rle, .int lz]))] 0 0
  refine x_if_ne (tgt := 11) G dX1_worst_5 rfl (fun c => ?_) (fun c => ?_)
  · replace h := h.1 c
    refine x_aload_n G rfl dX1_worst_11 0 rfl ?_
    refine x_get G in_X1 0 rfl rfl 4 (by decide) q163 (fun _ h => h) rfl dX1_worst_12 ?_
    refine x_iload_n G rfl dX1_worst_15 1 rfl ?_
    exact h.elim
  · replace h := h.2 c
    refine x_bipush (v := (-101 : Int32)) G dX1_worst_8 (by decide) ?_
    exact x_reti0 G Q dX1_worst_10 rfl  h XSub.rf (Nat.le_of_ble_eq_true rfl) (Nat.le_of_ble_eq_true rfl)
def wX1_worst_J74 (v3_4 : Int32) (v4_5 : Int32) (w2_7 : Nat → Int32) (X37 : Int32 → Int32 → (Nat → Int32) → (Nat → Int32) → Prop) : (Nat → Int32) → Prop := fun (w1_10 : Nat → Int32) => (wX2_compare w1_10 w2_7 (fun (r_11 : Int32) => ((r_11 ≤ (0 : Int32) → (∀ x_12 : Int32, x_12 = (v4_5 + (1 : Int32)) → X37 v3_4 x_12 w1_10 w2_7)) ∧ (¬ r_11 ≤ (0 : Int32) → (wX2_set w2_7 w1_10 (fun (w_13 : Nat → Int32) => (∀ x_14 : Int32, x_14 = (v4_5 + (1 : Int32)) → X37 v4_5 x_14 w1_10 w_13)))))))
def wX1_worst_L37 (tc : Int32) (tn : Nat) (tl : Nat → UInt64) (tr : Nat → UInt64) (ts : Nat → UInt64) (X108 : Int32 → Int32 → (Nat → Int32) → (Nat → Int32) → Prop) : Nat → Int32 → Int32 → (Nat → Int32) → (Nat → Int32) → Prop
  | 0, _, _, _, _ => False
  | n + 1, v3_4, v4_5, w1_6, w2_7 => ((tc ≤ v4_5 → X108 v3_4 v4_5 w1_6 w2_7) ∧ (¬ tc ≤ v4_5 → (wX1_lose v4_5 w1_6 tn tl tr ts (fun (w_8 : Nat → Int32) => (wX2_sign w_8 (fun (r_9 : Int32) => (((0 : Int32) ≤ r_9 → (wX1_worst_J74 v3_4 v4_5 w2_7 (wX1_worst_L37 tc tn tl tr ts X108 n) w_8)) ∧ (¬ (0 : Int32) ≤ r_9 → (wX2_negate w_8 (fun (w_19 : Nat → Int32) => (wX1_worst_J74 v3_4 v4_5 w2_7 (wX1_worst_L37 tc tn tl tr ts X108 n) w_19)))))))))))
def wX1_worst (p0 : Int32) (lz : Int32) (lcap : Nat) (lef : Nat → Option Nat) (t0 : Nat) (tc : Int32) (tn : Nat) (tl : Nat → UInt64) (tr : Nat → UInt64) (ts : Nat → UInt64) (w1 : Nat → Int32) (w2 : Nat → Int32) (K : Int32 → (Nat → Int32) → (Nat → Int32) → Prop) : Prop := (wX1_isRun p0 lz (fun (r_1 : Int32) => ((¬ r_1 = (0 : Int32) → (wJ2_get p0 lz lcap lef (fun (r_2 : Option Nat) => (r_2 = some t0 ∧ (wX2_clear w2 (fun (w_3 : Nat → Int32) => (∃ m37 : Nat, wX1_worst_L37 tc tn tl tr ts (fun (v3_24 : Int32) (v4_25 : Int32) (w1_26 : Nat → Int32) (w2_27 : Nat → Int32) => K v3_24 w1_26 w2_27) m37 (-1 : Int32) (0 : Int32) w1 w_3))))))) ∧ (r_1 = (0 : Int32) → K (-101 : Int32) w1 w2))))
set_option maxRecDepth 20000 in
theorem kX1_worst_J74 {g : XG} {h0 : Nat} {lg : Nat} {e1 : Nat} {e2 : Nat} {e3 : Nat} {rl : Nat} {cur : Int32} {sh : Nat} {lm : Int32} {rle : Nat} {lz : Int32} {lcap : Nat} {lef : Nat → Option Nat} {t0 : Nat} {tw : Int32} {ty : Int32} {t0l : Nat} {t0r : Nat} {t0s : Nat} {tc : Int32} {tt : UInt64} {tn : Nat} {tl : Nat → UInt64} {tr : Nat → UInt64} {ts : Nat → UInt64} {e1w : Nat} {e2w : Nat} {p0 : Int32} {v3_4 : Int32} {v4_5 : Int32} {w2_7 : Nat → Int32} {X37 : Int32 → Int32 → (Nat → Int32) → (Nat → Int32) → Prop} (G : XO g RX1 cX1_worst 5 5 0 0) (hX37 : ∀ (v3_15 : Int32) (v4_16 : Int32) (w1_17 : Nat → Int32) (w2_18 : Nat → Int32), X37 v3_15 v4_16 w1_17 w2_18 → X g 5 37 [(4, .int v4_16), (3, .int v3_15), (2, .ref t0), (0, .ref h0), (1, .int p0)] [] [(t0, .inr (7, [.int tw, .int ty, .ref t0l, .ref t0r, .ref t0s, .int tc, .double tt])), (t0l, .inl ((xT g) 5, tn, .inr (.inr (.inr (.inl tl))))), (t0r, .inl ((xT g) 5, tn, .inr (.inr (.inr (.inl tr))))), (t0s, .inl ((xT g) 5, tn, .inr (.inr (.inr (.inl ts))))), (e1, .inr (1, [.ref e1w])), (e1w, .inl ((xT g) 2, 40, .inl w1_17)), (h0, .inr (0, [.ref lg, .ref e1, .ref e2, .ref e3, .ref rl, .int cur, .ref sh])), (rl, .inr (2, [.int lm, .ref rle, .int lz])), (rle, .inl ((xT g) 8, lcap, .inr (.inr (.inr (.inr lef))))), (e2, .inr (1, [.ref e2w])), (e2w, .inl ((xT g) 2, 40, .inl w2_18))] 0 0) : ∀ (w1_10 : Nat → Int32), wX1_worst_J74 v3_4 v4_5 w2_7 X37 w1_10 → X g 5 74 [(0, .ref h0), (1, .int p0), (2, .ref t0), (3, .int v3_4), (4, .int v4_5)] [] [(h0, .inr (0, [.ref lg, .ref e1, .ref e2, .ref e3, .ref rl, .int cur, .ref sh])), (rl, .inr (2, [.int lm, .ref rle, .int lz])), (rle, .inl ((xT g) 8, lcap, .inr (.inr (.inr (.inr lef))))), (e2, .inr (1, [.ref e2w])), (e2w, .inl ((xT g) 2, 40, .inl w2_7)), (t0, .inr (7, [.int tw, .int ty, .ref t0l, .ref t0r, .ref t0s, .int tc, .double tt])), (t0l, .inl ((xT g) 5, tn, .inr (.inr (.inr (.inl tl))))), (t0r, .inl ((xT g) 5, tn, .inr (.inr (.inr (.inl tr))))), (t0s, .inl ((xT g) 5, tn, .inr (.inr (.inr (.inl ts))))), (e1, .inr (1, [.ref e1w])), (e1w, .inl ((xT g) 2, 40, .inl w1_10))] 0 0 := by
  intro w1_10 h
  unfold wX1_worst_J74 at h
  refine x_aload_n G rfl dX1_worst_74 0 rfl ?_
  refine x_get G in_X1 0 rfl rfl 1 (by decide) q160 (fun _ h => h) rfl dX1_worst_75 ?_
  refine x_aload_n G rfl dX1_worst_78 0 rfl ?_
  refine x_get G in_X1 0 rfl rfl 2 (by decide) q161 (fun _ h => h) rfl dX1_worst_79 ?_
  refine x_cVi0 (wc := [(e1, .inr (1, [.ref e1w])), (e1w, .inl ((xT g) 2, 40, .inl w1_10)), (e2, .inr (1, [.ref e2w])), (e2w, .inl ((xT g) 2, 40, .inl w2_7))]) (As := [.ref e2]) (rest := []) G [(h0, .inr (0, [.ref lg, .ref e1, .ref e2, .ref e3, .ref rl, .int cur, .ref sh])), (rl, .inr (2, [.int lm, .ref rle, .int lz])), (rle, .inl ((xT g) 8, lcap, .inr (.inr (.inr (.inr lef))))), (t0, .inr (7, [.int tw, .int ty, .ref t0l, .ref t0r, .ref t0s, .int tc, .double tt])), (t0l, .inl ((xT g) 5, tn, .inr (.inr (.inr (.inl tl))))), (t0r, .inl ((xT g) 5, tn, .inr (.inr (.inr (.inl tr))))), (t0s, .inl ((xT g) 5, tn, .inr (.inr (.inr (.inl ts)))))] (XSub.of [0, 1, 2, 5, 6, 7, 8, 9, 10, 3, 4] rfl (by decide)) (tX2_compare G.noTraces h) (lw_V q338 q339 q340 q66 q341) cdX2_compare 1 9 rfl rfl rfl (by decide) (by decide) rfl (Nat.le_of_ble_eq_true rfl) (Nat.le_of_ble_eq_true rfl) (Nat.le_of_ble_eq_true rfl) dX1_worst_82 (fun r_11 h => ?_)
  show X g 5 85 [(0, .ref h0), (1, .int p0), (2, .ref t0), (3, .int v3_4), (4, .int v4_5)] [.int r_11] [(h0, .inr (0, [.ref lg, .ref e1, .ref e2, .ref e3, .ref rl, .int cur, .ref sh])), (rl, .inr (2, [.int lm, .ref rle, .int lz])), (rle, .inl ((xT g) 8, lcap, .inr (.inr (.inr (.inr lef))))), (t0, .inr (7, [.int tw, .int ty, .ref t0l, .ref t0r, .ref t0s, .int tc, .double tt])), (t0l, .inl ((xT g) 5, tn, .inr (.inr (.inr (.inl tl))))), (t0r, .inl ((xT g) 5, tn, .inr (.inr (.inr (.inl tr))))), (t0s, .inl ((xT g) 5, tn, .inr (.inr (.inr (.inl ts))))), (e1, .inr (1, [.ref e1w])), (e1w, .inl ((xT g) 2, 40, .inl w1_10)), (e2, .inr (1, [.ref e2w])), (e2w, .inl ((xT g) 2, 40, .inl w2_7))] 0 0
  refine x_if_le (tgt := 102) G dX1_worst_85 rfl (fun c => ?_) (fun c => ?_)
  · replace h := h.1 c
    obtain ⟨x_12, ex_12⟩ : ∃ z : Int32, z = (v4_5 + (1 : Int32)) := ⟨_, rfl⟩
    replace h := h x_12 ex_12
    refine x_iinc (v := x_12) (lv' := [(4, .int x_12), (0, .ref h0), (1, .int p0), (2, .ref t0), (3, .int v3_4)]) G dX1_worst_102 4 rfl (by rw [ex_12]; rfl) (by decide) rfl ?_
    refine x_goto (tgt := 37) G dX1_worst_105 rfl ?_
    refine x_lv (lv' := [(4, .int x_12), (3, .int v3_4), (2, .ref t0), (0, .ref h0), (1, .int p0)]) [0, 4, 3, 1, 2] rfl ?_
    refine x_ws (ws' := [(t0, .inr (7, [.int tw, .int ty, .ref t0l, .ref t0r, .ref t0s, .int tc, .double tt])), (t0l, .inl ((xT g) 5, tn, .inr (.inr (.inr (.inl tl))))), (t0r, .inl ((xT g) 5, tn, .inr (.inr (.inr (.inl tr))))), (t0s, .inl ((xT g) 5, tn, .inr (.inr (.inr (.inl ts))))), (e1, .inr (1, [.ref e1w])), (e1w, .inl ((xT g) 2, 40, .inl w1_10)), (h0, .inr (0, [.ref lg, .ref e1, .ref e2, .ref e3, .ref rl, .int cur, .ref sh])), (rl, .inr (2, [.int lm, .ref rle, .int lz])), (rle, .inl ((xT g) 8, lcap, .inr (.inr (.inr (.inr lef))))), (e2, .inr (1, [.ref e2w])), (e2w, .inl ((xT g) 2, 40, .inl w2_7))]) (XSub.of [3, 4, 5, 6, 7, 8, 0, 1, 2, 9, 10] rfl (by decide)) ?_
    exact hX37 v3_4 x_12 w1_10 w2_7 h
  · replace h := h.2 c
    refine x_aload_n G rfl dX1_worst_88 0 rfl ?_
    refine x_get G in_X1 0 rfl rfl 2 (by decide) q161 (fun _ h => h) rfl dX1_worst_89 ?_
    refine x_aload_n G rfl dX1_worst_92 0 rfl ?_
    refine x_get G in_X1 0 rfl rfl 1 (by decide) q160 (fun _ h => h) rfl dX1_worst_93 ?_
    refine x_cVv1 (wc := [(e2, .inr (1, [.ref e2w])), (e2w, .inl ((xT g) 2, 40, .inl w2_7)), (e1, .inr (1, [.ref e1w])), (e1w, .inl ((xT g) 2, 40, .inl w1_10))]) (As := [.ref e1]) (rest := []) G [(h0, .inr (0, [.ref lg, .ref e1, .ref e2, .ref e3, .ref rl, .int cur, .ref sh])), (rl, .inr (2, [.int lm, .ref rle, .int lz])), (rle, .inl ((xT g) 8, lcap, .inr (.inr (.inr (.inr lef))))), (t0, .inr (7, [.int tw, .int ty, .ref t0l, .ref t0r, .ref t0s, .int tc, .double tt])), (t0l, .inl ((xT g) 5, tn, .inr (.inr (.inr (.inl tl))))), (t0r, .inl ((xT g) 5, tn, .inr (.inr (.inr (.inl tr))))), (t0s, .inl ((xT g) 5, tn, .inr (.inr (.inr (.inl ts)))))] (XSub.of [0, 1, 2, 3, 4, 5, 6, 9, 10, 7, 8] rfl (by decide)) (tX2_set G.noTraces h) (lw_V q343 q344 q345 q66 q346) cdX2_set 1 9 rfl rfl rfl (by decide) (by decide) rfl (Nat.le_of_ble_eq_true rfl) (Nat.le_of_ble_eq_true rfl) (Nat.le_of_ble_eq_true rfl) dX1_worst_96 (fun w_13 h => ?_)
    show X g 5 99 [(0, .ref h0), (1, .int p0), (2, .ref t0), (3, .int v3_4), (4, .int v4_5)] [] [(h0, .inr (0, [.ref lg, .ref e1, .ref e2, .ref e3, .ref rl, .int cur, .ref sh])), (rl, .inr (2, [.int lm, .ref rle, .int lz])), (rle, .inl ((xT g) 8, lcap, .inr (.inr (.inr (.inr lef))))), (t0, .inr (7, [.int tw, .int ty, .ref t0l, .ref t0r, .ref t0s, .int tc, .double tt])), (t0l, .inl ((xT g) 5, tn, .inr (.inr (.inr (.inl tl))))), (t0r, .inl ((xT g) 5, tn, .inr (.inr (.inr (.inl tr))))), (t0s, .inl ((xT g) 5, tn, .inr (.inr (.inr (.inl ts))))), (e2, .inr (1, [.ref e2w])), (e2w, .inl ((xT g) 2, 40, .inl w_13)), (e1, .inr (1, [.ref e1w])), (e1w, .inl ((xT g) 2, 40, .inl w1_10))] 0 0
    refine x_iload G dX1_worst_99 4 rfl ?_
    refine x_istore_n (lv' := [(3, .int v4_5), (0, .ref h0), (1, .int p0), (2, .ref t0), (4, .int v4_5)]) G rfl dX1_worst_101 (by decide) rfl ?_
    obtain ⟨x_14, ex_14⟩ : ∃ z : Int32, z = (v4_5 + (1 : Int32)) := ⟨_, rfl⟩
    replace h := h x_14 ex_14
    refine x_iinc (v := x_14) (lv' := [(4, .int x_14), (3, .int v4_5), (0, .ref h0), (1, .int p0), (2, .ref t0)]) G dX1_worst_102 4 rfl (by rw [ex_14]; rfl) (by decide) rfl ?_
    refine x_goto (tgt := 37) G dX1_worst_105 rfl ?_
    refine x_lv (lv' := [(4, .int x_14), (3, .int v4_5), (2, .ref t0), (0, .ref h0), (1, .int p0)]) [0, 1, 4, 2, 3] rfl ?_
    refine x_ws (ws' := [(t0, .inr (7, [.int tw, .int ty, .ref t0l, .ref t0r, .ref t0s, .int tc, .double tt])), (t0l, .inl ((xT g) 5, tn, .inr (.inr (.inr (.inl tl))))), (t0r, .inl ((xT g) 5, tn, .inr (.inr (.inr (.inl tr))))), (t0s, .inl ((xT g) 5, tn, .inr (.inr (.inr (.inl ts))))), (e1, .inr (1, [.ref e1w])), (e1w, .inl ((xT g) 2, 40, .inl w1_10)), (h0, .inr (0, [.ref lg, .ref e1, .ref e2, .ref e3, .ref rl, .int cur, .ref sh])), (rl, .inr (2, [.int lm, .ref rle, .int lz])), (rle, .inl ((xT g) 8, lcap, .inr (.inr (.inr (.inr lef))))), (e2, .inr (1, [.ref e2w])), (e2w, .inl ((xT g) 2, 40, .inl w_13))]) (XSub.of [3, 4, 5, 6, 9, 10, 0, 1, 2, 7, 8] rfl (by decide)) ?_
    exact hX37 v4_5 x_14 w1_10 w_13 h
set_option maxRecDepth 20000 in
theorem kX1_worst_L37 {g : XG} {h0 : Nat} {lg : Nat} {e1 : Nat} {e2 : Nat} {e3 : Nat} {rl : Nat} {cur : Int32} {sh : Nat} {lm : Int32} {rle : Nat} {lz : Int32} {lcap : Nat} {lef : Nat → Option Nat} {t0 : Nat} {tw : Int32} {ty : Int32} {t0l : Nat} {t0r : Nat} {t0s : Nat} {tc : Int32} {tt : UInt64} {tn : Nat} {tl : Nat → UInt64} {tr : Nat → UInt64} {ts : Nat → UInt64} {e1w : Nat} {e2w : Nat} {p0 : Int32} {X108 : Int32 → Int32 → (Nat → Int32) → (Nat → Int32) → Prop} (G : XO g RX1 cX1_worst 5 5 0 0) (hX108 : ∀ (v3_20 : Int32) (v4_21 : Int32) (w1_22 : Nat → Int32) (w2_23 : Nat → Int32), X108 v3_20 v4_21 w1_22 w2_23 → X g 5 108 [(4, .int v4_21), (3, .int v3_20), (2, .ref t0), (0, .ref h0), (1, .int p0)] [] [(t0, .inr (7, [.int tw, .int ty, .ref t0l, .ref t0r, .ref t0s, .int tc, .double tt])), (t0l, .inl ((xT g) 5, tn, .inr (.inr (.inr (.inl tl))))), (t0r, .inl ((xT g) 5, tn, .inr (.inr (.inr (.inl tr))))), (t0s, .inl ((xT g) 5, tn, .inr (.inr (.inr (.inl ts))))), (e1, .inr (1, [.ref e1w])), (e1w, .inl ((xT g) 2, 40, .inl w1_22)), (h0, .inr (0, [.ref lg, .ref e1, .ref e2, .ref e3, .ref rl, .int cur, .ref sh])), (rl, .inr (2, [.int lm, .ref rle, .int lz])), (rle, .inl ((xT g) 8, lcap, .inr (.inr (.inr (.inr lef))))), (e2, .inr (1, [.ref e2w])), (e2w, .inl ((xT g) 2, 40, .inl w2_23))] 0 0) : ∀ (n : Nat) (v3_4 : Int32) (v4_5 : Int32) (w1_6 : Nat → Int32) (w2_7 : Nat → Int32), wX1_worst_L37 tc tn tl tr ts X108 n v3_4 v4_5 w1_6 w2_7 → X g 5 37 [(4, .int v4_5), (3, .int v3_4), (2, .ref t0), (0, .ref h0), (1, .int p0)] [] [(t0, .inr (7, [.int tw, .int ty, .ref t0l, .ref t0r, .ref t0s, .int tc, .double tt])), (t0l, .inl ((xT g) 5, tn, .inr (.inr (.inr (.inl tl))))), (t0r, .inl ((xT g) 5, tn, .inr (.inr (.inr (.inl tr))))), (t0s, .inl ((xT g) 5, tn, .inr (.inr (.inr (.inl ts))))), (e1, .inr (1, [.ref e1w])), (e1w, .inl ((xT g) 2, 40, .inl w1_6)), (h0, .inr (0, [.ref lg, .ref e1, .ref e2, .ref e3, .ref rl, .int cur, .ref sh])), (rl, .inr (2, [.int lm, .ref rle, .int lz])), (rle, .inl ((xT g) 8, lcap, .inr (.inr (.inr (.inr lef))))), (e2, .inr (1, [.ref e2w])), (e2w, .inl ((xT g) 2, 40, .inl w2_7))] 0 0 := by
  intro n
  induction n with
  | zero => intro _ _ _ _ h; exact h.elim
  | succ n ih =>
    intro v3_4 v4_5 w1_6 w2_7 h
    unfold wX1_worst_L37 at h
    refine x_iload G dX1_worst_37 0 rfl ?_
    refine x_aload_n G rfl dX1_worst_39 2 rfl ?_
    refine x_getN (host := "RoundingAuditor") G in_X8 0 rfl rfl 5 (by decide) (by decide) (fun _ h => h) rfl dX1_worst_40 ?_
    refine x_icmp_ge (tgt := 108) G dX1_worst_43 rfl (fun c => ?_) (fun c => ?_)
    · replace h := h.1 c
      exact hX108 v3_4 v4_5 w1_6 w2_7 h
    · replace h := h.2 c
      refine x_aload_n G rfl dX1_worst_46 3 rfl ?_
      refine x_aload_n G rfl dX1_worst_47 3 rfl ?_
      refine x_get G in_X1 6 rfl rfl 1 (by decide) q160 (fun _ h => h) rfl dX1_worst_48 ?_
      refine x_aload_n G rfl dX1_worst_51 2 rfl ?_
      refine x_iload G dX1_worst_52 0 rfl ?_
      refine x_cVv1 (wc := [(e1, .inr (1, [.ref e1w])), (e1w, .inl ((xT g) 2, 40, .inl w1_6)), (t0, .inr (7, [.int tw, .int ty, .ref t0l, .ref t0r, .ref t0s, .int tc, .double tt])), (t0l, .inl ((xT g) 5, tn, .inr (.inr (.inr (.inl tl))))), (t0r, .inl ((xT g) 5, tn, .inr (.inr (.inr (.inl tr))))), (t0s, .inl ((xT g) 5, tn, .inr (.inr (.inr (.inl ts)))))]) (As := [.ref e1, .ref t0, .int v4_5]) (rest := []) G [(h0, .inr (0, [.ref lg, .ref e1, .ref e2, .ref e3, .ref rl, .int cur, .ref sh])), (rl, .inr (2, [.int lm, .ref rle, .int lz])), (rle, .inl ((xT g) 8, lcap, .inr (.inr (.inr (.inr lef))))), (e2, .inr (1, [.ref e2w])), (e2w, .inl ((xT g) 2, 40, .inl w2_7))] (XSub.of [6, 7, 8, 9, 10, 4, 5, 0, 1, 2, 3] rfl (by decide)) (tX1_lose G.noTraces h) (lw_V q261 q263 qs2 q65 q264) cdX1_lose 0 6 rfl rfl rfl (by decide) (by decide) rfl (Nat.le_of_ble_eq_true rfl) (Nat.le_of_ble_eq_true rfl) (Nat.le_of_ble_eq_true rfl) dX1_worst_54 (fun w_8 h => ?_)
      show X g 5 57 [(4, .int v4_5), (3, .int v3_4), (2, .ref t0), (0, .ref h0), (1, .int p0)] [] [(h0, .inr (0, [.ref lg, .ref e1, .ref e2, .ref e3, .ref rl, .int cur, .ref sh])), (rl, .inr (2, [.int lm, .ref rle, .int lz])), (rle, .inl ((xT g) 8, lcap, .inr (.inr (.inr (.inr lef))))), (e2, .inr (1, [.ref e2w])), (e2w, .inl ((xT g) 2, 40, .inl w2_7)), (e1, .inr (1, [.ref e1w])), (e1w, .inl ((xT g) 2, 40, .inl w_8)), (t0, .inr (7, [.int tw, .int ty, .ref t0l, .ref t0r, .ref t0s, .int tc, .double tt])), (t0l, .inl ((xT g) 5, tn, .inr (.inr (.inr (.inl tl))))), (t0r, .inl ((xT g) 5, tn, .inr (.inr (.inr (.inl tr))))), (t0s, .inl ((xT g) 5, tn, .inr (.inr (.inr (.inl ts)))))] 0 0
      refine x_aload_n G rfl dX1_worst_57 3 rfl ?_
      refine x_get G in_X1 0 rfl rfl 1 (by decide) q160 (fun _ h => h) rfl dX1_worst_58 ?_
      refine x_cVi0 (wc := [(e1, .inr (1, [.ref e1w])), (e1w, .inl ((xT g) 2, 40, .inl w_8))]) (As := []) (rest := []) G [(h0, .inr (0, [.ref lg, .ref e1, .ref e2, .ref e3, .ref rl, .int cur, .ref sh])), (rl, .inr (2, [.int lm, .ref rle, .int lz])), (rle, .inl ((xT g) 8, lcap, .inr (.inr (.inr (.inr lef))))), (e2, .inr (1, [.ref e2w])), (e2w, .inl ((xT g) 2, 40, .inl w2_7)), (t0, .inr (7, [.int tw, .int ty, .ref t0l, .ref t0r, .ref t0s, .int tc, .double tt])), (t0l, .inl ((xT g) 5, tn, .inr (.inr (.inr (.inl tl))))), (t0r, .inl ((xT g) 5, tn, .inr (.inr (.inr (.inl tr))))), (t0s, .inl ((xT g) 5, tn, .inr (.inr (.inr (.inl ts)))))] (XSub.of [0, 1, 2, 3, 4, 7, 8, 9, 10, 5, 6] rfl (by decide)) (tX2_sign G.noTraces h) (lw_V q332 q286 q287 q66 q288) cdX2_sign 1 5 rfl rfl rfl (by decide) (by decide) rfl (Nat.le_of_ble_eq_true rfl) (Nat.le_of_ble_eq_true rfl) (Nat.le_of_ble_eq_true rfl) dX1_worst_61 (fun r_9 h => ?_)
      show X g 5 64 [(4, .int v4_5), (3, .int v3_4), (2, .ref t0), (0, .ref h0), (1, .int p0)] [.int r_9] [(h0, .inr (0, [.ref lg, .ref e1, .ref e2, .ref e3, .ref rl, .int cur, .ref sh])), (rl, .inr (2, [.int lm, .ref rle, .int lz])), (rle, .inl ((xT g) 8, lcap, .inr (.inr (.inr (.inr lef))))), (e2, .inr (1, [.ref e2w])), (e2w, .inl ((xT g) 2, 40, .inl w2_7)), (t0, .inr (7, [.int tw, .int ty, .ref t0l, .ref t0r, .ref t0s, .int tc, .double tt])), (t0l, .inl ((xT g) 5, tn, .inr (.inr (.inr (.inl tl))))), (t0r, .inl ((xT g) 5, tn, .inr (.inr (.inr (.inl tr))))), (t0s, .inl ((xT g) 5, tn, .inr (.inr (.inr (.inl ts))))), (e1, .inr (1, [.ref e1w])), (e1w, .inl ((xT g) 2, 40, .inl w_8))] 0 0
      refine x_if_ge (tgt := 74) G dX1_worst_64 rfl (fun c => ?_) (fun c => ?_)
      · replace h := h.1 c
        refine x_lv (lv' := [(0, .ref h0), (1, .int p0), (2, .ref t0), (3, .int v3_4), (4, .int v4_5)]) [3, 4, 2, 1, 0] rfl ?_
        refine kX1_worst_J74 G ih _ h
      · replace h := h.2 c
        refine x_aload_n G rfl dX1_worst_67 3 rfl ?_
        refine x_get G in_X1 0 rfl rfl 1 (by decide) q160 (fun _ h => h) rfl dX1_worst_68 ?_
        refine x_cVv1 (wc := [(e1, .inr (1, [.ref e1w])), (e1w, .inl ((xT g) 2, 40, .inl w_8))]) (As := []) (rest := []) G [(h0, .inr (0, [.ref lg, .ref e1, .ref e2, .ref e3, .ref rl, .int cur, .ref sh])), (rl, .inr (2, [.int lm, .ref rle, .int lz])), (rle, .inl ((xT g) 8, lcap, .inr (.inr (.inr (.inr lef))))), (e2, .inr (1, [.ref e2w])), (e2w, .inl ((xT g) 2, 40, .inl w2_7)), (t0, .inr (7, [.int tw, .int ty, .ref t0l, .ref t0r, .ref t0s, .int tc, .double tt])), (t0l, .inl ((xT g) 5, tn, .inr (.inr (.inr (.inl tl))))), (t0r, .inl ((xT g) 5, tn, .inr (.inr (.inr (.inl tr))))), (t0s, .inl ((xT g) 5, tn, .inr (.inr (.inr (.inl ts)))))] (XSub.of [0, 1, 2, 3, 4, 5, 6, 7, 8, 9, 10] rfl (by decide)) (tX2_negate G.noTraces h) (lw_V q337 q290 q291 q66 q292) cdX2_negate 1 9 rfl rfl rfl (by decide) (by decide) rfl (Nat.le_of_ble_eq_true rfl) (Nat.le_of_ble_eq_true rfl) (Nat.le_of_ble_eq_true rfl) dX1_worst_71 (fun w_19 h => ?_)
        show X g 5 74 [(4, .int v4_5), (3, .int v3_4), (2, .ref t0), (0, .ref h0), (1, .int p0)] [] [(h0, .inr (0, [.ref lg, .ref e1, .ref e2, .ref e3, .ref rl, .int cur, .ref sh])), (rl, .inr (2, [.int lm, .ref rle, .int lz])), (rle, .inl ((xT g) 8, lcap, .inr (.inr (.inr (.inr lef))))), (e2, .inr (1, [.ref e2w])), (e2w, .inl ((xT g) 2, 40, .inl w2_7)), (t0, .inr (7, [.int tw, .int ty, .ref t0l, .ref t0r, .ref t0s, .int tc, .double tt])), (t0l, .inl ((xT g) 5, tn, .inr (.inr (.inr (.inl tl))))), (t0r, .inl ((xT g) 5, tn, .inr (.inr (.inr (.inl tr))))), (t0s, .inl ((xT g) 5, tn, .inr (.inr (.inr (.inl ts))))), (e1, .inr (1, [.ref e1w])), (e1w, .inl ((xT g) 2, 40, .inl w_19))] 0 0
        refine x_lv (lv' := [(0, .ref h0), (1, .int p0), (2, .ref t0), (3, .int v3_4), (4, .int v4_5)]) [3, 4, 2, 1, 0] rfl ?_
        refine kX1_worst_J74 G ih _ h
set_option maxRecDepth 20000 in
theorem tX1_worst {l : Launch} {D : va_G} {ta : Nat → ClassId} {h0 : Nat} {lg : Nat} {e1 : Nat} {e2 : Nat} {e3 : Nat} {rl : Nat} {cur : Int32} {sh : Nat} {lm : Int32} {rle : Nat} {lz : Int32} {lcap : Nat} {lef : Nat → Option Nat} {t0 : Nat} {tw : Int32} {ty : Int32} {t0l : Nat} {t0r : Nat} {t0s : Nat} {tc : Int32} {tt : UInt64} {tn : Nat} {tl : Nat → UInt64} {tr : Nat → UInt64} {ts : Nat → UInt64} {e1w : Nat} {w1 : Nat → Int32} {e2w : Nat} {w2 : Nat → Int32} {p0 : Int32} {K : Int32 → (Nat → Int32) → (Nat → Int32) → Prop} (hlt : l.stackTraces = false) (h : wX1_worst p0 lz lcap lef t0 tc tn tl tr ts w1 w2 K) : SMi2 l D ta yX1_worst cX1_worst 5 FieldType.int 5 [.ref h0, .int p0] [(h0, .inr (0, [.ref lg, .ref e1, .ref e2, .ref e3, .ref rl, .int cur, .ref sh])), (rl, .inr (2, [.int lm, .ref rle, .int lz])), (rle, .inl (ta 8, lcap, .inr (.inr (.inr (.inr lef))))), (t0, .inr (7, [.int tw, .int ty, .ref t0l, .ref t0r, .ref t0s, .int tc, .double tt])), (t0l, .inl (ta 5, tn, .inr (.inr (.inr (.inl tl))))), (t0r, .inl (ta 5, tn, .inr (.inr (.inr (.inl tr))))), (t0s, .inl (ta 5, tn, .inr (.inr (.inr (.inl ts))))), (e1, .inr (1, [.ref e1w])), (e1w, .inl (ta 2, 40, .inl w1)), (e2, .inr (1, [.ref e2w])), (e2w, .inl (ta 2, 40, .inl w2))] (fun (w1' : Nat → Int32) (w2' : Nat → Int32) => [(h0, .inr (0, [.ref lg, .ref e1, .ref e2, .ref e3, .ref rl, .int cur, .ref sh])), (rl, .inr (2, [.int lm, .ref rle, .int lz])), (rle, .inl (ta 8, lcap, .inr (.inr (.inr (.inr lef))))), (t0, .inr (7, [.int tw, .int ty, .ref t0l, .ref t0r, .ref t0s, .int tc, .double tt])), (t0l, .inl (ta 5, tn, .inr (.inr (.inr (.inl tl))))), (t0r, .inl (ta 5, tn, .inr (.inr (.inr (.inl tr))))), (t0s, .inl (ta 5, tn, .inr (.inr (.inr (.inl ts))))), (e1, .inr (1, [.ref e1w])), (e1w, .inl (ta 2, 40, .inl w1')), (e2, .inr (1, [.ref e2w])), (e2w, .inl (ta 2, 40, .inl w2'))]) 0 0 K := by
  refine x_sti2 hlt (plainFor_of_name (by decide +kernel)) (Nat.le_of_ble_eq_true rfl) (fun g G hl hD hT Q => ?_)
  subst hl; subst hD; subst hT
  unfold wX1_worst at h
  show X g 5 0 [(0, .ref h0), (1, .int p0)] [] [(h0, .inr (0, [.ref lg, .ref e1, .ref e2, .ref e3, .ref rl, .int cur, .ref sh])), (rl, .inr (2, [.int lm, .ref rle, .int lz])), (rle, .inl ((xT g) 8, lcap, .inr (.inr (.inr (.inr lef))))), (t0, .inr (7, [.int tw, .int ty, .ref t0l, .ref t0r, .ref t0s, .int tc, .double tt])), (t0l, .inl ((xT g) 5, tn, .inr (.inr (.inr (.inl tl))))), (t0r, .inl ((xT g) 5, tn, .inr (.inr (.inr (.inl tr))))), (t0s, .inl ((xT g) 5, tn, .inr (.inr (.inr (.inl ts))))), (e1, .inr (1, [.ref e1w])), (e1w, .inl ((xT g) 2, 40, .inl w1)), (e2, .inr (1, [.ref e2w])), (e2w, .inl ((xT g) 2, 40, .inl w2))] 0 0
  refine x_aload_n G rfl dX1_worst_0 0 rfl ?_
  refine x_iload_n G rfl dX1_worst_1 1 rfl ?_
  refine x_cVi0 (wc := [(h0, .inr (0, [.ref lg, .ref e1, .ref e2, .ref e3, .ref rl, .int cur, .ref sh])), (rl, .inr (2, [.int lm, .ref rle, .int lz]))]) (As := [.int p0]) (rest := []) G [(rle, .inl ((xT g) 8, lcap, .inr (.inr (.inr (.inr lef))))), (t0, .inr (7, [.int tw, .int ty, .ref t0l, .ref t0r, .ref t0s, .int tc, .double tt])), (t0l, .inl ((xT g) 5, tn, .inr (.inr (.inr (.inl tl))))), (t0r, .inl ((xT g) 5, tn, .inr (.inr (.inr (.inl tr))))), (t0s, .inl ((xT g) 5, tn, .inr (.inr (.inr (.inl ts))))), (e1, .inr (1, [.ref e1w])), (e1w, .inl ((xT g) 2, 40, .inl w1)), (e2, .inr (1, [.ref e2w])), (e2w, .inl ((xT g) 2, 40, .inl w2))] (XSub.of [2, 3, 4, 5, 6, 7, 8, 9, 10, 0, 1] rfl (by decide)) (tX1_isRun G.noTraces h) (lw_V q185 q187 qs0 q65 q188) cdX1_isRun 0 0 rfl rfl rfl (by decide) (by decide) rfl (Nat.le_of_ble_eq_true rfl) (Nat.le_of_ble_eq_true rfl) (Nat.le_of_ble_eq_true rfl) dX1_worst_2 (fun r_1 h => ?_)
  show X g 5 5 [(0, .ref h0), (1, .int p0)] [.int r_1] [(rle, .inl ((xT g) 8, lcap, .inr (.inr (.inr (.inr lef))))), (t0, .inr (7, [.int tw, .int ty, .ref t0l, .ref t0r, .ref t0s, .int tc, .double tt])), (t0l, .inl ((xT g) 5, tn, .inr (.inr (.inr (.inl tl))))), (t0r, .inl ((xT g) 5, tn, .inr (.inr (.inr (.inl tr))))), (t0s, .inl ((xT g) 5, tn, .inr (.inr (.inr (.inl ts))))), (e1, .inr (1, [.ref e1w])), (e1w, .inl ((xT g) 2, 40, .inl w1)), (e2, .inr (1, [.ref e2w])), (e2w, .inl ((xT g) 2, 40, .inl w2)), (h0, .inr (0, [.ref lg, .ref e1, .ref e2, .ref e3, .ref rl, .int cur, .ref sh])), (rl, .inr (2, [.int lm, .ref rle, .int lz]))] 0 0
  refine x_if_ne (tgt := 11) G dX1_worst_5 rfl (fun c => ?_) (fun c => ?_)
  · replace h := h.1 c
    refine x_aload_n G rfl dX1_worst_11 0 rfl ?_
    refine x_get G in_X1 9 rfl rfl 4 (by decide) q163 (fun _ h => h) rfl dX1_worst_12 ?_
    refine x_iload_n G rfl dX1_worst_15 1 rfl ?_
    refine x_cFq0 (C := "java/util/ArrayList") (x := ⟨"java/util/List", "get", "(I)Ljava/lang/Object;"⟩) (wc := [(rl, .inr (2, [.int lm, .ref rle, .int lz])), (rle, .inl ((xT g) 8, lcap, .inr (.inr (.inr (.inr lef)))))]) (As := [.int p0]) (rest := []) G [(t0, .inr (7, [.int tw, .int ty, .ref t0l, .ref t0r, .ref t0s, .int tc, .double tt])), (t0l, .inl ((xT g) 5, tn, .inr (.inr (.inr (.inl tl))))), (t0r, .inl ((xT g) 5, tn, .inr (.inr (.inr (.inl tr))))), (t0s, .inl ((xT g) 5, tn, .inr (.inr (.inr (.inl ts))))), (e1, .inr (1, [.ref e1w])), (e1w, .inl ((xT g) 2, 40, .inl w1)), (e2, .inr (1, [.ref e2w])), (e2w, .inl ((xT g) 2, 40, .inl w2)), (h0, .inr (0, [.ref lg, .ref e1, .ref e2, .ref e3, .ref rl, .int cur, .ref sh]))] (XSub.of [1, 2, 3, 4, 5, 6, 7, 8, 9, 10, 0] rfl (by decide)) (tJ2_get G.noTraces h) q203 q206 q208 q69 q210 (by decide) (show ("java/util/List" : String) ≠ "java/lang/invoke/MethodHandle" ∧ ("java/util/List" : String) ≠ "java/lang/invoke/VarHandle" ∧ (parseMethodDescriptor "(I)Ljava/lang/Object;").map (fun d => d.parameters.length) = some 1 from by decide +kernel) 2 10 rfl rfl rfl (by decide) (by decide) rfl (Nat.le_of_ble_eq_true rfl) (Nat.le_of_ble_eq_true rfl) (Nat.le_of_ble_eq_true rfl) dX1_worst_16 (fun r_2 h => ?_)
    obtain ⟨hq, h⟩ := h
    subst hq
    show X g 5 21 [(0, .ref h0), (1, .int p0)] [.ref t0] [(t0, .inr (7, [.int tw, .int ty, .ref t0l, .ref t0r, .ref t0s, .int tc, .double tt])), (t0l, .inl ((xT g) 5, tn, .inr (.inr (.inr (.inl tl))))), (t0r, .inl ((xT g) 5, tn, .inr (.inr (.inr (.inl tr))))), (t0s, .inl ((xT g) 5, tn, .inr (.inr (.inr (.inl ts))))), (e1, .inr (1, [.ref e1w])), (e1w, .inl ((xT g) 2, 40, .inl w1)), (e2, .inr (1, [.ref e2w])), (e2w, .inl ((xT g) 2, 40, .inl w2)), (h0, .inr (0, [.ref lg, .ref e1, .ref e2, .ref e3, .ref rl, .int cur, .ref sh])), (rl, .inr (2, [.int lm, .ref rle, .int lz])), (rle, .inl ((xT g) 8, lcap, .inr (.inr (.inr (.inr lef)))))] 0 0
    refine x_castS (q := (RX8, TX8, 7)) G q221 0 rfl rfl dX1_worst_21 ?_
    refine x_astore_n (lv' := [(2, .ref t0), (0, .ref h0), (1, .int p0)]) G rfl dX1_worst_24 (by decide) rfl ?_
    refine x_iconst (v := (-1 : Int32)) G dX1_worst_25 (by decide) ?_
    refine x_istore_n (lv' := [(3, .int (-1 : Int32)), (2, .ref t0), (0, .ref h0), (1, .int p0)]) G rfl dX1_worst_26 (by decide) rfl ?_
    refine x_aload_n G rfl dX1_worst_27 2 rfl ?_
    refine x_get G in_X1 8 rfl rfl 2 (by decide) q161 (fun _ h => h) rfl dX1_worst_28 ?_
    refine x_cVv1 (wc := [(e2, .inr (1, [.ref e2w])), (e2w, .inl ((xT g) 2, 40, .inl w2))]) (As := []) (rest := []) G [(t0, .inr (7, [.int tw, .int ty, .ref t0l, .ref t0r, .ref t0s, .int tc, .double tt])), (t0l, .inl ((xT g) 5, tn, .inr (.inr (.inr (.inl tl))))), (t0r, .inl ((xT g) 5, tn, .inr (.inr (.inr (.inl tr))))), (t0s, .inl ((xT g) 5, tn, .inr (.inr (.inr (.inl ts))))), (e1, .inr (1, [.ref e1w])), (e1w, .inl ((xT g) 2, 40, .inl w1)), (h0, .inr (0, [.ref lg, .ref e1, .ref e2, .ref e3, .ref rl, .int cur, .ref sh])), (rl, .inr (2, [.int lm, .ref rle, .int lz])), (rle, .inl ((xT g) 8, lcap, .inr (.inr (.inr (.inr lef)))))] (XSub.of [0, 1, 2, 3, 4, 5, 8, 9, 10, 6, 7] rfl (by decide)) (tX2_clear G.noTraces h) (lw_V q265 q266 q267 q66 q268) cdX2_clear 1 6 rfl rfl rfl (by decide) (by decide) rfl (Nat.le_of_ble_eq_true rfl) (Nat.le_of_ble_eq_true rfl) (Nat.le_of_ble_eq_true rfl) dX1_worst_31 (fun w_3 h => ?_)
    show X g 5 34 [(3, .int (-1 : Int32)), (2, .ref t0), (0, .ref h0), (1, .int p0)] [] [(t0, .inr (7, [.int tw, .int ty, .ref t0l, .ref t0r, .ref t0s, .int tc, .double tt])), (t0l, .inl ((xT g) 5, tn, .inr (.inr (.inr (.inl tl))))), (t0r, .inl ((xT g) 5, tn, .inr (.inr (.inr (.inl tr))))), (t0s, .inl ((xT g) 5, tn, .inr (.inr (.inr (.inl ts))))), (e1, .inr (1, [.ref e1w])), (e1w, .inl ((xT g) 2, 40, .inl w1)), (h0, .inr (0, [.ref lg, .ref e1, .ref e2, .ref e3, .ref rl, .int cur, .ref sh])), (rl, .inr (2, [.int lm, .ref rle, .int lz])), (rle, .inl ((xT g) 8, lcap, .inr (.inr (.inr (.inr lef))))), (e2, .inr (1, [.ref e2w])), (e2w, .inl ((xT g) 2, 40, .inl w_3))] 0 0
    refine x_iconst (v := (0 : Int32)) G dX1_worst_34 (by decide) ?_
    refine x_istore (lv' := [(4, .int (0 : Int32)), (3, .int (-1 : Int32)), (2, .ref t0), (0, .ref h0), (1, .int p0)]) G dX1_worst_35 (by decide) rfl ?_
    obtain ⟨n0, h⟩ := h
    refine kX1_worst_L37 G (fun v3_24 v4_25 w1_26 w2_27 h => ?_) n0 _ _ _ _ h
    · refine x_iload_n G rfl dX1_worst_108 1 rfl ?_
      exact x_reti2 G Q dX1_worst_109 rfl w1_26 w2_27 h (XSub.of [6, 7, 8, 0, 1, 2, 3, 4, 5, 9, 10] rfl (by decide)) (Nat.le_of_ble_eq_true rfl) (Nat.le_of_ble_eq_true rfl)
  · replace h := h.2 c
    refine x_bipush (v := (-101 : Int32)) G dX1_worst_8 (by decide) ?_
    exact x_reti2 G Q dX1_worst_10 rfl w1 w2 h (XSub.of [9, 10, 0, 1, 2, 3, 4, 5, 6, 7, 8] rfl (by decide)) (Nat.le_of_ble_eq_true rfl) (Nat.le_of_ble_eq_true rfl)
theorem cdX1_off : yX1_off.cls = RX1 ∧ yX1_off.cls ≠ "java/lang/invoke/MethodHandle" ∧ yX1_off.cls ≠ "java/lang/invoke/VarHandle" ∧ (parseMethodDescriptor yX1_off.desc).map (fun d => d.parameters.length) = some 2 := by decide +kernel
def wX1_off_N (p0 : Int32) (p1 : Int32) (lz : Int32) (K : Int32 → Prop) : Prop := (wX1_isRun p0 lz (fun (r_1 : Int32) => ((¬ r_1 = (0 : Int32) → (wX1_isIn p1.toInt64 (0 : Int64) (6 : Int64) (fun (r_2 : Int32) => ((¬ r_2 = (0 : Int32) → False) ∧ (r_2 = (0 : Int32) → K (-102 : Int32)))))) ∧ (r_1 = (0 : Int32) → K (-101 : Int32)))))
set_option maxRecDepth 20000 in
theorem tX1_off_N {l : Launch} {D : va_G} {ta : Nat → ClassId} {h0 : Nat} {lg : Nat} {e1 : Nat} {e2 : Nat} {e3 : Nat} {rl : Nat} {cur : Int32} {sh : Nat} {lm : Int32} {rle : Nat} {lz : Int32} {p0 : Int32} {p1 : Int32} {K : Int32 → Prop} (hlt : l.stackTraces = false) (h : wX1_off_N p0 p1 lz K) : SMi0 l D ta yX1_off cX1_off 5 FieldType.int 4 [.ref h0, .int p0, .int p1] [(h0, .inr (0, [.ref lg, .ref e1, .ref e2, .ref e3, .ref rl, .int cur, .ref sh])), (rl, .inr (2, [.int lm, .ref rle, .int lz]))] ([(h0, .inr (0, [.ref lg, .ref e1, .ref e2, .ref e3, .ref rl, .int cur, .ref sh])), (rl, .inr (2, [.int lm, .ref rle, .int lz]))]) 0 0 K := by
  refine x_sti0 hlt (plainFor_of_name (by decide +kernel)) (Nat.le_of_ble_eq_true rfl) (fun g G hl hD hT Q => ?_)
  subst hl; subst hD; subst hT
  unfold wX1_off_N at h
  show X g 5 0 [(0, .ref h0), (1, .int p0), (2, .int p1)] [] [(h0, .inr (0, [.ref lg, .ref e1, .ref e2, .ref e3, .ref rl, .int cur, .ref sh])), (rl, .inr (2, [.int lm, .ref rle, .int lz]))] 0 0
  refine x_aload_n G rfl dX1_off_0 0 rfl ?_
  refine x_iload_n G rfl dX1_off_1 1 rfl ?_
  refine x_cVi0 (wc := [(h0, .inr (0, [.ref lg, .ref e1, .ref e2, .ref e3, .ref rl, .int cur, .ref sh])), (rl, .inr (2, [.int lm, .ref rle, .int lz]))]) (As := [.int p0]) (rest := []) G [] (XSub.of [0, 1] rfl (by decide)) (tX1_isRun G.noTraces h) (lw_V q185 q187 qs0 q65 q188) cdX1_isRun 0 0 rfl rfl rfl (by decide) (by decide) rfl (Nat.le_of_ble_eq_true rfl) (Nat.le_of_ble_eq_true rfl) (Nat.le_of_ble_eq_true rfl) dX1_off_2 (fun r_1 h => ?_)
  show X g 5 5 [(0, .ref h0), (1, .int p0), (2, .int p1)] [.int r_1] [(h0, .inr (0, [.ref lg, .ref e1, .ref e2, .ref e3, .ref rl, .int cur, .ref sh])), (rl, .inr (2, [.int lm, .ref rle, .int lz]))] 0 0
  refine x_if_ne (tgt := 11) G dX1_off_5 rfl (fun c => ?_) (fun c => ?_)
  · replace h := h.1 c
    refine x_iload_n G rfl dX1_off_11 2 rfl ?_
    refine x_i2l G dX1_off_12 ?_
    refine x_lconst (v := (0 : Int64)) G dX1_off_13 (by decide) ?_
    refine x_ldc2 G q354 dX1_off_14 ?_
    refine x_cPi (As := [.long p1.toInt64, .long (0 : Int64), .long (6 : Int64)]) (rest := []) G (tX1_isIn G.noTraces h) (lw_S q199 q200 q65 q201) cdX1_isIn (by decide) (by decide) rfl (Nat.le_of_ble_eq_true rfl) (Nat.le_of_ble_eq_true rfl) (Nat.le_of_ble_eq_true rfl) dX1_off_17 (fun r_2 h => ?_)
    refine x_if_ne (tgt := 26) G dX1_off_20 rfl (fun c => ?_) (fun c => ?_)
    · replace h := h.1 c
      refine x_aload_n G rfl dX1_off_26 0 rfl ?_
      refine x_get G in_X1 0 rfl rfl 4 (by decide) q163 (fun _ h => h) rfl dX1_off_27 ?_
      refine x_iload_n G rfl dX1_off_30 1 rfl ?_
      exact h.elim
    · replace h := h.2 c
      refine x_bipush (v := (-102 : Int32)) G dX1_off_23 (by decide) ?_
      exact x_reti0 G Q dX1_off_25 rfl  h XSub.rf (Nat.le_of_ble_eq_true rfl) (Nat.le_of_ble_eq_true rfl)
  · replace h := h.2 c
    refine x_bipush (v := (-101 : Int32)) G dX1_off_8 (by decide) ?_
    exact x_reti0 G Q dX1_off_10 rfl  h XSub.rf (Nat.le_of_ble_eq_true rfl) (Nat.le_of_ble_eq_true rfl)
def wX1_off_J164 (p1 : Int32) (w_6 : Nat → Int32) (v4_7 : Int32) (w_11 : Nat → Int32) (X78 : Int32 → (Nat → Int32) → (Nat → Int32) → Prop) (X194 : Int32 → (Nat → Int32) → (Nat → Int32) → Prop) : (Nat → Int32) → Prop := fun (w1_15 : Nat → Int32) => (vp_in p1 7 ∧ (wX2_times ((2 : Int64) * (xTens p1.toNatClampNeg)) w1_15 (fun (w_17 : Nat → Int32) => (wX2_compare w_17 w_6 (fun (r_18 : Int32) => ((r_18 < (0 : Int32) → (∀ x_19 : Int32, x_19 = (v4_7 + (1 : Int32)) → X78 x_19 w_17 w_11)) ∧ (¬ r_18 < (0 : Int32) → X194 v4_7 w_17 w_11)))))))
def wX1_off_J106 (tn : Nat) (tr : Nat → UInt64) (ts : Nat → UInt64) (p1 : Int32) (w_6 : Nat → Int32) (v4_7 : Int32) (w1_8 : Nat → Int32) (X78 : Int32 → (Nat → Int32) → (Nat → Int32) → Prop) (X194 : Int32 → (Nat → Int32) → (Nat → Int32) → Prop) : (Nat → Int32) → Prop := fun (w2_10 : Nat → Int32) => (vp_in v4_7 tn ∧ (wX2_add (tr v4_7.toNatClampNeg) (0 : Int32) w2_10 (fun (w_11 : Nat → Int32) => (wX2_set w1_8 w_11 (fun (w_12 : Nat → Int32) => (vp_in v4_7 tn ∧ (wX2_add (ts v4_7.toNatClampNeg) (1 : Int32) w_12 (fun (w_13 : Nat → Int32) => (wX2_sign w_13 (fun (r_14 : Int32) => (((0 : Int32) ≤ r_14 → (wX1_off_J164 p1 w_6 v4_7 w_11 (X78) (X194) w_13)) ∧ (¬ (0 : Int32) ≤ r_14 → (wX2_negate w_13 (fun (w_26 : Nat → Int32) => (wX1_off_J164 p1 w_6 v4_7 w_11 (X78) (X194) w_26)))))))))))))))
def wX1_off_L78 (tc : Int32) (tn : Nat) (tl : Nat → UInt64) (tr : Nat → UInt64) (ts : Nat → UInt64) (p1 : Int32) (w_6 : Nat → Int32) (X194 : Int32 → (Nat → Int32) → (Nat → Int32) → Prop) (X203 : Int32 → (Nat → Int32) → (Nat → Int32) → Prop) : Nat → Int32 → (Nat → Int32) → (Nat → Int32) → Prop
  | 0, _, _, _ => False
  | n + 1, v4_7, w1_8, w2_9 => ((tc ≤ v4_7 → X203 v4_7 w1_8 w2_9) ∧ (¬ tc ≤ v4_7 → ((¬ v4_7 = (0 : Int32) → (wX1_off_J106 tn tr ts p1 w_6 v4_7 w1_8 (wX1_off_L78 tc tn tl tr ts p1 w_6 X194 X203 n) (X194) w2_9)) ∧ (v4_7 = (0 : Int32) → (vp_in (0 : Int32) tn ∧ (wX2_add (tl (0 : Int32).toNatClampNeg) (0 : Int32) w2_9 (fun (w_33 : Nat → Int32) => (wX1_off_J106 tn tr ts p1 w_6 v4_7 w1_8 (wX1_off_L78 tc tn tl tr ts p1 w_6 X194 X203 n) (X194) w_33))))))))
def wX1_off (p0 : Int32) (p1 : Int32) (lz : Int32) (lcap : Nat) (lef : Nat → Option Nat) (t0 : Nat) (ty : Int32) (tc : Int32) (tn : Nat) (tl : Nat → UInt64) (tr : Nat → UInt64) (ts : Nat → UInt64) (w1 : Nat → Int32) (w2 : Nat → Int32) (w3 : Nat → Int32) (K : Int32 → (Nat → Int32) → (Nat → Int32) → (Nat → Int32) → Prop) : Prop := (wX1_isRun p0 lz (fun (r_1 : Int32) => ((¬ r_1 = (0 : Int32) → (wX1_isIn p1.toInt64 (0 : Int64) (6 : Int64) (fun (r_2 : Int32) => ((¬ r_2 = (0 : Int32) → (wJ2_get p0 lz lcap lef (fun (r_3 : Option Nat) => (r_3 = some t0 ∧ ((ty ≤ (6 : Int32) → (wX2_clear w2 (fun (w_4 : Nat → Int32) => (wX2_clear w3 (fun (w_5 : Nat → Int32) => (wX2_add FP.dconst1 (0 : Int32) w_5 (fun (w_6 : Nat → Int32) => (∃ m78 : Nat, wX1_off_L78 tc tn tl tr ts p1 w_6 (fun (v4_40 : Int32) (w1_41 : Nat → Int32) (w2_42 : Nat → Int32) => K v4_40 w1_41 w2_42 w_6) (fun (v4_43 : Int32) (w1_44 : Nat → Int32) (w2_45 : Nat → Int32) => K (-1 : Int32) w1_44 w2_45 w_6) m78 (0 : Int32) w1 w_4)))))))) ∧ (¬ ty ≤ (6 : Int32) → K (-104 : Int32) w1 w2 w3)))))) ∧ (r_2 = (0 : Int32) → K (-102 : Int32) w1 w2 w3))))) ∧ (r_1 = (0 : Int32) → K (-101 : Int32) w1 w2 w3))))
set_option maxRecDepth 20000 in
theorem kX1_off_J164 {g : XG} {h0 : Nat} {lg : Nat} {e1 : Nat} {e2 : Nat} {e3 : Nat} {rl : Nat} {cur : Int32} {sh : Nat} {lm : Int32} {rle : Nat} {lz : Int32} {lcap : Nat} {lef : Nat → Option Nat} {t0 : Nat} {tw : Int32} {ty : Int32} {t0l : Nat} {t0r : Nat} {t0s : Nat} {tc : Int32} {tt : UInt64} {tn : Nat} {tl : Nat → UInt64} {tr : Nat → UInt64} {ts : Nat → UInt64} {e1w : Nat} {e2w : Nat} {e3w : Nat} {p0 : Int32} {p1 : Int32} {w_6 : Nat → Int32} {v4_7 : Int32} {w_11 : Nat → Int32} {X78 : Int32 → (Nat → Int32) → (Nat → Int32) → Prop} {X194 : Int32 → (Nat → Int32) → (Nat → Int32) → Prop} (G : XO g RX1 cX1_off 5 4 0 0) (hX78 : ∀ (v4_20 : Int32) (w1_21 : Nat → Int32) (w2_22 : Nat → Int32), X78 v4_20 w1_21 w2_22 → X g 5 78 [(4, .int v4_20), (3, .ref t0), (0, .ref h0), (1, .int p0), (2, .int p1)] [] [(t0, .inr (7, [.int tw, .int ty, .ref t0l, .ref t0r, .ref t0s, .int tc, .double tt])), (t0l, .inl ((xT g) 5, tn, .inr (.inr (.inr (.inl tl))))), (t0r, .inl ((xT g) 5, tn, .inr (.inr (.inr (.inl tr))))), (t0s, .inl ((xT g) 5, tn, .inr (.inr (.inr (.inl ts))))), (e1, .inr (1, [.ref e1w])), (e1w, .inl ((xT g) 2, 40, .inl w1_21)), (h0, .inr (0, [.ref lg, .ref e1, .ref e2, .ref e3, .ref rl, .int cur, .ref sh])), (rl, .inr (2, [.int lm, .ref rle, .int lz])), (rle, .inl ((xT g) 8, lcap, .inr (.inr (.inr (.inr lef))))), (e2, .inr (1, [.ref e2w])), (e2w, .inl ((xT g) 2, 40, .inl w2_22)), (e3, .inr (1, [.ref e3w])), (e3w, .inl ((xT g) 2, 40, .inl w_6))] 0 0) (hX194 : ∀ (v4_23 : Int32) (w1_24 : Nat → Int32) (w2_25 : Nat → Int32), X194 v4_23 w1_24 w2_25 → X g 5 194 [(4, .int v4_23), (3, .ref t0), (0, .ref h0), (1, .int p0), (2, .int p1)] [] [(t0, .inr (7, [.int tw, .int ty, .ref t0l, .ref t0r, .ref t0s, .int tc, .double tt])), (t0l, .inl ((xT g) 5, tn, .inr (.inr (.inr (.inl tl))))), (t0r, .inl ((xT g) 5, tn, .inr (.inr (.inr (.inl tr))))), (t0s, .inl ((xT g) 5, tn, .inr (.inr (.inr (.inl ts))))), (e1, .inr (1, [.ref e1w])), (e1w, .inl ((xT g) 2, 40, .inl w1_24)), (h0, .inr (0, [.ref lg, .ref e1, .ref e2, .ref e3, .ref rl, .int cur, .ref sh])), (rl, .inr (2, [.int lm, .ref rle, .int lz])), (rle, .inl ((xT g) 8, lcap, .inr (.inr (.inr (.inr lef))))), (e2, .inr (1, [.ref e2w])), (e2w, .inl ((xT g) 2, 40, .inl w2_25)), (e3, .inr (1, [.ref e3w])), (e3w, .inl ((xT g) 2, 40, .inl w_6))] 0 0) : ∀ (w1_15 : Nat → Int32), wX1_off_J164 p1 w_6 v4_7 w_11 X78 X194 w1_15 → X g 5 164 [(0, .ref h0), (1, .int p0), (2, .int p1), (3, .ref t0), (4, .int v4_7)] [] [(t0, .inr (7, [.int tw, .int ty, .ref t0l, .ref t0r, .ref t0s, .int tc, .double tt])), (t0l, .inl ((xT g) 5, tn, .inr (.inr (.inr (.inl tl))))), (t0r, .inl ((xT g) 5, tn, .inr (.inr (.inr (.inl tr))))), (t0s, .inl ((xT g) 5, tn, .inr (.inr (.inr (.inl ts))))), (h0, .inr (0, [.ref lg, .ref e1, .ref e2, .ref e3, .ref rl, .int cur, .ref sh])), (rl, .inr (2, [.int lm, .ref rle, .int lz])), (rle, .inl ((xT g) 8, lcap, .inr (.inr (.inr (.inr lef))))), (e3, .inr (1, [.ref e3w])), (e3w, .inl ((xT g) 2, 40, .inl w_6)), (e2, .inr (1, [.ref e2w])), (e2w, .inl ((xT g) 2, 40, .inl w_11)), (e1, .inr (1, [.ref e1w])), (e1w, .inl ((xT g) 2, 40, .inl w1_15))] 0 0 := by
  intro w1_15 h
  unfold wX1_off_J164 at h
  refine x_aload_n G rfl dX1_off_164 0 rfl ?_
  refine x_get G in_X1 4 rfl rfl 1 (by decide) q160 (fun _ h => h) rfl dX1_off_165 ?_
  refine x_ldc2 G q355 dX1_off_168 ?_
  refine x_tens G q356 dX1_off_171 (fun t_16 hTt_16 => ?_)
  show X g 5 174 [(0, .ref h0), (1, .int p0), (2, .int p1), (3, .ref t0), (4, .int v4_7)] [.ref t_16, .long (2 : Int64), .ref e1] [(t0, .inr (7, [.int tw, .int ty, .ref t0l, .ref t0r, .ref t0s, .int tc, .double tt])), (t0l, .inl ((xT g) 5, tn, .inr (.inr (.inr (.inl tl))))), (t0r, .inl ((xT g) 5, tn, .inr (.inr (.inr (.inl tr))))), (t0s, .inl ((xT g) 5, tn, .inr (.inr (.inr (.inl ts))))), (h0, .inr (0, [.ref lg, .ref e1, .ref e2, .ref e3, .ref rl, .int cur, .ref sh])), (rl, .inr (2, [.int lm, .ref rle, .int lz])), (rle, .inl ((xT g) 8, lcap, .inr (.inr (.inr (.inr lef))))), (e3, .inr (1, [.ref e3w])), (e3w, .inl ((xT g) 2, 40, .inl w_6)), (e2, .inr (1, [.ref e2w])), (e2w, .inl ((xT g) 2, 40, .inl w_11)), (e1, .inr (1, [.ref e1w])), (e1w, .inl ((xT g) 2, 40, .inl w1_15))] 0 0
  refine x_iload_n G rfl dX1_off_174 2 rfl ?_
  obtain ⟨hz, h⟩ := h
  refine x_tensld G hTt_16 hz dX1_off_175 ?_
  refine x_lmul G dX1_off_176 ?_
  refine x_cVv1 (wc := [(e1, .inr (1, [.ref e1w])), (e1w, .inl ((xT g) 2, 40, .inl w1_15))]) (As := [.long ((2 : Int64) * (xTens p1.toNatClampNeg))]) (rest := []) G [(t0, .inr (7, [.int tw, .int ty, .ref t0l, .ref t0r, .ref t0s, .int tc, .double tt])), (t0l, .inl ((xT g) 5, tn, .inr (.inr (.inr (.inl tl))))), (t0r, .inl ((xT g) 5, tn, .inr (.inr (.inr (.inl tr))))), (t0s, .inl ((xT g) 5, tn, .inr (.inr (.inr (.inl ts))))), (h0, .inr (0, [.ref lg, .ref e1, .ref e2, .ref e3, .ref rl, .int cur, .ref sh])), (rl, .inr (2, [.int lm, .ref rle, .int lz])), (rle, .inl ((xT g) 8, lcap, .inr (.inr (.inr (.inr lef))))), (e3, .inr (1, [.ref e3w])), (e3w, .inl ((xT g) 2, 40, .inl w_6)), (e2, .inr (1, [.ref e2w])), (e2w, .inl ((xT g) 2, 40, .inl w_11))] (XSub.of [0, 1, 2, 3, 4, 5, 6, 7, 8, 9, 10, 11, 12] rfl (by decide)) (tX2_times G.noTraces h) (lw_V q358 q359 q360 q66 q361) cdX2_times 1 11 rfl rfl rfl (by decide) (by decide) rfl (Nat.le_of_ble_eq_true rfl) (Nat.le_of_ble_eq_true rfl) (Nat.le_of_ble_eq_true rfl) dX1_off_177 (fun w_17 h => ?_)
  show X g 5 180 [(0, .ref h0), (1, .int p0), (2, .int p1), (3, .ref t0), (4, .int v4_7)] [] [(t0, .inr (7, [.int tw, .int ty, .ref t0l, .ref t0r, .ref t0s, .int tc, .double tt])), (t0l, .inl ((xT g) 5, tn, .inr (.inr (.inr (.inl tl))))), (t0r, .inl ((xT g) 5, tn, .inr (.inr (.inr (.inl tr))))), (t0s, .inl ((xT g) 5, tn, .inr (.inr (.inr (.inl ts))))), (h0, .inr (0, [.ref lg, .ref e1, .ref e2, .ref e3, .ref rl, .int cur, .ref sh])), (rl, .inr (2, [.int lm, .ref rle, .int lz])), (rle, .inl ((xT g) 8, lcap, .inr (.inr (.inr (.inr lef))))), (e3, .inr (1, [.ref e3w])), (e3w, .inl ((xT g) 2, 40, .inl w_6)), (e2, .inr (1, [.ref e2w])), (e2w, .inl ((xT g) 2, 40, .inl w_11)), (e1, .inr (1, [.ref e1w])), (e1w, .inl ((xT g) 2, 40, .inl w_17))] 0 0
  refine x_aload_n G rfl dX1_off_180 0 rfl ?_
  refine x_get G in_X1 4 rfl rfl 1 (by decide) q160 (fun _ h => h) rfl dX1_off_181 ?_
  refine x_aload_n G rfl dX1_off_184 0 rfl ?_
  refine x_get G in_X1 4 rfl rfl 3 (by decide) q162 (fun _ h => h) rfl dX1_off_185 ?_
  refine x_cVi0 (wc := [(e1, .inr (1, [.ref e1w])), (e1w, .inl ((xT g) 2, 40, .inl w_17)), (e3, .inr (1, [.ref e3w])), (e3w, .inl ((xT g) 2, 40, .inl w_6))]) (As := [.ref e3]) (rest := []) G [(t0, .inr (7, [.int tw, .int ty, .ref t0l, .ref t0r, .ref t0s, .int tc, .double tt])), (t0l, .inl ((xT g) 5, tn, .inr (.inr (.inr (.inl tl))))), (t0r, .inl ((xT g) 5, tn, .inr (.inr (.inr (.inl tr))))), (t0s, .inl ((xT g) 5, tn, .inr (.inr (.inr (.inl ts))))), (h0, .inr (0, [.ref lg, .ref e1, .ref e2, .ref e3, .ref rl, .int cur, .ref sh])), (rl, .inr (2, [.int lm, .ref rle, .int lz])), (rle, .inl ((xT g) 8, lcap, .inr (.inr (.inr (.inr lef))))), (e2, .inr (1, [.ref e2w])), (e2w, .inl ((xT g) 2, 40, .inl w_11))] (XSub.of [0, 1, 2, 3, 4, 5, 6, 9, 10, 11, 12, 7, 8] rfl (by decide)) (tX2_compare G.noTraces h) (lw_V q338 q339 q340 q66 q341) cdX2_compare 1 11 rfl rfl rfl (by decide) (by decide) rfl (Nat.le_of_ble_eq_true rfl) (Nat.le_of_ble_eq_true rfl) (Nat.le_of_ble_eq_true rfl) dX1_off_188 (fun r_18 h => ?_)
  show X g 5 191 [(0, .ref h0), (1, .int p0), (2, .int p1), (3, .ref t0), (4, .int v4_7)] [.int r_18] [(t0, .inr (7, [.int tw, .int ty, .ref t0l, .ref t0r, .ref t0s, .int tc, .double tt])), (t0l, .inl ((xT g) 5, tn, .inr (.inr (.inr (.inl tl))))), (t0r, .inl ((xT g) 5, tn, .inr (.inr (.inr (.inl tr))))), (t0s, .inl ((xT g) 5, tn, .inr (.inr (.inr (.inl ts))))), (h0, .inr (0, [.ref lg, .ref e1, .ref e2, .ref e3, .ref rl, .int cur, .ref sh])), (rl, .inr (2, [.int lm, .ref rle, .int lz])), (rle, .inl ((xT g) 8, lcap, .inr (.inr (.inr (.inr lef))))), (e2, .inr (1, [.ref e2w])), (e2w, .inl ((xT g) 2, 40, .inl w_11)), (e1, .inr (1, [.ref e1w])), (e1w, .inl ((xT g) 2, 40, .inl w_17)), (e3, .inr (1, [.ref e3w])), (e3w, .inl ((xT g) 2, 40, .inl w_6))] 0 0
  refine x_if_lt (tgt := 197) G dX1_off_191 rfl (fun c => ?_) (fun c => ?_)
  · replace h := h.1 c
    obtain ⟨x_19, ex_19⟩ : ∃ z : Int32, z = (v4_7 + (1 : Int32)) := ⟨_, rfl⟩
    replace h := h x_19 ex_19
    refine x_iinc (v := x_19) (lv' := [(4, .int x_19), (0, .ref h0), (1, .int p0), (2, .int p1), (3, .ref t0)]) G dX1_off_197 4 rfl (by rw [ex_19]; rfl) (by decide) rfl ?_
    refine x_goto (tgt := 78) G dX1_off_200 rfl ?_
    refine x_lv (lv' := [(4, .int x_19), (3, .ref t0), (0, .ref h0), (1, .int p0), (2, .int p1)]) [0, 4, 1, 2, 3] rfl ?_
    refine x_ws (ws' := [(t0, .inr (7, [.int tw, .int ty, .ref t0l, .ref t0r, .ref t0s, .int tc, .double tt])), (t0l, .inl ((xT g) 5, tn, .inr (.inr (.inr (.inl tl))))), (t0r, .inl ((xT g) 5, tn, .inr (.inr (.inr (.inl tr))))), (t0s, .inl ((xT g) 5, tn, .inr (.inr (.inr (.inl ts))))), (e1, .inr (1, [.ref e1w])), (e1w, .inl ((xT g) 2, 40, .inl w_17)), (h0, .inr (0, [.ref lg, .ref e1, .ref e2, .ref e3, .ref rl, .int cur, .ref sh])), (rl, .inr (2, [.int lm, .ref rle, .int lz])), (rle, .inl ((xT g) 8, lcap, .inr (.inr (.inr (.inr lef))))), (e2, .inr (1, [.ref e2w])), (e2w, .inl ((xT g) 2, 40, .inl w_11)), (e3, .inr (1, [.ref e3w])), (e3w, .inl ((xT g) 2, 40, .inl w_6))]) (XSub.of [0, 1, 2, 3, 9, 10, 4, 5, 6, 7, 8, 11, 12] rfl (by decide)) ?_
    exact hX78 x_19 w_17 w_11 h
  · replace h := h.2 c
    refine x_lv (lv' := [(4, .int v4_7), (3, .ref t0), (0, .ref h0), (1, .int p0), (2, .int p1)]) [4, 3, 0, 1, 2] rfl ?_
    refine x_ws (ws' := [(t0, .inr (7, [.int tw, .int ty, .ref t0l, .ref t0r, .ref t0s, .int tc, .double tt])), (t0l, .inl ((xT g) 5, tn, .inr (.inr (.inr (.inl tl))))), (t0r, .inl ((xT g) 5, tn, .inr (.inr (.inr (.inl tr))))), (t0s, .inl ((xT g) 5, tn, .inr (.inr (.inr (.inl ts))))), (e1, .inr (1, [.ref e1w])), (e1w, .inl ((xT g) 2, 40, .inl w_17)), (h0, .inr (0, [.ref lg, .ref e1, .ref e2, .ref e3, .ref rl, .int cur, .ref sh])), (rl, .inr (2, [.int lm, .ref rle, .int lz])), (rle, .inl ((xT g) 8, lcap, .inr (.inr (.inr (.inr lef))))), (e2, .inr (1, [.ref e2w])), (e2w, .inl ((xT g) 2, 40, .inl w_11)), (e3, .inr (1, [.ref e3w])), (e3w, .inl ((xT g) 2, 40, .inl w_6))]) (XSub.of [0, 1, 2, 3, 9, 10, 4, 5, 6, 7, 8, 11, 12] rfl (by decide)) ?_
    exact hX194 v4_7 w_17 w_11 h
set_option maxRecDepth 20000 in
theorem kX1_off_J106 {g : XG} {h0 : Nat} {lg : Nat} {e1 : Nat} {e2 : Nat} {e3 : Nat} {rl : Nat} {cur : Int32} {sh : Nat} {lm : Int32} {rle : Nat} {lz : Int32} {lcap : Nat} {lef : Nat → Option Nat} {t0 : Nat} {tw : Int32} {ty : Int32} {t0l : Nat} {t0r : Nat} {t0s : Nat} {tc : Int32} {tt : UInt64} {tn : Nat} {tl : Nat → UInt64} {tr : Nat → UInt64} {ts : Nat → UInt64} {e1w : Nat} {e2w : Nat} {e3w : Nat} {p0 : Int32} {p1 : Int32} {w_6 : Nat → Int32} {v4_7 : Int32} {w1_8 : Nat → Int32} {X78 : Int32 → (Nat → Int32) → (Nat → Int32) → Prop} {X194 : Int32 → (Nat → Int32) → (Nat → Int32) → Prop} (G : XO g RX1 cX1_off 5 4 0 0) (hX78 : ∀ (v4_27 : Int32) (w1_28 : Nat → Int32) (w2_29 : Nat → Int32), X78 v4_27 w1_28 w2_29 → X g 5 78 [(4, .int v4_27), (3, .ref t0), (0, .ref h0), (1, .int p0), (2, .int p1)] [] [(t0, .inr (7, [.int tw, .int ty, .ref t0l, .ref t0r, .ref t0s, .int tc, .double tt])), (t0l, .inl ((xT g) 5, tn, .inr (.inr (.inr (.inl tl))))), (t0r, .inl ((xT g) 5, tn, .inr (.inr (.inr (.inl tr))))), (t0s, .inl ((xT g) 5, tn, .inr (.inr (.inr (.inl ts))))), (e1, .inr (1, [.ref e1w])), (e1w, .inl ((xT g) 2, 40, .inl w1_28)), (h0, .inr (0, [.ref lg, .ref e1, .ref e2, .ref e3, .ref rl, .int cur, .ref sh])), (rl, .inr (2, [.int lm, .ref rle, .int lz])), (rle, .inl ((xT g) 8, lcap, .inr (.inr (.inr (.inr lef))))), (e2, .inr (1, [.ref e2w])), (e2w, .inl ((xT g) 2, 40, .inl w2_29)), (e3, .inr (1, [.ref e3w])), (e3w, .inl ((xT g) 2, 40, .inl w_6))] 0 0) (hX194 : ∀ (v4_30 : Int32) (w1_31 : Nat → Int32) (w2_32 : Nat → Int32), X194 v4_30 w1_31 w2_32 → X g 5 194 [(4, .int v4_30), (3, .ref t0), (0, .ref h0), (1, .int p0), (2, .int p1)] [] [(t0, .inr (7, [.int tw, .int ty, .ref t0l, .ref t0r, .ref t0s, .int tc, .double tt])), (t0l, .inl ((xT g) 5, tn, .inr (.inr (.inr (.inl tl))))), (t0r, .inl ((xT g) 5, tn, .inr (.inr (.inr (.inl tr))))), (t0s, .inl ((xT g) 5, tn, .inr (.inr (.inr (.inl ts))))), (e1, .inr (1, [.ref e1w])), (e1w, .inl ((xT g) 2, 40, .inl w1_31)), (h0, .inr (0, [.ref lg, .ref e1, .ref e2, .ref e3, .ref rl, .int cur, .ref sh])), (rl, .inr (2, [.int lm, .ref rle, .int lz])), (rle, .inl ((xT g) 8, lcap, .inr (.inr (.inr (.inr lef))))), (e2, .inr (1, [.ref e2w])), (e2w, .inl ((xT g) 2, 40, .inl w2_32)), (e3, .inr (1, [.ref e3w])), (e3w, .inl ((xT g) 2, 40, .inl w_6))] 0 0) : ∀ (w2_10 : Nat → Int32), wX1_off_J106 tn tr ts p1 w_6 v4_7 w1_8 X78 X194 w2_10 → X g 5 106 [(0, .ref h0), (1, .int p0), (2, .int p1), (3, .ref t0), (4, .int v4_7)] [] [(t0, .inr (7, [.int tw, .int ty, .ref t0l, .ref t0r, .ref t0s, .int tc, .double tt])), (t0l, .inl ((xT g) 5, tn, .inr (.inr (.inr (.inl tl))))), (t0r, .inl ((xT g) 5, tn, .inr (.inr (.inr (.inl tr))))), (t0s, .inl ((xT g) 5, tn, .inr (.inr (.inr (.inl ts))))), (e1, .inr (1, [.ref e1w])), (e1w, .inl ((xT g) 2, 40, .inl w1_8)), (h0, .inr (0, [.ref lg, .ref e1, .ref e2, .ref e3, .ref rl, .int cur, .ref sh])), (rl, .inr (2, [.int lm, .ref rle, .int lz])), (rle, .inl ((xT g) 8, lcap, .inr (.inr (.inr (.inr lef))))), (e2, .inr (1, [.ref e2w])), (e2w, .inl ((xT g) 2, 40, .inl w2_10)), (e3, .inr (1, [.ref e3w])), (e3w, .inl ((xT g) 2, 40, .inl w_6))] 0 0 := by
  intro w2_10 h
  unfold wX1_off_J106 at h
  refine x_aload_n G rfl dX1_off_106 0 rfl ?_
  refine x_get G in_X1 6 rfl rfl 2 (by decide) q161 (fun _ h => h) rfl dX1_off_107 ?_
  refine x_aload_n G rfl dX1_off_110 3 rfl ?_
  refine x_getN (host := "RoundingAuditor") G in_X8 0 rfl rfl 3 (by decide) (by decide) (fun _ h => h) rfl dX1_off_111 ?_
  refine x_iload G dX1_off_114 4 rfl ?_
  obtain ⟨hz, h⟩ := h
  refine x_dald G 2 rfl hz dX1_off_116 ?_
  refine x_iconst (v := (0 : Int32)) G dX1_off_117 (by decide) ?_
  refine x_cVv1 (wc := [(e2, .inr (1, [.ref e2w])), (e2w, .inl ((xT g) 2, 40, .inl w2_10))]) (As := [.double (tr v4_7.toNatClampNeg), .int (0 : Int32)]) (rest := []) G [(t0, .inr (7, [.int tw, .int ty, .ref t0l, .ref t0r, .ref t0s, .int tc, .double tt])), (t0l, .inl ((xT g) 5, tn, .inr (.inr (.inr (.inl tl))))), (t0r, .inl ((xT g) 5, tn, .inr (.inr (.inr (.inl tr))))), (t0s, .inl ((xT g) 5, tn, .inr (.inr (.inr (.inl ts))))), (e1, .inr (1, [.ref e1w])), (e1w, .inl ((xT g) 2, 40, .inl w1_8)), (h0, .inr (0, [.ref lg, .ref e1, .ref e2, .ref e3, .ref rl, .int cur, .ref sh])), (rl, .inr (2, [.int lm, .ref rle, .int lz])), (rle, .inl ((xT g) 8, lcap, .inr (.inr (.inr (.inr lef))))), (e3, .inr (1, [.ref e3w])), (e3w, .inl ((xT g) 2, 40, .inl w_6))] (XSub.of [0, 1, 2, 3, 4, 5, 6, 7, 8, 11, 12, 9, 10] rfl (by decide)) (tX2_add G.noTraces h) (lw_V q269 q270 q271 q66 q272) cdX2_add 1 9 rfl rfl rfl (by decide) (by decide) rfl (Nat.le_of_ble_eq_true rfl) (Nat.le_of_ble_eq_true rfl) (Nat.le_of_ble_eq_true rfl) dX1_off_118 (fun w_11 h => ?_)
  show X g 5 121 [(0, .ref h0), (1, .int p0), (2, .int p1), (3, .ref t0), (4, .int v4_7)] [] [(t0, .inr (7, [.int tw, .int ty, .ref t0l, .ref t0r, .ref t0s, .int tc, .double tt])), (t0l, .inl ((xT g) 5, tn, .inr (.inr (.inr (.inl tl))))), (t0r, .inl ((xT g) 5, tn, .inr (.inr (.inr (.inl tr))))), (t0s, .inl ((xT g) 5, tn, .inr (.inr (.inr (.inl ts))))), (e1, .inr (1, [.ref e1w])), (e1w, .inl ((xT g) 2, 40, .inl w1_8)), (h0, .inr (0, [.ref lg, .ref e1, .ref e2, .ref e3, .ref rl, .int cur, .ref sh])), (rl, .inr (2, [.int lm, .ref rle, .int lz])), (rle, .inl ((xT g) 8, lcap, .inr (.inr (.inr (.inr lef))))), (e3, .inr (1, [.ref e3w])), (e3w, .inl ((xT g) 2, 40, .inl w_6)), (e2, .inr (1, [.ref e2w])), (e2w, .inl ((xT g) 2, 40, .inl w_11))] 0 0
  refine x_aload_n G rfl dX1_off_121 0 rfl ?_
  refine x_get G in_X1 6 rfl rfl 1 (by decide) q160 (fun _ h => h) rfl dX1_off_122 ?_
  refine x_aload_n G rfl dX1_off_125 0 rfl ?_
  refine x_get G in_X1 6 rfl rfl 2 (by decide) q161 (fun _ h => h) rfl dX1_off_126 ?_
  refine x_cVv1 (wc := [(e1, .inr (1, [.ref e1w])), (e1w, .inl ((xT g) 2, 40, .inl w1_8)), (e2, .inr (1, [.ref e2w])), (e2w, .inl ((xT g) 2, 40, .inl w_11))]) (As := [.ref e2]) (rest := []) G [(t0, .inr (7, [.int tw, .int ty, .ref t0l, .ref t0r, .ref t0s, .int tc, .double tt])), (t0l, .inl ((xT g) 5, tn, .inr (.inr (.inr (.inl tl))))), (t0r, .inl ((xT g) 5, tn, .inr (.inr (.inr (.inl tr))))), (t0s, .inl ((xT g) 5, tn, .inr (.inr (.inr (.inl ts))))), (h0, .inr (0, [.ref lg, .ref e1, .ref e2, .ref e3, .ref rl, .int cur, .ref sh])), (rl, .inr (2, [.int lm, .ref rle, .int lz])), (rle, .inl ((xT g) 8, lcap, .inr (.inr (.inr (.inr lef))))), (e3, .inr (1, [.ref e3w])), (e3w, .inl ((xT g) 2, 40, .inl w_6))] (XSub.of [0, 1, 2, 3, 6, 7, 8, 9, 10, 4, 5, 11, 12] rfl (by decide)) (tX2_set G.noTraces h) (lw_V q343 q344 q345 q66 q346) cdX2_set 1 4 rfl rfl rfl (by decide) (by decide) rfl (Nat.le_of_ble_eq_true rfl) (Nat.le_of_ble_eq_true rfl) (Nat.le_of_ble_eq_true rfl) dX1_off_129 (fun w_12 h => ?_)
  show X g 5 132 [(0, .ref h0), (1, .int p0), (2, .int p1), (3, .ref t0), (4, .int v4_7)] [] [(t0, .inr (7, [.int tw, .int ty, .ref t0l, .ref t0r, .ref t0s, .int tc, .double tt])), (t0l, .inl ((xT g) 5, tn, .inr (.inr (.inr (.inl tl))))), (t0r, .inl ((xT g) 5, tn, .inr (.inr (.inr (.inl tr))))), (t0s, .inl ((xT g) 5, tn, .inr (.inr (.inr (.inl ts))))), (h0, .inr (0, [.ref lg, .ref e1, .ref e2, .ref e3, .ref rl, .int cur, .ref sh])), (rl, .inr (2, [.int lm, .ref rle, .int lz])), (rle, .inl ((xT g) 8, lcap, .inr (.inr (.inr (.inr lef))))), (e3, .inr (1, [.ref e3w])), (e3w, .inl ((xT g) 2, 40, .inl w_6)), (e1, .inr (1, [.ref e1w])), (e1w, .inl ((xT g) 2, 40, .inl w_12)), (e2, .inr (1, [.ref e2w])), (e2w, .inl ((xT g) 2, 40, .inl w_11))] 0 0
  refine x_aload_n G rfl dX1_off_132 0 rfl ?_
  refine x_get G in_X1 4 rfl rfl 1 (by decide) q160 (fun _ h => h) rfl dX1_off_133 ?_
  refine x_aload_n G rfl dX1_off_136 3 rfl ?_
  refine x_getN (host := "RoundingAuditor") G in_X8 0 rfl rfl 4 (by decide) (by decide) (fun _ h => h) rfl dX1_off_137 ?_
  refine x_iload G dX1_off_140 4 rfl ?_
  obtain ⟨hz, h⟩ := h
  refine x_dald G 3 rfl hz dX1_off_142 ?_
  refine x_iconst (v := (1 : Int32)) G dX1_off_143 (by decide) ?_
  refine x_cVv1 (wc := [(e1, .inr (1, [.ref e1w])), (e1w, .inl ((xT g) 2, 40, .inl w_12))]) (As := [.double (ts v4_7.toNatClampNeg), .int (1 : Int32)]) (rest := []) G [(t0, .inr (7, [.int tw, .int ty, .ref t0l, .ref t0r, .ref t0s, .int tc, .double tt])), (t0l, .inl ((xT g) 5, tn, .inr (.inr (.inr (.inl tl))))), (t0r, .inl ((xT g) 5, tn, .inr (.inr (.inr (.inl tr))))), (t0s, .inl ((xT g) 5, tn, .inr (.inr (.inr (.inl ts))))), (h0, .inr (0, [.ref lg, .ref e1, .ref e2, .ref e3, .ref rl, .int cur, .ref sh])), (rl, .inr (2, [.int lm, .ref rle, .int lz])), (rle, .inl ((xT g) 8, lcap, .inr (.inr (.inr (.inr lef))))), (e3, .inr (1, [.ref e3w])), (e3w, .inl ((xT g) 2, 40, .inl w_6)), (e2, .inr (1, [.ref e2w])), (e2w, .inl ((xT g) 2, 40, .inl w_11))] (XSub.of [0, 1, 2, 3, 4, 5, 6, 7, 8, 11, 12, 9, 10] rfl (by decide)) (tX2_add G.noTraces h) (lw_V q269 q270 q271 q66 q272) cdX2_add 1 9 rfl rfl rfl (by decide) (by decide) rfl (Nat.le_of_ble_eq_true rfl) (Nat.le_of_ble_eq_true rfl) (Nat.le_of_ble_eq_true rfl) dX1_off_144 (fun w_13 h => ?_)
  show X g 5 147 [(0, .ref h0), (1, .int p0), (2, .int p1), (3, .ref t0), (4, .int v4_7)] [] [(t0, .inr (7, [.int tw, .int ty, .ref t0l, .ref t0r, .ref t0s, .int tc, .double tt])), (t0l, .inl ((xT g) 5, tn, .inr (.inr (.inr (.inl tl))))), (t0r, .inl ((xT g) 5, tn, .inr (.inr (.inr (.inl tr))))), (t0s, .inl ((xT g) 5, tn, .inr (.inr (.inr (.inl ts))))), (h0, .inr (0, [.ref lg, .ref e1, .ref e2, .ref e3, .ref rl, .int cur, .ref sh])), (rl, .inr (2, [.int lm, .ref rle, .int lz])), (rle, .inl ((xT g) 8, lcap, .inr (.inr (.inr (.inr lef))))), (e3, .inr (1, [.ref e3w])), (e3w, .inl ((xT g) 2, 40, .inl w_6)), (e2, .inr (1, [.ref e2w])), (e2w, .inl ((xT g) 2, 40, .inl w_11)), (e1, .inr (1, [.ref e1w])), (e1w, .inl ((xT g) 2, 40, .inl w_13))] 0 0
  refine x_aload_n G rfl dX1_off_147 0 rfl ?_
  refine x_get G in_X1 4 rfl rfl 1 (by decide) q160 (fun _ h => h) rfl dX1_off_148 ?_
  refine x_cVi0 (wc := [(e1, .inr (1, [.ref e1w])), (e1w, .inl ((xT g) 2, 40, .inl w_13))]) (As := []) (rest := []) G [(t0, .inr (7, [.int tw, .int ty, .ref t0l, .ref t0r, .ref t0s, .int tc, .double tt])), (t0l, .inl ((xT g) 5, tn, .inr (.inr (.inr (.inl tl))))), (t0r, .inl ((xT g) 5, tn, .inr (.inr (.inr (.inl tr))))), (t0s, .inl ((xT g) 5, tn, .inr (.inr (.inr (.inl ts))))), (h0, .inr (0, [.ref lg, .ref e1, .ref e2, .ref e3, .ref rl, .int cur, .ref sh])), (rl, .inr (2, [.int lm, .ref rle, .int lz])), (rle, .inl ((xT g) 8, lcap, .inr (.inr (.inr (.inr lef))))), (e3, .inr (1, [.ref e3w])), (e3w, .inl ((xT g) 2, 40, .inl w_6)), (e2, .inr (1, [.ref e2w])), (e2w, .inl ((xT g) 2, 40, .inl w_11))] (XSub.of [0, 1, 2, 3, 4, 5, 6, 7, 8, 9, 10, 11, 12] rfl (by decide)) (tX2_sign G.noTraces h) (lw_V q332 q286 q287 q66 q288) cdX2_sign 1 11 rfl rfl rfl (by decide) (by decide) rfl (Nat.le_of_ble_eq_true rfl) (Nat.le_of_ble_eq_true rfl) (Nat.le_of_ble_eq_true rfl) dX1_off_151 (fun r_14 h => ?_)
  show X g 5 154 [(0, .ref h0), (1, .int p0), (2, .int p1), (3, .ref t0), (4, .int v4_7)] [.int r_14] [(t0, .inr (7, [.int tw, .int ty, .ref t0l, .ref t0r, .ref t0s, .int tc, .double tt])), (t0l, .inl ((xT g) 5, tn, .inr (.inr (.inr (.inl tl))))), (t0r, .inl ((xT g) 5, tn, .inr (.inr (.inr (.inl tr))))), (t0s, .inl ((xT g) 5, tn, .inr (.inr (.inr (.inl ts))))), (h0, .inr (0, [.ref lg, .ref e1, .ref e2, .ref e3, .ref rl, .int cur, .ref sh])), (rl, .inr (2, [.int lm, .ref rle, .int lz])), (rle, .inl ((xT g) 8, lcap, .inr (.inr (.inr (.inr lef))))), (e3, .inr (1, [.ref e3w])), (e3w, .inl ((xT g) 2, 40, .inl w_6)), (e2, .inr (1, [.ref e2w])), (e2w, .inl ((xT g) 2, 40, .inl w_11)), (e1, .inr (1, [.ref e1w])), (e1w, .inl ((xT g) 2, 40, .inl w_13))] 0 0
  refine x_if_ge (tgt := 164) G dX1_off_154 rfl (fun c => ?_) (fun c => ?_)
  · replace h := h.1 c
    refine kX1_off_J164 G hX78 hX194 _ h
  · replace h := h.2 c
    refine x_aload_n G rfl dX1_off_157 0 rfl ?_
    refine x_get G in_X1 4 rfl rfl 1 (by decide) q160 (fun _ h => h) rfl dX1_off_158 ?_
    refine x_cVv1 (wc := [(e1, .inr (1, [.ref e1w])), (e1w, .inl ((xT g) 2, 40, .inl w_13))]) (As := []) (rest := []) G [(t0, .inr (7, [.int tw, .int ty, .ref t0l, .ref t0r, .ref t0s, .int tc, .double tt])), (t0l, .inl ((xT g) 5, tn, .inr (.inr (.inr (.inl tl))))), (t0r, .inl ((xT g) 5, tn, .inr (.inr (.inr (.inl tr))))), (t0s, .inl ((xT g) 5, tn, .inr (.inr (.inr (.inl ts))))), (h0, .inr (0, [.ref lg, .ref e1, .ref e2, .ref e3, .ref rl, .int cur, .ref sh])), (rl, .inr (2, [.int lm, .ref rle, .int lz])), (rle, .inl ((xT g) 8, lcap, .inr (.inr (.inr (.inr lef))))), (e3, .inr (1, [.ref e3w])), (e3w, .inl ((xT g) 2, 40, .inl w_6)), (e2, .inr (1, [.ref e2w])), (e2w, .inl ((xT g) 2, 40, .inl w_11))] (XSub.of [0, 1, 2, 3, 4, 5, 6, 7, 8, 9, 10, 11, 12] rfl (by decide)) (tX2_negate G.noTraces h) (lw_V q337 q290 q291 q66 q292) cdX2_negate 1 11 rfl rfl rfl (by decide) (by decide) rfl (Nat.le_of_ble_eq_true rfl) (Nat.le_of_ble_eq_true rfl) (Nat.le_of_ble_eq_true rfl) dX1_off_161 (fun w_26 h => ?_)
    show X g 5 164 [(0, .ref h0), (1, .int p0), (2, .int p1), (3, .ref t0), (4, .int v4_7)] [] [(t0, .inr (7, [.int tw, .int ty, .ref t0l, .ref t0r, .ref t0s, .int tc, .double tt])), (t0l, .inl ((xT g) 5, tn, .inr (.inr (.inr (.inl tl))))), (t0r, .inl ((xT g) 5, tn, .inr (.inr (.inr (.inl tr))))), (t0s, .inl ((xT g) 5, tn, .inr (.inr (.inr (.inl ts))))), (h0, .inr (0, [.ref lg, .ref e1, .ref e2, .ref e3, .ref rl, .int cur, .ref sh])), (rl, .inr (2, [.int lm, .ref rle, .int lz])), (rle, .inl ((xT g) 8, lcap, .inr (.inr (.inr (.inr lef))))), (e3, .inr (1, [.ref e3w])), (e3w, .inl ((xT g) 2, 40, .inl w_6)), (e2, .inr (1, [.ref e2w])), (e2w, .inl ((xT g) 2, 40, .inl w_11)), (e1, .inr (1, [.ref e1w])), (e1w, .inl ((xT g) 2, 40, .inl w_26))] 0 0
    refine kX1_off_J164 G hX78 hX194 _ h
set_option maxRecDepth 20000 in
theorem kX1_off_L78 {g : XG} {h0 : Nat} {lg : Nat} {e1 : Nat} {e2 : Nat} {e3 : Nat} {rl : Nat} {cur : Int32} {sh : Nat} {lm : Int32} {rle : Nat} {lz : Int32} {lcap : Nat} {lef : Nat → Option Nat} {t0 : Nat} {tw : Int32} {ty : Int32} {t0l : Nat} {t0r : Nat} {t0s : Nat} {tc : Int32} {tt : UInt64} {tn : Nat} {tl : Nat → UInt64} {tr : Nat → UInt64} {ts : Nat → UInt64} {e1w : Nat} {e2w : Nat} {e3w : Nat} {p0 : Int32} {p1 : Int32} {w_6 : Nat → Int32} {X194 : Int32 → (Nat → Int32) → (Nat → Int32) → Prop} {X203 : Int32 → (Nat → Int32) → (Nat → Int32) → Prop} (G : XO g RX1 cX1_off 5 4 0 0) (hX194 : ∀ (v4_34 : Int32) (w1_35 : Nat → Int32) (w2_36 : Nat → Int32), X194 v4_34 w1_35 w2_36 → X g 5 194 [(4, .int v4_34), (3, .ref t0), (0, .ref h0), (1, .int p0), (2, .int p1)] [] [(t0, .inr (7, [.int tw, .int ty, .ref t0l, .ref t0r, .ref t0s, .int tc, .double tt])), (t0l, .inl ((xT g) 5, tn, .inr (.inr (.inr (.inl tl))))), (t0r, .inl ((xT g) 5, tn, .inr (.inr (.inr (.inl tr))))), (t0s, .inl ((xT g) 5, tn, .inr (.inr (.inr (.inl ts))))), (e1, .inr (1, [.ref e1w])), (e1w, .inl ((xT g) 2, 40, .inl w1_35)), (h0, .inr (0, [.ref lg, .ref e1, .ref e2, .ref e3, .ref rl, .int cur, .ref sh])), (rl, .inr (2, [.int lm, .ref rle, .int lz])), (rle, .inl ((xT g) 8, lcap, .inr (.inr (.inr (.inr lef))))), (e2, .inr (1, [.ref e2w])), (e2w, .inl ((xT g) 2, 40, .inl w2_36)), (e3, .inr (1, [.ref e3w])), (e3w, .inl ((xT g) 2, 40, .inl w_6))] 0 0) (hX203 : ∀ (v4_37 : Int32) (w1_38 : Nat → Int32) (w2_39 : Nat → Int32), X203 v4_37 w1_38 w2_39 → X g 5 203 [(4, .int v4_37), (3, .ref t0), (0, .ref h0), (1, .int p0), (2, .int p1)] [] [(t0, .inr (7, [.int tw, .int ty, .ref t0l, .ref t0r, .ref t0s, .int tc, .double tt])), (t0l, .inl ((xT g) 5, tn, .inr (.inr (.inr (.inl tl))))), (t0r, .inl ((xT g) 5, tn, .inr (.inr (.inr (.inl tr))))), (t0s, .inl ((xT g) 5, tn, .inr (.inr (.inr (.inl ts))))), (e1, .inr (1, [.ref e1w])), (e1w, .inl ((xT g) 2, 40, .inl w1_38)), (h0, .inr (0, [.ref lg, .ref e1, .ref e2, .ref e3, .ref rl, .int cur, .ref sh])), (rl, .inr (2, [.int lm, .ref rle, .int lz])), (rle, .inl ((xT g) 8, lcap, .inr (.inr (.inr (.inr lef))))), (e2, .inr (1, [.ref e2w])), (e2w, .inl ((xT g) 2, 40, .inl w2_39)), (e3, .inr (1, [.ref e3w])), (e3w, .inl ((xT g) 2, 40, .inl w_6))] 0 0) : ∀ (n : Nat) (v4_7 : Int32) (w1_8 : Nat → Int32) (w2_9 : Nat → Int32), wX1_off_L78 tc tn tl tr ts p1 w_6 X194 X203 n v4_7 w1_8 w2_9 → X g 5 78 [(4, .int v4_7), (3, .ref t0), (0, .ref h0), (1, .int p0), (2, .int p1)] [] [(t0, .inr (7, [.int tw, .int ty, .ref t0l, .ref t0r, .ref t0s, .int tc, .double tt])), (t0l, .inl ((xT g) 5, tn, .inr (.inr (.inr (.inl tl))))), (t0r, .inl ((xT g) 5, tn, .inr (.inr (.inr (.inl tr))))), (t0s, .inl ((xT g) 5, tn, .inr (.inr (.inr (.inl ts))))), (e1, .inr (1, [.ref e1w])), (e1w, .inl ((xT g) 2, 40, .inl w1_8)), (h0, .inr (0, [.ref lg, .ref e1, .ref e2, .ref e3, .ref rl, .int cur, .ref sh])), (rl, .inr (2, [.int lm, .ref rle, .int lz])), (rle, .inl ((xT g) 8, lcap, .inr (.inr (.inr (.inr lef))))), (e2, .inr (1, [.ref e2w])), (e2w, .inl ((xT g) 2, 40, .inl w2_9)), (e3, .inr (1, [.ref e3w])), (e3w, .inl ((xT g) 2, 40, .inl w_6))] 0 0 := by
  intro n
  induction n with
  | zero => intro _ _ _ h; exact h.elim
  | succ n ih =>
    intro v4_7 w1_8 w2_9 h
    unfold wX1_off_L78 at h
    refine x_iload G dX1_off_78 0 rfl ?_
    refine x_aload_n G rfl dX1_off_80 1 rfl ?_
    refine x_getN (host := "RoundingAuditor") G in_X8 0 rfl rfl 5 (by decide) (by decide) (fun _ h => h) rfl dX1_off_81 ?_
    refine x_icmp_ge (tgt := 203) G dX1_off_84 rfl (fun c => ?_) (fun c => ?_)
    · replace h := h.1 c
      exact hX203 v4_7 w1_8 w2_9 h
    · replace h := h.2 c
      refine x_iload G dX1_off_87 0 rfl ?_
      refine x_if_ne (tgt := 106) G dX1_off_89 rfl (fun c => ?_) (fun c => ?_)
      · replace h := h.1 c
        refine x_lv (lv' := [(0, .ref h0), (1, .int p0), (2, .int p1), (3, .ref t0), (4, .int v4_7)]) [2, 3, 4, 1, 0] rfl ?_
        refine kX1_off_J106 G ih hX194 _ h
      · replace h := h.2 c
        refine x_aload_n G rfl dX1_off_92 2 rfl ?_
        refine x_get G in_X1 6 rfl rfl 2 (by decide) q161 (fun _ h => h) rfl dX1_off_93 ?_
        refine x_aload_n G rfl dX1_off_96 1 rfl ?_
        refine x_getN (host := "RoundingAuditor") G in_X8 0 rfl rfl 2 (by decide) (by decide) (fun _ h => h) rfl dX1_off_97 ?_
        refine x_iconst (v := (0 : Int32)) G dX1_off_100 (by decide) ?_
        obtain ⟨hz, h⟩ := h
        refine x_dald G 1 rfl hz dX1_off_101 ?_
        refine x_iconst (v := (0 : Int32)) G dX1_off_102 (by decide) ?_
        refine x_cVv1 (wc := [(e2, .inr (1, [.ref e2w])), (e2w, .inl ((xT g) 2, 40, .inl w2_9))]) (As := [.double (tl (0 : Int32).toNatClampNeg), .int (0 : Int32)]) (rest := []) G [(t0, .inr (7, [.int tw, .int ty, .ref t0l, .ref t0r, .ref t0s, .int tc, .double tt])), (t0l, .inl ((xT g) 5, tn, .inr (.inr (.inr (.inl tl))))), (t0r, .inl ((xT g) 5, tn, .inr (.inr (.inr (.inl tr))))), (t0s, .inl ((xT g) 5, tn, .inr (.inr (.inr (.inl ts))))), (e1, .inr (1, [.ref e1w])), (e1w, .inl ((xT g) 2, 40, .inl w1_8)), (h0, .inr (0, [.ref lg, .ref e1, .ref e2, .ref e3, .ref rl, .int cur, .ref sh])), (rl, .inr (2, [.int lm, .ref rle, .int lz])), (rle, .inl ((xT g) 8, lcap, .inr (.inr (.inr (.inr lef))))), (e3, .inr (1, [.ref e3w])), (e3w, .inl ((xT g) 2, 40, .inl w_6))] (XSub.of [0, 1, 2, 3, 4, 5, 6, 7, 8, 11, 12, 9, 10] rfl (by decide)) (tX2_add G.noTraces h) (lw_V q269 q270 q271 q66 q272) cdX2_add 1 9 rfl rfl rfl (by decide) (by decide) rfl (Nat.le_of_ble_eq_true rfl) (Nat.le_of_ble_eq_true rfl) (Nat.le_of_ble_eq_true rfl) dX1_off_103 (fun w_33 h => ?_)
        show X g 5 106 [(4, .int v4_7), (3, .ref t0), (0, .ref h0), (1, .int p0), (2, .int p1)] [] [(t0, .inr (7, [.int tw, .int ty, .ref t0l, .ref t0r, .ref t0s, .int tc, .double tt])), (t0l, .inl ((xT g) 5, tn, .inr (.inr (.inr (.inl tl))))), (t0r, .inl ((xT g) 5, tn, .inr (.inr (.inr (.inl tr))))), (t0s, .inl ((xT g) 5, tn, .inr (.inr (.inr (.inl ts))))), (e1, .inr (1, [.ref e1w])), (e1w, .inl ((xT g) 2, 40, .inl w1_8)), (h0, .inr (0, [.ref lg, .ref e1, .ref e2, .ref e3, .ref rl, .int cur, .ref sh])), (rl, .inr (2, [.int lm, .ref rle, .int lz])), (rle, .inl ((xT g) 8, lcap, .inr (.inr (.inr (.inr lef))))), (e3, .inr (1, [.ref e3w])), (e3w, .inl ((xT g) 2, 40, .inl w_6)), (e2, .inr (1, [.ref e2w])), (e2w, .inl ((xT g) 2, 40, .inl w_33))] 0 0
        refine x_lv (lv' := [(0, .ref h0), (1, .int p0), (2, .int p1), (3, .ref t0), (4, .int v4_7)]) [2, 3, 4, 1, 0] rfl ?_
        refine x_ws (ws' := [(t0, .inr (7, [.int tw, .int ty, .ref t0l, .ref t0r, .ref t0s, .int tc, .double tt])), (t0l, .inl ((xT g) 5, tn, .inr (.inr (.inr (.inl tl))))), (t0r, .inl ((xT g) 5, tn, .inr (.inr (.inr (.inl tr))))), (t0s, .inl ((xT g) 5, tn, .inr (.inr (.inr (.inl ts))))), (e1, .inr (1, [.ref e1w])), (e1w, .inl ((xT g) 2, 40, .inl w1_8)), (h0, .inr (0, [.ref lg, .ref e1, .ref e2, .ref e3, .ref rl, .int cur, .ref sh])), (rl, .inr (2, [.int lm, .ref rle, .int lz])), (rle, .inl ((xT g) 8, lcap, .inr (.inr (.inr (.inr lef))))), (e2, .inr (1, [.ref e2w])), (e2w, .inl ((xT g) 2, 40, .inl w_33)), (e3, .inr (1, [.ref e3w])), (e3w, .inl ((xT g) 2, 40, .inl w_6))]) (XSub.of [0, 1, 2, 3, 4, 5, 6, 7, 8, 11, 12, 9, 10] rfl (by decide)) ?_
        refine kX1_off_J106 G ih hX194 _ h
set_option maxRecDepth 20000 in
theorem tX1_off {l : Launch} {D : va_G} {ta : Nat → ClassId} {h0 : Nat} {lg : Nat} {e1 : Nat} {e2 : Nat} {e3 : Nat} {rl : Nat} {cur : Int32} {sh : Nat} {lm : Int32} {rle : Nat} {lz : Int32} {lcap : Nat} {lef : Nat → Option Nat} {t0 : Nat} {tw : Int32} {ty : Int32} {t0l : Nat} {t0r : Nat} {t0s : Nat} {tc : Int32} {tt : UInt64} {tn : Nat} {tl : Nat → UInt64} {tr : Nat → UInt64} {ts : Nat → UInt64} {e1w : Nat} {w1 : Nat → Int32} {e2w : Nat} {w2 : Nat → Int32} {e3w : Nat} {w3 : Nat → Int32} {p0 : Int32} {p1 : Int32} {K : Int32 → (Nat → Int32) → (Nat → Int32) → (Nat → Int32) → Prop} (hlt : l.stackTraces = false) (h : wX1_off p0 p1 lz lcap lef t0 ty tc tn tl tr ts w1 w2 w3 K) : SMi3 l D ta yX1_off cX1_off 5 FieldType.int 4 [.ref h0, .int p0, .int p1] [(h0, .inr (0, [.ref lg, .ref e1, .ref e2, .ref e3, .ref rl, .int cur, .ref sh])), (rl, .inr (2, [.int lm, .ref rle, .int lz])), (rle, .inl (ta 8, lcap, .inr (.inr (.inr (.inr lef))))), (t0, .inr (7, [.int tw, .int ty, .ref t0l, .ref t0r, .ref t0s, .int tc, .double tt])), (t0l, .inl (ta 5, tn, .inr (.inr (.inr (.inl tl))))), (t0r, .inl (ta 5, tn, .inr (.inr (.inr (.inl tr))))), (t0s, .inl (ta 5, tn, .inr (.inr (.inr (.inl ts))))), (e1, .inr (1, [.ref e1w])), (e1w, .inl (ta 2, 40, .inl w1)), (e2, .inr (1, [.ref e2w])), (e2w, .inl (ta 2, 40, .inl w2)), (e3, .inr (1, [.ref e3w])), (e3w, .inl (ta 2, 40, .inl w3))] (fun (w1' : Nat → Int32) (w2' : Nat → Int32) (w3' : Nat → Int32) => [(h0, .inr (0, [.ref lg, .ref e1, .ref e2, .ref e3, .ref rl, .int cur, .ref sh])), (rl, .inr (2, [.int lm, .ref rle, .int lz])), (rle, .inl (ta 8, lcap, .inr (.inr (.inr (.inr lef))))), (t0, .inr (7, [.int tw, .int ty, .ref t0l, .ref t0r, .ref t0s, .int tc, .double tt])), (t0l, .inl (ta 5, tn, .inr (.inr (.inr (.inl tl))))), (t0r, .inl (ta 5, tn, .inr (.inr (.inr (.inl tr))))), (t0s, .inl (ta 5, tn, .inr (.inr (.inr (.inl ts))))), (e1, .inr (1, [.ref e1w])), (e1w, .inl (ta 2, 40, .inl w1')), (e2, .inr (1, [.ref e2w])), (e2w, .inl (ta 2, 40, .inl w2')), (e3, .inr (1, [.ref e3w])), (e3w, .inl (ta 2, 40, .inl w3'))]) 0 0 K := by
  refine x_sti3 hlt (plainFor_of_name (by decide +kernel)) (Nat.le_of_ble_eq_true rfl) (fun g G hl hD hT Q => ?_)
  subst hl; subst hD; subst hT
  unfold wX1_off at h
  show X g 5 0 [(0, .ref h0), (1, .int p0), (2, .int p1)] [] [(h0, .inr (0, [.ref lg, .ref e1, .ref e2, .ref e3, .ref rl, .int cur, .ref sh])), (rl, .inr (2, [.int lm, .ref rle, .int lz])), (rle, .inl ((xT g) 8, lcap, .inr (.inr (.inr (.inr lef))))), (t0, .inr (7, [.int tw, .int ty, .ref t0l, .ref t0r, .ref t0s, .int tc, .double tt])), (t0l, .inl ((xT g) 5, tn, .inr (.inr (.inr (.inl tl))))), (t0r, .inl ((xT g) 5, tn, .inr (.inr (.inr (.inl tr))))), (t0s, .inl ((xT g) 5, tn, .inr (.inr (.inr (.inl ts))))), (e1, .inr (1, [.ref e1w])), (e1w, .inl ((xT g) 2, 40, .inl w1)), (e2, .inr (1, [.ref e2w])), (e2w, .inl ((xT g) 2, 40, .inl w2)), (e3, .inr (1, [.ref e3w])), (e3w, .inl ((xT g) 2, 40, .inl w3))] 0 0
  refine x_aload_n G rfl dX1_off_0 0 rfl ?_
  refine x_iload_n G rfl dX1_off_1 1 rfl ?_
  refine x_cVi0 (wc := [(h0, .inr (0, [.ref lg, .ref e1, .ref e2, .ref e3, .ref rl, .int cur, .ref sh])), (rl, .inr (2, [.int lm, .ref rle, .int lz]))]) (As := [.int p0]) (rest := []) G [(rle, .inl ((xT g) 8, lcap, .inr (.inr (.inr (.inr lef))))), (t0, .inr (7, [.int tw, .int ty, .ref t0l, .ref t0r, .ref t0s, .int tc, .double tt])), (t0l, .inl ((xT g) 5, tn, .inr (.inr (.inr (.inl tl))))), (t0r, .inl ((xT g) 5, tn, .inr (.inr (.inr (.inl tr))))), (t0s, .inl ((xT g) 5, tn, .inr (.inr (.inr (.inl ts))))), (e1, .inr (1, [.ref e1w])), (e1w, .inl ((xT g) 2, 40, .inl w1)), (e2, .inr (1, [.ref e2w])), (e2w, .inl ((xT g) 2, 40, .inl w2)), (e3, .inr (1, [.ref e3w])), (e3w, .inl ((xT g) 2, 40, .inl w3))] (XSub.of [2, 3, 4, 5, 6, 7, 8, 9, 10, 11, 12, 0, 1] rfl (by decide)) (tX1_isRun G.noTraces h) (lw_V q185 q187 qs0 q65 q188) cdX1_isRun 0 0 rfl rfl rfl (by decide) (by decide) rfl (Nat.le_of_ble_eq_true rfl) (Nat.le_of_ble_eq_true rfl) (Nat.le_of_ble_eq_true rfl) dX1_off_2 (fun r_1 h => ?_)
  show X g 5 5 [(0, .ref h0), (1, .int p0), (2, .int p1)] [.int r_1] [(rle, .inl ((xT g) 8, lcap, .inr (.inr (.inr (.inr lef))))), (t0, .inr (7, [.int tw, .int ty, .ref t0l, .ref t0r, .ref t0s, .int tc, .double tt])), (t0l, .inl ((xT g) 5, tn, .inr (.inr (.inr (.inl tl))))), (t0r, .inl ((xT g) 5, tn, .inr (.inr (.inr (.inl tr))))), (t0s, .inl ((xT g) 5, tn, .inr (.inr (.inr (.inl ts))))), (e1, .inr (1, [.ref e1w])), (e1w, .inl ((xT g) 2, 40, .inl w1)), (e2, .inr (1, [.ref e2w])), (e2w, .inl ((xT g) 2, 40, .inl w2)), (e3, .inr (1, [.ref e3w])), (e3w, .inl ((xT g) 2, 40, .inl w3)), (h0, .inr (0, [.ref lg, .ref e1, .ref e2, .ref e3, .ref rl, .int cur, .ref sh])), (rl, .inr (2, [.int lm, .ref rle, .int lz]))] 0 0
  refine x_if_ne (tgt := 11) G dX1_off_5 rfl (fun c => ?_) (fun c => ?_)
  · replace h := h.1 c
    refine x_iload_n G rfl dX1_off_11 2 rfl ?_
    refine x_i2l G dX1_off_12 ?_
    refine x_lconst (v := (0 : Int64)) G dX1_off_13 (by decide) ?_
    refine x_ldc2 G q354 dX1_off_14 ?_
    refine x_cPi (As := [.long p1.toInt64, .long (0 : Int64), .long (6 : Int64)]) (rest := []) G (tX1_isIn G.noTraces h) (lw_S q199 q200 q65 q201) cdX1_isIn (by decide) (by decide) rfl (Nat.le_of_ble_eq_true rfl) (Nat.le_of_ble_eq_true rfl) (Nat.le_of_ble_eq_true rfl) dX1_off_17 (fun r_2 h => ?_)
    refine x_if_ne (tgt := 26) G dX1_off_20 rfl (fun c => ?_) (fun c => ?_)
    · replace h := h.1 c
      refine x_aload_n G rfl dX1_off_26 0 rfl ?_
      refine x_get G in_X1 11 rfl rfl 4 (by decide) q163 (fun _ h => h) rfl dX1_off_27 ?_
      refine x_iload_n G rfl dX1_off_30 1 rfl ?_
      refine x_cFq0 (C := "java/util/ArrayList") (x := ⟨"java/util/List", "get", "(I)Ljava/lang/Object;"⟩) (wc := [(rl, .inr (2, [.int lm, .ref rle, .int lz])), (rle, .inl ((xT g) 8, lcap, .inr (.inr (.inr (.inr lef)))))]) (As := [.int p0]) (rest := []) G [(t0, .inr (7, [.int tw, .int ty, .ref t0l, .ref t0r, .ref t0s, .int tc, .double tt])), (t0l, .inl ((xT g) 5, tn, .inr (.inr (.inr (.inl tl))))), (t0r, .inl ((xT g) 5, tn, .inr (.inr (.inr (.inl tr))))), (t0s, .inl ((xT g) 5, tn, .inr (.inr (.inr (.inl ts))))), (e1, .inr (1, [.ref e1w])), (e1w, .inl ((xT g) 2, 40, .inl w1)), (e2, .inr (1, [.ref e2w])), (e2w, .inl ((xT g) 2, 40, .inl w2)), (e3, .inr (1, [.ref e3w])), (e3w, .inl ((xT g) 2, 40, .inl w3)), (h0, .inr (0, [.ref lg, .ref e1, .ref e2, .ref e3, .ref rl, .int cur, .ref sh]))] (XSub.of [1, 2, 3, 4, 5, 6, 7, 8, 9, 10, 11, 12, 0] rfl (by decide)) (tJ2_get G.noTraces h) q203 q206 q208 q69 q210 (by decide) (show ("java/util/List" : String) ≠ "java/lang/invoke/MethodHandle" ∧ ("java/util/List" : String) ≠ "java/lang/invoke/VarHandle" ∧ (parseMethodDescriptor "(I)Ljava/lang/Object;").map (fun d => d.parameters.length) = some 1 from by decide +kernel) 2 12 rfl rfl rfl (by decide) (by decide) rfl (Nat.le_of_ble_eq_true rfl) (Nat.le_of_ble_eq_true rfl) (Nat.le_of_ble_eq_true rfl) dX1_off_31 (fun r_3 h => ?_)
      obtain ⟨hq, h⟩ := h
      subst hq
      show X g 5 36 [(0, .ref h0), (1, .int p0), (2, .int p1)] [.ref t0] [(t0, .inr (7, [.int tw, .int ty, .ref t0l, .ref t0r, .ref t0s, .int tc, .double tt])), (t0l, .inl ((xT g) 5, tn, .inr (.inr (.inr (.inl tl))))), (t0r, .inl ((xT g) 5, tn, .inr (.inr (.inr (.inl tr))))), (t0s, .inl ((xT g) 5, tn, .inr (.inr (.inr (.inl ts))))), (e1, .inr (1, [.ref e1w])), (e1w, .inl ((xT g) 2, 40, .inl w1)), (e2, .inr (1, [.ref e2w])), (e2w, .inl ((xT g) 2, 40, .inl w2)), (e3, .inr (1, [.ref e3w])), (e3w, .inl ((xT g) 2, 40, .inl w3)), (h0, .inr (0, [.ref lg, .ref e1, .ref e2, .ref e3, .ref rl, .int cur, .ref sh])), (rl, .inr (2, [.int lm, .ref rle, .int lz])), (rle, .inl ((xT g) 8, lcap, .inr (.inr (.inr (.inr lef)))))] 0 0
      refine x_castS (q := (RX8, TX8, 7)) G q221 0 rfl rfl dX1_off_36 ?_
      refine x_astore_n (lv' := [(3, .ref t0), (0, .ref h0), (1, .int p0), (2, .int p1)]) G rfl dX1_off_39 (by decide) rfl ?_
      refine x_aload_n G rfl dX1_off_40 0 rfl ?_
      refine x_getN (host := "RoundingAuditor") G in_X8 0 rfl rfl 1 (by decide) (by decide) (fun _ h => h) rfl dX1_off_41 ?_
      refine x_bipush (v := (6 : Int32)) G dX1_off_44 (by decide) ?_
      refine x_icmp_le (tgt := 52) G dX1_off_46 rfl (fun c => ?_) (fun c => ?_)
      · replace h := h.1 c
        refine x_aload_n G rfl dX1_off_52 1 rfl ?_
        refine x_get G in_X1 10 rfl rfl 2 (by decide) q161 (fun _ h => h) rfl dX1_off_53 ?_
        refine x_cVv1 (wc := [(e2, .inr (1, [.ref e2w])), (e2w, .inl ((xT g) 2, 40, .inl w2))]) (As := []) (rest := []) G [(t0, .inr (7, [.int tw, .int ty, .ref t0l, .ref t0r, .ref t0s, .int tc, .double tt])), (t0l, .inl ((xT g) 5, tn, .inr (.inr (.inr (.inl tl))))), (t0r, .inl ((xT g) 5, tn, .inr (.inr (.inr (.inl tr))))), (t0s, .inl ((xT g) 5, tn, .inr (.inr (.inr (.inl ts))))), (e1, .inr (1, [.ref e1w])), (e1w, .inl ((xT g) 2, 40, .inl w1)), (e3, .inr (1, [.ref e3w])), (e3w, .inl ((xT g) 2, 40, .inl w3)), (h0, .inr (0, [.ref lg, .ref e1, .ref e2, .ref e3, .ref rl, .int cur, .ref sh])), (rl, .inr (2, [.int lm, .ref rle, .int lz])), (rle, .inl ((xT g) 8, lcap, .inr (.inr (.inr (.inr lef)))))] (XSub.of [0, 1, 2, 3, 4, 5, 8, 9, 10, 11, 12, 6, 7] rfl (by decide)) (tX2_clear G.noTraces h) (lw_V q265 q266 q267 q66 q268) cdX2_clear 1 6 rfl rfl rfl (by decide) (by decide) rfl (Nat.le_of_ble_eq_true rfl) (Nat.le_of_ble_eq_true rfl) (Nat.le_of_ble_eq_true rfl) dX1_off_56 (fun w_4 h => ?_)
        show X g 5 59 [(3, .ref t0), (0, .ref h0), (1, .int p0), (2, .int p1)] [] [(t0, .inr (7, [.int tw, .int ty, .ref t0l, .ref t0r, .ref t0s, .int tc, .double tt])), (t0l, .inl ((xT g) 5, tn, .inr (.inr (.inr (.inl tl))))), (t0r, .inl ((xT g) 5, tn, .inr (.inr (.inr (.inl tr))))), (t0s, .inl ((xT g) 5, tn, .inr (.inr (.inr (.inl ts))))), (e1, .inr (1, [.ref e1w])), (e1w, .inl ((xT g) 2, 40, .inl w1)), (e3, .inr (1, [.ref e3w])), (e3w, .inl ((xT g) 2, 40, .inl w3)), (h0, .inr (0, [.ref lg, .ref e1, .ref e2, .ref e3, .ref rl, .int cur, .ref sh])), (rl, .inr (2, [.int lm, .ref rle, .int lz])), (rle, .inl ((xT g) 8, lcap, .inr (.inr (.inr (.inr lef))))), (e2, .inr (1, [.ref e2w])), (e2w, .inl ((xT g) 2, 40, .inl w_4))] 0 0
        refine x_aload_n G rfl dX1_off_59 1 rfl ?_
        refine x_get G in_X1 8 rfl rfl 3 (by decide) q162 (fun _ h => h) rfl dX1_off_60 ?_
        refine x_cVv1 (wc := [(e3, .inr (1, [.ref e3w])), (e3w, .inl ((xT g) 2, 40, .inl w3))]) (As := []) (rest := []) G [(t0, .inr (7, [.int tw, .int ty, .ref t0l, .ref t0r, .ref t0s, .int tc, .double tt])), (t0l, .inl ((xT g) 5, tn, .inr (.inr (.inr (.inl tl))))), (t0r, .inl ((xT g) 5, tn, .inr (.inr (.inr (.inl tr))))), (t0s, .inl ((xT g) 5, tn, .inr (.inr (.inr (.inl ts))))), (e1, .inr (1, [.ref e1w])), (e1w, .inl ((xT g) 2, 40, .inl w1)), (h0, .inr (0, [.ref lg, .ref e1, .ref e2, .ref e3, .ref rl, .int cur, .ref sh])), (rl, .inr (2, [.int lm, .ref rle, .int lz])), (rle, .inl ((xT g) 8, lcap, .inr (.inr (.inr (.inr lef))))), (e2, .inr (1, [.ref e2w])), (e2w, .inl ((xT g) 2, 40, .inl w_4))] (XSub.of [0, 1, 2, 3, 4, 5, 8, 9, 10, 11, 12, 6, 7] rfl (by decide)) (tX2_clear G.noTraces h) (lw_V q265 q266 q267 q66 q268) cdX2_clear 1 6 rfl rfl rfl (by decide) (by decide) rfl (Nat.le_of_ble_eq_true rfl) (Nat.le_of_ble_eq_true rfl) (Nat.le_of_ble_eq_true rfl) dX1_off_63 (fun w_5 h => ?_)
        show X g 5 66 [(3, .ref t0), (0, .ref h0), (1, .int p0), (2, .int p1)] [] [(t0, .inr (7, [.int tw, .int ty, .ref t0l, .ref t0r, .ref t0s, .int tc, .double tt])), (t0l, .inl ((xT g) 5, tn, .inr (.inr (.inr (.inl tl))))), (t0r, .inl ((xT g) 5, tn, .inr (.inr (.inr (.inl tr))))), (t0s, .inl ((xT g) 5, tn, .inr (.inr (.inr (.inl ts))))), (e1, .inr (1, [.ref e1w])), (e1w, .inl ((xT g) 2, 40, .inl w1)), (h0, .inr (0, [.ref lg, .ref e1, .ref e2, .ref e3, .ref rl, .int cur, .ref sh])), (rl, .inr (2, [.int lm, .ref rle, .int lz])), (rle, .inl ((xT g) 8, lcap, .inr (.inr (.inr (.inr lef))))), (e2, .inr (1, [.ref e2w])), (e2w, .inl ((xT g) 2, 40, .inl w_4)), (e3, .inr (1, [.ref e3w])), (e3w, .inl ((xT g) 2, 40, .inl w_5))] 0 0
        refine x_aload_n G rfl dX1_off_66 1 rfl ?_
        refine x_get G in_X1 6 rfl rfl 3 (by decide) q162 (fun _ h => h) rfl dX1_off_67 ?_
        refine x_dconst1 G dX1_off_70 ?_
        refine x_iconst (v := (0 : Int32)) G dX1_off_71 (by decide) ?_
        refine x_cVv1 (wc := [(e3, .inr (1, [.ref e3w])), (e3w, .inl ((xT g) 2, 40, .inl w_5))]) (As := [.double FP.dconst1, .int (0 : Int32)]) (rest := []) G [(t0, .inr (7, [.int tw, .int ty, .ref t0l, .ref t0r, .ref t0s, .int tc, .double tt])), (t0l, .inl ((xT g) 5, tn, .inr (.inr (.inr (.inl tl))))), (t0r, .inl ((xT g) 5, tn, .inr (.inr (.inr (.inl tr))))), (t0s, .inl ((xT g) 5, tn, .inr (.inr (.inr (.inl ts))))), (e1, .inr (1, [.ref e1w])), (e1w, .inl ((xT g) 2, 40, .inl w1)), (h0, .inr (0, [.ref lg, .ref e1, .ref e2, .ref e3, .ref rl, .int cur, .ref sh])), (rl, .inr (2, [.int lm, .ref rle, .int lz])), (rle, .inl ((xT g) 8, lcap, .inr (.inr (.inr (.inr lef))))), (e2, .inr (1, [.ref e2w])), (e2w, .inl ((xT g) 2, 40, .inl w_4))] (XSub.of [0, 1, 2, 3, 4, 5, 6, 7, 8, 9, 10, 11, 12] rfl (by decide)) (tX2_add G.noTraces h) (lw_V q269 q270 q271 q66 q272) cdX2_add 1 11 rfl rfl rfl (by decide) (by decide) rfl (Nat.le_of_ble_eq_true rfl) (Nat.le_of_ble_eq_true rfl) (Nat.le_of_ble_eq_true rfl) dX1_off_72 (fun w_6 h => ?_)
        show X g 5 75 [(3, .ref t0), (0, .ref h0), (1, .int p0), (2, .int p1)] [] [(t0, .inr (7, [.int tw, .int ty, .ref t0l, .ref t0r, .ref t0s, .int tc, .double tt])), (t0l, .inl ((xT g) 5, tn, .inr (.inr (.inr (.inl tl))))), (t0r, .inl ((xT g) 5, tn, .inr (.inr (.inr (.inl tr))))), (t0s, .inl ((xT g) 5, tn, .inr (.inr (.inr (.inl ts))))), (e1, .inr (1, [.ref e1w])), (e1w, .inl ((xT g) 2, 40, .inl w1)), (h0, .inr (0, [.ref lg, .ref e1, .ref e2, .ref e3, .ref rl, .int cur, .ref sh])), (rl, .inr (2, [.int lm, .ref rle, .int lz])), (rle, .inl ((xT g) 8, lcap, .inr (.inr (.inr (.inr lef))))), (e2, .inr (1, [.ref e2w])), (e2w, .inl ((xT g) 2, 40, .inl w_4)), (e3, .inr (1, [.ref e3w])), (e3w, .inl ((xT g) 2, 40, .inl w_6))] 0 0
        refine x_iconst (v := (0 : Int32)) G dX1_off_75 (by decide) ?_
        refine x_istore (lv' := [(4, .int (0 : Int32)), (3, .ref t0), (0, .ref h0), (1, .int p0), (2, .int p1)]) G dX1_off_76 (by decide) rfl ?_
        obtain ⟨n0, h⟩ := h
        refine kX1_off_L78 G (fun v4_40 w1_41 w2_42 h => ?_) (fun v4_43 w1_44 w2_45 h => ?_) n0 _ _ _ h
        · refine x_iload G dX1_off_194 0 rfl ?_
          exact x_reti3 G Q dX1_off_196 rfl w1_41 w2_42 w_6 h (XSub.of [6, 7, 8, 0, 1, 2, 3, 4, 5, 9, 10, 11, 12] rfl (by decide)) (Nat.le_of_ble_eq_true rfl) (Nat.le_of_ble_eq_true rfl)
        · refine x_iconst (v := (-1 : Int32)) G dX1_off_203 (by decide) ?_
          exact x_reti3 G Q dX1_off_204 rfl w1_44 w2_45 w_6 h (XSub.of [6, 7, 8, 0, 1, 2, 3, 4, 5, 9, 10, 11, 12] rfl (by decide)) (Nat.le_of_ble_eq_true rfl) (Nat.le_of_ble_eq_true rfl)
      · replace h := h.2 c
        refine x_bipush (v := (-104 : Int32)) G dX1_off_49 (by decide) ?_
        exact x_reti3 G Q dX1_off_51 rfl w1 w2 w3 h (XSub.of [10, 11, 12, 0, 1, 2, 3, 4, 5, 6, 7, 8, 9] rfl (by decide)) (Nat.le_of_ble_eq_true rfl) (Nat.le_of_ble_eq_true rfl)
    · replace h := h.2 c
      refine x_bipush (v := (-102 : Int32)) G dX1_off_23 (by decide) ?_
      exact x_reti3 G Q dX1_off_25 rfl w1 w2 w3 h (XSub.of [11, 12, 0, 1, 2, 3, 4, 5, 6, 7, 8, 9, 10] rfl (by decide)) (Nat.le_of_ble_eq_true rfl) (Nat.le_of_ble_eq_true rfl)
  · replace h := h.2 c
    refine x_bipush (v := (-101 : Int32)) G dX1_off_8 (by decide) ?_
    exact x_reti3 G Q dX1_off_10 rfl w1 w2 w3 h (XSub.of [11, 12, 0, 1, 2, 3, 4, 5, 6, 7, 8, 9, 10] rfl (by decide)) (Nat.le_of_ble_eq_true rfl) (Nat.le_of_ble_eq_true rfl)
theorem cdX1_parts : yX1_parts.cls = RX1 ∧ yX1_parts.cls ≠ "java/lang/invoke/MethodHandle" ∧ yX1_parts.cls ≠ "java/lang/invoke/VarHandle" ∧ (parseMethodDescriptor yX1_parts.desc).map (fun d => d.parameters.length) = some 2 := by decide +kernel
def wX1_parts_N (p0 : Int32) (p1 : Int32) (lz : Int32) (K : Int32 → Prop) : Prop := (wX1_isRun p0 lz (fun (r_1 : Int32) => ((r_1 = (0 : Int32) → K (-101 : Int32)) ∧ (¬ r_1 = (0 : Int32) → (wX1_isRun p1 lz (fun (r_2 : Int32) => ((¬ r_2 = (0 : Int32) → False) ∧ (r_2 = (0 : Int32) → K (-101 : Int32)))))))))
set_option maxRecDepth 20000 in
theorem tX1_parts_N {l : Launch} {D : va_G} {ta : Nat → ClassId} {h0 : Nat} {lg : Nat} {e1 : Nat} {e2 : Nat} {e3 : Nat} {rl : Nat} {cur : Int32} {sh : Nat} {lm : Int32} {rle : Nat} {lz : Int32} {p0 : Int32} {p1 : Int32} {K : Int32 → Prop} (hlt : l.stackTraces = false) (h : wX1_parts_N p0 p1 lz K) : SMi0 l D ta yX1_parts cX1_parts 6 FieldType.int 4 [.ref h0, .int p0, .int p1] [(h0, .inr (0, [.ref lg, .ref e1, .ref e2, .ref e3, .ref rl, .int cur, .ref sh])), (rl, .inr (2, [.int lm, .ref rle, .int lz]))] ([(h0, .inr (0, [.ref lg, .ref e1, .ref e2, .ref e3, .ref rl, .int cur, .ref sh])), (rl, .inr (2, [.int lm, .ref rle, .int lz]))]) 0 0 K := by
  refine x_sti0 hlt (plainFor_of_name (by decide +kernel)) (Nat.le_of_ble_eq_true rfl) (fun g G hl hD hT Q => ?_)
  subst hl; subst hD; subst hT
  unfold wX1_parts_N at h
  show X g 6 0 [(0, .ref h0), (1, .int p0), (2, .int p1)] [] [(h0, .inr (0, [.ref lg, .ref e1, .ref e2, .ref e3, .ref rl, .int cur, .ref sh])), (rl, .inr (2, [.int lm, .ref rle, .int lz]))] 0 0
  refine x_aload_n G rfl dX1_parts_0 0 rfl ?_
  refine x_iload_n G rfl dX1_parts_1 1 rfl ?_
  refine x_cVi0 (wc := [(h0, .inr (0, [.ref lg, .ref e1, .ref e2, .ref e3, .ref rl, .int cur, .ref sh])), (rl, .inr (2, [.int lm, .ref rle, .int lz]))]) (As := [.int p0]) (rest := []) G [] (XSub.of [0, 1] rfl (by decide)) (tX1_isRun G.noTraces h) (lw_V q185 q187 qs0 q65 q188) cdX1_isRun 0 0 rfl rfl rfl (by decide) (by decide) rfl (Nat.le_of_ble_eq_true rfl) (Nat.le_of_ble_eq_true rfl) (Nat.le_of_ble_eq_true rfl) dX1_parts_2 (fun r_1 h => ?_)
  show X g 6 5 [(0, .ref h0), (1, .int p0), (2, .int p1)] [.int r_1] [(h0, .inr (0, [.ref lg, .ref e1, .ref e2, .ref e3, .ref rl, .int cur, .ref sh])), (rl, .inr (2, [.int lm, .ref rle, .int lz]))] 0 0
  refine x_if_eq (tgt := 16) G dX1_parts_5 rfl (fun c => ?_) (fun c => ?_)
  · replace h := h.1 c
    refine x_bipush (v := (-101 : Int32)) G dX1_parts_16 (by decide) ?_
    exact x_reti0 G Q dX1_parts_18 rfl  h XSub.rf (Nat.le_of_ble_eq_true rfl) (Nat.le_of_ble_eq_true rfl)
  · replace h := h.2 c
    refine x_aload_n G rfl dX1_parts_8 0 rfl ?_
    refine x_iload_n G rfl dX1_parts_9 2 rfl ?_
    refine x_cVi0 (wc := [(h0, .inr (0, [.ref lg, .ref e1, .ref e2, .ref e3, .ref rl, .int cur, .ref sh])), (rl, .inr (2, [.int lm, .ref rle, .int lz]))]) (As := [.int p1]) (rest := []) G [] (XSub.of [0, 1] rfl (by decide)) (tX1_isRun G.noTraces h) (lw_V q185 q187 qs0 q65 q188) cdX1_isRun 0 0 rfl rfl rfl (by decide) (by decide) rfl (Nat.le_of_ble_eq_true rfl) (Nat.le_of_ble_eq_true rfl) (Nat.le_of_ble_eq_true rfl) dX1_parts_10 (fun r_2 h => ?_)
    show X g 6 13 [(0, .ref h0), (1, .int p0), (2, .int p1)] [.int r_2] [(h0, .inr (0, [.ref lg, .ref e1, .ref e2, .ref e3, .ref rl, .int cur, .ref sh])), (rl, .inr (2, [.int lm, .ref rle, .int lz]))] 0 0
    refine x_if_ne (tgt := 19) G dX1_parts_13 rfl (fun c => ?_) (fun c => ?_)
    · replace h := h.1 c
      refine x_aload_n G rfl dX1_parts_19 0 rfl ?_
      refine x_get G in_X1 0 rfl rfl 4 (by decide) q163 (fun _ h => h) rfl dX1_parts_20 ?_
      refine x_iload_n G rfl dX1_parts_23 1 rfl ?_
      exact h.elim
    · replace h := h.2 c
      refine x_bipush (v := (-101 : Int32)) G dX1_parts_16 (by decide) ?_
      exact x_reti0 G Q dX1_parts_18 rfl  h XSub.rf (Nat.le_of_ble_eq_true rfl) (Nat.le_of_ble_eq_true rfl)
def wX1_parts_L51 (tw : Int32) (tc : Int32) (tn : Nat) (ts : Nat → UInt64) (tw2 : Int32) (tc2 : Int32) (tn2 : Nat) (ts2 : Nat → UInt64) (X115 : Int32 → Prop) (X124 : Int32 → Prop) : Nat → Int32 → Prop
  | 0, _ => False
  | n + 1, v5_5 => (wJ13_max tc tc2 (fun (r_6 : Int32) => ((r_6 ≤ v5_5 → X124 v5_5) ∧ (¬ r_6 ≤ v5_5 → ((tc ≤ v5_5 → X115 v5_5) ∧ (¬ tc ≤ v5_5 → ((tc2 ≤ v5_5 → X115 v5_5) ∧ (¬ tc2 ≤ v5_5 → (vp_in v5_5 tn ∧ (wX8_bits (ts v5_5.toNatClampNeg) tw (fun (r_7 : Int64) => (vp_in v5_5 tn2 ∧ (wX8_bits (ts2 v5_5.toNatClampNeg) tw2 (fun (r_8 : Int64) => ((r_7 = r_8 → (∀ x_9 : Int32, x_9 = (v5_5 + (1 : Int32)) → wX1_parts_L51 tw tc tn ts tw2 tc2 tn2 ts2 X115 X124 n x_9)) ∧ (¬ r_7 = r_8 → X115 v5_5))))))))))))))))
def wX1_parts (p0 : Int32) (p1 : Int32) (lz : Int32) (lcap : Nat) (lef : Nat → Option Nat) (t0 : Nat) (tw : Int32) (tc : Int32) (tn : Nat) (ts : Nat → UInt64) (t1 : Nat) (tw2 : Int32) (tc2 : Int32) (tn2 : Nat) (ts2 : Nat → UInt64) (K : Int32 → Prop) : Prop := (wX1_isRun p0 lz (fun (r_1 : Int32) => ((r_1 = (0 : Int32) → K (-101 : Int32)) ∧ (¬ r_1 = (0 : Int32) → (wX1_isRun p1 lz (fun (r_2 : Int32) => ((¬ r_2 = (0 : Int32) → (wJ2_get p0 lz lcap lef (fun (r_3 : Option Nat) => (r_3 = some t0 ∧ (wJ2_get p1 lz lcap lef (fun (r_4 : Option Nat) => (r_4 = some t1 ∧ (∃ m51 : Nat, wX1_parts_L51 tw tc tn ts tw2 tc2 tn2 ts2 (fun (v5_12 : Int32) => K v5_12) (fun (v5_13 : Int32) => K (-1 : Int32)) m51 (0 : Int32))))))))) ∧ (r_2 = (0 : Int32) → K (-101 : Int32)))))))))
set_option maxRecDepth 20000 in
theorem kX1_parts_L51 {g : XG} {h0 : Nat} {lg : Nat} {e1 : Nat} {e2 : Nat} {e3 : Nat} {rl : Nat} {cur : Int32} {sh : Nat} {lm : Int32} {rle : Nat} {lz : Int32} {lcap : Nat} {lef : Nat → Option Nat} {t0 : Nat} {tw : Int32} {ty : Int32} {t0l : Nat} {t0r : Nat} {t0s : Nat} {tc : Int32} {tt : UInt64} {tn : Nat} {tl : Nat → UInt64} {tr : Nat → UInt64} {ts : Nat → UInt64} {t1 : Nat} {tw2 : Int32} {ty2 : Int32} {t1l : Nat} {t1r : Nat} {t1s : Nat} {tc2 : Int32} {tt2 : UInt64} {tn2 : Nat} {tl2 : Nat → UInt64} {tr2 : Nat → UInt64} {ts2 : Nat → UInt64} {p0 : Int32} {p1 : Int32} {X115 : Int32 → Prop} {X124 : Int32 → Prop} (G : XO g RX1 cX1_parts 6 4 0 0) (hX115 : ∀ (v5_10 : Int32), X115 v5_10 → X g 6 115 [(5, .int v5_10), (4, .ref t1), (3, .ref t0), (0, .ref h0), (1, .int p0), (2, .int p1)] [] [(t0, .inr (7, [.int tw, .int ty, .ref t0l, .ref t0r, .ref t0s, .int tc, .double tt])), (t0l, .inl ((xT g) 5, tn, .inr (.inr (.inr (.inl tl))))), (t0r, .inl ((xT g) 5, tn, .inr (.inr (.inr (.inl tr))))), (t0s, .inl ((xT g) 5, tn, .inr (.inr (.inr (.inl ts))))), (t1, .inr (7, [.int tw2, .int ty2, .ref t1l, .ref t1r, .ref t1s, .int tc2, .double tt2])), (t1l, .inl ((xT g) 5, tn2, .inr (.inr (.inr (.inl tl2))))), (t1r, .inl ((xT g) 5, tn2, .inr (.inr (.inr (.inl tr2))))), (t1s, .inl ((xT g) 5, tn2, .inr (.inr (.inr (.inl ts2))))), (h0, .inr (0, [.ref lg, .ref e1, .ref e2, .ref e3, .ref rl, .int cur, .ref sh])), (rl, .inr (2, [.int lm, .ref rle, .int lz])), (rle, .inl ((xT g) 8, lcap, .inr (.inr (.inr (.inr lef)))))] 0 0) (hX124 : ∀ (v5_11 : Int32), X124 v5_11 → X g 6 124 [(5, .int v5_11), (4, .ref t1), (3, .ref t0), (0, .ref h0), (1, .int p0), (2, .int p1)] [] [(t0, .inr (7, [.int tw, .int ty, .ref t0l, .ref t0r, .ref t0s, .int tc, .double tt])), (t0l, .inl ((xT g) 5, tn, .inr (.inr (.inr (.inl tl))))), (t0r, .inl ((xT g) 5, tn, .inr (.inr (.inr (.inl tr))))), (t0s, .inl ((xT g) 5, tn, .inr (.inr (.inr (.inl ts))))), (t1, .inr (7, [.int tw2, .int ty2, .ref t1l, .ref t1r, .ref t1s, .int tc2, .double tt2])), (t1l, .inl ((xT g) 5, tn2, .inr (.inr (.inr (.inl tl2))))), (t1r, .inl ((xT g) 5, tn2, .inr (.inr (.inr (.inl tr2))))), (t1s, .inl ((xT g) 5, tn2, .inr (.inr (.inr (.inl ts2))))), (h0, .inr (0, [.ref lg, .ref e1, .ref e2, .ref e3, .ref rl, .int cur, .ref sh])), (rl, .inr (2, [.int lm, .ref rle, .int lz])), (rle, .inl ((xT g) 8, lcap, .inr (.inr (.inr (.inr lef)))))] 0 0) : ∀ (n : Nat) (v5_5 : Int32), wX1_parts_L51 tw tc tn ts tw2 tc2 tn2 ts2 X115 X124 n v5_5 → X g 6 51 [(5, .int v5_5), (4, .ref t1), (3, .ref t0), (0, .ref h0), (1, .int p0), (2, .int p1)] [] [(t0, .inr (7, [.int tw, .int ty, .ref t0l, .ref t0r, .ref t0s, .int tc, .double tt])), (t0l, .inl ((xT g) 5, tn, .inr (.inr (.inr (.inl tl))))), (t0r, .inl ((xT g) 5, tn, .inr (.inr (.inr (.inl tr))))), (t0s, .inl ((xT g) 5, tn, .inr (.inr (.inr (.inl ts))))), (t1, .inr (7, [.int tw2, .int ty2, .ref t1l, .ref t1r, .ref t1s, .int tc2, .double tt2])), (t1l, .inl ((xT g) 5, tn2, .inr (.inr (.inr (.inl tl2))))), (t1r, .inl ((xT g) 5, tn2, .inr (.inr (.inr (.inl tr2))))), (t1s, .inl ((xT g) 5, tn2, .inr (.inr (.inr (.inl ts2))))), (h0, .inr (0, [.ref lg, .ref e1, .ref e2, .ref e3, .ref rl, .int cur, .ref sh])), (rl, .inr (2, [.int lm, .ref rle, .int lz])), (rle, .inl ((xT g) 8, lcap, .inr (.inr (.inr (.inr lef)))))] 0 0 := by
  intro n
  induction n with
  | zero => intro _ h; exact h.elim
  | succ n ih =>
    intro v5_5 h
    unfold wX1_parts_L51 at h
    refine x_iload G dX1_parts_51 0 rfl ?_
    refine x_aload_n G rfl dX1_parts_53 2 rfl ?_
    refine x_getN (host := "RoundingAuditor") G in_X8 0 rfl rfl 5 (by decide) (by decide) (fun _ h => h) rfl dX1_parts_54 ?_
    refine x_aload G dX1_parts_57 1 rfl ?_
    refine x_getN (host := "RoundingAuditor") G in_X8 4 rfl rfl 5 (by decide) (by decide) (fun _ h => h) rfl dX1_parts_59 ?_
    refine x_cPi (As := [.int tc, .int tc2]) (rest := [.int v5_5]) G (tJ13_max G.noTraces h) (lw_S q366 q306 q85 q307) cdJ13_max (by decide) (by decide) rfl (Nat.le_of_ble_eq_true rfl) (Nat.le_of_ble_eq_true rfl) (Nat.le_of_ble_eq_true rfl) dX1_parts_62 (fun r_6 h => ?_)
    refine x_icmp_ge (tgt := 124) G dX1_parts_65 rfl (fun c => ?_) (fun c => ?_)
    · replace h := h.1 c
      exact hX124 v5_5 h
    · replace h := h.2 c
      refine x_iload G dX1_parts_68 0 rfl ?_
      refine x_aload_n G rfl dX1_parts_70 2 rfl ?_
      refine x_getN (host := "RoundingAuditor") G in_X8 0 rfl rfl 5 (by decide) (by decide) (fun _ h => h) rfl dX1_parts_71 ?_
      refine x_icmp_ge (tgt := 115) G dX1_parts_74 rfl (fun c => ?_) (fun c => ?_)
      · replace h := h.1 c
        exact hX115 v5_5 h
      · replace h := h.2 c
        refine x_iload G dX1_parts_77 0 rfl ?_
        refine x_aload G dX1_parts_79 1 rfl ?_
        refine x_getN (host := "RoundingAuditor") G in_X8 4 rfl rfl 5 (by decide) (by decide) (fun _ h => h) rfl dX1_parts_81 ?_
        refine x_icmp_ge (tgt := 115) G dX1_parts_84 rfl (fun c => ?_) (fun c => ?_)
        · replace h := h.1 c
          exact hX115 v5_5 h
        · replace h := h.2 c
          refine x_aload_n G rfl dX1_parts_87 2 rfl ?_
          refine x_aload_n G rfl dX1_parts_88 2 rfl ?_
          refine x_getN (host := "RoundingAuditor") G in_X8 0 rfl rfl 4 (by decide) (by decide) (fun _ h => h) rfl dX1_parts_89 ?_
          refine x_iload G dX1_parts_92 0 rfl ?_
          obtain ⟨hz, h⟩ := h
          refine x_dald G 3 rfl hz dX1_parts_94 ?_
          refine x_cVl0 (wc := [(t0, .inr (7, [.int tw, .int ty, .ref t0l, .ref t0r, .ref t0s, .int tc, .double tt]))]) (As := [.double (ts v5_5.toNatClampNeg)]) (rest := []) G [(t0l, .inl ((xT g) 5, tn, .inr (.inr (.inr (.inl tl))))), (t0r, .inl ((xT g) 5, tn, .inr (.inr (.inr (.inl tr))))), (t0s, .inl ((xT g) 5, tn, .inr (.inr (.inr (.inl ts))))), (t1, .inr (7, [.int tw2, .int ty2, .ref t1l, .ref t1r, .ref t1s, .int tc2, .double tt2])), (t1l, .inl ((xT g) 5, tn2, .inr (.inr (.inr (.inl tl2))))), (t1r, .inl ((xT g) 5, tn2, .inr (.inr (.inr (.inl tr2))))), (t1s, .inl ((xT g) 5, tn2, .inr (.inr (.inr (.inl ts2))))), (h0, .inr (0, [.ref lg, .ref e1, .ref e2, .ref e3, .ref rl, .int cur, .ref sh])), (rl, .inr (2, [.int lm, .ref rle, .int lz])), (rle, .inl ((xT g) 8, lcap, .inr (.inr (.inr (.inr lef)))))] (XSub.of [1, 2, 3, 4, 5, 6, 7, 8, 9, 10, 0] rfl (by decide)) (tX8_bits G.noTraces h) (lw_V q222 q223 q224 q89 q225) cdX8_bits 7 0 rfl rfl rfl (by decide) (by decide) rfl (Nat.le_of_ble_eq_true rfl) (Nat.le_of_ble_eq_true rfl) (Nat.le_of_ble_eq_true rfl) dX1_parts_95 (fun r_7 h => ?_)
          show X g 6 98 [(5, .int v5_5), (4, .ref t1), (3, .ref t0), (0, .ref h0), (1, .int p0), (2, .int p1)] [.long r_7] [(t0l, .inl ((xT g) 5, tn, .inr (.inr (.inr (.inl tl))))), (t0r, .inl ((xT g) 5, tn, .inr (.inr (.inr (.inl tr))))), (t0s, .inl ((xT g) 5, tn, .inr (.inr (.inr (.inl ts))))), (t1, .inr (7, [.int tw2, .int ty2, .ref t1l, .ref t1r, .ref t1s, .int tc2, .double tt2])), (t1l, .inl ((xT g) 5, tn2, .inr (.inr (.inr (.inl tl2))))), (t1r, .inl ((xT g) 5, tn2, .inr (.inr (.inr (.inl tr2))))), (t1s, .inl ((xT g) 5, tn2, .inr (.inr (.inr (.inl ts2))))), (h0, .inr (0, [.ref lg, .ref e1, .ref e2, .ref e3, .ref rl, .int cur, .ref sh])), (rl, .inr (2, [.int lm, .ref rle, .int lz])), (rle, .inl ((xT g) 8, lcap, .inr (.inr (.inr (.inr lef))))), (t0, .inr (7, [.int tw, .int ty, .ref t0l, .ref t0r, .ref t0s, .int tc, .double tt]))] 0 0
          refine x_aload G dX1_parts_98 1 rfl ?_
          refine x_aload G dX1_parts_100 1 rfl ?_
          refine x_getN (host := "RoundingAuditor") G in_X8 3 rfl rfl 4 (by decide) (by decide) (fun _ h => h) rfl dX1_parts_102 ?_
          refine x_iload G dX1_parts_105 0 rfl ?_
          obtain ⟨hz, h⟩ := h
          refine x_dald G 6 rfl hz dX1_parts_107 ?_
          refine x_cVl0 (wc := [(t1, .inr (7, [.int tw2, .int ty2, .ref t1l, .ref t1r, .ref t1s, .int tc2, .double tt2]))]) (As := [.double (ts2 v5_5.toNatClampNeg)]) (rest := [.long r_7]) G [(t0l, .inl ((xT g) 5, tn, .inr (.inr (.inr (.inl tl))))), (t0r, .inl ((xT g) 5, tn, .inr (.inr (.inr (.inl tr))))), (t0s, .inl ((xT g) 5, tn, .inr (.inr (.inr (.inl ts))))), (t1l, .inl ((xT g) 5, tn2, .inr (.inr (.inr (.inl tl2))))), (t1r, .inl ((xT g) 5, tn2, .inr (.inr (.inr (.inl tr2))))), (t1s, .inl ((xT g) 5, tn2, .inr (.inr (.inr (.inl ts2))))), (h0, .inr (0, [.ref lg, .ref e1, .ref e2, .ref e3, .ref rl, .int cur, .ref sh])), (rl, .inr (2, [.int lm, .ref rle, .int lz])), (rle, .inl ((xT g) 8, lcap, .inr (.inr (.inr (.inr lef))))), (t0, .inr (7, [.int tw, .int ty, .ref t0l, .ref t0r, .ref t0s, .int tc, .double tt]))] (XSub.of [0, 1, 2, 4, 5, 6, 7, 8, 9, 10, 3] rfl (by decide)) (tX8_bits G.noTraces h) (lw_V q222 q223 q224 q89 q225) cdX8_bits 7 3 rfl rfl rfl (by decide) (by decide) rfl (Nat.le_of_ble_eq_true rfl) (Nat.le_of_ble_eq_true rfl) (Nat.le_of_ble_eq_true rfl) dX1_parts_108 (fun r_8 h => ?_)
          show X g 6 111 [(5, .int v5_5), (4, .ref t1), (3, .ref t0), (0, .ref h0), (1, .int p0), (2, .int p1)] [.long r_8, .long r_7] [(t0l, .inl ((xT g) 5, tn, .inr (.inr (.inr (.inl tl))))), (t0r, .inl ((xT g) 5, tn, .inr (.inr (.inr (.inl tr))))), (t0s, .inl ((xT g) 5, tn, .inr (.inr (.inr (.inl ts))))), (t1l, .inl ((xT g) 5, tn2, .inr (.inr (.inr (.inl tl2))))), (t1r, .inl ((xT g) 5, tn2, .inr (.inr (.inr (.inl tr2))))), (t1s, .inl ((xT g) 5, tn2, .inr (.inr (.inr (.inl ts2))))), (h0, .inr (0, [.ref lg, .ref e1, .ref e2, .ref e3, .ref rl, .int cur, .ref sh])), (rl, .inr (2, [.int lm, .ref rle, .int lz])), (rle, .inl ((xT g) 8, lcap, .inr (.inr (.inr (.inr lef))))), (t0, .inr (7, [.int tw, .int ty, .ref t0l, .ref t0r, .ref t0s, .int tc, .double tt])), (t1, .inr (7, [.int tw2, .int ty2, .ref t1l, .ref t1r, .ref t1s, .int tc2, .double tt2]))] 0 0
          refine x_lcmp_eq (tgt := 118) G dX1_parts_111 dX1_parts_112 rfl (fun c => ?_) (fun c => ?_)
          · replace h := h.1 c
            obtain ⟨x_9, ex_9⟩ : ∃ z : Int32, z = (v5_5 + (1 : Int32)) := ⟨_, rfl⟩
            replace h := h x_9 ex_9
            refine x_iinc (v := x_9) (lv' := [(5, .int x_9), (4, .ref t1), (3, .ref t0), (0, .ref h0), (1, .int p0), (2, .int p1)]) G dX1_parts_118 0 rfl (by rw [ex_9]; rfl) (by decide) rfl ?_
            refine x_goto (tgt := 51) G dX1_parts_121 rfl ?_
            refine x_ws (ws' := [(t0, .inr (7, [.int tw, .int ty, .ref t0l, .ref t0r, .ref t0s, .int tc, .double tt])), (t0l, .inl ((xT g) 5, tn, .inr (.inr (.inr (.inl tl))))), (t0r, .inl ((xT g) 5, tn, .inr (.inr (.inr (.inl tr))))), (t0s, .inl ((xT g) 5, tn, .inr (.inr (.inr (.inl ts))))), (t1, .inr (7, [.int tw2, .int ty2, .ref t1l, .ref t1r, .ref t1s, .int tc2, .double tt2])), (t1l, .inl ((xT g) 5, tn2, .inr (.inr (.inr (.inl tl2))))), (t1r, .inl ((xT g) 5, tn2, .inr (.inr (.inr (.inl tr2))))), (t1s, .inl ((xT g) 5, tn2, .inr (.inr (.inr (.inl ts2))))), (h0, .inr (0, [.ref lg, .ref e1, .ref e2, .ref e3, .ref rl, .int cur, .ref sh])), (rl, .inr (2, [.int lm, .ref rle, .int lz])), (rle, .inl ((xT g) 8, lcap, .inr (.inr (.inr (.inr lef)))))]) (XSub.of [9, 0, 1, 2, 10, 3, 4, 5, 6, 7, 8] rfl (by decide)) ?_
            exact ih x_9 h
          · replace h := h.2 c
            refine x_ws (ws' := [(t0, .inr (7, [.int tw, .int ty, .ref t0l, .ref t0r, .ref t0s, .int tc, .double tt])), (t0l, .inl ((xT g) 5, tn, .inr (.inr (.inr (.inl tl))))), (t0r, .inl ((xT g) 5, tn, .inr (.inr (.inr (.inl tr))))), (t0s, .inl ((xT g) 5, tn, .inr (.inr (.inr (.inl ts))))), (t1, .inr (7, [.int tw2, .int ty2, .ref t1l, .ref t1r, .ref t1s, .int tc2, .double tt2])), (t1l, .inl ((xT g) 5, tn2, .inr (.inr (.inr (.inl tl2))))), (t1r, .inl ((xT g) 5, tn2, .inr (.inr (.inr (.inl tr2))))), (t1s, .inl ((xT g) 5, tn2, .inr (.inr (.inr (.inl ts2))))), (h0, .inr (0, [.ref lg, .ref e1, .ref e2, .ref e3, .ref rl, .int cur, .ref sh])), (rl, .inr (2, [.int lm, .ref rle, .int lz])), (rle, .inl ((xT g) 8, lcap, .inr (.inr (.inr (.inr lef)))))]) (XSub.of [9, 0, 1, 2, 10, 3, 4, 5, 6, 7, 8] rfl (by decide)) ?_
            exact hX115 v5_5 h
set_option maxRecDepth 20000 in
theorem tX1_parts {l : Launch} {D : va_G} {ta : Nat → ClassId} {h0 : Nat} {lg : Nat} {e1 : Nat} {e2 : Nat} {e3 : Nat} {rl : Nat} {cur : Int32} {sh : Nat} {lm : Int32} {rle : Nat} {lz : Int32} {lcap : Nat} {lef : Nat → Option Nat} {t0 : Nat} {tw : Int32} {ty : Int32} {t0l : Nat} {t0r : Nat} {t0s : Nat} {tc : Int32} {tt : UInt64} {tn : Nat} {tl : Nat → UInt64} {tr : Nat → UInt64} {ts : Nat → UInt64} {t1 : Nat} {tw2 : Int32} {ty2 : Int32} {t1l : Nat} {t1r : Nat} {t1s : Nat} {tc2 : Int32} {tt2 : UInt64} {tn2 : Nat} {tl2 : Nat → UInt64} {tr2 : Nat → UInt64} {ts2 : Nat → UInt64} {p0 : Int32} {p1 : Int32} {K : Int32 → Prop} (hlt : l.stackTraces = false) (h : wX1_parts p0 p1 lz lcap lef t0 tw tc tn ts t1 tw2 tc2 tn2 ts2 K) : SMi0 l D ta yX1_parts cX1_parts 6 FieldType.int 4 [.ref h0, .int p0, .int p1] [(h0, .inr (0, [.ref lg, .ref e1, .ref e2, .ref e3, .ref rl, .int cur, .ref sh])), (rl, .inr (2, [.int lm, .ref rle, .int lz])), (rle, .inl (ta 8, lcap, .inr (.inr (.inr (.inr lef))))), (t0, .inr (7, [.int tw, .int ty, .ref t0l, .ref t0r, .ref t0s, .int tc, .double tt])), (t0l, .inl (ta 5, tn, .inr (.inr (.inr (.inl tl))))), (t0r, .inl (ta 5, tn, .inr (.inr (.inr (.inl tr))))), (t0s, .inl (ta 5, tn, .inr (.inr (.inr (.inl ts))))), (t1, .inr (7, [.int tw2, .int ty2, .ref t1l, .ref t1r, .ref t1s, .int tc2, .double tt2])), (t1l, .inl (ta 5, tn2, .inr (.inr (.inr (.inl tl2))))), (t1r, .inl (ta 5, tn2, .inr (.inr (.inr (.inl tr2))))), (t1s, .inl (ta 5, tn2, .inr (.inr (.inr (.inl ts2)))))] ([(h0, .inr (0, [.ref lg, .ref e1, .ref e2, .ref e3, .ref rl, .int cur, .ref sh])), (rl, .inr (2, [.int lm, .ref rle, .int lz])), (rle, .inl (ta 8, lcap, .inr (.inr (.inr (.inr lef))))), (t0, .inr (7, [.int tw, .int ty, .ref t0l, .ref t0r, .ref t0s, .int tc, .double tt])), (t0l, .inl (ta 5, tn, .inr (.inr (.inr (.inl tl))))), (t0r, .inl (ta 5, tn, .inr (.inr (.inr (.inl tr))))), (t0s, .inl (ta 5, tn, .inr (.inr (.inr (.inl ts))))), (t1, .inr (7, [.int tw2, .int ty2, .ref t1l, .ref t1r, .ref t1s, .int tc2, .double tt2])), (t1l, .inl (ta 5, tn2, .inr (.inr (.inr (.inl tl2))))), (t1r, .inl (ta 5, tn2, .inr (.inr (.inr (.inl tr2))))), (t1s, .inl (ta 5, tn2, .inr (.inr (.inr (.inl ts2)))))]) 0 0 K := by
  refine x_sti0 hlt (plainFor_of_name (by decide +kernel)) (Nat.le_of_ble_eq_true rfl) (fun g G hl hD hT Q => ?_)
  subst hl; subst hD; subst hT
  unfold wX1_parts at h
  show X g 6 0 [(0, .ref h0), (1, .int p0), (2, .int p1)] [] [(h0, .inr (0, [.ref lg, .ref e1, .ref e2, .ref e3, .ref rl, .int cur, .ref sh])), (rl, .inr (2, [.int lm, .ref rle, .int lz])), (rle, .inl ((xT g) 8, lcap, .inr (.inr (.inr (.inr lef))))), (t0, .inr (7, [.int tw, .int ty, .ref t0l, .ref t0r, .ref t0s, .int tc, .double tt])), (t0l, .inl ((xT g) 5, tn, .inr (.inr (.inr (.inl tl))))), (t0r, .inl ((xT g) 5, tn, .inr (.inr (.inr (.inl tr))))), (t0s, .inl ((xT g) 5, tn, .inr (.inr (.inr (.inl ts))))), (t1, .inr (7, [.int tw2, .int ty2, .ref t1l, .ref t1r, .ref t1s, .int tc2, .double tt2])), (t1l, .inl ((xT g) 5, tn2, .inr (.inr (.inr (.inl tl2))))), (t1r, .inl ((xT g) 5, tn2, .inr (.inr (.inr (.inl tr2))))), (t1s, .inl ((xT g) 5, tn2, .inr (.inr (.inr (.inl ts2)))))] 0 0
  refine x_aload_n G rfl dX1_parts_0 0 rfl ?_
  refine x_iload_n G rfl dX1_parts_1 1 rfl ?_
  refine x_cVi0 (wc := [(h0, .inr (0, [.ref lg, .ref e1, .ref e2, .ref e3, .ref rl, .int cur, .ref sh])), (rl, .inr (2, [.int lm, .ref rle, .int lz]))]) (As := [.int p0]) (rest := []) G [(rle, .inl ((xT g) 8, lcap, .inr (.inr (.inr (.inr lef))))), (t0, .inr (7, [.int tw, .int ty, .ref t0l, .ref t0r, .ref t0s, .int tc, .double tt])), (t0l, .inl ((xT g) 5, tn, .inr (.inr (.inr (.inl tl))))), (t0r, .inl ((xT g) 5, tn, .inr (.inr (.inr (.inl tr))))), (t0s, .inl ((xT g) 5, tn, .inr (.inr (.inr (.inl ts))))), (t1, .inr (7, [.int tw2, .int ty2, .ref t1l, .ref t1r, .ref t1s, .int tc2, .double tt2])), (t1l, .inl ((xT g) 5, tn2, .inr (.inr (.inr (.inl tl2))))), (t1r, .inl ((xT g) 5, tn2, .inr (.inr (.inr (.inl tr2))))), (t1s, .inl ((xT g) 5, tn2, .inr (.inr (.inr (.inl ts2)))))] (XSub.of [2, 3, 4, 5, 6, 7, 8, 9, 10, 0, 1] rfl (by decide)) (tX1_isRun G.noTraces h) (lw_V q185 q187 qs0 q65 q188) cdX1_isRun 0 0 rfl rfl rfl (by decide) (by decide) rfl (Nat.le_of_ble_eq_true rfl) (Nat.le_of_ble_eq_true rfl) (Nat.le_of_ble_eq_true rfl) dX1_parts_2 (fun r_1 h => ?_)
  show X g 6 5 [(0, .ref h0), (1, .int p0), (2, .int p1)] [.int r_1] [(rle, .inl ((xT g) 8, lcap, .inr (.inr (.inr (.inr lef))))), (t0, .inr (7, [.int tw, .int ty, .ref t0l, .ref t0r, .ref t0s, .int tc, .double tt])), (t0l, .inl ((xT g) 5, tn, .inr (.inr (.inr (.inl tl))))), (t0r, .inl ((xT g) 5, tn, .inr (.inr (.inr (.inl tr))))), (t0s, .inl ((xT g) 5, tn, .inr (.inr (.inr (.inl ts))))), (t1, .inr (7, [.int tw2, .int ty2, .ref t1l, .ref t1r, .ref t1s, .int tc2, .double tt2])), (t1l, .inl ((xT g) 5, tn2, .inr (.inr (.inr (.inl tl2))))), (t1r, .inl ((xT g) 5, tn2, .inr (.inr (.inr (.inl tr2))))), (t1s, .inl ((xT g) 5, tn2, .inr (.inr (.inr (.inl ts2))))), (h0, .inr (0, [.ref lg, .ref e1, .ref e2, .ref e3, .ref rl, .int cur, .ref sh])), (rl, .inr (2, [.int lm, .ref rle, .int lz]))] 0 0
  refine x_if_eq (tgt := 16) G dX1_parts_5 rfl (fun c => ?_) (fun c => ?_)
  · replace h := h.1 c
    refine x_bipush (v := (-101 : Int32)) G dX1_parts_16 (by decide) ?_
    exact x_reti0 G Q dX1_parts_18 rfl  h (XSub.of [9, 10, 0, 1, 2, 3, 4, 5, 6, 7, 8] rfl (by decide)) (Nat.le_of_ble_eq_true rfl) (Nat.le_of_ble_eq_true rfl)
  · replace h := h.2 c
    refine x_aload_n G rfl dX1_parts_8 0 rfl ?_
    refine x_iload_n G rfl dX1_parts_9 2 rfl ?_
    refine x_cVi0 (wc := [(h0, .inr (0, [.ref lg, .ref e1, .ref e2, .ref e3, .ref rl, .int cur, .ref sh])), (rl, .inr (2, [.int lm, .ref rle, .int lz]))]) (As := [.int p1]) (rest := []) G [(rle, .inl ((xT g) 8, lcap, .inr (.inr (.inr (.inr lef))))), (t0, .inr (7, [.int tw, .int ty, .ref t0l, .ref t0r, .ref t0s, .int tc, .double tt])), (t0l, .inl ((xT g) 5, tn, .inr (.inr (.inr (.inl tl))))), (t0r, .inl ((xT g) 5, tn, .inr (.inr (.inr (.inl tr))))), (t0s, .inl ((xT g) 5, tn, .inr (.inr (.inr (.inl ts))))), (t1, .inr (7, [.int tw2, .int ty2, .ref t1l, .ref t1r, .ref t1s, .int tc2, .double tt2])), (t1l, .inl ((xT g) 5, tn2, .inr (.inr (.inr (.inl tl2))))), (t1r, .inl ((xT g) 5, tn2, .inr (.inr (.inr (.inl tr2))))), (t1s, .inl ((xT g) 5, tn2, .inr (.inr (.inr (.inl ts2)))))] (XSub.of [0, 1, 2, 3, 4, 5, 6, 7, 8, 9, 10] rfl (by decide)) (tX1_isRun G.noTraces h) (lw_V q185 q187 qs0 q65 q188) cdX1_isRun 0 9 rfl rfl rfl (by decide) (by decide) rfl (Nat.le_of_ble_eq_true rfl) (Nat.le_of_ble_eq_true rfl) (Nat.le_of_ble_eq_true rfl) dX1_parts_10 (fun r_2 h => ?_)
    show X g 6 13 [(0, .ref h0), (1, .int p0), (2, .int p1)] [.int r_2] [(rle, .inl ((xT g) 8, lcap, .inr (.inr (.inr (.inr lef))))), (t0, .inr (7, [.int tw, .int ty, .ref t0l, .ref t0r, .ref t0s, .int tc, .double tt])), (t0l, .inl ((xT g) 5, tn, .inr (.inr (.inr (.inl tl))))), (t0r, .inl ((xT g) 5, tn, .inr (.inr (.inr (.inl tr))))), (t0s, .inl ((xT g) 5, tn, .inr (.inr (.inr (.inl ts))))), (t1, .inr (7, [.int tw2, .int ty2, .ref t1l, .ref t1r, .ref t1s, .int tc2, .double tt2])), (t1l, .inl ((xT g) 5, tn2, .inr (.inr (.inr (.inl tl2))))), (t1r, .inl ((xT g) 5, tn2, .inr (.inr (.inr (.inl tr2))))), (t1s, .inl ((xT g) 5, tn2, .inr (.inr (.inr (.inl ts2))))), (h0, .inr (0, [.ref lg, .ref e1, .ref e2, .ref e3, .ref rl, .int cur, .ref sh])), (rl, .inr (2, [.int lm, .ref rle, .int lz]))] 0 0
    refine x_if_ne (tgt := 19) G dX1_parts_13 rfl (fun c => ?_) (fun c => ?_)
    · replace h := h.1 c
      refine x_aload_n G rfl dX1_parts_19 0 rfl ?_
      refine x_get G in_X1 9 rfl rfl 4 (by decide) q163 (fun _ h => h) rfl dX1_parts_20 ?_
      refine x_iload_n G rfl dX1_parts_23 1 rfl ?_
      refine x_cFq0 (C := "java/util/ArrayList") (x := ⟨"java/util/List", "get", "(I)Ljava/lang/Object;"⟩) (wc := [(rl, .inr (2, [.int lm, .ref rle, .int lz])), (rle, .inl ((xT g) 8, lcap, .inr (.inr (.inr (.inr lef)))))]) (As := [.int p0]) (rest := []) G [(t0, .inr (7, [.int tw, .int ty, .ref t0l, .ref t0r, .ref t0s, .int tc, .double tt])), (t0l, .inl ((xT g) 5, tn, .inr (.inr (.inr (.inl tl))))), (t0r, .inl ((xT g) 5, tn, .inr (.inr (.inr (.inl tr))))), (t0s, .inl ((xT g) 5, tn, .inr (.inr (.inr (.inl ts))))), (t1, .inr (7, [.int tw2, .int ty2, .ref t1l, .ref t1r, .ref t1s, .int tc2, .double tt2])), (t1l, .inl ((xT g) 5, tn2, .inr (.inr (.inr (.inl tl2))))), (t1r, .inl ((xT g) 5, tn2, .inr (.inr (.inr (.inl tr2))))), (t1s, .inl ((xT g) 5, tn2, .inr (.inr (.inr (.inl ts2))))), (h0, .inr (0, [.ref lg, .ref e1, .ref e2, .ref e3, .ref rl, .int cur, .ref sh]))] (XSub.of [1, 2, 3, 4, 5, 6, 7, 8, 9, 10, 0] rfl (by decide)) (tJ2_get G.noTraces h) q203 q206 q208 q69 q210 (by decide) (show ("java/util/List" : String) ≠ "java/lang/invoke/MethodHandle" ∧ ("java/util/List" : String) ≠ "java/lang/invoke/VarHandle" ∧ (parseMethodDescriptor "(I)Ljava/lang/Object;").map (fun d => d.parameters.length) = some 1 from by decide +kernel) 2 10 rfl rfl rfl (by decide) (by decide) rfl (Nat.le_of_ble_eq_true rfl) (Nat.le_of_ble_eq_true rfl) (Nat.le_of_ble_eq_true rfl) dX1_parts_24 (fun r_3 h => ?_)
      obtain ⟨hq, h⟩ := h
      subst hq
      show X g 6 29 [(0, .ref h0), (1, .int p0), (2, .int p1)] [.ref t0] [(t0, .inr (7, [.int tw, .int ty, .ref t0l, .ref t0r, .ref t0s, .int tc, .double tt])), (t0l, .inl ((xT g) 5, tn, .inr (.inr (.inr (.inl tl))))), (t0r, .inl ((xT g) 5, tn, .inr (.inr (.inr (.inl tr))))), (t0s, .inl ((xT g) 5, tn, .inr (.inr (.inr (.inl ts))))), (t1, .inr (7, [.int tw2, .int ty2, .ref t1l, .ref t1r, .ref t1s, .int tc2, .double tt2])), (t1l, .inl ((xT g) 5, tn2, .inr (.inr (.inr (.inl tl2))))), (t1r, .inl ((xT g) 5, tn2, .inr (.inr (.inr (.inl tr2))))), (t1s, .inl ((xT g) 5, tn2, .inr (.inr (.inr (.inl ts2))))), (h0, .inr (0, [.ref lg, .ref e1, .ref e2, .ref e3, .ref rl, .int cur, .ref sh])), (rl, .inr (2, [.int lm, .ref rle, .int lz])), (rle, .inl ((xT g) 8, lcap, .inr (.inr (.inr (.inr lef)))))] 0 0
      refine x_castS (q := (RX8, TX8, 7)) G q221 0 rfl rfl dX1_parts_29 ?_
      refine x_astore_n (lv' := [(3, .ref t0), (0, .ref h0), (1, .int p0), (2, .int p1)]) G rfl dX1_parts_32 (by decide) rfl ?_
      refine x_aload_n G rfl dX1_parts_33 1 rfl ?_
      refine x_get G in_X1 8 rfl rfl 4 (by decide) q163 (fun _ h => h) rfl dX1_parts_34 ?_
      refine x_iload_n G rfl dX1_parts_37 3 rfl ?_
      refine x_cFq0 (C := "java/util/ArrayList") (x := ⟨"java/util/List", "get", "(I)Ljava/lang/Object;"⟩) (wc := [(rl, .inr (2, [.int lm, .ref rle, .int lz])), (rle, .inl ((xT g) 8, lcap, .inr (.inr (.inr (.inr lef)))))]) (As := [.int p1]) (rest := []) G [(t0, .inr (7, [.int tw, .int ty, .ref t0l, .ref t0r, .ref t0s, .int tc, .double tt])), (t0l, .inl ((xT g) 5, tn, .inr (.inr (.inr (.inl tl))))), (t0r, .inl ((xT g) 5, tn, .inr (.inr (.inr (.inl tr))))), (t0s, .inl ((xT g) 5, tn, .inr (.inr (.inr (.inl ts))))), (t1, .inr (7, [.int tw2, .int ty2, .ref t1l, .ref t1r, .ref t1s, .int tc2, .double tt2])), (t1l, .inl ((xT g) 5, tn2, .inr (.inr (.inr (.inl tl2))))), (t1r, .inl ((xT g) 5, tn2, .inr (.inr (.inr (.inl tr2))))), (t1s, .inl ((xT g) 5, tn2, .inr (.inr (.inr (.inl ts2))))), (h0, .inr (0, [.ref lg, .ref e1, .ref e2, .ref e3, .ref rl, .int cur, .ref sh]))] (XSub.of [0, 1, 2, 3, 4, 5, 6, 7, 8, 9, 10] rfl (by decide)) (tJ2_get G.noTraces h) q203 q206 q208 q69 q210 (by decide) (show ("java/util/List" : String) ≠ "java/lang/invoke/MethodHandle" ∧ ("java/util/List" : String) ≠ "java/lang/invoke/VarHandle" ∧ (parseMethodDescriptor "(I)Ljava/lang/Object;").map (fun d => d.parameters.length) = some 1 from by decide +kernel) 2 9 rfl rfl rfl (by decide) (by decide) rfl (Nat.le_of_ble_eq_true rfl) (Nat.le_of_ble_eq_true rfl) (Nat.le_of_ble_eq_true rfl) dX1_parts_38 (fun r_4 h => ?_)
      obtain ⟨hq, h⟩ := h
      subst hq
      show X g 6 43 [(3, .ref t0), (0, .ref h0), (1, .int p0), (2, .int p1)] [.ref t1] [(t0, .inr (7, [.int tw, .int ty, .ref t0l, .ref t0r, .ref t0s, .int tc, .double tt])), (t0l, .inl ((xT g) 5, tn, .inr (.inr (.inr (.inl tl))))), (t0r, .inl ((xT g) 5, tn, .inr (.inr (.inr (.inl tr))))), (t0s, .inl ((xT g) 5, tn, .inr (.inr (.inr (.inl ts))))), (t1, .inr (7, [.int tw2, .int ty2, .ref t1l, .ref t1r, .ref t1s, .int tc2, .double tt2])), (t1l, .inl ((xT g) 5, tn2, .inr (.inr (.inr (.inl tl2))))), (t1r, .inl ((xT g) 5, tn2, .inr (.inr (.inr (.inl tr2))))), (t1s, .inl ((xT g) 5, tn2, .inr (.inr (.inr (.inl ts2))))), (h0, .inr (0, [.ref lg, .ref e1, .ref e2, .ref e3, .ref rl, .int cur, .ref sh])), (rl, .inr (2, [.int lm, .ref rle, .int lz])), (rle, .inl ((xT g) 8, lcap, .inr (.inr (.inr (.inr lef)))))] 0 0
      refine x_castS (q := (RX8, TX8, 7)) G q221 4 rfl rfl dX1_parts_43 ?_
      refine x_astore (lv' := [(4, .ref t1), (3, .ref t0), (0, .ref h0), (1, .int p0), (2, .int p1)]) G dX1_parts_46 (by decide) rfl ?_
      refine x_iconst (v := (0 : Int32)) G dX1_parts_48 (by decide) ?_
      refine x_istore (lv' := [(5, .int (0 : Int32)), (4, .ref t1), (3, .ref t0), (0, .ref h0), (1, .int p0), (2, .int p1)]) G dX1_parts_49 (by decide) rfl ?_
      obtain ⟨n0, h⟩ := h
      refine kX1_parts_L51 G (fun v5_12 h => ?_) (fun v5_13 h => ?_) n0 _ h
      · refine x_iload G dX1_parts_115 0 rfl ?_
        exact x_reti0 G Q dX1_parts_117 rfl  h (XSub.of [8, 9, 10, 0, 1, 2, 3, 4, 5, 6, 7] rfl (by decide)) (Nat.le_of_ble_eq_true rfl) (Nat.le_of_ble_eq_true rfl)
      · refine x_iconst (v := (-1 : Int32)) G dX1_parts_124 (by decide) ?_
        exact x_reti0 G Q dX1_parts_125 rfl  h (XSub.of [8, 9, 10, 0, 1, 2, 3, 4, 5, 6, 7] rfl (by decide)) (Nat.le_of_ble_eq_true rfl) (Nat.le_of_ble_eq_true rfl)
    · replace h := h.2 c
      refine x_bipush (v := (-101 : Int32)) G dX1_parts_16 (by decide) ?_
      exact x_reti0 G Q dX1_parts_18 rfl  h (XSub.of [9, 10, 0, 1, 2, 3, 4, 5, 6, 7, 8] rfl (by decide)) (Nat.le_of_ble_eq_true rfl) (Nat.le_of_ble_eq_true rfl)
def wX1_parts_A_L51 (tw : Int32) (tc : Int32) (tn : Nat) (ts : Nat → UInt64) (X115 : Int32 → Prop) (X124 : Int32 → Prop) : Nat → Int32 → Prop
  | 0, _ => False
  | n + 1, v5_5 => (wJ13_max tc tc (fun (r_6 : Int32) => ((r_6 ≤ v5_5 → X124 v5_5) ∧ (¬ r_6 ≤ v5_5 → ((tc ≤ v5_5 → X115 v5_5) ∧ (¬ tc ≤ v5_5 → ((tc ≤ v5_5 → X115 v5_5) ∧ (¬ tc ≤ v5_5 → (vp_in v5_5 tn ∧ (wX8_bits (ts v5_5.toNatClampNeg) tw (fun (r_7 : Int64) => (vp_in v5_5 tn ∧ (wX8_bits (ts v5_5.toNatClampNeg) tw (fun (r_8 : Int64) => ((r_7 = r_8 → (∀ x_9 : Int32, x_9 = (v5_5 + (1 : Int32)) → wX1_parts_A_L51 tw tc tn ts X115 X124 n x_9)) ∧ (¬ r_7 = r_8 → X115 v5_5))))))))))))))))
def wX1_parts_A (p0 : Int32) (p1 : Int32) (lz : Int32) (lcap : Nat) (lef : Nat → Option Nat) (t0 : Nat) (tw : Int32) (tc : Int32) (tn : Nat) (ts : Nat → UInt64) (K : Int32 → Prop) : Prop := (wX1_isRun p0 lz (fun (r_1 : Int32) => ((r_1 = (0 : Int32) → K (-101 : Int32)) ∧ (¬ r_1 = (0 : Int32) → (wX1_isRun p1 lz (fun (r_2 : Int32) => ((¬ r_2 = (0 : Int32) → (wJ2_get p0 lz lcap lef (fun (r_3 : Option Nat) => (r_3 = some t0 ∧ (wJ2_get p1 lz lcap lef (fun (r_4 : Option Nat) => (r_4 = some t0 ∧ (∃ m51 : Nat, wX1_parts_A_L51 tw tc tn ts (fun (v5_12 : Int32) => K v5_12) (fun (v5_13 : Int32) => K (-1 : Int32)) m51 (0 : Int32))))))))) ∧ (r_2 = (0 : Int32) → K (-101 : Int32)))))))))
set_option maxRecDepth 20000 in
theorem kX1_parts_A_L51 {g : XG} {h0 : Nat} {lg : Nat} {e1 : Nat} {e2 : Nat} {e3 : Nat} {rl : Nat} {cur : Int32} {sh : Nat} {lm : Int32} {rle : Nat} {lz : Int32} {lcap : Nat} {lef : Nat → Option Nat} {t0 : Nat} {tw : Int32} {ty : Int32} {t0l : Nat} {t0r : Nat} {t0s : Nat} {tc : Int32} {tt : UInt64} {tn : Nat} {tl : Nat → UInt64} {tr : Nat → UInt64} {ts : Nat → UInt64} {p0 : Int32} {p1 : Int32} {X115 : Int32 → Prop} {X124 : Int32 → Prop} (G : XO g RX1 cX1_parts 6 4 0 0) (hX115 : ∀ (v5_10 : Int32), X115 v5_10 → X g 6 115 [(5, .int v5_10), (4, .ref t0), (3, .ref t0), (0, .ref h0), (1, .int p0), (2, .int p1)] [] [(t0, .inr (7, [.int tw, .int ty, .ref t0l, .ref t0r, .ref t0s, .int tc, .double tt])), (t0l, .inl ((xT g) 5, tn, .inr (.inr (.inr (.inl tl))))), (t0r, .inl ((xT g) 5, tn, .inr (.inr (.inr (.inl tr))))), (t0s, .inl ((xT g) 5, tn, .inr (.inr (.inr (.inl ts))))), (h0, .inr (0, [.ref lg, .ref e1, .ref e2, .ref e3, .ref rl, .int cur, .ref sh])), (rl, .inr (2, [.int lm, .ref rle, .int lz])), (rle, .inl ((xT g) 8, lcap, .inr (.inr (.inr (.inr lef)))))] 0 0) (hX124 : ∀ (v5_11 : Int32), X124 v5_11 → X g 6 124 [(5, .int v5_11), (4, .ref t0), (3, .ref t0), (0, .ref h0), (1, .int p0), (2, .int p1)] [] [(t0, .inr (7, [.int tw, .int ty, .ref t0l, .ref t0r, .ref t0s, .int tc, .double tt])), (t0l, .inl ((xT g) 5, tn, .inr (.inr (.inr (.inl tl))))), (t0r, .inl ((xT g) 5, tn, .inr (.inr (.inr (.inl tr))))), (t0s, .inl ((xT g) 5, tn, .inr (.inr (.inr (.inl ts))))), (h0, .inr (0, [.ref lg, .ref e1, .ref e2, .ref e3, .ref rl, .int cur, .ref sh])), (rl, .inr (2, [.int lm, .ref rle, .int lz])), (rle, .inl ((xT g) 8, lcap, .inr (.inr (.inr (.inr lef)))))] 0 0) : ∀ (n : Nat) (v5_5 : Int32), wX1_parts_A_L51 tw tc tn ts X115 X124 n v5_5 → X g 6 51 [(5, .int v5_5), (4, .ref t0), (3, .ref t0), (0, .ref h0), (1, .int p0), (2, .int p1)] [] [(t0, .inr (7, [.int tw, .int ty, .ref t0l, .ref t0r, .ref t0s, .int tc, .double tt])), (t0l, .inl ((xT g) 5, tn, .inr (.inr (.inr (.inl tl))))), (t0r, .inl ((xT g) 5, tn, .inr (.inr (.inr (.inl tr))))), (t0s, .inl ((xT g) 5, tn, .inr (.inr (.inr (.inl ts))))), (h0, .inr (0, [.ref lg, .ref e1, .ref e2, .ref e3, .ref rl, .int cur, .ref sh])), (rl, .inr (2, [.int lm, .ref rle, .int lz])), (rle, .inl ((xT g) 8, lcap, .inr (.inr (.inr (.inr lef)))))] 0 0 := by
  intro n
  induction n with
  | zero => intro _ h; exact h.elim
  | succ n ih =>
    intro v5_5 h
    unfold wX1_parts_A_L51 at h
    refine x_iload G dX1_parts_51 0 rfl ?_
    refine x_aload_n G rfl dX1_parts_53 2 rfl ?_
    refine x_getN (host := "RoundingAuditor") G in_X8 0 rfl rfl 5 (by decide) (by decide) (fun _ h => h) rfl dX1_parts_54 ?_
    refine x_aload G dX1_parts_57 1 rfl ?_
    refine x_getN (host := "RoundingAuditor") G in_X8 0 rfl rfl 5 (by decide) (by decide) (fun _ h => h) rfl dX1_parts_59 ?_
    refine x_cPi (As := [.int tc, .int tc]) (rest := [.int v5_5]) G (tJ13_max G.noTraces h) (lw_S q366 q306 q85 q307) cdJ13_max (by decide) (by decide) rfl (Nat.le_of_ble_eq_true rfl) (Nat.le_of_ble_eq_true rfl) (Nat.le_of_ble_eq_true rfl) dX1_parts_62 (fun r_6 h => ?_)
    refine x_icmp_ge (tgt := 124) G dX1_parts_65 rfl (fun c => ?_) (fun c => ?_)
    · replace h := h.1 c
      exact hX124 v5_5 h
    · replace h := h.2 c
      refine x_iload G dX1_parts_68 0 rfl ?_
      refine x_aload_n G rfl dX1_parts_70 2 rfl ?_
      refine x_getN (host := "RoundingAuditor") G in_X8 0 rfl rfl 5 (by decide) (by decide) (fun _ h => h) rfl dX1_parts_71 ?_
      refine x_icmp_ge (tgt := 115) G dX1_parts_74 rfl (fun c => ?_) (fun c => ?_)
      · replace h := h.1 c
        exact hX115 v5_5 h
      · replace h := h.2 c
        refine x_iload G dX1_parts_77 0 rfl ?_
        refine x_aload G dX1_parts_79 1 rfl ?_
        refine x_getN (host := "RoundingAuditor") G in_X8 0 rfl rfl 5 (by decide) (by decide) (fun _ h => h) rfl dX1_parts_81 ?_
        refine x_icmp_ge (tgt := 115) G dX1_parts_84 rfl (fun c => ?_) (fun c => ?_)
        · replace h := h.1 c
          exact hX115 v5_5 h
        · replace h := h.2 c
          refine x_aload_n G rfl dX1_parts_87 2 rfl ?_
          refine x_aload_n G rfl dX1_parts_88 2 rfl ?_
          refine x_getN (host := "RoundingAuditor") G in_X8 0 rfl rfl 4 (by decide) (by decide) (fun _ h => h) rfl dX1_parts_89 ?_
          refine x_iload G dX1_parts_92 0 rfl ?_
          obtain ⟨hz, h⟩ := h
          refine x_dald G 3 rfl hz dX1_parts_94 ?_
          refine x_cVl0 (wc := [(t0, .inr (7, [.int tw, .int ty, .ref t0l, .ref t0r, .ref t0s, .int tc, .double tt]))]) (As := [.double (ts v5_5.toNatClampNeg)]) (rest := []) G [(t0l, .inl ((xT g) 5, tn, .inr (.inr (.inr (.inl tl))))), (t0r, .inl ((xT g) 5, tn, .inr (.inr (.inr (.inl tr))))), (t0s, .inl ((xT g) 5, tn, .inr (.inr (.inr (.inl ts))))), (h0, .inr (0, [.ref lg, .ref e1, .ref e2, .ref e3, .ref rl, .int cur, .ref sh])), (rl, .inr (2, [.int lm, .ref rle, .int lz])), (rle, .inl ((xT g) 8, lcap, .inr (.inr (.inr (.inr lef)))))] (XSub.of [1, 2, 3, 4, 5, 6, 0] rfl (by decide)) (tX8_bits G.noTraces h) (lw_V q222 q223 q224 q89 q225) cdX8_bits 7 0 rfl rfl rfl (by decide) (by decide) rfl (Nat.le_of_ble_eq_true rfl) (Nat.le_of_ble_eq_true rfl) (Nat.le_of_ble_eq_true rfl) dX1_parts_95 (fun r_7 h => ?_)
          show X g 6 98 [(5, .int v5_5), (4, .ref t0), (3, .ref t0), (0, .ref h0), (1, .int p0), (2, .int p1)] [.long r_7] [(t0l, .inl ((xT g) 5, tn, .inr (.inr (.inr (.inl tl))))), (t0r, .inl ((xT g) 5, tn, .inr (.inr (.inr (.inl tr))))), (t0s, .inl ((xT g) 5, tn, .inr (.inr (.inr (.inl ts))))), (h0, .inr (0, [.ref lg, .ref e1, .ref e2, .ref e3, .ref rl, .int cur, .ref sh])), (rl, .inr (2, [.int lm, .ref rle, .int lz])), (rle, .inl ((xT g) 8, lcap, .inr (.inr (.inr (.inr lef))))), (t0, .inr (7, [.int tw, .int ty, .ref t0l, .ref t0r, .ref t0s, .int tc, .double tt]))] 0 0
          refine x_aload G dX1_parts_98 1 rfl ?_
          refine x_aload G dX1_parts_100 1 rfl ?_
          refine x_getN (host := "RoundingAuditor") G in_X8 6 rfl rfl 4 (by decide) (by decide) (fun _ h => h) rfl dX1_parts_102 ?_
          refine x_iload G dX1_parts_105 0 rfl ?_
          obtain ⟨hz, h⟩ := h
          refine x_dald G 2 rfl hz dX1_parts_107 ?_
          refine x_cVl0 (wc := [(t0, .inr (7, [.int tw, .int ty, .ref t0l, .ref t0r, .ref t0s, .int tc, .double tt]))]) (As := [.double (ts v5_5.toNatClampNeg)]) (rest := [.long r_7]) G [(t0l, .inl ((xT g) 5, tn, .inr (.inr (.inr (.inl tl))))), (t0r, .inl ((xT g) 5, tn, .inr (.inr (.inr (.inl tr))))), (t0s, .inl ((xT g) 5, tn, .inr (.inr (.inr (.inl ts))))), (h0, .inr (0, [.ref lg, .ref e1, .ref e2, .ref e3, .ref rl, .int cur, .ref sh])), (rl, .inr (2, [.int lm, .ref rle, .int lz])), (rle, .inl ((xT g) 8, lcap, .inr (.inr (.inr (.inr lef)))))] (XSub.of [0, 1, 2, 3, 4, 5, 6] rfl (by decide)) (tX8_bits G.noTraces h) (lw_V q222 q223 q224 q89 q225) cdX8_bits 7 6 rfl rfl rfl (by decide) (by decide) rfl (Nat.le_of_ble_eq_true rfl) (Nat.le_of_ble_eq_true rfl) (Nat.le_of_ble_eq_true rfl) dX1_parts_108 (fun r_8 h => ?_)
          show X g 6 111 [(5, .int v5_5), (4, .ref t0), (3, .ref t0), (0, .ref h0), (1, .int p0), (2, .int p1)] [.long r_8, .long r_7] [(t0l, .inl ((xT g) 5, tn, .inr (.inr (.inr (.inl tl))))), (t0r, .inl ((xT g) 5, tn, .inr (.inr (.inr (.inl tr))))), (t0s, .inl ((xT g) 5, tn, .inr (.inr (.inr (.inl ts))))), (h0, .inr (0, [.ref lg, .ref e1, .ref e2, .ref e3, .ref rl, .int cur, .ref sh])), (rl, .inr (2, [.int lm, .ref rle, .int lz])), (rle, .inl ((xT g) 8, lcap, .inr (.inr (.inr (.inr lef))))), (t0, .inr (7, [.int tw, .int ty, .ref t0l, .ref t0r, .ref t0s, .int tc, .double tt]))] 0 0
          refine x_lcmp_eq (tgt := 118) G dX1_parts_111 dX1_parts_112 rfl (fun c => ?_) (fun c => ?_)
          · replace h := h.1 c
            obtain ⟨x_9, ex_9⟩ : ∃ z : Int32, z = (v5_5 + (1 : Int32)) := ⟨_, rfl⟩
            replace h := h x_9 ex_9
            refine x_iinc (v := x_9) (lv' := [(5, .int x_9), (4, .ref t0), (3, .ref t0), (0, .ref h0), (1, .int p0), (2, .int p1)]) G dX1_parts_118 0 rfl (by rw [ex_9]; rfl) (by decide) rfl ?_
            refine x_goto (tgt := 51) G dX1_parts_121 rfl ?_
            refine x_ws (ws' := [(t0, .inr (7, [.int tw, .int ty, .ref t0l, .ref t0r, .ref t0s, .int tc, .double tt])), (t0l, .inl ((xT g) 5, tn, .inr (.inr (.inr (.inl tl))))), (t0r, .inl ((xT g) 5, tn, .inr (.inr (.inr (.inl tr))))), (t0s, .inl ((xT g) 5, tn, .inr (.inr (.inr (.inl ts))))), (h0, .inr (0, [.ref lg, .ref e1, .ref e2, .ref e3, .ref rl, .int cur, .ref sh])), (rl, .inr (2, [.int lm, .ref rle, .int lz])), (rle, .inl ((xT g) 8, lcap, .inr (.inr (.inr (.inr lef)))))]) (XSub.of [6, 0, 1, 2, 3, 4, 5] rfl (by decide)) ?_
            exact ih x_9 h
          · replace h := h.2 c
            refine x_ws (ws' := [(t0, .inr (7, [.int tw, .int ty, .ref t0l, .ref t0r, .ref t0s, .int tc, .double tt])), (t0l, .inl ((xT g) 5, tn, .inr (.inr (.inr (.inl tl))))), (t0r, .inl ((xT g) 5, tn, .inr (.inr (.inr (.inl tr))))), (t0s, .inl ((xT g) 5, tn, .inr (.inr (.inr (.inl ts))))), (h0, .inr (0, [.ref lg, .ref e1, .ref e2, .ref e3, .ref rl, .int cur, .ref sh])), (rl, .inr (2, [.int lm, .ref rle, .int lz])), (rle, .inl ((xT g) 8, lcap, .inr (.inr (.inr (.inr lef)))))]) (XSub.of [6, 0, 1, 2, 3, 4, 5] rfl (by decide)) ?_
            exact hX115 v5_5 h
set_option maxRecDepth 20000 in
theorem tX1_parts_A {l : Launch} {D : va_G} {ta : Nat → ClassId} {h0 : Nat} {lg : Nat} {e1 : Nat} {e2 : Nat} {e3 : Nat} {rl : Nat} {cur : Int32} {sh : Nat} {lm : Int32} {rle : Nat} {lz : Int32} {lcap : Nat} {lef : Nat → Option Nat} {t0 : Nat} {tw : Int32} {ty : Int32} {t0l : Nat} {t0r : Nat} {t0s : Nat} {tc : Int32} {tt : UInt64} {tn : Nat} {tl : Nat → UInt64} {tr : Nat → UInt64} {ts : Nat → UInt64} {p0 : Int32} {p1 : Int32} {K : Int32 → Prop} (hlt : l.stackTraces = false) (h : wX1_parts_A p0 p1 lz lcap lef t0 tw tc tn ts K) : SMi0 l D ta yX1_parts cX1_parts 6 FieldType.int 4 [.ref h0, .int p0, .int p1] [(h0, .inr (0, [.ref lg, .ref e1, .ref e2, .ref e3, .ref rl, .int cur, .ref sh])), (rl, .inr (2, [.int lm, .ref rle, .int lz])), (rle, .inl (ta 8, lcap, .inr (.inr (.inr (.inr lef))))), (t0, .inr (7, [.int tw, .int ty, .ref t0l, .ref t0r, .ref t0s, .int tc, .double tt])), (t0l, .inl (ta 5, tn, .inr (.inr (.inr (.inl tl))))), (t0r, .inl (ta 5, tn, .inr (.inr (.inr (.inl tr))))), (t0s, .inl (ta 5, tn, .inr (.inr (.inr (.inl ts)))))] ([(h0, .inr (0, [.ref lg, .ref e1, .ref e2, .ref e3, .ref rl, .int cur, .ref sh])), (rl, .inr (2, [.int lm, .ref rle, .int lz])), (rle, .inl (ta 8, lcap, .inr (.inr (.inr (.inr lef))))), (t0, .inr (7, [.int tw, .int ty, .ref t0l, .ref t0r, .ref t0s, .int tc, .double tt])), (t0l, .inl (ta 5, tn, .inr (.inr (.inr (.inl tl))))), (t0r, .inl (ta 5, tn, .inr (.inr (.inr (.inl tr))))), (t0s, .inl (ta 5, tn, .inr (.inr (.inr (.inl ts)))))]) 0 0 K := by
  refine x_sti0 hlt (plainFor_of_name (by decide +kernel)) (Nat.le_of_ble_eq_true rfl) (fun g G hl hD hT Q => ?_)
  subst hl; subst hD; subst hT
  unfold wX1_parts_A at h
  show X g 6 0 [(0, .ref h0), (1, .int p0), (2, .int p1)] [] [(h0, .inr (0, [.ref lg, .ref e1, .ref e2, .ref e3, .ref rl, .int cur, .ref sh])), (rl, .inr (2, [.int lm, .ref rle, .int lz])), (rle, .inl ((xT g) 8, lcap, .inr (.inr (.inr (.inr lef))))), (t0, .inr (7, [.int tw, .int ty, .ref t0l, .ref t0r, .ref t0s, .int tc, .double tt])), (t0l, .inl ((xT g) 5, tn, .inr (.inr (.inr (.inl tl))))), (t0r, .inl ((xT g) 5, tn, .inr (.inr (.inr (.inl tr))))), (t0s, .inl ((xT g) 5, tn, .inr (.inr (.inr (.inl ts)))))] 0 0
  refine x_aload_n G rfl dX1_parts_0 0 rfl ?_
  refine x_iload_n G rfl dX1_parts_1 1 rfl ?_
  refine x_cVi0 (wc := [(h0, .inr (0, [.ref lg, .ref e1, .ref e2, .ref e3, .ref rl, .int cur, .ref sh])), (rl, .inr (2, [.int lm, .ref rle, .int lz]))]) (As := [.int p0]) (rest := []) G [(rle, .inl ((xT g) 8, lcap, .inr (.inr (.inr (.inr lef))))), (t0, .inr (7, [.int tw, .int ty, .ref t0l, .ref t0r, .ref t0s, .int tc, .double tt])), (t0l, .inl ((xT g) 5, tn, .inr (.inr (.inr (.inl tl))))), (t0r, .inl ((xT g) 5, tn, .inr (.inr (.inr (.inl tr))))), (t0s, .inl ((xT g) 5, tn, .inr (.inr (.inr (.inl ts)))))] (XSub.of [2, 3, 4, 5, 6, 0, 1] rfl (by decide)) (tX1_isRun G.noTraces h) (lw_V q185 q187 qs0 q65 q188) cdX1_isRun 0 0 rfl rfl rfl (by decide) (by decide) rfl (Nat.le_of_ble_eq_true rfl) (Nat.le_of_ble_eq_true rfl) (Nat.le_of_ble_eq_true rfl) dX1_parts_2 (fun r_1 h => ?_)
  show X g 6 5 [(0, .ref h0), (1, .int p0), (2, .int p1)] [.int r_1] [(rle, .inl ((xT g) 8, lcap, .inr (.inr (.inr (.inr lef))))), (t0, .inr (7, [.int tw, .int ty, .ref t0l, .ref t0r, .ref t0s, .int tc, .double tt])), (t0l, .inl ((xT g) 5, tn, .inr (.inr (.inr (.inl tl))))), (t0r, .inl ((xT g) 5, tn, .inr (.inr (.inr (.inl tr))))), (t0s, .inl ((xT g) 5, tn, .inr (.inr (.inr (.inl ts))))), (h0, .inr (0, [.ref lg, .ref e1, .ref e2, .ref e3, .ref rl, .int cur, .ref sh])), (rl, .inr (2, [.int lm, .ref rle, .int lz]))] 0 0
  refine x_if_eq (tgt := 16) G dX1_parts_5 rfl (fun c => ?_) (fun c => ?_)
  · replace h := h.1 c
    refine x_bipush (v := (-101 : Int32)) G dX1_parts_16 (by decide) ?_
    exact x_reti0 G Q dX1_parts_18 rfl  h (XSub.of [5, 6, 0, 1, 2, 3, 4] rfl (by decide)) (Nat.le_of_ble_eq_true rfl) (Nat.le_of_ble_eq_true rfl)
  · replace h := h.2 c
    refine x_aload_n G rfl dX1_parts_8 0 rfl ?_
    refine x_iload_n G rfl dX1_parts_9 2 rfl ?_
    refine x_cVi0 (wc := [(h0, .inr (0, [.ref lg, .ref e1, .ref e2, .ref e3, .ref rl, .int cur, .ref sh])), (rl, .inr (2, [.int lm, .ref rle, .int lz]))]) (As := [.int p1]) (rest := []) G [(rle, .inl ((xT g) 8, lcap, .inr (.inr (.inr (.inr lef))))), (t0, .inr (7, [.int tw, .int ty, .ref t0l, .ref t0r, .ref t0s, .int tc, .double tt])), (t0l, .inl ((xT g) 5, tn, .inr (.inr (.inr (.inl tl))))), (t0r, .inl ((xT g) 5, tn, .inr (.inr (.inr (.inl tr))))), (t0s, .inl ((xT g) 5, tn, .inr (.inr (.inr (.inl ts)))))] (XSub.of [0, 1, 2, 3, 4, 5, 6] rfl (by decide)) (tX1_isRun G.noTraces h) (lw_V q185 q187 qs0 q65 q188) cdX1_isRun 0 5 rfl rfl rfl (by decide) (by decide) rfl (Nat.le_of_ble_eq_true rfl) (Nat.le_of_ble_eq_true rfl) (Nat.le_of_ble_eq_true rfl) dX1_parts_10 (fun r_2 h => ?_)
    show X g 6 13 [(0, .ref h0), (1, .int p0), (2, .int p1)] [.int r_2] [(rle, .inl ((xT g) 8, lcap, .inr (.inr (.inr (.inr lef))))), (t0, .inr (7, [.int tw, .int ty, .ref t0l, .ref t0r, .ref t0s, .int tc, .double tt])), (t0l, .inl ((xT g) 5, tn, .inr (.inr (.inr (.inl tl))))), (t0r, .inl ((xT g) 5, tn, .inr (.inr (.inr (.inl tr))))), (t0s, .inl ((xT g) 5, tn, .inr (.inr (.inr (.inl ts))))), (h0, .inr (0, [.ref lg, .ref e1, .ref e2, .ref e3, .ref rl, .int cur, .ref sh])), (rl, .inr (2, [.int lm, .ref rle, .int lz]))] 0 0
    refine x_if_ne (tgt := 19) G dX1_parts_13 rfl (fun c => ?_) (fun c => ?_)
    · replace h := h.1 c
      refine x_aload_n G rfl dX1_parts_19 0 rfl ?_
      refine x_get G in_X1 5 rfl rfl 4 (by decide) q163 (fun _ h => h) rfl dX1_parts_20 ?_
      refine x_iload_n G rfl dX1_parts_23 1 rfl ?_
      refine x_cFq0 (C := "java/util/ArrayList") (x := ⟨"java/util/List", "get", "(I)Ljava/lang/Object;"⟩) (wc := [(rl, .inr (2, [.int lm, .ref rle, .int lz])), (rle, .inl ((xT g) 8, lcap, .inr (.inr (.inr (.inr lef)))))]) (As := [.int p0]) (rest := []) G [(t0, .inr (7, [.int tw, .int ty, .ref t0l, .ref t0r, .ref t0s, .int tc, .double tt])), (t0l, .inl ((xT g) 5, tn, .inr (.inr (.inr (.inl tl))))), (t0r, .inl ((xT g) 5, tn, .inr (.inr (.inr (.inl tr))))), (t0s, .inl ((xT g) 5, tn, .inr (.inr (.inr (.inl ts))))), (h0, .inr (0, [.ref lg, .ref e1, .ref e2, .ref e3, .ref rl, .int cur, .ref sh]))] (XSub.of [1, 2, 3, 4, 5, 6, 0] rfl (by decide)) (tJ2_get G.noTraces h) q203 q206 q208 q69 q210 (by decide) (show ("java/util/List" : String) ≠ "java/lang/invoke/MethodHandle" ∧ ("java/util/List" : String) ≠ "java/lang/invoke/VarHandle" ∧ (parseMethodDescriptor "(I)Ljava/lang/Object;").map (fun d => d.parameters.length) = some 1 from by decide +kernel) 2 6 rfl rfl rfl (by decide) (by decide) rfl (Nat.le_of_ble_eq_true rfl) (Nat.le_of_ble_eq_true rfl) (Nat.le_of_ble_eq_true rfl) dX1_parts_24 (fun r_3 h => ?_)
      obtain ⟨hq, h⟩ := h
      subst hq
      show X g 6 29 [(0, .ref h0), (1, .int p0), (2, .int p1)] [.ref t0] [(t0, .inr (7, [.int tw, .int ty, .ref t0l, .ref t0r, .ref t0s, .int tc, .double tt])), (t0l, .inl ((xT g) 5, tn, .inr (.inr (.inr (.inl tl))))), (t0r, .inl ((xT g) 5, tn, .inr (.inr (.inr (.inl tr))))), (t0s, .inl ((xT g) 5, tn, .inr (.inr (.inr (.inl ts))))), (h0, .inr (0, [.ref lg, .ref e1, .ref e2, .ref e3, .ref rl, .int cur, .ref sh])), (rl, .inr (2, [.int lm, .ref rle, .int lz])), (rle, .inl ((xT g) 8, lcap, .inr (.inr (.inr (.inr lef)))))] 0 0
      refine x_castS (q := (RX8, TX8, 7)) G q221 0 rfl rfl dX1_parts_29 ?_
      refine x_astore_n (lv' := [(3, .ref t0), (0, .ref h0), (1, .int p0), (2, .int p1)]) G rfl dX1_parts_32 (by decide) rfl ?_
      refine x_aload_n G rfl dX1_parts_33 1 rfl ?_
      refine x_get G in_X1 4 rfl rfl 4 (by decide) q163 (fun _ h => h) rfl dX1_parts_34 ?_
      refine x_iload_n G rfl dX1_parts_37 3 rfl ?_
      refine x_cFq0 (C := "java/util/ArrayList") (x := ⟨"java/util/List", "get", "(I)Ljava/lang/Object;"⟩) (wc := [(rl, .inr (2, [.int lm, .ref rle, .int lz])), (rle, .inl ((xT g) 8, lcap, .inr (.inr (.inr (.inr lef)))))]) (As := [.int p1]) (rest := []) G [(t0, .inr (7, [.int tw, .int ty, .ref t0l, .ref t0r, .ref t0s, .int tc, .double tt])), (t0l, .inl ((xT g) 5, tn, .inr (.inr (.inr (.inl tl))))), (t0r, .inl ((xT g) 5, tn, .inr (.inr (.inr (.inl tr))))), (t0s, .inl ((xT g) 5, tn, .inr (.inr (.inr (.inl ts))))), (h0, .inr (0, [.ref lg, .ref e1, .ref e2, .ref e3, .ref rl, .int cur, .ref sh]))] (XSub.of [0, 1, 2, 3, 4, 5, 6] rfl (by decide)) (tJ2_get G.noTraces h) q203 q206 q208 q69 q210 (by decide) (show ("java/util/List" : String) ≠ "java/lang/invoke/MethodHandle" ∧ ("java/util/List" : String) ≠ "java/lang/invoke/VarHandle" ∧ (parseMethodDescriptor "(I)Ljava/lang/Object;").map (fun d => d.parameters.length) = some 1 from by decide +kernel) 2 5 rfl rfl rfl (by decide) (by decide) rfl (Nat.le_of_ble_eq_true rfl) (Nat.le_of_ble_eq_true rfl) (Nat.le_of_ble_eq_true rfl) dX1_parts_38 (fun r_4 h => ?_)
      obtain ⟨hq, h⟩ := h
      subst hq
      show X g 6 43 [(3, .ref t0), (0, .ref h0), (1, .int p0), (2, .int p1)] [.ref t0] [(t0, .inr (7, [.int tw, .int ty, .ref t0l, .ref t0r, .ref t0s, .int tc, .double tt])), (t0l, .inl ((xT g) 5, tn, .inr (.inr (.inr (.inl tl))))), (t0r, .inl ((xT g) 5, tn, .inr (.inr (.inr (.inl tr))))), (t0s, .inl ((xT g) 5, tn, .inr (.inr (.inr (.inl ts))))), (h0, .inr (0, [.ref lg, .ref e1, .ref e2, .ref e3, .ref rl, .int cur, .ref sh])), (rl, .inr (2, [.int lm, .ref rle, .int lz])), (rle, .inl ((xT g) 8, lcap, .inr (.inr (.inr (.inr lef)))))] 0 0
      refine x_castS (q := (RX8, TX8, 7)) G q221 0 rfl rfl dX1_parts_43 ?_
      refine x_astore (lv' := [(4, .ref t0), (3, .ref t0), (0, .ref h0), (1, .int p0), (2, .int p1)]) G dX1_parts_46 (by decide) rfl ?_
      refine x_iconst (v := (0 : Int32)) G dX1_parts_48 (by decide) ?_
      refine x_istore (lv' := [(5, .int (0 : Int32)), (4, .ref t0), (3, .ref t0), (0, .ref h0), (1, .int p0), (2, .int p1)]) G dX1_parts_49 (by decide) rfl ?_
      obtain ⟨n0, h⟩ := h
      refine kX1_parts_A_L51 G (fun v5_12 h => ?_) (fun v5_13 h => ?_) n0 _ h
      · refine x_iload G dX1_parts_115 0 rfl ?_
        exact x_reti0 G Q dX1_parts_117 rfl  h (XSub.of [4, 5, 6, 0, 1, 2, 3] rfl (by decide)) (Nat.le_of_ble_eq_true rfl) (Nat.le_of_ble_eq_true rfl)
      · refine x_iconst (v := (-1 : Int32)) G dX1_parts_124 (by decide) ?_
        exact x_reti0 G Q dX1_parts_125 rfl  h (XSub.of [4, 5, 6, 0, 1, 2, 3] rfl (by decide)) (Nat.le_of_ble_eq_true rfl) (Nat.le_of_ble_eq_true rfl)
    · replace h := h.2 c
      refine x_bipush (v := (-101 : Int32)) G dX1_parts_16 (by decide) ?_
      exact x_reti0 G Q dX1_parts_18 rfl  h (XSub.of [5, 6, 0, 1, 2, 3, 4] rfl (by decide)) (Nat.le_of_ble_eq_true rfl) (Nat.le_of_ble_eq_true rfl)
theorem cdX1_clear : yX1_clear.cls = RX1 ∧ yX1_clear.cls ≠ "java/lang/invoke/MethodHandle" ∧ yX1_clear.cls ≠ "java/lang/invoke/VarHandle" ∧ (parseMethodDescriptor yX1_clear.desc).map (fun d => d.parameters.length) = some 0 := by decide +kernel
def wX1_clear (lm : Int32) (lz : Int32) (lcap : Nat) (lef : Nat → Option Nat) (K : Int32 → Int32 → Int32 → (Nat → Option Nat) → Prop) : Prop := (wJ2_size lz (fun (r_1 : Int32) => (wJ2_clear lm lz lcap lef (fun (lm_2 : Int32) (lz_3 : Int32) (lef_4 : Nat → Option Nat) => K r_1 lm_2 lz_3 lef_4))))
set_option maxRecDepth 20000 in
theorem tX1_clear {l : Launch} {D : va_G} {ta : Nat → ClassId} {h0 : Nat} {lg : Nat} {e1 : Nat} {e2 : Nat} {e3 : Nat} {rl : Nat} {cur : Int32} {sh : Nat} {lm : Int32} {rle : Nat} {lz : Int32} {lcap : Nat} {lef : Nat → Option Nat} {K : Int32 → Int32 → Int32 → (Nat → Option Nat) → Prop} (hlt : l.stackTraces = false) (h : wX1_clear lm lz lcap lef K) : SMi3 l D ta yX1_clear cX1_clear 2 FieldType.int 2 [.ref h0] [(h0, .inr (0, [.ref lg, .ref e1, .ref e2, .ref e3, .ref rl, .int cur, .ref sh])), (rl, .inr (2, [.int lm, .ref rle, .int lz])), (rle, .inl (ta 8, lcap, .inr (.inr (.inr (.inr lef)))))] (fun (lm' : Int32) (lz' : Int32) (lef' : Nat → Option Nat) => [(h0, .inr (0, [.ref lg, .ref e1, .ref e2, .ref e3, .ref rl, .int cur, .ref sh])), (rl, .inr (2, [.int lm', .ref rle, .int lz'])), (rle, .inl (ta 8, lcap, .inr (.inr (.inr (.inr lef')))))]) 0 0 K := by
  refine x_sti3 hlt (plainFor_of_name (by decide +kernel)) (Nat.le_of_ble_eq_true rfl) (fun g G hl hD hT Q => ?_)
  subst hl; subst hD; subst hT
  unfold wX1_clear at h
  show X g 2 0 [(0, .ref h0)] [] [(h0, .inr (0, [.ref lg, .ref e1, .ref e2, .ref e3, .ref rl, .int cur, .ref sh])), (rl, .inr (2, [.int lm, .ref rle, .int lz])), (rle, .inl ((xT g) 8, lcap, .inr (.inr (.inr (.inr lef)))))] 0 0
  refine x_aload_n G rfl dX1_clear_0 0 rfl ?_
  refine x_get G in_X1 0 rfl rfl 4 (by decide) q163 (fun _ h => h) rfl dX1_clear_1 ?_
  refine x_cFi0 (C := "java/util/ArrayList") (x := ⟨"java/util/List", "size", "()I"⟩) (wc := [(rl, .inr (2, [.int lm, .ref rle, .int lz]))]) (As := []) (rest := []) G [(h0, .inr (0, [.ref lg, .ref e1, .ref e2, .ref e3, .ref rl, .int cur, .ref sh])), (rle, .inl ((xT g) 8, lcap, .inr (.inr (.inr (.inr lef)))))] (XSub.of [0, 2, 1] rfl (by decide)) (tJ2_size G.noTraces h) q190 q194 q196 q69 q198 (by decide) (show ("java/util/List" : String) ≠ "java/lang/invoke/MethodHandle" ∧ ("java/util/List" : String) ≠ "java/lang/invoke/VarHandle" ∧ (parseMethodDescriptor "()I").map (fun d => d.parameters.length) = some 0 from by decide +kernel) 2 1 rfl rfl rfl (by decide) (by decide) rfl (Nat.le_of_ble_eq_true rfl) (Nat.le_of_ble_eq_true rfl) (Nat.le_of_ble_eq_true rfl) dX1_clear_4 (fun r_1 h => ?_)
  show X g 2 9 [(0, .ref h0)] [.int r_1] [(h0, .inr (0, [.ref lg, .ref e1, .ref e2, .ref e3, .ref rl, .int cur, .ref sh])), (rle, .inl ((xT g) 8, lcap, .inr (.inr (.inr (.inr lef))))), (rl, .inr (2, [.int lm, .ref rle, .int lz]))] 0 0
  refine x_istore_n (lv' := [(1, .int r_1), (0, .ref h0)]) G rfl dX1_clear_9 (by decide) rfl ?_
  refine x_aload_n G rfl dX1_clear_10 1 rfl ?_
  refine x_get G in_X1 0 rfl rfl 4 (by decide) q163 (fun _ h => h) rfl dX1_clear_11 ?_
  refine x_cFv3 (C := "java/util/ArrayList") (x := ⟨"java/util/List", "clear", "()V"⟩) (wc := [(rl, .inr (2, [.int lm, .ref rle, .int lz])), (rle, .inl ((xT g) 8, lcap, .inr (.inr (.inr (.inr lef)))))]) (As := []) (rest := []) G [(h0, .inr (0, [.ref lg, .ref e1, .ref e2, .ref e3, .ref rl, .int cur, .ref sh]))] (XSub.of [0, 2, 1] rfl (by decide)) (tJ2_clear G.noTraces h) q372 q375 q377 q69 q379 (by decide) (show ("java/util/List" : String) ≠ "java/lang/invoke/MethodHandle" ∧ ("java/util/List" : String) ≠ "java/lang/invoke/VarHandle" ∧ (parseMethodDescriptor "()V").map (fun d => d.parameters.length) = some 0 from by decide +kernel) 2 2 rfl rfl rfl (by decide) (by decide) rfl (Nat.le_of_ble_eq_true rfl) (Nat.le_of_ble_eq_true rfl) (Nat.le_of_ble_eq_true rfl) dX1_clear_14 (fun lm_2 lz_3 lef_4 h => ?_)
  show X g 2 19 [(1, .int r_1), (0, .ref h0)] [] [(h0, .inr (0, [.ref lg, .ref e1, .ref e2, .ref e3, .ref rl, .int cur, .ref sh])), (rl, .inr (2, [.int lm_2, .ref rle, .int lz_3])), (rle, .inl ((xT g) 8, lcap, .inr (.inr (.inr (.inr lef_4)))))] 0 0
  refine x_iload_n G rfl dX1_clear_19 0 rfl ?_
  exact x_reti3 G Q dX1_clear_20 rfl lm_2 lz_3 lef_4 h XSub.rf (Nat.le_of_ble_eq_true rfl) (Nat.le_of_ble_eq_true rfl)
def wX1_clear_F (lm : Int32) (K : Int32 → Int32 → Int32 → Prop) : Prop := (wJ2_size (0 : Int32) (fun (r_1 : Int32) => (wJ2_clear_F lm (fun (lm_2 : Int32) (lz_3 : Int32) => K r_1 lm_2 lz_3))))
set_option maxRecDepth 20000 in
theorem tX1_clear_F {l : Launch} {D : va_G} {ta : Nat → ClassId} {h0 : Nat} {lg : Nat} {e1 : Nat} {e2 : Nat} {e3 : Nat} {rl : Nat} {cur : Int32} {sh : Nat} {lm : Int32} {K : Int32 → Int32 → Int32 → Prop} (hlt : l.stackTraces = false) (h : wX1_clear_F lm K) : SMi2 l D ta yX1_clear cX1_clear 2 FieldType.int 2 [.ref h0] [(h0, .inr (0, [.ref lg, .ref e1, .ref e2, .ref e3, .ref rl, .int cur, .ref sh])), (rl, .inr (2, [.int lm, .ref (ta 20), .int (0 : Int32)]))] (fun (lm' : Int32) (lz : Int32) => [(h0, .inr (0, [.ref lg, .ref e1, .ref e2, .ref e3, .ref rl, .int cur, .ref sh])), (rl, .inr (2, [.int lm', .ref (ta 20), .int lz]))]) 0 0 K := by
  refine x_sti2 hlt (plainFor_of_name (by decide +kernel)) (Nat.le_of_ble_eq_true rfl) (fun g G hl hD hT Q => ?_)
  subst hl; subst hD; subst hT
  unfold wX1_clear_F at h
  show X g 2 0 [(0, .ref h0)] [] [(h0, .inr (0, [.ref lg, .ref e1, .ref e2, .ref e3, .ref rl, .int cur, .ref sh])), (rl, .inr (2, [.int lm, .ref ((xT g) 20), .int (0 : Int32)]))] 0 0
  refine x_aload_n G rfl dX1_clear_0 0 rfl ?_
  refine x_get G in_X1 0 rfl rfl 4 (by decide) q163 (fun _ h => h) rfl dX1_clear_1 ?_
  refine x_cFi0 (C := "java/util/ArrayList") (x := ⟨"java/util/List", "size", "()I"⟩) (wc := [(rl, .inr (2, [.int lm, .ref ((xT g) 20), .int (0 : Int32)]))]) (As := []) (rest := []) G [(h0, .inr (0, [.ref lg, .ref e1, .ref e2, .ref e3, .ref rl, .int cur, .ref sh]))] (XSub.of [0, 1] rfl (by decide)) (tJ2_size G.noTraces h) q190 q194 q196 q69 q198 (by decide) (show ("java/util/List" : String) ≠ "java/lang/invoke/MethodHandle" ∧ ("java/util/List" : String) ≠ "java/lang/invoke/VarHandle" ∧ (parseMethodDescriptor "()I").map (fun d => d.parameters.length) = some 0 from by decide +kernel) 2 1 rfl rfl rfl (by decide) (by decide) rfl (Nat.le_of_ble_eq_true rfl) (Nat.le_of_ble_eq_true rfl) (Nat.le_of_ble_eq_true rfl) dX1_clear_4 (fun r_1 h => ?_)
  show X g 2 9 [(0, .ref h0)] [.int r_1] [(h0, .inr (0, [.ref lg, .ref e1, .ref e2, .ref e3, .ref rl, .int cur, .ref sh])), (rl, .inr (2, [.int lm, .ref ((xT g) 20), .int (0 : Int32)]))] 0 0
  refine x_istore_n (lv' := [(1, .int r_1), (0, .ref h0)]) G rfl dX1_clear_9 (by decide) rfl ?_
  refine x_aload_n G rfl dX1_clear_10 1 rfl ?_
  refine x_get G in_X1 0 rfl rfl 4 (by decide) q163 (fun _ h => h) rfl dX1_clear_11 ?_
  refine x_cFv2 (C := "java/util/ArrayList") (x := ⟨"java/util/List", "clear", "()V"⟩) (wc := [(rl, .inr (2, [.int lm, .ref ((xT g) 20), .int (0 : Int32)]))]) (As := []) (rest := []) G [(h0, .inr (0, [.ref lg, .ref e1, .ref e2, .ref e3, .ref rl, .int cur, .ref sh]))] (XSub.of [0, 1] rfl (by decide)) (tJ2_clear_F G.noTraces h) q372 q375 q377 q69 q379 (by decide) (show ("java/util/List" : String) ≠ "java/lang/invoke/MethodHandle" ∧ ("java/util/List" : String) ≠ "java/lang/invoke/VarHandle" ∧ (parseMethodDescriptor "()V").map (fun d => d.parameters.length) = some 0 from by decide +kernel) 2 1 rfl rfl rfl (by decide) (by decide) rfl (Nat.le_of_ble_eq_true rfl) (Nat.le_of_ble_eq_true rfl) (Nat.le_of_ble_eq_true rfl) dX1_clear_14 (fun lm_2 lz_3 h => ?_)
  show X g 2 19 [(1, .int r_1), (0, .ref h0)] [] [(h0, .inr (0, [.ref lg, .ref e1, .ref e2, .ref e3, .ref rl, .int cur, .ref sh])), (rl, .inr (2, [.int lm_2, .ref ((xT g) 20), .int lz_3]))] 0 0
  refine x_iload_n G rfl dX1_clear_19 0 rfl ?_
  exact x_reti2 G Q dX1_clear_20 rfl lm_2 lz_3 h XSub.rf (Nat.le_of_ble_eq_true rfl) (Nat.le_of_ble_eq_true rfl)
theorem cdX1_cured : yX1_cured.cls = RX1 ∧ yX1_cured.cls ≠ "java/lang/invoke/MethodHandle" ∧ yX1_cured.cls ≠ "java/lang/invoke/VarHandle" ∧ (parseMethodDescriptor yX1_cured.desc).map (fun d => d.parameters.length) = some 1 := by decide +kernel
def wX1_cured_L7 (p0 : Int32) (X28 : Int32 → Int32 → Prop) : Nat → Int32 → Int32 → Prop
  | 0, _, _ => False
  | n + 1, v2_1, v3_2 => ((p0 ≤ v3_2 → X28 v2_1 v3_2) ∧ (¬ p0 ≤ v3_2 → ((v2_1 = (0 : Int32) → X28 v2_1 v3_2) ∧ (¬ v2_1 = (0 : Int32) → (∀ x_3 : Int32, x_3 = (v2_1 &&& (v2_1 - (1 : Int32))) → (∀ x_4 : Int32, x_4 = (v3_2 + (1 : Int32)) → wX1_cured_L7 p0 X28 n x_3 x_4))))))
def wX1_cured_L40 (v2_9 : Int32) (X54 : Int32 → Prop) : Nat → Int32 → Prop
  | 0, _ => False
  | n + 1, v3_10 => ((¬ ((jishr v2_9 v3_10) &&& (1 : Int32)) = (0 : Int32) → X54 v3_10) ∧ (((jishr v2_9 v3_10) &&& (1 : Int32)) = (0 : Int32) → (∀ x_11 : Int32, x_11 = (v3_10 + (1 : Int32)) → wX1_cured_L40 v2_9 X54 n x_11)))
def wX1_cured_J28 (p0 : Int32) (K : Int32 → Prop) : Int32 → Prop := fun (v2_9 : Int32) => ((p0 < (0 : Int32) → K (-1 : Int32)) ∧ (¬ p0 < (0 : Int32) → ((¬ v2_9 = (0 : Int32) → (∃ m40 : Nat, wX1_cured_L40 v2_9 (fun (v3_13 : Int32) => K v3_13) m40 (0 : Int32))) ∧ (v2_9 = (0 : Int32) → K (-1 : Int32)))))
def wX1_cured (p0 : Int32) (cur : Int32) (K : Int32 → Prop) : Prop := (∃ m7 : Nat, wX1_cured_L7 p0 (fun (v2_7 : Int32) (v3_8 : Int32) => (wX1_cured_J28 p0 K v2_7)) m7 cur (0 : Int32))
set_option maxRecDepth 20000 in
theorem kX1_cured_L7 {g : XG} {h0 : Nat} {lg : Nat} {e1 : Nat} {e2 : Nat} {e3 : Nat} {rl : Nat} {cur : Int32} {sh : Nat} {p0 : Int32} {X28 : Int32 → Int32 → Prop} (G : XO g RX1 cX1_cured 4 1 0 0) (hX28 : ∀ (v2_5 : Int32) (v3_6 : Int32), X28 v2_5 v3_6 → X g 4 28 [(3, .int v3_6), (2, .int v2_5), (0, .ref h0), (1, .int p0)] [] [(h0, .inr (0, [.ref lg, .ref e1, .ref e2, .ref e3, .ref rl, .int cur, .ref sh]))] 0 0) : ∀ (n : Nat) (v2_1 : Int32) (v3_2 : Int32), wX1_cured_L7 p0 X28 n v2_1 v3_2 → X g 4 7 [(3, .int v3_2), (2, .int v2_1), (0, .ref h0), (1, .int p0)] [] [(h0, .inr (0, [.ref lg, .ref e1, .ref e2, .ref e3, .ref rl, .int cur, .ref sh]))] 0 0 := by
  intro n
  induction n with
  | zero => intro _ _ h; exact h.elim
  | succ n ih =>
    intro v2_1 v3_2 h
    unfold wX1_cured_L7 at h
    refine x_iload_n G rfl dX1_cured_7 0 rfl ?_
    refine x_iload_n G rfl dX1_cured_8 3 rfl ?_
    refine x_icmp_ge (tgt := 28) G dX1_cured_9 rfl (fun c => ?_) (fun c => ?_)
    · replace h := h.1 c
      exact hX28 v2_1 v3_2 h
    · replace h := h.2 c
      refine x_iload_n G rfl dX1_cured_12 1 rfl ?_
      refine x_if_eq (tgt := 28) G dX1_cured_13 rfl (fun c => ?_) (fun c => ?_)
      · replace h := h.1 c
        exact hX28 v2_1 v3_2 h
      · replace h := h.2 c
        refine x_iload_n G rfl dX1_cured_16 1 rfl ?_
        refine x_iload_n G rfl dX1_cured_17 1 rfl ?_
        refine x_iconst (v := (1 : Int32)) G dX1_cured_18 (by decide) ?_
        refine x_isub G dX1_cured_19 ?_
        refine x_iand G dX1_cured_20 ?_
        refine x_topi (fun x_3 ex_3 => ?_)
        replace h := h x_3 ex_3
        refine x_istore_n (lv' := [(2, .int x_3), (3, .int v3_2), (0, .ref h0), (1, .int p0)]) G rfl dX1_cured_21 (by decide) rfl ?_
        obtain ⟨x_4, ex_4⟩ : ∃ z : Int32, z = (v3_2 + (1 : Int32)) := ⟨_, rfl⟩
        replace h := h x_4 ex_4
        refine x_iinc (v := x_4) (lv' := [(3, .int x_4), (2, .int x_3), (0, .ref h0), (1, .int p0)]) G dX1_cured_22 1 rfl (by rw [ex_4]; rfl) (by decide) rfl ?_
        refine x_goto (tgt := 7) G dX1_cured_25 rfl ?_
        exact ih x_3 x_4 h
set_option maxRecDepth 20000 in
theorem kX1_cured_L40 {g : XG} {h0 : Nat} {lg : Nat} {e1 : Nat} {e2 : Nat} {e3 : Nat} {rl : Nat} {cur : Int32} {sh : Nat} {p0 : Int32} {v2_9 : Int32} {X54 : Int32 → Prop} (G : XO g RX1 cX1_cured 4 1 0 0) (hX54 : ∀ (v3_12 : Int32), X54 v3_12 → X g 4 54 [(3, .int v3_12), (0, .ref h0), (1, .int p0), (2, .int v2_9)] [] [(h0, .inr (0, [.ref lg, .ref e1, .ref e2, .ref e3, .ref rl, .int cur, .ref sh]))] 0 0) : ∀ (n : Nat) (v3_10 : Int32), wX1_cured_L40 v2_9 X54 n v3_10 → X g 4 40 [(3, .int v3_10), (0, .ref h0), (1, .int p0), (2, .int v2_9)] [] [(h0, .inr (0, [.ref lg, .ref e1, .ref e2, .ref e3, .ref rl, .int cur, .ref sh]))] 0 0 := by
  intro n
  induction n with
  | zero => intro _ h; exact h.elim
  | succ n ih =>
    intro v3_10 h
    unfold wX1_cured_L40 at h
    refine x_iload_n G rfl dX1_cured_40 3 rfl ?_
    refine x_iload_n G rfl dX1_cured_41 0 rfl ?_
    refine x_ishr G dX1_cured_42 ?_
    refine x_iconst (v := (1 : Int32)) G dX1_cured_43 (by decide) ?_
    refine x_iand G dX1_cured_44 ?_
    refine x_if_ne (tgt := 54) G dX1_cured_45 rfl (fun c => ?_) (fun c => ?_)
    · replace h := h.1 c
      exact hX54 v3_10 h
    · replace h := h.2 c
      obtain ⟨x_11, ex_11⟩ : ∃ z : Int32, z = (v3_10 + (1 : Int32)) := ⟨_, rfl⟩
      replace h := h x_11 ex_11
      refine x_iinc (v := x_11) (lv' := [(3, .int x_11), (0, .ref h0), (1, .int p0), (2, .int v2_9)]) G dX1_cured_48 0 rfl (by rw [ex_11]; rfl) (by decide) rfl ?_
      refine x_goto (tgt := 40) G dX1_cured_51 rfl ?_
      exact ih x_11 h
set_option maxRecDepth 20000 in
theorem kX1_cured_J28 {g : XG} {h0 : Nat} {lg : Nat} {e1 : Nat} {e2 : Nat} {e3 : Nat} {rl : Nat} {cur : Int32} {sh : Nat} {p0 : Int32} {K : Int32 → Prop} (G : XO g RX1 cX1_cured 4 1 0 0) (Q : XQi0 g FieldType.int 0 0 ([(h0, .inr (0, [.ref lg, .ref e1, .ref e2, .ref e3, .ref rl, .int cur, .ref sh]))]) K) : ∀ (v2_9 : Int32), wX1_cured_J28 p0 K v2_9 → X g 4 28 [(0, .ref h0), (1, .int p0), (2, .int v2_9)] [] [(h0, .inr (0, [.ref lg, .ref e1, .ref e2, .ref e3, .ref rl, .int cur, .ref sh]))] 0 0 := by
  intro v2_9 h
  unfold wX1_cured_J28 at h
  refine x_iload_n G rfl dX1_cured_28 1 rfl ?_
  refine x_if_lt (tgt := 36) G dX1_cured_29 rfl (fun c => ?_) (fun c => ?_)
  · replace h := h.1 c
    refine x_iconst (v := (-1 : Int32)) G dX1_cured_36 (by decide) ?_
    exact x_reti0 G Q dX1_cured_37 rfl  h XSub.rf (Nat.le_of_ble_eq_true rfl) (Nat.le_of_ble_eq_true rfl)
  · replace h := h.2 c
    refine x_iload_n G rfl dX1_cured_32 2 rfl ?_
    refine x_if_ne (tgt := 38) G dX1_cured_33 rfl (fun c => ?_) (fun c => ?_)
    · replace h := h.1 c
      refine x_iconst (v := (0 : Int32)) G dX1_cured_38 (by decide) ?_
      refine x_istore_n (lv' := [(3, .int (0 : Int32)), (0, .ref h0), (1, .int p0), (2, .int v2_9)]) G rfl dX1_cured_39 (by decide) rfl ?_
      obtain ⟨n0, h⟩ := h
      refine kX1_cured_L40 G (fun v3_13 h => ?_) n0 _ h
      · refine x_iload_n G rfl dX1_cured_54 0 rfl ?_
        exact x_reti0 G Q dX1_cured_55 rfl  h XSub.rf (Nat.le_of_ble_eq_true rfl) (Nat.le_of_ble_eq_true rfl)
    · replace h := h.2 c
      refine x_iconst (v := (-1 : Int32)) G dX1_cured_36 (by decide) ?_
      exact x_reti0 G Q dX1_cured_37 rfl  h XSub.rf (Nat.le_of_ble_eq_true rfl) (Nat.le_of_ble_eq_true rfl)
set_option maxRecDepth 20000 in
theorem tX1_cured {l : Launch} {D : va_G} {ta : Nat → ClassId} {h0 : Nat} {lg : Nat} {e1 : Nat} {e2 : Nat} {e3 : Nat} {rl : Nat} {cur : Int32} {sh : Nat} {p0 : Int32} {K : Int32 → Prop} (hlt : l.stackTraces = false) (h : wX1_cured p0 cur K) : SMi0 l D ta yX1_cured cX1_cured 4 FieldType.int 1 [.ref h0, .int p0] [(h0, .inr (0, [.ref lg, .ref e1, .ref e2, .ref e3, .ref rl, .int cur, .ref sh]))] ([(h0, .inr (0, [.ref lg, .ref e1, .ref e2, .ref e3, .ref rl, .int cur, .ref sh]))]) 0 0 K := by
  refine x_sti0 hlt (plainFor_of_name (by decide +kernel)) (Nat.le_of_ble_eq_true rfl) (fun g G hl hD hT Q => ?_)
  subst hl; subst hD; subst hT
  unfold wX1_cured at h
  show X g 4 0 [(0, .ref h0), (1, .int p0)] [] [(h0, .inr (0, [.ref lg, .ref e1, .ref e2, .ref e3, .ref rl, .int cur, .ref sh]))] 0 0
  refine x_aload_n G rfl dX1_cured_0 0 rfl ?_
  refine x_get G in_X1 0 rfl rfl 5 (by decide) q164 (fun _ h => h) rfl dX1_cured_1 ?_
  refine x_istore_n (lv' := [(2, .int cur), (0, .ref h0), (1, .int p0)]) G rfl dX1_cured_4 (by decide) rfl ?_
  refine x_iconst (v := (0 : Int32)) G dX1_cured_5 (by decide) ?_
  refine x_istore_n (lv' := [(3, .int (0 : Int32)), (2, .int cur), (0, .ref h0), (1, .int p0)]) G rfl dX1_cured_6 (by decide) rfl ?_
  obtain ⟨n0, h⟩ := h
  refine kX1_cured_L7 G (fun v2_7 v3_8 h => ?_) n0 _ _ h
  · refine x_lv (lv' := [(0, .ref h0), (1, .int p0), (2, .int v2_7)]) [2, 3, 1] rfl ?_
    refine kX1_cured_J28 G Q  _ h
theorem cdX1_share : yX1_share.cls = RX1 ∧ yX1_share.cls ≠ "java/lang/invoke/MethodHandle" ∧ yX1_share.cls ≠ "java/lang/invoke/VarHandle" ∧ (parseMethodDescriptor yX1_share.desc).map (fun d => d.parameters.length) = some 1 := by decide +kernel
def wX1_share (p0 : Int32) (shf : Nat → Int32) (K : Int32 → Prop) : Prop := (wX1_isIn p0.toInt64 (0 : Int64) (9 : Int64) (fun (r_1 : Int32) => ((r_1 = (0 : Int32) → K (-102 : Int32)) ∧ (¬ r_1 = (0 : Int32) → (vp_in p0 10 ∧ K (shf p0.toNatClampNeg))))))
set_option maxRecDepth 20000 in
theorem tX1_share {l : Launch} {D : va_G} {ta : Nat → ClassId} {h0 : Nat} {lg : Nat} {e1 : Nat} {e2 : Nat} {e3 : Nat} {rl : Nat} {cur : Int32} {sh : Nat} {shf : Nat → Int32} {p0 : Int32} {K : Int32 → Prop} (hlt : l.stackTraces = false) (h : wX1_share p0 shf K) : SMi0 l D ta yX1_share cX1_share 2 FieldType.int 2 [.ref h0, .int p0] [(h0, .inr (0, [.ref lg, .ref e1, .ref e2, .ref e3, .ref rl, .int cur, .ref sh])), (sh, .inl (ta 2, 10, .inl shf))] ([(h0, .inr (0, [.ref lg, .ref e1, .ref e2, .ref e3, .ref rl, .int cur, .ref sh])), (sh, .inl (ta 2, 10, .inl shf))]) 0 0 K := by
  refine x_sti0 hlt (plainFor_of_name (by decide +kernel)) (Nat.le_of_ble_eq_true rfl) (fun g G hl hD hT Q => ?_)
  subst hl; subst hD; subst hT
  unfold wX1_share at h
  show X g 2 0 [(0, .ref h0), (1, .int p0)] [] [(h0, .inr (0, [.ref lg, .ref e1, .ref e2, .ref e3, .ref rl, .int cur, .ref sh])), (sh, .inl ((xT g) 2, 10, .inl shf))] 0 0
  refine x_iload_n G rfl dX1_share_0 1 rfl ?_
  refine x_i2l G dX1_share_1 ?_
  refine x_lconst (v := (0 : Int64)) G dX1_share_2 (by decide) ?_
  refine x_ldc2 G q388 dX1_share_3 ?_
  refine x_cPi (As := [.long p0.toInt64, .long (0 : Int64), .long (9 : Int64)]) (rest := []) G (tX1_isIn G.noTraces h) (lw_S q199 q200 q65 q201) cdX1_isIn (by decide) (by decide) rfl (Nat.le_of_ble_eq_true rfl) (Nat.le_of_ble_eq_true rfl) (Nat.le_of_ble_eq_true rfl) dX1_share_6 (fun r_1 h => ?_)
  refine x_if_eq (tgt := 21) G dX1_share_9 rfl (fun c => ?_) (fun c => ?_)
  · replace h := h.1 c
    refine x_bipush (v := (-102 : Int32)) G dX1_share_21 (by decide) ?_
    exact x_reti0 G Q dX1_share_23 rfl  h XSub.rf (Nat.le_of_ble_eq_true rfl) (Nat.le_of_ble_eq_true rfl)
  · replace h := h.2 c
    refine x_aload_n G rfl dX1_share_12 0 rfl ?_
    refine x_get G in_X1 0 rfl rfl 6 (by decide) q165 (fun _ h => h) rfl dX1_share_13 ?_
    refine x_iload_n G rfl dX1_share_16 1 rfl ?_
    obtain ⟨hz, h⟩ := h
    refine x_iald G 1 rfl hz dX1_share_17 ?_
    refine x_goto (tgt := 23) G dX1_share_18 rfl ?_
    exact x_reti0 G Q dX1_share_23 rfl  h XSub.rf (Nat.le_of_ble_eq_true rfl) (Nat.le_of_ble_eq_true rfl)
