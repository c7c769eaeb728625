/-! makers of ledgers, of what is thrown, of lists; orders. Printed by gen/makers.py -/
theorem cdJ16_newLength : yJ16_newLength.cls ≠ "java/lang/invoke/MethodHandle" ∧ yJ16_newLength.cls ≠ "java/lang/invoke/VarHandle" ∧ (parseMethodDescriptor yJ16_newLength.desc).map (fun d => d.parameters.length) = some 3 := by decide +kernel
def wJ16_newLength (p0 : Int32) (p1 : Int32) (p2 : Int32) (K : Int32 → Prop) : Prop := (wJ13_max p1 p2 (fun (r_1 : Int32) => (∀ x_2 : Int32, x_2 = (p0 + r_1) → ((x_2 ≤ (0 : Int32) → False) ∧ (¬ x_2 ≤ (0 : Int32) → (((2147483639 : Int32) < x_2 → False) ∧ (¬ (2147483639 : Int32) < x_2 → K x_2)))))))
set_option maxRecDepth 20000 in
theorem tJ16_newLength {l : Launch} {D : va_G} {ta : Nat → ClassId} {p0 : Int32} {p1 : Int32} {p2 : Int32} {K : Int32 → Prop} (hlt : l.stackTraces = false) (h : wJ16_newLength p0 p1 p2 K) : SMi0 l D ta yJ16_newLength cJ16_newLength 4 FieldType.int 2 [.int p0, .int p1, .int p2] [] [] 0 0 K := by
  refine x_sti0 hlt (plainFor_of_name (by decide +kernel)) (Nat.le_of_ble_eq_true rfl) (fun g G hl hD hT Q => ?_)
  subst hl; subst hD; subst hT
  unfold wJ16_newLength at h
  show X g 4 0 [(0, .int p0), (1, .int p1), (2, .int p2)] [] [] 0 0
  refine x_iload_n G rfl dJ16_newLength_0 0 rfl ?_
  refine x_iload_n G rfl dJ16_newLength_1 1 rfl ?_
  refine x_iload_n G rfl dJ16_newLength_2 2 rfl ?_
  refine x_cPi (As := [.int p1, .int p2]) (rest := [.int p0]) G (tJ13_max G.noTraces h) (lw_S q1318 q306 q85 q307) cdJ13_max (by decide) (by decide) rfl (Nat.le_of_ble_eq_true rfl) (Nat.zero_le _) (Nat.zero_le _) dJ16_newLength_3 (fun r_1 h => ?_)
  refine x_iadd G dJ16_newLength_6 ?_
  refine x_topi (fun x_2 ex_2 => ?_)
  replace h := h x_2 ex_2
  refine x_istore_n (lv' := [(3, .int x_2), (0, .int p0), (1, .int p1), (2, .int p2)]) G rfl dJ16_newLength_7 (by decide) rfl ?_
  refine x_iconst (v := (0 : Int32)) G dJ16_newLength_8 (by decide) ?_
  refine x_iload_n G rfl dJ16_newLength_9 0 rfl ?_
  refine x_icmp_ge (tgt := 21) G dJ16_newLength_10 rfl (fun c => ?_) (fun c => ?_)
  · replace h := h.1 c
    exact h.elim
  · replace h := h.2 c
    refine x_iload_n G rfl dJ16_newLength_13 0 rfl ?_
    refine x_ldc G q1319 dJ16_newLength_14 ?_
    refine x_icmp_gt (tgt := 21) G dJ16_newLength_16 rfl (fun c => ?_) (fun c => ?_)
    · replace h := h.1 c
      exact h.elim
    · replace h := h.2 c
      refine x_iload_n G rfl dJ16_newLength_19 0 rfl ?_
      exact x_reti0 G Q dJ16_newLength_20 rfl  h XSub.rf (Nat.le_refl _) (Nat.le_refl _)
theorem cdX1_isIn : yX1_isIn.cls ≠ "java/lang/invoke/MethodHandle" ∧ yX1_isIn.cls ≠ "java/lang/invoke/VarHandle" ∧ (parseMethodDescriptor yX1_isIn.desc).map (fun d => d.parameters.length) = some 3 := by decide +kernel
def wX1_isIn (p0 : Int64) (p1 : Int64) (p2 : Int64) (K : Int32 → Prop) : Prop := ((p0 < p1 → K (0 : Int32)) ∧ (¬ p0 < p1 → ((p2 < p0 → K (0 : Int32)) ∧ (¬ p2 < p0 → K (1 : Int32)))))
set_option maxRecDepth 20000 in
theorem tX1_isIn {l : Launch} {D : va_G} {ta : Nat → ClassId} {p0 : Int64} {p1 : Int64} {p2 : Int64} {K : Int32 → Prop} (hlt : l.stackTraces = false) (h : wX1_isIn p0 p1 p2 K) : SMi0 l D ta yX1_isIn cX1_isIn 6 FieldType.boolean 1 [.long p0, .long p1, .long p2] [] [] 0 0 K := by
  refine x_sti0 hlt (plainFor_of_name (by decide +kernel)) (Nat.le_of_ble_eq_true rfl) (fun g G hl hD hT Q => ?_)
  subst hl; subst hD; subst hT
  unfold wX1_isIn at h
  show X g 6 0 [(0, .long p0), (2, .long p1), (4, .long p2)] [] [] 0 0
  refine x_lload_n G rfl dX1_isIn_0 0 rfl ?_
  refine x_lload_n G rfl dX1_isIn_1 1 rfl ?_
  refine x_lcmp_lt (tgt := 17) G dX1_isIn_2 dX1_isIn_3 rfl (fun c => ?_) (fun c => ?_)
  · replace h := h.1 c
    refine x_iconst (v := (0 : Int32)) G dX1_isIn_17 (by decide) ?_
    exact x_reti0 G Q dX1_isIn_18 rfl  h XSub.rf (Nat.le_refl _) (Nat.le_refl _)
  · replace h := h.2 c
    refine x_lload_n G rfl dX1_isIn_6 0 rfl ?_
    refine x_lload G dX1_isIn_7 2 rfl ?_
    refine x_lcmp_gt (tgt := 17) G dX1_isIn_9 dX1_isIn_10 rfl (fun c => ?_) (fun c => ?_)
    · replace h := h.1 c
      refine x_iconst (v := (0 : Int32)) G dX1_isIn_17 (by decide) ?_
      exact x_reti0 G Q dX1_isIn_18 rfl  h XSub.rf (Nat.le_refl _) (Nat.le_refl _)
    · replace h := h.2 c
      refine x_iconst (v := (1 : Int32)) G dX1_isIn_13 (by decide) ?_
      refine x_goto (tgt := 18) G dX1_isIn_14 rfl ?_
      exact x_reti0 G Q dX1_isIn_18 rfl  h XSub.rf (Nat.le_refl _) (Nat.le_refl _)
theorem cdX1_many : yX1_many.cls ≠ "java/lang/invoke/MethodHandle" ∧ yX1_many.cls ≠ "java/lang/invoke/VarHandle" ∧ (parseMethodDescriptor yX1_many.desc).map (fun d => d.parameters.length) = some 1 := by decide +kernel
def wX1_many_L4 (X20 : Int32 → Int32 → Prop) : Nat → Int32 → Int32 → Prop
  | 0, _, _ => False
  | n + 1, v1_1, v2_2 => ((v2_2 = (0 : Int32) → X20 v1_1 v2_2) ∧ (¬ v2_2 = (0 : Int32) → (∀ x_3 : Int32, x_3 = (v1_1 + (1 : Int32)) → (∀ x_4 : Int32, x_4 = (v2_2 &&& (v2_2 - (1 : Int32))) → wX1_many_L4 X20 n x_3 x_4))))
def wX1_many (p0 : Int32) (K : Int32 → Prop) : Prop := (∃ m4 : Nat, wX1_many_L4 (fun (v1_7 : Int32) (v2_8 : Int32) => K v1_7) m4 (0 : Int32) p0)
set_option maxRecDepth 20000 in
theorem kX1_many_L4 {g : XG} {p0 : Int32} {X20 : Int32 → Int32 → Prop} (G : XO g RX1 cX1_many 3 1 0 0) (hX20 : ∀ (v1_5 : Int32) (v2_6 : Int32), X20 v1_5 v2_6 → X g 3 20 [(2, .int v2_6), (1, .int v1_5), (0, .int p0)] [] [] 0 0) : ∀ (n : Nat) (v1_1 : Int32) (v2_2 : Int32), wX1_many_L4 X20 n v1_1 v2_2 → X g 3 4 [(2, .int v2_2), (1, .int v1_1), (0, .int p0)] [] [] 0 0 := by
  intro n
  induction n with
  | zero => intro _ _ h; exact h.elim
  | succ n ih =>
    intro v1_1 v2_2 h
    unfold wX1_many_L4 at h
    refine x_iload_n G rfl dX1_many_4 0 rfl ?_
    refine x_if_eq (tgt := 20) G dX1_many_5 rfl (fun c => ?_) (fun c => ?_)
    · replace h := h.1 c
      exact hX20 v1_1 v2_2 h
    · replace h := h.2 c
      obtain ⟨x_3, ex_3⟩ : ∃ z : Int32, z = (v1_1 + (1 : Int32)) := ⟨_, rfl⟩
      replace h := h x_3 ex_3
      refine x_iinc (v := x_3) (lv' := [(1, .int x_3), (2, .int v2_2), (0, .int p0)]) G dX1_many_8 1 rfl (by rw [ex_3]; rfl) (by decide) rfl ?_
      refine x_iload_n G rfl dX1_many_11 1 rfl ?_
      refine x_iload_n G rfl dX1_many_12 1 rfl ?_
      refine x_iconst (v := (1 : Int32)) G dX1_many_13 (by decide) ?_
      refine x_isub G dX1_many_14 ?_
      refine x_iand G dX1_many_15 ?_
      refine x_topi (fun x_4 ex_4 => ?_)
      replace h := h x_4 ex_4
      refine x_istore_n (lv' := [(2, .int x_4), (1, .int x_3), (0, .int p0)]) G rfl dX1_many_16 (by decide) rfl ?_
      refine x_goto (tgt := 4) G dX1_many_17 rfl ?_
      exact ih x_3 x_4 h
set_option maxRecDepth 20000 in
theorem tX1_many {l : Launch} {D : va_G} {ta : Nat → ClassId} {p0 : Int32} {K : Int32 → Prop} (hlt : l.stackTraces = false) (h : wX1_many p0 K) : SMi0 l D ta yX1_many cX1_many 3 FieldType.int 1 [.int p0] [] [] 0 0 K := by
  refine x_sti0 hlt (plainFor_of_name (by decide +kernel)) (Nat.le_of_ble_eq_true rfl) (fun g G hl hD hT Q => ?_)
  subst hl; subst hD; subst hT
  unfold wX1_many at h
  show X g 3 0 [(0, .int p0)] [] [] 0 0
  refine x_iconst (v := (0 : Int32)) G dX1_many_0 (by decide) ?_
  refine x_istore_n (lv' := [(1, .int (0 : Int32)), (0, .int p0)]) G rfl dX1_many_1 (by decide) rfl ?_
  refine x_iload_n G rfl dX1_many_2 1 rfl ?_
  refine x_istore_n (lv' := [(2, .int p0), (1, .int (0 : Int32)), (0, .int p0)]) G rfl dX1_many_3 (by decide) rfl ?_
  obtain ⟨n0, h⟩ := h
  refine kX1_many_L4 G (fun v1_7 v2_8 h => ?_) n0 _ _ h
  · refine x_iload_n G rfl dX1_many_20 1 rfl ?_
    exact x_reti0 G Q dX1_many_21 rfl  h XSub.rf (Nat.le_refl _) (Nat.le_refl _)
theorem cdX1_isAhead : yX1_isAhead.cls ≠ "java/lang/invoke/MethodHandle" ∧ yX1_isAhead.cls ≠ "java/lang/invoke/VarHandle" ∧ (parseMethodDescriptor yX1_isAhead.desc).map (fun d => d.parameters.length) = some 2 := by decide +kernel
def wX1_isAhead (p0 : Int32) (p1 : Int32) (K : Int32 → Prop) : Prop := (wX1_many p0 (fun (r_1 : Int32) => (wX1_many p1 (fun (r_2 : Int32) => (∀ x_3 : Int32, x_3 = (p0 ^^^ p1) → ((r_1 = r_2 → ((((p0 &&& x_3) &&& (-x_3)) = (0 : Int32) → K (0 : Int32)) ∧ (¬ ((p0 &&& x_3) &&& (-x_3)) = (0 : Int32) → K (1 : Int32)))) ∧ (¬ r_1 = r_2 → ((r_2 ≤ r_1 → K (0 : Int32)) ∧ (¬ r_2 ≤ r_1 → K (1 : Int32))))))))))
set_option maxRecDepth 20000 in
theorem tX1_isAhead {l : Launch} {D : va_G} {ta : Nat → ClassId} {p0 : Int32} {p1 : Int32} {K : Int32 → Prop} (hlt : l.stackTraces = false) (h : wX1_isAhead p0 p1 K) : SMi0 l D ta yX1_isAhead cX1_isAhead 5 FieldType.boolean 2 [.int p0, .int p1] [] [] 0 0 K := by
  refine x_sti0 hlt (plainFor_of_name (by decide +kernel)) (Nat.le_of_ble_eq_true rfl) (fun g G hl hD hT Q => ?_)
  subst hl; subst hD; subst hT
  unfold wX1_isAhead at h
  show X g 5 0 [(0, .int p0), (1, .int p1)] [] [] 0 0
  refine x_iload_n G rfl dX1_isAhead_0 0 rfl ?_
  refine x_cPi (As := [.int p0]) (rest := []) G (tX1_many G.noTraces h) (lw_S q1489 q1490 q65 q1491) cdX1_many (by decide) (by decide) rfl (Nat.le_of_ble_eq_true rfl) (Nat.zero_le _) (Nat.zero_le _) dX1_isAhead_1 (fun r_1 h => ?_)
  refine x_istore_n (lv' := [(2, .int r_1), (0, .int p0), (1, .int p1)]) G rfl dX1_isAhead_4 (by decide) rfl ?_
  refine x_iload_n G rfl dX1_isAhead_5 2 rfl ?_
  refine x_cPi (As := [.int p1]) (rest := []) G (tX1_many G.noTraces h) (lw_S q1489 q1490 q65 q1491) cdX1_many (by decide) (by decide) rfl (Nat.le_of_ble_eq_true rfl) (Nat.zero_le _) (Nat.zero_le _) dX1_isAhead_6 (fun r_2 h => ?_)
  refine x_istore_n (lv' := [(3, .int r_2), (2, .int r_1), (0, .int p0), (1, .int p1)]) G rfl dX1_isAhead_9 (by decide) rfl ?_
  refine x_iload_n G rfl dX1_isAhead_10 2 rfl ?_
  refine x_iload_n G rfl dX1_isAhead_11 3 rfl ?_
  refine x_ixor G dX1_isAhead_12 ?_
  refine x_topi (fun x_3 ex_3 => ?_)
  replace h := h x_3 ex_3
  refine x_istore (lv' := [(4, .int x_3), (3, .int r_2), (2, .int r_1), (0, .int p0), (1, .int p1)]) G dX1_isAhead_13 (by decide) rfl ?_
  refine x_iload_n G rfl dX1_isAhead_15 2 rfl ?_
  refine x_iload_n G rfl dX1_isAhead_16 1 rfl ?_
  refine x_icmp_eq (tgt := 33) G dX1_isAhead_17 rfl (fun c => ?_) (fun c => ?_)
  · replace h := h.1 c
    refine x_iload_n G rfl dX1_isAhead_33 3 rfl ?_
    refine x_iload G dX1_isAhead_34 0 rfl ?_
    refine x_iand G dX1_isAhead_36 ?_
    refine x_iload G dX1_isAhead_37 0 rfl ?_
    refine x_ineg G dX1_isAhead_39 ?_
    refine x_iand G dX1_isAhead_40 ?_
    refine x_if_eq (tgt := 48) G dX1_isAhead_41 rfl (fun c => ?_) (fun c => ?_)
    · replace h := h.1 c
      refine x_iconst (v := (0 : Int32)) G dX1_isAhead_48 (by decide) ?_
      exact x_reti0 G Q dX1_isAhead_49 rfl  h XSub.rf (Nat.le_refl _) (Nat.le_refl _)
    · replace h := h.2 c
      refine x_iconst (v := (1 : Int32)) G dX1_isAhead_44 (by decide) ?_
      refine x_goto (tgt := 49) G dX1_isAhead_45 rfl ?_
      exact x_reti0 G Q dX1_isAhead_49 rfl  h XSub.rf (Nat.le_refl _) (Nat.le_refl _)
  · replace h := h.2 c
    refine x_iload_n G rfl dX1_isAhead_20 2 rfl ?_
    refine x_iload_n G rfl dX1_isAhead_21 1 rfl ?_
    refine x_icmp_ge (tgt := 29) G dX1_isAhead_22 rfl (fun c => ?_) (fun c => ?_)
    · replace h := h.1 c
      refine x_iconst (v := (0 : Int32)) G dX1_isAhead_29 (by decide) ?_
      refine x_goto (tgt := 49) G dX1_isAhead_30 rfl ?_
      exact x_reti0 G Q dX1_isAhead_49 rfl  h XSub.rf (Nat.le_refl _) (Nat.le_refl _)
    · replace h := h.2 c
      refine x_iconst (v := (1 : Int32)) G dX1_isAhead_25 (by decide) ?_
      refine x_goto (tgt := 49) G dX1_isAhead_26 rfl ?_
      exact x_reti0 G Q dX1_isAhead_49 rfl  h XSub.rf (Nat.le_refl _) (Nat.le_refl _)
theorem cdX4_init : yX4_init.cls = RX4 ∧ yX4_init.cls ≠ "java/lang/invoke/MethodHandle" ∧ yX4_init.cls ≠ "java/lang/invoke/VarHandle" ∧ (parseMethodDescriptor yX4_init.desc).map (fun d => d.parameters.length) = some 1 := by decide +kernel
def wX4_init (p0 : Int32) (K : Nat → Nat → Nat → Prop) : Prop := (¬ p0 < (0 : Int32) ∧ (p0.toNatClampNeg ≤ 60 ∧ (∀ a_1 : Nat, (¬ p0 < (0 : Int32) ∧ (p0.toNatClampNeg ≤ 60 ∧ (∀ a_2 : Nat, (¬ p0 < (0 : Int32) ∧ (p0.toNatClampNeg ≤ 60 ∧ (∀ a_3 : Nat, K a_1 a_2 a_3)))))))))
set_option maxRecDepth 20000 in
theorem tX4_init {l : Launch} {D : va_G} {ta : Nat → ClassId} {h0 : Nat} {kd : Bool} {gc : Int32} {p0 : Int32} {K : Nat → Nat → Nat → Prop} (hlt : l.stackTraces = false) (h : wX4_init p0 K) : SMv3 l D ta yX4_init cX4_init 2 2 [.ref h0, .int p0] [(h0, .inr (lci kd, [.null, .null, .null, .int gc, .null]))] (fun (b1 : Nat) (b2 : Nat) (b3 : Nat) => [(h0, .inr (lci kd, [.ref b1, .ref b2, .ref b3, .int gc, .null])), (b1, .inl (ta 1, p0.toNatClampNeg, .inl (fun _ => 0))), (b2, .inl (ta 1, p0.toNatClampNeg, .inl (fun _ => 0))), (b3, .inl (ta 1, p0.toNatClampNeg, .inl (fun _ => 0)))]) 3 180 K := by
  refine x_stI3 hlt (plainFor_of_name (by decide +kernel)) (Nat.le_of_ble_eq_true rfl) (fun g G hl hD hT hN Q => ?_)
  subst hl; subst hD; subst hT
  unfold wX4_init at h
  show X g 2 0 [(0, .ref h0), (1, .int p0)] [] [(h0, .inr (lci kd, [.null, .null, .null, .int gc, .null]))] 0 0
  refine x_aload_n G rfl dX4_init_0 0 rfl ?_
  refine x_objInit G q512 q118 q119 (by decide) dX4_init_1 ?_
  refine x_aload_n G rfl dX4_init_4 0 rfl ?_
  refine x_iload_n G rfl dX4_init_5 1 rfl ?_
  obtain ⟨hz, hb, h⟩ := h
  refine x_newaB (atype := .byte) (ty := .byte) (N' := p0.toNatClampNeg) (B := 60) (t0 := 1) (x0 := .inl (fun _ => 0)) G q478 rfl rfl rfl (fun _ => rfl) hz rfl hb (by decide) (Nat.le_of_ble_eq_true rfl) (Nat.le_of_ble_eq_true rfl) dX4_init_6 (fun a_1 => ?_)
  replace h := h a_1
  show X g 2 8 [(0, .ref h0), (1, .int p0)] [.ref a_1, .ref h0] [(h0, .inr (lci kd, [.null, .null, .null, .int gc, .null])), (a_1, .inl ((xT g) 1, p0.toNatClampNeg, .inl (fun _ => 0)))] 1 60
  refine x_putFL kd G hN 0 rfl 0 (by decide) q514 rfl rfl rfl rfl (Nat.le_of_ble_eq_true rfl) rfl dX4_init_8 ?_
  show X g 2 11 [(0, .ref h0), (1, .int p0)] [] [(h0, .inr (lci kd, [.ref a_1, .null, .null, .int gc, .null])), (a_1, .inl ((xT g) 1, p0.toNatClampNeg, .inl (fun _ => 0)))] 1 60
  refine x_aload_n G rfl dX4_init_11 0 rfl ?_
  refine x_iload_n G rfl dX4_init_12 1 rfl ?_
  obtain ⟨hz, hb, h⟩ := h
  refine x_newaB (atype := .byte) (ty := .byte) (N' := p0.toNatClampNeg) (B := 60) (t0 := 1) (x0 := .inl (fun _ => 0)) G q478 rfl rfl rfl (fun _ => rfl) hz rfl hb (by decide) (Nat.le_of_ble_eq_true rfl) (Nat.le_of_ble_eq_true rfl) dX4_init_13 (fun a_2 => ?_)
  replace h := h a_2
  show X g 2 15 [(0, .ref h0), (1, .int p0)] [.ref a_2, .ref h0] [(h0, .inr (lci kd, [.ref a_1, .null, .null, .int gc, .null])), (a_1, .inl ((xT g) 1, p0.toNatClampNeg, .inl (fun _ => 0))), (a_2, .inl ((xT g) 1, p0.toNatClampNeg, .inl (fun _ => 0)))] 2 120
  refine x_putFL kd G hN 0 rfl 1 (by decide) q515 rfl rfl rfl rfl (Nat.le_of_ble_eq_true rfl) rfl dX4_init_15 ?_
  show X g 2 18 [(0, .ref h0), (1, .int p0)] [] [(h0, .inr (lci kd, [.ref a_1, .ref a_2, .null, .int gc, .null])), (a_1, .inl ((xT g) 1, p0.toNatClampNeg, .inl (fun _ => 0))), (a_2, .inl ((xT g) 1, p0.toNatClampNeg, .inl (fun _ => 0)))] 2 120
  refine x_aload_n G rfl dX4_init_18 0 rfl ?_
  refine x_iload_n G rfl dX4_init_19 1 rfl ?_
  obtain ⟨hz, hb, h⟩ := h
  refine x_newaB (atype := .byte) (ty := .byte) (N' := p0.toNatClampNeg) (B := 60) (t0 := 1) (x0 := .inl (fun _ => 0)) G q478 rfl rfl rfl (fun _ => rfl) hz rfl hb (by decide) (Nat.le_of_ble_eq_true rfl) (Nat.le_of_ble_eq_true rfl) dX4_init_20 (fun a_3 => ?_)
  replace h := h a_3
  show X g 2 22 [(0, .ref h0), (1, .int p0)] [.ref a_3, .ref h0] [(h0, .inr (lci kd, [.ref a_1, .ref a_2, .null, .int gc, .null])), (a_1, .inl ((xT g) 1, p0.toNatClampNeg, .inl (fun _ => 0))), (a_2, .inl ((xT g) 1, p0.toNatClampNeg, .inl (fun _ => 0))), (a_3, .inl ((xT g) 1, p0.toNatClampNeg, .inl (fun _ => 0)))] 3 180
  refine x_putFL kd G hN 0 rfl 2 (by decide) q516 rfl rfl rfl rfl (Nat.le_of_ble_eq_true rfl) rfl dX4_init_22 ?_
  show X g 2 25 [(0, .ref h0), (1, .int p0)] [] [(h0, .inr (lci kd, [.ref a_1, .ref a_2, .ref a_3, .int gc, .null])), (a_1, .inl ((xT g) 1, p0.toNatClampNeg, .inl (fun _ => 0))), (a_2, .inl ((xT g) 1, p0.toNatClampNeg, .inl (fun _ => 0))), (a_3, .inl ((xT g) 1, p0.toNatClampNeg, .inl (fun _ => 0)))] 3 180
  exact x_retv3 G Q dX4_init_25 a_1 a_2 a_3 h XSub.rf (Nat.le_of_ble_eq_true rfl) (Nat.le_of_ble_eq_true rfl)
def wX4_init_N (p0 : Int32) (K : Prop) (E : String → Prop) : Prop := (p0 < (0 : Int32) ∧ E "java/lang/NegativeArraySizeException")
set_option maxRecDepth 20000 in
theorem tX4_init_N {l : Launch} {D : va_G} {ta : Nat → ClassId} {h0 : Nat} {kd : Bool} {gc : Int32} {p0 : Int32} {K : Prop} {E : String → Prop} (hlt : l.stackTraces = false) (h : wX4_init_N p0 K E) : SXv0 l D ta yX4_init cX4_init 2 2 [.ref h0, .int p0] [(h0, .inr (lci kd, [.null, .null, .null, .int gc, .null]))] ([]) 3 54 K E := by
  refine x_sxv0 hlt (by decide +kernel) (Nat.le_of_ble_eq_true rfl) (fun g G hl hD hT hN Q => ?_)
  subst hl; subst hD; subst hT
  unfold wX4_init_N at h
  show X g 2 0 [(0, .ref h0), (1, .int p0)] [] [(h0, .inr (lci kd, [.null, .null, .null, .int gc, .null]))] 0 0
  refine x_aload_n G rfl dX4_init_0 0 rfl ?_
  refine x_objInit G q512 q118 q119 (by decide) dX4_init_1 ?_
  refine x_aload_n G rfl dX4_init_4 0 rfl ?_
  refine x_iload_n G rfl dX4_init_5 1 rfl ?_
  obtain ⟨hz, h⟩ := h
  refine x_newarrayZ G hz (Nat.le_of_ble_eq_true rfl) (Nat.le_of_ble_eq_true rfl) (Nat.le_of_ble_eq_true rfl) dX4_init_6 ?_
  exact x_ov0 G Q h (XSub.of [] rfl (by decide)) (Nat.le_of_ble_eq_true rfl) (Nat.le_of_ble_eq_true rfl)
theorem cdX5_init : yX5_init.cls = RX5 ∧ yX5_init.cls ≠ "java/lang/invoke/MethodHandle" ∧ yX5_init.cls ≠ "java/lang/invoke/VarHandle" ∧ (parseMethodDescriptor yX5_init.desc).map (fun d => d.parameters.length) = some 1 := by decide +kernel
def wX5_init (p0 : Int32) (K : Nat → Nat → Nat → Nat → Prop) : Prop := (wX4_init p0 (fun (b1_1 : Nat) (b2_2 : Nat) (b3_3 : Nat) => (¬ p0 < (0 : Int32) ∧ (p0.toNatClampNeg ≤ 60 ∧ (∀ a_4 : Nat, K b1_1 b2_2 b3_3 a_4)))))
set_option maxRecDepth 20000 in
theorem tX5_init {l : Launch} {D : va_G} {ta : Nat → ClassId} {h0 : Nat} {gc : Int32} {p0 : Int32} {K : Nat → Nat → Nat → Nat → Prop} (hlt : l.stackTraces = false) (h : wX5_init p0 K) : SMv4 l D ta yX5_init cX5_init 2 3 [.ref h0, .int p0] [(h0, .inr (4, [.null, .null, .null, .int gc, .null]))] (fun (b1 : Nat) (b2 : Nat) (b3 : Nat) (b4 : Nat) => [(h0, .inr (4, [.ref b1, .ref b2, .ref b3, .int gc, .ref b4])), (b1, .inl (ta 1, p0.toNatClampNeg, .inl (fun _ => 0))), (b2, .inl (ta 1, p0.toNatClampNeg, .inl (fun _ => 0))), (b3, .inl (ta 1, p0.toNatClampNeg, .inl (fun _ => 0))), (b4, .inl (ta 5, p0.toNatClampNeg, .inr (.inr (.inr (.inl (fun _ => FP.dconst0))))))]) 4 240 K := by
  refine x_stI4 hlt (plainFor_of_name (by decide +kernel)) (Nat.le_of_ble_eq_true rfl) (fun g G hl hD hT hN Q => ?_)
  subst hl; subst hD; subst hT
  unfold wX5_init at h
  show X g 2 0 [(0, .ref h0), (1, .int p0)] [] [(h0, .inr (4, [.null, .null, .null, .int gc, .null]))] 0 0
  refine x_aload_n G rfl dX5_init_0 0 rfl ?_
  refine x_iload_n G rfl dX5_init_1 1 rfl ?_
  refine x_cIv3 (wc := [(h0, .inr (4, [.null, .null, .null, .int gc, .null]))]) (As := [.int p0]) (rest := []) G [] (XSub.of [0] rfl (by decide)) (tX4_init (kd := true) G.noTraces h) (lw_meth q511) q78 q509 q510 rfl cdX4_init.2 (by decide) (by decide) rfl (Nat.le_of_ble_eq_true rfl) (Nat.le_of_ble_eq_true rfl) (Nat.le_of_ble_eq_true rfl) dX5_init_2 (fun b1_1 b2_2 b3_3 h => ?_)
  show X g 2 5 [(0, .ref h0), (1, .int p0)] [] [(h0, .inr (4, [.ref b1_1, .ref b2_2, .ref b3_3, .int gc, .null])), (b1_1, .inl ((xT g) 1, p0.toNatClampNeg, .inl (fun _ => 0))), (b2_2, .inl ((xT g) 1, p0.toNatClampNeg, .inl (fun _ => 0))), (b3_3, .inl ((xT g) 1, p0.toNatClampNeg, .inl (fun _ => 0)))] 3 180
  refine x_aload_n G rfl dX5_init_5 0 rfl ?_
  refine x_iload_n G rfl dX5_init_6 1 rfl ?_
  obtain ⟨hz, hb, h⟩ := h
  refine x_newaB (atype := .double) (ty := .double) (N' := p0.toNatClampNeg) (B := 60) (t0 := 5) (x0 := .inr (.inr (.inr (.inl (fun _ => FP.dconst0))))) G q529 rfl rfl rfl (fun _ => rfl) hz rfl hb (by decide) (Nat.le_of_ble_eq_true rfl) (Nat.le_of_ble_eq_true rfl) dX5_init_7 (fun a_4 => ?_)
  replace h := h a_4
  show X g 2 9 [(0, .ref h0), (1, .int p0)] [.ref a_4, .ref h0] [(h0, .inr (4, [.ref b1_1, .ref b2_2, .ref b3_3, .int gc, .null])), (b1_1, .inl ((xT g) 1, p0.toNatClampNeg, .inl (fun _ => 0))), (b2_2, .inl ((xT g) 1, p0.toNatClampNeg, .inl (fun _ => 0))), (b3_3, .inl ((xT g) 1, p0.toNatClampNeg, .inl (fun _ => 0))), (a_4, .inl ((xT g) 5, p0.toNatClampNeg, .inr (.inr (.inr (.inl (fun _ => FP.dconst0))))))] 4 240
  refine x_putF G hN in_X5 tyX5 tyX5_ok nmX5 0 rfl rfl 4 (by decide) q513 (fun _ h => h) rfl rfl rfl rfl (Nat.le_of_ble_eq_true rfl) rfl dX5_init_9 ?_
  show X g 2 12 [(0, .ref h0), (1, .int p0)] [] [(h0, .inr (4, [.ref b1_1, .ref b2_2, .ref b3_3, .int gc, .ref a_4])), (b1_1, .inl ((xT g) 1, p0.toNatClampNeg, .inl (fun _ => 0))), (b2_2, .inl ((xT g) 1, p0.toNatClampNeg, .inl (fun _ => 0))), (b3_3, .inl ((xT g) 1, p0.toNatClampNeg, .inl (fun _ => 0))), (a_4, .inl ((xT g) 5, p0.toNatClampNeg, .inr (.inr (.inr (.inl (fun _ => FP.dconst0))))))] 4 240
  exact x_retv4 G Q dX5_init_12 b1_1 b2_2 b3_3 a_4 h XSub.rf (Nat.le_of_ble_eq_true rfl) (Nat.le_of_ble_eq_true rfl)
def wX5_init_N (p0 : Int32) (K : Prop) (E : String → Prop) : Prop := (wX4_init_N p0 (False) (fun (En : String) => E En))
set_option maxRecDepth 20000 in
theorem tX5_init_N {l : Launch} {D : va_G} {ta : Nat → ClassId} {h0 : Nat} {gc : Int32} {p0 : Int32} {K : Prop} {E : String → Prop} (hlt : l.stackTraces = false) (h : wX5_init_N p0 K E) : SXv0 l D ta yX5_init cX5_init 2 3 [.ref h0, .int p0] [(h0, .inr (4, [.null, .null, .null, .int gc, .null]))] ([]) 3 54 K E := by
  refine x_sxv0 hlt (by decide +kernel) (Nat.le_of_ble_eq_true rfl) (fun g G hl hD hT hN Q => ?_)
  subst hl; subst hD; subst hT
  unfold wX5_init_N at h
  show X g 2 0 [(0, .ref h0), (1, .int p0)] [] [(h0, .inr (4, [.null, .null, .null, .int gc, .null]))] 0 0
  refine x_aload_n G rfl dX5_init_0 0 rfl ?_
  refine x_iload_n G rfl dX5_init_1 1 rfl ?_
  refine x_cXIv0 (wc := [(h0, .inr (4, [.null, .null, .null, .int gc, .null]))]) (As := [.int p0]) (rest := []) G [] (XSub.of [0] rfl (by decide)) (tX4_init_N (kd := true) G.noTraces h) (lw_meth q511) q78 q509 q510 rfl cdX4_init.2 (by decide) (by decide) rfl (Nat.le_of_ble_eq_true rfl) (Nat.le_of_ble_eq_true rfl) (Nat.le_of_ble_eq_true rfl) dX5_init_2 (fun En h => ?_) (fun h => ?_)
  · exact x_ov0 G Q h XSub.rf (Nat.le_of_ble_eq_true rfl) (Nat.le_of_ble_eq_true rfl)
  exact h.elim
theorem cdX5_another : yX5_another.cls = RX5 ∧ yX5_another.cls ≠ "java/lang/invoke/MethodHandle" ∧ yX5_another.cls ≠ "java/lang/invoke/VarHandle" ∧ (parseMethodDescriptor yX5_another.desc).map (fun d => d.parameters.length) = some 1 := by decide +kernel
def wX5_another (p0 : Int32) (K : Option Nat → Nat → Nat → Nat → Nat → Nat → Prop) : Prop := (∀ a_1 : Nat, (wX5_init p0 (fun (b1_2 : Nat) (b2_3 : Nat) (b3_4 : Nat) (b4_5 : Nat) => K (some a_1) a_1 b1_2 b2_3 b3_4 b4_5)))
set_option maxRecDepth 20000 in
theorem tX5_another {l : Launch} {D : va_G} {ta : Nat → ClassId} {h0 : Nat} {p0 : Int32} {K : Option Nat → Nat → Nat → Nat → Nat → Nat → Prop} (hlt : l.stackTraces = false) (h : wX5_another p0 K) : SMq5 l D ta yX5_another cX5_another 2 (FieldType.object "RoundingAuditor$Ledger") 4 [.ref h0, .int p0] [] (fun (hh : Nat) (b1 : Nat) (b2 : Nat) (b3 : Nat) (b4 : Nat) => [(hh, .inr (4, [.ref b1, .ref b2, .ref b3, .int (0 : Int32), .ref b4])), (b1, .inl (ta 1, p0.toNatClampNeg, .inl (fun _ => 0))), (b2, .inl (ta 1, p0.toNatClampNeg, .inl (fun _ => 0))), (b3, .inl (ta 1, p0.toNatClampNeg, .inl (fun _ => 0))), (b4, .inl (ta 5, p0.toNatClampNeg, .inr (.inr (.inr (.inl (fun _ => FP.dconst0))))))]) 5 245 K := by
  refine x_stq5 hlt (plainFor_of_name (by decide +kernel)) (Nat.le_of_ble_eq_true rfl) (fun g G hl hD hT Q => ?_)
  subst hl; subst hD; subst hT
  unfold wX5_another at h
  show X g 2 0 [(0, .ref h0), (1, .int p0)] [] [] 0 0
  refine x_new (ci := 4) G in_X5 tyX5 tyX5_ok q722 q505 q79 rfl [.null, .null, .null, .int (0 : Int32), .null] dfX5 (Nat.le_of_ble_eq_true rfl) (Nat.le_of_ble_eq_true rfl) dX5_another_0 (fun a_1 => ?_)
  replace h := h a_1
  show X g 2 3 [(0, .ref h0), (1, .int p0)] [.ref a_1] [(a_1, .inr (4, [.null, .null, .null, .int (0 : Int32), .null]))] 1 5
  refine x_dup G dX5_another_3 rfl ?_
  refine x_iload_n G rfl dX5_another_4 1 rfl ?_
  refine x_cIv4 (wc := [(a_1, .inr (4, [.null, .null, .null, .int (0 : Int32), .null]))]) (As := [.int p0]) (rest := [.ref a_1]) G [] (XSub.of [0] rfl (by decide)) (tX5_init G.noTraces h) (lw_meth q508) q79 q723 q507 rfl cdX5_init.2 (by decide) (by decide) rfl (Nat.le_of_ble_eq_true rfl) (Nat.le_of_ble_eq_true rfl) (Nat.le_of_ble_eq_true rfl) dX5_another_5 (fun b1_2 b2_3 b3_4 b4_5 h => ?_)
  show X g 2 8 [(0, .ref h0), (1, .int p0)] [.ref a_1] [(a_1, .inr (4, [.ref b1_2, .ref b2_3, .ref b3_4, .int (0 : Int32), .ref b4_5])), (b1_2, .inl ((xT g) 1, p0.toNatClampNeg, .inl (fun _ => 0))), (b2_3, .inl ((xT g) 1, p0.toNatClampNeg, .inl (fun _ => 0))), (b3_4, .inl ((xT g) 1, p0.toNatClampNeg, .inl (fun _ => 0))), (b4_5, .inl ((xT g) 5, p0.toNatClampNeg, .inr (.inr (.inr (.inl (fun _ => FP.dconst0))))))] 5 245
  exact x_retq5 G Q dX5_another_8 (Or.inl ⟨_, rfl⟩) a_1 b1_2 b2_3 b3_4 b4_5 h XSub.rf (Nat.le_of_ble_eq_true rfl) (Nat.le_of_ble_eq_true rfl)
theorem cdX6_init : yX6_init.cls = RX6 ∧ yX6_init.cls ≠ "java/lang/invoke/MethodHandle" ∧ yX6_init.cls ≠ "java/lang/invoke/VarHandle" ∧ (parseMethodDescriptor yX6_init.desc).map (fun d => d.parameters.length) = some 1 := by decide +kernel
set_option maxRecDepth 20000 in
theorem tX6_init {l : Launch} {D : va_G} {ta : Nat → ClassId} {h0 : Nat} {gc : Int32} {p0 : Int32} {K : Nat → Nat → Nat → Nat → Prop} (hlt : l.stackTraces = false) (h : wX5_init p0 K) : SMv4 l D ta yX6_init cX6_init 2 3 [.ref h0, .int p0] [(h0, .inr (5, [.null, .null, .null, .int gc, .null]))] (fun (b1 : Nat) (b2 : Nat) (b3 : Nat) (b4 : Nat) => [(h0, .inr (5, [.ref b1, .ref b2, .ref b3, .int gc, .ref b4])), (b1, .inl (ta 1, p0.toNatClampNeg, .inl (fun _ => 0))), (b2, .inl (ta 1, p0.toNatClampNeg, .inl (fun _ => 0))), (b3, .inl (ta 1, p0.toNatClampNeg, .inl (fun _ => 0))), (b4, .inl (ta 4, p0.toNatClampNeg, .inr (.inr (.inl (fun _ => FP.fconst0)))))]) 4 240 K := by
  refine x_stI4 hlt (plainFor_of_name (by decide +kernel)) (Nat.le_of_ble_eq_true rfl) (fun g G hl hD hT hN Q => ?_)
  subst hl; subst hD; subst hT
  unfold wX5_init at h
  show X g 2 0 [(0, .ref h0), (1, .int p0)] [] [(h0, .inr (5, [.null, .null, .null, .int gc, .null]))] 0 0
  refine x_aload_n G rfl dX6_init_0 0 rfl ?_
  refine x_iload_n G rfl dX6_init_1 1 rfl ?_
  refine x_cIv3 (wc := [(h0, .inr (5, [.null, .null, .null, .int gc, .null]))]) (As := [.int p0]) (rest := []) G [] (XSub.of [0] rfl (by decide)) (tX4_init (kd := false) G.noTraces h) (lw_meth q511) q78 q535 q510 rfl cdX4_init.2 (by decide) (by decide) rfl (Nat.le_of_ble_eq_true rfl) (Nat.le_of_ble_eq_true rfl) (Nat.le_of_ble_eq_true rfl) dX6_init_2 (fun b1_1 b2_2 b3_3 h => ?_)
  show X g 2 5 [(0, .ref h0), (1, .int p0)] [] [(h0, .inr (5, [.ref b1_1, .ref b2_2, .ref b3_3, .int gc, .null])), (b1_1, .inl ((xT g) 1, p0.toNatClampNeg, .inl (fun _ => 0))), (b2_2, .inl ((xT g) 1, p0.toNatClampNeg, .inl (fun _ => 0))), (b3_3, .inl ((xT g) 1, p0.toNatClampNeg, .inl (fun _ => 0)))] 3 180
  refine x_aload_n G rfl dX6_init_5 0 rfl ?_
  refine x_iload_n G rfl dX6_init_6 1 rfl ?_
  obtain ⟨hz, hb, h⟩ := h
  refine x_newaB (atype := .float) (ty := .float) (N' := p0.toNatClampNeg) (B := 60) (t0 := 4) (x0 := .inr (.inr (.inl (fun _ => FP.fconst0)))) G q544 rfl rfl rfl (fun _ => rfl) hz rfl hb (by decide) (Nat.le_of_ble_eq_true rfl) (Nat.le_of_ble_eq_true rfl) dX6_init_7 (fun a_4 => ?_)
  replace h := h a_4
  show X g 2 9 [(0, .ref h0), (1, .int p0)] [.ref a_4, .ref h0] [(h0, .inr (5, [.ref b1_1, .ref b2_2, .ref b3_3, .int gc, .null])), (b1_1, .inl ((xT g) 1, p0.toNatClampNeg, .inl (fun _ => 0))), (b2_2, .inl ((xT g) 1, p0.toNatClampNeg, .inl (fun _ => 0))), (b3_3, .inl ((xT g) 1, p0.toNatClampNeg, .inl (fun _ => 0))), (a_4, .inl ((xT g) 4, p0.toNatClampNeg, .inr (.inr (.inl (fun _ => FP.fconst0)))))] 4 240
  refine x_putF G hN in_X6 tyX6 tyX6_ok nmX6 0 rfl rfl 4 (by decide) q536 (fun _ h => h) rfl rfl rfl rfl (Nat.le_of_ble_eq_true rfl) rfl dX6_init_9 ?_
  show X g 2 12 [(0, .ref h0), (1, .int p0)] [] [(h0, .inr (5, [.ref b1_1, .ref b2_2, .ref b3_3, .int gc, .ref a_4])), (b1_1, .inl ((xT g) 1, p0.toNatClampNeg, .inl (fun _ => 0))), (b2_2, .inl ((xT g) 1, p0.toNatClampNeg, .inl (fun _ => 0))), (b3_3, .inl ((xT g) 1, p0.toNatClampNeg, .inl (fun _ => 0))), (a_4, .inl ((xT g) 4, p0.toNatClampNeg, .inr (.inr (.inl (fun _ => FP.fconst0)))))] 4 240
  exact x_retv4 G Q dX6_init_12 b1_1 b2_2 b3_3 a_4 h XSub.rf (Nat.le_of_ble_eq_true rfl) (Nat.le_of_ble_eq_true rfl)
set_option maxRecDepth 20000 in
theorem tX6_init_N {l : Launch} {D : va_G} {ta : Nat → ClassId} {h0 : Nat} {gc : Int32} {p0 : Int32} {K : Prop} {E : String → Prop} (hlt : l.stackTraces = false) (h : wX5_init_N p0 K E) : SXv0 l D ta yX6_init cX6_init 2 3 [.ref h0, .int p0] [(h0, .inr (5, [.null, .null, .null, .int gc, .null]))] ([]) 3 54 K E := by
  refine x_sxv0 hlt (by decide +kernel) (Nat.le_of_ble_eq_true rfl) (fun g G hl hD hT hN Q => ?_)
  subst hl; subst hD; subst hT
  unfold wX5_init_N at h
  show X g 2 0 [(0, .ref h0), (1, .int p0)] [] [(h0, .inr (5, [.null, .null, .null, .int gc, .null]))] 0 0
  refine x_aload_n G rfl dX6_init_0 0 rfl ?_
  refine x_iload_n G rfl dX6_init_1 1 rfl ?_
  refine x_cXIv0 (wc := [(h0, .inr (5, [.null, .null, .null, .int gc, .null]))]) (As := [.int p0]) (rest := []) G [] (XSub.of [0] rfl (by decide)) (tX4_init_N (kd := false) G.noTraces h) (lw_meth q511) q78 q535 q510 rfl cdX4_init.2 (by decide) (by decide) rfl (Nat.le_of_ble_eq_true rfl) (Nat.le_of_ble_eq_true rfl) (Nat.le_of_ble_eq_true rfl) dX6_init_2 (fun En h => ?_) (fun h => ?_)
  · exact x_ov0 G Q h XSub.rf (Nat.le_of_ble_eq_true rfl) (Nat.le_of_ble_eq_true rfl)
  exact h.elim
theorem cdX6_another : yX6_another.cls = RX6 ∧ yX6_another.cls ≠ "java/lang/invoke/MethodHandle" ∧ yX6_another.cls ≠ "java/lang/invoke/VarHandle" ∧ (parseMethodDescriptor yX6_another.desc).map (fun d => d.parameters.length) = some 1 := by decide +kernel
set_option maxRecDepth 20000 in
theorem tX6_another {l : Launch} {D : va_G} {ta : Nat → ClassId} {h0 : Nat} {p0 : Int32} {K : Option Nat → Nat → Nat → Nat → Nat → Nat → Prop} (hlt : l.stackTraces = false) (h : wX5_another p0 K) : SMq5 l D ta yX6_another cX6_another 2 (FieldType.object "RoundingAuditor$Ledger") 4 [.ref h0, .int p0] [] (fun (hh : Nat) (b1 : Nat) (b2 : Nat) (b3 : Nat) (b4 : Nat) => [(hh, .inr (5, [.ref b1, .ref b2, .ref b3, .int (0 : Int32), .ref b4])), (b1, .inl (ta 1, p0.toNatClampNeg, .inl (fun _ => 0))), (b2, .inl (ta 1, p0.toNatClampNeg, .inl (fun _ => 0))), (b3, .inl (ta 1, p0.toNatClampNeg, .inl (fun _ => 0))), (b4, .inl (ta 4, p0.toNatClampNeg, .inr (.inr (.inl (fun _ => FP.fconst0)))))]) 5 245 K := by
  refine x_stq5 hlt (plainFor_of_name (by decide +kernel)) (Nat.le_of_ble_eq_true rfl) (fun g G hl hD hT Q => ?_)
  subst hl; subst hD; subst hT
  unfold wX5_another at h
  show X g 2 0 [(0, .ref h0), (1, .int p0)] [] [] 0 0
  refine x_new (ci := 5) G in_X6 tyX6 tyX6_ok q717 q531 q80 rfl [.null, .null, .null, .int (0 : Int32), .null] dfX6 (Nat.le_of_ble_eq_true rfl) (Nat.le_of_ble_eq_true rfl) dX6_another_0 (fun a_1 => ?_)
  replace h := h a_1
  show X g 2 3 [(0, .ref h0), (1, .int p0)] [.ref a_1] [(a_1, .inr (5, [.null, .null, .null, .int (0 : Int32), .null]))] 1 5
  refine x_dup G dX6_another_3 rfl ?_
  refine x_iload_n G rfl dX6_another_4 1 rfl ?_
  refine x_cIv4 (wc := [(a_1, .inr (5, [.null, .null, .null, .int (0 : Int32), .null]))]) (As := [.int p0]) (rest := [.ref a_1]) G [] (XSub.of [0] rfl (by decide)) (tX6_init G.noTraces h) (lw_meth q534) q80 q718 q533 rfl cdX6_init.2 (by decide) (by decide) rfl (Nat.le_of_ble_eq_true rfl) (Nat.le_of_ble_eq_true rfl) (Nat.le_of_ble_eq_true rfl) dX6_another_5 (fun b1_2 b2_3 b3_4 b4_5 h => ?_)
  show X g 2 8 [(0, .ref h0), (1, .int p0)] [.ref a_1] [(a_1, .inr (5, [.ref b1_2, .ref b2_3, .ref b3_4, .int (0 : Int32), .ref b4_5])), (b1_2, .inl ((xT g) 1, p0.toNatClampNeg, .inl (fun _ => 0))), (b2_3, .inl ((xT g) 1, p0.toNatClampNeg, .inl (fun _ => 0))), (b3_4, .inl ((xT g) 1, p0.toNatClampNeg, .inl (fun _ => 0))), (b4_5, .inl ((xT g) 4, p0.toNatClampNeg, .inr (.inr (.inl (fun _ => FP.fconst0)))))] 5 245
  exact x_retq5 G Q dX6_another_8 (Or.inl ⟨_, rfl⟩) a_1 b1_2 b2_3 b3_4 b4_5 h XSub.rf (Nat.le_of_ble_eq_true rfl) (Nat.le_of_ble_eq_true rfl)
theorem cdX1_made : yX1_made.cls ≠ "java/lang/invoke/MethodHandle" ∧ yX1_made.cls ≠ "java/lang/invoke/VarHandle" ∧ (parseMethodDescriptor yX1_made.desc).map (fun d => d.parameters.length) = some 2 := by decide +kernel
def wX1_made_W (p0 : Int32) (p1 : Int32) (K : Option Nat → Nat → Nat → Nat → Nat → Nat → Prop) : Prop := ((p0 = (0 : Int32) → False) ∧ (¬ p0 = (0 : Int32) → (∀ a_1 : Nat, (wX5_init p1 (fun (b1_2 : Nat) (b2_3 : Nat) (b3_4 : Nat) (b4_5 : Nat) => K (some a_1) a_1 b1_2 b2_3 b3_4 b4_5)))))
set_option maxRecDepth 20000 in
theorem tX1_made_W {l : Launch} {D : va_G} {ta : Nat → ClassId} {p0 : Int32} {p1 : Int32} {K : Option Nat → Nat → Nat → Nat → Nat → Nat → Prop} (hlt : l.stackTraces = false) (h : wX1_made_W p0 p1 K) : SMq5 l D ta yX1_made cX1_made 2 (FieldType.object "RoundingAuditor$Ledger") 4 [.int p0, .int p1] [] (fun (hh : Nat) (b1 : Nat) (b2 : Nat) (b3 : Nat) (b4 : Nat) => [(hh, .inr (4, [.ref b1, .ref b2, .ref b3, .int (0 : Int32), .ref b4])), (b1, .inl (ta 1, p1.toNatClampNeg, .inl (fun _ => 0))), (b2, .inl (ta 1, p1.toNatClampNeg, .inl (fun _ => 0))), (b3, .inl (ta 1, p1.toNatClampNeg, .inl (fun _ => 0))), (b4, .inl (ta 5, p1.toNatClampNeg, .inr (.inr (.inr (.inl (fun _ => FP.dconst0))))))]) 5 245 K := by
  refine x_stq5 hlt (plainFor_of_name (by decide +kernel)) (Nat.le_of_ble_eq_true rfl) (fun g G hl hD hT Q => ?_)
  subst hl; subst hD; subst hT
  unfold wX1_made_W at h
  show X g 2 0 [(0, .int p0), (1, .int p1)] [] [] 0 0
  refine x_iload_n G rfl dX1_made_0 0 rfl ?_
  refine x_if_eq (tgt := 15) G dX1_made_1 rfl (fun c => ?_) (fun c => ?_)
  · replace h := h.1 c
    exact h.elim
  · replace h := h.2 c
    refine x_new (ci := 4) G in_X5 tyX5 tyX5_ok q504 q505 q79 rfl [.null, .null, .null, .int (0 : Int32), .null] dfX5 (Nat.le_of_ble_eq_true rfl) (Nat.le_of_ble_eq_true rfl) dX1_made_4 (fun a_1 => ?_)
    replace h := h a_1
    show X g 2 7 [(0, .int p0), (1, .int p1)] [.ref a_1] [(a_1, .inr (4, [.null, .null, .null, .int (0 : Int32), .null]))] 1 5
    refine x_dup G dX1_made_7 rfl ?_
    refine x_iload_n G rfl dX1_made_8 1 rfl ?_
    refine x_cIv4 (wc := [(a_1, .inr (4, [.null, .null, .null, .int (0 : Int32), .null]))]) (As := [.int p1]) (rest := [.ref a_1]) G [] (XSub.of [0] rfl (by decide)) (tX5_init G.noTraces h) (lw_meth q508) q79 q506 q507 rfl cdX5_init.2 (by decide) (by decide) rfl (Nat.le_of_ble_eq_true rfl) (Nat.le_of_ble_eq_true rfl) (Nat.le_of_ble_eq_true rfl) dX1_made_9 (fun b1_2 b2_3 b3_4 b4_5 h => ?_)
    show X g 2 12 [(0, .int p0), (1, .int p1)] [.ref a_1] [(a_1, .inr (4, [.ref b1_2, .ref b2_3, .ref b3_4, .int (0 : Int32), .ref b4_5])), (b1_2, .inl ((xT g) 1, p1.toNatClampNeg, .inl (fun _ => 0))), (b2_3, .inl ((xT g) 1, p1.toNatClampNeg, .inl (fun _ => 0))), (b3_4, .inl ((xT g) 1, p1.toNatClampNeg, .inl (fun _ => 0))), (b4_5, .inl ((xT g) 5, p1.toNatClampNeg, .inr (.inr (.inr (.inl (fun _ => FP.dconst0))))))] 5 245
    refine x_goto (tgt := 23) G dX1_made_12 rfl ?_
    exact x_retq5 G Q dX1_made_23 (Or.inl ⟨_, rfl⟩) a_1 b1_2 b2_3 b3_4 b4_5 h XSub.rf (Nat.le_of_ble_eq_true rfl) (Nat.le_of_ble_eq_true rfl)
def wX1_made_N (p0 : Int32) (p1 : Int32) (K : Option Nat → Nat → Nat → Nat → Nat → Nat → Prop) : Prop := ((p0 = (0 : Int32) → (∀ a_1 : Nat, (wX5_init p1 (fun (b1_2 : Nat) (b2_3 : Nat) (b3_4 : Nat) (b4_5 : Nat) => K (some a_1) a_1 b1_2 b2_3 b3_4 b4_5)))) ∧ (¬ p0 = (0 : Int32) → False))
set_option maxRecDepth 20000 in
theorem tX1_made_N {l : Launch} {D : va_G} {ta : Nat → ClassId} {p0 : Int32} {p1 : Int32} {K : Option Nat → Nat → Nat → Nat → Nat → Nat → Prop} (hlt : l.stackTraces = false) (h : wX1_made_N p0 p1 K) : SMq5 l D ta yX1_made cX1_made 2 (FieldType.object "RoundingAuditor$Ledger") 4 [.int p0, .int p1] [] (fun (hh : Nat) (b1 : Nat) (b2 : Nat) (b3 : Nat) (b4 : Nat) => [(hh, .inr (5, [.ref b1, .ref b2, .ref b3, .int (0 : Int32), .ref b4])), (b1, .inl (ta 1, p1.toNatClampNeg, .inl (fun _ => 0))), (b2, .inl (ta 1, p1.toNatClampNeg, .inl (fun _ => 0))), (b3, .inl (ta 1, p1.toNatClampNeg, .inl (fun _ => 0))), (b4, .inl (ta 4, p1.toNatClampNeg, .inr (.inr (.inl (fun _ => FP.fconst0)))))]) 5 245 K := by
  refine x_stq5 hlt (plainFor_of_name (by decide +kernel)) (Nat.le_of_ble_eq_true rfl) (fun g G hl hD hT Q => ?_)
  subst hl; subst hD; subst hT
  unfold wX1_made_N at h
  show X g 2 0 [(0, .int p0), (1, .int p1)] [] [] 0 0
  refine x_iload_n G rfl dX1_made_0 0 rfl ?_
  refine x_if_eq (tgt := 15) G dX1_made_1 rfl (fun c => ?_) (fun c => ?_)
  · replace h := h.1 c
    refine x_new (ci := 5) G in_X6 tyX6 tyX6_ok q530 q531 q80 rfl [.null, .null, .null, .int (0 : Int32), .null] dfX6 (Nat.le_of_ble_eq_true rfl) (Nat.le_of_ble_eq_true rfl) dX1_made_15 (fun a_1 => ?_)
    replace h := h a_1
    show X g 2 18 [(0, .int p0), (1, .int p1)] [.ref a_1] [(a_1, .inr (5, [.null, .null, .null, .int (0 : Int32), .null]))] 1 5
    refine x_dup G dX1_made_18 rfl ?_
    refine x_iload_n G rfl dX1_made_19 1 rfl ?_
    refine x_cIv4 (wc := [(a_1, .inr (5, [.null, .null, .null, .int (0 : Int32), .null]))]) (As := [.int p1]) (rest := [.ref a_1]) G [] (XSub.of [0] rfl (by decide)) (tX6_init G.noTraces h) (lw_meth q534) q80 q532 q533 rfl cdX6_init.2 (by decide) (by decide) rfl (Nat.le_of_ble_eq_true rfl) (Nat.le_of_ble_eq_true rfl) (Nat.le_of_ble_eq_true rfl) dX1_made_20 (fun b1_2 b2_3 b3_4 b4_5 h => ?_)
    show X g 2 23 [(0, .int p0), (1, .int p1)] [.ref a_1] [(a_1, .inr (5, [.ref b1_2, .ref b2_3, .ref b3_4, .int (0 : Int32), .ref b4_5])), (b1_2, .inl ((xT g) 1, p1.toNatClampNeg, .inl (fun _ => 0))), (b2_3, .inl ((xT g) 1, p1.toNatClampNeg, .inl (fun _ => 0))), (b3_4, .inl ((xT g) 1, p1.toNatClampNeg, .inl (fun _ => 0))), (b4_5, .inl ((xT g) 4, p1.toNatClampNeg, .inr (.inr (.inl (fun _ => FP.fconst0)))))] 5 245
    exact x_retq5 G Q dX1_made_23 (Or.inl ⟨_, rfl⟩) a_1 b1_2 b2_3 b3_4 b4_5 h XSub.rf (Nat.le_of_ble_eq_true rfl) (Nat.le_of_ble_eq_true rfl)
  · replace h := h.2 c
    exact h.elim
def wX1_made_NW (p0 : Int32) (p1 : Int32) (K : Option Nat → Prop) (E : String → Prop) : Prop := ((p0 = (0 : Int32) → False) ∧ (¬ p0 = (0 : Int32) → (∀ a_1 : Nat, (wX5_init_N p1 (False) (fun (En : String) => E En)))))
set_option maxRecDepth 20000 in
theorem tX1_made_NW {l : Launch} {D : va_G} {ta : Nat → ClassId} {p0 : Int32} {p1 : Int32} {K : Option Nat → Prop} {E : String → Prop} (hlt : l.stackTraces = false) (h : wX1_made_NW p0 p1 K E) : SXq0 l D ta yX1_made cX1_made 2 (FieldType.object "RoundingAuditor$Ledger") 4 [.int p0, .int p1] [] ([]) 4 59 K E := by
  refine x_sxq0 hlt (by decide +kernel) (Nat.le_of_ble_eq_true rfl) (fun g G hl hD hT hN Q => ?_)
  subst hl; subst hD; subst hT
  unfold wX1_made_NW at h
  show X g 2 0 [(0, .int p0), (1, .int p1)] [] [] 0 0
  refine x_iload_n G rfl dX1_made_0 0 rfl ?_
  refine x_if_eq (tgt := 15) G dX1_made_1 rfl (fun c => ?_) (fun c => ?_)
  · replace h := h.1 c
    exact h.elim
  · replace h := h.2 c
    refine x_new (ci := 4) G in_X5 tyX5 tyX5_ok q504 q505 q79 rfl [.null, .null, .null, .int (0 : Int32), .null] dfX5 (Nat.le_of_ble_eq_true rfl) (Nat.le_of_ble_eq_true rfl) dX1_made_4 (fun a_1 => ?_)
    replace h := h a_1
    show X g 2 7 [(0, .int p0), (1, .int p1)] [.ref a_1] [(a_1, .inr (4, [.null, .null, .null, .int (0 : Int32), .null]))] 1 5
    refine x_dup G dX1_made_7 rfl ?_
    refine x_iload_n G rfl dX1_made_8 1 rfl ?_
    refine x_cXIv0 (wc := [(a_1, .inr (4, [.null, .null, .null, .int (0 : Int32), .null]))]) (As := [.int p1]) (rest := [.ref a_1]) G [] (XSub.of [0] rfl (by decide)) (tX5_init_N G.noTraces h) (lw_meth q508) q79 q506 q507 rfl cdX5_init.2 (by decide) (by decide) rfl (Nat.le_of_ble_eq_true rfl) (Nat.le_of_ble_eq_true rfl) (Nat.le_of_ble_eq_true rfl) dX1_made_9 (fun En h => ?_) (fun h => ?_)
    · exact x_oq0 G Q h XSub.rf (Nat.le_of_ble_eq_true rfl) (Nat.le_of_ble_eq_true rfl)
    exact h.elim
def wX1_made_NN (p0 : Int32) (p1 : Int32) (K : Option Nat → Prop) (E : String → Prop) : Prop := ((p0 = (0 : Int32) → (∀ a_1 : Nat, (wX5_init_N p1 (False) (fun (En : String) => E En)))) ∧ (¬ p0 = (0 : Int32) → False))
set_option maxRecDepth 20000 in
theorem tX1_made_NN {l : Launch} {D : va_G} {ta : Nat → ClassId} {p0 : Int32} {p1 : Int32} {K : Option Nat → Prop} {E : String → Prop} (hlt : l.stackTraces = false) (h : wX1_made_NN p0 p1 K E) : SXq0 l D ta yX1_made cX1_made 2 (FieldType.object "RoundingAuditor$Ledger") 4 [.int p0, .int p1] [] ([]) 4 59 K E := by
  refine x_sxq0 hlt (by decide +kernel) (Nat.le_of_ble_eq_true rfl) (fun g G hl hD hT hN Q => ?_)
  subst hl; subst hD; subst hT
  unfold wX1_made_NN at h
  show X g 2 0 [(0, .int p0), (1, .int p1)] [] [] 0 0
  refine x_iload_n G rfl dX1_made_0 0 rfl ?_
  refine x_if_eq (tgt := 15) G dX1_made_1 rfl (fun c => ?_) (fun c => ?_)
  · replace h := h.1 c
    refine x_new (ci := 5) G in_X6 tyX6 tyX6_ok q530 q531 q80 rfl [.null, .null, .null, .int (0 : Int32), .null] dfX6 (Nat.le_of_ble_eq_true rfl) (Nat.le_of_ble_eq_true rfl) dX1_made_15 (fun a_1 => ?_)
    replace h := h a_1
    show X g 2 18 [(0, .int p0), (1, .int p1)] [.ref a_1] [(a_1, .inr (5, [.null, .null, .null, .int (0 : Int32), .null]))] 1 5
    refine x_dup G dX1_made_18 rfl ?_
    refine x_iload_n G rfl dX1_made_19 1 rfl ?_
    refine x_cXIv0 (wc := [(a_1, .inr (5, [.null, .null, .null, .int (0 : Int32), .null]))]) (As := [.int p1]) (rest := [.ref a_1]) G [] (XSub.of [0] rfl (by decide)) (tX6_init_N G.noTraces h) (lw_meth q534) q80 q532 q533 rfl cdX6_init.2 (by decide) (by decide) rfl (Nat.le_of_ble_eq_true rfl) (Nat.le_of_ble_eq_true rfl) (Nat.le_of_ble_eq_true rfl) dX1_made_20 (fun En h => ?_) (fun h => ?_)
    · exact x_oq0 G Q h XSub.rf (Nat.le_of_ble_eq_true rfl) (Nat.le_of_ble_eq_true rfl)
    exact h.elim
  · replace h := h.2 c
    exact h.elim
theorem cdJ3_init_3 : yJ3_init_3.cls = RJ3 ∧ yJ3_init_3.cls ≠ "java/lang/invoke/MethodHandle" ∧ yJ3_init_3.cls ≠ "java/lang/invoke/VarHandle" ∧ (parseMethodDescriptor yJ3_init_3.desc).map (fun d => d.parameters.length) = some 4 := by decide +kernel
set_option maxRecDepth 20000 in
theorem tJ3_init_3 {l : Launch} {D : va_G} {ta : Nat → ClassId} {h0 : Nat} {dep : Int32} {K : Prop} (hlt : l.stackTraces = false) (h : wX9_init K) : SMv0 l D ta yJ3_init_3 cJ3_init_3 5 2 [.ref h0, .null, .null, .int (0 : Int32), .int (0 : Int32)] [(h0, .inr (6, [.null, .null, .null, .null, .null, .int dep]))] ([(h0, .inr (6, [.null, .null, .null, .null, .null, .int dep]))]) 0 0 K := by
  refine x_stI0 hlt (plainFor_of_name (by decide +kernel)) (Nat.le_of_ble_eq_true rfl) (fun g G hl hD hT hN Q => ?_)
  subst hl; subst hD; subst hT
  unfold wX9_init at h
  show X g 5 0 [(0, .ref h0), (1, .null), (2, .null), (3, .int (0 : Int32)), (4, .int (0 : Int32))] [] [(h0, .inr (6, [.null, .null, .null, .null, .null, .int dep]))] 0 0
  refine x_aload_n G rfl dJ3_init_3_0 0 rfl ?_
  refine x_objInit G q408 q118 q119 (by decide) dJ3_init_3_1 ?_
  refine x_aload_n G rfl dJ3_init_3_4 0 rfl ?_
  refine x_aload_n G rfl dJ3_init_3_5 0 rfl ?_
  refine x_put G in_X7 tyX7 tyX7_ok nmX7 0 rfl rfl 0 (by decide) q442 (fun _ h => h) rfl rfl rfl (Nat.le_of_ble_eq_true rfl) rfl dJ3_init_3_6 ?_
  show X g 5 9 [(0, .ref h0), (1, .null), (2, .null), (3, .int (0 : Int32)), (4, .int (0 : Int32))] [] [(h0, .inr (6, [.ref h0, .null, .null, .null, .null, .int dep]))] 0 0
  refine x_aload_n G rfl dJ3_init_3_9 0 rfl ?_
  refine x_getsU G q409 dJ3_init_3_10 (fun t_1 => ?_)
  show X g 5 13 [(0, .ref h0), (1, .null), (2, .null), (3, .int (0 : Int32)), (4, .int (0 : Int32))] [va_rf t_1, .ref h0] [(h0, .inr (6, [.ref h0, .null, .null, .null, .null, .int dep]))] 0 0
  refine x_put G in_X7 tyX7 tyX7_ok nmX7 0 rfl rfl 1 (by decide) q443 (fun _ h => h) rfl (x_narQ _ _ rfl) (x_fitQ _ _ rfl) (Nat.le_of_ble_eq_true rfl) rfl dJ3_init_3_13 ?_
  show X g 5 16 [(0, .ref h0), (1, .null), (2, .null), (3, .int (0 : Int32)), (4, .int (0 : Int32))] [] [(h0, .inr (6, [.ref h0, va_rf t_1, .null, .null, .null, .int dep]))] 0 0
  refine x_aload_n G rfl dJ3_init_3_16 0 rfl ?_
  refine x_getsW G q411 dJ3_init_3_17 (fun t_2 => ?_)
  show X g 5 20 [(0, .ref h0), (1, .null), (2, .null), (3, .int (0 : Int32)), (4, .int (0 : Int32))] [va_rf t_2, .ref h0] [(h0, .inr (6, [.ref h0, va_rf t_1, .null, .null, .null, .int dep]))] 0 0
  refine x_put G in_X7 tyX7 tyX7_ok nmX7 0 rfl rfl 2 (by decide) q444 (fun _ h => h) rfl (x_narQ _ _ rfl) (x_fitQ _ _ rfl) (Nat.le_of_ble_eq_true rfl) rfl dJ3_init_3_20 ?_
  show X g 5 23 [(0, .ref h0), (1, .null), (2, .null), (3, .int (0 : Int32)), (4, .int (0 : Int32))] [] [(h0, .inr (6, [.ref h0, va_rf t_1, va_rf t_2, .null, .null, .int dep]))] 0 0
  refine x_iload G dJ3_init_3_23 4 rfl ?_
  refine x_if_eq (tgt := 36) G dJ3_init_3_25 rfl (fun c => ?_) (fun c => absurd c (by decide))
  refine x_aload_n G rfl dJ3_init_3_36 0 rfl ?_
  refine x_null G dJ3_init_3_37 ?_
  refine x_put G in_X7 tyX7 tyX7_ok nmX7 0 rfl rfl 1 (by decide) q443 (fun _ h => h) rfl rfl rfl (Nat.le_of_ble_eq_true rfl) rfl dJ3_init_3_38 ?_
  show X g 5 41 [(0, .ref h0), (1, .null), (2, .null), (3, .int (0 : Int32)), (4, .int (0 : Int32))] [] [(h0, .inr (6, [.ref h0, .null, va_rf t_2, .null, .null, .int dep]))] 0 0
  refine x_aload_n G rfl dJ3_init_3_41 0 rfl ?_
  refine x_aload_nN G rfl dJ3_init_3_42 1 rfl ?_
  refine x_put G in_X7 tyX7 tyX7_ok nmX7 0 rfl rfl 3 (by decide) q441 (fun _ h => h) rfl rfl rfl (Nat.le_of_ble_eq_true rfl) rfl dJ3_init_3_43 ?_
  show X g 5 46 [(0, .ref h0), (1, .null), (2, .null), (3, .int (0 : Int32)), (4, .int (0 : Int32))] [] [(h0, .inr (6, [.ref h0, .null, va_rf t_2, .null, .null, .int dep]))] 0 0
  refine x_aload_n G rfl dJ3_init_3_46 0 rfl ?_
  refine x_aload_nN G rfl dJ3_init_3_47 2 rfl ?_
  refine x_put G in_X7 tyX7 tyX7_ok nmX7 0 rfl rfl 0 (by decide) q442 (fun _ h => h) rfl rfl rfl (Nat.le_of_ble_eq_true rfl) rfl dJ3_init_3_48 ?_
  show X g 5 51 [(0, .ref h0), (1, .null), (2, .null), (3, .int (0 : Int32)), (4, .int (0 : Int32))] [] [(h0, .inr (6, [.null, .null, va_rf t_2, .null, .null, .int dep]))] 0 0
  refine x_iload_n G rfl dJ3_init_3_51 3 rfl ?_
  refine x_if_ne (tgt := 60) G dJ3_init_3_52 rfl (fun c => absurd c (by decide)) (fun c => ?_)
  refine x_aload_n G rfl dJ3_init_3_55 0 rfl ?_
  refine x_null G dJ3_init_3_56 ?_
  refine x_put G in_X7 tyX7 tyX7_ok nmX7 0 rfl rfl 2 (by decide) q444 (fun _ h => h) rfl rfl rfl (Nat.le_of_ble_eq_true rfl) rfl dJ3_init_3_57 ?_
  show X g 5 60 [(0, .ref h0), (1, .null), (2, .null), (3, .int (0 : Int32)), (4, .int (0 : Int32))] [] [(h0, .inr (6, [.null, .null, .null, .null, .null, .int dep]))] 0 0
  exact x_retv0 G Q dJ3_init_3_60  h XSub.rf (Nat.le_of_ble_eq_true rfl) (Nat.le_of_ble_eq_true rfl)
theorem cdJ4_init_3 : yJ4_init_3.cls = RJ4 ∧ yJ4_init_3.cls ≠ "java/lang/invoke/MethodHandle" ∧ yJ4_init_3.cls ≠ "java/lang/invoke/VarHandle" ∧ (parseMethodDescriptor yJ4_init_3.desc).map (fun d => d.parameters.length) = some 4 := by decide +kernel
set_option maxRecDepth 20000 in
theorem tJ4_init_3 {l : Launch} {D : va_G} {ta : Nat → ClassId} {h0 : Nat} {dep : Int32} {K : Prop} (hlt : l.stackTraces = false) (h : wX20_init_X20 K) : SMv0 l D ta yJ4_init_3 cJ4_init_3 5 3 [.ref h0, .null, .null, .int (0 : Int32), .int (0 : Int32)] [(h0, .inr (6, [.null, .null, .null, .null, .null, .int dep]))] ([(h0, .inr (6, [.null, .null, .null, .null, .null, .int dep]))]) 0 0 K := by
  refine x_stI0 hlt (plainFor_of_name (by decide +kernel)) (Nat.le_of_ble_eq_true rfl) (fun g G hl hD hT hN Q => ?_)
  subst hl; subst hD; subst hT
  unfold wX20_init_X20 at h
  show X g 5 0 [(0, .ref h0), (1, .null), (2, .null), (3, .int (0 : Int32)), (4, .int (0 : Int32))] [] [(h0, .inr (6, [.null, .null, .null, .null, .null, .int dep]))] 0 0
  refine x_aload_n G rfl dJ4_init_3_0 0 rfl ?_
  refine x_aload_nN G rfl dJ4_init_3_1 1 rfl ?_
  refine x_aload_nN G rfl dJ4_init_3_2 2 rfl ?_
  refine x_iload_n G rfl dJ4_init_3_3 3 rfl ?_
  refine x_iload G dJ4_init_3_4 4 rfl ?_
  refine x_cIv0 (wc := [(h0, .inr (6, [.null, .null, .null, .null, .null, .int dep]))]) (As := [.null, .null, .int (0 : Int32), .int (0 : Int32)]) (rest := []) G [] (XSub.of [0] rfl (by decide)) (tJ3_init_3 G.noTraces h) (lw_meth q906) q71 q904 q905 rfl cdJ3_init_3.2 (by decide) (by decide) rfl (Nat.le_of_ble_eq_true rfl) (Nat.le_of_ble_eq_true rfl) (Nat.le_of_ble_eq_true rfl) dJ4_init_3_6 (fun h => ?_)
  show X g 5 9 [(0, .ref h0), (1, .null), (2, .null), (3, .int (0 : Int32)), (4, .int (0 : Int32))] [] [(h0, .inr (6, [.null, .null, .null, .null, .null, .int dep]))] 0 0
  exact x_retv0 G Q dJ4_init_3_9  h XSub.rf (Nat.le_of_ble_eq_true rfl) (Nat.le_of_ble_eq_true rfl)
theorem cdX7_init : yX7_init.cls = RX7 ∧ yX7_init.cls ≠ "java/lang/invoke/MethodHandle" ∧ yX7_init.cls ≠ "java/lang/invoke/VarHandle" ∧ (parseMethodDescriptor yX7_init.desc).map (fun d => d.parameters.length) = some 0 := by decide +kernel
def wX7_init (K : Prop) : Prop := (wX20_init_X20 (K))
set_option maxRecDepth 20000 in
theorem tX7_init {l : Launch} {D : va_G} {ta : Nat → ClassId} {h0 : Nat} {dep : Int32} {K : Prop} (hlt : l.stackTraces = false) (h : wX7_init K) : SMv0 l D ta yX7_init cX7_init 1 4 [.ref h0] [(h0, .inr (6, [.null, .null, .null, .null, .null, .int dep]))] ([(h0, .inr (6, [.null, .null, .null, .null, .null, .int dep]))]) 0 0 K := by
  refine x_stI0 hlt (plainFor_of_name (by decide +kernel)) (Nat.le_of_ble_eq_true rfl) (fun g G hl hD hT hN Q => ?_)
  subst hl; subst hD; subst hT
  unfold wX7_init at h
  show X g 1 0 [(0, .ref h0)] [] [(h0, .inr (6, [.null, .null, .null, .null, .null, .int dep]))] 0 0
  refine x_aload_n G rfl dX7_init_0 0 rfl ?_
  refine x_null G dX7_init_1 ?_
  refine x_null G dX7_init_2 ?_
  refine x_iconst (v := (0 : Int32)) G dX7_init_3 (by decide) ?_
  refine x_iconst (v := (0 : Int32)) G dX7_init_4 (by decide) ?_
  refine x_cIv0 (wc := [(h0, .inr (6, [.null, .null, .null, .null, .null, .int dep]))]) (As := [.null, .null, .int (0 : Int32), .int (0 : Int32)]) (rest := []) G [] (XSub.of [0] rfl (by decide)) (tJ4_init_3 G.noTraces h) (lw_meth q903) q72 q901 q902 rfl cdJ4_init_3.2 (by decide) (by decide) rfl (Nat.le_of_ble_eq_true rfl) (Nat.le_of_ble_eq_true rfl) (Nat.le_of_ble_eq_true rfl) dX7_init_5 (fun h => ?_)
  show X g 1 8 [(0, .ref h0)] [] [(h0, .inr (6, [.null, .null, .null, .null, .null, .int dep]))] 0 0
  exact x_retv0 G Q dX7_init_8  h XSub.rf (Nat.le_of_ble_eq_true rfl) (Nat.le_of_ble_eq_true rfl)
theorem cdJ0_init : yJ0_init.cls = RJ0 ∧ yJ0_init.cls ≠ "java/lang/invoke/MethodHandle" ∧ yJ0_init.cls ≠ "java/lang/invoke/VarHandle" ∧ (parseMethodDescriptor yJ0_init.desc).map (fun d => d.parameters.length) = some 0 := by decide +kernel
set_option maxRecDepth 20000 in
theorem tJ0_init {l : Launch} {D : va_G} {ta : Nat → ClassId} {h0 : Nat} {K : Prop} (hlt : l.stackTraces = false) (h : wX9_init K) : SMv0 l D ta yJ0_init cJ0_init 1 2 [.ref h0] [] ([]) 0 0 K := by
  refine x_stI0 hlt (plainFor_of_name (by decide +kernel)) (Nat.le_of_ble_eq_true rfl) (fun g G hl hD hT hN Q => ?_)
  subst hl; subst hD; subst hT
  unfold wX9_init at h
  show X g 1 0 [(0, .ref h0)] [] [] 0 0
  refine x_aload_n G rfl dJ0_init_0 0 rfl ?_
  refine x_objInit G q144 q118 q119 (by decide) dJ0_init_1 ?_
  exact x_retv0 G Q dJ0_init_4  h XSub.rf (Nat.le_of_ble_eq_true rfl) (Nat.le_of_ble_eq_true rfl)
theorem cdJ1_init : yJ1_init.cls = RJ1 ∧ yJ1_init.cls ≠ "java/lang/invoke/MethodHandle" ∧ yJ1_init.cls ≠ "java/lang/invoke/VarHandle" ∧ (parseMethodDescriptor yJ1_init.desc).map (fun d => d.parameters.length) = some 0 := by decide +kernel
def wJ1_init (K : Int32 → Prop) : Prop := (wX9_init (K (0 : Int32)))
set_option maxRecDepth 20000 in
theorem tJ1_init {l : Launch} {D : va_G} {ta : Nat → ClassId} {h0 : Nat} {lm : Int32} {lz : Int32} {K : Int32 → Prop} (hlt : l.stackTraces = false) (h : wJ1_init K) : SMv1 l D ta yJ1_init cJ1_init 1 3 [.ref h0] [(h0, .inr (2, [.int lm, .null, .int lz]))] (fun (lm' : Int32) => [(h0, .inr (2, [.int lm', .null, .int lz]))]) 0 0 K := by
  refine x_stI1 hlt (plainFor_of_name (by decide +kernel)) (Nat.le_of_ble_eq_true rfl) (fun g G hl hD hT hN Q => ?_)
  subst hl; subst hD; subst hT
  unfold wJ1_init at h
  show X g 1 0 [(0, .ref h0)] [] [(h0, .inr (2, [.int lm, .null, .int lz]))] 0 0
  refine x_aload_n G rfl dJ1_init_0 0 rfl ?_
  refine x_cIv0 (wc := []) (As := []) (rest := []) G [(h0, .inr (2, [.int lm, .null, .int lz]))] (XSub.of [0] rfl (by decide)) (tJ0_init G.noTraces h) (lw_meth q143) q67 q141 q142 rfl cdJ0_init.2 (by decide) (by decide) rfl (Nat.le_of_ble_eq_true rfl) (Nat.le_of_ble_eq_true rfl) (Nat.le_of_ble_eq_true rfl) dJ1_init_1 (fun h => ?_)
  show X g 1 4 [(0, .ref h0)] [] [(h0, .inr (2, [.int lm, .null, .int lz]))] 0 0
  refine x_aload_n G rfl dJ1_init_4 0 rfl ?_
  refine x_iconst (v := (0 : Int32)) G dJ1_init_5 (by decide) ?_
  refine x_put G in_J2 tyJ2 tyJ2_ok nmJ2 0 rfl rfl 0 (by decide) q149 (fun _ h => h) rfl rfl rfl (Nat.le_of_ble_eq_true rfl) rfl dJ1_init_6 ?_
  show X g 1 9 [(0, .ref h0)] [] [(h0, .inr (2, [.int (0 : Int32), .null, .int lz]))] 0 0
  exact x_retv1 G Q dJ1_init_9 (0 : Int32) h XSub.rf (Nat.le_of_ble_eq_true rfl) (Nat.le_of_ble_eq_true rfl)
theorem cdJ2_init : yJ2_init.cls = RJ2 ∧ yJ2_init.cls ≠ "java/lang/invoke/MethodHandle" ∧ yJ2_init.cls ≠ "java/lang/invoke/VarHandle" ∧ (parseMethodDescriptor yJ2_init.desc).map (fun d => d.parameters.length) = some 0 := by decide +kernel
def wJ2_init (K : Int32 → Prop) : Prop := (wJ1_init (fun (lm_1 : Int32) => K lm_1))
set_option maxRecDepth 20000 in
theorem tJ2_init {l : Launch} {D : va_G} {ta : Nat → ClassId} {h0 : Nat} {lm : Int32} {lz : Int32} {K : Int32 → Prop} (hlt : l.stackTraces = false) (h : wJ2_init K) : SMv1 l D ta yJ2_init cJ2_init 1 4 [.ref h0] [(h0, .inr (2, [.int lm, .null, .int lz]))] (fun (lm' : Int32) => [(h0, .inr (2, [.int lm', .ref (ta 20), .int lz]))]) 0 0 K := by
  refine x_stI1 hlt (plainFor_of_name (by decide +kernel)) (Nat.le_of_ble_eq_true rfl) (fun g G hl hD hT hN Q => ?_)
  subst hl; subst hD; subst hT
  unfold wJ2_init at h
  show X g 1 0 [(0, .ref h0)] [] [(h0, .inr (2, [.int lm, .null, .int lz]))] 0 0
  refine x_aload_n G rfl dJ2_init_0 0 rfl ?_
  refine x_cIv1 (wc := [(h0, .inr (2, [.int lm, .null, .int lz]))]) (As := []) (rest := []) G [] (XSub.of [0] rfl (by decide)) (tJ1_init G.noTraces h) (lw_meth q140) q68 q138 q139 rfl cdJ1_init.2 (by decide) (by decide) rfl (Nat.le_of_ble_eq_true rfl) (Nat.le_of_ble_eq_true rfl) (Nat.le_of_ble_eq_true rfl) dJ2_init_1 (fun lm_1 h => ?_)
  show X g 1 4 [(0, .ref h0)] [] [(h0, .inr (2, [.int lm_1, .null, .int lz]))] 0 0
  refine x_aload_n G rfl dJ2_init_4 0 rfl ?_
  refine x_getsE G q145 dJ2_init_5 ?_
  refine x_put G in_J2 tyJ2 tyJ2_ok nmJ2 0 rfl rfl 1 (by decide) q147 (fun _ h => h) rfl rfl rfl (Nat.le_of_ble_eq_true rfl) rfl dJ2_init_8 ?_
  show X g 1 11 [(0, .ref h0)] [] [(h0, .inr (2, [.int lm_1, .ref ((xT g) 20), .int lz]))] 0 0
  exact x_retv1 G Q dJ2_init_11 lm_1 h XSub.rf (Nat.le_of_ble_eq_true rfl) (Nat.le_of_ble_eq_true rfl)
theorem cdJ2_size : yJ2_size.cls = RJ2 ∧ yJ2_size.cls ≠ "java/lang/invoke/MethodHandle" ∧ yJ2_size.cls ≠ "java/lang/invoke/VarHandle" ∧ (parseMethodDescriptor yJ2_size.desc).map (fun d => d.parameters.length) = some 0 := by decide +kernel
def wJ2_size (lz : Int32) (K : Int32 → Prop) : Prop := K lz
set_option maxRecDepth 20000 in
theorem tJ2_size {l : Launch} {D : va_G} {ta : Nat → ClassId} {h0 : Nat} {lm : Int32} {h0e : Nat} {lz : Int32} {K : Int32 → Prop} (hlt : l.stackTraces = false) (h : wJ2_size lz K) : SMi0 l D ta yJ2_size cJ2_size 1 FieldType.int 1 [.ref h0] [(h0, .inr (2, [.int lm, .ref h0e, .int lz]))] ([(h0, .inr (2, [.int lm, .ref h0e, .int lz]))]) 0 0 K := by
  refine x_sti0 hlt (plainFor_of_name (by decide +kernel)) (Nat.le_of_ble_eq_true rfl) (fun g G hl hD hT Q => ?_)
  subst hl; subst hD; subst hT
  unfold wJ2_size at h
  show X g 1 0 [(0, .ref h0)] [] [(h0, .inr (2, [.int lm, .ref h0e, .int lz]))] 0 0
  refine x_aload_n G rfl dJ2_size_0 0 rfl ?_
  refine x_get G in_J2 0 rfl rfl 2 (by decide) q148 (fun _ h => h) rfl dJ2_size_1 ?_
  exact x_reti0 G Q dJ2_size_4 rfl  h XSub.rf (Nat.le_of_ble_eq_true rfl) (Nat.le_of_ble_eq_true rfl)
theorem cdJ19_checkIndex : yJ19_checkIndex.cls ≠ "java/lang/invoke/MethodHandle" ∧ yJ19_checkIndex.cls ≠ "java/lang/invoke/VarHandle" ∧ (parseMethodDescriptor yJ19_checkIndex.desc).map (fun d => d.parameters.length) = some 3 := by decide +kernel
def wJ19_checkIndex (p0 : Int32) (p1 : Int32) (K : Int32 → Prop) : Prop := ((p0 < (0 : Int32) → False) ∧ (¬ p0 < (0 : Int32) → ((p0 < p1 → K p0) ∧ (¬ p0 < p1 → False))))
set_option maxRecDepth 20000 in
theorem tJ19_checkIndex {l : Launch} {D : va_G} {ta : Nat → ClassId} {p0 : Int32} {p1 : Int32} {K : Int32 → Prop} (hlt : l.stackTraces = false) (h : wJ19_checkIndex p0 p1 K) : SMi0 l D ta yJ19_checkIndex cJ19_checkIndex 3 FieldType.int 1 [.int p0, .int p1, .null] [] ([]) 0 0 K := by
  refine x_sti0 hlt (plainFor_of_name (by decide +kernel)) (Nat.le_of_ble_eq_true rfl) (fun g G hl hD hT Q => ?_)
  subst hl; subst hD; subst hT
  unfold wJ19_checkIndex at h
  show X g 3 0 [(0, .int p0), (1, .int p1), (2, .null)] [] [] 0 0
  refine x_iload_n G rfl dJ19_checkIndex_0 0 rfl ?_
  refine x_if_lt (tgt := 9) G dJ19_checkIndex_1 rfl (fun c => ?_) (fun c => ?_)
  · replace h := h.1 c
    exact h.elim
  · replace h := h.2 c
    refine x_iload_n G rfl dJ19_checkIndex_4 0 rfl ?_
    refine x_iload_n G rfl dJ19_checkIndex_5 1 rfl ?_
    refine x_icmp_lt (tgt := 16) G dJ19_checkIndex_6 rfl (fun c => ?_) (fun c => ?_)
    · replace h := h.1 c
      refine x_iload_n G rfl dJ19_checkIndex_16 0 rfl ?_
      exact x_reti0 G Q dJ19_checkIndex_17 rfl  h XSub.rf (Nat.le_of_ble_eq_true rfl) (Nat.le_of_ble_eq_true rfl)
    · replace h := h.2 c
      exact h.elim
theorem cdJ18_checkIndex : yJ18_checkIndex.cls ≠ "java/lang/invoke/MethodHandle" ∧ yJ18_checkIndex.cls ≠ "java/lang/invoke/VarHandle" ∧ (parseMethodDescriptor yJ18_checkIndex.desc).map (fun d => d.parameters.length) = some 2 := by decide +kernel
def wJ18_checkIndex (p0 : Int32) (p1 : Int32) (K : Int32 → Prop) : Prop := (wJ19_checkIndex p0 p1 (fun (r_1 : Int32) => K r_1))
set_option maxRecDepth 20000 in
theorem tJ18_checkIndex {l : Launch} {D : va_G} {ta : Nat → ClassId} {p0 : Int32} {p1 : Int32} {K : Int32 → Prop} (hlt : l.stackTraces = false) (h : wJ18_checkIndex p0 p1 K) : SMi0 l D ta yJ18_checkIndex cJ18_checkIndex 2 FieldType.int 2 [.int p0, .int p1] [] ([]) 0 0 K := by
  refine x_sti0 hlt (plainFor_of_name (by decide +kernel)) (Nat.le_of_ble_eq_true rfl) (fun g G hl hD hT Q => ?_)
  subst hl; subst hD; subst hT
  unfold wJ18_checkIndex at h
  show X g 2 0 [(0, .int p0), (1, .int p1)] [] [] 0 0
  refine x_iload_n G rfl dJ18_checkIndex_0 0 rfl ?_
  refine x_iload_n G rfl dJ18_checkIndex_1 1 rfl ?_
  refine x_null G dJ18_checkIndex_2 ?_
  refine x_cSi0 (wc := []) (As := [.int p0, .int p1, .null]) (rest := []) G [] (XSub.of [] rfl (by decide)) (tJ19_checkIndex G.noTraces h) (lw_S q214 q215 q110 q216) cdJ19_checkIndex (by decide) (by decide) rfl (Nat.le_of_ble_eq_true rfl) (Nat.le_of_ble_eq_true rfl) (Nat.le_of_ble_eq_true rfl) dJ18_checkIndex_3 (fun r_1 h => ?_)
  show X g 2 6 [(0, .int p0), (1, .int p1)] [.int r_1] [] 0 0
  exact x_reti0 G Q dJ18_checkIndex_6 rfl  h XSub.rf (Nat.le_of_ble_eq_true rfl) (Nat.le_of_ble_eq_true rfl)
theorem cdJ2_elementData : yJ2_elementData.cls = RJ2 ∧ yJ2_elementData.cls ≠ "java/lang/invoke/MethodHandle" ∧ yJ2_elementData.cls ≠ "java/lang/invoke/VarHandle" ∧ (parseMethodDescriptor yJ2_elementData.desc).map (fun d => d.parameters.length) = some 1 := by decide +kernel
def wJ2_elementData (p0 : Int32) (lcap : Nat) (lef : Nat → Option Nat) (K : Option Nat → Prop) : Prop := (vp_in p0 lcap ∧ K (lef p0.toNatClampNeg))
set_option maxRecDepth 20000 in
theorem tJ2_elementData {l : Launch} {D : va_G} {ta : Nat → ClassId} {h0 : Nat} {lm : Int32} {h0e : Nat} {lz : Int32} {lcap : Nat} {lef : Nat → Option Nat} {p0 : Int32} {K : Option Nat → Prop} (hlt : l.stackTraces = false) (h : wJ2_elementData p0 lcap lef K) : SMq0 l D ta yJ2_elementData cJ2_elementData 2 (FieldType.object "java/lang/Object") 1 [.ref h0, .int p0] [(h0, .inr (2, [.int lm, .ref h0e, .int lz])), (h0e, .inl (ta 8, lcap, .inr (.inr (.inr (.inr lef)))))] ([(h0, .inr (2, [.int lm, .ref h0e, .int lz])), (h0e, .inl (ta 8, lcap, .inr (.inr (.inr (.inr lef)))))]) 0 0 K := by
  refine x_stq0 hlt (plainFor_of_name (by decide +kernel)) (Nat.le_of_ble_eq_true rfl) (fun g G hl hD hT Q => ?_)
  subst hl; subst hD; subst hT
  unfold wJ2_elementData at h
  show X g 2 0 [(0, .ref h0), (1, .int p0)] [] [(h0, .inr (2, [.int lm, .ref h0e, .int lz])), (h0e, .inl ((xT g) 8, lcap, .inr (.inr (.inr (.inr lef)))))] 0 0
  refine x_aload_n G rfl dJ2_elementData_0 0 rfl ?_
  refine x_get G in_J2 0 rfl rfl 1 (by decide) q147 (fun _ h => h) rfl dJ2_elementData_1 ?_
  refine x_iload_n G rfl dJ2_elementData_4 1 rfl ?_
  obtain ⟨hz, h⟩ := h
  refine x_aald G 1 8 rfl rfl hz dJ2_elementData_5 ?_
  exact x_retq0 G Q dJ2_elementData_6 (Or.inl ⟨_, rfl⟩)  h XSub.rf (Nat.le_of_ble_eq_true rfl) (Nat.le_of_ble_eq_true rfl)
theorem cdJ2_get : yJ2_get.cls = RJ2 ∧ yJ2_get.cls ≠ "java/lang/invoke/MethodHandle" ∧ yJ2_get.cls ≠ "java/lang/invoke/VarHandle" ∧ (parseMethodDescriptor yJ2_get.desc).map (fun d => d.parameters.length) = some 1 := by decide +kernel
def wJ2_get (p0 : Int32) (lz : Int32) (lcap : Nat) (lef : Nat → Option Nat) (K : Option Nat → Prop) : Prop := (wJ18_checkIndex p0 lz (fun (r_1 : Int32) => (wJ2_elementData p0 lcap lef (fun (r_2 : Option Nat) => K r_2))))
set_option maxRecDepth 20000 in
theorem tJ2_get {l : Launch} {D : va_G} {ta : Nat → ClassId} {h0 : Nat} {lm : Int32} {h0e : Nat} {lz : Int32} {lcap : Nat} {lef : Nat → Option Nat} {p0 : Int32} {K : Option Nat → Prop} (hlt : l.stackTraces = false) (h : wJ2_get p0 lz lcap lef K) : SMq0 l D ta yJ2_get cJ2_get 2 (FieldType.object "java/lang/Object") 3 [.ref h0, .int p0] [(h0, .inr (2, [.int lm, .ref h0e, .int lz])), (h0e, .inl (ta 8, lcap, .inr (.inr (.inr (.inr lef)))))] ([(h0, .inr (2, [.int lm, .ref h0e, .int lz])), (h0e, .inl (ta 8, lcap, .inr (.inr (.inr (.inr lef)))))]) 0 0 K := by
  refine x_stq0 hlt (plainFor_of_name (by decide +kernel)) (Nat.le_of_ble_eq_true rfl) (fun g G hl hD hT Q => ?_)
  subst hl; subst hD; subst hT
  unfold wJ2_get at h
  show X g 2 0 [(0, .ref h0), (1, .int p0)] [] [(h0, .inr (2, [.int lm, .ref h0e, .int lz])), (h0e, .inl ((xT g) 8, lcap, .inr (.inr (.inr (.inr lef)))))] 0 0
  refine x_iload_n G rfl dJ2_get_0 1 rfl ?_
  refine x_aload_n G rfl dJ2_get_1 0 rfl ?_
  refine x_get G in_J2 0 rfl rfl 2 (by decide) q148 (fun _ h => h) rfl dJ2_get_2 ?_
  refine x_cSi0 (wc := []) (As := [.int p0, .int lz]) (rest := []) G [(h0, .inr (2, [.int lm, .ref h0e, .int lz])), (h0e, .inl ((xT g) 8, lcap, .inr (.inr (.inr (.inr lef)))))] (XSub.of [0, 1] rfl (by decide)) (tJ18_checkIndex G.noTraces h) (lw_S q211 q212 q109 q213) cdJ18_checkIndex (by decide) (by decide) rfl (Nat.le_of_ble_eq_true rfl) (Nat.le_of_ble_eq_true rfl) (Nat.le_of_ble_eq_true rfl) dJ2_get_5 (fun r_1 h => ?_)
  show X g 2 8 [(0, .ref h0), (1, .int p0)] [.int r_1] [(h0, .inr (2, [.int lm, .ref h0e, .int lz])), (h0e, .inl ((xT g) 8, lcap, .inr (.inr (.inr (.inr lef)))))] 0 0
  refine x_pop G dJ2_get_8 rfl ?_
  refine x_aload_n G rfl dJ2_get_9 0 rfl ?_
  refine x_iload_n G rfl dJ2_get_10 1 rfl ?_
  refine x_cVq0 (wc := [(h0, .inr (2, [.int lm, .ref h0e, .int lz])), (h0e, .inl ((xT g) 8, lcap, .inr (.inr (.inr (.inr lef)))))]) (As := [.int p0]) (rest := []) G [] (XSub.of [0, 1] rfl (by decide)) (tJ2_elementData G.noTraces h) (lw_V q217 q218 q219 q69 q220) cdJ2_elementData 2 0 rfl rfl rfl (by decide) (by decide) rfl (Nat.le_of_ble_eq_true rfl) (Nat.le_of_ble_eq_true rfl) (Nat.le_of_ble_eq_true rfl) dJ2_get_11 (fun r_2 h => ?_)
  show X g 2 14 [(0, .ref h0), (1, .int p0)] [va_rf r_2] [(h0, .inr (2, [.int lm, .ref h0e, .int lz])), (h0e, .inl ((xT g) 8, lcap, .inr (.inr (.inr (.inr lef)))))] 0 0
  exact x_retq0 G Q dJ2_get_14 (Or.inl ⟨_, rfl⟩)  h XSub.rf (Nat.le_of_ble_eq_true rfl) (Nat.le_of_ble_eq_true rfl)
theorem cdJ2_clear : yJ2_clear.cls = RJ2 ∧ yJ2_clear.cls ≠ "java/lang/invoke/MethodHandle" ∧ yJ2_clear.cls ≠ "java/lang/invoke/VarHandle" ∧ (parseMethodDescriptor yJ2_clear.desc).map (fun d => d.parameters.length) = some 0 := by decide +kernel
def wJ2_clear_L27 (lz : Int32) (lcap : Nat) (X42 : Int32 → (Nat → Option Nat) → Prop) : Nat → Int32 → (Nat → Option Nat) → Prop
  | 0, _, _ => False
  | n + 1, v3_2, lef_3 => ((lz ≤ v3_2 → X42 v3_2 lef_3) ∧ (¬ lz ≤ v3_2 → (vp_in v3_2 lcap ∧ (∀ f_4 : Nat → Option Nat, f_4 = va_up lef_3 v3_2.toNatClampNeg none → (∀ x_5 : Int32, x_5 = (v3_2 + (1 : Int32)) → wJ2_clear_L27 lz lcap X42 n x_5 f_4)))))
def wJ2_clear (lm : Int32) (lz : Int32) (lcap : Nat) (lef : Nat → Option Nat) (K : Int32 → Int32 → (Nat → Option Nat) → Prop) : Prop := (∀ x_1 : Int32, x_1 = (lm + (1 : Int32)) → (∃ m27 : Nat, wJ2_clear_L27 lz lcap (fun (v3_8 : Int32) (lef_9 : Nat → Option Nat) => K x_1 (0 : Int32) lef_9) m27 (0 : Int32) lef))
set_option maxRecDepth 20000 in
theorem kJ2_clear_L27 {g : XG} {h0 : Nat} {h0e : Nat} {lz : Int32} {lcap : Nat} {x_1 : Int32} {X42 : Int32 → (Nat → Option Nat) → Prop} (G : XO g RJ2 cJ2_clear 4 1 0 0) (hX42 : ∀ (v3_6 : Int32) (lef_7 : Nat → Option Nat), X42 v3_6 lef_7 → X g 4 42 [(3, .int v3_6), (2, .int lz), (1, .ref h0e), (0, .ref h0)] [] [(h0, .inr (2, [.int x_1, .ref h0e, .int (0 : Int32)])), (h0e, .inl ((xT g) 8, lcap, .inr (.inr (.inr (.inr lef_7)))))] 0 0) : ∀ (n : Nat) (v3_2 : Int32) (lef_3 : Nat → Option Nat), wJ2_clear_L27 lz lcap X42 n v3_2 lef_3 → X g 4 27 [(3, .int v3_2), (2, .int lz), (1, .ref h0e), (0, .ref h0)] [] [(h0, .inr (2, [.int x_1, .ref h0e, .int (0 : Int32)])), (h0e, .inl ((xT g) 8, lcap, .inr (.inr (.inr (.inr lef_3)))))] 0 0 := by
  intro n
  induction n with
  | zero => intro _ _ h; exact h.elim
  | succ n ih =>
    intro v3_2 lef_3 h
    unfold wJ2_clear_L27 at h
    refine x_iload_n G rfl dJ2_clear_27 0 rfl ?_
    refine x_iload_n G rfl dJ2_clear_28 1 rfl ?_
    refine x_icmp_ge (tgt := 42) G dJ2_clear_29 rfl (fun c => ?_) (fun c => ?_)
    · replace h := h.1 c
      exact hX42 v3_2 lef_3 h
    · replace h := h.2 c
      refine x_aload_n G rfl dJ2_clear_32 2 rfl ?_
      refine x_iload_n G rfl dJ2_clear_33 0 rfl ?_
      refine x_null G dJ2_clear_34 ?_
      obtain ⟨hz, h⟩ := h
      obtain ⟨f_4, ef_4⟩ : ∃ z : Nat → Option Nat, z = va_up lef_3 v3_2.toNatClampNeg none := ⟨_, rfl⟩
      replace h := h f_4 ef_4
      refine x_aastN G 1 8 rfl rfl hz (by rw [← ef_4]) dJ2_clear_35 ?_
      show X g 4 36 [(3, .int v3_2), (2, .int lz), (1, .ref h0e), (0, .ref h0)] [] [(h0, .inr (2, [.int x_1, .ref h0e, .int (0 : Int32)])), (h0e, .inl ((xT g) 8, lcap, .inr (.inr (.inr (.inr f_4)))))] 0 0
      obtain ⟨x_5, ex_5⟩ : ∃ z : Int32, z = (v3_2 + (1 : Int32)) := ⟨_, rfl⟩
      replace h := h x_5 ex_5
      refine x_iinc (v := x_5) (lv' := [(3, .int x_5), (2, .int lz), (1, .ref h0e), (0, .ref h0)]) G dJ2_clear_36 0 rfl (by rw [ex_5]; rfl) (by decide) rfl ?_
      refine x_goto (tgt := 27) G dJ2_clear_39 rfl ?_
      exact ih x_5 f_4 h
set_option maxRecDepth 20000 in
theorem tJ2_clear {l : Launch} {D : va_G} {ta : Nat → ClassId} {h0 : Nat} {lm : Int32} {h0e : Nat} {lz : Int32} {lcap : Nat} {lef : Nat → Option Nat} {K : Int32 → Int32 → (Nat → Option Nat) → Prop} (hlt : l.stackTraces = false) (h : wJ2_clear lm lz lcap lef K) : SMv3 l D ta yJ2_clear cJ2_clear 4 1 [.ref h0] [(h0, .inr (2, [.int lm, .ref h0e, .int lz])), (h0e, .inl (ta 8, lcap, .inr (.inr (.inr (.inr lef)))))] (fun (lm' : Int32) (lz' : Int32) (lef' : Nat → Option Nat) => [(h0, .inr (2, [.int lm', .ref h0e, .int lz'])), (h0e, .inl (ta 8, lcap, .inr (.inr (.inr (.inr lef')))))]) 0 0 K := by
  refine x_stv3 hlt (plainFor_of_name (by decide +kernel)) (Nat.le_of_ble_eq_true rfl) (fun g G hl hD hT Q => ?_)
  subst hl; subst hD; subst hT
  unfold wJ2_clear at h
  show X g 4 0 [(0, .ref h0)] [] [(h0, .inr (2, [.int lm, .ref h0e, .int lz])), (h0e, .inl ((xT g) 8, lcap, .inr (.inr (.inr (.inr lef)))))] 0 0
  refine x_aload_n G rfl dJ2_clear_0 0 rfl ?_
  refine x_dup G dJ2_clear_1 rfl ?_
  refine x_get G in_J2 0 rfl rfl 0 (by decide) q150 (fun x9 h => u_same (G.hts _ q151) x9 h) rfl dJ2_clear_2 ?_
  refine x_iconst (v := (1 : Int32)) G dJ2_clear_5 (by decide) ?_
  refine x_iadd G dJ2_clear_6 ?_
  refine x_topi (fun x_1 ex_1 => ?_)
  replace h := h x_1 ex_1
  refine x_put G in_J2 tyJ2 tyJ2_ok nmJ2 0 rfl rfl 0 (by decide) q150 (fun x9 h => u_same (G.hts _ q151) x9 h) rfl rfl rfl (Nat.le_of_ble_eq_true rfl) rfl dJ2_clear_7 ?_
  show X g 4 10 [(0, .ref h0)] [] [(h0, .inr (2, [.int x_1, .ref h0e, .int lz])), (h0e, .inl ((xT g) 8, lcap, .inr (.inr (.inr (.inr lef)))))] 0 0
  refine x_aload_n G rfl dJ2_clear_10 0 rfl ?_
  refine x_get G in_J2 0 rfl rfl 1 (by decide) q147 (fun _ h => h) rfl dJ2_clear_11 ?_
  refine x_astore_n (lv' := [(1, .ref h0e), (0, .ref h0)]) G rfl dJ2_clear_14 (by decide) rfl ?_
  refine x_aload_n G rfl dJ2_clear_15 1 rfl ?_
  refine x_get G in_J2 0 rfl rfl 2 (by decide) q148 (fun _ h => h) rfl dJ2_clear_16 ?_
  refine x_istore_n (lv' := [(2, .int lz), (1, .ref h0e), (0, .ref h0)]) G rfl dJ2_clear_19 (by decide) rfl ?_
  refine x_aload_n G rfl dJ2_clear_20 2 rfl ?_
  refine x_iconst (v := (0 : Int32)) G dJ2_clear_21 (by decide) ?_
  refine x_dup_x1 G dJ2_clear_22 rfl rfl ?_
  refine x_put G in_J2 tyJ2 tyJ2_ok nmJ2 0 rfl rfl 2 (by decide) q148 (fun _ h => h) rfl rfl rfl (Nat.le_of_ble_eq_true rfl) rfl dJ2_clear_23 ?_
  show X g 4 26 [(2, .int lz), (1, .ref h0e), (0, .ref h0)] [.int (0 : Int32)] [(h0, .inr (2, [.int x_1, .ref h0e, .int (0 : Int32)])), (h0e, .inl ((xT g) 8, lcap, .inr (.inr (.inr (.inr lef)))))] 0 0
  refine x_istore_n (lv' := [(3, .int (0 : Int32)), (2, .int lz), (1, .ref h0e), (0, .ref h0)]) G rfl dJ2_clear_26 (by decide) rfl ?_
  obtain ⟨n0, h⟩ := h
  refine kJ2_clear_L27 G (fun v3_8 lef_9 h => ?_) n0 _ _ h
  · exact x_retv3 G Q dJ2_clear_42 x_1 (0 : Int32) lef_9 h XSub.rf (Nat.le_of_ble_eq_true rfl) (Nat.le_of_ble_eq_true rfl)
def wJ2_clear_F (lm : Int32) (K : Int32 → Int32 → Prop) : Prop := (∀ x_1 : Int32, x_1 = (lm + (1 : Int32)) → K x_1 (0 : Int32))
set_option maxRecDepth 20000 in
theorem tJ2_clear_F {l : Launch} {D : va_G} {ta : Nat → ClassId} {h0 : Nat} {lm : Int32} {K : Int32 → Int32 → Prop} (hlt : l.stackTraces = false) (h : wJ2_clear_F lm K) : SMv2 l D ta yJ2_clear cJ2_clear 4 1 [.ref h0] [(h0, .inr (2, [.int lm, .ref (ta 20), .int (0 : Int32)]))] (fun (lm' : Int32) (lz : Int32) => [(h0, .inr (2, [.int lm', .ref (ta 20), .int lz]))]) 0 0 K := by
  refine x_stv2 hlt (plainFor_of_name (by decide +kernel)) (Nat.le_of_ble_eq_true rfl) (fun g G hl hD hT Q => ?_)
  subst hl; subst hD; subst hT
  unfold wJ2_clear_F at h
  show X g 4 0 [(0, .ref h0)] [] [(h0, .inr (2, [.int lm, .ref ((xT g) 20), .int (0 : Int32)]))] 0 0
  refine x_aload_n G rfl dJ2_clear_0 0 rfl ?_
  refine x_dup G dJ2_clear_1 rfl ?_
  refine x_get G in_J2 0 rfl rfl 0 (by decide) q150 (fun x9 h => u_same (G.hts _ q151) x9 h) rfl dJ2_clear_2 ?_
  refine x_iconst (v := (1 : Int32)) G dJ2_clear_5 (by decide) ?_
  refine x_iadd G dJ2_clear_6 ?_
  refine x_topi (fun x_1 ex_1 => ?_)
  replace h := h x_1 ex_1
  refine x_put G in_J2 tyJ2 tyJ2_ok nmJ2 0 rfl rfl 0 (by decide) q150 (fun x9 h => u_same (G.hts _ q151) x9 h) rfl rfl rfl (Nat.le_of_ble_eq_true rfl) rfl dJ2_clear_7 ?_
  show X g 4 10 [(0, .ref h0)] [] [(h0, .inr (2, [.int x_1, .ref ((xT g) 20), .int (0 : Int32)]))] 0 0
  refine x_aload_n G rfl dJ2_clear_10 0 rfl ?_
  refine x_get G in_J2 0 rfl rfl 1 (by decide) q147 (fun _ h => h) rfl dJ2_clear_11 ?_
  refine x_astore_n (lv' := [(1, .ref ((xT g) 20)), (0, .ref h0)]) G rfl dJ2_clear_14 (by decide) rfl ?_
  refine x_aload_n G rfl dJ2_clear_15 1 rfl ?_
  refine x_get G in_J2 0 rfl rfl 2 (by decide) q148 (fun _ h => h) rfl dJ2_clear_16 ?_
  refine x_istore_n (lv' := [(2, .int (0 : Int32)), (1, .ref ((xT g) 20)), (0, .ref h0)]) G rfl dJ2_clear_19 (by decide) rfl ?_
  refine x_aload_n G rfl dJ2_clear_20 2 rfl ?_
  refine x_iconst (v := (0 : Int32)) G dJ2_clear_21 (by decide) ?_
  refine x_dup_x1 G dJ2_clear_22 rfl rfl ?_
  refine x_put G in_J2 tyJ2 tyJ2_ok nmJ2 0 rfl rfl 2 (by decide) q148 (fun _ h => h) rfl rfl rfl (Nat.le_of_ble_eq_true rfl) rfl dJ2_clear_23 ?_
  show X g 4 26 [(2, .int (0 : Int32)), (1, .ref ((xT g) 20)), (0, .ref h0)] [.int (0 : Int32)] [(h0, .inr (2, [.int x_1, .ref ((xT g) 20), .int (0 : Int32)]))] 0 0
  refine x_istore_n (lv' := [(3, .int (0 : Int32)), (2, .int (0 : Int32)), (1, .ref ((xT g) 20)), (0, .ref h0)]) G rfl dJ2_clear_26 (by decide) rfl ?_
  refine x_iload_n G rfl dJ2_clear_27 0 rfl ?_
  refine x_iload_n G rfl dJ2_clear_28 1 rfl ?_
  refine x_icmp_ge (tgt := 42) G dJ2_clear_29 rfl (fun c => ?_) (fun c => absurd c (by decide))
  exact x_retv2 G Q dJ2_clear_42 x_1 (0 : Int32) h XSub.rf (Nat.le_of_ble_eq_true rfl) (Nat.le_of_ble_eq_true rfl)
theorem cdJ2_add_2 : yJ2_add_2.cls = RJ2 ∧ yJ2_add_2.cls ≠ "java/lang/invoke/MethodHandle" ∧ yJ2_add_2.cls ≠ "java/lang/invoke/VarHandle" ∧ (parseMethodDescriptor yJ2_add_2.desc).map (fun d => d.parameters.length) = some 3 := by decide +kernel
def wJ2_add_2_R (p2 : Int32) (lcap : Nat) (lef : Nat → Option Nat) (q0 : Nat) (K : Int32 → (Nat → Option Nat) → Prop) : Prop := ((¬ p2 = (Int32.ofNat lcap) → (vp_in p2 lcap ∧ (∀ f_1 : Nat → Option Nat, f_1 = va_up lef p2.toNatClampNeg (some q0) → (∀ x_2 : Int32, x_2 = (p2 + (1 : Int32)) → K x_2 f_1)))) ∧ (p2 = (Int32.ofNat lcap) → False))
set_option maxRecDepth 20000 in
theorem tJ2_add_2_R {l : Launch} {D : va_G} {ta : Nat → ClassId} {h0 : Nat} {lm : Int32} {h0e : Nat} {lz : Int32} {lcap : Nat} {lef : Nat → Option Nat} {q0 : Nat} {tw : Int32} {ty : Int32} {q0l : Nat} {q0r : Nat} {q0s : Nat} {tc : Int32} {tt : UInt64} {p2 : Int32} {K : Int32 → (Nat → Option Nat) → Prop} (hlt : l.stackTraces = false) (h : wJ2_add_2_R p2 lcap lef q0 K) : SMv2 l D ta yJ2_add_2 cJ2_add_2 4 6 [.ref h0, .ref q0, .ref h0e, .int p2] [(h0, .inr (2, [.int lm, .ref h0e, .int lz])), (h0e, .inl (ta 8, lcap, .inr (.inr (.inr (.inr lef))))), (q0, .inr (7, [.int tw, .int ty, .ref q0l, .ref q0r, .ref q0s, .int tc, .double tt]))] (fun (lz' : Int32) (lef' : Nat → Option Nat) => [(h0, .inr (2, [.int lm, .ref h0e, .int lz'])), (h0e, .inl (ta 8, lcap, .inr (.inr (.inr (.inr lef'))))), (q0, .inr (7, [.int tw, .int ty, .ref q0l, .ref q0r, .ref q0s, .int tc, .double tt]))]) 0 0 K := by
  refine x_stv2 hlt (plainFor_of_name (by decide +kernel)) (Nat.le_of_ble_eq_true rfl) (fun g G hl hD hT Q => ?_)
  subst hl; subst hD; subst hT
  unfold wJ2_add_2_R at h
  show X g 4 0 [(0, .ref h0), (1, .ref q0), (2, .ref h0e), (3, .int p2)] [] [(h0, .inr (2, [.int lm, .ref h0e, .int lz])), (h0e, .inl ((xT g) 8, lcap, .inr (.inr (.inr (.inr lef))))), (q0, .inr (7, [.int tw, .int ty, .ref q0l, .ref q0r, .ref q0s, .int tc, .double tt]))] 0 0
  refine x_iload_n G rfl dJ2_add_2_0 3 rfl ?_
  refine x_aload_n G rfl dJ2_add_2_1 2 rfl ?_
  refine x_alen G 1 8 rfl rfl rfl dJ2_add_2_2 ?_
  refine x_icmp_ne (tgt := 11) G dJ2_add_2_3 rfl (fun c => ?_) (fun c => ?_)
  · replace h := h.1 c
    refine x_aload_n G rfl dJ2_add_2_11 2 rfl ?_
    refine x_iload_n G rfl dJ2_add_2_12 3 rfl ?_
    refine x_aload_n G rfl dJ2_add_2_13 1 rfl ?_
    obtain ⟨hz, h⟩ := h
    obtain ⟨f_1, ef_1⟩ : ∃ z : Nat → Option Nat, z = va_up lef p2.toNatClampNeg (some q0) := ⟨_, rfl⟩
    replace h := h f_1 ef_1
    refine x_aast G 1 8 2 rfl rfl (by decide) rfl rfl hz (by rw [← ef_1]) dJ2_add_2_14 ?_
    show X g 4 15 [(0, .ref h0), (1, .ref q0), (2, .ref h0e), (3, .int p2)] [] [(h0, .inr (2, [.int lm, .ref h0e, .int lz])), (h0e, .inl ((xT g) 8, lcap, .inr (.inr (.inr (.inr f_1))))), (q0, .inr (7, [.int tw, .int ty, .ref q0l, .ref q0r, .ref q0s, .int tc, .double tt]))] 0 0
    refine x_aload_n G rfl dJ2_add_2_15 0 rfl ?_
    refine x_iload_n G rfl dJ2_add_2_16 3 rfl ?_
    refine x_iconst (v := (1 : Int32)) G dJ2_add_2_17 (by decide) ?_
    refine x_iadd G dJ2_add_2_18 ?_
    refine x_topi (fun x_2 ex_2 => ?_)
    replace h := h x_2 ex_2
    refine x_put G in_J2 tyJ2 tyJ2_ok nmJ2 0 rfl rfl 2 (by decide) q148 (fun _ h => h) rfl rfl rfl (Nat.le_of_ble_eq_true rfl) rfl dJ2_add_2_19 ?_
    show X g 4 22 [(0, .ref h0), (1, .ref q0), (2, .ref h0e), (3, .int p2)] [] [(h0, .inr (2, [.int lm, .ref h0e, .int x_2])), (h0e, .inl ((xT g) 8, lcap, .inr (.inr (.inr (.inr f_1))))), (q0, .inr (7, [.int tw, .int ty, .ref q0l, .ref q0r, .ref q0s, .int tc, .double tt]))] 0 0
    exact x_retv2 G Q dJ2_add_2_22 x_2 f_1 h XSub.rf (Nat.le_of_ble_eq_true rfl) (Nat.le_of_ble_eq_true rfl)
  · replace h := h.2 c
    exact h.elim
theorem cdJ2_add : yJ2_add.cls = RJ2 ∧ yJ2_add.cls ≠ "java/lang/invoke/MethodHandle" ∧ yJ2_add.cls ≠ "java/lang/invoke/VarHandle" ∧ (parseMethodDescriptor yJ2_add.desc).map (fun d => d.parameters.length) = some 1 := by decide +kernel
def wJ2_add_R (lm : Int32) (lz : Int32) (lcap : Nat) (lef : Nat → Option Nat) (q0 : Nat) (K : Int32 → Int32 → Int32 → (Nat → Option Nat) → Prop) : Prop := (∀ x_1 : Int32, x_1 = (lm + (1 : Int32)) → (wJ2_add_2_R lz lcap lef q0 (fun (lz_2 : Int32) (lef_3 : Nat → Option Nat) => K (1 : Int32) x_1 lz_2 lef_3)))
set_option maxRecDepth 20000 in
theorem tJ2_add_R {l : Launch} {D : va_G} {ta : Nat → ClassId} {h0 : Nat} {lm : Int32} {h0e : Nat} {lz : Int32} {lcap : Nat} {lef : Nat → Option Nat} {q0 : Nat} {tw : Int32} {ty : Int32} {q0l : Nat} {q0r : Nat} {q0s : Nat} {tc : Int32} {tt : UInt64} {K : Int32 → Int32 → Int32 → (Nat → Option Nat) → Prop} (hlt : l.stackTraces = false) (h : wJ2_add_R lm lz lcap lef q0 K) : SMi3 l D ta yJ2_add cJ2_add 2 FieldType.boolean 7 [.ref h0, .ref q0] [(h0, .inr (2, [.int lm, .ref h0e, .int lz])), (h0e, .inl (ta 8, lcap, .inr (.inr (.inr (.inr lef))))), (q0, .inr (7, [.int tw, .int ty, .ref q0l, .ref q0r, .ref q0s, .int tc, .double tt]))] (fun (lm' : Int32) (lz' : Int32) (lef' : Nat → Option Nat) => [(h0, .inr (2, [.int lm', .ref h0e, .int lz'])), (h0e, .inl (ta 8, lcap, .inr (.inr (.inr (.inr lef'))))), (q0, .inr (7, [.int tw, .int ty, .ref q0l, .ref q0r, .ref q0s, .int tc, .double tt]))]) 0 0 K := by
  refine x_sti3 hlt (plainFor_of_name (by decide +kernel)) (Nat.le_of_ble_eq_true rfl) (fun g G hl hD hT Q => ?_)
  subst hl; subst hD; subst hT
  unfold wJ2_add_R at h
  show X g 2 0 [(0, .ref h0), (1, .ref q0)] [] [(h0, .inr (2, [.int lm, .ref h0e, .int lz])), (h0e, .inl ((xT g) 8, lcap, .inr (.inr (.inr (.inr lef))))), (q0, .inr (7, [.int tw, .int ty, .ref q0l, .ref q0r, .ref q0s, .int tc, .double tt]))] 0 0
  refine x_aload_n G rfl dJ2_add_0 0 rfl ?_
  refine x_dup G dJ2_add_1 rfl ?_
  refine x_get G in_J2 0 rfl rfl 0 (by decide) q150 (fun x9 h => u_same (G.hts _ q151) x9 h) rfl dJ2_add_2 ?_
  refine x_iconst (v := (1 : Int32)) G dJ2_add_5 (by decide) ?_
  refine x_iadd G dJ2_add_6 ?_
  refine x_topi (fun x_1 ex_1 => ?_)
  replace h := h x_1 ex_1
  refine x_put G in_J2 tyJ2 tyJ2_ok nmJ2 0 rfl rfl 0 (by decide) q150 (fun x9 h => u_same (G.hts _ q151) x9 h) rfl rfl rfl (Nat.le_of_ble_eq_true rfl) rfl dJ2_add_7 ?_
  show X g 2 10 [(0, .ref h0), (1, .ref q0)] [] [(h0, .inr (2, [.int x_1, .ref h0e, .int lz])), (h0e, .inl ((xT g) 8, lcap, .inr (.inr (.inr (.inr lef))))), (q0, .inr (7, [.int tw, .int ty, .ref q0l, .ref q0r, .ref q0s, .int tc, .double tt]))] 0 0
  refine x_aload_n G rfl dJ2_add_10 0 rfl ?_
  refine x_aload_n G rfl dJ2_add_11 1 rfl ?_
  refine x_aload_n G rfl dJ2_add_12 0 rfl ?_
  refine x_get G in_J2 0 rfl rfl 1 (by decide) q147 (fun _ h => h) rfl dJ2_add_13 ?_
  refine x_aload_n G rfl dJ2_add_16 0 rfl ?_
  refine x_get G in_J2 0 rfl rfl 2 (by decide) q148 (fun _ h => h) rfl dJ2_add_17 ?_
  refine x_cVv2 (wc := [(h0, .inr (2, [.int x_1, .ref h0e, .int lz])), (h0e, .inl ((xT g) 8, lcap, .inr (.inr (.inr (.inr lef))))), (q0, .inr (7, [.int tw, .int ty, .ref q0l, .ref q0r, .ref q0s, .int tc, .double tt]))]) (As := [.ref q0, .ref h0e, .int lz]) (rest := []) G [] (XSub.of [0, 1, 2] rfl (by decide)) (tJ2_add_2_R G.noTraces h) (lw_V q1303 q1305 qs12 q69 q1306) cdJ2_add_2 2 0 rfl rfl rfl (by decide) (by decide) rfl (Nat.le_of_ble_eq_true rfl) (Nat.le_of_ble_eq_true rfl) (Nat.le_of_ble_eq_true rfl) dJ2_add_20 (fun lz_2 lef_3 h => ?_)
  show X g 2 23 [(0, .ref h0), (1, .ref q0)] [] [(h0, .inr (2, [.int x_1, .ref h0e, .int lz_2])), (h0e, .inl ((xT g) 8, lcap, .inr (.inr (.inr (.inr lef_3))))), (q0, .inr (7, [.int tw, .int ty, .ref q0l, .ref q0r, .ref q0s, .int tc, .double tt]))] 0 0
  refine x_iconst (v := (1 : Int32)) G dJ2_add_23 (by decide) ?_
  exact x_reti3 G Q dJ2_add_24 rfl x_1 lz_2 lef_3 h XSub.rf (Nat.le_of_ble_eq_true rfl) (Nat.le_of_ble_eq_true rfl)
theorem cdJ2_grow_2 : yJ2_grow_2.cls = RJ2 ∧ yJ2_grow_2.cls ≠ "java/lang/invoke/MethodHandle" ∧ yJ2_grow_2.cls ≠ "java/lang/invoke/VarHandle" ∧ (parseMethodDescriptor yJ2_grow_2.desc).map (fun d => d.parameters.length) = some 1 := by decide +kernel
def wJ2_grow_2_F (p0 : Int32) (K : Option Nat → Nat → Nat → Prop) : Prop := (wJ13_max (10 : Int32) p0 (fun (r_1 : Int32) => (¬ r_1 < (0 : Int32) ∧ (r_1.toNatClampNeg ≤ 10 ∧ (∀ a_2 : Nat, K (some a_2) a_2 r_1.toNatClampNeg)))))
set_option maxRecDepth 20000 in
theorem tJ2_grow_2_F {l : Launch} {D : va_G} {ta : Nat → ClassId} {h0 : Nat} {lm : Int32} {p0 : Int32} {K : Option Nat → Nat → Nat → Prop} (hlt : l.stackTraces = false) (h : wJ2_grow_2_F p0 K) : SMq2 l D ta yJ2_grow_2 cJ2_grow_2 4 (FieldType.array (FieldType.object "java/lang/Object")) 4 [.ref h0, .int p0] [(h0, .inr (2, [.int lm, .ref (ta 20), .int (0 : Int32)]))] (fun (el : Nat) (lcp : Nat) => [(h0, .inr (2, [.int lm, .ref el, .int (0 : Int32)])), (el, .inl (ta 8, lcp, .inr (.inr (.inr (.inr (fun _ => none))))))]) 1 10 K := by
  refine x_stq2 hlt (plainFor_of_name (by decide +kernel)) (Nat.le_of_ble_eq_true rfl) (fun g G hl hD hT Q => ?_)
  subst hl; subst hD; subst hT
  unfold wJ2_grow_2_F at h
  show X g 4 0 [(0, .ref h0), (1, .int p0)] [] [(h0, .inr (2, [.int lm, .ref ((xT g) 20), .int (0 : Int32)]))] 0 0
  refine x_aload_n G rfl dJ2_grow_2_0 0 rfl ?_
  refine x_get G in_J2 0 rfl rfl 1 (by decide) q147 (fun _ h => h) rfl dJ2_grow_2_1 ?_
  refine x_tlenE G dJ2_grow_2_4 ?_
  refine x_istore_n (lv' := [(2, .int (0 : Int32)), (0, .ref h0), (1, .int p0)]) G rfl dJ2_grow_2_5 (by decide) rfl ?_
  refine x_iload_n G rfl dJ2_grow_2_6 0 rfl ?_
  refine x_if_gt (tgt := 20) G dJ2_grow_2_7 rfl (fun c => absurd c (by decide)) (fun c => ?_)
  refine x_aload_n G rfl dJ2_grow_2_10 1 rfl ?_
  refine x_get G in_J2 0 rfl rfl 1 (by decide) q147 (fun _ h => h) rfl dJ2_grow_2_11 ?_
  refine x_getsE G q145 dJ2_grow_2_14 ?_
  refine x_acmp_eq (rx := some ((xT g) 20)) (ry := some ((xT g) 20)) (tgt := 45) G dJ2_grow_2_17 rfl (fun _ => ?_) (fun c => absurd c (by simp))
  refine x_aload_n G rfl dJ2_grow_2_45 1 rfl ?_
  refine x_bipush (v := (10 : Int32)) G dJ2_grow_2_46 (by decide) ?_
  refine x_iload_n G rfl dJ2_grow_2_48 2 rfl ?_
  refine x_cPi (As := [.int (10 : Int32), .int p0]) (rest := [.ref h0]) G (tJ13_max G.noTraces h) (lw_S q1364 q306 q85 q307) cdJ13_max (by decide) (by decide) rfl (Nat.le_of_ble_eq_true rfl) (Nat.le_of_ble_eq_true rfl) (Nat.le_of_ble_eq_true rfl) dJ2_grow_2_49 (fun r_1 h => ?_)
  obtain ⟨hz, hb, h⟩ := h
  refine x_anew (N' := r_1.toNatClampNeg) (B := 10) (ti := 8) G q1365 G.E.2.1.2.2.2.2.2.2.1.2.2 rfl hz rfl hb (by decide) (Nat.le_of_ble_eq_true rfl) (Nat.le_of_ble_eq_true rfl) dJ2_grow_2_52 (fun a_2 => ?_)
  replace h := h a_2
  show X g 4 55 [(2, .int (0 : Int32)), (0, .ref h0), (1, .int p0)] [.ref a_2, .ref h0] [(h0, .inr (2, [.int lm, .ref ((xT g) 20), .int (0 : Int32)])), (a_2, .inl ((xT g) 8, r_1.toNatClampNeg, .inr (.inr (.inr (.inr (fun _ => none))))))] 1 10
  refine x_dup_x1 G dJ2_grow_2_55 rfl rfl ?_
  refine x_put G in_J2 tyJ2 tyJ2_ok nmJ2 0 rfl rfl 1 (by decide) q147 (fun _ h => h) rfl rfl rfl (Nat.le_of_ble_eq_true rfl) rfl dJ2_grow_2_56 ?_
  show X g 4 59 [(2, .int (0 : Int32)), (0, .ref h0), (1, .int p0)] [.ref a_2] [(h0, .inr (2, [.int lm, .ref a_2, .int (0 : Int32)])), (a_2, .inl ((xT g) 8, r_1.toNatClampNeg, .inr (.inr (.inr (.inr (fun _ => none))))))] 1 10
  exact x_retq2 G Q dJ2_grow_2_59 (Or.inr ⟨_, rfl⟩) a_2 r_1.toNatClampNeg h XSub.rf (Nat.le_of_ble_eq_true rfl) (Nat.le_of_ble_eq_true rfl)
theorem cdJ2_grow : yJ2_grow.cls = RJ2 ∧ yJ2_grow.cls ≠ "java/lang/invoke/MethodHandle" ∧ yJ2_grow.cls ≠ "java/lang/invoke/VarHandle" ∧ (parseMethodDescriptor yJ2_grow.desc).map (fun d => d.parameters.length) = some 0 := by decide +kernel
def wJ2_grow_F (K : Option Nat → Nat → Nat → Prop) : Prop := (wJ2_grow_2_F ((0 : Int32) + (1 : Int32)) (fun (r_1 : Option Nat) (el_2 : Nat) (lcp_3 : Nat) => (r_1 = some el_2 ∧ K (some el_2) el_2 lcp_3)))
set_option maxRecDepth 20000 in
theorem tJ2_grow_F {l : Launch} {D : va_G} {ta : Nat → ClassId} {h0 : Nat} {lm : Int32} {K : Option Nat → Nat → Nat → Prop} (hlt : l.stackTraces = false) (h : wJ2_grow_F K) : SMq2 l D ta yJ2_grow cJ2_grow 1 (FieldType.array (FieldType.object "java/lang/Object")) 5 [.ref h0] [(h0, .inr (2, [.int lm, .ref (ta 20), .int (0 : Int32)]))] (fun (el : Nat) (lcp : Nat) => [(h0, .inr (2, [.int lm, .ref el, .int (0 : Int32)])), (el, .inl (ta 8, lcp, .inr (.inr (.inr (.inr (fun _ => none))))))]) 1 10 K := by
  refine x_stq2 hlt (plainFor_of_name (by decide +kernel)) (Nat.le_of_ble_eq_true rfl) (fun g G hl hD hT Q => ?_)
  subst hl; subst hD; subst hT
  unfold wJ2_grow_F at h
  show X g 1 0 [(0, .ref h0)] [] [(h0, .inr (2, [.int lm, .ref ((xT g) 20), .int (0 : Int32)]))] 0 0
  refine x_aload_n G rfl dJ2_grow_0 0 rfl ?_
  refine x_aload_n G rfl dJ2_grow_1 0 rfl ?_
  refine x_get G in_J2 0 rfl rfl 2 (by decide) q148 (fun _ h => h) rfl dJ2_grow_2 ?_
  refine x_iconst (v := (1 : Int32)) G dJ2_grow_5 (by decide) ?_
  refine x_iadd G dJ2_grow_6 ?_
  refine x_cVq2 (wc := [(h0, .inr (2, [.int lm, .ref ((xT g) 20), .int (0 : Int32)]))]) (As := [.int ((0 : Int32) + (1 : Int32))]) (rest := []) G [] (XSub.of [0] rfl (by decide)) (tJ2_grow_2_F G.noTraces h) (lw_V q1311 q1313 qs14 q69 q1314) cdJ2_grow_2 2 0 rfl rfl rfl (by decide) (by decide) rfl (Nat.le_of_ble_eq_true rfl) (Nat.le_of_ble_eq_true rfl) (Nat.le_of_ble_eq_true rfl) dJ2_grow_7 (fun r_1 el_2 lcp_3 h => ?_)
  obtain ⟨hq, h⟩ := h
  subst hq
  show X g 1 10 [(0, .ref h0)] [.ref el_2] [(h0, .inr (2, [.int lm, .ref el_2, .int (0 : Int32)])), (el_2, .inl ((xT g) 8, lcp_3, .inr (.inr (.inr (.inr (fun _ => none))))))] 1 10
  exact x_retq2 G Q dJ2_grow_10 (Or.inr ⟨_, rfl⟩) el_2 lcp_3 h XSub.rf (Nat.le_of_ble_eq_true rfl) (Nat.le_of_ble_eq_true rfl)
def wJ2_add_2_F (q0 : Nat) (K : Nat → Int32 → Nat → (Nat → Option Nat) → Prop) : Prop := (wJ2_grow_F (fun (r_1 : Option Nat) (el_2 : Nat) (lcp_3 : Nat) => (r_1 = some el_2 ∧ (vp_in (0 : Int32) lcp_3 ∧ (∀ f_4 : Nat → Option Nat, f_4 = va_up (fun _ => none) (0 : Int32).toNatClampNeg (some q0) → (∀ x_5 : Int32, x_5 = ((0 : Int32) + (1 : Int32)) → K el_2 x_5 lcp_3 f_4))))))
set_option maxRecDepth 20000 in
theorem tJ2_add_2_F {l : Launch} {D : va_G} {ta : Nat → ClassId} {h0 : Nat} {lm : Int32} {q0 : Nat} {tw : Int32} {ty : Int32} {q0l : Nat} {q0r : Nat} {q0s : Nat} {tc : Int32} {tt : UInt64} {K : Nat → Int32 → Nat → (Nat → Option Nat) → Prop} (hlt : l.stackTraces = false) (h : wJ2_add_2_F q0 K) : SMv4 l D ta yJ2_add_2 cJ2_add_2 4 6 [.ref h0, .ref q0, .ref (ta 20), .int (0 : Int32)] [(h0, .inr (2, [.int lm, .ref (ta 20), .int (0 : Int32)])), (q0, .inr (7, [.int tw, .int ty, .ref q0l, .ref q0r, .ref q0s, .int tc, .double tt]))] (fun (el : Nat) (lz : Int32) (lcp : Nat) (lef : Nat → Option Nat) => [(h0, .inr (2, [.int lm, .ref el, .int lz])), (el, .inl (ta 8, lcp, .inr (.inr (.inr (.inr lef))))), (q0, .inr (7, [.int tw, .int ty, .ref q0l, .ref q0r, .ref q0s, .int tc, .double tt]))]) 1 10 K := by
  refine x_stv4 hlt (plainFor_of_name (by decide +kernel)) (Nat.le_of_ble_eq_true rfl) (fun g G hl hD hT Q => ?_)
  subst hl; subst hD; subst hT
  unfold wJ2_add_2_F at h
  show X g 4 0 [(0, .ref h0), (1, .ref q0), (2, .ref ((xT g) 20)), (3, .int (0 : Int32))] [] [(h0, .inr (2, [.int lm, .ref ((xT g) 20), .int (0 : Int32)])), (q0, .inr (7, [.int tw, .int ty, .ref q0l, .ref q0r, .ref q0s, .int tc, .double tt]))] 0 0
  refine x_iload_n G rfl dJ2_add_2_0 3 rfl ?_
  refine x_aload_n G rfl dJ2_add_2_1 2 rfl ?_
  refine x_tlenE G dJ2_add_2_2 ?_
  refine x_icmp_ne (tgt := 11) G dJ2_add_2_3 rfl (fun c => absurd c (by decide)) (fun c => ?_)
  refine x_aload_n G rfl dJ2_add_2_6 0 rfl ?_
  refine x_cVq2 (wc := [(h0, .inr (2, [.int lm, .ref ((xT g) 20), .int (0 : Int32)]))]) (As := []) (rest := []) G [(q0, .inr (7, [.int tw, .int ty, .ref q0l, .ref q0r, .ref q0s, .int tc, .double tt]))] (XSub.of [1, 0] rfl (by decide)) (tJ2_grow_F G.noTraces h) (lw_V q1307 q1309 qs13 q69 q1310) cdJ2_grow 2 0 rfl rfl rfl (by decide) (by decide) rfl (Nat.le_of_ble_eq_true rfl) (Nat.le_of_ble_eq_true rfl) (Nat.le_of_ble_eq_true rfl) dJ2_add_2_7 (fun r_1 el_2 lcp_3 h => ?_)
  obtain ⟨hq, h⟩ := h
  subst hq
  show X g 4 10 [(0, .ref h0), (1, .ref q0), (2, .ref ((xT g) 20)), (3, .int (0 : Int32))] [.ref el_2] [(q0, .inr (7, [.int tw, .int ty, .ref q0l, .ref q0r, .ref q0s, .int tc, .double tt])), (h0, .inr (2, [.int lm, .ref el_2, .int (0 : Int32)])), (el_2, .inl ((xT g) 8, lcp_3, .inr (.inr (.inr (.inr (fun _ => none))))))] 1 10
  refine x_astore_n (lv' := [(2, .ref el_2), (0, .ref h0), (1, .ref q0), (3, .int (0 : Int32))]) G rfl dJ2_add_2_10 (by decide) rfl ?_
  refine x_aload_n G rfl dJ2_add_2_11 0 rfl ?_
  refine x_iload_n G rfl dJ2_add_2_12 3 rfl ?_
  refine x_aload_n G rfl dJ2_add_2_13 2 rfl ?_
  obtain ⟨hz, h⟩ := h
  obtain ⟨f_4, ef_4⟩ : ∃ z : Nat → Option Nat, z = va_up (fun _ => none) (0 : Int32).toNatClampNeg (some q0) := ⟨_, rfl⟩
  replace h := h f_4 ef_4
  refine x_aast G 2 8 0 rfl rfl (by decide) rfl rfl hz (by rw [← ef_4]) dJ2_add_2_14 ?_
  show X g 4 15 [(2, .ref el_2), (0, .ref h0), (1, .ref q0), (3, .int (0 : Int32))] [] [(q0, .inr (7, [.int tw, .int ty, .ref q0l, .ref q0r, .ref q0s, .int tc, .double tt])), (h0, .inr (2, [.int lm, .ref el_2, .int (0 : Int32)])), (el_2, .inl ((xT g) 8, lcp_3, .inr (.inr (.inr (.inr f_4)))))] 1 10
  refine x_aload_n G rfl dJ2_add_2_15 1 rfl ?_
  refine x_iload_n G rfl dJ2_add_2_16 3 rfl ?_
  refine x_iconst (v := (1 : Int32)) G dJ2_add_2_17 (by decide) ?_
  refine x_iadd G dJ2_add_2_18 ?_
  refine x_topi (fun x_5 ex_5 => ?_)
  replace h := h x_5 ex_5
  refine x_put G in_J2 tyJ2 tyJ2_ok nmJ2 1 rfl rfl 2 (by decide) q148 (fun _ h => h) rfl rfl rfl (Nat.le_of_ble_eq_true rfl) rfl dJ2_add_2_19 ?_
  show X g 4 22 [(2, .ref el_2), (0, .ref h0), (1, .ref q0), (3, .int (0 : Int32))] [] [(q0, .inr (7, [.int tw, .int ty, .ref q0l, .ref q0r, .ref q0s, .int tc, .double tt])), (h0, .inr (2, [.int lm, .ref el_2, .int x_5])), (el_2, .inl ((xT g) 8, lcp_3, .inr (.inr (.inr (.inr f_4)))))] 1 10
  exact x_retv4 G Q dJ2_add_2_22 el_2 x_5 lcp_3 f_4 h (XSub.of [1, 2, 0] rfl (by decide)) (Nat.le_of_ble_eq_true rfl) (Nat.le_of_ble_eq_true rfl)
def wJ2_add_F (lm : Int32) (q0 : Nat) (K : Int32 → Int32 → Nat → Int32 → Nat → (Nat → Option Nat) → Prop) : Prop := (∀ x_1 : Int32, x_1 = (lm + (1 : Int32)) → (wJ2_add_2_F q0 (fun (el_2 : Nat) (lz_3 : Int32) (lcp_4 : Nat) (lef_5 : Nat → Option Nat) => K (1 : Int32) x_1 el_2 lz_3 lcp_4 lef_5)))
set_option maxRecDepth 20000 in
theorem tJ2_add_F {l : Launch} {D : va_G} {ta : Nat → ClassId} {h0 : Nat} {lm : Int32} {q0 : Nat} {tw : Int32} {ty : Int32} {q0l : Nat} {q0r : Nat} {q0s : Nat} {tc : Int32} {tt : UInt64} {K : Int32 → Int32 → Nat → Int32 → Nat → (Nat → Option Nat) → Prop} (hlt : l.stackTraces = false) (h : wJ2_add_F lm q0 K) : SMi5 l D ta yJ2_add cJ2_add 2 FieldType.boolean 7 [.ref h0, .ref q0] [(h0, .inr (2, [.int lm, .ref (ta 20), .int (0 : Int32)])), (q0, .inr (7, [.int tw, .int ty, .ref q0l, .ref q0r, .ref q0s, .int tc, .double tt]))] (fun (lm' : Int32) (el : Nat) (lz : Int32) (lcp : Nat) (lef : Nat → Option Nat) => [(h0, .inr (2, [.int lm', .ref el, .int lz])), (el, .inl (ta 8, lcp, .inr (.inr (.inr (.inr lef))))), (q0, .inr (7, [.int tw, .int ty, .ref q0l, .ref q0r, .ref q0s, .int tc, .double tt]))]) 1 10 K := by
  refine x_sti5 hlt (plainFor_of_name (by decide +kernel)) (Nat.le_of_ble_eq_true rfl) (fun g G hl hD hT Q => ?_)
  subst hl; subst hD; subst hT
  unfold wJ2_add_F at h
  show X g 2 0 [(0, .ref h0), (1, .ref q0)] [] [(h0, .inr (2, [.int lm, .ref ((xT g) 20), .int (0 : Int32)])), (q0, .inr (7, [.int tw, .int ty, .ref q0l, .ref q0r, .ref q0s, .int tc, .double tt]))] 0 0
  refine x_aload_n G rfl dJ2_add_0 0 rfl ?_
  refine x_dup G dJ2_add_1 rfl ?_
  refine x_get G in_J2 0 rfl rfl 0 (by decide) q150 (fun x9 h => u_same (G.hts _ q151) x9 h) rfl dJ2_add_2 ?_
  refine x_iconst (v := (1 : Int32)) G dJ2_add_5 (by decide) ?_
  refine x_iadd G dJ2_add_6 ?_
  refine x_topi (fun x_1 ex_1 => ?_)
  replace h := h x_1 ex_1
  refine x_put G in_J2 tyJ2 tyJ2_ok nmJ2 0 rfl rfl 0 (by decide) q150 (fun x9 h => u_same (G.hts _ q151) x9 h) rfl rfl rfl (Nat.le_of_ble_eq_true rfl) rfl dJ2_add_7 ?_
  show X g 2 10 [(0, .ref h0), (1, .ref q0)] [] [(h0, .inr (2, [.int x_1, .ref ((xT g) 20), .int (0 : Int32)])), (q0, .inr (7, [.int tw, .int ty, .ref q0l, .ref q0r, .ref q0s, .int tc, .double tt]))] 0 0
  refine x_aload_n G rfl dJ2_add_10 0 rfl ?_
  refine x_aload_n G rfl dJ2_add_11 1 rfl ?_
  refine x_aload_n G rfl dJ2_add_12 0 rfl ?_
  refine x_get G in_J2 0 rfl rfl 1 (by decide) q147 (fun _ h => h) rfl dJ2_add_13 ?_
  refine x_aload_n G rfl dJ2_add_16 0 rfl ?_
  refine x_get G in_J2 0 rfl rfl 2 (by decide) q148 (fun _ h => h) rfl dJ2_add_17 ?_
  refine x_cVv4 (wc := [(h0, .inr (2, [.int x_1, .ref ((xT g) 20), .int (0 : Int32)])), (q0, .inr (7, [.int tw, .int ty, .ref q0l, .ref q0r, .ref q0s, .int tc, .double tt]))]) (As := [.ref q0, .ref ((xT g) 20), .int (0 : Int32)]) (rest := []) G [] (XSub.of [0, 1] rfl (by decide)) (tJ2_add_2_F G.noTraces h) (lw_V q1303 q1305 qs12 q69 q1306) cdJ2_add_2 2 0 rfl rfl rfl (by decide) (by decide) rfl (Nat.le_of_ble_eq_true rfl) (Nat.le_of_ble_eq_true rfl) (Nat.le_of_ble_eq_true rfl) dJ2_add_20 (fun el_2 lz_3 lcp_4 lef_5 h => ?_)
  show X g 2 23 [(0, .ref h0), (1, .ref q0)] [] [(h0, .inr (2, [.int x_1, .ref el_2, .int lz_3])), (el_2, .inl ((xT g) 8, lcp_4, .inr (.inr (.inr (.inr lef_5))))), (q0, .inr (7, [.int tw, .int ty, .ref q0l, .ref q0r, .ref q0s, .int tc, .double tt]))] 1 10
  refine x_iconst (v := (1 : Int32)) G dJ2_add_23 (by decide) ?_
  exact x_reti5 G Q dJ2_add_24 rfl x_1 el_2 lz_3 lcp_4 lef_5 h XSub.rf (Nat.le_of_ble_eq_true rfl) (Nat.le_of_ble_eq_true rfl)
theorem cdJ17_copyOf_2 : yJ17_copyOf_2.cls ≠ "java/lang/invoke/MethodHandle" ∧ yJ17_copyOf_2.cls ≠ "java/lang/invoke/VarHandle" ∧ (parseMethodDescriptor yJ17_copyOf_2.desc).map (fun d => d.parameters.length) = some 3 := by decide +kernel
def wJ17_copyOf_2 (p1 : Int32) (lcap : Nat) (lef : Nat → Option Nat) (sg : va_W) (K : Option Nat → Nat → Nat → (Nat → Option Nat) → Prop) : Prop := (¬ p1 < (0 : Int32) ∧ (p1.toNatClampNeg ≤ 73 ∧ (∀ a_1 : Nat, (wJ13_min_3 (Int32.ofNat lcap) p1 (fun (r_2 : Int32) => (¬ r_2 < (0 : Int32) ∧ ((0 : Int32).toNatClampNeg + r_2.toNatClampNeg ≤ lcap ∧ ((0 : Int32).toNatClampNeg + r_2.toNatClampNeg ≤ p1.toNatClampNeg ∧ ((∀ i : Nat, i < r_2.toNatClampNeg → ∀ y : Nat, lef ((0 : Int32).toNatClampNeg + i) = some y → ∃ fs : List Value, (y, .inr (7, fs)) ∈ sg) ∧ (∀ f_3 : Nat → Option Nat, f_3 = va_cpy lef (fun _ => none) (0 : Int32).toNatClampNeg (0 : Int32).toNatClampNeg r_2.toNatClampNeg → K (some a_1) a_1 p1.toNatClampNeg f_3))))))))))
set_option maxRecDepth 20000 in
theorem tJ17_copyOf_2 {l : Launch} {D : va_G} {ta : Nat → ClassId} {q0 : Nat} {lcap : Nat} {lef : Nat → Option Nat} {sg : va_W} {p1 : Int32} {K : Option Nat → Nat → Nat → (Nat → Option Nat) → Prop} (hlt : l.stackTraces = false) (h : wJ17_copyOf_2 p1 lcap lef sg K) : SMq3 l D ta yJ17_copyOf_2 cJ17_copyOf_2 4 (FieldType.array (FieldType.object "java/lang/Object")) 2 [.ref q0, .int p1, .ref (ta 21)] ([(q0, .inl (ta 8, lcap, .inr (.inr (.inr (.inr lef)))))] ++ sg) (fun (el : Nat) (lcp : Nat) (lew : Nat → Option Nat) => ([(q0, .inl (ta 8, lcap, .inr (.inr (.inr (.inr lef))))), (el, .inl (ta 8, lcp, .inr (.inr (.inr (.inr lew)))))] ++ sg)) 1 73 K := by
  refine x_stq3 hlt (plainFor_of_name (by decide +kernel)) (Nat.le_of_ble_eq_true rfl) (fun g G hl hD hT Q => ?_)
  subst hl; subst hD; subst hT
  unfold wJ17_copyOf_2 at h
  show X g 4 0 [(0, .ref q0), (1, .int p1), (2, .ref ((xT g) 21))] [] ([(q0, .inl ((xT g) 8, lcap, .inr (.inr (.inr (.inr lef)))))] ++ sg) 0 0
  refine x_aload_n G rfl dJ17_copyOf_2_0 2 rfl ?_
  refine x_ldcM G q1359 dJ17_copyOf_2_1 ?_
  refine x_acmp_ne (rx := some ((xT g) 21)) (ry := some ((xT g) 21)) (tgt := 13) G dJ17_copyOf_2_3 rfl (fun c => absurd rfl c) (fun _ => ?_)
  refine x_iload_n G rfl dJ17_copyOf_2_6 1 rfl ?_
  obtain ⟨hz, hb, h⟩ := h
  refine x_anew (N' := p1.toNatClampNeg) (B := 73) (ti := 8) G q1361 G.E.2.1.2.2.2.2.2.2.1.2.2 rfl hz rfl hb (by decide) (Nat.le_of_ble_eq_true rfl) (Nat.le_of_ble_eq_true rfl) dJ17_copyOf_2_7 (fun a_1 => ?_)
  replace h := h a_1
  refine x_ws XSub.rot2 ?_
  show X g 4 10 [(0, .ref q0), (1, .int p1), (2, .ref ((xT g) 21))] [.ref a_1] ([(q0, .inl ((xT g) 8, lcap, .inr (.inr (.inr (.inr lef))))), (a_1, .inl ((xT g) 8, p1.toNatClampNeg, .inr (.inr (.inr (.inr (fun _ => none))))))] ++ sg) 1 73
  refine x_goto (tgt := 24) G dJ17_copyOf_2_10 rfl ?_
  refine x_astore_n (lv' := [(3, .ref a_1), (0, .ref q0), (1, .int p1), (2, .ref ((xT g) 21))]) G rfl dJ17_copyOf_2_24 (by decide) rfl ?_
  refine x_aload_n G rfl dJ17_copyOf_2_25 1 rfl ?_
  refine x_iconst (v := (0 : Int32)) G dJ17_copyOf_2_26 (by decide) ?_
  refine x_aload_n G rfl dJ17_copyOf_2_27 0 rfl ?_
  refine x_iconst (v := (0 : Int32)) G dJ17_copyOf_2_28 (by decide) ?_
  refine x_aload_n G rfl dJ17_copyOf_2_29 1 rfl ?_
  refine x_alen G 0 8 rfl rfl rfl dJ17_copyOf_2_30 ?_
  refine x_iload_n G rfl dJ17_copyOf_2_31 2 rfl ?_
  refine x_cPi (As := [.int (Int32.ofNat lcap), .int p1]) (rest := [.int (0 : Int32), .ref a_1, .int (0 : Int32), .ref q0]) G (tJ13_min_3 G.noTraces h) (lw_S q1362 q1138 q85 q1139) cdJ13_min_3 (by decide) (by decide) rfl (Nat.le_of_ble_eq_true rfl) (Nat.le_of_ble_eq_true rfl) (Nat.le_of_ble_eq_true rfl) dJ17_copyOf_2_32 (fun r_2 h => ?_)
  obtain ⟨hz1, hz2, hz3, hz4, h⟩ := h
  obtain ⟨f_3, ef_3⟩ : ∃ z : Nat → Option Nat, z = va_cpy lef (fun _ => none) (0 : Int32).toNatClampNeg (0 : Int32).toNatClampNeg r_2.toNatClampNeg := ⟨_, rfl⟩
  replace h := h f_3 ef_3
  refine x_copyqT G q1363 q349 q348 q108 0 1 rfl rfl (by decide) (by decide) hz1 hz2 hz3 (fun i hi y hy => (hz4 i hi y hy).imp fun _ h9 => List.mem_append_right _ h9) (by rw [← ef_3]) (by decide) (Nat.le_of_ble_eq_true rfl) dJ17_copyOf_2_35 ?_
  show X g 4 38 [(3, .ref a_1), (0, .ref q0), (1, .int p1), (2, .ref ((xT g) 21))] [] ([(q0, .inl ((xT g) 8, lcap, .inr (.inr (.inr (.inr lef))))), (a_1, .inl ((xT g) 8, p1.toNatClampNeg, .inr (.inr (.inr (.inr f_3)))))] ++ sg) 1 73
  refine x_aload_n G rfl dJ17_copyOf_2_38 0 rfl ?_
  exact x_retq3 G Q dJ17_copyOf_2_39 (Or.inr ⟨_, rfl⟩) a_1 p1.toNatClampNeg f_3 h XSub.rf (Nat.le_of_ble_eq_true rfl) (Nat.le_of_ble_eq_true rfl)
theorem cdJ17_copyOf : yJ17_copyOf.cls ≠ "java/lang/invoke/MethodHandle" ∧ yJ17_copyOf.cls ≠ "java/lang/invoke/VarHandle" ∧ (parseMethodDescriptor yJ17_copyOf.desc).map (fun d => d.parameters.length) = some 2 := by decide +kernel
def wJ17_copyOf (p1 : Int32) (lcap : Nat) (lef : Nat → Option Nat) (sg : va_W) (K : Option Nat → Nat → Nat → (Nat → Option Nat) → Prop) : Prop := (wJ17_copyOf_2 p1 lcap lef sg (fun (r_1 : Option Nat) (el_2 : Nat) (lcp_3 : Nat) (lew_4 : Nat → Option Nat) => (r_1 = some el_2 ∧ K (some el_2) el_2 lcp_3 lew_4)))
set_option maxRecDepth 20000 in
theorem tJ17_copyOf {l : Launch} {D : va_G} {ta : Nat → ClassId} {q0 : Nat} {lcap : Nat} {lef : Nat → Option Nat} {sg : va_W} {p1 : Int32} {K : Option Nat → Nat → Nat → (Nat → Option Nat) → Prop} (hlt : l.stackTraces = false) (h : wJ17_copyOf p1 lcap lef sg K) : SMq3 l D ta yJ17_copyOf cJ17_copyOf 2 (FieldType.array (FieldType.object "java/lang/Object")) 3 [.ref q0, .int p1] ([(q0, .inl (ta 8, lcap, .inr (.inr (.inr (.inr lef)))))] ++ sg) (fun (el : Nat) (lcp : Nat) (lew : Nat → Option Nat) => ([(q0, .inl (ta 8, lcap, .inr (.inr (.inr (.inr lef))))), (el, .inl (ta 8, lcp, .inr (.inr (.inr (.inr lew)))))] ++ sg)) 1 73 K := by
  refine x_stq3 hlt (plainFor_of_name (by decide +kernel)) (Nat.le_of_ble_eq_true rfl) (fun g G hl hD hT Q => ?_)
  subst hl; subst hD; subst hT
  unfold wJ17_copyOf at h
  show X g 2 0 [(0, .ref q0), (1, .int p1)] [] ([(q0, .inl ((xT g) 8, lcap, .inr (.inr (.inr (.inr lef)))))] ++ sg) 0 0
  refine x_aload_n G rfl dJ17_copyOf_0 0 rfl ?_
  refine x_iload_n G rfl dJ17_copyOf_1 1 rfl ?_
  refine x_aload_n G rfl dJ17_copyOf_2 0 rfl ?_
  refine x_getCA G q1326 q2086 q1327 q1355 0 rfl (by decide) (Nat.le_of_ble_eq_true rfl) dJ17_copyOf_3 ?_
  refine x_cSq3 (wc := ([(q0, .inl ((xT g) 8, lcap, .inr (.inr (.inr (.inr lef)))))] ++ sg)) (As := [.ref q0, .int p1, .ref ((xT g) 21)]) (rest := []) G [] ((XSub.tw (tw := sg) (ws' := [] ++ [(q0, .inl ((xT g) 8, lcap, .inr (.inr (.inr (.inr lef)))))]) (XSub.of [0] rfl (by decide))).trans XSub.as) (tJ17_copyOf_2 G.noTraces h) (lw_S q1356 q1357 q107 q1358) cdJ17_copyOf_2 (by decide) (by decide) rfl (Nat.le_of_ble_eq_true rfl) (Nat.le_of_ble_eq_true rfl) (Nat.le_of_ble_eq_true rfl) dJ17_copyOf_6 (fun r_1 el_2 lcp_3 lew_4 h => ?_)
  refine x_ws XSub.as' ?_
  obtain ⟨hq, h⟩ := h
  subst hq
  show X g 2 9 [(0, .ref q0), (1, .int p1)] [.ref el_2] ([(q0, .inl ((xT g) 8, lcap, .inr (.inr (.inr (.inr lef))))), (el_2, .inl ((xT g) 8, lcp_3, .inr (.inr (.inr (.inr lew_4)))))] ++ sg) 1 73
  exact x_retq3 G Q dJ17_copyOf_9 (Or.inr ⟨_, rfl⟩) el_2 lcp_3 lew_4 h XSub.rf (Nat.le_of_ble_eq_true rfl) (Nat.le_of_ble_eq_true rfl)
def wJ2_grow_2_G_J20 (lcap : Nat) (lef : Nat → Option Nat) (sg : va_W) (p0 : Int32) (K : Option Nat → Nat → Nat → (Nat → Option Nat) → Prop) : Int32 → Prop := fun (v2_2 : Int32) => (wJ16_newLength v2_2 (p0 - v2_2) (jishr v2_2 (1 : Int32)) (fun (r_3 : Int32) => (wJ17_copyOf r_3 lcap lef sg (fun (r_4 : Option Nat) (el_5 : Nat) (lcp_6 : Nat) (lew_7 : Nat → Option Nat) => (r_4 = some el_5 ∧ K (some el_5) el_5 lcp_6 lew_7)))))
def wJ2_grow_2_G (p0 : Int32) (lcap : Nat) (lef : Nat → Option Nat) (sg : va_W) (K : Option Nat → Nat → Nat → (Nat → Option Nat) → Prop) : Prop := (∀ x_1 : Int32, x_1 = (Int32.ofNat lcap) → (((0 : Int32) < x_1 → (wJ2_grow_2_G_J20 lcap lef sg p0 K x_1)) ∧ (¬ (0 : Int32) < x_1 → False)))
set_option maxRecDepth 20000 in
theorem kJ2_grow_2_G_J20 {g : XG} {h0 : Nat} {lm : Int32} {h0e : Nat} {lz : Int32} {lcap : Nat} {lef : Nat → Option Nat} {sg : va_W} {p0 : Int32} {K : Option Nat → Nat → Nat → (Nat → Option Nat) → Prop} (G : XO g RJ2 cJ2_grow_2 4 4 1 73) (Q : XQq3 g (FieldType.array (FieldType.object "java/lang/Object")) 1 73 (fun (el : Nat) (lcp : Nat) (lew : Nat → Option Nat) => ([(h0, .inr (2, [.int lm, .ref el, .int lz])), (el, .inl ((xT g) 8, lcp, .inr (.inr (.inr (.inr lew)))))] ++ sg)) K) : ∀ (v2_2 : Int32), wJ2_grow_2_G_J20 lcap lef sg p0 K v2_2 → X g 4 20 [(0, .ref h0), (1, .int p0), (2, .int v2_2)] [] ([(h0, .inr (2, [.int lm, .ref h0e, .int lz])), (h0e, .inl ((xT g) 8, lcap, .inr (.inr (.inr (.inr lef)))))] ++ sg) 0 0 := by
  intro v2_2 h
  unfold wJ2_grow_2_G_J20 at h
  refine x_iload_n G rfl dJ2_grow_2_20 2 rfl ?_
  refine x_iload_n G rfl dJ2_grow_2_21 1 rfl ?_
  refine x_iload_n G rfl dJ2_grow_2_22 2 rfl ?_
  refine x_isub G dJ2_grow_2_23 ?_
  refine x_iload_n G rfl dJ2_grow_2_24 2 rfl ?_
  refine x_iconst (v := (1 : Int32)) G dJ2_grow_2_25 (by decide) ?_
  refine x_ishr G dJ2_grow_2_26 ?_
  refine x_cPi (As := [.int v2_2, .int (p0 - v2_2), .int (jishr v2_2 (1 : Int32))]) (rest := []) G (tJ16_newLength G.noTraces h) (lw_S q1315 q1316 q106 q1317) cdJ16_newLength (by decide) (by decide) rfl (Nat.le_of_ble_eq_true rfl) (Nat.le_of_ble_eq_true rfl) (Nat.le_of_ble_eq_true rfl) dJ2_grow_2_27 (fun r_3 h => ?_)
  refine x_istore_n (lv' := [(3, .int r_3), (0, .ref h0), (1, .int p0), (2, .int v2_2)]) G rfl dJ2_grow_2_30 (by decide) rfl ?_
  refine x_aload_n G rfl dJ2_grow_2_31 1 rfl ?_
  refine x_aload_n G rfl dJ2_grow_2_32 1 rfl ?_
  refine x_get G in_J2 0 rfl rfl 1 (by decide) q147 (fun _ h => h) rfl dJ2_grow_2_33 ?_
  refine x_iload_n G rfl dJ2_grow_2_36 0 rfl ?_
  refine x_cSq3 (wc := ([(h0e, .inl ((xT g) 8, lcap, .inr (.inr (.inr (.inr lef)))))] ++ sg)) (As := [.ref h0e, .int r_3]) (rest := [.ref h0]) G [(h0, .inr (2, [.int lm, .ref h0e, .int lz]))] ((XSub.tw (tw := sg) (ws' := [(h0, .inr (2, [.int lm, .ref h0e, .int lz]))] ++ [(h0e, .inl ((xT g) 8, lcap, .inr (.inr (.inr (.inr lef)))))]) (XSub.of [0, 1] rfl (by decide))).trans XSub.as) (tJ17_copyOf G.noTraces h) (lw_S q1323 q1324 q107 q1325) cdJ17_copyOf (by decide) (by decide) rfl (Nat.le_of_ble_eq_true rfl) (Nat.le_of_ble_eq_true rfl) (Nat.le_of_ble_eq_true rfl) dJ2_grow_2_37 (fun r_4 el_5 lcp_6 lew_7 h => ?_)
  refine x_ws XSub.as' ?_
  obtain ⟨hq, h⟩ := h
  subst hq
  show X g 4 40 [(3, .int r_3), (0, .ref h0), (1, .int p0), (2, .int v2_2)] [.ref el_5, .ref h0] ([(h0, .inr (2, [.int lm, .ref h0e, .int lz])), (h0e, .inl ((xT g) 8, lcap, .inr (.inr (.inr (.inr lef))))), (el_5, .inl ((xT g) 8, lcp_6, .inr (.inr (.inr (.inr lew_7)))))] ++ sg) 1 73
  refine x_dup_x1 G dJ2_grow_2_40 rfl rfl ?_
  refine x_put G in_J2 tyJ2 tyJ2_ok nmJ2 0 rfl rfl 1 (by decide) q147 (fun _ h => h) rfl rfl rfl (Nat.le_of_ble_eq_true rfl) rfl dJ2_grow_2_41 ?_
  show X g 4 44 [(3, .int r_3), (0, .ref h0), (1, .int p0), (2, .int v2_2)] [.ref el_5] ([(h0, .inr (2, [.int lm, .ref el_5, .int lz])), (h0e, .inl ((xT g) 8, lcap, .inr (.inr (.inr (.inr lef))))), (el_5, .inl ((xT g) 8, lcp_6, .inr (.inr (.inr (.inr lew_7)))))] ++ sg) 1 73
  exact x_retq3 G Q dJ2_grow_2_44 (Or.inr ⟨_, rfl⟩) el_5 lcp_6 lew_7 h (XSub.tw (tw := sg) (XSub.of [0, 2] rfl (by decide))) (Nat.le_of_ble_eq_true rfl) (Nat.le_of_ble_eq_true rfl)
set_option maxRecDepth 20000 in
theorem tJ2_grow_2_G {l : Launch} {D : va_G} {ta : Nat → ClassId} {h0 : Nat} {lm : Int32} {h0e : Nat} {lz : Int32} {lcap : Nat} {lef : Nat → Option Nat} {sg : va_W} {p0 : Int32} {K : Option Nat → Nat → Nat → (Nat → Option Nat) → Prop} (hlt : l.stackTraces = false) (h : wJ2_grow_2_G p0 lcap lef sg K) : SMq3 l D ta yJ2_grow_2 cJ2_grow_2 4 (FieldType.array (FieldType.object "java/lang/Object")) 4 [.ref h0, .int p0] ([(h0, .inr (2, [.int lm, .ref h0e, .int lz])), (h0e, .inl (ta 8, lcap, .inr (.inr (.inr (.inr lef)))))] ++ sg) (fun (el : Nat) (lcp : Nat) (lew : Nat → Option Nat) => ([(h0, .inr (2, [.int lm, .ref el, .int lz])), (el, .inl (ta 8, lcp, .inr (.inr (.inr (.inr lew)))))] ++ sg)) 1 73 K := by
  refine x_stq3 hlt (plainFor_of_name (by decide +kernel)) (Nat.le_of_ble_eq_true rfl) (fun g G hl hD hT Q => ?_)
  subst hl; subst hD; subst hT
  unfold wJ2_grow_2_G at h
  show X g 4 0 [(0, .ref h0), (1, .int p0)] [] ([(h0, .inr (2, [.int lm, .ref h0e, .int lz])), (h0e, .inl ((xT g) 8, lcap, .inr (.inr (.inr (.inr lef)))))] ++ sg) 0 0
  refine x_aload_n G rfl dJ2_grow_2_0 0 rfl ?_
  refine x_get G in_J2 0 rfl rfl 1 (by decide) q147 (fun _ h => h) rfl dJ2_grow_2_1 ?_
  refine x_alen G 1 8 rfl rfl rfl dJ2_grow_2_4 ?_
  refine x_topi (fun x_1 ex_1 => ?_)
  replace h := h x_1 ex_1
  refine x_istore_n (lv' := [(2, .int x_1), (0, .ref h0), (1, .int p0)]) G rfl dJ2_grow_2_5 (by decide) rfl ?_
  refine x_iload_n G rfl dJ2_grow_2_6 0 rfl ?_
  refine x_if_gt (tgt := 20) G dJ2_grow_2_7 rfl (fun c => ?_) (fun c => ?_)
  · replace h := h.1 c
    refine x_lv (lv' := [(0, .ref h0), (1, .int p0), (2, .int x_1)]) [1, 2, 0] rfl ?_
    refine kJ2_grow_2_G_J20 G Q  _ h
  · replace h := h.2 c
    exact h.elim
def wJ2_grow_G (lz : Int32) (lcap : Nat) (lef : Nat → Option Nat) (sg : va_W) (K : Option Nat → Nat → Nat → (Nat → Option Nat) → Prop) : Prop := (wJ2_grow_2_G (lz + (1 : Int32)) lcap lef sg (fun (r_1 : Option Nat) (el_2 : Nat) (lcp_3 : Nat) (lew_4 : Nat → Option Nat) => (r_1 = some el_2 ∧ K (some el_2) el_2 lcp_3 lew_4)))
set_option maxRecDepth 20000 in
theorem tJ2_grow_G {l : Launch} {D : va_G} {ta : Nat → ClassId} {h0 : Nat} {lm : Int32} {h0e : Nat} {lz : Int32} {lcap : Nat} {lef : Nat → Option Nat} {sg : va_W} {K : Option Nat → Nat → Nat → (Nat → Option Nat) → Prop} (hlt : l.stackTraces = false) (h : wJ2_grow_G lz lcap lef sg K) : SMq3 l D ta yJ2_grow cJ2_grow 1 (FieldType.array (FieldType.object "java/lang/Object")) 5 [.ref h0] ([(h0, .inr (2, [.int lm, .ref h0e, .int lz])), (h0e, .inl (ta 8, lcap, .inr (.inr (.inr (.inr lef)))))] ++ sg) (fun (el : Nat) (lcp : Nat) (lew : Nat → Option Nat) => ([(h0, .inr (2, [.int lm, .ref el, .int lz])), (el, .inl (ta 8, lcp, .inr (.inr (.inr (.inr lew)))))] ++ sg)) 1 73 K := by
  refine x_stq3 hlt (plainFor_of_name (by decide +kernel)) (Nat.le_of_ble_eq_true rfl) (fun g G hl hD hT Q => ?_)
  subst hl; subst hD; subst hT
  unfold wJ2_grow_G at h
  show X g 1 0 [(0, .ref h0)] [] ([(h0, .inr (2, [.int lm, .ref h0e, .int lz])), (h0e, .inl ((xT g) 8, lcap, .inr (.inr (.inr (.inr lef)))))] ++ sg) 0 0
  refine x_aload_n G rfl dJ2_grow_0 0 rfl ?_
  refine x_aload_n G rfl dJ2_grow_1 0 rfl ?_
  refine x_get G in_J2 0 rfl rfl 2 (by decide) q148 (fun _ h => h) rfl dJ2_grow_2 ?_
  refine x_iconst (v := (1 : Int32)) G dJ2_grow_5 (by decide) ?_
  refine x_iadd G dJ2_grow_6 ?_
  refine x_cVq3 (wc := ([(h0, .inr (2, [.int lm, .ref h0e, .int lz])), (h0e, .inl ((xT g) 8, lcap, .inr (.inr (.inr (.inr lef)))))] ++ sg)) (As := [.int (lz + (1 : Int32))]) (rest := []) G [] ((XSub.tw (tw := sg) (ws' := [] ++ [(h0, .inr (2, [.int lm, .ref h0e, .int lz])), (h0e, .inl ((xT g) 8, lcap, .inr (.inr (.inr (.inr lef)))))]) (XSub.of [0, 1] rfl (by decide))).trans XSub.as) (tJ2_grow_2_G G.noTraces h) (lw_V q1311 q1313 qs14 q69 q1314) cdJ2_grow_2 2 0 rfl rfl rfl (by decide) (by decide) rfl (Nat.le_of_ble_eq_true rfl) (Nat.le_of_ble_eq_true rfl) (Nat.le_of_ble_eq_true rfl) dJ2_grow_7 (fun r_1 el_2 lcp_3 lew_4 h => ?_)
  refine x_ws XSub.as' ?_
  obtain ⟨hq, h⟩ := h
  subst hq
  show X g 1 10 [(0, .ref h0)] [.ref el_2] ([(h0, .inr (2, [.int lm, .ref el_2, .int lz])), (el_2, .inl ((xT g) 8, lcp_3, .inr (.inr (.inr (.inr lew_4)))))] ++ sg) 1 73
  exact x_retq3 G Q dJ2_grow_10 (Or.inr ⟨_, rfl⟩) el_2 lcp_3 lew_4 h XSub.rf (Nat.le_of_ble_eq_true rfl) (Nat.le_of_ble_eq_true rfl)
def wJ2_add_2_G (p2 : Int32) (h0e : Nat) (lz : Int32) (lcap : Nat) (lef : Nat → Option Nat) (q0 : Nat) (sg : va_W) (K : Nat → Int32 → Nat → (Nat → Option Nat) → Prop) : Prop := ((¬ p2 = (Int32.ofNat lcap) → (vp_in p2 lcap ∧ (∀ f_1 : Nat → Option Nat, f_1 = va_up lef p2.toNatClampNeg (some q0) → (∀ x_2 : Int32, x_2 = (p2 + (1 : Int32)) → K h0e x_2 lcap f_1)))) ∧ (p2 = (Int32.ofNat lcap) → (wJ2_grow_G lz lcap lef sg (fun (r_3 : Option Nat) (el_4 : Nat) (lcp_5 : Nat) (lew_6 : Nat → Option Nat) => (r_3 = some el_4 ∧ (vp_in p2 lcp_5 ∧ (∀ f_7 : Nat → Option Nat, f_7 = va_up lew_6 p2.toNatClampNeg (some q0) → (∀ x_8 : Int32, x_8 = (p2 + (1 : Int32)) → K el_4 x_8 lcp_5 f_7))))))))
set_option maxRecDepth 20000 in
theorem tJ2_add_2_G {l : Launch} {D : va_G} {ta : Nat → ClassId} {h0 : Nat} {lm : Int32} {h0e : Nat} {lz : Int32} {lcap : Nat} {lef : Nat → Option Nat} {q0 : Nat} {tw : Int32} {ty : Int32} {q0l : Nat} {q0r : Nat} {q0s : Nat} {tc : Int32} {tt : UInt64} {sg : va_W} {p2 : Int32} {K : Nat → Int32 → Nat → (Nat → Option Nat) → Prop} (hlt : l.stackTraces = false) (h : wJ2_add_2_G p2 h0e lz lcap lef q0 sg K) : SMv4 l D ta yJ2_add_2 cJ2_add_2 4 6 [.ref h0, .ref q0, .ref h0e, .int p2] ([(h0, .inr (2, [.int lm, .ref h0e, .int lz])), (h0e, .inl (ta 8, lcap, .inr (.inr (.inr (.inr lef))))), (q0, .inr (7, [.int tw, .int ty, .ref q0l, .ref q0r, .ref q0s, .int tc, .double tt]))] ++ sg) (fun (el : Nat) (lz' : Int32) (lcp : Nat) (lew : Nat → Option Nat) => ([(h0, .inr (2, [.int lm, .ref el, .int lz'])), (el, .inl (ta 8, lcp, .inr (.inr (.inr (.inr lew))))), (q0, .inr (7, [.int tw, .int ty, .ref q0l, .ref q0r, .ref q0s, .int tc, .double tt]))] ++ sg)) 1 73 K := by
  refine x_stv4 hlt (plainFor_of_name (by decide +kernel)) (Nat.le_of_ble_eq_true rfl) (fun g G hl hD hT Q => ?_)
  subst hl; subst hD; subst hT
  unfold wJ2_add_2_G at h
  show X g 4 0 [(0, .ref h0), (1, .ref q0), (2, .ref h0e), (3, .int p2)] [] ([(h0, .inr (2, [.int lm, .ref h0e, .int lz])), (h0e, .inl ((xT g) 8, lcap, .inr (.inr (.inr (.inr lef))))), (q0, .inr (7, [.int tw, .int ty, .ref q0l, .ref q0r, .ref q0s, .int tc, .double tt]))] ++ sg) 0 0
  refine x_iload_n G rfl dJ2_add_2_0 3 rfl ?_
  refine x_aload_n G rfl dJ2_add_2_1 2 rfl ?_
  refine x_alen G 1 8 rfl rfl rfl dJ2_add_2_2 ?_
  refine x_icmp_ne (tgt := 11) G dJ2_add_2_3 rfl (fun c => ?_) (fun c => ?_)
  · replace h := h.1 c
    refine x_aload_n G rfl dJ2_add_2_11 2 rfl ?_
    refine x_iload_n G rfl dJ2_add_2_12 3 rfl ?_
    refine x_aload_n G rfl dJ2_add_2_13 1 rfl ?_
    obtain ⟨hz, h⟩ := h
    obtain ⟨f_1, ef_1⟩ : ∃ z : Nat → Option Nat, z = va_up lef p2.toNatClampNeg (some q0) := ⟨_, rfl⟩
    replace h := h f_1 ef_1
    refine x_aast G 1 8 2 rfl rfl (by decide) rfl rfl hz (by rw [← ef_1]) dJ2_add_2_14 ?_
    show X g 4 15 [(0, .ref h0), (1, .ref q0), (2, .ref h0e), (3, .int p2)] [] ([(h0, .inr (2, [.int lm, .ref h0e, .int lz])), (h0e, .inl ((xT g) 8, lcap, .inr (.inr (.inr (.inr f_1))))), (q0, .inr (7, [.int tw, .int ty, .ref q0l, .ref q0r, .ref q0s, .int tc, .double tt]))] ++ sg) 0 0
    refine x_aload_n G rfl dJ2_add_2_15 0 rfl ?_
    refine x_iload_n G rfl dJ2_add_2_16 3 rfl ?_
    refine x_iconst (v := (1 : Int32)) G dJ2_add_2_17 (by decide) ?_
    refine x_iadd G dJ2_add_2_18 ?_
    refine x_topi (fun x_2 ex_2 => ?_)
    replace h := h x_2 ex_2
    refine x_put G in_J2 tyJ2 tyJ2_ok nmJ2 0 rfl rfl 2 (by decide) q148 (fun _ h => h) rfl rfl rfl (Nat.le_of_ble_eq_true rfl) rfl dJ2_add_2_19 ?_
    show X g 4 22 [(0, .ref h0), (1, .ref q0), (2, .ref h0e), (3, .int p2)] [] ([(h0, .inr (2, [.int lm, .ref h0e, .int x_2])), (h0e, .inl ((xT g) 8, lcap, .inr (.inr (.inr (.inr f_1))))), (q0, .inr (7, [.int tw, .int ty, .ref q0l, .ref q0r, .ref q0s, .int tc, .double tt]))] ++ sg) 0 0
    exact x_retv4 G Q dJ2_add_2_22 h0e x_2 lcap f_1 h XSub.rf (Nat.le_of_ble_eq_true rfl) (Nat.le_of_ble_eq_true rfl)
  · replace h := h.2 c
    refine x_aload_n G rfl dJ2_add_2_6 0 rfl ?_
    refine x_cVq3 (wc := ([(h0, .inr (2, [.int lm, .ref h0e, .int lz])), (h0e, .inl ((xT g) 8, lcap, .inr (.inr (.inr (.inr lef)))))] ++ sg)) (As := []) (rest := []) G [(q0, .inr (7, [.int tw, .int ty, .ref q0l, .ref q0r, .ref q0s, .int tc, .double tt]))] ((XSub.tw (tw := sg) (ws' := [(q0, .inr (7, [.int tw, .int ty, .ref q0l, .ref q0r, .ref q0s, .int tc, .double tt]))] ++ [(h0, .inr (2, [.int lm, .ref h0e, .int lz])), (h0e, .inl ((xT g) 8, lcap, .inr (.inr (.inr (.inr lef)))))]) (XSub.of [2, 0, 1] rfl (by decide))).trans XSub.as) (tJ2_grow_G G.noTraces h) (lw_V q1307 q1309 qs13 q69 q1310) cdJ2_grow 2 0 rfl rfl rfl (by decide) (by decide) rfl (Nat.le_of_ble_eq_true rfl) (Nat.le_of_ble_eq_true rfl) (Nat.le_of_ble_eq_true rfl) dJ2_add_2_7 (fun r_3 el_4 lcp_5 lew_6 h => ?_)
    refine x_ws XSub.as' ?_
    obtain ⟨hq, h⟩ := h
    subst hq
    show X g 4 10 [(0, .ref h0), (1, .ref q0), (2, .ref h0e), (3, .int p2)] [.ref el_4] ([(q0, .inr (7, [.int tw, .int ty, .ref q0l, .ref q0r, .ref q0s, .int tc, .double tt])), (h0, .inr (2, [.int lm, .ref el_4, .int lz])), (el_4, .inl ((xT g) 8, lcp_5, .inr (.inr (.inr (.inr lew_6)))))] ++ sg) 1 73
    refine x_astore_n (lv' := [(2, .ref el_4), (0, .ref h0), (1, .ref q0), (3, .int p2)]) G rfl dJ2_add_2_10 (by decide) rfl ?_
    refine x_aload_n G rfl dJ2_add_2_11 0 rfl ?_
    refine x_iload_n G rfl dJ2_add_2_12 3 rfl ?_
    refine x_aload_n G rfl dJ2_add_2_13 2 rfl ?_
    obtain ⟨hz, h⟩ := h
    obtain ⟨f_7, ef_7⟩ : ∃ z : Nat → Option Nat, z = va_up lew_6 p2.toNatClampNeg (some q0) := ⟨_, rfl⟩
    replace h := h f_7 ef_7
    refine x_aast G 2 8 0 rfl rfl (by decide) rfl rfl hz (by rw [← ef_7]) dJ2_add_2_14 ?_
    show X g 4 15 [(2, .ref el_4), (0, .ref h0), (1, .ref q0), (3, .int p2)] [] ([(q0, .inr (7, [.int tw, .int ty, .ref q0l, .ref q0r, .ref q0s, .int tc, .double tt])), (h0, .inr (2, [.int lm, .ref el_4, .int lz])), (el_4, .inl ((xT g) 8, lcp_5, .inr (.inr (.inr (.inr f_7)))))] ++ sg) 1 73
    refine x_aload_n G rfl dJ2_add_2_15 1 rfl ?_
    refine x_iload_n G rfl dJ2_add_2_16 3 rfl ?_
    refine x_iconst (v := (1 : Int32)) G dJ2_add_2_17 (by decide) ?_
    refine x_iadd G dJ2_add_2_18 ?_
    refine x_topi (fun x_8 ex_8 => ?_)
    replace h := h x_8 ex_8
    refine x_put G in_J2 tyJ2 tyJ2_ok nmJ2 1 rfl rfl 2 (by decide) q148 (fun _ h => h) rfl rfl rfl (Nat.le_of_ble_eq_true rfl) rfl dJ2_add_2_19 ?_
    show X g 4 22 [(2, .ref el_4), (0, .ref h0), (1, .ref q0), (3, .int p2)] [] ([(q0, .inr (7, [.int tw, .int ty, .ref q0l, .ref q0r, .ref q0s, .int tc, .double tt])), (h0, .inr (2, [.int lm, .ref el_4, .int x_8])), (el_4, .inl ((xT g) 8, lcp_5, .inr (.inr (.inr (.inr f_7)))))] ++ sg) 1 73
    exact x_retv4 G Q dJ2_add_2_22 el_4 x_8 lcp_5 f_7 h (XSub.tw (tw := sg) (XSub.of [1, 2, 0] rfl (by decide))) (Nat.le_of_ble_eq_true rfl) (Nat.le_of_ble_eq_true rfl)
def wJ2_add_G (lm : Int32) (h0e : Nat) (lz : Int32) (lcap : Nat) (lef : Nat → Option Nat) (q0 : Nat) (sg : va_W) (K : Int32 → Int32 → Nat → Int32 → Nat → (Nat → Option Nat) → Prop) : Prop := (∀ x_1 : Int32, x_1 = (lm + (1 : Int32)) → (wJ2_add_2_G lz h0e lz lcap lef q0 sg (fun (el_2 : Nat) (lz_3 : Int32) (lcp_4 : Nat) (lew_5 : Nat → Option Nat) => K (1 : Int32) x_1 el_2 lz_3 lcp_4 lew_5)))
set_option maxRecDepth 20000 in
theorem tJ2_add_G {l : Launch} {D : va_G} {ta : Nat → ClassId} {h0 : Nat} {lm : Int32} {h0e : Nat} {lz : Int32} {lcap : Nat} {lef : Nat → Option Nat} {q0 : Nat} {tw : Int32} {ty : Int32} {q0l : Nat} {q0r : Nat} {q0s : Nat} {tc : Int32} {tt : UInt64} {sg : va_W} {K : Int32 → Int32 → Nat → Int32 → Nat → (Nat → Option Nat) → Prop} (hlt : l.stackTraces = false) (h : wJ2_add_G lm h0e lz lcap lef q0 sg K) : SMi5 l D ta yJ2_add cJ2_add 2 FieldType.boolean 7 [.ref h0, .ref q0] ([(h0, .inr (2, [.int lm, .ref h0e, .int lz])), (h0e, .inl (ta 8, lcap, .inr (.inr (.inr (.inr lef))))), (q0, .inr (7, [.int tw, .int ty, .ref q0l, .ref q0r, .ref q0s, .int tc, .double tt]))] ++ sg) (fun (lm' : Int32) (el : Nat) (lz' : Int32) (lcp : Nat) (lew : Nat → Option Nat) => ([(h0, .inr (2, [.int lm', .ref el, .int lz'])), (el, .inl (ta 8, lcp, .inr (.inr (.inr (.inr lew))))), (q0, .inr (7, [.int tw, .int ty, .ref q0l, .ref q0r, .ref q0s, .int tc, .double tt]))] ++ sg)) 1 73 K := by
  refine x_sti5 hlt (plainFor_of_name (by decide +kernel)) (Nat.le_of_ble_eq_true rfl) (fun g G hl hD hT Q => ?_)
  subst hl; subst hD; subst hT
  unfold wJ2_add_G at h
  show X g 2 0 [(0, .ref h0), (1, .ref q0)] [] ([(h0, .inr (2, [.int lm, .ref h0e, .int lz])), (h0e, .inl ((xT g) 8, lcap, .inr (.inr (.inr (.inr lef))))), (q0, .inr (7, [.int tw, .int ty, .ref q0l, .ref q0r, .ref q0s, .int tc, .double tt]))] ++ sg) 0 0
  refine x_aload_n G rfl dJ2_add_0 0 rfl ?_
  refine x_dup G dJ2_add_1 rfl ?_
  refine x_get G in_J2 0 rfl rfl 0 (by decide) q150 (fun x9 h => u_same (G.hts _ q151) x9 h) rfl dJ2_add_2 ?_
  refine x_iconst (v := (1 : Int32)) G dJ2_add_5 (by decide) ?_
  refine x_iadd G dJ2_add_6 ?_
  refine x_topi (fun x_1 ex_1 => ?_)
  replace h := h x_1 ex_1
  refine x_put G in_J2 tyJ2 tyJ2_ok nmJ2 0 rfl rfl 0 (by decide) q150 (fun x9 h => u_same (G.hts _ q151) x9 h) rfl rfl rfl (Nat.le_of_ble_eq_true rfl) rfl dJ2_add_7 ?_
  show X g 2 10 [(0, .ref h0), (1, .ref q0)] [] ([(h0, .inr (2, [.int x_1, .ref h0e, .int lz])), (h0e, .inl ((xT g) 8, lcap, .inr (.inr (.inr (.inr lef))))), (q0, .inr (7, [.int tw, .int ty, .ref q0l, .ref q0r, .ref q0s, .int tc, .double tt]))] ++ sg) 0 0
  refine x_aload_n G rfl dJ2_add_10 0 rfl ?_
  refine x_aload_n G rfl dJ2_add_11 1 rfl ?_
  refine x_aload_n G rfl dJ2_add_12 0 rfl ?_
  refine x_get G in_J2 0 rfl rfl 1 (by decide) q147 (fun _ h => h) rfl dJ2_add_13 ?_
  refine x_aload_n G rfl dJ2_add_16 0 rfl ?_
  refine x_get G in_J2 0 rfl rfl 2 (by decide) q148 (fun _ h => h) rfl dJ2_add_17 ?_
  refine x_cVv4 (wc := ([(h0, .inr (2, [.int x_1, .ref h0e, .int lz])), (h0e, .inl ((xT g) 8, lcap, .inr (.inr (.inr (.inr lef))))), (q0, .inr (7, [.int tw, .int ty, .ref q0l, .ref q0r, .ref q0s, .int tc, .double tt]))] ++ sg)) (As := [.ref q0, .ref h0e, .int lz]) (rest := []) G [] ((XSub.tw (tw := sg) (ws' := [] ++ [(h0, .inr (2, [.int x_1, .ref h0e, .int lz])), (h0e, .inl ((xT g) 8, lcap, .inr (.inr (.inr (.inr lef))))), (q0, .inr (7, [.int tw, .int ty, .ref q0l, .ref q0r, .ref q0s, .int tc, .double tt]))]) (XSub.of [0, 1, 2] rfl (by decide))).trans XSub.as) (tJ2_add_2_G G.noTraces h) (lw_V q1303 q1305 qs12 q69 q1306) cdJ2_add_2 2 0 rfl rfl rfl (by decide) (by decide) rfl (Nat.le_of_ble_eq_true rfl) (Nat.le_of_ble_eq_true rfl) (Nat.le_of_ble_eq_true rfl) dJ2_add_20 (fun el_2 lz_3 lcp_4 lew_5 h => ?_)
  refine x_ws XSub.as' ?_
  show X g 2 23 [(0, .ref h0), (1, .ref q0)] [] ([(h0, .inr (2, [.int x_1, .ref el_2, .int lz_3])), (el_2, .inl ((xT g) 8, lcp_4, .inr (.inr (.inr (.inr lew_5))))), (q0, .inr (7, [.int tw, .int ty, .ref q0l, .ref q0r, .ref q0s, .int tc, .double tt]))] ++ sg) 1 73
  refine x_iconst (v := (1 : Int32)) G dJ2_add_23 (by decide) ?_
  exact x_reti5 G Q dJ2_add_24 rfl x_1 el_2 lz_3 lcp_4 lew_5 h XSub.rf (Nat.le_of_ble_eq_true rfl) (Nat.le_of_ble_eq_true rfl)
theorem cdX25_init : yX25_init.cls = RX25 ∧ yX25_init.cls ≠ "java/lang/invoke/MethodHandle" ∧ yX25_init.cls ≠ "java/lang/invoke/VarHandle" ∧ (parseMethodDescriptor yX25_init.desc).map (fun d => d.parameters.length) = some 2 := by decide +kernel
def wX25_init (p1 : UInt64) (ln : Nat) (K : Int32 → Nat → UInt64 → Prop) : Prop := (∀ a_1 : Nat, (wX4_length ln (fun (r_2 : Int32) => K r_2 a_1 p1)))
set_option maxRecDepth 20000 in
theorem tX25_init {l : Launch} {D : va_G} {ta : Nat → ClassId} {h0 : Nat} {on : Int32} {ole : UInt64} {ogr : UInt64} {oan : Int32} {owa : UInt64} {ore : Int32} {q0 : Nat} {kd : Bool} {q0a : Nat} {q0d : Nat} {q0g : Nat} {gc : Int32} {q0m : Nat} {ln : Nat} {acc : Nat → Int32} {p1 : UInt64} {K : Int32 → Nat → UInt64 → Prop} (hlt : l.stackTraces = false) (h : wX25_init p1 ln K) : SMv3 l D ta yX25_init cX25_init 4 2 [.ref h0, .ref q0, .double p1] [(h0, .inr (21, [.null, .int on, .null, .double ole, .double ogr, .int oan, .double owa, .int ore])), (q0, .inr (lci kd, [.ref q0a, .ref q0d, .ref q0g, .int gc, .ref q0m])), (q0a, .inl (ta 1, ln, .inl acc))] (fun (on' : Int32) (oi : Nat) (owa' : UInt64) => [(h0, .inr (21, [.ref q0, .int on', .ref oi, .double ole, .double ogr, .int oan, .double owa', .int ore])), (oi, .inl (ta 0, 7, .inl (fun _ => 0))), (q0, .inr (lci kd, [.ref q0a, .ref q0d, .ref q0g, .int gc, .ref q0m])), (q0a, .inl (ta 1, ln, .inl acc))]) 1 7 K := by
  refine x_stI3 hlt (plainFor_of_name (by decide +kernel)) (Nat.le_of_ble_eq_true rfl) (fun g G hl hD hT hN Q => ?_)
  subst hl; subst hD; subst hT
  unfold wX25_init at h
  show X g 4 0 [(0, .ref h0), (1, .ref q0), (2, .double p1)] [] [(h0, .inr (21, [.null, .int on, .null, .double ole, .double ogr, .int oan, .double owa, .int ore])), (q0, .inr (lci kd, [.ref q0a, .ref q0d, .ref q0g, .int gc, .ref q0m])), (q0a, .inl ((xT g) 1, ln, .inl acc))] 0 0
  refine x_aload_n G rfl dX25_init_0 0 rfl ?_
  refine x_objInit G q1434 q118 q119 (by decide) dX25_init_1 ?_
  refine x_aload_n G rfl dX25_init_4 0 rfl ?_
  refine x_bipush (v := (7 : Int32)) G dX25_init_5 (by decide) ?_
  refine x_newa (atype := .boolean) (ty := .boolean) (N' := 7) (t0 := 0) (x0 := .inl (fun _ => 0)) G q1095 rfl rfl rfl (fun _ => rfl) (by decide) (by decide) (by decide) (Nat.le_of_ble_eq_true rfl) (Nat.le_of_ble_eq_true rfl) dX25_init_7 (fun a_1 => ?_)
  replace h := h a_1
  show X g 4 9 [(0, .ref h0), (1, .ref q0), (2, .double p1)] [.ref a_1, .ref h0] [(h0, .inr (21, [.null, .int on, .null, .double ole, .double ogr, .int oan, .double owa, .int ore])), (q0, .inr (lci kd, [.ref q0a, .ref q0d, .ref q0g, .int gc, .ref q0m])), (q0a, .inl ((xT g) 1, ln, .inl acc)), (a_1, .inl ((xT g) 0, 7, .inl (fun _ => 0)))] 1 7
  refine x_putF G hN in_X25 tyX25 tyX25_ok nmX25 0 rfl rfl 2 (by decide) q1438 (fun _ h => h) rfl rfl rfl rfl (Nat.le_of_ble_eq_true rfl) rfl dX25_init_9 ?_
  show X g 4 12 [(0, .ref h0), (1, .ref q0), (2, .double p1)] [] [(h0, .inr (21, [.null, .int on, .ref a_1, .double ole, .double ogr, .int oan, .double owa, .int ore])), (q0, .inr (lci kd, [.ref q0a, .ref q0d, .ref q0g, .int gc, .ref q0m])), (q0a, .inl ((xT g) 1, ln, .inl acc)), (a_1, .inl ((xT g) 0, 7, .inl (fun _ => 0)))] 1 7
  refine x_aload_n G rfl dX25_init_12 0 rfl ?_
  refine x_aload_n G rfl dX25_init_13 1 rfl ?_
  refine x_putF G hN in_X25 tyX25 tyX25_ok nmX25 0 rfl rfl 0 (by decide) q1436 (fun _ h => h) rfl rfl rfl rfl (Nat.le_of_ble_eq_true rfl) rfl dX25_init_14 ?_
  show X g 4 17 [(0, .ref h0), (1, .ref q0), (2, .double p1)] [] [(h0, .inr (21, [.ref q0, .int on, .ref a_1, .double ole, .double ogr, .int oan, .double owa, .int ore])), (q0, .inr (lci kd, [.ref q0a, .ref q0d, .ref q0g, .int gc, .ref q0m])), (q0a, .inl ((xT g) 1, ln, .inl acc)), (a_1, .inl ((xT g) 0, 7, .inl (fun _ => 0)))] 1 7
  refine x_aload_n G rfl dX25_init_17 0 rfl ?_
  refine x_aload_n G rfl dX25_init_18 1 rfl ?_
  refine x_cUi0 (C := lnm kd) (owner := "RoundingAuditor$Ledger") (x := ⟨"RoundingAuditor$Ledger", "length", "()I"⟩) (wc := [(q0, .inr (lci kd, [.ref q0a, .ref q0d, .ref q0g, .int gc, .ref q0m])), (q0a, .inl ((xT g) 1, ln, .inl acc))]) (As := []) (rest := [.ref h0]) G [(h0, .inr (21, [.ref q0, .int on, .ref a_1, .double ole, .double ogr, .int oan, .double owa, .int ore])), (a_1, .inl ((xT g) 0, 7, .inl (fun _ => 0)))] (XSub.of [0, 3, 1, 2] rfl (by decide)) (tX4_length G.noTraces h) q1435 q663 (va_Decl.of (G.hts _ q662) (G.hts _ q666)) (sL_length kd) q662 q78 q666 cdL_length (lci kd) 1 (lci_at kd) rfl rfl (by decide) (by decide) rfl (Nat.le_of_ble_eq_true rfl) (Nat.le_of_ble_eq_true rfl) (Nat.le_of_ble_eq_true rfl) dX25_init_19 (fun r_2 h => ?_)
  show X g 4 22 [(0, .ref h0), (1, .ref q0), (2, .double p1)] [.int r_2, .ref h0] [(h0, .inr (21, [.ref q0, .int on, .ref a_1, .double ole, .double ogr, .int oan, .double owa, .int ore])), (a_1, .inl ((xT g) 0, 7, .inl (fun _ => 0))), (q0, .inr (lci kd, [.ref q0a, .ref q0d, .ref q0g, .int gc, .ref q0m])), (q0a, .inl ((xT g) 1, ln, .inl acc))] 1 7
  refine x_putF G hN in_X25 tyX25 tyX25_ok nmX25 0 rfl rfl 1 (by decide) q1437 (fun _ h => h) rfl rfl rfl rfl (Nat.le_of_ble_eq_true rfl) rfl dX25_init_22 ?_
  show X g 4 25 [(0, .ref h0), (1, .ref q0), (2, .double p1)] [] [(h0, .inr (21, [.ref q0, .int r_2, .ref a_1, .double ole, .double ogr, .int oan, .double owa, .int ore])), (a_1, .inl ((xT g) 0, 7, .inl (fun _ => 0))), (q0, .inr (lci kd, [.ref q0a, .ref q0d, .ref q0g, .int gc, .ref q0m])), (q0a, .inl ((xT g) 1, ln, .inl acc))] 1 7
  refine x_aload_n G rfl dX25_init_25 0 rfl ?_
  refine x_dload_n G rfl dX25_init_26 2 rfl ?_
  refine x_putF G hN in_X25 tyX25 tyX25_ok nmX25 0 rfl rfl 6 (by decide) q1444 (fun _ h => h) rfl rfl rfl rfl (Nat.le_of_ble_eq_true rfl) rfl dX25_init_27 ?_
  show X g 4 30 [(0, .ref h0), (1, .ref q0), (2, .double p1)] [] [(h0, .inr (21, [.ref q0, .int r_2, .ref a_1, .double ole, .double ogr, .int oan, .double p1, .int ore])), (a_1, .inl ((xT g) 0, 7, .inl (fun _ => 0))), (q0, .inr (lci kd, [.ref q0a, .ref q0d, .ref q0g, .int gc, .ref q0m])), (q0a, .inl ((xT g) 1, ln, .inl acc))] 1 7
  exact x_retv3 G Q dX25_init_30 r_2 a_1 p1 h XSub.rf (Nat.le_of_ble_eq_true rfl) (Nat.le_of_ble_eq_true rfl)
theorem cdX25_go : yX25_go.cls = RX25 ∧ yX25_go.cls ≠ "java/lang/invoke/MethodHandle" ∧ yX25_go.cls ≠ "java/lang/invoke/VarHandle" ∧ (parseMethodDescriptor yX25_go.desc).map (fun d => d.parameters.length) = some 2 := by decide +kernel
def wX25_go_L86 (on : Int32) (owa : UInt64) (kd : Bool) (ln : Nat) (am : Nat → UInt64) (p0 : Int32) (p1 : UInt64) (REC : Int32 → UInt64 → Int32 → UInt64 → UInt64 → Int32 → UInt64 → Int32 → (Nat → Int32) → Bool → Nat → (Nat → UInt64) → (UInt64 → UInt64 → Int32 → Int32 → (Nat → Int32) → Prop) → Prop) (X167 : Int32 → UInt64 → UInt64 → Int32 → Int32 → (Nat → Int32) → Prop) : Nat → Int32 → UInt64 → UInt64 → Int32 → Int32 → (Nat → Int32) → Prop
  | 0, _, _, _, _, _, _ => False
  | n + 1, v4_1, ole_2, ogr_3, oan_4, ore_5, ois_6 => ((on ≤ v4_1 → X167 v4_1 ole_2 ogr_3 oan_4 ore_5 ois_6) ∧ (¬ on ≤ v4_1 → (vp_in v4_1 7 ∧ ((¬ (ois_6 v4_1.toNatClampNeg) = (0 : Int32) → (∀ x_7 : Int32, x_7 = (v4_1 + (1 : Int32)) → wX25_go_L86 on owa kd ln am p0 p1 REC X167 n x_7 ole_2 ogr_3 oan_4 ore_5 ois_6)) ∧ ((ois_6 v4_1.toNatClampNeg) = (0 : Int32) → (vp_in v4_1 7 ∧ (∀ f_8 : Nat → Int32, f_8 = upd ois_6 v4_1.toNatClampNeg (vp_nar .boolean (1 : Int32)) → ((¬ p0 = (0 : Int32) → (wL_at kd v4_1 ln am (fun (r_9 : UInt64) => (wL_add kd p1 r_9 (fun (r_10 : UInt64) => (REC (p0 + (1 : Int32)) r_10 on ole_2 ogr_3 oan_4 owa ore_5 f_8 kd ln am (fun (ole_11 : UInt64) (ogr_12 : UInt64) (oan_13 : Int32) (ore_14 : Int32) (ois_15 : Nat → Int32) => (vp_in v4_1 7 ∧ (∀ f_16 : Nat → Int32, f_16 = upd ois_15 v4_1.toNatClampNeg (vp_nar .boolean (0 : Int32)) → (∀ x_17 : Int32, x_17 = (v4_1 + (1 : Int32)) → wX25_go_L86 on owa kd ln am p0 p1 REC X167 n x_17 ole_11 ogr_12 oan_13 ore_14 f_16)))))))))) ∧ (p0 = (0 : Int32) → (wL_at kd v4_1 ln am (fun (r_18 : UInt64) => (REC (p0 + (1 : Int32)) r_18 on ole_2 ogr_3 oan_4 owa ore_5 f_8 kd ln am (fun (ole_19 : UInt64) (ogr_20 : UInt64) (oan_21 : Int32) (ore_22 : Int32) (ois_23 : Nat → Int32) => (vp_in v4_1 7 ∧ (∀ f_24 : Nat → Int32, f_24 = upd ois_23 v4_1.toNatClampNeg (vp_nar .boolean (0 : Int32)) → (∀ x_25 : Int32, x_25 = (v4_1 + (1 : Int32)) → wX25_go_L86 on owa kd ln am p0 p1 REC X167 n x_25 ole_19 ogr_20 oan_21 ore_22 f_24))))))))))))))))
def wX25_go_J51 (owa : UInt64) (ore : Int32) (ois : Nat → Int32) (p1 : UInt64) (K : UInt64 → UInt64 → Int32 → Int32 → (Nat → Int32) → Prop) : UInt64 → UInt64 → Prop := fun (s_38 : UInt64) (ole_39 : UInt64) => ((¬ deq p1 owa → (∀ x_40 : Int32, x_40 = (ore ||| (0 : Int32)) → (isB x_40 ∧ K ole_39 s_38 (1 : Int32) x_40 ois))) ∧ (deq p1 owa → (∀ x_41 : Int32, x_41 = (ore ||| (1 : Int32)) → (isB x_41 ∧ K ole_39 s_38 (1 : Int32) x_41 ois))))
def wX25_go : Nat → Int32 → UInt64 → Int32 → UInt64 → UInt64 → Int32 → UInt64 → Int32 → (Nat → Int32) → Bool → Nat → (Nat → UInt64) → (UInt64 → UInt64 → Int32 → Int32 → (Nat → Int32) → Prop) → Prop
  | 0, _, _, _, _, _, _, _, _, _, _, _, _, _ => False
  | rd + 1, p0, p1, on, ole, ogr, oan, owa, ore, ois, kd, ln, am, K => ((¬ p0 = on → (∃ m86 : Nat, wX25_go_L86 on owa kd ln am p0 p1 (wX25_go rd) (fun (v4_32 : Int32) (ole_33 : UInt64) (ogr_34 : UInt64) (oan_35 : Int32) (ore_36 : Int32) (ois_37 : Nat → Int32) => K ole_33 ogr_34 oan_35 ore_36 ois_37) m86 (0 : Int32) ole ogr oan ore ois)) ∧ (p0 = on → ((oan = (0 : Int32) → ((oan = (0 : Int32) → (wX25_go_J51 owa ore ois p1 K p1 p1)) ∧ (¬ oan = (0 : Int32) → (FP.dIsNaN ogr = false ∧ (FP.dIsNaN p1 = false ∧ (wX25_go_J51 owa ore ois p1 K (mMax ogr p1) p1)))))) ∧ (¬ oan = (0 : Int32) → (FP.dIsNaN ole = false ∧ (FP.dIsNaN p1 = false ∧ (∀ r_42 : UInt64, r_42 = (mMin ole p1) → ((oan = (0 : Int32) → (wX25_go_J51 owa ore ois p1 K p1 r_42)) ∧ (¬ oan = (0 : Int32) → (FP.dIsNaN ogr = false ∧ (FP.dIsNaN p1 = false ∧ (wX25_go_J51 owa ore ois p1 K (mMax ogr p1) r_42))))))))))))
set_option maxRecDepth 20000 in
theorem kX25_go_L86 {g : XG} {rd : Nat} {h0 : Nat} {u0 : Nat} {on : Int32} {oi : Nat} {owa : UInt64} {kd : Bool} {u0a : Nat} {u0d : Nat} {u0g : Nat} {gc : Int32} {u0m : Nat} {ln : Nat} {am : Nat → UInt64} {p0 : Int32} {p1 : UInt64} {REC : Int32 → UInt64 → Int32 → UInt64 → UInt64 → Int32 → UInt64 → Int32 → (Nat → Int32) → Bool → Nat → (Nat → UInt64) → (UInt64 → UInt64 → Int32 → Int32 → (Nat → Int32) → Prop) → Prop} {X167 : Int32 → UInt64 → UInt64 → Int32 → Int32 → (Nat → Int32) → Prop} (G : XO g RX25 cX25_go 5 (rd + 1 + 8) 0 0) (hREC : ∀ {h0 : Nat} {u0 : Nat} {on : Int32} {oi : Nat} {ole : UInt64} {ogr : UInt64} {oan : Int32} {owa : UInt64} {ore : Int32} {ois : Nat → Int32} {kd : Bool} {u0a : Nat} {u0d : Nat} {u0g : Nat} {gc : Int32} {u0m : Nat} {ln : Nat} {am : Nat → UInt64} {p0 : Int32} {p1 : UInt64} {K : UInt64 → UInt64 → Int32 → Int32 → (Nat → Int32) → Prop} , REC p0 p1 on ole ogr oan owa ore ois kd ln am K → SMv5 (xl g) (xD g) (xT g) yX25_go cX25_go 5 (rd + 8) [.ref h0, .int p0, .double p1] [(h0, .inr (21, [.ref u0, .int on, .ref oi, .double ole, .double ogr, .int oan, .double owa, .int ore])), (oi, .inl ((xT g) 0, 7, .inl ois)), (u0, .inr (lci kd, [.ref u0a, .ref u0d, .ref u0g, .int gc, .ref u0m])), (u0m, .inl (lamC kd (xT g) ln am))] (fun (ole' : UInt64) (ogr' : UInt64) (oan' : Int32) (ore' : Int32) (ois' : Nat → Int32) => [(h0, .inr (21, [.ref u0, .int on, .ref oi, .double ole', .double ogr', .int oan', .double owa, .int ore'])), (oi, .inl ((xT g) 0, 7, .inl ois')), (u0, .inr (lci kd, [.ref u0a, .ref u0d, .ref u0g, .int gc, .ref u0m])), (u0m, .inl (lamC kd (xT g) ln am))]) 0 0 K ) (hX167 : ∀ (v4_26 : Int32) (ole_27 : UInt64) (ogr_28 : UInt64) (oan_29 : Int32) (ore_30 : Int32) (ois_31 : Nat → Int32), X167 v4_26 ole_27 ogr_28 oan_29 ore_30 ois_31 → X g 5 167 [(4, .int v4_26), (0, .ref h0), (1, .int p0), (2, .double p1)] [] [(h0, .inr (21, [.ref u0, .int on, .ref oi, .double ole_27, .double ogr_28, .int oan_29, .double owa, .int ore_30])), (oi, .inl ((xT g) 0, 7, .inl ois_31)), (u0, .inr (lci kd, [.ref u0a, .ref u0d, .ref u0g, .int gc, .ref u0m])), (u0m, .inl (lamC kd (xT g) ln am))] 0 0) : ∀ (n : Nat) (v4_1 : Int32) (ole_2 : UInt64) (ogr_3 : UInt64) (oan_4 : Int32) (ore_5 : Int32) (ois_6 : Nat → Int32), wX25_go_L86 on owa kd ln am p0 p1 REC X167 n v4_1 ole_2 ogr_3 oan_4 ore_5 ois_6 → X g 5 86 [(4, .int v4_1), (0, .ref h0), (1, .int p0), (2, .double p1)] [] [(h0, .inr (21, [.ref u0, .int on, .ref oi, .double ole_2, .double ogr_3, .int oan_4, .double owa, .int ore_5])), (oi, .inl ((xT g) 0, 7, .inl ois_6)), (u0, .inr (lci kd, [.ref u0a, .ref u0d, .ref u0g, .int gc, .ref u0m])), (u0m, .inl (lamC kd (xT g) ln am))] 0 0 := by
  intro n
  induction n with
  | zero => intro _ _ _ _ _ _ h; exact h.elim
  | succ n ih =>
    intro v4_1 ole_2 ogr_3 oan_4 ore_5 ois_6 h
    unfold wX25_go_L86 at h
    refine x_iload G dX25_go_86 0 rfl ?_
    refine x_aload_n G rfl dX25_go_88 1 rfl ?_
    refine x_get G in_X25 0 rfl rfl 1 (by decide) q1437 (fun _ h => h) rfl dX25_go_89 ?_
    refine x_icmp_ge (tgt := 167) G dX25_go_92 rfl (fun c => ?_) (fun c => ?_)
    · replace h := h.1 c
      exact hX167 v4_1 ole_2 ogr_3 oan_4 ore_5 ois_6 h
    · replace h := h.2 c
      refine x_aload_n G rfl dX25_go_95 1 rfl ?_
      refine x_get G in_X25 0 rfl rfl 2 (by decide) q1438 (fun _ h => h) rfl dX25_go_96 ?_
      refine x_iload G dX25_go_99 0 rfl ?_
      obtain ⟨hz, h⟩ := h
      refine x_zald G 1 rfl hz dX25_go_101 ?_
      refine x_if_ne (tgt := 161) G dX25_go_102 rfl (fun c => ?_) (fun c => ?_)
      · replace h := h.1 c
        obtain ⟨x_7, ex_7⟩ : ∃ z : Int32, z = (v4_1 + (1 : Int32)) := ⟨_, rfl⟩
        replace h := h x_7 ex_7
        refine x_iinc (v := x_7) (lv' := [(4, .int x_7), (0, .ref h0), (1, .int p0), (2, .double p1)]) G dX25_go_161 0 rfl (by rw [ex_7]; rfl) (by decide) rfl ?_
        refine x_goto (tgt := 86) G dX25_go_164 rfl ?_
        exact ih x_7 ole_2 ogr_3 oan_4 ore_5 ois_6 h
      · replace h := h.2 c
        refine x_aload_n G rfl dX25_go_105 1 rfl ?_
        refine x_get G in_X25 0 rfl rfl 2 (by decide) q1438 (fun _ h => h) rfl dX25_go_106 ?_
        refine x_iload G dX25_go_109 0 rfl ?_
        refine x_iconst (v := (1 : Int32)) G dX25_go_111 (by decide) ?_
        obtain ⟨hz, h⟩ := h
        obtain ⟨f_8, ef_8⟩ : ∃ z : Nat → Int32, z = upd ois_6 v4_1.toNatClampNeg (vp_nar .boolean (1 : Int32)) := ⟨_, rfl⟩
        replace h := h f_8 ef_8
        refine x_zast G 1 rfl hz (by rw [← ef_8]) dX25_go_112 ?_
        show X g 5 113 [(4, .int v4_1), (0, .ref h0), (1, .int p0), (2, .double p1)] [] [(h0, .inr (21, [.ref u0, .int on, .ref oi, .double ole_2, .double ogr_3, .int oan_4, .double owa, .int ore_5])), (oi, .inl ((xT g) 0, 7, .inl f_8)), (u0, .inr (lci kd, [.ref u0a, .ref u0d, .ref u0g, .int gc, .ref u0m])), (u0m, .inl (lamC kd (xT g) ln am))] 0 0
        refine x_aload_n G rfl dX25_go_113 1 rfl ?_
        refine x_iload_n G rfl dX25_go_114 2 rfl ?_
        refine x_iconst (v := (1 : Int32)) G dX25_go_115 (by decide) ?_
        refine x_iadd G dX25_go_116 ?_
        refine x_iload_n G rfl dX25_go_117 2 rfl ?_
        refine x_if_ne (tgt := 133) G dX25_go_118 rfl (fun c => ?_) (fun c => ?_)
        · replace h := h.1 c
          refine x_aload_n G rfl dX25_go_133 1 rfl ?_
          refine x_get G in_X25 0 rfl rfl 0 (by decide) q1436 (fun _ h => h) rfl dX25_go_134 ?_
          refine x_dload_n G rfl dX25_go_137 3 rfl ?_
          refine x_aload_n G rfl dX25_go_138 1 rfl ?_
          refine x_get G in_X25 0 rfl rfl 0 (by decide) q1436 (fun _ h => h) rfl dX25_go_139 ?_
          refine x_iload G dX25_go_142 0 rfl ?_
          refine x_cUd0 (C := lnm kd) (owner := "RoundingAuditor$Ledger") (x := ⟨"RoundingAuditor$Ledger", "at", "(I)D"⟩) (wc := [(u0, .inr (lci kd, [.ref u0a, .ref u0d, .ref u0g, .int gc, .ref u0m])), (u0m, .inl (lamC kd (xT g) ln am))]) (As := [.int v4_1]) (rest := [.double p1, .ref u0, .int (p0 + (1 : Int32)), .ref h0]) G [(h0, .inr (21, [.ref u0, .int on, .ref oi, .double ole_2, .double ogr_3, .int oan_4, .double owa, .int ore_5])), (oi, .inl ((xT g) 0, 7, .inl f_8))] (XSub.of [0, 1, 2, 3] rfl (by decide)) (tL_at kd G.noTraces h) q1470 q619 (va_Decl.abs (G.E.2.1.2.2.1 _ (by decide +kernel))) (sL_at kd) (hL_at kd).1 (hL_at kd).2.1 (hL_at kd).2.2.1 cdL_at (lci kd) 2 (lci_at kd) rfl rfl (by omega) (hL_at _).2.2.2 rfl (Nat.le_of_ble_eq_true rfl) (Nat.le_of_ble_eq_true rfl) (Nat.le_of_ble_eq_true rfl) dX25_go_144 (fun r_9 h => ?_)
          show X g 5 147 [(4, .int v4_1), (0, .ref h0), (1, .int p0), (2, .double p1)] [.double r_9, .double p1, .ref u0, .int (p0 + (1 : Int32)), .ref h0] [(h0, .inr (21, [.ref u0, .int on, .ref oi, .double ole_2, .double ogr_3, .int oan_4, .double owa, .int ore_5])), (oi, .inl ((xT g) 0, 7, .inl f_8)), (u0, .inr (lci kd, [.ref u0a, .ref u0d, .ref u0g, .int gc, .ref u0m])), (u0m, .inl (lamC kd (xT g) ln am))] 0 0
          refine x_cU9d0 (C := lnm kd) (owner := "RoundingAuditor$Adder") (x := ⟨"RoundingAuditor$Ledger", "add", "(DD)D"⟩) (wc := []) (As := [.double p1, .double r_9]) (rest := [.int (p0 + (1 : Int32)), .ref h0]) G [(h0, .inr (21, [.ref u0, .int on, .ref oi, .double ole_2, .double ogr_3, .int oan_4, .double owa, .int ore_5])), (oi, .inl ((xT g) 0, 7, .inl f_8)), (u0, .inr (lci kd, [.ref u0a, .ref u0d, .ref u0g, .int gc, .ref u0m])), (u0m, .inl (lamC kd (xT g) ln am))] (XSub.of [0, 1, 2, 3] rfl (by decide)) (tL_add kd G.noTraces h) (G.E.2.1.2.2.2.2.2.2.2.2.2.2 _ (by decide +kernel)) (G.E.2.1.2.2.2.2.2.2.2.2.2.2 _ (by decide +kernel)) (lnm_add kd) (va_Decl.abs (G.E.2.1.2.2.1 _ (by decide +kernel))) (sL_Add kd) (hL_add kd).1 (hL_add kd).2.1 (hL_add kd).2.2.1 cdL_Add (lci kd) 2 (lci_at kd) rfl rfl (by omega) (hL_add _).2.2.2 rfl (Nat.le_of_ble_eq_true rfl) (Nat.le_of_ble_eq_true rfl) (Nat.le_of_ble_eq_true rfl) dX25_go_147 (fun r_10 h => ?_)
          show X g 5 150 [(4, .int v4_1), (0, .ref h0), (1, .int p0), (2, .double p1)] [.double r_10, .int (p0 + (1 : Int32)), .ref h0] [(h0, .inr (21, [.ref u0, .int on, .ref oi, .double ole_2, .double ogr_3, .int oan_4, .double owa, .int ore_5])), (oi, .inl ((xT g) 0, 7, .inl f_8)), (u0, .inr (lci kd, [.ref u0a, .ref u0d, .ref u0g, .int gc, .ref u0m])), (u0m, .inl (lamC kd (xT g) ln am))] 0 0
          refine x_cVv5 (wc := [(h0, .inr (21, [.ref u0, .int on, .ref oi, .double ole_2, .double ogr_3, .int oan_4, .double owa, .int ore_5])), (oi, .inl ((xT g) 0, 7, .inl f_8)), (u0, .inr (lci kd, [.ref u0a, .ref u0d, .ref u0g, .int gc, .ref u0m])), (u0m, .inl (lamC kd (xT g) ln am))]) (As := [.int (p0 + (1 : Int32)), .double r_10]) (rest := []) G [] (XSub.of [0, 1, 2, 3] rfl (by decide)) (hREC h) (lw_V q1471 q1465 q1466 q111 q1467) cdX25_go 21 0 rfl rfl rfl (by omega) (by decide) rfl (Nat.le_of_ble_eq_true rfl) (Nat.le_of_ble_eq_true rfl) (Nat.le_of_ble_eq_true rfl) dX25_go_150 (fun ole_11 ogr_12 oan_13 ore_14 ois_15 h => ?_)
          show X g 5 153 [(4, .int v4_1), (0, .ref h0), (1, .int p0), (2, .double p1)] [] [(h0, .inr (21, [.ref u0, .int on, .ref oi, .double ole_11, .double ogr_12, .int oan_13, .double owa, .int ore_14])), (oi, .inl ((xT g) 0, 7, .inl ois_15)), (u0, .inr (lci kd, [.ref u0a, .ref u0d, .ref u0g, .int gc, .ref u0m])), (u0m, .inl (lamC kd (xT g) ln am))] 0 0
          refine x_aload_n G rfl dX25_go_153 1 rfl ?_
          refine x_get G in_X25 0 rfl rfl 2 (by decide) q1438 (fun _ h => h) rfl dX25_go_154 ?_
          refine x_iload G dX25_go_157 0 rfl ?_
          refine x_iconst (v := (0 : Int32)) G dX25_go_159 (by decide) ?_
          obtain ⟨hz, h⟩ := h
          obtain ⟨f_16, ef_16⟩ : ∃ z : Nat → Int32, z = upd ois_15 v4_1.toNatClampNeg (vp_nar .boolean (0 : Int32)) := ⟨_, rfl⟩
          replace h := h f_16 ef_16
          refine x_zast G 1 rfl hz (by rw [← ef_16]) dX25_go_160 ?_
          show X g 5 161 [(4, .int v4_1), (0, .ref h0), (1, .int p0), (2, .double p1)] [] [(h0, .inr (21, [.ref u0, .int on, .ref oi, .double ole_11, .double ogr_12, .int oan_13, .double owa, .int ore_14])), (oi, .inl ((xT g) 0, 7, .inl f_16)), (u0, .inr (lci kd, [.ref u0a, .ref u0d, .ref u0g, .int gc, .ref u0m])), (u0m, .inl (lamC kd (xT g) ln am))] 0 0
          obtain ⟨x_17, ex_17⟩ : ∃ z : Int32, z = (v4_1 + (1 : Int32)) := ⟨_, rfl⟩
          replace h := h x_17 ex_17
          refine x_iinc (v := x_17) (lv' := [(4, .int x_17), (0, .ref h0), (1, .int p0), (2, .double p1)]) G dX25_go_161 0 rfl (by rw [ex_17]; rfl) (by decide) rfl ?_
          refine x_goto (tgt := 86) G dX25_go_164 rfl ?_
          exact ih x_17 ole_11 ogr_12 oan_13 ore_14 f_16 h
        · replace h := h.2 c
          refine x_aload_n G rfl dX25_go_121 1 rfl ?_
          refine x_get G in_X25 0 rfl rfl 0 (by decide) q1436 (fun _ h => h) rfl dX25_go_122 ?_
          refine x_iload G dX25_go_125 0 rfl ?_
          refine x_cUd0 (C := lnm kd) (owner := "RoundingAuditor$Ledger") (x := ⟨"RoundingAuditor$Ledger", "at", "(I)D"⟩) (wc := [(u0, .inr (lci kd, [.ref u0a, .ref u0d, .ref u0g, .int gc, .ref u0m])), (u0m, .inl (lamC kd (xT g) ln am))]) (As := [.int v4_1]) (rest := [.int (p0 + (1 : Int32)), .ref h0]) G [(h0, .inr (21, [.ref u0, .int on, .ref oi, .double ole_2, .double ogr_3, .int oan_4, .double owa, .int ore_5])), (oi, .inl ((xT g) 0, 7, .inl f_8))] (XSub.of [0, 1, 2, 3] rfl (by decide)) (tL_at kd G.noTraces h) q1470 q619 (va_Decl.abs (G.E.2.1.2.2.1 _ (by decide +kernel))) (sL_at kd) (hL_at kd).1 (hL_at kd).2.1 (hL_at kd).2.2.1 cdL_at (lci kd) 2 (lci_at kd) rfl rfl (by omega) (hL_at _).2.2.2 rfl (Nat.le_of_ble_eq_true rfl) (Nat.le_of_ble_eq_true rfl) (Nat.le_of_ble_eq_true rfl) dX25_go_127 (fun r_18 h => ?_)
          show X g 5 130 [(4, .int v4_1), (0, .ref h0), (1, .int p0), (2, .double p1)] [.double r_18, .int (p0 + (1 : Int32)), .ref h0] [(h0, .inr (21, [.ref u0, .int on, .ref oi, .double ole_2, .double ogr_3, .int oan_4, .double owa, .int ore_5])), (oi, .inl ((xT g) 0, 7, .inl f_8)), (u0, .inr (lci kd, [.ref u0a, .ref u0d, .ref u0g, .int gc, .ref u0m])), (u0m, .inl (lamC kd (xT g) ln am))] 0 0
          refine x_goto (tgt := 150) G dX25_go_130 rfl ?_
          refine x_cVv5 (wc := [(h0, .inr (21, [.ref u0, .int on, .ref oi, .double ole_2, .double ogr_3, .int oan_4, .double owa, .int ore_5])), (oi, .inl ((xT g) 0, 7, .inl f_8)), (u0, .inr (lci kd, [.ref u0a, .ref u0d, .ref u0g, .int gc, .ref u0m])), (u0m, .inl (lamC kd (xT g) ln am))]) (As := [.int (p0 + (1 : Int32)), .double r_18]) (rest := []) G [] (XSub.of [0, 1, 2, 3] rfl (by decide)) (hREC h) (lw_V q1471 q1465 q1466 q111 q1467) cdX25_go 21 0 rfl rfl rfl (by omega) (by decide) rfl (Nat.le_of_ble_eq_true rfl) (Nat.le_of_ble_eq_true rfl) (Nat.le_of_ble_eq_true rfl) dX25_go_150 (fun ole_19 ogr_20 oan_21 ore_22 ois_23 h => ?_)
          show X g 5 153 [(4, .int v4_1), (0, .ref h0), (1, .int p0), (2, .double p1)] [] [(h0, .inr (21, [.ref u0, .int on, .ref oi, .double ole_19, .double ogr_20, .int oan_21, .double owa, .int ore_22])), (oi, .inl ((xT g) 0, 7, .inl ois_23)), (u0, .inr (lci kd, [.ref u0a, .ref u0d, .ref u0g, .int gc, .ref u0m])), (u0m, .inl (lamC kd (xT g) ln am))] 0 0
          refine x_aload_n G rfl dX25_go_153 1 rfl ?_
          refine x_get G in_X25 0 rfl rfl 2 (by decide) q1438 (fun _ h => h) rfl dX25_go_154 ?_
          refine x_iload G dX25_go_157 0 rfl ?_
          refine x_iconst (v := (0 : Int32)) G dX25_go_159 (by decide) ?_
          obtain ⟨hz, h⟩ := h
          obtain ⟨f_24, ef_24⟩ : ∃ z : Nat → Int32, z = upd ois_23 v4_1.toNatClampNeg (vp_nar .boolean (0 : Int32)) := ⟨_, rfl⟩
          replace h := h f_24 ef_24
          refine x_zast G 1 rfl hz (by rw [← ef_24]) dX25_go_160 ?_
          show X g 5 161 [(4, .int v4_1), (0, .ref h0), (1, .int p0), (2, .double p1)] [] [(h0, .inr (21, [.ref u0, .int on, .ref oi, .double ole_19, .double ogr_20, .int oan_21, .double owa, .int ore_22])), (oi, .inl ((xT g) 0, 7, .inl f_24)), (u0, .inr (lci kd, [.ref u0a, .ref u0d, .ref u0g, .int gc, .ref u0m])), (u0m, .inl (lamC kd (xT g) ln am))] 0 0
          obtain ⟨x_25, ex_25⟩ : ∃ z : Int32, z = (v4_1 + (1 : Int32)) := ⟨_, rfl⟩
          replace h := h x_25 ex_25
          refine x_iinc (v := x_25) (lv' := [(4, .int x_25), (0, .ref h0), (1, .int p0), (2, .double p1)]) G dX25_go_161 0 rfl (by rw [ex_25]; rfl) (by decide) rfl ?_
          refine x_goto (tgt := 86) G dX25_go_164 rfl ?_
          exact ih x_25 ole_19 ogr_20 oan_21 ore_22 f_24 h
set_option maxRecDepth 20000 in
theorem kX25_go_J51 {g : XG} {rd : Nat} {h0 : Nat} {u0 : Nat} {on : Int32} {oi : Nat} {ogr : UInt64} {oan : Int32} {owa : UInt64} {ore : Int32} {ois : Nat → Int32} {kd : Bool} {u0a : Nat} {u0d : Nat} {u0g : Nat} {gc : Int32} {u0m : Nat} {ln : Nat} {am : Nat → UInt64} {p1 : UInt64} {K : UInt64 → UInt64 → Int32 → Int32 → (Nat → Int32) → Prop} (G : XO g RX25 cX25_go 5 (rd + 1 + 8) 0 0) (Q : XQv5 g 0 0 (fun (ole' : UInt64) (ogr' : UInt64) (oan' : Int32) (ore' : Int32) (ois' : Nat → Int32) => [(h0, .inr (21, [.ref u0, .int on, .ref oi, .double ole', .double ogr', .int oan', .double owa, .int ore'])), (oi, .inl ((xT g) 0, 7, .inl ois')), (u0, .inr (lci kd, [.ref u0a, .ref u0d, .ref u0g, .int gc, .ref u0m])), (u0m, .inl (lamC kd (xT g) ln am))]) K) : ∀ (s_38 : UInt64) (ole_39 : UInt64), wX25_go_J51 owa ore ois p1 K s_38 ole_39 → X g 5 51 [(0, .ref h0), (2, .double p1)] [.double s_38, .ref h0] [(h0, .inr (21, [.ref u0, .int on, .ref oi, .double ole_39, .double ogr, .int oan, .double owa, .int ore])), (oi, .inl ((xT g) 0, 7, .inl ois)), (u0, .inr (lci kd, [.ref u0a, .ref u0d, .ref u0g, .int gc, .ref u0m])), (u0m, .inl (lamC kd (xT g) ln am))] 0 0 := by
  intro s_38 ole_39 h
  unfold wX25_go_J51 at h
  refine x_put G in_X25 tyX25 tyX25_ok nmX25 0 rfl rfl 4 (by decide) q1441 (fun _ h => h) rfl rfl rfl (Nat.le_of_ble_eq_true rfl) rfl dX25_go_51 ?_
  show X g 5 54 [(0, .ref h0), (2, .double p1)] [] [(h0, .inr (21, [.ref u0, .int on, .ref oi, .double ole_39, .double s_38, .int oan, .double owa, .int ore])), (oi, .inl ((xT g) 0, 7, .inl ois)), (u0, .inr (lci kd, [.ref u0a, .ref u0d, .ref u0g, .int gc, .ref u0m])), (u0m, .inl (lamC kd (xT g) ln am))] 0 0
  refine x_aload_n G rfl dX25_go_54 0 rfl ?_
  refine x_iconst (v := (1 : Int32)) G dX25_go_55 (by decide) ?_
  refine x_put G in_X25 tyX25 tyX25_ok nmX25 0 rfl rfl 5 (by decide) q1443 (fun _ h => h) rfl isB_1.nar isB_1.fit (Nat.le_of_ble_eq_true rfl) rfl dX25_go_56 ?_
  show X g 5 59 [(0, .ref h0), (2, .double p1)] [] [(h0, .inr (21, [.ref u0, .int on, .ref oi, .double ole_39, .double s_38, .int (1 : Int32), .double owa, .int ore])), (oi, .inl ((xT g) 0, 7, .inl ois)), (u0, .inr (lci kd, [.ref u0a, .ref u0d, .ref u0g, .int gc, .ref u0m])), (u0m, .inl (lamC kd (xT g) ln am))] 0 0
  refine x_aload_n G rfl dX25_go_59 0 rfl ?_
  refine x_dup G dX25_go_60 rfl ?_
  refine x_get G in_X25 0 rfl rfl 7 (by decide) q1445 (fun _ h => h) rfl dX25_go_61 ?_
  refine x_dload_n G rfl dX25_go_64 1 rfl ?_
  refine x_aload_n G rfl dX25_go_65 0 rfl ?_
  refine x_get G in_X25 0 rfl rfl 6 (by decide) q1444 (fun _ h => h) rfl dX25_go_66 ?_
  refine x_dcmpl_ne (tgt := 77) G dX25_go_69 dX25_go_70 rfl (fun c => ?_) (fun c => ?_)
  · replace h := h.1 c
    refine x_iconst (v := (0 : Int32)) G dX25_go_77 (by decide) ?_
    refine x_ior G dX25_go_78 ?_
    refine x_topi (fun x_40 ex_40 => ?_)
    replace h := h x_40 ex_40
    obtain ⟨hb, h⟩ := h
    refine x_put G in_X25 tyX25 tyX25_ok nmX25 0 rfl rfl 7 (by decide) q1445 (fun _ h => h) rfl hb.nar hb.fit (Nat.le_of_ble_eq_true rfl) rfl dX25_go_79 ?_
    show X g 5 82 [(0, .ref h0), (2, .double p1)] [] [(h0, .inr (21, [.ref u0, .int on, .ref oi, .double ole_39, .double s_38, .int (1 : Int32), .double owa, .int x_40])), (oi, .inl ((xT g) 0, 7, .inl ois)), (u0, .inr (lci kd, [.ref u0a, .ref u0d, .ref u0g, .int gc, .ref u0m])), (u0m, .inl (lamC kd (xT g) ln am))] 0 0
    exact x_retv5 G Q dX25_go_82 ole_39 s_38 (1 : Int32) x_40 ois h XSub.rf (Nat.le_of_ble_eq_true rfl) (Nat.le_of_ble_eq_true rfl)
  · replace h := h.2 c
    refine x_iconst (v := (1 : Int32)) G dX25_go_73 (by decide) ?_
    refine x_goto (tgt := 78) G dX25_go_74 rfl ?_
    refine x_ior G dX25_go_78 ?_
    refine x_topi (fun x_41 ex_41 => ?_)
    replace h := h x_41 ex_41
    obtain ⟨hb, h⟩ := h
    refine x_put G in_X25 tyX25 tyX25_ok nmX25 0 rfl rfl 7 (by decide) q1445 (fun _ h => h) rfl hb.nar hb.fit (Nat.le_of_ble_eq_true rfl) rfl dX25_go_79 ?_
    show X g 5 82 [(0, .ref h0), (2, .double p1)] [] [(h0, .inr (21, [.ref u0, .int on, .ref oi, .double ole_39, .double s_38, .int (1 : Int32), .double owa, .int x_41])), (oi, .inl ((xT g) 0, 7, .inl ois)), (u0, .inr (lci kd, [.ref u0a, .ref u0d, .ref u0g, .int gc, .ref u0m])), (u0m, .inl (lamC kd (xT g) ln am))] 0 0
    exact x_retv5 G Q dX25_go_82 ole_39 s_38 (1 : Int32) x_41 ois h XSub.rf (Nat.le_of_ble_eq_true rfl) (Nat.le_of_ble_eq_true rfl)
set_option maxRecDepth 20000 in
theorem tX25_go : ∀ (rd : Nat), ∀ {l : Launch} {D : va_G} {ta : Nat → ClassId} {h0 : Nat} {u0 : Nat} {on : Int32} {oi : Nat} {ole : UInt64} {ogr : UInt64} {oan : Int32} {owa : UInt64} {ore : Int32} {ois : Nat → Int32} {kd : Bool} {u0a : Nat} {u0d : Nat} {u0g : Nat} {gc : Int32} {u0m : Nat} {ln : Nat} {am : Nat → UInt64} {p0 : Int32} {p1 : UInt64} {K : UInt64 → UInt64 → Int32 → Int32 → (Nat → Int32) → Prop} , l.stackTraces = false → wX25_go rd p0 p1 on ole ogr oan owa ore ois kd ln am K → SMv5 l D ta yX25_go cX25_go 5 (rd + 8) [.ref h0, .int p0, .double p1] [(h0, .inr (21, [.ref u0, .int on, .ref oi, .double ole, .double ogr, .int oan, .double owa, .int ore])), (oi, .inl (ta 0, 7, .inl ois)), (u0, .inr (lci kd, [.ref u0a, .ref u0d, .ref u0g, .int gc, .ref u0m])), (u0m, .inl (lamC kd ta ln am))] (fun (ole' : UInt64) (ogr' : UInt64) (oan' : Int32) (ore' : Int32) (ois' : Nat → Int32) => [(h0, .inr (21, [.ref u0, .int on, .ref oi, .double ole', .double ogr', .int oan', .double owa, .int ore'])), (oi, .inl (ta 0, 7, .inl ois')), (u0, .inr (lci kd, [.ref u0a, .ref u0d, .ref u0g, .int gc, .ref u0m])), (u0m, .inl (lamC kd ta ln am))]) 0 0 K  := by
  intro rd
  induction rd with
  | zero => intro l D ta h0 u0 on oi ole ogr oan owa ore ois kd u0a u0d u0g gc u0m ln am p0 p1 K _ h; exact (h : False).elim
  | succ rd ih =>
  intro l D ta h0 u0 on oi ole ogr oan owa ore ois kd u0a u0d u0g gc u0m ln am p0 p1 K hlt h
  refine x_stv5 hlt (plainFor_of_name (by decide +kernel)) (Nat.le_of_ble_eq_true rfl) (fun g G hl hD hT Q => ?_)
  subst hl; subst hD; subst hT
  have hREC : ∀ {h0 : Nat} {u0 : Nat} {on : Int32} {oi : Nat} {ole : UInt64} {ogr : UInt64} {oan : Int32} {owa : UInt64} {ore : Int32} {ois : Nat → Int32} {kd : Bool} {u0a : Nat} {u0d : Nat} {u0g : Nat} {gc : Int32} {u0m : Nat} {ln : Nat} {am : Nat → UInt64} {p0 : Int32} {p1 : UInt64} {K : UInt64 → UInt64 → Int32 → Int32 → (Nat → Int32) → Prop} , wX25_go rd p0 p1 on ole ogr oan owa ore ois kd ln am K → SMv5 (xl g) (xD g) (xT g) yX25_go cX25_go 5 (rd + 8) [.ref h0, .int p0, .double p1] [(h0, .inr (21, [.ref u0, .int on, .ref oi, .double ole, .double ogr, .int oan, .double owa, .int ore])), (oi, .inl ((xT g) 0, 7, .inl ois)), (u0, .inr (lci kd, [.ref u0a, .ref u0d, .ref u0g, .int gc, .ref u0m])), (u0m, .inl (lamC kd (xT g) ln am))] (fun (ole' : UInt64) (ogr' : UInt64) (oan' : Int32) (ore' : Int32) (ois' : Nat → Int32) => [(h0, .inr (21, [.ref u0, .int on, .ref oi, .double ole', .double ogr', .int oan', .double owa, .int ore'])), (oi, .inl ((xT g) 0, 7, .inl ois')), (u0, .inr (lci kd, [.ref u0a, .ref u0d, .ref u0g, .int gc, .ref u0m])), (u0m, .inl (lamC kd (xT g) ln am))]) 0 0 K  := fun h => ih hlt h
  unfold wX25_go at h
  show X g 5 0 [(0, .ref h0), (1, .int p0), (2, .double p1)] [] [(h0, .inr (21, [.ref u0, .int on, .ref oi, .double ole, .double ogr, .int oan, .double owa, .int ore])), (oi, .inl ((xT g) 0, 7, .inl ois)), (u0, .inr (lci kd, [.ref u0a, .ref u0d, .ref u0g, .int gc, .ref u0m])), (u0m, .inl (lamC kd (xT g) ln am))] 0 0
  refine x_iload_n G rfl dX25_go_0 1 rfl ?_
  refine x_aload_n G rfl dX25_go_1 0 rfl ?_
  refine x_get G in_X25 0 rfl rfl 1 (by decide) q1437 (fun _ h => h) rfl dX25_go_2 ?_
  refine x_icmp_ne (tgt := 83) G dX25_go_5 rfl (fun c => ?_) (fun c => ?_)
  · replace h := h.1 c
    refine x_iconst (v := (0 : Int32)) G dX25_go_83 (by decide) ?_
    refine x_istore (lv' := [(4, .int (0 : Int32)), (0, .ref h0), (1, .int p0), (2, .double p1)]) G dX25_go_84 (by decide) rfl ?_
    obtain ⟨n0, h⟩ := h
    refine kX25_go_L86 G hREC (fun v4_32 ole_33 ogr_34 oan_35 ore_36 ois_37 h => ?_) n0 _ _ _ _ _ _ h
    · exact x_retv5 G Q dX25_go_167 ole_33 ogr_34 oan_35 ore_36 ois_37 h XSub.rf (Nat.le_of_ble_eq_true rfl) (Nat.le_of_ble_eq_true rfl)
  · replace h := h.2 c
    refine x_aload_n G rfl dX25_go_8 0 rfl ?_
    refine x_aload_n G rfl dX25_go_9 0 rfl ?_
    refine x_get G in_X25 0 rfl rfl 5 (by decide) q1443 (fun _ h => h) rfl dX25_go_10 ?_
    refine x_if_eq (tgt := 27) G dX25_go_13 rfl (fun c => ?_) (fun c => ?_)
    · replace h := h.1 c
      refine x_dload_n G rfl dX25_go_27 2 rfl ?_
      refine x_put G in_X25 tyX25 tyX25_ok nmX25 0 rfl rfl 3 (by decide) q1439 (fun _ h => h) rfl rfl rfl (Nat.le_of_ble_eq_true rfl) rfl dX25_go_28 ?_
      show X g 5 31 [(0, .ref h0), (1, .int p0), (2, .double p1)] [] [(h0, .inr (21, [.ref u0, .int on, .ref oi, .double p1, .double ogr, .int oan, .double owa, .int ore])), (oi, .inl ((xT g) 0, 7, .inl ois)), (u0, .inr (lci kd, [.ref u0a, .ref u0d, .ref u0g, .int gc, .ref u0m])), (u0m, .inl (lamC kd (xT g) ln am))] 0 0
      refine x_aload_n G rfl dX25_go_31 0 rfl ?_
      refine x_aload_n G rfl dX25_go_32 0 rfl ?_
      refine x_get G in_X25 0 rfl rfl 5 (by decide) q1443 (fun _ h => h) rfl dX25_go_33 ?_
      refine x_if_eq (tgt := 50) G dX25_go_36 rfl (fun c => ?_) (fun c => ?_)
      · replace h := h.1 c
        refine x_dload_n G rfl dX25_go_50 2 rfl ?_
        refine x_lv (lv' := [(0, .ref h0), (2, .double p1)]) [0, 2] rfl ?_
        refine kX25_go_J51 G Q  _ _ h
      · replace h := h.2 c
        refine x_aload_n G rfl dX25_go_39 0 rfl ?_
        refine x_get G in_X25 0 rfl rfl 4 (by decide) q1441 (fun _ h => h) rfl dX25_go_40 ?_
        refine x_dload_n G rfl dX25_go_43 2 rfl ?_
        obtain ⟨hz0, hz1, h⟩ := h
        refine x_ovD2 G q1469 q328 q85 q329 rfl rfl rmMax_row (rmMax_run hz0 hz1) (by omega) (Nat.le_of_ble_eq_true rfl) dX25_go_44 ?_
        refine x_goto (tgt := 51) G dX25_go_47 rfl ?_
        refine x_lv (lv' := [(0, .ref h0), (2, .double p1)]) [0, 2] rfl ?_
        refine kX25_go_J51 G Q  _ _ h
    · replace h := h.2 c
      refine x_aload_n G rfl dX25_go_16 0 rfl ?_
      refine x_get G in_X25 0 rfl rfl 3 (by decide) q1439 (fun _ h => h) rfl dX25_go_17 ?_
      refine x_dload_n G rfl dX25_go_20 2 rfl ?_
      obtain ⟨hz0, hz1, h⟩ := h
      refine x_ovD2 G q1468 q857 q85 q858 rfl rfl rmMin_row (rmMin_run hz0 hz1) (by omega) (Nat.le_of_ble_eq_true rfl) dX25_go_21 ?_
      refine x_goto (tgt := 28) G dX25_go_24 rfl ?_
      refine x_topd (fun r_42 er_42 => ?_)
      replace h := h r_42 er_42
      refine x_put G in_X25 tyX25 tyX25_ok nmX25 0 rfl rfl 3 (by decide) q1439 (fun _ h => h) rfl rfl rfl (Nat.le_of_ble_eq_true rfl) rfl dX25_go_28 ?_
      show X g 5 31 [(0, .ref h0), (1, .int p0), (2, .double p1)] [] [(h0, .inr (21, [.ref u0, .int on, .ref oi, .double r_42, .double ogr, .int oan, .double owa, .int ore])), (oi, .inl ((xT g) 0, 7, .inl ois)), (u0, .inr (lci kd, [.ref u0a, .ref u0d, .ref u0g, .int gc, .ref u0m])), (u0m, .inl (lamC kd (xT g) ln am))] 0 0
      refine x_aload_n G rfl dX25_go_31 0 rfl ?_
      refine x_aload_n G rfl dX25_go_32 0 rfl ?_
      refine x_get G in_X25 0 rfl rfl 5 (by decide) q1443 (fun _ h => h) rfl dX25_go_33 ?_
      refine x_if_eq (tgt := 50) G dX25_go_36 rfl (fun c => ?_) (fun c => ?_)
      · replace h := h.1 c
        refine x_dload_n G rfl dX25_go_50 2 rfl ?_
        refine x_lv (lv' := [(0, .ref h0), (2, .double p1)]) [0, 2] rfl ?_
        refine kX25_go_J51 G Q  _ _ h
      · replace h := h.2 c
        refine x_aload_n G rfl dX25_go_39 0 rfl ?_
        refine x_get G in_X25 0 rfl rfl 4 (by decide) q1441 (fun _ h => h) rfl dX25_go_40 ?_
        refine x_dload_n G rfl dX25_go_43 2 rfl ?_
        obtain ⟨hz0, hz1, h⟩ := h
        refine x_ovD2 G q1469 q328 q85 q329 rfl rfl rmMax_row (rmMax_run hz0 hz1) (by omega) (Nat.le_of_ble_eq_true rfl) dX25_go_44 ?_
        refine x_goto (tgt := 51) G dX25_go_47 rfl ?_
        refine x_lv (lv' := [(0, .ref h0), (2, .double p1)]) [0, 2] rfl ?_
        refine kX25_go_J51 G Q  _ _ h
def yL_another (kd : Bool) : MethodName := cond kd yX5_another yX6_another
def cL_another (kd : Bool) : ByteArray := cond kd cX5_another cX6_another
def nL_another (kd : Bool) : Nat := cond kd 2 2
theorem hL_another (kd : Bool) : Cond.instanceMethod (yL_another kd) ∈ lw_all ∧ Cond.initialized (yL_another kd).cls ∈ lw_all ∧ Cond.code (yL_another kd) (cL_another kd) (nL_another kd) (some (FieldType.object "RoundingAuditor$Ledger")) ∈ lw_all ∧ nL_another kd ≤ 45 := by
  cases kd
  · exact ⟨q715, q80, q716, by decide⟩
  · exact ⟨q720, q79, q721, by decide⟩
theorem sL_another (kd : Bool) : Cond.selects (lnm kd) ⟨"RoundingAuditor$Ledger", "another", "(I)LRoundingAuditor$Ledger;"⟩ (yL_another kd) ∈ lw_all := by
  cases kd
  · exact q714
  · exact q719
theorem cdL_another : ("RoundingAuditor$Ledger" : String) ≠ "java/lang/invoke/MethodHandle" ∧ ("RoundingAuditor$Ledger" : String) ≠ "java/lang/invoke/VarHandle" ∧ (parseMethodDescriptor "(I)LRoundingAuditor$Ledger;").map (fun d => d.parameters.length) = some 1 := by decide +kernel
def wL_another (kd : Bool) (p0 : Int32) (K : Option Nat → Nat → Nat → Nat → Nat → Nat → Prop) : Prop := match kd with | true => wX5_another p0 K | false => wX5_another p0 K
theorem fc0 : FP.dconst0.toUInt32 = FP.fconst0 := by decide +kernel
theorem lamF (T : Nat → ClassId) (n : Nat) (f : Nat → UInt64) : lamC false T n f = (T 4, n, .inr (.inr (.inl (fun i => (f i).toUInt32)))) := rfl
theorem tL_another (kd : Bool) {l : Launch} {D : va_G} {ta : Nat → ClassId} {h0 : Nat} {p0 : Int32} {K : Option Nat → Nat → Nat → Nat → Nat → Nat → Prop} (hlt : l.stackTraces = false) (h : wL_another kd p0 K) : SMq5 l D ta (yL_another kd) (cL_another kd) (nL_another kd) (FieldType.object "RoundingAuditor$Ledger") 4 [.ref h0, .int p0] [] (fun (hh : Nat) (b1 : Nat) (b2 : Nat) (b3 : Nat) (b4 : Nat) => [(hh, .inr (lci kd, [.ref b1, .ref b2, .ref b3, .int (0 : Int32), .ref b4])), (b1, .inl (ta 1, p0.toNatClampNeg, .inl (fun _ => 0))), (b2, .inl (ta 1, p0.toNatClampNeg, .inl (fun _ => 0))), (b3, .inl (ta 1, p0.toNatClampNeg, .inl (fun _ => 0))), (b4, .inl (lamC kd ta p0.toNatClampNeg (fun _ => FP.dconst0)))]) 5 245 K := by
  cases kd
  · simp only [lamF, fc0]
    exact tX6_another hlt h
  · exact tX5_another hlt h
