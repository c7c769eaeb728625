/-! exact numbers. Printed by gen/exact.py -/
theorem cdX2_init : yX2_init.cls = RX2 ∧ yX2_init.cls ≠ "java/lang/invoke/MethodHandle" ∧ yX2_init.cls ≠ "java/lang/invoke/VarHandle" ∧ (parseMethodDescriptor yX2_init.desc).map (fun d => d.parameters.length) = some 0 := by decide +kernel
def wX2_init (K : Nat → (Nat → Int32) → Prop) : Prop := (∀ a_1 : Nat, K a_1 (fun _ => 0))
set_option maxRecDepth 20000 in
theorem tX2_init {l : Launch} {D : va_G} {ta : Nat → ClassId} {h0 : Nat} {K : Nat → (Nat → Int32) → Prop} (hlt : l.stackTraces = false) (h : wX2_init K) : SMv2 l D ta yX2_init cX2_init 1 2 [.ref h0] [(h0, .inr (1, [.null]))] (fun (a : Nat) (el : Nat → Int32) => [(h0, .inr (1, [.ref a])), (a, .inl (ta 2, 40, .inl el))]) 1 40 K := by
  refine x_stI2 hlt (plainFor_of_name (by decide +kernel)) (Nat.le_of_ble_eq_true rfl) (fun g G hl hD hT hN Q => ?_)
  subst hl; subst hD; subst hT
  unfold wX2_init at h
  show X g 1 0 [(0, .ref h0)] [] [(h0, .inr (1, [.null]))] 0 0
  refine x_aload_n G rfl dX2_init_0 0 rfl ?_
  refine x_objInit G q127 q118 q119 (by decide) dX2_init_1 ?_
  refine x_aload_n G rfl dX2_init_4 0 rfl ?_
  refine x_bipush (v := (40 : Int32)) G dX2_init_5 (by decide) ?_
  refine x_newa (atype := .int) (ty := .int) (N' := 40) (t0 := 2) (x0 := .inl (fun _ => 0)) G q132 rfl rfl rfl (fun _ => rfl) (by decide) (by decide) (by decide) (Nat.le_of_ble_eq_true rfl) (Nat.le_of_ble_eq_true rfl) dX2_init_7 (fun a_1 => ?_)
  replace h := h a_1
  show X g 1 9 [(0, .ref h0)] [.ref a_1, .ref h0] [(h0, .inr (1, [.null])), (a_1, .inl ((xT g) 2, 40, .inl (fun _ => 0)))] 1 40
  refine x_putF G hN in_X2 tyX2 tyX2_ok nmX2 0 rfl rfl 0 (by decide) q128 (fun _ h => h) rfl rfl rfl rfl (Nat.le_of_ble_eq_true rfl) rfl dX2_init_9 ?_
  show X g 1 12 [(0, .ref h0)] [] [(h0, .inr (1, [.ref a_1])), (a_1, .inl ((xT g) 2, 40, .inl (fun _ => 0)))] 1 40
  exact x_retv2 G Q dX2_init_12 a_1 (fun _ => 0) h XSub.rf (Nat.le_of_ble_eq_true rfl) (Nat.le_of_ble_eq_true rfl)
theorem cdX2_clear : yX2_clear.cls = RX2 ∧ yX2_clear.cls ≠ "java/lang/invoke/MethodHandle" ∧ yX2_clear.cls ≠ "java/lang/invoke/VarHandle" ∧ (parseMethodDescriptor yX2_clear.desc).map (fun d => d.parameters.length) = some 0 := by decide +kernel
def wX2_clear_L2 (X21 : Int32 → (Nat → Int32) → Prop) : Nat → Int32 → (Nat → Int32) → Prop
  | 0, _, _ => False
  | n + 1, v1_1, w_2 => (((40 : Int32) ≤ v1_1 → X21 v1_1 w_2) ∧ (¬ (40 : Int32) ≤ v1_1 → (vp_in v1_1 40 ∧ (∀ f_3 : Nat → Int32, f_3 = upd w_2 v1_1.toNatClampNeg (0 : Int32) → (∀ x_4 : Int32, x_4 = (v1_1 + (1 : Int32)) → wX2_clear_L2 X21 n x_4 f_3)))))
def wX2_clear (w : Nat → Int32) (K : (Nat → Int32) → Prop) : Prop := (∃ m2 : Nat, wX2_clear_L2 (fun (v1_7 : Int32) (w_8 : Nat → Int32) => K w_8) m2 (0 : Int32) w)
set_option maxRecDepth 20000 in
theorem kX2_clear_L2 {g : XG} {h0 : Nat} {h0w : Nat} {X21 : Int32 → (Nat → Int32) → Prop} (G : XO g RX2 cX2_clear 2 1 0 0) (hX21 : ∀ (v1_5 : Int32) (w_6 : Nat → Int32), X21 v1_5 w_6 → X g 2 21 [(1, .int v1_5), (0, .ref h0)] [] [(h0, .inr (1, [.ref h0w])), (h0w, .inl ((xT g) 2, 40, .inl w_6))] 0 0) : ∀ (n : Nat) (v1_1 : Int32) (w_2 : Nat → Int32), wX2_clear_L2 X21 n v1_1 w_2 → X g 2 2 [(1, .int v1_1), (0, .ref h0)] [] [(h0, .inr (1, [.ref h0w])), (h0w, .inl ((xT g) 2, 40, .inl w_2))] 0 0 := by
  intro n
  induction n with
  | zero => intro _ _ h; exact h.elim
  | succ n ih =>
    intro v1_1 w_2 h
    unfold wX2_clear_L2 at h
    refine x_iload_n G rfl dX2_clear_2 0 rfl ?_
    refine x_bipush (v := (40 : Int32)) G dX2_clear_3 (by decide) ?_
    refine x_icmp_ge (tgt := 21) G dX2_clear_5 rfl (fun c => ?_) (fun c => ?_)
    · replace h := h.1 c
      exact hX21 v1_1 w_2 h
    · replace h := h.2 c
      refine x_aload_n G rfl dX2_clear_8 1 rfl ?_
      refine x_get G in_X2 0 rfl rfl 0 (by decide) q128 (fun _ h => h) rfl dX2_clear_9 ?_
      refine x_iload_n G rfl dX2_clear_12 0 rfl ?_
      refine x_iconst (v := (0 : Int32)) G dX2_clear_13 (by decide) ?_
      obtain ⟨hz, h⟩ := h
      obtain ⟨f_3, ef_3⟩ : ∃ z : Nat → Int32, z = upd w_2 v1_1.toNatClampNeg (0 : Int32) := ⟨_, rfl⟩
      replace h := h f_3 ef_3
      refine x_iast G 1 rfl hz (by rw [← ef_3]) dX2_clear_14 ?_
      show X g 2 15 [(1, .int v1_1), (0, .ref h0)] [] [(h0, .inr (1, [.ref h0w])), (h0w, .inl ((xT g) 2, 40, .inl f_3))] 0 0
      obtain ⟨x_4, ex_4⟩ : ∃ z : Int32, z = (v1_1 + (1 : Int32)) := ⟨_, rfl⟩
      replace h := h x_4 ex_4
      refine x_iinc (v := x_4) (lv' := [(1, .int x_4), (0, .ref h0)]) G dX2_clear_15 0 rfl (by rw [ex_4]; rfl) (by decide) rfl ?_
      refine x_goto (tgt := 2) G dX2_clear_18 rfl ?_
      exact ih x_4 f_3 h
set_option maxRecDepth 20000 in
theorem tX2_clear {l : Launch} {D : va_G} {ta : Nat → ClassId} {h0 : Nat} {h0w : Nat} {w : Nat → Int32} {K : (Nat → Int32) → Prop} (hlt : l.stackTraces = false) (h : wX2_clear w K) : SMv1 l D ta yX2_clear cX2_clear 2 1 [.ref h0] [(h0, .inr (1, [.ref h0w])), (h0w, .inl (ta 2, 40, .inl w))] (fun (w' : Nat → Int32) => [(h0, .inr (1, [.ref h0w])), (h0w, .inl (ta 2, 40, .inl w'))]) 0 0 K := by
  refine x_stv1 hlt (plainFor_of_name (by decide +kernel)) (Nat.le_of_ble_eq_true rfl) (fun g G hl hD hT Q => ?_)
  subst hl; subst hD; subst hT
  unfold wX2_clear at h
  show X g 2 0 [(0, .ref h0)] [] [(h0, .inr (1, [.ref h0w])), (h0w, .inl ((xT g) 2, 40, .inl w))] 0 0
  refine x_iconst (v := (0 : Int32)) G dX2_clear_0 (by decide) ?_
  refine x_istore_n (lv' := [(1, .int (0 : Int32)), (0, .ref h0)]) G rfl dX2_clear_1 (by decide) rfl ?_
  obtain ⟨n0, h⟩ := h
  refine kX2_clear_L2 G (fun v1_7 w_8 h => ?_) n0 _ _ h
  · exact x_retv1 G Q dX2_clear_21 w_8 h XSub.rf (Nat.le_of_ble_eq_true rfl) (Nat.le_of_ble_eq_true rfl)
theorem cdX2_addShifted : yX2_addShifted.cls = RX2 ∧ yX2_addShifted.cls ≠ "java/lang/invoke/MethodHandle" ∧ yX2_addShifted.cls ≠ "java/lang/invoke/VarHandle" ∧ (parseMethodDescriptor yX2_addShifted.desc).map (fun d => d.parameters.length) = some 3 := by decide +kernel
def wX2_addShifted_J153 (v19_9 : Int32) (w_10 : Nat → Int32) (X72 : Int64 → Int32 → (Nat → Int32) → Prop) : Int64 → Int64 → Int64 → Prop := fun (s_12 : Int64) (s_13 : Int64) (s_14 : Int64) => (∀ y_15 : Int64, y_15 = (s_12 + (s_13 + s_14)) → (∀ x_16 : Int32, x_16 = y_15.toInt32 → (vp_in v19_9 40 ∧ (∀ f_17 : Nat → Int32, f_17 = upd w_10 v19_9.toNatClampNeg x_16 → (∀ y_18 : Int64, y_18 = (jlshr y_15 (32 : Int32)) → (∀ x_19 : Int32, x_19 = (v19_9 + (1 : Int32)) → X72 y_18 x_19 f_17))))))
def wX2_addShifted_J124 (p2 : Int32) (v11_8 : Int64) (v19_9 : Int32) (w_10 : Nat → Int32) (X72 : Int64 → Int32 → (Nat → Int32) → Prop) : Int64 → Prop := fun (s_11 : Int64) => (vp_in v19_9 40 ∧ ((p2 = (0 : Int32) → (wX2_addShifted_J153 v19_9 w_10 (X72) v11_8 ((w_10 v19_9.toNatClampNeg).toInt64 &&& (4294967295 : Int64)) s_11)) ∧ (¬ p2 = (0 : Int32) → (wX2_addShifted_J153 v19_9 w_10 (X72) v11_8 ((w_10 v19_9.toNatClampNeg).toInt64 &&& (4294967295 : Int64)) (-s_11)))))
def wX2_addShifted_L72 (p2 : Int32) (x_1 : Int32) (y_5 : Int64) (y_6 : Int64) (y_7 : Int64) (X180 : Int64 → Int32 → (Nat → Int32) → Prop) : Nat → Int64 → Int32 → (Nat → Int32) → Prop
  | 0, _, _, _ => False
  | n + 1, v11_8, v19_9, w_10 => (((40 : Int32) ≤ v19_9 → X180 v11_8 v19_9 w_10) ∧ (¬ (40 : Int32) ≤ v19_9 → ((¬ v19_9 = x_1 → ((¬ v19_9 = (x_1 + (1 : Int32)) → ((¬ v19_9 = (x_1 + (2 : Int32)) → (wX2_addShifted_J124 p2 v11_8 v19_9 w_10 (wX2_addShifted_L72 p2 x_1 y_5 y_6 y_7 X180 n) (0 : Int64))) ∧ (v19_9 = (x_1 + (2 : Int32)) → (wX2_addShifted_J124 p2 v11_8 v19_9 w_10 (wX2_addShifted_L72 p2 x_1 y_5 y_6 y_7 X180 n) y_7)))) ∧ (v19_9 = (x_1 + (1 : Int32)) → (wX2_addShifted_J124 p2 v11_8 v19_9 w_10 (wX2_addShifted_L72 p2 x_1 y_5 y_6 y_7 X180 n) (y_6 &&& (4294967295 : Int64)))))) ∧ (v19_9 = x_1 → (wX2_addShifted_J124 p2 v11_8 v19_9 w_10 (wX2_addShifted_L72 p2 x_1 y_5 y_6 y_7 X180 n) y_5)))))
def wX2_addShifted (p0 : Int64) (p1 : Int32) (p2 : Int32) (w : Nat → Int32) (K : (Nat → Int32) → Prop) : Prop := (∀ x_1 : Int32, x_1 = (jishr p1 (5 : Int32)) → (∀ x_2 : Int32, x_2 = (p1 &&& (31 : Int32)) → (∀ y_3 : Int64, y_3 = (jlshl (p0 &&& (4294967295 : Int64)) x_2) → (∀ y_4 : Int64, y_4 = (jlshl (jlushr p0 (32 : Int32)) x_2) → (∀ y_5 : Int64, y_5 = (y_3 &&& (4294967295 : Int64)) → (∀ y_6 : Int64, y_6 = ((jlushr y_3 (32 : Int32)) + (y_4 &&& (4294967295 : Int64))) → (∀ y_7 : Int64, y_7 = ((jlushr y_4 (32 : Int32)) + (jlushr y_6 (32 : Int32))) → (∃ m72 : Nat, wX2_addShifted_L72 p2 x_1 y_5 y_6 y_7 (fun (v11_29 : Int64) (v19_30 : Int32) (w_31 : Nat → Int32) => K w_31) m72 (0 : Int64) x_1 w))))))))
set_option maxRecDepth 20000 in
theorem kX2_addShifted_J153 {g : XG} {h0 : Nat} {h0w : Nat} {p0 : Int64} {p1 : Int32} {p2 : Int32} {x_1 : Int32} {x_2 : Int32} {y_3 : Int64} {y_4 : Int64} {y_5 : Int64} {y_6 : Int64} {y_7 : Int64} {v11_8 : Int64} {v19_9 : Int32} {w_10 : Nat → Int32} {X72 : Int64 → Int32 → (Nat → Int32) → Prop} (G : XO g RX2 cX2_addShifted 22 1 0 0) (hX72 : ∀ (v11_20 : Int64) (v19_21 : Int32) (w_22 : Nat → Int32), X72 v11_20 v19_21 w_22 → X g 22 72 [(19, .int v19_21), (17, .long y_7), (15, .long y_6), (13, .long y_5), (11, .long v11_20), (9, .long y_4), (7, .long y_3), (6, .int x_2), (5, .int x_1), (0, .ref h0), (1, .long p0), (3, .int p1), (4, .int p2)] [] [(h0, .inr (1, [.ref h0w])), (h0w, .inl ((xT g) 2, 40, .inl w_22))] 0 0) : ∀ (s_12 : Int64) (s_13 : Int64) (s_14 : Int64), wX2_addShifted_J153 v19_9 w_10 X72 s_12 s_13 s_14 → X g 22 153 [(0, .ref h0), (1, .long p0), (3, .int p1), (4, .int p2), (5, .int x_1), (6, .int x_2), (7, .long y_3), (9, .long y_4), (11, .long v11_8), (13, .long y_5), (15, .long y_6), (17, .long y_7), (19, .int v19_9)] [.long s_14, .long s_13, .long s_12] [(h0, .inr (1, [.ref h0w])), (h0w, .inl ((xT g) 2, 40, .inl w_10))] 0 0 := by
  intro s_12 s_13 s_14 h
  unfold wX2_addShifted_J153 at h
  refine x_ladd G dX2_addShifted_153 ?_
  refine x_ladd G dX2_addShifted_154 ?_
  refine x_topl (fun y_15 ey_15 => ?_)
  replace h := h y_15 ey_15
  refine x_lstore (lv' := [(11, .long y_15), (0, .ref h0), (1, .long p0), (3, .int p1), (4, .int p2), (5, .int x_1), (6, .int x_2), (7, .long y_3), (9, .long y_4), (13, .long y_5), (15, .long y_6), (17, .long y_7), (19, .int v19_9)]) G dX2_addShifted_155 (by decide) rfl ?_
  refine x_aload_n G rfl dX2_addShifted_157 1 rfl ?_
  refine x_get G in_X2 0 rfl rfl 0 (by decide) q128 (fun _ h => h) rfl dX2_addShifted_158 ?_
  refine x_iload G dX2_addShifted_161 12 rfl ?_
  refine x_lload G dX2_addShifted_163 0 rfl ?_
  refine x_l2i G dX2_addShifted_165 ?_
  refine x_topi (fun x_16 ex_16 => ?_)
  replace h := h x_16 ex_16
  obtain ⟨hz, h⟩ := h
  obtain ⟨f_17, ef_17⟩ : ∃ z : Nat → Int32, z = upd w_10 v19_9.toNatClampNeg x_16 := ⟨_, rfl⟩
  replace h := h f_17 ef_17
  refine x_iast G 1 rfl hz (by rw [← ef_17]) dX2_addShifted_166 ?_
  show X g 22 167 [(11, .long y_15), (0, .ref h0), (1, .long p0), (3, .int p1), (4, .int p2), (5, .int x_1), (6, .int x_2), (7, .long y_3), (9, .long y_4), (13, .long y_5), (15, .long y_6), (17, .long y_7), (19, .int v19_9)] [] [(h0, .inr (1, [.ref h0w])), (h0w, .inl ((xT g) 2, 40, .inl f_17))] 0 0
  refine x_lload G dX2_addShifted_167 0 rfl ?_
  refine x_bipush (v := (32 : Int32)) G dX2_addShifted_169 (by decide) ?_
  refine x_lshr G dX2_addShifted_171 ?_
  refine x_topl (fun y_18 ey_18 => ?_)
  replace h := h y_18 ey_18
  refine x_lstore (lv' := [(11, .long y_18), (0, .ref h0), (1, .long p0), (3, .int p1), (4, .int p2), (5, .int x_1), (6, .int x_2), (7, .long y_3), (9, .long y_4), (13, .long y_5), (15, .long y_6), (17, .long y_7), (19, .int v19_9)]) G dX2_addShifted_172 (by decide) rfl ?_
  obtain ⟨x_19, ex_19⟩ : ∃ z : Int32, z = (v19_9 + (1 : Int32)) := ⟨_, rfl⟩
  replace h := h x_19 ex_19
  refine x_iinc (v := x_19) (lv' := [(19, .int x_19), (11, .long y_18), (0, .ref h0), (1, .long p0), (3, .int p1), (4, .int p2), (5, .int x_1), (6, .int x_2), (7, .long y_3), (9, .long y_4), (13, .long y_5), (15, .long y_6), (17, .long y_7)]) G dX2_addShifted_174 12 rfl (by rw [ex_19]; rfl) (by decide) rfl ?_
  refine x_goto (tgt := 72) G dX2_addShifted_177 rfl ?_
  refine x_lv (lv' := [(19, .int x_19), (17, .long y_7), (15, .long y_6), (13, .long y_5), (11, .long y_18), (9, .long y_4), (7, .long y_3), (6, .int x_2), (5, .int x_1), (0, .ref h0), (1, .long p0), (3, .int p1), (4, .int p2)]) [0, 12, 11, 10, 1, 9, 8, 7, 6, 2, 3, 4, 5] rfl ?_
  exact hX72 y_18 x_19 f_17 h
set_option maxRecDepth 20000 in
theorem kX2_addShifted_J124 {g : XG} {h0 : Nat} {h0w : Nat} {p0 : Int64} {p1 : Int32} {p2 : Int32} {x_1 : Int32} {x_2 : Int32} {y_3 : Int64} {y_4 : Int64} {y_5 : Int64} {y_6 : Int64} {y_7 : Int64} {v11_8 : Int64} {v19_9 : Int32} {w_10 : Nat → Int32} {X72 : Int64 → Int32 → (Nat → Int32) → Prop} (G : XO g RX2 cX2_addShifted 22 1 0 0) (hX72 : ∀ (v11_23 : Int64) (v19_24 : Int32) (w_25 : Nat → Int32), X72 v11_23 v19_24 w_25 → X g 22 72 [(19, .int v19_24), (17, .long y_7), (15, .long y_6), (13, .long y_5), (11, .long v11_23), (9, .long y_4), (7, .long y_3), (6, .int x_2), (5, .int x_1), (0, .ref h0), (1, .long p0), (3, .int p1), (4, .int p2)] [] [(h0, .inr (1, [.ref h0w])), (h0w, .inl ((xT g) 2, 40, .inl w_25))] 0 0) : ∀ (s_11 : Int64), wX2_addShifted_J124 p2 v11_8 v19_9 w_10 X72 s_11 → X g 22 124 [(0, .ref h0), (1, .long p0), (3, .int p1), (4, .int p2), (5, .int x_1), (6, .int x_2), (7, .long y_3), (9, .long y_4), (11, .long v11_8), (13, .long y_5), (15, .long y_6), (17, .long y_7), (19, .int v19_9)] [.long s_11] [(h0, .inr (1, [.ref h0w])), (h0w, .inl ((xT g) 2, 40, .inl w_10))] 0 0 := by
  intro s_11 h
  unfold wX2_addShifted_J124 at h
  refine x_lstore (lv' := [(20, .long s_11), (0, .ref h0), (1, .long p0), (3, .int p1), (4, .int p2), (5, .int x_1), (6, .int x_2), (7, .long y_3), (9, .long y_4), (11, .long v11_8), (13, .long y_5), (15, .long y_6), (17, .long y_7), (19, .int v19_9)]) G dX2_addShifted_124 (by decide) rfl ?_
  refine x_lload G dX2_addShifted_126 9 rfl ?_
  refine x_aload_n G rfl dX2_addShifted_128 1 rfl ?_
  refine x_get G in_X2 0 rfl rfl 0 (by decide) q128 (fun _ h => h) rfl dX2_addShifted_129 ?_
  refine x_iload G dX2_addShifted_132 13 rfl ?_
  obtain ⟨hz, h⟩ := h
  refine x_iald G 1 rfl hz dX2_addShifted_134 ?_
  refine x_i2l G dX2_addShifted_135 ?_
  refine x_ldc2 G q280 dX2_addShifted_136 ?_
  refine x_land G dX2_addShifted_139 ?_
  refine x_iload G dX2_addShifted_140 4 rfl ?_
  refine x_if_eq (tgt := 151) G dX2_addShifted_142 rfl (fun c => ?_) (fun c => ?_)
  · replace h := h.1 c
    refine x_lload G dX2_addShifted_151 0 rfl ?_
    refine x_lv (lv' := [(0, .ref h0), (1, .long p0), (3, .int p1), (4, .int p2), (5, .int x_1), (6, .int x_2), (7, .long y_3), (9, .long y_4), (11, .long v11_8), (13, .long y_5), (15, .long y_6), (17, .long y_7), (19, .int v19_9)]) [1, 2, 3, 4, 5, 6, 7, 8, 9, 10, 11, 12, 13] rfl ?_
    refine kX2_addShifted_J153 G hX72 _ _ _ h
  · replace h := h.2 c
    refine x_lload G dX2_addShifted_145 0 rfl ?_
    refine x_lneg G dX2_addShifted_147 ?_
    refine x_goto (tgt := 153) G dX2_addShifted_148 rfl ?_
    refine x_lv (lv' := [(0, .ref h0), (1, .long p0), (3, .int p1), (4, .int p2), (5, .int x_1), (6, .int x_2), (7, .long y_3), (9, .long y_4), (11, .long v11_8), (13, .long y_5), (15, .long y_6), (17, .long y_7), (19, .int v19_9)]) [1, 2, 3, 4, 5, 6, 7, 8, 9, 10, 11, 12, 13] rfl ?_
    refine kX2_addShifted_J153 G hX72 _ _ _ h
set_option maxRecDepth 20000 in
theorem kX2_addShifted_L72 {g : XG} {h0 : Nat} {h0w : Nat} {p0 : Int64} {p1 : Int32} {p2 : Int32} {x_1 : Int32} {x_2 : Int32} {y_3 : Int64} {y_4 : Int64} {y_5 : Int64} {y_6 : Int64} {y_7 : Int64} {X180 : Int64 → Int32 → (Nat → Int32) → Prop} (G : XO g RX2 cX2_addShifted 22 1 0 0) (hX180 : ∀ (v11_26 : Int64) (v19_27 : Int32) (w_28 : Nat → Int32), X180 v11_26 v19_27 w_28 → X g 22 180 [(19, .int v19_27), (17, .long y_7), (15, .long y_6), (13, .long y_5), (11, .long v11_26), (9, .long y_4), (7, .long y_3), (6, .int x_2), (5, .int x_1), (0, .ref h0), (1, .long p0), (3, .int p1), (4, .int p2)] [] [(h0, .inr (1, [.ref h0w])), (h0w, .inl ((xT g) 2, 40, .inl w_28))] 0 0) : ∀ (n : Nat) (v11_8 : Int64) (v19_9 : Int32) (w_10 : Nat → Int32), wX2_addShifted_L72 p2 x_1 y_5 y_6 y_7 X180 n v11_8 v19_9 w_10 → X g 22 72 [(19, .int v19_9), (17, .long y_7), (15, .long y_6), (13, .long y_5), (11, .long v11_8), (9, .long y_4), (7, .long y_3), (6, .int x_2), (5, .int x_1), (0, .ref h0), (1, .long p0), (3, .int p1), (4, .int p2)] [] [(h0, .inr (1, [.ref h0w])), (h0w, .inl ((xT g) 2, 40, .inl w_10))] 0 0 := by
  intro n
  induction n with
  | zero => intro _ _ _ h; exact h.elim
  | succ n ih =>
    intro v11_8 v19_9 w_10 h
    unfold wX2_addShifted_L72 at h
    refine x_iload G dX2_addShifted_72 0 rfl ?_
    refine x_bipush (v := (40 : Int32)) G dX2_addShifted_74 (by decide) ?_
    refine x_icmp_ge (tgt := 180) G dX2_addShifted_76 rfl (fun c => ?_) (fun c => ?_)
    · replace h := h.1 c
      exact hX180 v11_8 v19_9 w_10 h
    · replace h := h.2 c
      refine x_iload G dX2_addShifted_79 0 rfl ?_
      refine x_iload G dX2_addShifted_81 8 rfl ?_
      refine x_icmp_ne (tgt := 91) G dX2_addShifted_83 rfl (fun c => ?_) (fun c => ?_)
      · replace h := h.1 c
        refine x_iload G dX2_addShifted_91 0 rfl ?_
        refine x_iload G dX2_addShifted_93 8 rfl ?_
        refine x_iconst (v := (1 : Int32)) G dX2_addShifted_95 (by decide) ?_
        refine x_iadd G dX2_addShifted_96 ?_
        refine x_icmp_ne (tgt := 109) G dX2_addShifted_97 rfl (fun c => ?_) (fun c => ?_)
        · replace h := h.1 c
          refine x_iload G dX2_addShifted_109 0 rfl ?_
          refine x_iload G dX2_addShifted_111 8 rfl ?_
          refine x_iconst (v := (2 : Int32)) G dX2_addShifted_113 (by decide) ?_
          refine x_iadd G dX2_addShifted_114 ?_
          refine x_icmp_ne (tgt := 123) G dX2_addShifted_115 rfl (fun c => ?_) (fun c => ?_)
          · replace h := h.1 c
            refine x_lconst (v := (0 : Int64)) G dX2_addShifted_123 (by decide) ?_
            refine x_lv (lv' := [(0, .ref h0), (1, .long p0), (3, .int p1), (4, .int p2), (5, .int x_1), (6, .int x_2), (7, .long y_3), (9, .long y_4), (11, .long v11_8), (13, .long y_5), (15, .long y_6), (17, .long y_7), (19, .int v19_9)]) [9, 10, 11, 12, 8, 7, 6, 5, 4, 3, 2, 1, 0] rfl ?_
            refine kX2_addShifted_J124 G ih _ h
          · replace h := h.2 c
            refine x_lload G dX2_addShifted_118 1 rfl ?_
            refine x_goto (tgt := 124) G dX2_addShifted_120 rfl ?_
            refine x_lv (lv' := [(0, .ref h0), (1, .long p0), (3, .int p1), (4, .int p2), (5, .int x_1), (6, .int x_2), (7, .long y_3), (9, .long y_4), (11, .long v11_8), (13, .long y_5), (15, .long y_6), (17, .long y_7), (19, .int v19_9)]) [9, 10, 11, 12, 8, 7, 6, 5, 4, 3, 2, 1, 0] rfl ?_
            refine kX2_addShifted_J124 G ih _ h
        · replace h := h.2 c
          refine x_lload G dX2_addShifted_100 2 rfl ?_
          refine x_ldc2 G q280 dX2_addShifted_102 ?_
          refine x_land G dX2_addShifted_105 ?_
          refine x_goto (tgt := 124) G dX2_addShifted_106 rfl ?_
          refine x_lv (lv' := [(0, .ref h0), (1, .long p0), (3, .int p1), (4, .int p2), (5, .int x_1), (6, .int x_2), (7, .long y_3), (9, .long y_4), (11, .long v11_8), (13, .long y_5), (15, .long y_6), (17, .long y_7), (19, .int v19_9)]) [9, 10, 11, 12, 8, 7, 6, 5, 4, 3, 2, 1, 0] rfl ?_
          refine kX2_addShifted_J124 G ih _ h
      · replace h := h.2 c
        refine x_lload G dX2_addShifted_86 3 rfl ?_
        refine x_goto (tgt := 124) G dX2_addShifted_88 rfl ?_
        refine x_lv (lv' := [(0, .ref h0), (1, .long p0), (3, .int p1), (4, .int p2), (5, .int x_1), (6, .int x_2), (7, .long y_3), (9, .long y_4), (11, .long v11_8), (13, .long y_5), (15, .long y_6), (17, .long y_7), (19, .int v19_9)]) [9, 10, 11, 12, 8, 7, 6, 5, 4, 3, 2, 1, 0] rfl ?_
        refine kX2_addShifted_J124 G ih _ h
set_option maxRecDepth 20000 in
theorem tX2_addShifted {l : Launch} {D : va_G} {ta : Nat → ClassId} {h0 : Nat} {h0w : Nat} {w : Nat → Int32} {p0 : Int64} {p1 : Int32} {p2 : Int32} {K : (Nat → Int32) → Prop} (hlt : l.stackTraces = false) (h : wX2_addShifted p0 p1 p2 w K) : SMv1 l D ta yX2_addShifted cX2_addShifted 22 1 [.ref h0, .long p0, .int p1, .int p2] [(h0, .inr (1, [.ref h0w])), (h0w, .inl (ta 2, 40, .inl w))] (fun (w' : Nat → Int32) => [(h0, .inr (1, [.ref h0w])), (h0w, .inl (ta 2, 40, .inl w'))]) 0 0 K := by
  refine x_stv1 hlt (plainFor_of_name (by decide +kernel)) (Nat.le_of_ble_eq_true rfl) (fun g G hl hD hT Q => ?_)
  subst hl; subst hD; subst hT
  unfold wX2_addShifted at h
  show X g 22 0 [(0, .ref h0), (1, .long p0), (3, .int p1), (4, .int p2)] [] [(h0, .inr (1, [.ref h0w])), (h0w, .inl ((xT g) 2, 40, .inl w))] 0 0
  refine x_iload_n G rfl dX2_addShifted_0 2 rfl ?_
  refine x_iconst (v := (5 : Int32)) G dX2_addShifted_1 (by decide) ?_
  refine x_ishr G dX2_addShifted_2 ?_
  refine x_topi (fun x_1 ex_1 => ?_)
  replace h := h x_1 ex_1
  refine x_istore (lv' := [(5, .int x_1), (0, .ref h0), (1, .long p0), (3, .int p1), (4, .int p2)]) G dX2_addShifted_3 (by decide) rfl ?_
  refine x_iload_n G rfl dX2_addShifted_5 3 rfl ?_
  refine x_bipush (v := (31 : Int32)) G dX2_addShifted_6 (by decide) ?_
  refine x_iand G dX2_addShifted_8 ?_
  refine x_topi (fun x_2 ex_2 => ?_)
  replace h := h x_2 ex_2
  refine x_istore (lv' := [(6, .int x_2), (5, .int x_1), (0, .ref h0), (1, .long p0), (3, .int p1), (4, .int p2)]) G dX2_addShifted_9 (by decide) rfl ?_
  refine x_lload_n G rfl dX2_addShifted_11 3 rfl ?_
  refine x_ldc2 G q280 dX2_addShifted_12 ?_
  refine x_land G dX2_addShifted_15 ?_
  refine x_iload G dX2_addShifted_16 0 rfl ?_
  refine x_lshl G dX2_addShifted_18 ?_
  refine x_topl (fun y_3 ey_3 => ?_)
  replace h := h y_3 ey_3
  refine x_lstore (lv' := [(7, .long y_3), (6, .int x_2), (5, .int x_1), (0, .ref h0), (1, .long p0), (3, .int p1), (4, .int p2)]) G dX2_addShifted_19 (by decide) rfl ?_
  refine x_lload_n G rfl dX2_addShifted_21 4 rfl ?_
  refine x_bipush (v := (32 : Int32)) G dX2_addShifted_22 (by decide) ?_
  refine x_lushr G dX2_addShifted_24 ?_
  refine x_iload G dX2_addShifted_25 1 rfl ?_
  refine x_lshl G dX2_addShifted_27 ?_
  refine x_topl (fun y_4 ey_4 => ?_)
  replace h := h y_4 ey_4
  refine x_lstore (lv' := [(9, .long y_4), (7, .long y_3), (6, .int x_2), (5, .int x_1), (0, .ref h0), (1, .long p0), (3, .int p1), (4, .int p2)]) G dX2_addShifted_28 (by decide) rfl ?_
  refine x_lconst (v := (0 : Int64)) G dX2_addShifted_30 (by decide) ?_
  refine x_lstore (lv' := [(11, .long (0 : Int64)), (9, .long y_4), (7, .long y_3), (6, .int x_2), (5, .int x_1), (0, .ref h0), (1, .long p0), (3, .int p1), (4, .int p2)]) G dX2_addShifted_31 (by decide) rfl ?_
  refine x_lload G dX2_addShifted_33 2 rfl ?_
  refine x_ldc2 G q280 dX2_addShifted_35 ?_
  refine x_land G dX2_addShifted_38 ?_
  refine x_topl (fun y_5 ey_5 => ?_)
  replace h := h y_5 ey_5
  refine x_lstore (lv' := [(13, .long y_5), (11, .long (0 : Int64)), (9, .long y_4), (7, .long y_3), (6, .int x_2), (5, .int x_1), (0, .ref h0), (1, .long p0), (3, .int p1), (4, .int p2)]) G dX2_addShifted_39 (by decide) rfl ?_
  refine x_lload G dX2_addShifted_41 3 rfl ?_
  refine x_bipush (v := (32 : Int32)) G dX2_addShifted_43 (by decide) ?_
  refine x_lushr G dX2_addShifted_45 ?_
  refine x_lload G dX2_addShifted_46 2 rfl ?_
  refine x_ldc2 G q280 dX2_addShifted_48 ?_
  refine x_land G dX2_addShifted_51 ?_
  refine x_ladd G dX2_addShifted_52 ?_
  refine x_topl (fun y_6 ey_6 => ?_)
  replace h := h y_6 ey_6
  refine x_lstore (lv' := [(15, .long y_6), (13, .long y_5), (11, .long (0 : Int64)), (9, .long y_4), (7, .long y_3), (6, .int x_2), (5, .int x_1), (0, .ref h0), (1, .long p0), (3, .int p1), (4, .int p2)]) G dX2_addShifted_53 (by decide) rfl ?_
  refine x_lload G dX2_addShifted_55 3 rfl ?_
  refine x_bipush (v := (32 : Int32)) G dX2_addShifted_57 (by decide) ?_
  refine x_lushr G dX2_addShifted_59 ?_
  refine x_lload G dX2_addShifted_60 0 rfl ?_
  refine x_bipush (v := (32 : Int32)) G dX2_addShifted_62 (by decide) ?_
  refine x_lushr G dX2_addShifted_64 ?_
  refine x_ladd G dX2_addShifted_65 ?_
  refine x_topl (fun y_7 ey_7 => ?_)
  replace h := h y_7 ey_7
  refine x_lstore (lv' := [(17, .long y_7), (15, .long y_6), (13, .long y_5), (11, .long (0 : Int64)), (9, .long y_4), (7, .long y_3), (6, .int x_2), (5, .int x_1), (0, .ref h0), (1, .long p0), (3, .int p1), (4, .int p2)]) G dX2_addShifted_66 (by decide) rfl ?_
  refine x_iload G dX2_addShifted_68 7 rfl ?_
  refine x_istore (lv' := [(19, .int x_1), (17, .long y_7), (15, .long y_6), (13, .long y_5), (11, .long (0 : Int64)), (9, .long y_4), (7, .long y_3), (6, .int x_2), (5, .int x_1), (0, .ref h0), (1, .long p0), (3, .int p1), (4, .int p2)]) G dX2_addShifted_70 (by decide) rfl ?_
  obtain ⟨n0, h⟩ := h
  refine kX2_addShifted_L72 G (fun v11_29 v19_30 w_31 h => ?_) n0 _ _ _ h
  · exact x_retv1 G Q dX2_addShifted_180 w_31 h XSub.rf (Nat.le_of_ble_eq_true rfl) (Nat.le_of_ble_eq_true rfl)
theorem cdX2_add : yX2_add.cls = RX2 ∧ yX2_add.cls ≠ "java/lang/invoke/MethodHandle" ∧ yX2_add.cls ≠ "java/lang/invoke/VarHandle" ∧ (parseMethodDescriptor yX2_add.desc).map (fun d => d.parameters.length) = some 2 := by decide +kernel
def wX2_add_J52 (w : Nat → Int32) (p1 : Int32) (K : (Nat → Int32) → Prop) : Int64 → Int64 → Int32 → Prop := fun (v4_4 : Int64) (v7_5 : Int64) (s_6 : Int32) => (((0 : Int64) ≤ v4_4 → (((0 : Int32) = p1 → (wX2_addShifted v7_5 s_6 (0 : Int32) w (fun (w_7 : Nat → Int32) => K w_7))) ∧ (¬ (0 : Int32) = p1 → (wX2_addShifted v7_5 s_6 (1 : Int32) w (fun (w_8 : Nat → Int32) => K w_8))))) ∧ (¬ (0 : Int64) ≤ v4_4 → (((1 : Int32) = p1 → (wX2_addShifted v7_5 s_6 (0 : Int32) w (fun (w_9 : Nat → Int32) => K w_9))) ∧ (¬ (1 : Int32) = p1 → (wX2_addShifted v7_5 s_6 (1 : Int32) w (fun (w_10 : Nat → Int32) => K w_10))))))
def wX2_add (p0 : UInt64) (p1 : Int32) (w : Nat → Int32) (K : (Nat → Int32) → Prop) : Prop := (wJ12_doubleToLongBits p0 (fun (r_1 : Int64) => (∀ x_2 : Int32, x_2 = ((jlushr r_1 (52 : Int32)).toInt32 &&& (2047 : Int32)) → ((x_2 ≤ (0 : Int32) → (∀ y_3 : Int64, y_3 = ((r_1 &&& (4503599627370495 : Int64)) ||| (0 : Int64)) → ((x_2 ≤ (0 : Int32) → (wX2_add_J52 w p1 K r_1 y_3 (0 : Int32))) ∧ (¬ x_2 ≤ (0 : Int32) → (wX2_add_J52 w p1 K r_1 y_3 (x_2 - (1 : Int32))))))) ∧ (¬ x_2 ≤ (0 : Int32) → (∀ y_11 : Int64, y_11 = ((r_1 &&& (4503599627370495 : Int64)) ||| (4503599627370496 : Int64)) → ((x_2 ≤ (0 : Int32) → (wX2_add_J52 w p1 K r_1 y_11 (0 : Int32))) ∧ (¬ x_2 ≤ (0 : Int32) → (wX2_add_J52 w p1 K r_1 y_11 (x_2 - (1 : Int32)))))))))))
set_option maxRecDepth 20000 in
theorem kX2_add_J52 {g : XG} {h0 : Nat} {h0w : Nat} {w : Nat → Int32} {p1 : Int32} {K : (Nat → Int32) → Prop} (G : XO g RX2 cX2_add 10 3 0 0) (Q : XQv1 g 0 0 (fun (w' : Nat → Int32) => [(h0, .inr (1, [.ref h0w])), (h0w, .inl ((xT g) 2, 40, .inl w'))]) K) : ∀ (v4_4 : Int64) (v7_5 : Int64) (s_6 : Int32), wX2_add_J52 w p1 K v4_4 v7_5 s_6 → X g 10 52 [(0, .ref h0), (3, .int p1), (4, .long v4_4), (7, .long v7_5)] [.int s_6] [(h0, .inr (1, [.ref h0w])), (h0w, .inl ((xT g) 2, 40, .inl w))] 0 0 := by
  intro v4_4 v7_5 s_6 h
  unfold wX2_add_J52 at h
  refine x_istore (lv' := [(9, .int s_6), (0, .ref h0), (3, .int p1), (4, .long v4_4), (7, .long v7_5)]) G dX2_add_52 (by decide) rfl ?_
  refine x_aload_n G rfl dX2_add_54 1 rfl ?_
  refine x_lload G dX2_add_55 4 rfl ?_
  refine x_iload G dX2_add_57 0 rfl ?_
  refine x_lload G dX2_add_59 3 rfl ?_
  refine x_lconst (v := (0 : Int64)) G dX2_add_61 (by decide) ?_
  refine x_lcmp_ge (tgt := 70) G dX2_add_62 dX2_add_63 rfl (fun c => ?_) (fun c => ?_)
  · replace h := h.1 c
    refine x_iconst (v := (0 : Int32)) G dX2_add_70 (by decide) ?_
    refine x_iload_n G rfl dX2_add_71 2 rfl ?_
    refine x_icmp_eq (tgt := 79) G dX2_add_72 rfl (fun c => ?_) (fun c => ?_)
    · replace h := h.1 c
      refine x_iconst (v := (0 : Int32)) G dX2_add_79 (by decide) ?_
      refine x_cVv1 (wc := [(h0, .inr (1, [.ref h0w])), (h0w, .inl ((xT g) 2, 40, .inl w))]) (As := [.long v7_5, .int s_6, .int (0 : Int32)]) (rest := []) G [] (XSub.of [0, 1] rfl (by decide)) (tX2_addShifted G.noTraces h) (lw_V q276 q278 qs3 q66 q279) cdX2_addShifted 1 0 rfl rfl rfl (by decide) (by decide) rfl (Nat.le_of_ble_eq_true rfl) (Nat.le_of_ble_eq_true rfl) (Nat.le_of_ble_eq_true rfl) dX2_add_80 (fun w_7 h => ?_)
      show X g 10 83 [(9, .int s_6), (0, .ref h0), (3, .int p1), (4, .long v4_4), (7, .long v7_5)] [] [(h0, .inr (1, [.ref h0w])), (h0w, .inl ((xT g) 2, 40, .inl w_7))] 0 0
      exact x_retv1 G Q dX2_add_83 w_7 h XSub.rf (Nat.le_of_ble_eq_true rfl) (Nat.le_of_ble_eq_true rfl)
    · replace h := h.2 c
      refine x_iconst (v := (1 : Int32)) G dX2_add_75 (by decide) ?_
      refine x_goto (tgt := 80) G dX2_add_76 rfl ?_
      refine x_cVv1 (wc := [(h0, .inr (1, [.ref h0w])), (h0w, .inl ((xT g) 2, 40, .inl w))]) (As := [.long v7_5, .int s_6, .int (1 : Int32)]) (rest := []) G [] (XSub.of [0, 1] rfl (by decide)) (tX2_addShifted G.noTraces h) (lw_V q276 q278 qs3 q66 q279) cdX2_addShifted 1 0 rfl rfl rfl (by decide) (by decide) rfl (Nat.le_of_ble_eq_true rfl) (Nat.le_of_ble_eq_true rfl) (Nat.le_of_ble_eq_true rfl) dX2_add_80 (fun w_8 h => ?_)
      show X g 10 83 [(9, .int s_6), (0, .ref h0), (3, .int p1), (4, .long v4_4), (7, .long v7_5)] [] [(h0, .inr (1, [.ref h0w])), (h0w, .inl ((xT g) 2, 40, .inl w_8))] 0 0
      exact x_retv1 G Q dX2_add_83 w_8 h XSub.rf (Nat.le_of_ble_eq_true rfl) (Nat.le_of_ble_eq_true rfl)
  · replace h := h.2 c
    refine x_iconst (v := (1 : Int32)) G dX2_add_66 (by decide) ?_
    refine x_goto (tgt := 71) G dX2_add_67 rfl ?_
    refine x_iload_n G rfl dX2_add_71 2 rfl ?_
    refine x_icmp_eq (tgt := 79) G dX2_add_72 rfl (fun c => ?_) (fun c => ?_)
    · replace h := h.1 c
      refine x_iconst (v := (0 : Int32)) G dX2_add_79 (by decide) ?_
      refine x_cVv1 (wc := [(h0, .inr (1, [.ref h0w])), (h0w, .inl ((xT g) 2, 40, .inl w))]) (As := [.long v7_5, .int s_6, .int (0 : Int32)]) (rest := []) G [] (XSub.of [0, 1] rfl (by decide)) (tX2_addShifted G.noTraces h) (lw_V q276 q278 qs3 q66 q279) cdX2_addShifted 1 0 rfl rfl rfl (by decide) (by decide) rfl (Nat.le_of_ble_eq_true rfl) (Nat.le_of_ble_eq_true rfl) (Nat.le_of_ble_eq_true rfl) dX2_add_80 (fun w_9 h => ?_)
      show X g 10 83 [(9, .int s_6), (0, .ref h0), (3, .int p1), (4, .long v4_4), (7, .long v7_5)] [] [(h0, .inr (1, [.ref h0w])), (h0w, .inl ((xT g) 2, 40, .inl w_9))] 0 0
      exact x_retv1 G Q dX2_add_83 w_9 h XSub.rf (Nat.le_of_ble_eq_true rfl) (Nat.le_of_ble_eq_true rfl)
    · replace h := h.2 c
      refine x_iconst (v := (1 : Int32)) G dX2_add_75 (by decide) ?_
      refine x_goto (tgt := 80) G dX2_add_76 rfl ?_
      refine x_cVv1 (wc := [(h0, .inr (1, [.ref h0w])), (h0w, .inl ((xT g) 2, 40, .inl w))]) (As := [.long v7_5, .int s_6, .int (1 : Int32)]) (rest := []) G [] (XSub.of [0, 1] rfl (by decide)) (tX2_addShifted G.noTraces h) (lw_V q276 q278 qs3 q66 q279) cdX2_addShifted 1 0 rfl rfl rfl (by decide) (by decide) rfl (Nat.le_of_ble_eq_true rfl) (Nat.le_of_ble_eq_true rfl) (Nat.le_of_ble_eq_true rfl) dX2_add_80 (fun w_10 h => ?_)
      show X g 10 83 [(9, .int s_6), (0, .ref h0), (3, .int p1), (4, .long v4_4), (7, .long v7_5)] [] [(h0, .inr (1, [.ref h0w])), (h0w, .inl ((xT g) 2, 40, .inl w_10))] 0 0
      exact x_retv1 G Q dX2_add_83 w_10 h XSub.rf (Nat.le_of_ble_eq_true rfl) (Nat.le_of_ble_eq_true rfl)
set_option maxRecDepth 20000 in
theorem tX2_add {l : Launch} {D : va_G} {ta : Nat → ClassId} {h0 : Nat} {h0w : Nat} {w : Nat → Int32} {p0 : UInt64} {p1 : Int32} {K : (Nat → Int32) → Prop} (hlt : l.stackTraces = false) (h : wX2_add p0 p1 w K) : SMv1 l D ta yX2_add cX2_add 10 3 [.ref h0, .double p0, .int p1] [(h0, .inr (1, [.ref h0w])), (h0w, .inl (ta 2, 40, .inl w))] (fun (w' : Nat → Int32) => [(h0, .inr (1, [.ref h0w])), (h0w, .inl (ta 2, 40, .inl w'))]) 0 0 K := by
  refine x_stv1 hlt (plainFor_of_name (by decide +kernel)) (Nat.le_of_ble_eq_true rfl) (fun g G hl hD hT Q => ?_)
  subst hl; subst hD; subst hT
  unfold wX2_add at h
  show X g 10 0 [(0, .ref h0), (1, .double p0), (3, .int p1)] [] [(h0, .inr (1, [.ref h0w])), (h0w, .inl ((xT g) 2, 40, .inl w))] 0 0
  refine x_dload_n G rfl dX2_add_0 1 rfl ?_
  refine x_cPl (As := [.double p0]) (rest := []) G (tJ12_doubleToLongBits G.noTraces h) (lw_S q273 q227 q84 q228) cdJ12_doubleToLongBits (by decide) (by decide) rfl (Nat.le_of_ble_eq_true rfl) (Nat.zero_le _) (Nat.zero_le _) dX2_add_1 (fun r_1 h => ?_)
  refine x_lstore (lv' := [(4, .long r_1), (0, .ref h0), (1, .double p0), (3, .int p1)]) G dX2_add_4 (by decide) rfl ?_
  refine x_lload G dX2_add_6 0 rfl ?_
  refine x_bipush (v := (52 : Int32)) G dX2_add_8 (by decide) ?_
  refine x_lushr G dX2_add_10 ?_
  refine x_l2i G dX2_add_11 ?_
  refine x_sipush (v := (2047 : Int32)) G dX2_add_12 (by decide) ?_
  refine x_iand G dX2_add_15 ?_
  refine x_topi (fun x_2 ex_2 => ?_)
  replace h := h x_2 ex_2
  refine x_istore (lv' := [(6, .int x_2), (4, .long r_1), (0, .ref h0), (1, .double p0), (3, .int p1)]) G dX2_add_16 (by decide) rfl ?_
  refine x_lload G dX2_add_18 1 rfl ?_
  refine x_ldc2 G q274 dX2_add_20 ?_
  refine x_land G dX2_add_23 ?_
  refine x_iload G dX2_add_24 0 rfl ?_
  refine x_if_le (tgt := 35) G dX2_add_26 rfl (fun c => ?_) (fun c => ?_)
  · replace h := h.1 c
    refine x_lconst (v := (0 : Int64)) G dX2_add_35 (by decide) ?_
    refine x_lor G dX2_add_36 ?_
    refine x_topl (fun y_3 ey_3 => ?_)
    replace h := h y_3 ey_3
    refine x_lstore (lv' := [(7, .long y_3), (6, .int x_2), (4, .long r_1), (0, .ref h0), (1, .double p0), (3, .int p1)]) G dX2_add_37 (by decide) rfl ?_
    refine x_iload G dX2_add_39 1 rfl ?_
    refine x_if_le (tgt := 51) G dX2_add_41 rfl (fun c => ?_) (fun c => ?_)
    · replace h := h.1 c
      refine x_iconst (v := (0 : Int32)) G dX2_add_51 (by decide) ?_
      refine x_lv (lv' := [(0, .ref h0), (3, .int p1), (4, .long r_1), (7, .long y_3)]) [3, 5, 2, 0] rfl ?_
      refine kX2_add_J52 G Q  _ _ _ h
    · replace h := h.2 c
      refine x_iload G dX2_add_44 1 rfl ?_
      refine x_iconst (v := (1 : Int32)) G dX2_add_46 (by decide) ?_
      refine x_isub G dX2_add_47 ?_
      refine x_goto (tgt := 52) G dX2_add_48 rfl ?_
      refine x_lv (lv' := [(0, .ref h0), (3, .int p1), (4, .long r_1), (7, .long y_3)]) [3, 5, 2, 0] rfl ?_
      refine kX2_add_J52 G Q  _ _ _ h
  · replace h := h.2 c
    refine x_ldc2 G q275 dX2_add_29 ?_
    refine x_goto (tgt := 36) G dX2_add_32 rfl ?_
    refine x_lor G dX2_add_36 ?_
    refine x_topl (fun y_11 ey_11 => ?_)
    replace h := h y_11 ey_11
    refine x_lstore (lv' := [(7, .long y_11), (6, .int x_2), (4, .long r_1), (0, .ref h0), (1, .double p0), (3, .int p1)]) G dX2_add_37 (by decide) rfl ?_
    refine x_iload G dX2_add_39 1 rfl ?_
    refine x_if_le (tgt := 51) G dX2_add_41 rfl (fun c => ?_) (fun c => ?_)
    · replace h := h.1 c
      refine x_iconst (v := (0 : Int32)) G dX2_add_51 (by decide) ?_
      refine x_lv (lv' := [(0, .ref h0), (3, .int p1), (4, .long r_1), (7, .long y_11)]) [3, 5, 2, 0] rfl ?_
      refine kX2_add_J52 G Q  _ _ _ h
    · replace h := h.2 c
      refine x_iload G dX2_add_44 1 rfl ?_
      refine x_iconst (v := (1 : Int32)) G dX2_add_46 (by decide) ?_
      refine x_isub G dX2_add_47 ?_
      refine x_goto (tgt := 52) G dX2_add_48 rfl ?_
      refine x_lv (lv' := [(0, .ref h0), (3, .int p1), (4, .long r_1), (7, .long y_11)]) [3, 5, 2, 0] rfl ?_
      refine kX2_add_J52 G Q  _ _ _ h
theorem cdX2_sign : yX2_sign.cls = RX2 ∧ yX2_sign.cls ≠ "java/lang/invoke/MethodHandle" ∧ yX2_sign.cls ≠ "java/lang/invoke/VarHandle" ∧ (parseMethodDescriptor yX2_sign.desc).map (fun d => d.parameters.length) = some 0 := by decide +kernel
def wX2_sign_L13 (w : Nat → Int32) (X36 : Int32 → Int32 → Prop) : Nat → Int32 → Int32 → Prop
  | 0, _, _ => False
  | n + 1, v1_1, v4_2 => (((40 : Int32) ≤ v4_2 → X36 v1_1 v4_2) ∧ (¬ (40 : Int32) ≤ v4_2 → (vp_in v4_2 40 ∧ (∀ x_3 : Int32, x_3 = (w v4_2.toNatClampNeg) → (∀ x_4 : Int32, x_4 = (v1_1 ||| x_3) → (∀ x_5 : Int32, x_5 = (v4_2 + (1 : Int32)) → wX2_sign_L13 w X36 n x_4 x_5))))))
def wX2_sign (w : Nat → Int32) (K : Int32 → Prop) : Prop := (∃ m13 : Nat, wX2_sign_L13 w (fun (v1_8 : Int32) (v4_9 : Int32) => (vp_in (39 : Int32) 40 ∧ (((0 : Int32) ≤ (w (39 : Int32).toNatClampNeg) → ((¬ v1_8 = (0 : Int32) → K (1 : Int32)) ∧ (v1_8 = (0 : Int32) → K (0 : Int32)))) ∧ (¬ (0 : Int32) ≤ (w (39 : Int32).toNatClampNeg) → K (-1 : Int32))))) m13 (0 : Int32) (0 : Int32))
set_option maxRecDepth 20000 in
theorem kX2_sign_L13 {g : XG} {h0 : Nat} {h0w : Nat} {w : Nat → Int32} {X36 : Int32 → Int32 → Prop} (G : XO g RX2 cX2_sign 6 1 0 0) (hX36 : ∀ (v1_6 : Int32) (v4_7 : Int32), X36 v1_6 v4_7 → X g 6 36 [(4, .int v4_7), (3, .int (40 : Int32)), (2, .ref h0w), (1, .int v1_6), (0, .ref h0)] [] [(h0, .inr (1, [.ref h0w])), (h0w, .inl ((xT g) 2, 40, .inl w))] 0 0) : ∀ (n : Nat) (v1_1 : Int32) (v4_2 : Int32), wX2_sign_L13 w X36 n v1_1 v4_2 → X g 6 13 [(4, .int v4_2), (3, .int (40 : Int32)), (2, .ref h0w), (1, .int v1_1), (0, .ref h0)] [] [(h0, .inr (1, [.ref h0w])), (h0w, .inl ((xT g) 2, 40, .inl w))] 0 0 := by
  intro n
  induction n with
  | zero => intro _ _ h; exact h.elim
  | succ n ih =>
    intro v1_1 v4_2 h
    unfold wX2_sign_L13 at h
    refine x_iload G dX2_sign_13 0 rfl ?_
    refine x_iload_n G rfl dX2_sign_15 1 rfl ?_
    refine x_icmp_ge (tgt := 36) G dX2_sign_16 rfl (fun c => ?_) (fun c => ?_)
    · replace h := h.1 c
      exact hX36 v1_1 v4_2 h
    · replace h := h.2 c
      refine x_aload_n G rfl dX2_sign_19 2 rfl ?_
      refine x_iload G dX2_sign_20 0 rfl ?_
      obtain ⟨hz, h⟩ := h
      refine x_iald G 1 rfl hz dX2_sign_22 ?_
      refine x_topi (fun x_3 ex_3 => ?_)
      replace h := h x_3 ex_3
      refine x_istore (lv' := [(5, .int x_3), (4, .int v4_2), (3, .int (40 : Int32)), (2, .ref h0w), (1, .int v1_1), (0, .ref h0)]) G dX2_sign_23 (by decide) rfl ?_
      refine x_iload_n G rfl dX2_sign_25 4 rfl ?_
      refine x_iload G dX2_sign_26 0 rfl ?_
      refine x_ior G dX2_sign_28 ?_
      refine x_topi (fun x_4 ex_4 => ?_)
      replace h := h x_4 ex_4
      refine x_istore_n (lv' := [(1, .int x_4), (5, .int x_3), (4, .int v4_2), (3, .int (40 : Int32)), (2, .ref h0w), (0, .ref h0)]) G rfl dX2_sign_29 (by decide) rfl ?_
      obtain ⟨x_5, ex_5⟩ : ∃ z : Int32, z = (v4_2 + (1 : Int32)) := ⟨_, rfl⟩
      replace h := h x_5 ex_5
      refine x_iinc (v := x_5) (lv' := [(4, .int x_5), (1, .int x_4), (5, .int x_3), (3, .int (40 : Int32)), (2, .ref h0w), (0, .ref h0)]) G dX2_sign_30 2 rfl (by rw [ex_5]; rfl) (by decide) rfl ?_
      refine x_goto (tgt := 13) G dX2_sign_33 rfl ?_
      refine x_lv (lv' := [(4, .int x_5), (3, .int (40 : Int32)), (2, .ref h0w), (1, .int x_4), (0, .ref h0)]) [0, 3, 4, 1, 5] rfl ?_
      exact ih x_4 x_5 h
set_option maxRecDepth 20000 in
theorem tX2_sign {l : Launch} {D : va_G} {ta : Nat → ClassId} {h0 : Nat} {h0w : Nat} {w : Nat → Int32} {K : Int32 → Prop} (hlt : l.stackTraces = false) (h : wX2_sign w K) : SMi0 l D ta yX2_sign cX2_sign 6 FieldType.int 1 [.ref h0] [(h0, .inr (1, [.ref h0w])), (h0w, .inl (ta 2, 40, .inl w))] ([(h0, .inr (1, [.ref h0w])), (h0w, .inl (ta 2, 40, .inl w))]) 0 0 K := by
  refine x_sti0 hlt (plainFor_of_name (by decide +kernel)) (Nat.le_of_ble_eq_true rfl) (fun g G hl hD hT Q => ?_)
  subst hl; subst hD; subst hT
  unfold wX2_sign at h
  show X g 6 0 [(0, .ref h0)] [] [(h0, .inr (1, [.ref h0w])), (h0w, .inl ((xT g) 2, 40, .inl w))] 0 0
  refine x_iconst (v := (0 : Int32)) G dX2_sign_0 (by decide) ?_
  refine x_istore_n (lv' := [(1, .int (0 : Int32)), (0, .ref h0)]) G rfl dX2_sign_1 (by decide) rfl ?_
  refine x_aload_n G rfl dX2_sign_2 1 rfl ?_
  refine x_get G in_X2 0 rfl rfl 0 (by decide) q128 (fun _ h => h) rfl dX2_sign_3 ?_
  refine x_astore_n (lv' := [(2, .ref h0w), (1, .int (0 : Int32)), (0, .ref h0)]) G rfl dX2_sign_6 (by decide) rfl ?_
  refine x_aload_n G rfl dX2_sign_7 0 rfl ?_
  refine x_alen G 1 2 rfl rfl (v := (40 : Int32)) (by decide) dX2_sign_8 ?_
  refine x_istore_n (lv' := [(3, .int (40 : Int32)), (2, .ref h0w), (1, .int (0 : Int32)), (0, .ref h0)]) G rfl dX2_sign_9 (by decide) rfl ?_
  refine x_iconst (v := (0 : Int32)) G dX2_sign_10 (by decide) ?_
  refine x_istore (lv' := [(4, .int (0 : Int32)), (3, .int (40 : Int32)), (2, .ref h0w), (1, .int (0 : Int32)), (0, .ref h0)]) G dX2_sign_11 (by decide) rfl ?_
  obtain ⟨n0, h⟩ := h
  refine kX2_sign_L13 G (fun v1_8 v4_9 h => ?_) n0 _ _ h
  · refine x_aload_n G rfl dX2_sign_36 4 rfl ?_
    refine x_get G in_X2 0 rfl rfl 0 (by decide) q128 (fun _ h => h) rfl dX2_sign_37 ?_
    refine x_bipush (v := (39 : Int32)) G dX2_sign_40 (by decide) ?_
    obtain ⟨hz, h⟩ := h
    refine x_iald G 1 rfl hz dX2_sign_42 ?_
    refine x_if_ge (tgt := 50) G dX2_sign_43 rfl (fun c => ?_) (fun c => ?_)
    · replace h := h.1 c
      refine x_iload_n G rfl dX2_sign_50 3 rfl ?_
      refine x_if_ne (tgt := 58) G dX2_sign_51 rfl (fun c => ?_) (fun c => ?_)
      · replace h := h.1 c
        refine x_iconst (v := (1 : Int32)) G dX2_sign_58 (by decide) ?_
        exact x_reti0 G Q dX2_sign_59 rfl  h XSub.rf (Nat.le_of_ble_eq_true rfl) (Nat.le_of_ble_eq_true rfl)
      · replace h := h.2 c
        refine x_iconst (v := (0 : Int32)) G dX2_sign_54 (by decide) ?_
        refine x_goto (tgt := 59) G dX2_sign_55 rfl ?_
        exact x_reti0 G Q dX2_sign_59 rfl  h XSub.rf (Nat.le_of_ble_eq_true rfl) (Nat.le_of_ble_eq_true rfl)
    · replace h := h.2 c
      refine x_iconst (v := (-1 : Int32)) G dX2_sign_46 (by decide) ?_
      refine x_goto (tgt := 59) G dX2_sign_47 rfl ?_
      exact x_reti0 G Q dX2_sign_59 rfl  h XSub.rf (Nat.le_of_ble_eq_true rfl) (Nat.le_of_ble_eq_true rfl)
theorem cdX2_negate : yX2_negate.cls = RX2 ∧ yX2_negate.cls ≠ "java/lang/invoke/MethodHandle" ∧ yX2_negate.cls ≠ "java/lang/invoke/VarHandle" ∧ (parseMethodDescriptor yX2_negate.desc).map (fun d => d.parameters.length) = some 0 := by decide +kernel
def wX2_negate_L4 (X45 : Int64 → Int32 → (Nat → Int32) → Prop) : Nat → Int64 → Int32 → (Nat → Int32) → Prop
  | 0, _, _, _ => False
  | n + 1, v1_1, v3_2, w_3 => (((40 : Int32) ≤ v3_2 → X45 v1_1 v3_2 w_3) ∧ (¬ (40 : Int32) ≤ v3_2 → (vp_in v3_2 40 ∧ (∀ y_4 : Int64, y_4 = (v1_1 + (((w_3 v3_2.toNatClampNeg) ^^^ (-1 : Int32)).toInt64 &&& (4294967295 : Int64))) → (∀ x_5 : Int32, x_5 = y_4.toInt32 → (vp_in v3_2 40 ∧ (∀ f_6 : Nat → Int32, f_6 = upd w_3 v3_2.toNatClampNeg x_5 → (∀ y_7 : Int64, y_7 = (jlushr y_4 (32 : Int32)) → (∀ x_8 : Int32, x_8 = (v3_2 + (1 : Int32)) → wX2_negate_L4 X45 n y_7 x_8 f_6)))))))))
def wX2_negate (w : Nat → Int32) (K : (Nat → Int32) → Prop) : Prop := (∃ m4 : Nat, wX2_negate_L4 (fun (v1_12 : Int64) (v3_13 : Int32) (w_14 : Nat → Int32) => K w_14) m4 (1 : Int64) (0 : Int32) w)
set_option maxRecDepth 20000 in
theorem kX2_negate_L4 {g : XG} {h0 : Nat} {h0w : Nat} {X45 : Int64 → Int32 → (Nat → Int32) → Prop} (G : XO g RX2 cX2_negate 4 1 0 0) (hX45 : ∀ (v1_9 : Int64) (v3_10 : Int32) (w_11 : Nat → Int32), X45 v1_9 v3_10 w_11 → X g 4 45 [(3, .int v3_10), (1, .long v1_9), (0, .ref h0)] [] [(h0, .inr (1, [.ref h0w])), (h0w, .inl ((xT g) 2, 40, .inl w_11))] 0 0) : ∀ (n : Nat) (v1_1 : Int64) (v3_2 : Int32) (w_3 : Nat → Int32), wX2_negate_L4 X45 n v1_1 v3_2 w_3 → X g 4 4 [(3, .int v3_2), (1, .long v1_1), (0, .ref h0)] [] [(h0, .inr (1, [.ref h0w])), (h0w, .inl ((xT g) 2, 40, .inl w_3))] 0 0 := by
  intro n
  induction n with
  | zero => intro _ _ _ h; exact h.elim
  | succ n ih =>
    intro v1_1 v3_2 w_3 h
    unfold wX2_negate_L4 at h
    refine x_iload_n G rfl dX2_negate_4 0 rfl ?_
    refine x_bipush (v := (40 : Int32)) G dX2_negate_5 (by decide) ?_
    refine x_icmp_ge (tgt := 45) G dX2_negate_7 rfl (fun c => ?_) (fun c => ?_)
    · replace h := h.1 c
      exact hX45 v1_1 v3_2 w_3 h
    · replace h := h.2 c
      refine x_lload_n G rfl dX2_negate_10 1 rfl ?_
      refine x_aload_n G rfl dX2_negate_11 2 rfl ?_
      refine x_get G in_X2 0 rfl rfl 0 (by decide) q128 (fun _ h => h) rfl dX2_negate_12 ?_
      refine x_iload_n G rfl dX2_negate_15 0 rfl ?_
      obtain ⟨hz, h⟩ := h
      refine x_iald G 1 rfl hz dX2_negate_16 ?_
      refine x_iconst (v := (-1 : Int32)) G dX2_negate_17 (by decide) ?_
      refine x_ixor G dX2_negate_18 ?_
      refine x_i2l G dX2_negate_19 ?_
      refine x_ldc2 G q280 dX2_negate_20 ?_
      refine x_land G dX2_negate_23 ?_
      refine x_ladd G dX2_negate_24 ?_
      refine x_topl (fun y_4 ey_4 => ?_)
      replace h := h y_4 ey_4
      refine x_lstore_n (lv' := [(1, .long y_4), (3, .int v3_2), (0, .ref h0)]) G rfl dX2_negate_25 (by decide) rfl ?_
      refine x_aload_n G rfl dX2_negate_26 2 rfl ?_
      refine x_get G in_X2 0 rfl rfl 0 (by decide) q128 (fun _ h => h) rfl dX2_negate_27 ?_
      refine x_iload_n G rfl dX2_negate_30 1 rfl ?_
      refine x_lload_n G rfl dX2_negate_31 0 rfl ?_
      refine x_l2i G dX2_negate_32 ?_
      refine x_topi (fun x_5 ex_5 => ?_)
      replace h := h x_5 ex_5
      obtain ⟨hz, h⟩ := h
      obtain ⟨f_6, ef_6⟩ : ∃ z : Nat → Int32, z = upd w_3 v3_2.toNatClampNeg x_5 := ⟨_, rfl⟩
      replace h := h f_6 ef_6
      refine x_iast G 1 rfl hz (by rw [← ef_6]) dX2_negate_33 ?_
      show X g 4 34 [(1, .long y_4), (3, .int v3_2), (0, .ref h0)] [] [(h0, .inr (1, [.ref h0w])), (h0w, .inl ((xT g) 2, 40, .inl f_6))] 0 0
      refine x_lload_n G rfl dX2_negate_34 0 rfl ?_
      refine x_bipush (v := (32 : Int32)) G dX2_negate_35 (by decide) ?_
      refine x_lushr G dX2_negate_37 ?_
      refine x_topl (fun y_7 ey_7 => ?_)
      replace h := h y_7 ey_7
      refine x_lstore_n (lv' := [(1, .long y_7), (3, .int v3_2), (0, .ref h0)]) G rfl dX2_negate_38 (by decide) rfl ?_
      obtain ⟨x_8, ex_8⟩ : ∃ z : Int32, z = (v3_2 + (1 : Int32)) := ⟨_, rfl⟩
      replace h := h x_8 ex_8
      refine x_iinc (v := x_8) (lv' := [(3, .int x_8), (1, .long y_7), (0, .ref h0)]) G dX2_negate_39 1 rfl (by rw [ex_8]; rfl) (by decide) rfl ?_
      refine x_goto (tgt := 4) G dX2_negate_42 rfl ?_
      exact ih y_7 x_8 f_6 h
set_option maxRecDepth 20000 in
theorem tX2_negate {l : Launch} {D : va_G} {ta : Nat → ClassId} {h0 : Nat} {h0w : Nat} {w : Nat → Int32} {K : (Nat → Int32) → Prop} (hlt : l.stackTraces = false) (h : wX2_negate w K) : SMv1 l D ta yX2_negate cX2_negate 4 1 [.ref h0] [(h0, .inr (1, [.ref h0w])), (h0w, .inl (ta 2, 40, .inl w))] (fun (w' : Nat → Int32) => [(h0, .inr (1, [.ref h0w])), (h0w, .inl (ta 2, 40, .inl w'))]) 0 0 K := by
  refine x_stv1 hlt (plainFor_of_name (by decide +kernel)) (Nat.le_of_ble_eq_true rfl) (fun g G hl hD hT Q => ?_)
  subst hl; subst hD; subst hT
  unfold wX2_negate at h
  show X g 4 0 [(0, .ref h0)] [] [(h0, .inr (1, [.ref h0w])), (h0w, .inl ((xT g) 2, 40, .inl w))] 0 0
  refine x_lconst (v := (1 : Int64)) G dX2_negate_0 (by decide) ?_
  refine x_lstore_n (lv' := [(1, .long (1 : Int64)), (0, .ref h0)]) G rfl dX2_negate_1 (by decide) rfl ?_
  refine x_iconst (v := (0 : Int32)) G dX2_negate_2 (by decide) ?_
  refine x_istore_n (lv' := [(3, .int (0 : Int32)), (1, .long (1 : Int64)), (0, .ref h0)]) G rfl dX2_negate_3 (by decide) rfl ?_
  obtain ⟨n0, h⟩ := h
  refine kX2_negate_L4 G (fun v1_12 v3_13 w_14 h => ?_) n0 _ _ _ h
  · exact x_retv1 G Q dX2_negate_45 w_14 h XSub.rf (Nat.le_of_ble_eq_true rfl) (Nat.le_of_ble_eq_true rfl)
theorem cdX2_isSet : yX2_isSet.cls = RX2 ∧ yX2_isSet.cls ≠ "java/lang/invoke/MethodHandle" ∧ yX2_isSet.cls ≠ "java/lang/invoke/VarHandle" ∧ (parseMethodDescriptor yX2_isSet.desc).map (fun d => d.parameters.length) = some 1 := by decide +kernel
def wX2_isSet (p0 : Int32) (w : Nat → Int32) (K : Int32 → Prop) : Prop := (vp_in (jishr p0 (5 : Int32)) 40 ∧ ((¬ ((jiushr (w (jishr p0 (5 : Int32)).toNatClampNeg) (p0 &&& (31 : Int32))) &&& (1 : Int32)) = (1 : Int32) → K (0 : Int32)) ∧ (((jiushr (w (jishr p0 (5 : Int32)).toNatClampNeg) (p0 &&& (31 : Int32))) &&& (1 : Int32)) = (1 : Int32) → K (1 : Int32))))
set_option maxRecDepth 20000 in
theorem tX2_isSet {l : Launch} {D : va_G} {ta : Nat → ClassId} {h0 : Nat} {h0w : Nat} {w : Nat → Int32} {p0 : Int32} {K : Int32 → Prop} (hlt : l.stackTraces = false) (h : wX2_isSet p0 w K) : SMi0 l D ta yX2_isSet cX2_isSet 2 FieldType.boolean 1 [.ref h0, .int p0] [(h0, .inr (1, [.ref h0w])), (h0w, .inl (ta 2, 40, .inl w))] ([(h0, .inr (1, [.ref h0w])), (h0w, .inl (ta 2, 40, .inl w))]) 0 0 K := by
  refine x_sti0 hlt (plainFor_of_name (by decide +kernel)) (Nat.le_of_ble_eq_true rfl) (fun g G hl hD hT Q => ?_)
  subst hl; subst hD; subst hT
  unfold wX2_isSet at h
  show X g 2 0 [(0, .ref h0), (1, .int p0)] [] [(h0, .inr (1, [.ref h0w])), (h0w, .inl ((xT g) 2, 40, .inl w))] 0 0
  refine x_aload_n G rfl dX2_isSet_0 0 rfl ?_
  refine x_get G in_X2 0 rfl rfl 0 (by decide) q128 (fun _ h => h) rfl dX2_isSet_1 ?_
  refine x_iload_n G rfl dX2_isSet_4 1 rfl ?_
  refine x_iconst (v := (5 : Int32)) G dX2_isSet_5 (by decide) ?_
  refine x_ishr G dX2_isSet_6 ?_
  obtain ⟨hz, h⟩ := h
  refine x_iald G 1 rfl hz dX2_isSet_7 ?_
  refine x_iload_n G rfl dX2_isSet_8 1 rfl ?_
  refine x_bipush (v := (31 : Int32)) G dX2_isSet_9 (by decide) ?_
  refine x_iand G dX2_isSet_11 ?_
  refine x_iushr G dX2_isSet_12 ?_
  refine x_iconst (v := (1 : Int32)) G dX2_isSet_13 (by decide) ?_
  refine x_iand G dX2_isSet_14 ?_
  refine x_iconst (v := (1 : Int32)) G dX2_isSet_15 (by decide) ?_
  refine x_icmp_ne (tgt := 23) G dX2_isSet_16 rfl (fun c => ?_) (fun c => ?_)
  · replace h := h.1 c
    refine x_iconst (v := (0 : Int32)) G dX2_isSet_23 (by decide) ?_
    exact x_reti0 G Q dX2_isSet_24 rfl  h XSub.rf (Nat.le_of_ble_eq_true rfl) (Nat.le_of_ble_eq_true rfl)
  · replace h := h.2 c
    refine x_iconst (v := (1 : Int32)) G dX2_isSet_19 (by decide) ?_
    refine x_goto (tgt := 24) G dX2_isSet_20 rfl ?_
    exact x_reti0 G Q dX2_isSet_24 rfl  h XSub.rf (Nat.le_of_ble_eq_true rfl) (Nat.le_of_ble_eq_true rfl)
theorem cdX2_length : yX2_length.cls = RX2 ∧ yX2_length.cls ≠ "java/lang/invoke/MethodHandle" ∧ yX2_length.cls ≠ "java/lang/invoke/VarHandle" ∧ (parseMethodDescriptor yX2_length.desc).map (fun d => d.parameters.length) = some 0 := by decide +kernel
def wX2_length_L4 (w : Nat → Int32) (X24 : Int32 → Prop) : Nat → Int32 → Prop
  | 0, _ => False
  | n + 1, v1_1 => ((v1_1 ≤ (0 : Int32) → X24 v1_1) ∧ (¬ v1_1 ≤ (0 : Int32) → (wX2_isSet (v1_1 - (1 : Int32)) w (fun (r_2 : Int32) => ((¬ r_2 = (0 : Int32) → X24 v1_1) ∧ (r_2 = (0 : Int32) → (∀ x_3 : Int32, x_3 = (v1_1 + (-1 : Int32)) → wX2_length_L4 w X24 n x_3)))))))
def wX2_length (w : Nat → Int32) (K : Int32 → Prop) : Prop := (∃ m4 : Nat, wX2_length_L4 w (fun (v1_5 : Int32) => K v1_5) m4 (1280 : Int32))
set_option maxRecDepth 20000 in
theorem kX2_length_L4 {g : XG} {h0 : Nat} {h0w : Nat} {w : Nat → Int32} {X24 : Int32 → Prop} (G : XO g RX2 cX2_length 2 2 0 0) (hX24 : ∀ (v1_4 : Int32), X24 v1_4 → X g 2 24 [(1, .int v1_4), (0, .ref h0)] [] [(h0, .inr (1, [.ref h0w])), (h0w, .inl ((xT g) 2, 40, .inl w))] 0 0) : ∀ (n : Nat) (v1_1 : Int32), wX2_length_L4 w X24 n v1_1 → X g 2 4 [(1, .int v1_1), (0, .ref h0)] [] [(h0, .inr (1, [.ref h0w])), (h0w, .inl ((xT g) 2, 40, .inl w))] 0 0 := by
  intro n
  induction n with
  | zero => intro _ h; exact h.elim
  | succ n ih =>
    intro v1_1 h
    unfold wX2_length_L4 at h
    refine x_iload_n G rfl dX2_length_4 0 rfl ?_
    refine x_if_le (tgt := 24) G dX2_length_5 rfl (fun c => ?_) (fun c => ?_)
    · replace h := h.1 c
      exact hX24 v1_1 h
    · replace h := h.2 c
      refine x_aload_n G rfl dX2_length_8 1 rfl ?_
      refine x_iload_n G rfl dX2_length_9 0 rfl ?_
      refine x_iconst (v := (1 : Int32)) G dX2_length_10 (by decide) ?_
      refine x_isub G dX2_length_11 ?_
      refine x_cVi0 (wc := [(h0, .inr (1, [.ref h0w])), (h0w, .inl ((xT g) 2, 40, .inl w))]) (As := [.int (v1_1 - (1 : Int32))]) (rest := []) G [] (XSub.of [0, 1] rfl (by decide)) (tX2_isSet G.noTraces h) (lw_V q301 q303 qs5 q66 q304) cdX2_isSet 1 0 rfl rfl rfl (by decide) (by decide) rfl (Nat.le_of_ble_eq_true rfl) (Nat.le_of_ble_eq_true rfl) (Nat.le_of_ble_eq_true rfl) dX2_length_12 (fun r_2 h => ?_)
      show X g 2 15 [(1, .int v1_1), (0, .ref h0)] [.int r_2] [(h0, .inr (1, [.ref h0w])), (h0w, .inl ((xT g) 2, 40, .inl w))] 0 0
      refine x_if_ne (tgt := 24) G dX2_length_15 rfl (fun c => ?_) (fun c => ?_)
      · replace h := h.1 c
        exact hX24 v1_1 h
      · replace h := h.2 c
        obtain ⟨x_3, ex_3⟩ : ∃ z : Int32, z = (v1_1 + (-1 : Int32)) := ⟨_, rfl⟩
        replace h := h x_3 ex_3
        refine x_iinc (v := x_3) (lv' := [(1, .int x_3), (0, .ref h0)]) G dX2_length_18 0 rfl (by rw [ex_3]; rfl) (by decide) rfl ?_
        refine x_goto (tgt := 4) G dX2_length_21 rfl ?_
        exact ih x_3 h
set_option maxRecDepth 20000 in
theorem tX2_length {l : Launch} {D : va_G} {ta : Nat → ClassId} {h0 : Nat} {h0w : Nat} {w : Nat → Int32} {K : Int32 → Prop} (hlt : l.stackTraces = false) (h : wX2_length w K) : SMi0 l D ta yX2_length cX2_length 2 FieldType.int 2 [.ref h0] [(h0, .inr (1, [.ref h0w])), (h0w, .inl (ta 2, 40, .inl w))] ([(h0, .inr (1, [.ref h0w])), (h0w, .inl (ta 2, 40, .inl w))]) 0 0 K := by
  refine x_sti0 hlt (plainFor_of_name (by decide +kernel)) (Nat.le_of_ble_eq_true rfl) (fun g G hl hD hT Q => ?_)
  subst hl; subst hD; subst hT
  unfold wX2_length at h
  show X g 2 0 [(0, .ref h0)] [] [(h0, .inr (1, [.ref h0w])), (h0w, .inl ((xT g) 2, 40, .inl w))] 0 0
  refine x_sipush (v := (1280 : Int32)) G dX2_length_0 (by decide) ?_
  refine x_istore_n (lv' := [(1, .int (1280 : Int32)), (0, .ref h0)]) G rfl dX2_length_3 (by decide) rfl ?_
  obtain ⟨n0, h⟩ := h
  refine kX2_length_L4 G (fun v1_5 h => ?_) n0 _ h
  · refine x_iload_n G rfl dX2_length_24 0 rfl ?_
    exact x_reti0 G Q dX2_length_25 rfl  h XSub.rf (Nat.le_of_ble_eq_true rfl) (Nat.le_of_ble_eq_true rfl)
theorem cdX2_rounded : yX2_rounded.cls = RX2 ∧ yX2_rounded.cls ≠ "java/lang/invoke/MethodHandle" ∧ yX2_rounded.cls ≠ "java/lang/invoke/VarHandle" ∧ (parseMethodDescriptor yX2_rounded.desc).map (fun d => d.parameters.length) = some 1 := by decide +kernel
def wX2_rounded_L10 (w : Nat → Int32) (p0 : Int32) (X41 : Int64 → Int32 → Prop) : Nat → Int64 → Int32 → Prop
  | 0, _, _ => False
  | n + 1, v2_3, v4_4 => ((v4_4 < p0 → X41 v2_3 v4_4) ∧ (¬ v4_4 < p0 → (wX2_isSet v4_4 w (fun (r_5 : Int32) => ((r_5 = (0 : Int32) → (∀ y_6 : Int64, y_6 = ((jlshl v2_3 (1 : Int32)) ||| (0 : Int64)) → (∀ x_7 : Int32, x_7 = (v4_4 + (-1 : Int32)) → wX2_rounded_L10 w p0 X41 n y_6 x_7))) ∧ (¬ r_5 = (0 : Int32) → (∀ y_8 : Int64, y_8 = ((jlshl v2_3 (1 : Int32)) ||| (1 : Int64)) → (∀ x_9 : Int32, x_9 = (v4_4 + (-1 : Int32)) → wX2_rounded_L10 w p0 X41 n y_8 x_9))))))))
def wX2_rounded_L68 (w : Nat → Int32) (p0 : Int32) (X93 : Int32 → Int32 → Prop) : Nat → Int32 → Int32 → Prop
  | 0, _, _ => False
  | n + 1, v5_16, v6_17 => (((p0 - (1 : Int32)) ≤ v6_17 → X93 v5_16 v6_17) ∧ (¬ (p0 - (1 : Int32)) ≤ v6_17 → (wX2_isSet v6_17 w (fun (r_18 : Int32) => (∀ x_19 : Int32, x_19 = (v5_16 ||| r_18) → (∀ x_20 : Int32, x_20 = (v6_17 + (1 : Int32)) → wX2_rounded_L68 w p0 X93 n x_19 x_20))))))
def wX2_rounded_J60 (w : Nat → Int32) (p0 : Int32) (K : Int64 → Prop) : Int64 → Int32 → Prop := fun (v2_14 : Int64) (s_15 : Int32) => (∃ m68 : Nat, wX2_rounded_L68 w p0 (fun (v5_23 : Int32) (v6_24 : Int32) => ((s_15 = (0 : Int32) → K v2_14) ∧ (¬ s_15 = (0 : Int32) → ((¬ v5_23 = (0 : Int32) → K (v2_14 + (1 : Int64))) ∧ (v5_23 = (0 : Int32) → ((¬ (v2_14 &&& (1 : Int64)) = (1 : Int64) → K v2_14) ∧ ((v2_14 &&& (1 : Int64)) = (1 : Int64) → K (v2_14 + (1 : Int64))))))))) m68 (0 : Int32) (0 : Int32))
def wX2_rounded (p0 : Int32) (w : Nat → Int32) (K : Int64 → Prop) : Prop := (wX2_length w (fun (r_1 : Int32) => (∀ x_2 : Int32, x_2 = (r_1 - (1 : Int32)) → (∃ m10 : Nat, wX2_rounded_L10 w p0 (fun (v2_12 : Int64) (v4_13 : Int32) => ((p0 ≤ (0 : Int32) → (wX2_rounded_J60 w p0 K v2_12 (0 : Int32))) ∧ (¬ p0 ≤ (0 : Int32) → (wX2_isSet (p0 - (1 : Int32)) w (fun (r_25 : Int32) => ((r_25 = (0 : Int32) → (wX2_rounded_J60 w p0 K v2_12 (0 : Int32))) ∧ (¬ r_25 = (0 : Int32) → (wX2_rounded_J60 w p0 K v2_12 (1 : Int32))))))))) m10 (0 : Int64) x_2))))
set_option maxRecDepth 20000 in
theorem kX2_rounded_L10 {g : XG} {h0 : Nat} {h0w : Nat} {w : Nat → Int32} {p0 : Int32} {X41 : Int64 → Int32 → Prop} (G : XO g RX2 cX2_rounded 7 3 0 0) (hX41 : ∀ (v2_10 : Int64) (v4_11 : Int32), X41 v2_10 v4_11 → X g 7 41 [(4, .int v4_11), (2, .long v2_10), (0, .ref h0), (1, .int p0)] [] [(h0, .inr (1, [.ref h0w])), (h0w, .inl ((xT g) 2, 40, .inl w))] 0 0) : ∀ (n : Nat) (v2_3 : Int64) (v4_4 : Int32), wX2_rounded_L10 w p0 X41 n v2_3 v4_4 → X g 7 10 [(4, .int v4_4), (2, .long v2_3), (0, .ref h0), (1, .int p0)] [] [(h0, .inr (1, [.ref h0w])), (h0w, .inl ((xT g) 2, 40, .inl w))] 0 0 := by
  intro n
  induction n with
  | zero => intro _ _ h; exact h.elim
  | succ n ih =>
    intro v2_3 v4_4 h
    unfold wX2_rounded_L10 at h
    refine x_iload G dX2_rounded_10 0 rfl ?_
    refine x_iload_n G rfl dX2_rounded_12 3 rfl ?_
    refine x_icmp_lt (tgt := 41) G dX2_rounded_13 rfl (fun c => ?_) (fun c => ?_)
    · replace h := h.1 c
      exact hX41 v2_3 v4_4 h
    · replace h := h.2 c
      refine x_lload_n G rfl dX2_rounded_16 1 rfl ?_
      refine x_iconst (v := (1 : Int32)) G dX2_rounded_17 (by decide) ?_
      refine x_lshl G dX2_rounded_18 ?_
      refine x_aload_n G rfl dX2_rounded_19 2 rfl ?_
      refine x_iload G dX2_rounded_20 0 rfl ?_
      refine x_cVi0 (wc := [(h0, .inr (1, [.ref h0w])), (h0w, .inl ((xT g) 2, 40, .inl w))]) (As := [.int v4_4]) (rest := [.long (jlshl v2_3 (1 : Int32))]) G [] (XSub.of [0, 1] rfl (by decide)) (tX2_isSet G.noTraces h) (lw_V q301 q303 qs5 q66 q304) cdX2_isSet 1 0 rfl rfl rfl (by decide) (by decide) rfl (Nat.le_of_ble_eq_true rfl) (Nat.le_of_ble_eq_true rfl) (Nat.le_of_ble_eq_true rfl) dX2_rounded_22 (fun r_5 h => ?_)
      show X g 7 25 [(4, .int v4_4), (2, .long v2_3), (0, .ref h0), (1, .int p0)] [.int r_5, .long (jlshl v2_3 (1 : Int32))] [(h0, .inr (1, [.ref h0w])), (h0w, .inl ((xT g) 2, 40, .inl w))] 0 0
      refine x_if_eq (tgt := 32) G dX2_rounded_25 rfl (fun c => ?_) (fun c => ?_)
      · replace h := h.1 c
        refine x_lconst (v := (0 : Int64)) G dX2_rounded_32 (by decide) ?_
        refine x_lor G dX2_rounded_33 ?_
        refine x_topl (fun y_6 ey_6 => ?_)
        replace h := h y_6 ey_6
        refine x_lstore_n (lv' := [(2, .long y_6), (4, .int v4_4), (0, .ref h0), (1, .int p0)]) G rfl dX2_rounded_34 (by decide) rfl ?_
        obtain ⟨x_7, ex_7⟩ : ∃ z : Int32, z = (v4_4 + (-1 : Int32)) := ⟨_, rfl⟩
        replace h := h x_7 ex_7
        refine x_iinc (v := x_7) (lv' := [(4, .int x_7), (2, .long y_6), (0, .ref h0), (1, .int p0)]) G dX2_rounded_35 1 rfl (by rw [ex_7]; rfl) (by decide) rfl ?_
        refine x_goto (tgt := 10) G dX2_rounded_38 rfl ?_
        exact ih y_6 x_7 h
      · replace h := h.2 c
        refine x_lconst (v := (1 : Int64)) G dX2_rounded_28 (by decide) ?_
        refine x_goto (tgt := 33) G dX2_rounded_29 rfl ?_
        refine x_lor G dX2_rounded_33 ?_
        refine x_topl (fun y_8 ey_8 => ?_)
        replace h := h y_8 ey_8
        refine x_lstore_n (lv' := [(2, .long y_8), (4, .int v4_4), (0, .ref h0), (1, .int p0)]) G rfl dX2_rounded_34 (by decide) rfl ?_
        obtain ⟨x_9, ex_9⟩ : ∃ z : Int32, z = (v4_4 + (-1 : Int32)) := ⟨_, rfl⟩
        replace h := h x_9 ex_9
        refine x_iinc (v := x_9) (lv' := [(4, .int x_9), (2, .long y_8), (0, .ref h0), (1, .int p0)]) G dX2_rounded_35 1 rfl (by rw [ex_9]; rfl) (by decide) rfl ?_
        refine x_goto (tgt := 10) G dX2_rounded_38 rfl ?_
        exact ih y_8 x_9 h
set_option maxRecDepth 20000 in
theorem kX2_rounded_L68 {g : XG} {h0 : Nat} {h0w : Nat} {w : Nat → Int32} {p0 : Int32} {v2_14 : Int64} {s_15 : Int32} {X93 : Int32 → Int32 → Prop} (G : XO g RX2 cX2_rounded 7 3 0 0) (hX93 : ∀ (v5_21 : Int32) (v6_22 : Int32), X93 v5_21 v6_22 → X g 7 93 [(6, .int v6_22), (5, .int v5_21), (4, .int s_15), (0, .ref h0), (1, .int p0), (2, .long v2_14)] [] [(h0, .inr (1, [.ref h0w])), (h0w, .inl ((xT g) 2, 40, .inl w))] 0 0) : ∀ (n : Nat) (v5_16 : Int32) (v6_17 : Int32), wX2_rounded_L68 w p0 X93 n v5_16 v6_17 → X g 7 68 [(6, .int v6_17), (5, .int v5_16), (4, .int s_15), (0, .ref h0), (1, .int p0), (2, .long v2_14)] [] [(h0, .inr (1, [.ref h0w])), (h0w, .inl ((xT g) 2, 40, .inl w))] 0 0 := by
  intro n
  induction n with
  | zero => intro _ _ h; exact h.elim
  | succ n ih =>
    intro v5_16 v6_17 h
    unfold wX2_rounded_L68 at h
    refine x_iload G dX2_rounded_68 0 rfl ?_
    refine x_iload_n G rfl dX2_rounded_70 4 rfl ?_
    refine x_iconst (v := (1 : Int32)) G dX2_rounded_71 (by decide) ?_
    refine x_isub G dX2_rounded_72 ?_
    refine x_icmp_ge (tgt := 93) G dX2_rounded_73 rfl (fun c => ?_) (fun c => ?_)
    · replace h := h.1 c
      exact hX93 v5_16 v6_17 h
    · replace h := h.2 c
      refine x_iload G dX2_rounded_76 1 rfl ?_
      refine x_aload_n G rfl dX2_rounded_78 3 rfl ?_
      refine x_iload G dX2_rounded_79 0 rfl ?_
      refine x_cVi0 (wc := [(h0, .inr (1, [.ref h0w])), (h0w, .inl ((xT g) 2, 40, .inl w))]) (As := [.int v6_17]) (rest := [.int v5_16]) G [] (XSub.of [0, 1] rfl (by decide)) (tX2_isSet G.noTraces h) (lw_V q301 q303 qs5 q66 q304) cdX2_isSet 1 0 rfl rfl rfl (by decide) (by decide) rfl (Nat.le_of_ble_eq_true rfl) (Nat.le_of_ble_eq_true rfl) (Nat.le_of_ble_eq_true rfl) dX2_rounded_81 (fun r_18 h => ?_)
      show X g 7 84 [(6, .int v6_17), (5, .int v5_16), (4, .int s_15), (0, .ref h0), (1, .int p0), (2, .long v2_14)] [.int r_18, .int v5_16] [(h0, .inr (1, [.ref h0w])), (h0w, .inl ((xT g) 2, 40, .inl w))] 0 0
      refine x_ior G dX2_rounded_84 ?_
      refine x_topi (fun x_19 ex_19 => ?_)
      replace h := h x_19 ex_19
      refine x_istore (lv' := [(5, .int x_19), (6, .int v6_17), (4, .int s_15), (0, .ref h0), (1, .int p0), (2, .long v2_14)]) G dX2_rounded_85 (by decide) rfl ?_
      obtain ⟨x_20, ex_20⟩ : ∃ z : Int32, z = (v6_17 + (1 : Int32)) := ⟨_, rfl⟩
      replace h := h x_20 ex_20
      refine x_iinc (v := x_20) (lv' := [(6, .int x_20), (5, .int x_19), (4, .int s_15), (0, .ref h0), (1, .int p0), (2, .long v2_14)]) G dX2_rounded_87 1 rfl (by rw [ex_20]; rfl) (by decide) rfl ?_
      refine x_goto (tgt := 68) G dX2_rounded_90 rfl ?_
      exact ih x_19 x_20 h
set_option maxRecDepth 20000 in
theorem kX2_rounded_J60 {g : XG} {h0 : Nat} {h0w : Nat} {w : Nat → Int32} {p0 : Int32} {K : Int64 → Prop} (G : XO g RX2 cX2_rounded 7 3 0 0) (Q : XQl0 g FieldType.long 0 0 ([(h0, .inr (1, [.ref h0w])), (h0w, .inl ((xT g) 2, 40, .inl w))]) K) : ∀ (v2_14 : Int64) (s_15 : Int32), wX2_rounded_J60 w p0 K v2_14 s_15 → X g 7 60 [(0, .ref h0), (1, .int p0), (2, .long v2_14)] [.int s_15] [(h0, .inr (1, [.ref h0w])), (h0w, .inl ((xT g) 2, 40, .inl w))] 0 0 := by
  intro v2_14 s_15 h
  unfold wX2_rounded_J60 at h
  refine x_istore (lv' := [(4, .int s_15), (0, .ref h0), (1, .int p0), (2, .long v2_14)]) G dX2_rounded_60 (by decide) rfl ?_
  refine x_iconst (v := (0 : Int32)) G dX2_rounded_62 (by decide) ?_
  refine x_istore (lv' := [(5, .int (0 : Int32)), (4, .int s_15), (0, .ref h0), (1, .int p0), (2, .long v2_14)]) G dX2_rounded_63 (by decide) rfl ?_
  refine x_iconst (v := (0 : Int32)) G dX2_rounded_65 (by decide) ?_
  refine x_istore (lv' := [(6, .int (0 : Int32)), (5, .int (0 : Int32)), (4, .int s_15), (0, .ref h0), (1, .int p0), (2, .long v2_14)]) G dX2_rounded_66 (by decide) rfl ?_
  obtain ⟨n0, h⟩ := h
  refine kX2_rounded_L68 G (fun v5_23 v6_24 h => ?_) n0 _ _ h
  · refine x_iload G dX2_rounded_93 2 rfl ?_
    refine x_if_eq (tgt := 117) G dX2_rounded_95 rfl (fun c => ?_) (fun c => ?_)
    · replace h := h.1 c
      refine x_lload_n G rfl dX2_rounded_117 5 rfl ?_
      exact x_retl0 G Q dX2_rounded_118  h XSub.rf (Nat.le_of_ble_eq_true rfl) (Nat.le_of_ble_eq_true rfl)
    · replace h := h.2 c
      refine x_iload G dX2_rounded_98 1 rfl ?_
      refine x_if_ne (tgt := 111) G dX2_rounded_100 rfl (fun c => ?_) (fun c => ?_)
      · replace h := h.1 c
        refine x_lload_n G rfl dX2_rounded_111 5 rfl ?_
        refine x_lconst (v := (1 : Int64)) G dX2_rounded_112 (by decide) ?_
        refine x_ladd G dX2_rounded_113 ?_
        refine x_goto (tgt := 118) G dX2_rounded_114 rfl ?_
        exact x_retl0 G Q dX2_rounded_118  h XSub.rf (Nat.le_of_ble_eq_true rfl) (Nat.le_of_ble_eq_true rfl)
      · replace h := h.2 c
        refine x_lload_n G rfl dX2_rounded_103 5 rfl ?_
        refine x_lconst (v := (1 : Int64)) G dX2_rounded_104 (by decide) ?_
        refine x_land G dX2_rounded_105 ?_
        refine x_lconst (v := (1 : Int64)) G dX2_rounded_106 (by decide) ?_
        refine x_lcmp_ne (tgt := 117) G dX2_rounded_107 dX2_rounded_108 rfl (fun c => ?_) (fun c => ?_)
        · replace h := h.1 c
          refine x_lload_n G rfl dX2_rounded_117 5 rfl ?_
          exact x_retl0 G Q dX2_rounded_118  h XSub.rf (Nat.le_of_ble_eq_true rfl) (Nat.le_of_ble_eq_true rfl)
        · replace h := h.2 c
          refine x_lload_n G rfl dX2_rounded_111 5 rfl ?_
          refine x_lconst (v := (1 : Int64)) G dX2_rounded_112 (by decide) ?_
          refine x_ladd G dX2_rounded_113 ?_
          refine x_goto (tgt := 118) G dX2_rounded_114 rfl ?_
          exact x_retl0 G Q dX2_rounded_118  h XSub.rf (Nat.le_of_ble_eq_true rfl) (Nat.le_of_ble_eq_true rfl)
set_option maxRecDepth 20000 in
theorem tX2_rounded {l : Launch} {D : va_G} {ta : Nat → ClassId} {h0 : Nat} {h0w : Nat} {w : Nat → Int32} {p0 : Int32} {K : Int64 → Prop} (hlt : l.stackTraces = false) (h : wX2_rounded p0 w K) : SMl0 l D ta yX2_rounded cX2_rounded 7 FieldType.long 3 [.ref h0, .int p0] [(h0, .inr (1, [.ref h0w])), (h0w, .inl (ta 2, 40, .inl w))] ([(h0, .inr (1, [.ref h0w])), (h0w, .inl (ta 2, 40, .inl w))]) 0 0 K := by
  refine x_stl0 hlt (plainFor_of_name (by decide +kernel)) (Nat.le_of_ble_eq_true rfl) (fun g G hl hD hT Q => ?_)
  subst hl; subst hD; subst hT
  unfold wX2_rounded at h
  show X g 7 0 [(0, .ref h0), (1, .int p0)] [] [(h0, .inr (1, [.ref h0w])), (h0w, .inl ((xT g) 2, 40, .inl w))] 0 0
  refine x_lconst (v := (0 : Int64)) G dX2_rounded_0 (by decide) ?_
  refine x_lstore_n (lv' := [(2, .long (0 : Int64)), (0, .ref h0), (1, .int p0)]) G rfl dX2_rounded_1 (by decide) rfl ?_
  refine x_aload_n G rfl dX2_rounded_2 1 rfl ?_
  refine x_cVi0 (wc := [(h0, .inr (1, [.ref h0w])), (h0w, .inl ((xT g) 2, 40, .inl w))]) (As := []) (rest := []) G [] (XSub.of [0, 1] rfl (by decide)) (tX2_length G.noTraces h) (lw_V q297 q298 q299 q66 q300) cdX2_length 1 0 rfl rfl rfl (by decide) (by decide) rfl (Nat.le_of_ble_eq_true rfl) (Nat.le_of_ble_eq_true rfl) (Nat.le_of_ble_eq_true rfl) dX2_rounded_3 (fun r_1 h => ?_)
  show X g 7 6 [(2, .long (0 : Int64)), (0, .ref h0), (1, .int p0)] [.int r_1] [(h0, .inr (1, [.ref h0w])), (h0w, .inl ((xT g) 2, 40, .inl w))] 0 0
  refine x_iconst (v := (1 : Int32)) G dX2_rounded_6 (by decide) ?_
  refine x_isub G dX2_rounded_7 ?_
  refine x_topi (fun x_2 ex_2 => ?_)
  replace h := h x_2 ex_2
  refine x_istore (lv' := [(4, .int x_2), (2, .long (0 : Int64)), (0, .ref h0), (1, .int p0)]) G dX2_rounded_8 (by decide) rfl ?_
  obtain ⟨n0, h⟩ := h
  refine kX2_rounded_L10 G (fun v2_12 v4_13 h => ?_) n0 _ _ h
  · refine x_iload_n G rfl dX2_rounded_41 3 rfl ?_
    refine x_if_le (tgt := 59) G dX2_rounded_42 rfl (fun c => ?_) (fun c => ?_)
    · replace h := h.1 c
      refine x_iconst (v := (0 : Int32)) G dX2_rounded_59 (by decide) ?_
      refine x_lv (lv' := [(0, .ref h0), (1, .int p0), (2, .long v2_12)]) [2, 3, 1] rfl ?_
      refine kX2_rounded_J60 G Q  _ _ h
    · replace h := h.2 c
      refine x_aload_n G rfl dX2_rounded_45 2 rfl ?_
      refine x_iload_n G rfl dX2_rounded_46 3 rfl ?_
      refine x_iconst (v := (1 : Int32)) G dX2_rounded_47 (by decide) ?_
      refine x_isub G dX2_rounded_48 ?_
      refine x_cVi0 (wc := [(h0, .inr (1, [.ref h0w])), (h0w, .inl ((xT g) 2, 40, .inl w))]) (As := [.int (p0 - (1 : Int32))]) (rest := []) G [] (XSub.of [0, 1] rfl (by decide)) (tX2_isSet G.noTraces h) (lw_V q301 q303 qs5 q66 q304) cdX2_isSet 1 0 rfl rfl rfl (by decide) (by decide) rfl (Nat.le_of_ble_eq_true rfl) (Nat.le_of_ble_eq_true rfl) (Nat.le_of_ble_eq_true rfl) dX2_rounded_49 (fun r_25 h => ?_)
      show X g 7 52 [(4, .int v4_13), (2, .long v2_12), (0, .ref h0), (1, .int p0)] [.int r_25] [(h0, .inr (1, [.ref h0w])), (h0w, .inl ((xT g) 2, 40, .inl w))] 0 0
      refine x_if_eq (tgt := 59) G dX2_rounded_52 rfl (fun c => ?_) (fun c => ?_)
      · replace h := h.1 c
        refine x_iconst (v := (0 : Int32)) G dX2_rounded_59 (by decide) ?_
        refine x_lv (lv' := [(0, .ref h0), (1, .int p0), (2, .long v2_12)]) [2, 3, 1] rfl ?_
        refine kX2_rounded_J60 G Q  _ _ h
      · replace h := h.2 c
        refine x_iconst (v := (1 : Int32)) G dX2_rounded_55 (by decide) ?_
        refine x_goto (tgt := 60) G dX2_rounded_56 rfl ?_
        refine x_lv (lv' := [(0, .ref h0), (1, .int p0), (2, .long v2_12)]) [2, 3, 1] rfl ?_
        refine kX2_rounded_J60 G Q  _ _ h
theorem cdX2_doubleOfSize : yX2_doubleOfSize.cls = RX2 ∧ yX2_doubleOfSize.cls ≠ "java/lang/invoke/MethodHandle" ∧ yX2_doubleOfSize.cls ≠ "java/lang/invoke/VarHandle" ∧ (parseMethodDescriptor yX2_doubleOfSize.desc).map (fun d => d.parameters.length) = some 0 := by decide +kernel
def wX2_doubleOfSize (w : Nat → Int32) (K : UInt64 → Prop) : Prop := (wX2_length w (fun (r_1 : Int32) => (wJ13_max (0 : Int32) (r_1 - (53 : Int32)) (fun (r_2 : Int32) => (wX2_rounded r_2 w (fun (r_3 : Int64) => ((¬ r_2 = (0 : Int32) → (vn_snl2d ((jlshl r_2.toInt64 (52 : Int32)) + r_3) = false ∧ K (((jlshl r_2.toInt64 (52 : Int32)) + r_3).toUInt64))) ∧ (r_2 = (0 : Int32) → (vn_snl2d r_3 = false ∧ K r_3.toUInt64)))))))))
set_option maxRecDepth 20000 in
theorem tX2_doubleOfSize {l : Launch} {D : va_G} {ta : Nat → ClassId} {h0 : Nat} {h0w : Nat} {w : Nat → Int32} {K : UInt64 → Prop} (hlt : l.stackTraces = false) (h : wX2_doubleOfSize w K) : SMd0 l D ta yX2_doubleOfSize cX2_doubleOfSize 5 FieldType.double 4 [.ref h0] [(h0, .inr (1, [.ref h0w])), (h0w, .inl (ta 2, 40, .inl w))] ([(h0, .inr (1, [.ref h0w])), (h0w, .inl (ta 2, 40, .inl w))]) 0 0 K := by
  refine x_std0 hlt (plainFor_of_name (by decide +kernel)) (Nat.le_of_ble_eq_true rfl) (fun g G hl hD hT Q => ?_)
  subst hl; subst hD; subst hT
  unfold wX2_doubleOfSize at h
  show X g 5 0 [(0, .ref h0)] [] [(h0, .inr (1, [.ref h0w])), (h0w, .inl ((xT g) 2, 40, .inl w))] 0 0
  refine x_aload_n G rfl dX2_doubleOfSize_0 0 rfl ?_
  refine x_cVi0 (wc := [(h0, .inr (1, [.ref h0w])), (h0w, .inl ((xT g) 2, 40, .inl w))]) (As := []) (rest := []) G [] (XSub.of [0, 1] rfl (by decide)) (tX2_length G.noTraces h) (lw_V q297 q298 q299 q66 q300) cdX2_length 1 0 rfl rfl rfl (by decide) (by decide) rfl (Nat.le_of_ble_eq_true rfl) (Nat.le_of_ble_eq_true rfl) (Nat.le_of_ble_eq_true rfl) dX2_doubleOfSize_1 (fun r_1 h => ?_)
  show X g 5 4 [(0, .ref h0)] [.int r_1] [(h0, .inr (1, [.ref h0w])), (h0w, .inl ((xT g) 2, 40, .inl w))] 0 0
  refine x_istore_n (lv' := [(1, .int r_1), (0, .ref h0)]) G rfl dX2_doubleOfSize_4 (by decide) rfl ?_
  refine x_iconst (v := (0 : Int32)) G dX2_doubleOfSize_5 (by decide) ?_
  refine x_iload_n G rfl dX2_doubleOfSize_6 0 rfl ?_
  refine x_bipush (v := (53 : Int32)) G dX2_doubleOfSize_7 (by decide) ?_
  refine x_isub G dX2_doubleOfSize_9 ?_
  refine x_cPi (As := [.int (0 : Int32), .int (r_1 - (53 : Int32))]) (rest := []) G (tJ13_max G.noTraces h) (lw_S q305 q306 q85 q307) cdJ13_max (by decide) (by decide) rfl (Nat.le_of_ble_eq_true rfl) (Nat.zero_le _) (Nat.zero_le _) dX2_doubleOfSize_10 (fun r_2 h => ?_)
  refine x_istore_n (lv' := [(2, .int r_2), (1, .int r_1), (0, .ref h0)]) G rfl dX2_doubleOfSize_13 (by decide) rfl ?_
  refine x_aload_n G rfl dX2_doubleOfSize_14 2 rfl ?_
  refine x_iload_n G rfl dX2_doubleOfSize_15 0 rfl ?_
  refine x_cVl0 (wc := [(h0, .inr (1, [.ref h0w])), (h0w, .inl ((xT g) 2, 40, .inl w))]) (As := [.int r_2]) (rest := []) G [] (XSub.of [0, 1] rfl (by decide)) (tX2_rounded G.noTraces h) (lw_V q308 q309 q310 q66 q311) cdX2_rounded 1 0 rfl rfl rfl (by decide) (by decide) rfl (Nat.le_of_ble_eq_true rfl) (Nat.le_of_ble_eq_true rfl) (Nat.le_of_ble_eq_true rfl) dX2_doubleOfSize_16 (fun r_3 h => ?_)
  show X g 5 19 [(2, .int r_2), (1, .int r_1), (0, .ref h0)] [.long r_3] [(h0, .inr (1, [.ref h0w])), (h0w, .inl ((xT g) 2, 40, .inl w))] 0 0
  refine x_lstore_n (lv' := [(3, .long r_3), (2, .int r_2), (1, .int r_1), (0, .ref h0)]) G rfl dX2_doubleOfSize_19 (by decide) rfl ?_
  refine x_iload_n G rfl dX2_doubleOfSize_20 1 rfl ?_
  refine x_if_ne (tgt := 28) G dX2_doubleOfSize_21 rfl (fun c => ?_) (fun c => ?_)
  · replace h := h.1 c
    refine x_iload_n G rfl dX2_doubleOfSize_28 1 rfl ?_
    refine x_i2l G dX2_doubleOfSize_29 ?_
    refine x_bipush (v := (52 : Int32)) G dX2_doubleOfSize_30 (by decide) ?_
    refine x_lshl G dX2_doubleOfSize_32 ?_
    refine x_lload_n G rfl dX2_doubleOfSize_33 0 rfl ?_
    refine x_ladd G dX2_doubleOfSize_34 ?_
    obtain ⟨hz, h⟩ := h
    refine x_nl2d G q312 q314 q313 q84 hz (by decide) (Nat.le_of_ble_eq_true rfl) dX2_doubleOfSize_35 ?_
    exact x_retd0 G Q dX2_doubleOfSize_38  h XSub.rf (Nat.le_of_ble_eq_true rfl) (Nat.le_of_ble_eq_true rfl)
  · replace h := h.2 c
    refine x_lload_n G rfl dX2_doubleOfSize_24 0 rfl ?_
    refine x_goto (tgt := 35) G dX2_doubleOfSize_25 rfl ?_
    obtain ⟨hz, h⟩ := h
    refine x_nl2d G q312 q314 q313 q84 hz (by decide) (Nat.le_of_ble_eq_true rfl) dX2_doubleOfSize_35 ?_
    exact x_retd0 G Q dX2_doubleOfSize_38  h XSub.rf (Nat.le_of_ble_eq_true rfl) (Nat.le_of_ble_eq_true rfl)
theorem cdX2_toDouble : yX2_toDouble.cls = RX2 ∧ yX2_toDouble.cls ≠ "java/lang/invoke/MethodHandle" ∧ yX2_toDouble.cls ≠ "java/lang/invoke/VarHandle" ∧ (parseMethodDescriptor yX2_toDouble.desc).map (fun d => d.parameters.length) = some 0 := by decide +kernel
def wX2_toDouble_J21 (K : UInt64 → (Nat → Int32) → Prop) : Int32 → (Nat → Int32) → Prop := fun (v1_2 : Int32) (w_3 : Nat → Int32) => (wX2_doubleOfSize w_3 (fun (r_4 : UInt64) => ((v1_2 = (0 : Int32) → ((v1_2 = (0 : Int32) → K r_4 w_3) ∧ (¬ v1_2 = (0 : Int32) → K (FP.dneg r_4) w_3))) ∧ (¬ v1_2 = (0 : Int32) → (wX2_negate w_3 (fun (w_5 : Nat → Int32) => ((v1_2 = (0 : Int32) → K r_4 w_5) ∧ (¬ v1_2 = (0 : Int32) → K (FP.dneg r_4) w_5))))))))
def wX2_toDouble (w : Nat → Int32) (K : UInt64 → (Nat → Int32) → Prop) : Prop := (wX2_sign w (fun (r_1 : Int32) => (((0 : Int32) ≤ r_1 → (wX2_toDouble_J21 K (0 : Int32) w)) ∧ (¬ (0 : Int32) ≤ r_1 → (wX2_negate w (fun (w_6 : Nat → Int32) => (wX2_toDouble_J21 K (1 : Int32) w_6)))))))
set_option maxRecDepth 20000 in
theorem kX2_toDouble_J21 {g : XG} {h0 : Nat} {h0w : Nat} {K : UInt64 → (Nat → Int32) → Prop} (G : XO g RX2 cX2_toDouble 4 5 0 0) (Q : XQd1 g FieldType.double 0 0 (fun (w' : Nat → Int32) => [(h0, .inr (1, [.ref h0w])), (h0w, .inl ((xT g) 2, 40, .inl w'))]) K) : ∀ (v1_2 : Int32) (w_3 : Nat → Int32), wX2_toDouble_J21 K v1_2 w_3 → X g 4 21 [(0, .ref h0), (1, .int v1_2)] [] [(h0, .inr (1, [.ref h0w])), (h0w, .inl ((xT g) 2, 40, .inl w_3))] 0 0 := by
  intro v1_2 w_3 h
  unfold wX2_toDouble_J21 at h
  refine x_aload_n G rfl dX2_toDouble_21 0 rfl ?_
  refine x_cVd0 (wc := [(h0, .inr (1, [.ref h0w])), (h0w, .inl ((xT g) 2, 40, .inl w_3))]) (As := []) (rest := []) G [] (XSub.of [0, 1] rfl (by decide)) (tX2_doubleOfSize G.noTraces h) (lw_V q293 q295 qs4 q66 q296) cdX2_doubleOfSize 1 0 rfl rfl rfl (by decide) (by decide) rfl (Nat.le_of_ble_eq_true rfl) (Nat.le_of_ble_eq_true rfl) (Nat.le_of_ble_eq_true rfl) dX2_toDouble_22 (fun r_4 h => ?_)
  show X g 4 25 [(0, .ref h0), (1, .int v1_2)] [.double r_4] [(h0, .inr (1, [.ref h0w])), (h0w, .inl ((xT g) 2, 40, .inl w_3))] 0 0
  refine x_dstore_n (lv' := [(2, .double r_4), (0, .ref h0), (1, .int v1_2)]) G rfl dX2_toDouble_25 (by decide) rfl ?_
  refine x_iload_n G rfl dX2_toDouble_26 2 rfl ?_
  refine x_if_eq (tgt := 34) G dX2_toDouble_27 rfl (fun c => ?_) (fun c => ?_)
  · replace h := h.1 c
    refine x_iload_n G rfl dX2_toDouble_34 2 rfl ?_
    refine x_if_eq (tgt := 43) G dX2_toDouble_35 rfl (fun c => ?_) (fun c => ?_)
    · replace h := h.1 c
      refine x_dload_n G rfl dX2_toDouble_43 0 rfl ?_
      exact x_retd1 G Q dX2_toDouble_44 w_3 h XSub.rf (Nat.le_of_ble_eq_true rfl) (Nat.le_of_ble_eq_true rfl)
    · replace h := h.2 c
      refine x_dload_n G rfl dX2_toDouble_38 0 rfl ?_
      refine x_dneg G dX2_toDouble_39 ?_
      refine x_goto (tgt := 44) G dX2_toDouble_40 rfl ?_
      exact x_retd1 G Q dX2_toDouble_44 w_3 h XSub.rf (Nat.le_of_ble_eq_true rfl) (Nat.le_of_ble_eq_true rfl)
  · replace h := h.2 c
    refine x_aload_n G rfl dX2_toDouble_30 1 rfl ?_
    refine x_cVv1 (wc := [(h0, .inr (1, [.ref h0w])), (h0w, .inl ((xT g) 2, 40, .inl w_3))]) (As := []) (rest := []) G [] (XSub.of [0, 1] rfl (by decide)) (tX2_negate G.noTraces h) (lw_V q289 q290 q291 q66 q292) cdX2_negate 1 0 rfl rfl rfl (by decide) (by decide) rfl (Nat.le_of_ble_eq_true rfl) (Nat.le_of_ble_eq_true rfl) (Nat.le_of_ble_eq_true rfl) dX2_toDouble_31 (fun w_5 h => ?_)
    show X g 4 34 [(2, .double r_4), (0, .ref h0), (1, .int v1_2)] [] [(h0, .inr (1, [.ref h0w])), (h0w, .inl ((xT g) 2, 40, .inl w_5))] 0 0
    refine x_iload_n G rfl dX2_toDouble_34 2 rfl ?_
    refine x_if_eq (tgt := 43) G dX2_toDouble_35 rfl (fun c => ?_) (fun c => ?_)
    · replace h := h.1 c
      refine x_dload_n G rfl dX2_toDouble_43 0 rfl ?_
      exact x_retd1 G Q dX2_toDouble_44 w_5 h XSub.rf (Nat.le_of_ble_eq_true rfl) (Nat.le_of_ble_eq_true rfl)
    · replace h := h.2 c
      refine x_dload_n G rfl dX2_toDouble_38 0 rfl ?_
      refine x_dneg G dX2_toDouble_39 ?_
      refine x_goto (tgt := 44) G dX2_toDouble_40 rfl ?_
      exact x_retd1 G Q dX2_toDouble_44 w_5 h XSub.rf (Nat.le_of_ble_eq_true rfl) (Nat.le_of_ble_eq_true rfl)
set_option maxRecDepth 20000 in
theorem tX2_toDouble {l : Launch} {D : va_G} {ta : Nat → ClassId} {h0 : Nat} {h0w : Nat} {w : Nat → Int32} {K : UInt64 → (Nat → Int32) → Prop} (hlt : l.stackTraces = false) (h : wX2_toDouble w K) : SMd1 l D ta yX2_toDouble cX2_toDouble 4 FieldType.double 5 [.ref h0] [(h0, .inr (1, [.ref h0w])), (h0w, .inl (ta 2, 40, .inl w))] (fun (w' : Nat → Int32) => [(h0, .inr (1, [.ref h0w])), (h0w, .inl (ta 2, 40, .inl w'))]) 0 0 K := by
  refine x_std1 hlt (plainFor_of_name (by decide +kernel)) (Nat.le_of_ble_eq_true rfl) (fun g G hl hD hT Q => ?_)
  subst hl; subst hD; subst hT
  unfold wX2_toDouble at h
  show X g 4 0 [(0, .ref h0)] [] [(h0, .inr (1, [.ref h0w])), (h0w, .inl ((xT g) 2, 40, .inl w))] 0 0
  refine x_aload_n G rfl dX2_toDouble_0 0 rfl ?_
  refine x_cVi0 (wc := [(h0, .inr (1, [.ref h0w])), (h0w, .inl ((xT g) 2, 40, .inl w))]) (As := []) (rest := []) G [] (XSub.of [0, 1] rfl (by decide)) (tX2_sign G.noTraces h) (lw_V q285 q286 q287 q66 q288) cdX2_sign 1 0 rfl rfl rfl (by decide) (by decide) rfl (Nat.le_of_ble_eq_true rfl) (Nat.le_of_ble_eq_true rfl) (Nat.le_of_ble_eq_true rfl) dX2_toDouble_1 (fun r_1 h => ?_)
  show X g 4 4 [(0, .ref h0)] [.int r_1] [(h0, .inr (1, [.ref h0w])), (h0w, .inl ((xT g) 2, 40, .inl w))] 0 0
  refine x_if_ge (tgt := 11) G dX2_toDouble_4 rfl (fun c => ?_) (fun c => ?_)
  · replace h := h.1 c
    refine x_iconst (v := (0 : Int32)) G dX2_toDouble_11 (by decide) ?_
    refine x_istore_n (lv' := [(1, .int (0 : Int32)), (0, .ref h0)]) G rfl dX2_toDouble_12 (by decide) rfl ?_
    refine x_iload_n G rfl dX2_toDouble_13 0 rfl ?_
    refine x_if_eq (tgt := 21) G dX2_toDouble_14 rfl (fun c => ?_) (fun c => absurd c (by decide))
    refine x_lv (lv' := [(0, .ref h0), (1, .int (0 : Int32))]) [1, 0] rfl ?_
    refine kX2_toDouble_J21 G Q  _ _ h
  · replace h := h.2 c
    refine x_iconst (v := (1 : Int32)) G dX2_toDouble_7 (by decide) ?_
    refine x_goto (tgt := 12) G dX2_toDouble_8 rfl ?_
    refine x_istore_n (lv' := [(1, .int (1 : Int32)), (0, .ref h0)]) G rfl dX2_toDouble_12 (by decide) rfl ?_
    refine x_iload_n G rfl dX2_toDouble_13 0 rfl ?_
    refine x_if_eq (tgt := 21) G dX2_toDouble_14 rfl (fun c => absurd c (by decide)) (fun c => ?_)
    refine x_aload_n G rfl dX2_toDouble_17 1 rfl ?_
    refine x_cVv1 (wc := [(h0, .inr (1, [.ref h0w])), (h0w, .inl ((xT g) 2, 40, .inl w))]) (As := []) (rest := []) G [] (XSub.of [0, 1] rfl (by decide)) (tX2_negate G.noTraces h) (lw_V q289 q290 q291 q66 q292) cdX2_negate 1 0 rfl rfl rfl (by decide) (by decide) rfl (Nat.le_of_ble_eq_true rfl) (Nat.le_of_ble_eq_true rfl) (Nat.le_of_ble_eq_true rfl) dX2_toDouble_18 (fun w_6 h => ?_)
    show X g 4 21 [(1, .int (1 : Int32)), (0, .ref h0)] [] [(h0, .inr (1, [.ref h0w])), (h0w, .inl ((xT g) 2, 40, .inl w_6))] 0 0
    refine x_lv (lv' := [(0, .ref h0), (1, .int (1 : Int32))]) [1, 0] rfl ?_
    refine kX2_toDouble_J21 G Q  _ _ h
theorem cdX2_compare : yX2_compare.cls = RX2 ∧ yX2_compare.cls ≠ "java/lang/invoke/MethodHandle" ∧ yX2_compare.cls ≠ "java/lang/invoke/VarHandle" ∧ (parseMethodDescriptor yX2_compare.desc).map (fun d => d.parameters.length) = some 1 := by decide +kernel
def wX2_compare_L3 (w : Nat → Int32) (u : Nat → Int32) (X22 : Int32 → Prop) (X75 : Int32 → Prop) : Nat → Int32 → Prop
  | 0, _ => False
  | n + 1, v2_1 => ((v2_1 < (0 : Int32) → X75 v2_1) ∧ (¬ v2_1 < (0 : Int32) → (vp_in v2_1 40 ∧ (vp_in v2_1 40 ∧ (((w v2_1.toNatClampNeg) = (u v2_1.toNatClampNeg) → (∀ x_2 : Int32, x_2 = (v2_1 + (-1 : Int32)) → wX2_compare_L3 w u X22 X75 n x_2)) ∧ (¬ (w v2_1.toNatClampNeg) = (u v2_1.toNatClampNeg) → X22 v2_1))))))
def wX2_compare_J40 (u : Nat → Int32) (K : Int32 → Prop) : Int32 → Int32 → Int32 → Prop := fun (v2_6 : Int32) (s_7 : Int32) (s_8 : Int32) => (vp_in v2_6 40 ∧ (((39 : Int32) ≤ v2_6 → ((((u v2_6.toNatClampNeg) + (0 : Int32)) ≤ (s_7 + s_8) → K (1 : Int32)) ∧ (¬ ((u v2_6.toNatClampNeg) + (0 : Int32)) ≤ (s_7 + s_8) → K (-1 : Int32)))) ∧ (¬ (39 : Int32) ≤ v2_6 → ((((u v2_6.toNatClampNeg) + (-2147483648 : Int32)) ≤ (s_7 + s_8) → K (1 : Int32)) ∧ (¬ ((u v2_6.toNatClampNeg) + (-2147483648 : Int32)) ≤ (s_7 + s_8) → K (-1 : Int32))))))
def wX2_compare (w : Nat → Int32) (u : Nat → Int32) (K : Int32 → Prop) : Prop := (∃ m3 : Nat, wX2_compare_L3 w u (fun (v2_5 : Int32) => (vp_in v2_5 40 ∧ (((39 : Int32) ≤ v2_5 → (wX2_compare_J40 u K v2_5 (w v2_5.toNatClampNeg) (0 : Int32))) ∧ (¬ (39 : Int32) ≤ v2_5 → (wX2_compare_J40 u K v2_5 (w v2_5.toNatClampNeg) (-2147483648 : Int32)))))) (fun (v2_9 : Int32) => K (0 : Int32)) m3 (39 : Int32))
set_option maxRecDepth 20000 in
theorem kX2_compare_L3 {g : XG} {h0 : Nat} {h0w : Nat} {w : Nat → Int32} {q0 : Nat} {q0w : Nat} {u : Nat → Int32} {X22 : Int32 → Prop} {X75 : Int32 → Prop} (G : XO g RX2 cX2_compare 3 1 0 0) (hX22 : ∀ (v2_3 : Int32), X22 v2_3 → X g 3 22 [(2, .int v2_3), (0, .ref h0), (1, .ref q0)] [] [(h0, .inr (1, [.ref h0w])), (h0w, .inl ((xT g) 2, 40, .inl w)), (q0, .inr (1, [.ref q0w])), (q0w, .inl ((xT g) 2, 40, .inl u))] 0 0) (hX75 : ∀ (v2_4 : Int32), X75 v2_4 → X g 3 75 [(2, .int v2_4), (0, .ref h0), (1, .ref q0)] [] [(h0, .inr (1, [.ref h0w])), (h0w, .inl ((xT g) 2, 40, .inl w)), (q0, .inr (1, [.ref q0w])), (q0w, .inl ((xT g) 2, 40, .inl u))] 0 0) : ∀ (n : Nat) (v2_1 : Int32), wX2_compare_L3 w u X22 X75 n v2_1 → X g 3 3 [(2, .int v2_1), (0, .ref h0), (1, .ref q0)] [] [(h0, .inr (1, [.ref h0w])), (h0w, .inl ((xT g) 2, 40, .inl w)), (q0, .inr (1, [.ref q0w])), (q0w, .inl ((xT g) 2, 40, .inl u))] 0 0 := by
  intro n
  induction n with
  | zero => intro _ h; exact h.elim
  | succ n ih =>
    intro v2_1 h
    unfold wX2_compare_L3 at h
    refine x_iload_n G rfl dX2_compare_3 0 rfl ?_
    refine x_if_lt (tgt := 75) G dX2_compare_4 rfl (fun c => ?_) (fun c => ?_)
    · replace h := h.1 c
      exact hX75 v2_1 h
    · replace h := h.2 c
      refine x_aload_n G rfl dX2_compare_7 1 rfl ?_
      refine x_get G in_X2 0 rfl rfl 0 (by decide) q128 (fun _ h => h) rfl dX2_compare_8 ?_
      refine x_iload_n G rfl dX2_compare_11 0 rfl ?_
      obtain ⟨hz, h⟩ := h
      refine x_iald G 1 rfl hz dX2_compare_12 ?_
      refine x_aload_n G rfl dX2_compare_13 2 rfl ?_
      refine x_get G in_X2 2 rfl rfl 0 (by decide) q128 (fun _ h => h) rfl dX2_compare_14 ?_
      refine x_iload_n G rfl dX2_compare_17 0 rfl ?_
      obtain ⟨hz, h⟩ := h
      refine x_iald G 3 rfl hz dX2_compare_18 ?_
      refine x_icmp_eq (tgt := 69) G dX2_compare_19 rfl (fun c => ?_) (fun c => ?_)
      · replace h := h.1 c
        obtain ⟨x_2, ex_2⟩ : ∃ z : Int32, z = (v2_1 + (-1 : Int32)) := ⟨_, rfl⟩
        replace h := h x_2 ex_2
        refine x_iinc (v := x_2) (lv' := [(2, .int x_2), (0, .ref h0), (1, .ref q0)]) G dX2_compare_69 0 rfl (by rw [ex_2]; rfl) (by decide) rfl ?_
        refine x_goto (tgt := 3) G dX2_compare_72 rfl ?_
        exact ih x_2 h
      · replace h := h.2 c
        exact hX22 v2_1 h
set_option maxRecDepth 20000 in
theorem kX2_compare_J40 {g : XG} {h0 : Nat} {h0w : Nat} {w : Nat → Int32} {q0 : Nat} {q0w : Nat} {u : Nat → Int32} {K : Int32 → Prop} (G : XO g RX2 cX2_compare 3 1 0 0) (Q : XQi0 g FieldType.int 0 0 ([(h0, .inr (1, [.ref h0w])), (h0w, .inl ((xT g) 2, 40, .inl w)), (q0, .inr (1, [.ref q0w])), (q0w, .inl ((xT g) 2, 40, .inl u))]) K) : ∀ (v2_6 : Int32) (s_7 : Int32) (s_8 : Int32), wX2_compare_J40 u K v2_6 s_7 s_8 → X g 3 40 [(0, .ref h0), (1, .ref q0), (2, .int v2_6)] [.int s_8, .int s_7] [(h0, .inr (1, [.ref h0w])), (h0w, .inl ((xT g) 2, 40, .inl w)), (q0, .inr (1, [.ref q0w])), (q0w, .inl ((xT g) 2, 40, .inl u))] 0 0 := by
  intro v2_6 s_7 s_8 h
  unfold wX2_compare_J40 at h
  refine x_iadd G dX2_compare_40 ?_
  refine x_aload_n G rfl dX2_compare_41 1 rfl ?_
  refine x_get G in_X2 2 rfl rfl 0 (by decide) q128 (fun _ h => h) rfl dX2_compare_42 ?_
  refine x_iload_n G rfl dX2_compare_45 2 rfl ?_
  obtain ⟨hz, h⟩ := h
  refine x_iald G 3 rfl hz dX2_compare_46 ?_
  refine x_iload_n G rfl dX2_compare_47 2 rfl ?_
  refine x_bipush (v := (39 : Int32)) G dX2_compare_48 (by decide) ?_
  refine x_icmp_ge (tgt := 58) G dX2_compare_50 rfl (fun c => ?_) (fun c => ?_)
  · replace h := h.1 c
    refine x_iconst (v := (0 : Int32)) G dX2_compare_58 (by decide) ?_
    refine x_iadd G dX2_compare_59 ?_
    refine x_icmp_ge (tgt := 67) G dX2_compare_60 rfl (fun c => ?_) (fun c => ?_)
    · replace h := h.1 c
      refine x_iconst (v := (1 : Int32)) G dX2_compare_67 (by decide) ?_
      exact x_reti0 G Q dX2_compare_68 rfl  h XSub.rf (Nat.le_of_ble_eq_true rfl) (Nat.le_of_ble_eq_true rfl)
    · replace h := h.2 c
      refine x_iconst (v := (-1 : Int32)) G dX2_compare_63 (by decide) ?_
      refine x_goto (tgt := 68) G dX2_compare_64 rfl ?_
      exact x_reti0 G Q dX2_compare_68 rfl  h XSub.rf (Nat.le_of_ble_eq_true rfl) (Nat.le_of_ble_eq_true rfl)
  · replace h := h.2 c
    refine x_ldc G q342 dX2_compare_53 ?_
    refine x_goto (tgt := 59) G dX2_compare_55 rfl ?_
    refine x_iadd G dX2_compare_59 ?_
    refine x_icmp_ge (tgt := 67) G dX2_compare_60 rfl (fun c => ?_) (fun c => ?_)
    · replace h := h.1 c
      refine x_iconst (v := (1 : Int32)) G dX2_compare_67 (by decide) ?_
      exact x_reti0 G Q dX2_compare_68 rfl  h XSub.rf (Nat.le_of_ble_eq_true rfl) (Nat.le_of_ble_eq_true rfl)
    · replace h := h.2 c
      refine x_iconst (v := (-1 : Int32)) G dX2_compare_63 (by decide) ?_
      refine x_goto (tgt := 68) G dX2_compare_64 rfl ?_
      exact x_reti0 G Q dX2_compare_68 rfl  h XSub.rf (Nat.le_of_ble_eq_true rfl) (Nat.le_of_ble_eq_true rfl)
set_option maxRecDepth 20000 in
theorem tX2_compare {l : Launch} {D : va_G} {ta : Nat → ClassId} {h0 : Nat} {h0w : Nat} {w : Nat → Int32} {q0 : Nat} {q0w : Nat} {u : Nat → Int32} {K : Int32 → Prop} (hlt : l.stackTraces = false) (h : wX2_compare w u K) : SMi0 l D ta yX2_compare cX2_compare 3 FieldType.int 1 [.ref h0, .ref q0] [(h0, .inr (1, [.ref h0w])), (h0w, .inl (ta 2, 40, .inl w)), (q0, .inr (1, [.ref q0w])), (q0w, .inl (ta 2, 40, .inl u))] ([(h0, .inr (1, [.ref h0w])), (h0w, .inl (ta 2, 40, .inl w)), (q0, .inr (1, [.ref q0w])), (q0w, .inl (ta 2, 40, .inl u))]) 0 0 K := by
  refine x_sti0 hlt (plainFor_of_name (by decide +kernel)) (Nat.le_of_ble_eq_true rfl) (fun g G hl hD hT Q => ?_)
  subst hl; subst hD; subst hT
  unfold wX2_compare at h
  show X g 3 0 [(0, .ref h0), (1, .ref q0)] [] [(h0, .inr (1, [.ref h0w])), (h0w, .inl ((xT g) 2, 40, .inl w)), (q0, .inr (1, [.ref q0w])), (q0w, .inl ((xT g) 2, 40, .inl u))] 0 0
  refine x_bipush (v := (39 : Int32)) G dX2_compare_0 (by decide) ?_
  refine x_istore_n (lv' := [(2, .int (39 : Int32)), (0, .ref h0), (1, .ref q0)]) G rfl dX2_compare_2 (by decide) rfl ?_
  obtain ⟨n0, h⟩ := h
  refine kX2_compare_L3 G (fun v2_5 h => ?_) (fun v2_9 h => ?_) n0 _ h
  · refine x_aload_n G rfl dX2_compare_22 1 rfl ?_
    refine x_get G in_X2 0 rfl rfl 0 (by decide) q128 (fun _ h => h) rfl dX2_compare_23 ?_
    refine x_iload_n G rfl dX2_compare_26 0 rfl ?_
    obtain ⟨hz, h⟩ := h
    refine x_iald G 1 rfl hz dX2_compare_27 ?_
    refine x_iload_n G rfl dX2_compare_28 0 rfl ?_
    refine x_bipush (v := (39 : Int32)) G dX2_compare_29 (by decide) ?_
    refine x_icmp_ge (tgt := 39) G dX2_compare_31 rfl (fun c => ?_) (fun c => ?_)
    · replace h := h.1 c
      refine x_iconst (v := (0 : Int32)) G dX2_compare_39 (by decide) ?_
      refine x_lv (lv' := [(0, .ref h0), (1, .ref q0), (2, .int v2_5)]) [1, 2, 0] rfl ?_
      refine kX2_compare_J40 G Q  _ _ _ h
    · replace h := h.2 c
      refine x_ldc G q342 dX2_compare_34 ?_
      refine x_goto (tgt := 40) G dX2_compare_36 rfl ?_
      refine x_lv (lv' := [(0, .ref h0), (1, .ref q0), (2, .int v2_5)]) [1, 2, 0] rfl ?_
      refine kX2_compare_J40 G Q  _ _ _ h
  · refine x_iconst (v := (0 : Int32)) G dX2_compare_75 (by decide) ?_
    exact x_reti0 G Q dX2_compare_76 rfl  h XSub.rf (Nat.le_of_ble_eq_true rfl) (Nat.le_of_ble_eq_true rfl)
theorem cdX2_set : yX2_set.cls = RX2 ∧ yX2_set.cls ≠ "java/lang/invoke/MethodHandle" ∧ yX2_set.cls ≠ "java/lang/invoke/VarHandle" ∧ (parseMethodDescriptor yX2_set.desc).map (fun d => d.parameters.length) = some 1 := by decide +kernel
def wX2_set (w : Nat → Int32) (u : Nat → Int32) (K : (Nat → Int32) → Prop) : Prop := (∀ f_1 : Nat → Int32, f_1 = va_cpy u w (0 : Int32).toNatClampNeg (0 : Int32).toNatClampNeg (40 : Int32).toNatClampNeg → K f_1)
set_option maxRecDepth 20000 in
theorem tX2_set {l : Launch} {D : va_G} {ta : Nat → ClassId} {h0 : Nat} {h0w : Nat} {w : Nat → Int32} {q0 : Nat} {q0w : Nat} {u : Nat → Int32} {K : (Nat → Int32) → Prop} (hlt : l.stackTraces = false) (h : wX2_set w u K) : SMv1 l D ta yX2_set cX2_set 2 1 [.ref h0, .ref q0] [(h0, .inr (1, [.ref h0w])), (h0w, .inl (ta 2, 40, .inl w)), (q0, .inr (1, [.ref q0w])), (q0w, .inl (ta 2, 40, .inl u))] (fun (w' : Nat → Int32) => [(h0, .inr (1, [.ref h0w])), (h0w, .inl (ta 2, 40, .inl w')), (q0, .inr (1, [.ref q0w])), (q0w, .inl (ta 2, 40, .inl u))]) 0 0 K := by
  refine x_stv1 hlt (plainFor_of_name (by decide +kernel)) (Nat.le_of_ble_eq_true rfl) (fun g G hl hD hT Q => ?_)
  subst hl; subst hD; subst hT
  unfold wX2_set at h
  show X g 2 0 [(0, .ref h0), (1, .ref q0)] [] [(h0, .inr (1, [.ref h0w])), (h0w, .inl ((xT g) 2, 40, .inl w)), (q0, .inr (1, [.ref q0w])), (q0w, .inl ((xT g) 2, 40, .inl u))] 0 0
  refine x_aload_n G rfl dX2_set_0 1 rfl ?_
  refine x_get G in_X2 2 rfl rfl 0 (by decide) q128 (fun _ h => h) rfl dX2_set_1 ?_
  refine x_iconst (v := (0 : Int32)) G dX2_set_4 (by decide) ?_
  refine x_aload_n G rfl dX2_set_5 0 rfl ?_
  refine x_get G in_X2 0 rfl rfl 0 (by decide) q128 (fun _ h => h) rfl dX2_set_6 ?_
  refine x_iconst (v := (0 : Int32)) G dX2_set_9 (by decide) ?_
  refine x_bipush (v := (40 : Int32)) G dX2_set_10 (by decide) ?_
  obtain ⟨f_1, ef_1⟩ : ∃ z : Nat → Int32, z = va_cpy u w (0 : Int32).toNatClampNeg (0 : Int32).toNatClampNeg (40 : Int32).toNatClampNeg := ⟨_, rfl⟩
  replace h := h f_1 ef_1
  refine x_copyi G q347 q349 q348 q108 3 1 rfl rfl (by decide) (by decide) (by decide) (by decide) (by decide) (by rw [← ef_1]) (by decide) (Nat.le_of_ble_eq_true rfl) dX2_set_12 ?_
  show X g 2 15 [(0, .ref h0), (1, .ref q0)] [] [(h0, .inr (1, [.ref h0w])), (h0w, .inl ((xT g) 2, 40, .inl f_1)), (q0, .inr (1, [.ref q0w])), (q0w, .inl ((xT g) 2, 40, .inl u))] 0 0
  exact x_retv1 G Q dX2_set_15 f_1 h XSub.rf (Nat.le_of_ble_eq_true rfl) (Nat.le_of_ble_eq_true rfl)
theorem cdX2_times : yX2_times.cls = RX2 ∧ yX2_times.cls ≠ "java/lang/invoke/MethodHandle" ∧ yX2_times.cls ≠ "java/lang/invoke/VarHandle" ∧ (parseMethodDescriptor yX2_times.desc).map (fun d => d.parameters.length) = some 1 := by decide +kernel
def wX2_times_L5 (p0 : Int64) (X49 : Int64 → Int32 → (Nat → Int32) → Prop) : Nat → Int64 → Int32 → (Nat → Int32) → Prop
  | 0, _, _, _ => False
  | n + 1, v3_1, v5_2, w_3 => (((40 : Int32) ≤ v5_2 → X49 v3_1 v5_2 w_3) ∧ (¬ (40 : Int32) ≤ v5_2 → (vp_in v5_2 40 ∧ (∀ y_4 : Int64, y_4 = (v3_1 + (((w_3 v5_2.toNatClampNeg).toInt64 &&& (4294967295 : Int64)) * p0)) → (∀ x_5 : Int32, x_5 = y_4.toInt32 → (vp_in v5_2 40 ∧ (∀ f_6 : Nat → Int32, f_6 = upd w_3 v5_2.toNatClampNeg x_5 → (∀ y_7 : Int64, y_7 = (jlushr y_4 (32 : Int32)) → (∀ x_8 : Int32, x_8 = (v5_2 + (1 : Int32)) → wX2_times_L5 p0 X49 n y_7 x_8 f_6)))))))))
def wX2_times (p0 : Int64) (w : Nat → Int32) (K : (Nat → Int32) → Prop) : Prop := (∃ m5 : Nat, wX2_times_L5 p0 (fun (v3_12 : Int64) (v5_13 : Int32) (w_14 : Nat → Int32) => K w_14) m5 (0 : Int64) (0 : Int32) w)
set_option maxRecDepth 20000 in
theorem kX2_times_L5 {g : XG} {h0 : Nat} {h0w : Nat} {p0 : Int64} {X49 : Int64 → Int32 → (Nat → Int32) → Prop} (G : XO g RX2 cX2_times 6 1 0 0) (hX49 : ∀ (v3_9 : Int64) (v5_10 : Int32) (w_11 : Nat → Int32), X49 v3_9 v5_10 w_11 → X g 6 49 [(5, .int v5_10), (3, .long v3_9), (0, .ref h0), (1, .long p0)] [] [(h0, .inr (1, [.ref h0w])), (h0w, .inl ((xT g) 2, 40, .inl w_11))] 0 0) : ∀ (n : Nat) (v3_1 : Int64) (v5_2 : Int32) (w_3 : Nat → Int32), wX2_times_L5 p0 X49 n v3_1 v5_2 w_3 → X g 6 5 [(5, .int v5_2), (3, .long v3_1), (0, .ref h0), (1, .long p0)] [] [(h0, .inr (1, [.ref h0w])), (h0w, .inl ((xT g) 2, 40, .inl w_3))] 0 0 := by
  intro n
  induction n with
  | zero => intro _ _ _ h; exact h.elim
  | succ n ih =>
    intro v3_1 v5_2 w_3 h
    unfold wX2_times_L5 at h
    refine x_iload G dX2_times_5 0 rfl ?_
    refine x_bipush (v := (40 : Int32)) G dX2_times_7 (by decide) ?_
    refine x_icmp_ge (tgt := 49) G dX2_times_9 rfl (fun c => ?_) (fun c => ?_)
    · replace h := h.1 c
      exact hX49 v3_1 v5_2 w_3 h
    · replace h := h.2 c
      refine x_lload_n G rfl dX2_times_12 1 rfl ?_
      refine x_aload_n G rfl dX2_times_13 2 rfl ?_
      refine x_get G in_X2 0 rfl rfl 0 (by decide) q128 (fun _ h => h) rfl dX2_times_14 ?_
      refine x_iload G dX2_times_17 0 rfl ?_
      obtain ⟨hz, h⟩ := h
      refine x_iald G 1 rfl hz dX2_times_19 ?_
      refine x_i2l G dX2_times_20 ?_
      refine x_ldc2 G q280 dX2_times_21 ?_
      refine x_land G dX2_times_24 ?_
      refine x_lload_n G rfl dX2_times_25 3 rfl ?_
      refine x_lmul G dX2_times_26 ?_
      refine x_ladd G dX2_times_27 ?_
      refine x_topl (fun y_4 ey_4 => ?_)
      replace h := h y_4 ey_4
      refine x_lstore_n (lv' := [(3, .long y_4), (5, .int v5_2), (0, .ref h0), (1, .long p0)]) G rfl dX2_times_28 (by decide) rfl ?_
      refine x_aload_n G rfl dX2_times_29 2 rfl ?_
      refine x_get G in_X2 0 rfl rfl 0 (by decide) q128 (fun _ h => h) rfl dX2_times_30 ?_
      refine x_iload G dX2_times_33 1 rfl ?_
      refine x_lload_n G rfl dX2_times_35 0 rfl ?_
      refine x_l2i G dX2_times_36 ?_
      refine x_topi (fun x_5 ex_5 => ?_)
      replace h := h x_5 ex_5
      obtain ⟨hz, h⟩ := h
      obtain ⟨f_6, ef_6⟩ : ∃ z : Nat → Int32, z = upd w_3 v5_2.toNatClampNeg x_5 := ⟨_, rfl⟩
      replace h := h f_6 ef_6
      refine x_iast G 1 rfl hz (by rw [← ef_6]) dX2_times_37 ?_
      show X g 6 38 [(3, .long y_4), (5, .int v5_2), (0, .ref h0), (1, .long p0)] [] [(h0, .inr (1, [.ref h0w])), (h0w, .inl ((xT g) 2, 40, .inl f_6))] 0 0
      refine x_lload_n G rfl dX2_times_38 0 rfl ?_
      refine x_bipush (v := (32 : Int32)) G dX2_times_39 (by decide) ?_
      refine x_lushr G dX2_times_41 ?_
      refine x_topl (fun y_7 ey_7 => ?_)
      replace h := h y_7 ey_7
      refine x_lstore_n (lv' := [(3, .long y_7), (5, .int v5_2), (0, .ref h0), (1, .long p0)]) G rfl dX2_times_42 (by decide) rfl ?_
      obtain ⟨x_8, ex_8⟩ : ∃ z : Int32, z = (v5_2 + (1 : Int32)) := ⟨_, rfl⟩
      replace h := h x_8 ex_8
      refine x_iinc (v := x_8) (lv' := [(5, .int x_8), (3, .long y_7), (0, .ref h0), (1, .long p0)]) G dX2_times_43 1 rfl (by rw [ex_8]; rfl) (by decide) rfl ?_
      refine x_goto (tgt := 5) G dX2_times_46 rfl ?_
      exact ih y_7 x_8 f_6 h
set_option maxRecDepth 20000 in
theorem tX2_times {l : Launch} {D : va_G} {ta : Nat → ClassId} {h0 : Nat} {h0w : Nat} {w : Nat → Int32} {p0 : Int64} {K : (Nat → Int32) → Prop} (hlt : l.stackTraces = false) (h : wX2_times p0 w K) : SMv1 l D ta yX2_times cX2_times 6 1 [.ref h0, .long p0] [(h0, .inr (1, [.ref h0w])), (h0w, .inl (ta 2, 40, .inl w))] (fun (w' : Nat → Int32) => [(h0, .inr (1, [.ref h0w])), (h0w, .inl (ta 2, 40, .inl w'))]) 0 0 K := by
  refine x_stv1 hlt (plainFor_of_name (by decide +kernel)) (Nat.le_of_ble_eq_true rfl) (fun g G hl hD hT Q => ?_)
  subst hl; subst hD; subst hT
  unfold wX2_times at h
  show X g 6 0 [(0, .ref h0), (1, .long p0)] [] [(h0, .inr (1, [.ref h0w])), (h0w, .inl ((xT g) 2, 40, .inl w))] 0 0
  refine x_lconst (v := (0 : Int64)) G dX2_times_0 (by decide) ?_
  refine x_lstore_n (lv' := [(3, .long (0 : Int64)), (0, .ref h0), (1, .long p0)]) G rfl dX2_times_1 (by decide) rfl ?_
  refine x_iconst (v := (0 : Int32)) G dX2_times_2 (by decide) ?_
  refine x_istore (lv' := [(5, .int (0 : Int32)), (3, .long (0 : Int64)), (0, .ref h0), (1, .long p0)]) G dX2_times_3 (by decide) rfl ?_
  obtain ⟨n0, h⟩ := h
  refine kX2_times_L5 G (fun v3_12 v5_13 w_14 h => ?_) n0 _ _ _ h
  · exact x_retv1 G Q dX2_times_49 w_14 h XSub.rf (Nat.le_of_ble_eq_true rfl) (Nat.le_of_ble_eq_true rfl)
theorem cdX2_floatOfSize : yX2_floatOfSize.cls = RX2 ∧ yX2_floatOfSize.cls ≠ "java/lang/invoke/MethodHandle" ∧ yX2_floatOfSize.cls ≠ "java/lang/invoke/VarHandle" ∧ (parseMethodDescriptor yX2_floatOfSize.desc).map (fun d => d.parameters.length) = some 0 := by decide +kernel
def wX2_floatOfSize (w : Nat → Int32) (K : UInt32 → Prop) : Prop := (wX2_length w (fun (r_1 : Int32) => (wJ13_max (925 : Int32) (r_1 - (24 : Int32)) (fun (r_2 : Int32) => (wX2_rounded r_2 w (fun (r_3 : Int64) => (∀ x_4 : Int32, x_4 = r_3.toInt32 → (vn_sni2f ((jishl (r_2 - (925 : Int32)) (23 : Int32)) + x_4) = false ∧ K (((jishl (r_2 - (925 : Int32)) (23 : Int32)) + x_4).toUInt32)))))))))
set_option maxRecDepth 20000 in
theorem tX2_floatOfSize {l : Launch} {D : va_G} {ta : Nat → ClassId} {h0 : Nat} {h0w : Nat} {w : Nat → Int32} {K : UInt32 → Prop} (hlt : l.stackTraces = false) (h : wX2_floatOfSize w K) : SMf0 l D ta yX2_floatOfSize cX2_floatOfSize 4 FieldType.float 4 [.ref h0] [(h0, .inr (1, [.ref h0w])), (h0w, .inl (ta 2, 40, .inl w))] ([(h0, .inr (1, [.ref h0w])), (h0w, .inl (ta 2, 40, .inl w))]) 0 0 K := by
  refine x_stf0 hlt (plainFor_of_name (by decide +kernel)) (Nat.le_of_ble_eq_true rfl) (fun g G hl hD hT Q => ?_)
  subst hl; subst hD; subst hT
  unfold wX2_floatOfSize at h
  show X g 4 0 [(0, .ref h0)] [] [(h0, .inr (1, [.ref h0w])), (h0w, .inl ((xT g) 2, 40, .inl w))] 0 0
  refine x_aload_n G rfl dX2_floatOfSize_0 0 rfl ?_
  refine x_cVi0 (wc := [(h0, .inr (1, [.ref h0w])), (h0w, .inl ((xT g) 2, 40, .inl w))]) (As := []) (rest := []) G [] (XSub.of [0, 1] rfl (by decide)) (tX2_length G.noTraces h) (lw_V q297 q298 q299 q66 q300) cdX2_length 1 0 rfl rfl rfl (by decide) (by decide) rfl (Nat.le_of_ble_eq_true rfl) (Nat.le_of_ble_eq_true rfl) (Nat.le_of_ble_eq_true rfl) dX2_floatOfSize_1 (fun r_1 h => ?_)
  show X g 4 4 [(0, .ref h0)] [.int r_1] [(h0, .inr (1, [.ref h0w])), (h0w, .inl ((xT g) 2, 40, .inl w))] 0 0
  refine x_istore_n (lv' := [(1, .int r_1), (0, .ref h0)]) G rfl dX2_floatOfSize_4 (by decide) rfl ?_
  refine x_sipush (v := (925 : Int32)) G dX2_floatOfSize_5 (by decide) ?_
  refine x_iload_n G rfl dX2_floatOfSize_8 0 rfl ?_
  refine x_bipush (v := (24 : Int32)) G dX2_floatOfSize_9 (by decide) ?_
  refine x_isub G dX2_floatOfSize_11 ?_
  refine x_cPi (As := [.int (925 : Int32), .int (r_1 - (24 : Int32))]) (rest := []) G (tJ13_max G.noTraces h) (lw_S q305 q306 q85 q307) cdJ13_max (by decide) (by decide) rfl (Nat.le_of_ble_eq_true rfl) (Nat.zero_le _) (Nat.zero_le _) dX2_floatOfSize_12 (fun r_2 h => ?_)
  refine x_istore_n (lv' := [(2, .int r_2), (1, .int r_1), (0, .ref h0)]) G rfl dX2_floatOfSize_15 (by decide) rfl ?_
  refine x_aload_n G rfl dX2_floatOfSize_16 2 rfl ?_
  refine x_iload_n G rfl dX2_floatOfSize_17 0 rfl ?_
  refine x_cVl0 (wc := [(h0, .inr (1, [.ref h0w])), (h0w, .inl ((xT g) 2, 40, .inl w))]) (As := [.int r_2]) (rest := []) G [] (XSub.of [0, 1] rfl (by decide)) (tX2_rounded G.noTraces h) (lw_V q308 q309 q310 q66 q311) cdX2_rounded 1 0 rfl rfl rfl (by decide) (by decide) rfl (Nat.le_of_ble_eq_true rfl) (Nat.le_of_ble_eq_true rfl) (Nat.le_of_ble_eq_true rfl) dX2_floatOfSize_18 (fun r_3 h => ?_)
  show X g 4 21 [(2, .int r_2), (1, .int r_1), (0, .ref h0)] [.long r_3] [(h0, .inr (1, [.ref h0w])), (h0w, .inl ((xT g) 2, 40, .inl w))] 0 0
  refine x_l2i G dX2_floatOfSize_21 ?_
  refine x_topi (fun x_4 ex_4 => ?_)
  replace h := h x_4 ex_4
  refine x_istore_n (lv' := [(3, .int x_4), (2, .int r_2), (1, .int r_1), (0, .ref h0)]) G rfl dX2_floatOfSize_22 (by decide) rfl ?_
  refine x_iload_n G rfl dX2_floatOfSize_23 1 rfl ?_
  refine x_sipush (v := (925 : Int32)) G dX2_floatOfSize_24 (by decide) ?_
  refine x_isub G dX2_floatOfSize_27 ?_
  refine x_bipush (v := (23 : Int32)) G dX2_floatOfSize_28 (by decide) ?_
  refine x_ishl G dX2_floatOfSize_30 ?_
  refine x_iload_n G rfl dX2_floatOfSize_31 0 rfl ?_
  refine x_iadd G dX2_floatOfSize_32 ?_
  obtain ⟨hz, h⟩ := h
  refine x_ni2f G q1404 q588 q587 q83 hz (by decide) (Nat.le_of_ble_eq_true rfl) dX2_floatOfSize_33 ?_
  exact x_retf0 G Q dX2_floatOfSize_36  h XSub.rf (Nat.le_of_ble_eq_true rfl) (Nat.le_of_ble_eq_true rfl)
theorem cdX2_toFloat : yX2_toFloat.cls = RX2 ∧ yX2_toFloat.cls ≠ "java/lang/invoke/MethodHandle" ∧ yX2_toFloat.cls ≠ "java/lang/invoke/VarHandle" ∧ (parseMethodDescriptor yX2_toFloat.desc).map (fun d => d.parameters.length) = some 0 := by decide +kernel
def wX2_toFloat_J21 (K : UInt32 → (Nat → Int32) → Prop) : Int32 → (Nat → Int32) → Prop := fun (v1_2 : Int32) (w_3 : Nat → Int32) => (wX2_floatOfSize w_3 (fun (r_4 : UInt32) => ((v1_2 = (0 : Int32) → ((v1_2 = (0 : Int32) → K r_4 w_3) ∧ (¬ v1_2 = (0 : Int32) → K (FP.fneg r_4) w_3))) ∧ (¬ v1_2 = (0 : Int32) → (wX2_negate w_3 (fun (w_5 : Nat → Int32) => ((v1_2 = (0 : Int32) → K r_4 w_5) ∧ (¬ v1_2 = (0 : Int32) → K (FP.fneg r_4) w_5))))))))
def wX2_toFloat (w : Nat → Int32) (K : UInt32 → (Nat → Int32) → Prop) : Prop := (wX2_sign w (fun (r_1 : Int32) => (((0 : Int32) ≤ r_1 → (wX2_toFloat_J21 K (0 : Int32) w)) ∧ (¬ (0 : Int32) ≤ r_1 → (wX2_negate w (fun (w_6 : Nat → Int32) => (wX2_toFloat_J21 K (1 : Int32) w_6)))))))
set_option maxRecDepth 20000 in
theorem kX2_toFloat_J21 {g : XG} {h0 : Nat} {h0w : Nat} {K : UInt32 → (Nat → Int32) → Prop} (G : XO g RX2 cX2_toFloat 3 5 0 0) (Q : XQf1 g FieldType.float 0 0 (fun (w' : Nat → Int32) => [(h0, .inr (1, [.ref h0w])), (h0w, .inl ((xT g) 2, 40, .inl w'))]) K) : ∀ (v1_2 : Int32) (w_3 : Nat → Int32), wX2_toFloat_J21 K v1_2 w_3 → X g 3 21 [(0, .ref h0), (1, .int v1_2)] [] [(h0, .inr (1, [.ref h0w])), (h0w, .inl ((xT g) 2, 40, .inl w_3))] 0 0 := by
  intro v1_2 w_3 h
  unfold wX2_toFloat_J21 at h
  refine x_aload_n G rfl dX2_toFloat_21 0 rfl ?_
  refine x_cVf0 (wc := [(h0, .inr (1, [.ref h0w])), (h0w, .inl ((xT g) 2, 40, .inl w_3))]) (As := []) (rest := []) G [] (XSub.of [0, 1] rfl (by decide)) (tX2_floatOfSize G.noTraces h) (lw_V q1400 q1402 qs16 q66 q1403) cdX2_floatOfSize 1 0 rfl rfl rfl (by decide) (by decide) rfl (Nat.le_of_ble_eq_true rfl) (Nat.le_of_ble_eq_true rfl) (Nat.le_of_ble_eq_true rfl) dX2_toFloat_22 (fun r_4 h => ?_)
  show X g 3 25 [(0, .ref h0), (1, .int v1_2)] [.float r_4] [(h0, .inr (1, [.ref h0w])), (h0w, .inl ((xT g) 2, 40, .inl w_3))] 0 0
  refine x_fstore_n (lv' := [(2, .float r_4), (0, .ref h0), (1, .int v1_2)]) G rfl dX2_toFloat_25 (by decide) rfl ?_
  refine x_iload_n G rfl dX2_toFloat_26 2 rfl ?_
  refine x_if_eq (tgt := 34) G dX2_toFloat_27 rfl (fun c => ?_) (fun c => ?_)
  · replace h := h.1 c
    refine x_iload_n G rfl dX2_toFloat_34 2 rfl ?_
    refine x_if_eq (tgt := 43) G dX2_toFloat_35 rfl (fun c => ?_) (fun c => ?_)
    · replace h := h.1 c
      refine x_fload_n G rfl dX2_toFloat_43 0 rfl ?_
      exact x_retf1 G Q dX2_toFloat_44 w_3 h XSub.rf (Nat.le_of_ble_eq_true rfl) (Nat.le_of_ble_eq_true rfl)
    · replace h := h.2 c
      refine x_fload_n G rfl dX2_toFloat_38 0 rfl ?_
      refine x_fneg G dX2_toFloat_39 ?_
      refine x_goto (tgt := 44) G dX2_toFloat_40 rfl ?_
      exact x_retf1 G Q dX2_toFloat_44 w_3 h XSub.rf (Nat.le_of_ble_eq_true rfl) (Nat.le_of_ble_eq_true rfl)
  · replace h := h.2 c
    refine x_aload_n G rfl dX2_toFloat_30 1 rfl ?_
    refine x_cVv1 (wc := [(h0, .inr (1, [.ref h0w])), (h0w, .inl ((xT g) 2, 40, .inl w_3))]) (As := []) (rest := []) G [] (XSub.of [0, 1] rfl (by decide)) (tX2_negate G.noTraces h) (lw_V q289 q290 q291 q66 q292) cdX2_negate 1 0 rfl rfl rfl (by decide) (by decide) rfl (Nat.le_of_ble_eq_true rfl) (Nat.le_of_ble_eq_true rfl) (Nat.le_of_ble_eq_true rfl) dX2_toFloat_31 (fun w_5 h => ?_)
    show X g 3 34 [(2, .float r_4), (0, .ref h0), (1, .int v1_2)] [] [(h0, .inr (1, [.ref h0w])), (h0w, .inl ((xT g) 2, 40, .inl w_5))] 0 0
    refine x_iload_n G rfl dX2_toFloat_34 2 rfl ?_
    refine x_if_eq (tgt := 43) G dX2_toFloat_35 rfl (fun c => ?_) (fun c => ?_)
    · replace h := h.1 c
      refine x_fload_n G rfl dX2_toFloat_43 0 rfl ?_
      exact x_retf1 G Q dX2_toFloat_44 w_5 h XSub.rf (Nat.le_of_ble_eq_true rfl) (Nat.le_of_ble_eq_true rfl)
    · replace h := h.2 c
      refine x_fload_n G rfl dX2_toFloat_38 0 rfl ?_
      refine x_fneg G dX2_toFloat_39 ?_
      refine x_goto (tgt := 44) G dX2_toFloat_40 rfl ?_
      exact x_retf1 G Q dX2_toFloat_44 w_5 h XSub.rf (Nat.le_of_ble_eq_true rfl) (Nat.le_of_ble_eq_true rfl)
set_option maxRecDepth 20000 in
theorem tX2_toFloat {l : Launch} {D : va_G} {ta : Nat → ClassId} {h0 : Nat} {h0w : Nat} {w : Nat → Int32} {K : UInt32 → (Nat → Int32) → Prop} (hlt : l.stackTraces = false) (h : wX2_toFloat w K) : SMf1 l D ta yX2_toFloat cX2_toFloat 3 FieldType.float 5 [.ref h0] [(h0, .inr (1, [.ref h0w])), (h0w, .inl (ta 2, 40, .inl w))] (fun (w' : Nat → Int32) => [(h0, .inr (1, [.ref h0w])), (h0w, .inl (ta 2, 40, .inl w'))]) 0 0 K := by
  refine x_stf1 hlt (plainFor_of_name (by decide +kernel)) (Nat.le_of_ble_eq_true rfl) (fun g G hl hD hT Q => ?_)
  subst hl; subst hD; subst hT
  unfold wX2_toFloat at h
  show X g 3 0 [(0, .ref h0)] [] [(h0, .inr (1, [.ref h0w])), (h0w, .inl ((xT g) 2, 40, .inl w))] 0 0
  refine x_aload_n G rfl dX2_toFloat_0 0 rfl ?_
  refine x_cVi0 (wc := [(h0, .inr (1, [.ref h0w])), (h0w, .inl ((xT g) 2, 40, .inl w))]) (As := []) (rest := []) G [] (XSub.of [0, 1] rfl (by decide)) (tX2_sign G.noTraces h) (lw_V q285 q286 q287 q66 q288) cdX2_sign 1 0 rfl rfl rfl (by decide) (by decide) rfl (Nat.le_of_ble_eq_true rfl) (Nat.le_of_ble_eq_true rfl) (Nat.le_of_ble_eq_true rfl) dX2_toFloat_1 (fun r_1 h => ?_)
  show X g 3 4 [(0, .ref h0)] [.int r_1] [(h0, .inr (1, [.ref h0w])), (h0w, .inl ((xT g) 2, 40, .inl w))] 0 0
  refine x_if_ge (tgt := 11) G dX2_toFloat_4 rfl (fun c => ?_) (fun c => ?_)
  · replace h := h.1 c
    refine x_iconst (v := (0 : Int32)) G dX2_toFloat_11 (by decide) ?_
    refine x_istore_n (lv' := [(1, .int (0 : Int32)), (0, .ref h0)]) G rfl dX2_toFloat_12 (by decide) rfl ?_
    refine x_iload_n G rfl dX2_toFloat_13 0 rfl ?_
    refine x_if_eq (tgt := 21) G dX2_toFloat_14 rfl (fun c => ?_) (fun c => absurd c (by decide))
    refine x_lv (lv' := [(0, .ref h0), (1, .int (0 : Int32))]) [1, 0] rfl ?_
    refine kX2_toFloat_J21 G Q  _ _ h
  · replace h := h.2 c
    refine x_iconst (v := (1 : Int32)) G dX2_toFloat_7 (by decide) ?_
    refine x_goto (tgt := 12) G dX2_toFloat_8 rfl ?_
    refine x_istore_n (lv' := [(1, .int (1 : Int32)), (0, .ref h0)]) G rfl dX2_toFloat_12 (by decide) rfl ?_
    refine x_iload_n G rfl dX2_toFloat_13 0 rfl ?_
    refine x_if_eq (tgt := 21) G dX2_toFloat_14 rfl (fun c => absurd c (by decide)) (fun c => ?_)
    refine x_aload_n G rfl dX2_toFloat_17 1 rfl ?_
    refine x_cVv1 (wc := [(h0, .inr (1, [.ref h0w])), (h0w, .inl ((xT g) 2, 40, .inl w))]) (As := []) (rest := []) G [] (XSub.of [0, 1] rfl (by decide)) (tX2_negate G.noTraces h) (lw_V q289 q290 q291 q66 q292) cdX2_negate 1 0 rfl rfl rfl (by decide) (by decide) rfl (Nat.le_of_ble_eq_true rfl) (Nat.le_of_ble_eq_true rfl) (Nat.le_of_ble_eq_true rfl) dX2_toFloat_18 (fun w_6 h => ?_)
    show X g 3 21 [(1, .int (1 : Int32)), (0, .ref h0)] [] [(h0, .inr (1, [.ref h0w])), (h0w, .inl ((xT g) 2, 40, .inl w_6))] 0 0
    refine x_lv (lv' := [(0, .ref h0), (1, .int (1 : Int32))]) [1, 0] rfl ?_
    refine kX2_toFloat_J21 G Q  _ _ h
theorem cdX2_word : yX2_word.cls = RX2 ∧ yX2_word.cls ≠ "java/lang/invoke/MethodHandle" ∧ yX2_word.cls ≠ "java/lang/invoke/VarHandle" ∧ (parseMethodDescriptor yX2_word.desc).map (fun d => d.parameters.length) = some 1 := by decide +kernel
def wX2_word (p0 : Int32) (w : Nat → Int32) (K : Int32 → Prop) : Prop := (vp_in p0 40 ∧ K (w p0.toNatClampNeg))
set_option maxRecDepth 20000 in
theorem tX2_word {l : Launch} {D : va_G} {ta : Nat → ClassId} {h0 : Nat} {h0w : Nat} {w : Nat → Int32} {p0 : Int32} {K : Int32 → Prop} (hlt : l.stackTraces = false) (h : wX2_word p0 w K) : SMi0 l D ta yX2_word cX2_word 2 FieldType.int 1 [.ref h0, .int p0] [(h0, .inr (1, [.ref h0w])), (h0w, .inl (ta 2, 40, .inl w))] ([(h0, .inr (1, [.ref h0w])), (h0w, .inl (ta 2, 40, .inl w))]) 0 0 K := by
  refine x_sti0 hlt (plainFor_of_name (by decide +kernel)) (Nat.le_of_ble_eq_true rfl) (fun g G hl hD hT Q => ?_)
  subst hl; subst hD; subst hT
  unfold wX2_word at h
  show X g 2 0 [(0, .ref h0), (1, .int p0)] [] [(h0, .inr (1, [.ref h0w])), (h0w, .inl ((xT g) 2, 40, .inl w))] 0 0
  refine x_aload_n G rfl dX2_word_0 0 rfl ?_
  refine x_get G in_X2 0 rfl rfl 0 (by decide) q128 (fun _ h => h) rfl dX2_word_1 ?_
  refine x_iload_n G rfl dX2_word_4 1 rfl ?_
  obtain ⟨hz, h⟩ := h
  refine x_iald G 1 rfl hz dX2_word_5 ?_
  exact x_reti0 G Q dX2_word_6 rfl  h XSub.rf (Nat.le_of_ble_eq_true rfl) (Nat.le_of_ble_eq_true rfl)
theorem cdX2_add_2 : yX2_add_2.cls = RX2 ∧ yX2_add_2.cls ≠ "java/lang/invoke/MethodHandle" ∧ yX2_add_2.cls ≠ "java/lang/invoke/VarHandle" ∧ (parseMethodDescriptor yX2_add_2.desc).map (fun d => d.parameters.length) = some 1 := by decide +kernel
def wX2_add_2_L5 (u : Nat → Int32) (X60 : Int64 → Int32 → (Nat → Int32) → Prop) : Nat → Int64 → Int32 → (Nat → Int32) → Prop
  | 0, _, _, _ => False
  | n + 1, v2_1, v4_2, w_3 => (((40 : Int32) ≤ v4_2 → X60 v2_1 v4_2 w_3) ∧ (¬ (40 : Int32) ≤ v4_2 → (vp_in v4_2 40 ∧ (vp_in v4_2 40 ∧ (∀ y_4 : Int64, y_4 = (v2_1 + (((w_3 v4_2.toNatClampNeg).toInt64 &&& (4294967295 : Int64)) + ((u v4_2.toNatClampNeg).toInt64 &&& (4294967295 : Int64)))) → (∀ x_5 : Int32, x_5 = y_4.toInt32 → (vp_in v4_2 40 ∧ (∀ f_6 : Nat → Int32, f_6 = upd w_3 v4_2.toNatClampNeg x_5 → (∀ y_7 : Int64, y_7 = (jlushr y_4 (32 : Int32)) → (∀ x_8 : Int32, x_8 = (v4_2 + (1 : Int32)) → wX2_add_2_L5 u X60 n y_7 x_8 f_6))))))))))
def wX2_add_2 (w : Nat → Int32) (u : Nat → Int32) (K : (Nat → Int32) → Prop) : Prop := (∃ m5 : Nat, wX2_add_2_L5 u (fun (v2_12 : Int64) (v4_13 : Int32) (w_14 : Nat → Int32) => K w_14) m5 (0 : Int64) (0 : Int32) w)
set_option maxRecDepth 20000 in
theorem kX2_add_2_L5 {g : XG} {h0 : Nat} {h0w : Nat} {q0 : Nat} {q0w : Nat} {u : Nat → Int32} {X60 : Int64 → Int32 → (Nat → Int32) → Prop} (G : XO g RX2 cX2_add_2 5 1 0 0) (hX60 : ∀ (v2_9 : Int64) (v4_10 : Int32) (w_11 : Nat → Int32), X60 v2_9 v4_10 w_11 → X g 5 60 [(4, .int v4_10), (2, .long v2_9), (0, .ref h0), (1, .ref q0)] [] [(h0, .inr (1, [.ref h0w])), (h0w, .inl ((xT g) 2, 40, .inl w_11)), (q0, .inr (1, [.ref q0w])), (q0w, .inl ((xT g) 2, 40, .inl u))] 0 0) : ∀ (n : Nat) (v2_1 : Int64) (v4_2 : Int32) (w_3 : Nat → Int32), wX2_add_2_L5 u X60 n v2_1 v4_2 w_3 → X g 5 5 [(4, .int v4_2), (2, .long v2_1), (0, .ref h0), (1, .ref q0)] [] [(h0, .inr (1, [.ref h0w])), (h0w, .inl ((xT g) 2, 40, .inl w_3)), (q0, .inr (1, [.ref q0w])), (q0w, .inl ((xT g) 2, 40, .inl u))] 0 0 := by
  intro n
  induction n with
  | zero => intro _ _ _ h; exact h.elim
  | succ n ih =>
    intro v2_1 v4_2 w_3 h
    unfold wX2_add_2_L5 at h
    refine x_iload G dX2_add_2_5 0 rfl ?_
    refine x_bipush (v := (40 : Int32)) G dX2_add_2_7 (by decide) ?_
    refine x_icmp_ge (tgt := 60) G dX2_add_2_9 rfl (fun c => ?_) (fun c => ?_)
    · replace h := h.1 c
      exact hX60 v2_1 v4_2 w_3 h
    · replace h := h.2 c
      refine x_lload_n G rfl dX2_add_2_12 1 rfl ?_
      refine x_aload_n G rfl dX2_add_2_13 2 rfl ?_
      refine x_get G in_X2 0 rfl rfl 0 (by decide) q128 (fun _ h => h) rfl dX2_add_2_14 ?_
      refine x_iload G dX2_add_2_17 0 rfl ?_
      obtain ⟨hz, h⟩ := h
      refine x_iald G 1 rfl hz dX2_add_2_19 ?_
      refine x_i2l G dX2_add_2_20 ?_
      refine x_ldc2 G q280 dX2_add_2_21 ?_
      refine x_land G dX2_add_2_24 ?_
      refine x_aload_n G rfl dX2_add_2_25 3 rfl ?_
      refine x_get G in_X2 2 rfl rfl 0 (by decide) q128 (fun _ h => h) rfl dX2_add_2_26 ?_
      refine x_iload G dX2_add_2_29 0 rfl ?_
      obtain ⟨hz, h⟩ := h
      refine x_iald G 3 rfl hz dX2_add_2_31 ?_
      refine x_i2l G dX2_add_2_32 ?_
      refine x_ldc2 G q280 dX2_add_2_33 ?_
      refine x_land G dX2_add_2_36 ?_
      refine x_ladd G dX2_add_2_37 ?_
      refine x_ladd G dX2_add_2_38 ?_
      refine x_topl (fun y_4 ey_4 => ?_)
      replace h := h y_4 ey_4
      refine x_lstore_n (lv' := [(2, .long y_4), (4, .int v4_2), (0, .ref h0), (1, .ref q0)]) G rfl dX2_add_2_39 (by decide) rfl ?_
      refine x_aload_n G rfl dX2_add_2_40 2 rfl ?_
      refine x_get G in_X2 0 rfl rfl 0 (by decide) q128 (fun _ h => h) rfl dX2_add_2_41 ?_
      refine x_iload G dX2_add_2_44 1 rfl ?_
      refine x_lload_n G rfl dX2_add_2_46 0 rfl ?_
      refine x_l2i G dX2_add_2_47 ?_
      refine x_topi (fun x_5 ex_5 => ?_)
      replace h := h x_5 ex_5
      obtain ⟨hz, h⟩ := h
      obtain ⟨f_6, ef_6⟩ : ∃ z : Nat → Int32, z = upd w_3 v4_2.toNatClampNeg x_5 := ⟨_, rfl⟩
      replace h := h f_6 ef_6
      refine x_iast G 1 rfl hz (by rw [← ef_6]) dX2_add_2_48 ?_
      show X g 5 49 [(2, .long y_4), (4, .int v4_2), (0, .ref h0), (1, .ref q0)] [] [(h0, .inr (1, [.ref h0w])), (h0w, .inl ((xT g) 2, 40, .inl f_6)), (q0, .inr (1, [.ref q0w])), (q0w, .inl ((xT g) 2, 40, .inl u))] 0 0
      refine x_lload_n G rfl dX2_add_2_49 0 rfl ?_
      refine x_bipush (v := (32 : Int32)) G dX2_add_2_50 (by decide) ?_
      refine x_lushr G dX2_add_2_52 ?_
      refine x_topl (fun y_7 ey_7 => ?_)
      replace h := h y_7 ey_7
      refine x_lstore_n (lv' := [(2, .long y_7), (4, .int v4_2), (0, .ref h0), (1, .ref q0)]) G rfl dX2_add_2_53 (by decide) rfl ?_
      obtain ⟨x_8, ex_8⟩ : ∃ z : Int32, z = (v4_2 + (1 : Int32)) := ⟨_, rfl⟩
      replace h := h x_8 ex_8
      refine x_iinc (v := x_8) (lv' := [(4, .int x_8), (2, .long y_7), (0, .ref h0), (1, .ref q0)]) G dX2_add_2_54 1 rfl (by rw [ex_8]; rfl) (by decide) rfl ?_
      refine x_goto (tgt := 5) G dX2_add_2_57 rfl ?_
      exact ih y_7 x_8 f_6 h
set_option maxRecDepth 20000 in
theorem tX2_add_2 {l : Launch} {D : va_G} {ta : Nat → ClassId} {h0 : Nat} {h0w : Nat} {w : Nat → Int32} {q0 : Nat} {q0w : Nat} {u : Nat → Int32} {K : (Nat → Int32) → Prop} (hlt : l.stackTraces = false) (h : wX2_add_2 w u K) : SMv1 l D ta yX2_add_2 cX2_add_2 5 1 [.ref h0, .ref q0] [(h0, .inr (1, [.ref h0w])), (h0w, .inl (ta 2, 40, .inl w)), (q0, .inr (1, [.ref q0w])), (q0w, .inl (ta 2, 40, .inl u))] (fun (w' : Nat → Int32) => [(h0, .inr (1, [.ref h0w])), (h0w, .inl (ta 2, 40, .inl w')), (q0, .inr (1, [.ref q0w])), (q0w, .inl (ta 2, 40, .inl u))]) 0 0 K := by
  refine x_stv1 hlt (plainFor_of_name (by decide +kernel)) (Nat.le_of_ble_eq_true rfl) (fun g G hl hD hT Q => ?_)
  subst hl; subst hD; subst hT
  unfold wX2_add_2 at h
  show X g 5 0 [(0, .ref h0), (1, .ref q0)] [] [(h0, .inr (1, [.ref h0w])), (h0w, .inl ((xT g) 2, 40, .inl w)), (q0, .inr (1, [.ref q0w])), (q0w, .inl ((xT g) 2, 40, .inl u))] 0 0
  refine x_lconst (v := (0 : Int64)) G dX2_add_2_0 (by decide) ?_
  refine x_lstore_n (lv' := [(2, .long (0 : Int64)), (0, .ref h0), (1, .ref q0)]) G rfl dX2_add_2_1 (by decide) rfl ?_
  refine x_iconst (v := (0 : Int32)) G dX2_add_2_2 (by decide) ?_
  refine x_istore (lv' := [(4, .int (0 : Int32)), (2, .long (0 : Int64)), (0, .ref h0), (1, .ref q0)]) G dX2_add_2_3 (by decide) rfl ?_
  obtain ⟨n0, h⟩ := h
  refine kX2_add_2_L5 G (fun v2_12 v4_13 w_14 h => ?_) n0 _ _ _ h
  · exact x_retv1 G Q dX2_add_2_60 w_14 h XSub.rf (Nat.le_of_ble_eq_true rfl) (Nat.le_of_ble_eq_true rfl)
