/-! tapes, ledgers. Printed by gen/ledger.py -/
theorem cdX8_bits : yX8_bits.cls = RX8 ∧ yX8_bits.cls ≠ "java/lang/invoke/MethodHandle" ∧ yX8_bits.cls ≠ "java/lang/invoke/VarHandle" ∧ (parseMethodDescriptor yX8_bits.desc).map (fun d => d.parameters.length) = some 1 := by decide +kernel
def wX8_bits (p0 : UInt64) (tw : Int32) (K : Int64 → Prop) : Prop := ((tw = (0 : Int32) → (vf_n32 (FP.d2f p0) ∧ (wJ11_floatToIntBits (FP.d2f p0) (fun (r_1 : Int32) => K r_1.toInt64)))) ∧ (¬ tw = (0 : Int32) → (wJ12_doubleToLongBits p0 (fun (r_2 : Int64) => K r_2))))
set_option maxRecDepth 20000 in
theorem tX8_bits {l : Launch} {D : va_G} {ta : Nat → ClassId} {h0 : Nat} {tw : Int32} {ty : Int32} {h0l : Nat} {h0r : Nat} {h0s : Nat} {tc : Int32} {tt : UInt64} {p0 : UInt64} {K : Int64 → Prop} (hlt : l.stackTraces = false) (h : wX8_bits p0 tw K) : SMl0 l D ta yX8_bits cX8_bits 3 FieldType.long 3 [.ref h0, .double p0] [(h0, .inr (7, [.int tw, .int ty, .ref h0l, .ref h0r, .ref h0s, .int tc, .double tt]))] ([(h0, .inr (7, [.int tw, .int ty, .ref h0l, .ref h0r, .ref h0s, .int tc, .double tt]))]) 0 0 K := by
  refine x_stl0 hlt (plainFor_of_name (by decide +kernel)) (Nat.le_of_ble_eq_true rfl) (fun g G hl hD hT Q => ?_)
  subst hl; subst hD; subst hT
  unfold wX8_bits at h
  show X g 3 0 [(0, .ref h0), (1, .double p0)] [] [(h0, .inr (7, [.int tw, .int ty, .ref h0l, .ref h0r, .ref h0s, .int tc, .double tt]))] 0 0
  refine x_aload_n G rfl dX8_bits_0 0 rfl ?_
  refine x_get G in_X8 0 rfl rfl 0 (by decide) q945 (fun _ h => h) rfl dX8_bits_1 ?_
  refine x_if_eq (tgt := 14) G dX8_bits_4 rfl (fun c => ?_) (fun c => ?_)
  · replace h := h.1 c
    refine x_dload_n G rfl dX8_bits_14 1 rfl ?_
    obtain ⟨hz, h⟩ := h
    refine x_d2f G dX8_bits_15 hz ?_
    refine x_cPi (As := [.float (FP.d2f p0)]) (rest := []) G (tJ11_floatToIntBits G.noTraces h) (lw_S q236 q237 q83 q238) cdJ11_floatToIntBits (by decide) (by decide) rfl (Nat.le_of_ble_eq_true rfl) (Nat.zero_le _) (Nat.zero_le _) dX8_bits_16 (fun r_1 h => ?_)
    refine x_i2l G dX8_bits_19 ?_
    exact x_retl0 G Q dX8_bits_20  h XSub.rf (Nat.le_of_ble_eq_true rfl) (Nat.le_of_ble_eq_true rfl)
  · replace h := h.2 c
    refine x_dload_n G rfl dX8_bits_7 1 rfl ?_
    refine x_cPl (As := [.double p0]) (rest := []) G (tJ12_doubleToLongBits G.noTraces h) (lw_S q226 q227 q84 q228) cdJ12_doubleToLongBits (by decide) (by decide) rfl (Nat.le_of_ble_eq_true rfl) (Nat.zero_le _) (Nat.zero_le _) dX8_bits_8 (fun r_2 h => ?_)
    refine x_goto (tgt := 20) G dX8_bits_11 rfl ?_
    exact x_retl0 G Q dX8_bits_20  h XSub.rf (Nat.le_of_ble_eq_true rfl) (Nat.le_of_ble_eq_true rfl)
theorem cdX8_tell : yX8_tell.cls = RX8 ∧ yX8_tell.cls ≠ "java/lang/invoke/MethodHandle" ∧ yX8_tell.cls ≠ "java/lang/invoke/VarHandle" ∧ (parseMethodDescriptor yX8_tell.desc).map (fun d => d.parameters.length) = some 3 := by decide +kernel
def wX8_tell (p0 : UInt64) (p1 : UInt64) (p2 : UInt64) (tc : Int32) (tn : Nat) (tl : Nat → UInt64) (tr : Nat → UInt64) (ts : Nat → UInt64) (K : UInt64 → Int32 → (Nat → UInt64) → (Nat → UInt64) → (Nat → UInt64) → Prop) : Prop := (vp_in tc tn ∧ (∀ f_1 : Nat → UInt64, f_1 = vf_upd tl tc.toNatClampNeg p0 → (vp_in tc tn ∧ (∀ f_2 : Nat → UInt64, f_2 = vf_upd tr tc.toNatClampNeg p1 → (vp_in tc tn ∧ (∀ f_3 : Nat → UInt64, f_3 = vf_upd ts tc.toNatClampNeg p2 → (∀ x_4 : Int32, x_4 = (tc + (1 : Int32)) → K p2 x_4 f_1 f_2 f_3)))))))
set_option maxRecDepth 20000 in
theorem tX8_tell {l : Launch} {D : va_G} {ta : Nat → ClassId} {h0 : Nat} {tw : Int32} {ty : Int32} {h0l : Nat} {h0r : Nat} {h0s : Nat} {tc : Int32} {tt : UInt64} {tn : Nat} {tl : Nat → UInt64} {tr : Nat → UInt64} {ts : Nat → UInt64} {p0 : UInt64} {p1 : UInt64} {p2 : UInt64} {K : UInt64 → Int32 → (Nat → UInt64) → (Nat → UInt64) → (Nat → UInt64) → Prop} (hlt : l.stackTraces = false) (h : wX8_tell p0 p1 p2 tc tn tl tr ts K) : SMd4 l D ta yX8_tell cX8_tell 7 FieldType.double 1 [.ref h0, .double p0, .double p1, .double p2] [(h0, .inr (7, [.int tw, .int ty, .ref h0l, .ref h0r, .ref h0s, .int tc, .double tt])), (h0l, .inl (ta 5, tn, .inr (.inr (.inr (.inl tl))))), (h0r, .inl (ta 5, tn, .inr (.inr (.inr (.inl tr))))), (h0s, .inl (ta 5, tn, .inr (.inr (.inr (.inl ts)))))] (fun (tc' : Int32) (tl' : Nat → UInt64) (tr' : Nat → UInt64) (ts' : Nat → UInt64) => [(h0, .inr (7, [.int tw, .int ty, .ref h0l, .ref h0r, .ref h0s, .int tc', .double tt])), (h0l, .inl (ta 5, tn, .inr (.inr (.inr (.inl tl'))))), (h0r, .inl (ta 5, tn, .inr (.inr (.inr (.inl tr'))))), (h0s, .inl (ta 5, tn, .inr (.inr (.inr (.inl ts')))))]) 0 0 K := by
  refine x_std4 hlt (plainFor_of_name (by decide +kernel)) (Nat.le_of_ble_eq_true rfl) (fun g G hl hD hT Q => ?_)
  subst hl; subst hD; subst hT
  unfold wX8_tell at h
  show X g 7 0 [(0, .ref h0), (1, .double p0), (3, .double p1), (5, .double p2)] [] [(h0, .inr (7, [.int tw, .int ty, .ref h0l, .ref h0r, .ref h0s, .int tc, .double tt])), (h0l, .inl ((xT g) 5, tn, .inr (.inr (.inr (.inl tl))))), (h0r, .inl ((xT g) 5, tn, .inr (.inr (.inr (.inl tr))))), (h0s, .inl ((xT g) 5, tn, .inr (.inr (.inr (.inl ts)))))] 0 0
  refine x_aload_n G rfl dX8_tell_0 0 rfl ?_
  refine x_get G in_X8 0 rfl rfl 2 (by decide) q948 (fun _ h => h) rfl dX8_tell_1 ?_
  refine x_aload_n G rfl dX8_tell_4 0 rfl ?_
  refine x_get G in_X8 0 rfl rfl 5 (by decide) q954 (fun _ h => h) rfl dX8_tell_5 ?_
  refine x_dload_n G rfl dX8_tell_8 1 rfl ?_
  obtain ⟨hz, h⟩ := h
  obtain ⟨f_1, ef_1⟩ : ∃ z : Nat → UInt64, z = vf_upd tl tc.toNatClampNeg p0 := ⟨_, rfl⟩
  replace h := h f_1 ef_1
  refine x_dast G 1 rfl hz (by rw [← ef_1]) dX8_tell_9 ?_
  show X g 7 10 [(0, .ref h0), (1, .double p0), (3, .double p1), (5, .double p2)] [] [(h0, .inr (7, [.int tw, .int ty, .ref h0l, .ref h0r, .ref h0s, .int tc, .double tt])), (h0l, .inl ((xT g) 5, tn, .inr (.inr (.inr (.inl f_1))))), (h0r, .inl ((xT g) 5, tn, .inr (.inr (.inr (.inl tr))))), (h0s, .inl ((xT g) 5, tn, .inr (.inr (.inr (.inl ts)))))] 0 0
  refine x_aload_n G rfl dX8_tell_10 0 rfl ?_
  refine x_get G in_X8 0 rfl rfl 3 (by decide) q950 (fun _ h => h) rfl dX8_tell_11 ?_
  refine x_aload_n G rfl dX8_tell_14 0 rfl ?_
  refine x_get G in_X8 0 rfl rfl 5 (by decide) q954 (fun _ h => h) rfl dX8_tell_15 ?_
  refine x_dload_n G rfl dX8_tell_18 2 rfl ?_
  obtain ⟨hz, h⟩ := h
  obtain ⟨f_2, ef_2⟩ : ∃ z : Nat → UInt64, z = vf_upd tr tc.toNatClampNeg p1 := ⟨_, rfl⟩
  replace h := h f_2 ef_2
  refine x_dast G 2 rfl hz (by rw [← ef_2]) dX8_tell_19 ?_
  show X g 7 20 [(0, .ref h0), (1, .double p0), (3, .double p1), (5, .double p2)] [] [(h0, .inr (7, [.int tw, .int ty, .ref h0l, .ref h0r, .ref h0s, .int tc, .double tt])), (h0l, .inl ((xT g) 5, tn, .inr (.inr (.inr (.inl f_1))))), (h0r, .inl ((xT g) 5, tn, .inr (.inr (.inr (.inl f_2))))), (h0s, .inl ((xT g) 5, tn, .inr (.inr (.inr (.inl ts)))))] 0 0
  refine x_aload_n G rfl dX8_tell_20 0 rfl ?_
  refine x_get G in_X8 0 rfl rfl 4 (by decide) q952 (fun _ h => h) rfl dX8_tell_21 ?_
  refine x_aload_n G rfl dX8_tell_24 0 rfl ?_
  refine x_get G in_X8 0 rfl rfl 5 (by decide) q954 (fun _ h => h) rfl dX8_tell_25 ?_
  refine x_dload G dX8_tell_28 3 rfl ?_
  obtain ⟨hz, h⟩ := h
  obtain ⟨f_3, ef_3⟩ : ∃ z : Nat → UInt64, z = vf_upd ts tc.toNatClampNeg p2 := ⟨_, rfl⟩
  replace h := h f_3 ef_3
  refine x_dast G 3 rfl hz (by rw [← ef_3]) dX8_tell_30 ?_
  show X g 7 31 [(0, .ref h0), (1, .double p0), (3, .double p1), (5, .double p2)] [] [(h0, .inr (7, [.int tw, .int ty, .ref h0l, .ref h0r, .ref h0s, .int tc, .double tt])), (h0l, .inl ((xT g) 5, tn, .inr (.inr (.inr (.inl f_1))))), (h0r, .inl ((xT g) 5, tn, .inr (.inr (.inr (.inl f_2))))), (h0s, .inl ((xT g) 5, tn, .inr (.inr (.inr (.inl f_3)))))] 0 0
  refine x_aload_n G rfl dX8_tell_31 0 rfl ?_
  refine x_dup G dX8_tell_32 rfl ?_
  refine x_get G in_X8 0 rfl rfl 5 (by decide) q954 (fun _ h => h) rfl dX8_tell_33 ?_
  refine x_iconst (v := (1 : Int32)) G dX8_tell_36 (by decide) ?_
  refine x_iadd G dX8_tell_37 ?_
  refine x_topi (fun x_4 ex_4 => ?_)
  replace h := h x_4 ex_4
  refine x_put G in_X8 tyX8 tyX8_ok nmX8 0 rfl rfl 5 (by decide) q954 (fun _ h => h) rfl rfl rfl (Nat.le_of_ble_eq_true rfl) rfl dX8_tell_38 ?_
  show X g 7 41 [(0, .ref h0), (1, .double p0), (3, .double p1), (5, .double p2)] [] [(h0, .inr (7, [.int tw, .int ty, .ref h0l, .ref h0r, .ref h0s, .int x_4, .double tt])), (h0l, .inl ((xT g) 5, tn, .inr (.inr (.inr (.inl f_1))))), (h0r, .inl ((xT g) 5, tn, .inr (.inr (.inr (.inl f_2))))), (h0s, .inl ((xT g) 5, tn, .inr (.inr (.inr (.inl f_3)))))] 0 0
  refine x_dload G dX8_tell_41 3 rfl ?_
  exact x_retd4 G Q dX8_tell_43 x_4 f_1 f_2 f_3 h XSub.rf (Nat.le_of_ble_eq_true rfl) (Nat.le_of_ble_eq_true rfl)
theorem cdX8_init : yX8_init.cls = RX8 ∧ yX8_init.cls ≠ "java/lang/invoke/MethodHandle" ∧ yX8_init.cls ≠ "java/lang/invoke/VarHandle" ∧ (parseMethodDescriptor yX8_init.desc).map (fun d => d.parameters.length) = some 3 := by decide +kernel
def wX8_init (p0 : Int32) (p1 : Int32) (p2 : Int32) (K : Int32 → Int32 → Nat → Nat → Nat → Prop) : Prop := (isB p0 ∧ (¬ p2 < (0 : Int32) ∧ (p2.toNatClampNeg ≤ 60 ∧ (∀ a_1 : Nat, (¬ p2 < (0 : Int32) ∧ (p2.toNatClampNeg ≤ 60 ∧ (∀ a_2 : Nat, (¬ p2 < (0 : Int32) ∧ (p2.toNatClampNeg ≤ 60 ∧ (∀ a_3 : Nat, K p0 p1 a_1 a_2 a_3))))))))))
set_option maxRecDepth 20000 in
theorem tX8_init {l : Launch} {D : va_G} {ta : Nat → ClassId} {h0 : Nat} {tw : Int32} {ty : Int32} {tc : Int32} {tt : UInt64} {p0 : Int32} {p1 : Int32} {p2 : Int32} {K : Int32 → Int32 → Nat → Nat → Nat → Prop} (hlt : l.stackTraces = false) (h : wX8_init p0 p1 p2 K) : SMv5 l D ta yX8_init cX8_init 4 2 [.ref h0, .int p0, .int p1, .int p2] [(h0, .inr (7, [.int tw, .int ty, .null, .null, .null, .int tc, .double tt]))] (fun (tw' : Int32) (ty' : Int32) (b1 : Nat) (b2 : Nat) (b3 : Nat) => [(h0, .inr (7, [.int tw', .int ty', .ref b1, .ref b2, .ref b3, .int tc, .double tt])), (b1, .inl (ta 5, p2.toNatClampNeg, .inr (.inr (.inr (.inl (fun _ => FP.dconst0)))))), (b2, .inl (ta 5, p2.toNatClampNeg, .inr (.inr (.inr (.inl (fun _ => FP.dconst0)))))), (b3, .inl (ta 5, p2.toNatClampNeg, .inr (.inr (.inr (.inl (fun _ => FP.dconst0))))))]) 3 180 K := by
  refine x_stI5 hlt (plainFor_of_name (by decide +kernel)) (Nat.le_of_ble_eq_true rfl) (fun g G hl hD hT hN Q => ?_)
  subst hl; subst hD; subst hT
  unfold wX8_init at h
  show X g 4 0 [(0, .ref h0), (1, .int p0), (2, .int p1), (3, .int p2)] [] [(h0, .inr (7, [.int tw, .int ty, .null, .null, .null, .int tc, .double tt]))] 0 0
  refine x_aload_n G rfl dX8_init_0 0 rfl ?_
  refine x_objInit G q944 q118 q119 (by decide) dX8_init_1 ?_
  refine x_aload_n G rfl dX8_init_4 0 rfl ?_
  refine x_iload_n G rfl dX8_init_5 1 rfl ?_
  obtain ⟨hb, h⟩ := h
  refine x_putF G hN in_X8 tyX8 tyX8_ok nmX8 0 rfl rfl 0 (by decide) q945 (fun _ h => h) rfl rfl hb.nar hb.fit (Nat.le_of_ble_eq_true rfl) rfl dX8_init_6 ?_
  show X g 4 9 [(0, .ref h0), (1, .int p0), (2, .int p1), (3, .int p2)] [] [(h0, .inr (7, [.int p0, .int ty, .null, .null, .null, .int tc, .double tt]))] 0 0
  refine x_aload_n G rfl dX8_init_9 0 rfl ?_
  refine x_iload_n G rfl dX8_init_10 2 rfl ?_
  refine x_putF G hN in_X8 tyX8 tyX8_ok nmX8 0 rfl rfl 1 (by decide) q946 (fun _ h => h) rfl rfl rfl rfl (Nat.le_of_ble_eq_true rfl) rfl dX8_init_11 ?_
  show X g 4 14 [(0, .ref h0), (1, .int p0), (2, .int p1), (3, .int p2)] [] [(h0, .inr (7, [.int p0, .int p1, .null, .null, .null, .int tc, .double tt]))] 0 0
  refine x_aload_n G rfl dX8_init_14 0 rfl ?_
  refine x_iload_n G rfl dX8_init_15 3 rfl ?_
  obtain ⟨hz, hb, h⟩ := h
  refine x_newaB (atype := .double) (ty := .double) (N' := p2.toNatClampNeg) (B := 60) (t0 := 5) (x0 := .inr (.inr (.inr (.inl (fun _ => FP.dconst0))))) G q529 rfl rfl rfl (fun _ => rfl) hz rfl hb (by decide) (Nat.le_of_ble_eq_true rfl) (Nat.le_of_ble_eq_true rfl) dX8_init_16 (fun a_1 => ?_)
  replace h := h a_1
  show X g 4 18 [(0, .ref h0), (1, .int p0), (2, .int p1), (3, .int p2)] [.ref a_1, .ref h0] [(h0, .inr (7, [.int p0, .int p1, .null, .null, .null, .int tc, .double tt])), (a_1, .inl ((xT g) 5, p2.toNatClampNeg, .inr (.inr (.inr (.inl (fun _ => FP.dconst0))))))] 1 60
  refine x_putF G hN in_X8 tyX8 tyX8_ok nmX8 0 rfl rfl 2 (by decide) q948 (fun _ h => h) rfl rfl rfl rfl (Nat.le_of_ble_eq_true rfl) rfl dX8_init_18 ?_
  show X g 4 21 [(0, .ref h0), (1, .int p0), (2, .int p1), (3, .int p2)] [] [(h0, .inr (7, [.int p0, .int p1, .ref a_1, .null, .null, .int tc, .double tt])), (a_1, .inl ((xT g) 5, p2.toNatClampNeg, .inr (.inr (.inr (.inl (fun _ => FP.dconst0))))))] 1 60
  refine x_aload_n G rfl dX8_init_21 0 rfl ?_
  refine x_iload_n G rfl dX8_init_22 3 rfl ?_
  obtain ⟨hz, hb, h⟩ := h
  refine x_newaB (atype := .double) (ty := .double) (N' := p2.toNatClampNeg) (B := 60) (t0 := 5) (x0 := .inr (.inr (.inr (.inl (fun _ => FP.dconst0))))) G q529 rfl rfl rfl (fun _ => rfl) hz rfl hb (by decide) (Nat.le_of_ble_eq_true rfl) (Nat.le_of_ble_eq_true rfl) dX8_init_23 (fun a_2 => ?_)
  replace h := h a_2
  show X g 4 25 [(0, .ref h0), (1, .int p0), (2, .int p1), (3, .int p2)] [.ref a_2, .ref h0] [(h0, .inr (7, [.int p0, .int p1, .ref a_1, .null, .null, .int tc, .double tt])), (a_1, .inl ((xT g) 5, p2.toNatClampNeg, .inr (.inr (.inr (.inl (fun _ => FP.dconst0)))))), (a_2, .inl ((xT g) 5, p2.toNatClampNeg, .inr (.inr (.inr (.inl (fun _ => FP.dconst0))))))] 2 120
  refine x_putF G hN in_X8 tyX8 tyX8_ok nmX8 0 rfl rfl 3 (by decide) q950 (fun _ h => h) rfl rfl rfl rfl (Nat.le_of_ble_eq_true rfl) rfl dX8_init_25 ?_
  show X g 4 28 [(0, .ref h0), (1, .int p0), (2, .int p1), (3, .int p2)] [] [(h0, .inr (7, [.int p0, .int p1, .ref a_1, .ref a_2, .null, .int tc, .double tt])), (a_1, .inl ((xT g) 5, p2.toNatClampNeg, .inr (.inr (.inr (.inl (fun _ => FP.dconst0)))))), (a_2, .inl ((xT g) 5, p2.toNatClampNeg, .inr (.inr (.inr (.inl (fun _ => FP.dconst0))))))] 2 120
  refine x_aload_n G rfl dX8_init_28 0 rfl ?_
  refine x_iload_n G rfl dX8_init_29 3 rfl ?_
  obtain ⟨hz, hb, h⟩ := h
  refine x_newaB (atype := .double) (ty := .double) (N' := p2.toNatClampNeg) (B := 60) (t0 := 5) (x0 := .inr (.inr (.inr (.inl (fun _ => FP.dconst0))))) G q529 rfl rfl rfl (fun _ => rfl) hz rfl hb (by decide) (Nat.le_of_ble_eq_true rfl) (Nat.le_of_ble_eq_true rfl) dX8_init_30 (fun a_3 => ?_)
  replace h := h a_3
  show X g 4 32 [(0, .ref h0), (1, .int p0), (2, .int p1), (3, .int p2)] [.ref a_3, .ref h0] [(h0, .inr (7, [.int p0, .int p1, .ref a_1, .ref a_2, .null, .int tc, .double tt])), (a_1, .inl ((xT g) 5, p2.toNatClampNeg, .inr (.inr (.inr (.inl (fun _ => FP.dconst0)))))), (a_2, .inl ((xT g) 5, p2.toNatClampNeg, .inr (.inr (.inr (.inl (fun _ => FP.dconst0)))))), (a_3, .inl ((xT g) 5, p2.toNatClampNeg, .inr (.inr (.inr (.inl (fun _ => FP.dconst0))))))] 3 180
  refine x_putF G hN in_X8 tyX8 tyX8_ok nmX8 0 rfl rfl 4 (by decide) q952 (fun _ h => h) rfl rfl rfl rfl (Nat.le_of_ble_eq_true rfl) rfl dX8_init_32 ?_
  show X g 4 35 [(0, .ref h0), (1, .int p0), (2, .int p1), (3, .int p2)] [] [(h0, .inr (7, [.int p0, .int p1, .ref a_1, .ref a_2, .ref a_3, .int tc, .double tt])), (a_1, .inl ((xT g) 5, p2.toNatClampNeg, .inr (.inr (.inr (.inl (fun _ => FP.dconst0)))))), (a_2, .inl ((xT g) 5, p2.toNatClampNeg, .inr (.inr (.inr (.inl (fun _ => FP.dconst0)))))), (a_3, .inl ((xT g) 5, p2.toNatClampNeg, .inr (.inr (.inr (.inl (fun _ => FP.dconst0))))))] 3 180
  exact x_retv5 G Q dX8_init_35 p0 p1 a_1 a_2 a_3 h XSub.rf (Nat.le_of_ble_eq_true rfl) (Nat.le_of_ble_eq_true rfl)
theorem cdX5_at : yX5_at.cls = RX5 ∧ yX5_at.cls ≠ "java/lang/invoke/MethodHandle" ∧ yX5_at.cls ≠ "java/lang/invoke/VarHandle" ∧ (parseMethodDescriptor yX5_at.desc).map (fun d => d.parameters.length) = some 1 := by decide +kernel
def wX5_at (p0 : Int32) (ln : Nat) (am : Nat → UInt64) (K : UInt64 → Prop) : Prop := (vp_in p0 ln ∧ K (am p0.toNatClampNeg))
set_option maxRecDepth 20000 in
theorem tX5_at {l : Launch} {D : va_G} {ta : Nat → ClassId} {h0 : Nat} {h0a : Nat} {h0d : Nat} {h0g : Nat} {gc : Int32} {h0m : Nat} {ln : Nat} {am : Nat → UInt64} {p0 : Int32} {K : UInt64 → Prop} (hlt : l.stackTraces = false) (h : wX5_at p0 ln am K) : SMd0 l D ta yX5_at cX5_at 2 FieldType.double 1 [.ref h0, .int p0] [(h0, .inr (4, [.ref h0a, .ref h0d, .ref h0g, .int gc, .ref h0m])), (h0m, .inl (ta 5, ln, .inr (.inr (.inr (.inl am)))))] ([(h0, .inr (4, [.ref h0a, .ref h0d, .ref h0g, .int gc, .ref h0m])), (h0m, .inl (ta 5, ln, .inr (.inr (.inr (.inl am)))))]) 0 0 K := by
  refine x_std0 hlt (plainFor_of_name (by decide +kernel)) (Nat.le_of_ble_eq_true rfl) (fun g G hl hD hT Q => ?_)
  subst hl; subst hD; subst hT
  unfold wX5_at at h
  show X g 2 0 [(0, .ref h0), (1, .int p0)] [] [(h0, .inr (4, [.ref h0a, .ref h0d, .ref h0g, .int gc, .ref h0m])), (h0m, .inl ((xT g) 5, ln, .inr (.inr (.inr (.inl am)))))] 0 0
  refine x_aload_n G rfl dX5_at_0 0 rfl ?_
  refine x_get G in_X5 0 rfl rfl 4 (by decide) q513 (fun _ h => h) rfl dX5_at_1 ?_
  refine x_iload_n G rfl dX5_at_4 1 rfl ?_
  obtain ⟨hz, h⟩ := h
  refine x_dald G 1 rfl hz dX5_at_5 ?_
  exact x_retd0 G Q dX5_at_6  h XSub.rf (Nat.le_of_ble_eq_true rfl) (Nat.le_of_ble_eq_true rfl)
def wX5_at_X (p0 : Int32) (ln : Nat) (am : Nat → UInt64) (K : UInt64 → Prop) (E : String → Prop) : Prop := (ln ≤ 1000 ∧ ((¬ vp_in p0 ln → E "java/lang/ArrayIndexOutOfBoundsException") ∧ (vp_in p0 ln → K (am p0.toNatClampNeg))))
set_option maxRecDepth 20000 in
theorem tX5_at_X {l : Launch} {D : va_G} {ta : Nat → ClassId} {h0 : Nat} {h0a : Nat} {h0d : Nat} {h0g : Nat} {gc : Int32} {h0m : Nat} {ln : Nat} {am : Nat → UInt64} {p0 : Int32} {K : UInt64 → Prop} {E : String → Prop} (hlt : l.stackTraces = false) (h : wX5_at_X p0 ln am K E) : SXd0 l D ta yX5_at cX5_at 2 FieldType.double 1 [.ref h0, .int p0] [(h0, .inr (4, [.ref h0a, .ref h0d, .ref h0g, .int gc, .ref h0m])), (h0m, .inl (ta 5, ln, .inr (.inr (.inr (.inl am)))))] ([(h0, .inr (4, [.ref h0a, .ref h0d, .ref h0g, .int gc, .ref h0m])), (h0m, .inl (ta 5, ln, .inr (.inr (.inr (.inl am)))))]) 3 222 K E := by
  refine x_sxd0 hlt (by decide +kernel) (Nat.le_of_ble_eq_true rfl) (fun g G hl hD hT hN Q => ?_)
  subst hl; subst hD; subst hT
  unfold wX5_at_X at h
  show X g 2 0 [(0, .ref h0), (1, .int p0)] [] [(h0, .inr (4, [.ref h0a, .ref h0d, .ref h0g, .int gc, .ref h0m])), (h0m, .inl ((xT g) 5, ln, .inr (.inr (.inr (.inl am)))))] 0 0
  refine x_aload_n G rfl dX5_at_0 0 rfl ?_
  refine x_get G in_X5 0 rfl rfl 4 (by decide) q513 (fun _ h => h) rfl dX5_at_1 ?_
  refine x_iload_n G rfl dX5_at_4 1 rfl ?_
  obtain ⟨hb, h⟩ := h
  by_cases hz : vp_in p0 ln
  case neg =>
    replace h := h.1 hz
    refine x_daldZ G 1 rfl hb hz (Nat.le_of_ble_eq_true rfl) (Nat.le_of_ble_eq_true rfl) (Nat.le_of_ble_eq_true rfl) dX5_at_5 ?_
    exact x_od0 G Q h XSub.rf (Nat.le_of_ble_eq_true rfl) (Nat.le_of_ble_eq_true rfl)
  replace h := h.2 hz
  refine x_dald G 1 rfl hz dX5_at_5 ?_
  exact x_yd0 G Q dX5_at_6  h XSub.rf (Nat.le_of_ble_eq_true rfl) (Nat.le_of_ble_eq_true rfl)
theorem cdX5_put : yX5_put.cls = RX5 ∧ yX5_put.cls ≠ "java/lang/invoke/MethodHandle" ∧ yX5_put.cls ≠ "java/lang/invoke/VarHandle" ∧ (parseMethodDescriptor yX5_put.desc).map (fun d => d.parameters.length) = some 2 := by decide +kernel
def wX5_put (p0 : Int32) (p1 : Int64) (ln : Nat) (am : Nat → UInt64) (K : Int32 → (Nat → UInt64) → Prop) : Prop := (vp_in p0 ln ∧ (∀ r_1 : UInt64, r_1 = (am p0.toNatClampNeg) → (wJ12_doubleToLongBits (5057542381537067008 : UInt64) (fun (r_2 : Int64) => (((p1 &&& (9223372036854775807 : Int64)) ≤ r_2 → (vn_snl2d p1 = false ∧ (∀ r_3 : UInt64, r_3 = p1.toUInt64 → (vp_in p0 ln ∧ (∀ f_4 : Nat → UInt64, f_4 = vf_upd am p0.toNatClampNeg r_3 → K (1 : Int32) f_4))))) ∧ (¬ (p1 &&& (9223372036854775807 : Int64)) ≤ r_2 → K (0 : Int32) am))))))
set_option maxRecDepth 20000 in
theorem tX5_put {l : Launch} {D : va_G} {ta : Nat → ClassId} {h0 : Nat} {h0a : Nat} {h0d : Nat} {h0g : Nat} {gc : Int32} {h0m : Nat} {ln : Nat} {am : Nat → UInt64} {p0 : Int32} {p1 : Int64} {K : Int32 → (Nat → UInt64) → Prop} (hlt : l.stackTraces = false) (h : wX5_put p0 p1 ln am K) : SMi1 l D ta yX5_put cX5_put 6 FieldType.boolean 3 [.ref h0, .int p0, .long p1] [(h0, .inr (4, [.ref h0a, .ref h0d, .ref h0g, .int gc, .ref h0m])), (h0m, .inl (ta 5, ln, .inr (.inr (.inr (.inl am)))))] (fun (am' : Nat → UInt64) => [(h0, .inr (4, [.ref h0a, .ref h0d, .ref h0g, .int gc, .ref h0m])), (h0m, .inl (ta 5, ln, .inr (.inr (.inr (.inl am')))))]) 0 0 K := by
  refine x_sti1 hlt (plainFor_of_name (by decide +kernel)) (Nat.le_of_ble_eq_true rfl) (fun g G hl hD hT Q => ?_)
  subst hl; subst hD; subst hT
  unfold wX5_put at h
  show X g 6 0 [(0, .ref h0), (1, .int p0), (2, .long p1)] [] [(h0, .inr (4, [.ref h0a, .ref h0d, .ref h0g, .int gc, .ref h0m])), (h0m, .inl ((xT g) 5, ln, .inr (.inr (.inr (.inl am)))))] 0 0
  refine x_aload_n G rfl dX5_put_0 0 rfl ?_
  refine x_get G in_X5 0 rfl rfl 4 (by decide) q513 (fun _ h => h) rfl dX5_put_1 ?_
  refine x_iload_n G rfl dX5_put_4 1 rfl ?_
  obtain ⟨hz, h⟩ := h
  refine x_dald G 1 rfl hz dX5_put_5 ?_
  refine x_topd (fun r_1 er_1 => ?_)
  replace h := h r_1 er_1
  refine x_dstore (lv' := [(4, .double r_1), (0, .ref h0), (1, .int p0), (2, .long p1)]) G dX5_put_6 (by decide) rfl ?_
  refine x_lload_n G rfl dX5_put_8 3 rfl ?_
  refine x_ldc2 G q592 dX5_put_9 ?_
  refine x_land G dX5_put_12 ?_
  refine x_ldc2d G q593 dX5_put_13 ?_
  refine x_cPl (As := [.double (5057542381537067008 : UInt64)]) (rest := [.long (p1 &&& (9223372036854775807 : Int64))]) G (tJ12_doubleToLongBits G.noTraces h) (lw_S q594 q227 q84 q228) cdJ12_doubleToLongBits (by decide) (by decide) rfl (Nat.le_of_ble_eq_true rfl) (Nat.zero_le _) (Nat.zero_le _) dX5_put_16 (fun r_2 h => ?_)
  refine x_lcmp_le (tgt := 25) G dX5_put_19 dX5_put_20 rfl (fun c => ?_) (fun c => ?_)
  · replace h := h.1 c
    refine x_aload_n G rfl dX5_put_25 1 rfl ?_
    refine x_get G in_X5 0 rfl rfl 4 (by decide) q513 (fun _ h => h) rfl dX5_put_26 ?_
    refine x_iload_n G rfl dX5_put_29 2 rfl ?_
    refine x_lload_n G rfl dX5_put_30 3 rfl ?_
    obtain ⟨hz, h⟩ := h
    refine x_nl2d G q595 q314 q313 q84 hz (by decide) (Nat.le_of_ble_eq_true rfl) dX5_put_31 ?_
    refine x_topd (fun r_3 er_3 => ?_)
    replace h := h r_3 er_3
    obtain ⟨hz, h⟩ := h
    obtain ⟨f_4, ef_4⟩ : ∃ z : Nat → UInt64, z = vf_upd am p0.toNatClampNeg r_3 := ⟨_, rfl⟩
    replace h := h f_4 ef_4
    refine x_dast G 1 rfl hz (by rw [← ef_4]) dX5_put_34 ?_
    show X g 6 35 [(4, .double r_1), (0, .ref h0), (1, .int p0), (2, .long p1)] [] [(h0, .inr (4, [.ref h0a, .ref h0d, .ref h0g, .int gc, .ref h0m])), (h0m, .inl ((xT g) 5, ln, .inr (.inr (.inr (.inl f_4)))))] 0 0
    refine x_iconst (v := (1 : Int32)) G dX5_put_35 (by decide) ?_
    exact x_reti1 G Q dX5_put_36 rfl f_4 h XSub.rf (Nat.le_of_ble_eq_true rfl) (Nat.le_of_ble_eq_true rfl)
  · replace h := h.2 c
    refine x_iconst (v := (0 : Int32)) G dX5_put_23 (by decide) ?_
    exact x_reti1 G Q dX5_put_24 rfl am h XSub.rf (Nat.le_of_ble_eq_true rfl) (Nat.le_of_ble_eq_true rfl)
def wX5_put_X (p0 : Int32) (p1 : Int64) (ln : Nat) (am : Nat → UInt64) (K : Int32 → (Nat → UInt64) → Prop) (E : String → (Nat → UInt64) → Prop) : Prop := (ln ≤ 1000 ∧ ((¬ vp_in p0 ln → E "java/lang/ArrayIndexOutOfBoundsException" am) ∧ (vp_in p0 ln → (∀ r_1 : UInt64, r_1 = (am p0.toNatClampNeg) → (wJ12_doubleToLongBits (5057542381537067008 : UInt64) (fun (r_2 : Int64) => (((p1 &&& (9223372036854775807 : Int64)) ≤ r_2 → (vn_snl2d p1 = false ∧ (∀ r_3 : UInt64, r_3 = p1.toUInt64 → (ln ≤ 1000 ∧ ((¬ vp_in p0 ln → E "java/lang/ArrayIndexOutOfBoundsException" am) ∧ (vp_in p0 ln → (∀ f_4 : Nat → UInt64, f_4 = vf_upd am p0.toNatClampNeg r_3 → K (1 : Int32) f_4))))))) ∧ (¬ (p1 &&& (9223372036854775807 : Int64)) ≤ r_2 → K (0 : Int32) am))))))))
set_option maxRecDepth 20000 in
theorem tX5_put_X {l : Launch} {D : va_G} {ta : Nat → ClassId} {h0 : Nat} {h0a : Nat} {h0d : Nat} {h0g : Nat} {gc : Int32} {h0m : Nat} {ln : Nat} {am : Nat → UInt64} {p0 : Int32} {p1 : Int64} {K : Int32 → (Nat → UInt64) → Prop} {E : String → (Nat → UInt64) → Prop} (hlt : l.stackTraces = false) (h : wX5_put_X p0 p1 ln am K E) : SXi1 l D ta yX5_put cX5_put 6 FieldType.boolean 3 [.ref h0, .int p0, .long p1] [(h0, .inr (4, [.ref h0a, .ref h0d, .ref h0g, .int gc, .ref h0m])), (h0m, .inl (ta 5, ln, .inr (.inr (.inr (.inl am)))))] (fun (am' : Nat → UInt64) => [(h0, .inr (4, [.ref h0a, .ref h0d, .ref h0g, .int gc, .ref h0m])), (h0m, .inl (ta 5, ln, .inr (.inr (.inr (.inl am')))))]) 3 222 K E := by
  refine x_sxi1 hlt (by decide +kernel) (Nat.le_of_ble_eq_true rfl) (fun g G hl hD hT hN Q => ?_)
  subst hl; subst hD; subst hT
  unfold wX5_put_X at h
  show X g 6 0 [(0, .ref h0), (1, .int p0), (2, .long p1)] [] [(h0, .inr (4, [.ref h0a, .ref h0d, .ref h0g, .int gc, .ref h0m])), (h0m, .inl ((xT g) 5, ln, .inr (.inr (.inr (.inl am)))))] 0 0
  refine x_aload_n G rfl dX5_put_0 0 rfl ?_
  refine x_get G in_X5 0 rfl rfl 4 (by decide) q513 (fun _ h => h) rfl dX5_put_1 ?_
  refine x_iload_n G rfl dX5_put_4 1 rfl ?_
  obtain ⟨hb, h⟩ := h
  by_cases hz : vp_in p0 ln
  case neg =>
    replace h := h.1 hz
    refine x_daldZ G 1 rfl hb hz (Nat.le_of_ble_eq_true rfl) (Nat.le_of_ble_eq_true rfl) (Nat.le_of_ble_eq_true rfl) dX5_put_5 ?_
    exact x_oi1 G Q am h XSub.rf (Nat.le_of_ble_eq_true rfl) (Nat.le_of_ble_eq_true rfl)
  replace h := h.2 hz
  refine x_dald G 1 rfl hz dX5_put_5 ?_
  refine x_topd (fun r_1 er_1 => ?_)
  replace h := h r_1 er_1
  refine x_dstore (lv' := [(4, .double r_1), (0, .ref h0), (1, .int p0), (2, .long p1)]) G dX5_put_6 (by decide) rfl ?_
  refine x_lload_n G rfl dX5_put_8 3 rfl ?_
  refine x_ldc2 G q592 dX5_put_9 ?_
  refine x_land G dX5_put_12 ?_
  refine x_ldc2d G q593 dX5_put_13 ?_
  refine x_cPl (As := [.double (5057542381537067008 : UInt64)]) (rest := [.long (p1 &&& (9223372036854775807 : Int64))]) G (tJ12_doubleToLongBits G.noTraces h) (lw_S q594 q227 q84 q228) cdJ12_doubleToLongBits (by decide) (by decide) rfl (Nat.le_of_ble_eq_true rfl) (Nat.zero_le _) (Nat.zero_le _) dX5_put_16 (fun r_2 h => ?_)
  refine x_lcmp_le (tgt := 25) G dX5_put_19 dX5_put_20 rfl (fun c => ?_) (fun c => ?_)
  · replace h := h.1 c
    refine x_aload_n G rfl dX5_put_25 1 rfl ?_
    refine x_get G in_X5 0 rfl rfl 4 (by decide) q513 (fun _ h => h) rfl dX5_put_26 ?_
    refine x_iload_n G rfl dX5_put_29 2 rfl ?_
    refine x_lload_n G rfl dX5_put_30 3 rfl ?_
    obtain ⟨hz, h⟩ := h
    refine x_nl2d G q595 q314 q313 q84 hz (by decide) (Nat.le_of_ble_eq_true rfl) dX5_put_31 ?_
    refine x_topd (fun r_3 er_3 => ?_)
    replace h := h r_3 er_3
    obtain ⟨hb, h⟩ := h
    by_cases hz : vp_in p0 ln
    case neg =>
      replace h := h.1 hz
      refine x_dastZ G 1 rfl hb hz (Nat.le_of_ble_eq_true rfl) (Nat.le_of_ble_eq_true rfl) (Nat.le_of_ble_eq_true rfl) dX5_put_34 ?_
      exact x_oi1 G Q am h XSub.rf (Nat.le_of_ble_eq_true rfl) (Nat.le_of_ble_eq_true rfl)
    replace h := h.2 hz
    obtain ⟨f_4, ef_4⟩ : ∃ z : Nat → UInt64, z = vf_upd am p0.toNatClampNeg r_3 := ⟨_, rfl⟩
    replace h := h f_4 ef_4
    refine x_dast G 1 rfl hz (by rw [← ef_4]) dX5_put_34 ?_
    show X g 6 35 [(4, .double r_1), (0, .ref h0), (1, .int p0), (2, .long p1)] [] [(h0, .inr (4, [.ref h0a, .ref h0d, .ref h0g, .int gc, .ref h0m])), (h0m, .inl ((xT g) 5, ln, .inr (.inr (.inr (.inl f_4)))))] 0 0
    refine x_iconst (v := (1 : Int32)) G dX5_put_35 (by decide) ?_
    exact x_yi1 G Q dX5_put_36 rfl f_4 h XSub.rf (Nat.le_of_ble_eq_true rfl) (Nat.le_of_ble_eq_true rfl)
  · replace h := h.2 c
    refine x_iconst (v := (0 : Int32)) G dX5_put_23 (by decide) ?_
    exact x_yi1 G Q dX5_put_24 rfl am h XSub.rf (Nat.le_of_ble_eq_true rfl) (Nat.le_of_ble_eq_true rfl)
theorem cdX5_bits : yX5_bits.cls = RX5 ∧ yX5_bits.cls ≠ "java/lang/invoke/MethodHandle" ∧ yX5_bits.cls ≠ "java/lang/invoke/VarHandle" ∧ (parseMethodDescriptor yX5_bits.desc).map (fun d => d.parameters.length) = some 1 := by decide +kernel
def wX5_bits (p0 : UInt64) (K : Int64 → Prop) : Prop := (wJ12_doubleToLongBits p0 (fun (r_1 : Int64) => K r_1))
set_option maxRecDepth 20000 in
theorem tX5_bits {l : Launch} {D : va_G} {ta : Nat → ClassId} {h0 : Nat} {p0 : UInt64} {K : Int64 → Prop} (hlt : l.stackTraces = false) (h : wX5_bits p0 K) : SMl0 l D ta yX5_bits cX5_bits 3 FieldType.long 3 [.ref h0, .double p0] [] ([]) 0 0 K := by
  refine x_stl0 hlt (plainFor_of_name (by decide +kernel)) (Nat.le_of_ble_eq_true rfl) (fun g G hl hD hT Q => ?_)
  subst hl; subst hD; subst hT
  unfold wX5_bits at h
  show X g 3 0 [(0, .ref h0), (1, .double p0)] [] [] 0 0
  refine x_dload_n G rfl dX5_bits_0 1 rfl ?_
  refine x_cPl (As := [.double p0]) (rest := []) G (tJ12_doubleToLongBits G.noTraces h) (lw_S q594 q227 q84 q228) cdJ12_doubleToLongBits (by decide) (by decide) rfl (Nat.le_of_ble_eq_true rfl) (Nat.zero_le _) (Nat.zero_le _) dX5_bits_1 (fun r_1 h => ?_)
  exact x_retl0 G Q dX5_bits_4  h XSub.rf (Nat.le_of_ble_eq_true rfl) (Nat.le_of_ble_eq_true rfl)
theorem cdX5_isWide : yX5_isWide.cls = RX5 ∧ yX5_isWide.cls ≠ "java/lang/invoke/MethodHandle" ∧ yX5_isWide.cls ≠ "java/lang/invoke/VarHandle" ∧ (parseMethodDescriptor yX5_isWide.desc).map (fun d => d.parameters.length) = some 0 := by decide +kernel
def wX5_isWide (K : Int32 → Prop) : Prop := K (1 : Int32)
set_option maxRecDepth 20000 in
theorem tX5_isWide {l : Launch} {D : va_G} {ta : Nat → ClassId} {h0 : Nat} {K : Int32 → Prop} (hlt : l.stackTraces = false) (h : wX5_isWide K) : SMi0 l D ta yX5_isWide cX5_isWide 1 FieldType.boolean 1 [.ref h0] [] ([]) 0 0 K := by
  refine x_sti0 hlt (plainFor_of_name (by decide +kernel)) (Nat.le_of_ble_eq_true rfl) (fun g G hl hD hT Q => ?_)
  subst hl; subst hD; subst hT
  unfold wX5_isWide at h
  show X g 1 0 [(0, .ref h0)] [] [] 0 0
  refine x_iconst (v := (1 : Int32)) G dX5_isWide_0 (by decide) ?_
  exact x_reti0 G Q dX5_isWide_1 rfl  h XSub.rf (Nat.le_of_ble_eq_true rfl) (Nat.le_of_ble_eq_true rfl)
theorem cdX5_least : yX5_least.cls = RX5 ∧ yX5_least.cls ≠ "java/lang/invoke/MethodHandle" ∧ yX5_least.cls ≠ "java/lang/invoke/VarHandle" ∧ (parseMethodDescriptor yX5_least.desc).map (fun d => d.parameters.length) = some 0 := by decide +kernel
def wX5_least (K : UInt64 → Prop) : Prop := K (4503599627370496 : UInt64)
set_option maxRecDepth 20000 in
theorem tX5_least {l : Launch} {D : va_G} {ta : Nat → ClassId} {h0 : Nat} {K : UInt64 → Prop} (hlt : l.stackTraces = false) (h : wX5_least K) : SMd0 l D ta yX5_least cX5_least 1 FieldType.double 1 [.ref h0] [] ([]) 0 0 K := by
  refine x_std0 hlt (plainFor_of_name (by decide +kernel)) (Nat.le_of_ble_eq_true rfl) (fun g G hl hD hT Q => ?_)
  subst hl; subst hD; subst hT
  unfold wX5_least at h
  show X g 1 0 [(0, .ref h0)] [] [] 0 0
  refine x_ldc2d G q702 dX5_least_0 ?_
  exact x_retd0 G Q dX5_least_3  h XSub.rf (Nat.le_of_ble_eq_true rfl) (Nat.le_of_ble_eq_true rfl)
theorem cdX5_worked : yX5_worked.cls = RX5 ∧ yX5_worked.cls ≠ "java/lang/invoke/MethodHandle" ∧ yX5_worked.cls ≠ "java/lang/invoke/VarHandle" ∧ (parseMethodDescriptor yX5_worked.desc).map (fun d => d.parameters.length) = some 3 := by decide +kernel
def wX5_worked (p0 : UInt64) (p1 : UInt64) (p2 : Int32) (K : UInt64 → Prop) : Prop := ((p2 = (0 : Int32) → (wJ14_floor p0 (fun (r_1 : UInt64) => vf_n64 r_1 ∧ K r_1))) ∧ (¬ p2 = (0 : Int32) → ((p2 = (1 : Int32) → (wJ14_ceil p0 (fun (r_2 : UInt64) => vf_n64 r_2 ∧ K r_2))) ∧ (¬ p2 = (1 : Int32) → ((p2 = (2 : Int32) → (wJ14_rint p0 (fun (r_3 : UInt64) => vf_n64 r_3 ∧ K r_3))) ∧ (¬ p2 = (2 : Int32) → ((p2 = (3 : Int32) → (vf_n64 p0 ∧ K (mAbs p0))) ∧ (¬ p2 = (3 : Int32) → ((p2 = (4 : Int32) → (FP.dIsNaN p0 = false ∧ K (mSig p0))) ∧ (¬ p2 = (4 : Int32) → ((p2 = (5 : Int32) → (FP.dIsNaN p1 = false ∧ K (mCps p0 p1))) ∧ (¬ p2 = (5 : Int32) → ((p2 = (6 : Int32) → (FP.dIsNaN p0 = false ∧ (FP.dIsNaN p1 = false ∧ K (mMin p0 p1)))) ∧ (¬ p2 = (6 : Int32) → ((p2 = (7 : Int32) → (FP.dIsNaN p0 = false ∧ (FP.dIsNaN p1 = false ∧ K (mMax p0 p1)))) ∧ (¬ p2 = (7 : Int32) → (vf_n64 (FP.drem p0 p1) ∧ K (FP.drem p0 p1))))))))))))))))))
set_option maxRecDepth 20000 in
theorem tX5_worked {l : Launch} {D : va_G} {ta : Nat → ClassId} {h0 : Nat} {p0 : UInt64} {p1 : UInt64} {p2 : Int32} {K : UInt64 → Prop} (hlt : l.stackTraces = false) (h : wX5_worked p0 p1 p2 K) : SMd0 l D ta yX5_worked cX5_worked 6 FieldType.double 20 [.ref h0, .double p0, .double p1, .int p2] [] ([]) 0 0 K := by
  refine x_std0 hlt (plainFor_of_name (by decide +kernel)) (Nat.le_of_ble_eq_true rfl) (fun g G hl hD hT Q => ?_)
  subst hl; subst hD; subst hT
  unfold wX5_worked at h
  show X g 6 0 [(0, .ref h0), (1, .double p0), (3, .double p1), (5, .int p2)] [] [] 0 0
  refine x_iload G dX5_worked_0 3 rfl ?_
  by_cases c0 : p2 = (0 : Int32)
  · replace h := h.1 c0
    refine x_tableAt (off := 46) (tgt := 48) G dX5_worked_2 c0 (by decide) rfl ?_
    refine x_dload_n G rfl dX5_worked_48 1 rfl ?_
    refine x_ovQ G (tJ14_floor G.noTraces h) q846 q792 q85 q793 q86 q796 rmFloor_row rmFloor_sem rmFloor_res (by decide) (by decide) (by decide) (Nat.le_of_ble_eq_true rfl) (Nat.le_of_ble_eq_true rfl) (Nat.le_of_ble_eq_true rfl) dX5_worked_49 (fun r_1 h => ?_)
    exact x_retd0 G Q dX5_worked_52  h XSub.rf (Nat.le_of_ble_eq_true rfl) (Nat.le_of_ble_eq_true rfl)
  replace h := h.2 c0
  by_cases c1 : p2 = (1 : Int32)
  · replace h := h.1 c1
    refine x_tableAt (off := 51) (tgt := 53) G dX5_worked_2 c1 (by decide) rfl ?_
    refine x_dload_n G rfl dX5_worked_53 1 rfl ?_
    refine x_ovQ G (tJ14_ceil G.noTraces h) q847 q813 q85 q814 q86 q817 rmCeil_row rmCeil_sem rmCeil_res (by decide) (by decide) (by decide) (Nat.le_of_ble_eq_true rfl) (Nat.le_of_ble_eq_true rfl) (Nat.le_of_ble_eq_true rfl) dX5_worked_54 (fun r_2 h => ?_)
    exact x_retd0 G Q dX5_worked_57  h XSub.rf (Nat.le_of_ble_eq_true rfl) (Nat.le_of_ble_eq_true rfl)
  replace h := h.2 c1
  by_cases c2 : p2 = (2 : Int32)
  · replace h := h.1 c2
    refine x_tableAt (off := 56) (tgt := 58) G dX5_worked_2 c2 (by decide) rfl ?_
    refine x_dload_n G rfl dX5_worked_58 1 rfl ?_
    refine x_ovQ G (tJ14_rint G.noTraces h) q848 q684 q85 q685 q86 q688 rmRint_row rmRint_sem rmRint_res (by decide) (by decide) (by decide) (Nat.le_of_ble_eq_true rfl) (Nat.le_of_ble_eq_true rfl) (Nat.le_of_ble_eq_true rfl) dX5_worked_59 (fun r_3 h => ?_)
    exact x_retd0 G Q dX5_worked_62  h XSub.rf (Nat.le_of_ble_eq_true rfl) (Nat.le_of_ble_eq_true rfl)
  replace h := h.2 c2
  by_cases c3 : p2 = (3 : Int32)
  · replace h := h.1 c3
    refine x_tableAt (off := 61) (tgt := 63) G dX5_worked_2 c3 (by decide) rfl ?_
    refine x_dload_n G rfl dX5_worked_63 1 rfl ?_
    obtain ⟨hz0, h⟩ := h
    refine x_ovD1 G q849 q322 q85 q323 rfl rfl rmAbs_row (rmAbs_run hz0) (by decide) (Nat.le_of_ble_eq_true rfl) dX5_worked_64 ?_
    exact x_retd0 G Q dX5_worked_67  h XSub.rf (Nat.le_of_ble_eq_true rfl) (Nat.le_of_ble_eq_true rfl)
  replace h := h.2 c3
  by_cases c4 : p2 = (4 : Int32)
  · replace h := h.1 c4
    refine x_tableAt (off := 66) (tgt := 68) G dX5_worked_2 c4 (by decide) rfl ?_
    refine x_dload_n G rfl dX5_worked_68 1 rfl ?_
    obtain ⟨hz0, h⟩ := h
    refine x_ovD1 G q850 q851 q85 q852 rfl rfl rmSig_row (rmSig_run hz0) (by decide) (Nat.le_of_ble_eq_true rfl) dX5_worked_69 ?_
    exact x_retd0 G Q dX5_worked_72  h XSub.rf (Nat.le_of_ble_eq_true rfl) (Nat.le_of_ble_eq_true rfl)
  replace h := h.2 c4
  by_cases c5 : p2 = (5 : Int32)
  · replace h := h.1 c5
    refine x_tableAt (off := 71) (tgt := 73) G dX5_worked_2 c5 (by decide) rfl ?_
    refine x_dload_n G rfl dX5_worked_73 1 rfl ?_
    refine x_dload_n G rfl dX5_worked_74 2 rfl ?_
    obtain ⟨hz0, h⟩ := h
    refine x_ovD2 G q855 q680 q85 q681 rfl rfl rmCps_row (rmCps_run hz0) (by decide) (Nat.le_of_ble_eq_true rfl) dX5_worked_75 ?_
    exact x_retd0 G Q dX5_worked_78  h XSub.rf (Nat.le_of_ble_eq_true rfl) (Nat.le_of_ble_eq_true rfl)
  replace h := h.2 c5
  by_cases c6 : p2 = (6 : Int32)
  · replace h := h.1 c6
    refine x_tableAt (off := 77) (tgt := 79) G dX5_worked_2 c6 (by decide) rfl ?_
    refine x_dload_n G rfl dX5_worked_79 1 rfl ?_
    refine x_dload_n G rfl dX5_worked_80 2 rfl ?_
    obtain ⟨hz0, hz1, h⟩ := h
    refine x_ovD2 G q856 q857 q85 q858 rfl rfl rmMin_row (rmMin_run hz0 hz1) (by decide) (Nat.le_of_ble_eq_true rfl) dX5_worked_81 ?_
    exact x_retd0 G Q dX5_worked_84  h XSub.rf (Nat.le_of_ble_eq_true rfl) (Nat.le_of_ble_eq_true rfl)
  replace h := h.2 c6
  by_cases c7 : p2 = (7 : Int32)
  · replace h := h.1 c7
    refine x_tableAt (off := 83) (tgt := 85) G dX5_worked_2 c7 (by decide) rfl ?_
    refine x_dload_n G rfl dX5_worked_85 1 rfl ?_
    refine x_dload_n G rfl dX5_worked_86 2 rfl ?_
    obtain ⟨hz0, hz1, h⟩ := h
    refine x_ovD2 G q859 q328 q85 q329 rfl rfl rmMax_row (rmMax_run hz0 hz1) (by decide) (Nat.le_of_ble_eq_true rfl) dX5_worked_87 ?_
    exact x_retd0 G Q dX5_worked_90  h XSub.rf (Nat.le_of_ble_eq_true rfl) (Nat.le_of_ble_eq_true rfl)
  replace h := h.2 c7
  refine x_tableNo (tgt := 91) G dX5_worked_2 [(0 : Int32), (1 : Int32), (2 : Int32), (3 : Int32), (4 : Int32), (5 : Int32), (6 : Int32), (7 : Int32)] (by decide) (by decide) (List.forall_mem_cons.mpr ⟨c0, (List.forall_mem_cons.mpr ⟨c1, (List.forall_mem_cons.mpr ⟨c2, (List.forall_mem_cons.mpr ⟨c3, (List.forall_mem_cons.mpr ⟨c4, (List.forall_mem_cons.mpr ⟨c5, (List.forall_mem_cons.mpr ⟨c6, (List.forall_mem_cons.mpr ⟨c7, (fun _ h => absurd h List.not_mem_nil)⟩)⟩)⟩)⟩)⟩)⟩)⟩)⟩) rfl ?_
  refine x_dload_n G rfl dX5_worked_91 1 rfl ?_
  refine x_dload_n G rfl dX5_worked_92 2 rfl ?_
  obtain ⟨hz, h⟩ := h
  refine x_drem G dX5_worked_93 hz ?_
  exact x_retd0 G Q dX5_worked_94  h XSub.rf (Nat.le_of_ble_eq_true rfl) (Nat.le_of_ble_eq_true rfl)
theorem cdX5_whole : yX5_whole.cls = RX5 ∧ yX5_whole.cls ≠ "java/lang/invoke/MethodHandle" ∧ yX5_whole.cls ≠ "java/lang/invoke/VarHandle" ∧ (parseMethodDescriptor yX5_whole.desc).map (fun d => d.parameters.length) = some 2 := by decide +kernel
def wX5_whole (p0 : UInt64) (p1 : Int32) (K : Int64 → Prop) : Prop := ((¬ p1 = (0 : Int32) → ((¬ p1 = (1 : Int32) → ((¬ p1 = (2 : Int32) → (vf_n32 (FP.d2f p0) ∧ K (FP.f2l (FP.d2f p0)))) ∧ (p1 = (2 : Int32) → K ((FP.d2i p0).toInt16.toInt32.toInt64)))) ∧ (p1 = (1 : Int32) → K ((FP.d2i p0).toInt64)))) ∧ (p1 = (0 : Int32) → K (FP.d2l p0)))
set_option maxRecDepth 20000 in
theorem tX5_whole {l : Launch} {D : va_G} {ta : Nat → ClassId} {h0 : Nat} {p0 : UInt64} {p1 : Int32} {K : Int64 → Prop} (hlt : l.stackTraces = false) (h : wX5_whole p0 p1 K) : SMl0 l D ta yX5_whole cX5_whole 4 FieldType.long 1 [.ref h0, .double p0, .int p1] [] ([]) 0 0 K := by
  refine x_stl0 hlt (plainFor_of_name (by decide +kernel)) (Nat.le_of_ble_eq_true rfl) (fun g G hl hD hT Q => ?_)
  subst hl; subst hD; subst hT
  unfold wX5_whole at h
  show X g 4 0 [(0, .ref h0), (1, .double p0), (3, .int p1)] [] [] 0 0
  refine x_iload_n G rfl dX5_whole_0 2 rfl ?_
  refine x_if_ne (tgt := 9) G dX5_whole_1 rfl (fun c => ?_) (fun c => ?_)
  · replace h := h.1 c
    refine x_iload_n G rfl dX5_whole_9 2 rfl ?_
    refine x_iconst (v := (1 : Int32)) G dX5_whole_10 (by decide) ?_
    refine x_icmp_ne (tgt := 20) G dX5_whole_11 rfl (fun c => ?_) (fun c => ?_)
    · replace h := h.1 c
      refine x_iload_n G rfl dX5_whole_20 2 rfl ?_
      refine x_iconst (v := (2 : Int32)) G dX5_whole_21 (by decide) ?_
      refine x_icmp_ne (tgt := 32) G dX5_whole_22 rfl (fun c => ?_) (fun c => ?_)
      · replace h := h.1 c
        refine x_dload_n G rfl dX5_whole_32 1 rfl ?_
        obtain ⟨hz, h⟩ := h
        refine x_d2f G dX5_whole_33 hz ?_
        refine x_f2l G dX5_whole_34 ?_
        exact x_retl0 G Q dX5_whole_35  h XSub.rf (Nat.le_of_ble_eq_true rfl) (Nat.le_of_ble_eq_true rfl)
      · replace h := h.2 c
        refine x_dload_n G rfl dX5_whole_25 1 rfl ?_
        refine x_d2i G dX5_whole_26 ?_
        refine x_i2s G dX5_whole_27 ?_
        refine x_i2l G dX5_whole_28 ?_
        refine x_goto (tgt := 35) G dX5_whole_29 rfl ?_
        exact x_retl0 G Q dX5_whole_35  h XSub.rf (Nat.le_of_ble_eq_true rfl) (Nat.le_of_ble_eq_true rfl)
    · replace h := h.2 c
      refine x_dload_n G rfl dX5_whole_14 1 rfl ?_
      refine x_d2i G dX5_whole_15 ?_
      refine x_i2l G dX5_whole_16 ?_
      refine x_goto (tgt := 35) G dX5_whole_17 rfl ?_
      exact x_retl0 G Q dX5_whole_35  h XSub.rf (Nat.le_of_ble_eq_true rfl) (Nat.le_of_ble_eq_true rfl)
  · replace h := h.2 c
    refine x_dload_n G rfl dX5_whole_4 1 rfl ?_
    refine x_d2l G dX5_whole_5 ?_
    refine x_goto (tgt := 35) G dX5_whole_6 rfl ?_
    exact x_retl0 G Q dX5_whole_35  h XSub.rf (Nat.le_of_ble_eq_true rfl) (Nat.le_of_ble_eq_true rfl)
theorem cdX5_add : yX5_add.cls = RX5 ∧ yX5_add.cls ≠ "java/lang/invoke/MethodHandle" ∧ yX5_add.cls ≠ "java/lang/invoke/VarHandle" ∧ (parseMethodDescriptor yX5_add.desc).map (fun d => d.parameters.length) = some 2 := by decide +kernel
def wX5_add (p0 : UInt64) (p1 : UInt64) (K : UInt64 → Prop) : Prop := (vf_n64 (FP.dadd p0 p1) ∧ K (FP.dadd p0 p1))
set_option maxRecDepth 20000 in
theorem tX5_add {l : Launch} {D : va_G} {ta : Nat → ClassId} {h0 : Nat} {p0 : UInt64} {p1 : UInt64} {K : UInt64 → Prop} (hlt : l.stackTraces = false) (h : wX5_add p0 p1 K) : SMd0 l D ta yX5_add cX5_add 5 FieldType.double 1 [.ref h0, .double p0, .double p1] [] ([]) 0 0 K := by
  refine x_std0 hlt (plainFor_of_name (by decide +kernel)) (Nat.le_of_ble_eq_true rfl) (fun g G hl hD hT Q => ?_)
  subst hl; subst hD; subst hT
  unfold wX5_add at h
  show X g 5 0 [(0, .ref h0), (1, .double p0), (3, .double p1)] [] [] 0 0
  refine x_dload_n G rfl dX5_add_0 1 rfl ?_
  refine x_dload_n G rfl dX5_add_1 2 rfl ?_
  obtain ⟨hz, h⟩ := h
  refine x_dadd G dX5_add_2 hz ?_
  exact x_retd0 G Q dX5_add_3  h XSub.rf (Nat.le_of_ble_eq_true rfl) (Nat.le_of_ble_eq_true rfl)
theorem cdX5_nearest : yX5_nearest.cls = RX5 ∧ yX5_nearest.cls ≠ "java/lang/invoke/MethodHandle" ∧ yX5_nearest.cls ≠ "java/lang/invoke/VarHandle" ∧ (parseMethodDescriptor yX5_nearest.desc).map (fun d => d.parameters.length) = some 1 := by decide +kernel
def wX5_nearest (w : Nat → Int32) (K : UInt64 → (Nat → Int32) → Prop) : Prop := (wX2_toDouble w (fun (r_1 : UInt64) (w_2 : Nat → Int32) => K r_1 w_2))
set_option maxRecDepth 20000 in
theorem tX5_nearest {l : Launch} {D : va_G} {ta : Nat → ClassId} {q0 : Nat} {q0w : Nat} {w : Nat → Int32} {h0 : Nat} {K : UInt64 → (Nat → Int32) → Prop} (hlt : l.stackTraces = false) (h : wX5_nearest w K) : SMd1 l D ta yX5_nearest cX5_nearest 2 FieldType.double 6 [.ref h0, .ref q0] [(q0, .inr (1, [.ref q0w])), (q0w, .inl (ta 2, 40, .inl w))] (fun (w' : Nat → Int32) => [(q0, .inr (1, [.ref q0w])), (q0w, .inl (ta 2, 40, .inl w'))]) 0 0 K := by
  refine x_std1 hlt (plainFor_of_name (by decide +kernel)) (Nat.le_of_ble_eq_true rfl) (fun g G hl hD hT Q => ?_)
  subst hl; subst hD; subst hT
  unfold wX5_nearest at h
  show X g 2 0 [(0, .ref h0), (1, .ref q0)] [] [(q0, .inr (1, [.ref q0w])), (q0w, .inl ((xT g) 2, 40, .inl w))] 0 0
  refine x_aload_n G rfl dX5_nearest_0 1 rfl ?_
  refine x_cVd1 (wc := [(q0, .inr (1, [.ref q0w])), (q0w, .inl ((xT g) 2, 40, .inl w))]) (As := []) (rest := []) G [] (XSub.of [0, 1] rfl (by decide)) (tX2_toDouble G.noTraces h) (lw_V q1408 q282 q283 q66 q284) cdX2_toDouble 1 0 rfl rfl rfl (by decide) (by decide) rfl (Nat.le_of_ble_eq_true rfl) (Nat.le_of_ble_eq_true rfl) (Nat.le_of_ble_eq_true rfl) dX5_nearest_1 (fun r_1 w_2 h => ?_)
  show X g 2 4 [(0, .ref h0), (1, .ref q0)] [.double r_1] [(q0, .inr (1, [.ref q0w])), (q0w, .inl ((xT g) 2, 40, .inl w_2))] 0 0
  exact x_retd1 G Q dX5_nearest_4 w_2 h XSub.rf (Nat.le_of_ble_eq_true rfl) (Nat.le_of_ble_eq_true rfl)
theorem cdX6_at : yX6_at.cls = RX6 ∧ yX6_at.cls ≠ "java/lang/invoke/MethodHandle" ∧ yX6_at.cls ≠ "java/lang/invoke/VarHandle" ∧ (parseMethodDescriptor yX6_at.desc).map (fun d => d.parameters.length) = some 1 := by decide +kernel
def wX6_at (p0 : Int32) (ln : Nat) (am : Nat → UInt32) (K : UInt64 → Prop) : Prop := (vp_in p0 ln ∧ (vf_n64 (FP.f2d (am p0.toNatClampNeg)) ∧ K (FP.f2d (am p0.toNatClampNeg))))
set_option maxRecDepth 20000 in
theorem tX6_at {l : Launch} {D : va_G} {ta : Nat → ClassId} {h0 : Nat} {h0a : Nat} {h0d : Nat} {h0g : Nat} {gc : Int32} {h0m : Nat} {ln : Nat} {am : Nat → UInt32} {p0 : Int32} {K : UInt64 → Prop} (hlt : l.stackTraces = false) (h : wX6_at p0 ln am K) : SMd0 l D ta yX6_at cX6_at 2 FieldType.double 1 [.ref h0, .int p0] [(h0, .inr (5, [.ref h0a, .ref h0d, .ref h0g, .int gc, .ref h0m])), (h0m, .inl (ta 4, ln, .inr (.inr (.inl am))))] ([(h0, .inr (5, [.ref h0a, .ref h0d, .ref h0g, .int gc, .ref h0m])), (h0m, .inl (ta 4, ln, .inr (.inr (.inl am))))]) 0 0 K := by
  refine x_std0 hlt (plainFor_of_name (by decide +kernel)) (Nat.le_of_ble_eq_true rfl) (fun g G hl hD hT Q => ?_)
  subst hl; subst hD; subst hT
  unfold wX6_at at h
  show X g 2 0 [(0, .ref h0), (1, .int p0)] [] [(h0, .inr (5, [.ref h0a, .ref h0d, .ref h0g, .int gc, .ref h0m])), (h0m, .inl ((xT g) 4, ln, .inr (.inr (.inl am))))] 0 0
  refine x_aload_n G rfl dX6_at_0 0 rfl ?_
  refine x_get G in_X6 0 rfl rfl 4 (by decide) q536 (fun _ h => h) rfl dX6_at_1 ?_
  refine x_iload_n G rfl dX6_at_4 1 rfl ?_
  obtain ⟨hz, h⟩ := h
  refine x_fald G 1 rfl hz dX6_at_5 ?_
  obtain ⟨hz, h⟩ := h
  refine x_f2d G dX6_at_6 hz ?_
  exact x_retd0 G Q dX6_at_7  h XSub.rf (Nat.le_of_ble_eq_true rfl) (Nat.le_of_ble_eq_true rfl)
def wX6_at_X (p0 : Int32) (ln : Nat) (am : Nat → UInt32) (K : UInt64 → Prop) (E : String → Prop) : Prop := (ln ≤ 1000 ∧ ((¬ vp_in p0 ln → E "java/lang/ArrayIndexOutOfBoundsException") ∧ (vp_in p0 ln → (vf_n64 (FP.f2d (am p0.toNatClampNeg)) ∧ K (FP.f2d (am p0.toNatClampNeg))))))
set_option maxRecDepth 20000 in
theorem tX6_at_X {l : Launch} {D : va_G} {ta : Nat → ClassId} {h0 : Nat} {h0a : Nat} {h0d : Nat} {h0g : Nat} {gc : Int32} {h0m : Nat} {ln : Nat} {am : Nat → UInt32} {p0 : Int32} {K : UInt64 → Prop} {E : String → Prop} (hlt : l.stackTraces = false) (h : wX6_at_X p0 ln am K E) : SXd0 l D ta yX6_at cX6_at 2 FieldType.double 1 [.ref h0, .int p0] [(h0, .inr (5, [.ref h0a, .ref h0d, .ref h0g, .int gc, .ref h0m])), (h0m, .inl (ta 4, ln, .inr (.inr (.inl am))))] ([(h0, .inr (5, [.ref h0a, .ref h0d, .ref h0g, .int gc, .ref h0m])), (h0m, .inl (ta 4, ln, .inr (.inr (.inl am))))]) 3 222 K E := by
  refine x_sxd0 hlt (by decide +kernel) (Nat.le_of_ble_eq_true rfl) (fun g G hl hD hT hN Q => ?_)
  subst hl; subst hD; subst hT
  unfold wX6_at_X at h
  show X g 2 0 [(0, .ref h0), (1, .int p0)] [] [(h0, .inr (5, [.ref h0a, .ref h0d, .ref h0g, .int gc, .ref h0m])), (h0m, .inl ((xT g) 4, ln, .inr (.inr (.inl am))))] 0 0
  refine x_aload_n G rfl dX6_at_0 0 rfl ?_
  refine x_get G in_X6 0 rfl rfl 4 (by decide) q536 (fun _ h => h) rfl dX6_at_1 ?_
  refine x_iload_n G rfl dX6_at_4 1 rfl ?_
  obtain ⟨hb, h⟩ := h
  by_cases hz : vp_in p0 ln
  case neg =>
    replace h := h.1 hz
    refine x_faldZ G 1 rfl hb hz (Nat.le_of_ble_eq_true rfl) (Nat.le_of_ble_eq_true rfl) (Nat.le_of_ble_eq_true rfl) dX6_at_5 ?_
    exact x_od0 G Q h XSub.rf (Nat.le_of_ble_eq_true rfl) (Nat.le_of_ble_eq_true rfl)
  replace h := h.2 hz
  refine x_fald G 1 rfl hz dX6_at_5 ?_
  obtain ⟨hz, h⟩ := h
  refine x_f2d G dX6_at_6 hz ?_
  exact x_yd0 G Q dX6_at_7  h XSub.rf (Nat.le_of_ble_eq_true rfl) (Nat.le_of_ble_eq_true rfl)
theorem cdX6_put : yX6_put.cls = RX6 ∧ yX6_put.cls ≠ "java/lang/invoke/MethodHandle" ∧ yX6_put.cls ≠ "java/lang/invoke/VarHandle" ∧ (parseMethodDescriptor yX6_put.desc).map (fun d => d.parameters.length) = some 2 := by decide +kernel
def wX6_put (p0 : Int32) (p1 : Int64) (ln : Nat) (am : Nat → UInt32) (K : Int32 → (Nat → UInt32) → Prop) : Prop := (vp_in p0 ln ∧ (∀ u_1 : UInt32, u_1 = (am p0.toNatClampNeg) → (wJ11_floatToIntBits (1904214016 : UInt32) (fun (r_2 : Int32) => (((p1.toInt32 &&& (2147483647 : Int32)) ≤ r_2 → (vn_sni2f p1.toInt32 = false ∧ (∀ u_3 : UInt32, u_3 = p1.toInt32.toUInt32 → (vp_in p0 ln ∧ (∀ f_4 : Nat → UInt32, f_4 = vf_upd am p0.toNatClampNeg u_3 → K (1 : Int32) f_4))))) ∧ (¬ (p1.toInt32 &&& (2147483647 : Int32)) ≤ r_2 → K (0 : Int32) am))))))
set_option maxRecDepth 20000 in
theorem tX6_put {l : Launch} {D : va_G} {ta : Nat → ClassId} {h0 : Nat} {h0a : Nat} {h0d : Nat} {h0g : Nat} {gc : Int32} {h0m : Nat} {ln : Nat} {am : Nat → UInt32} {p0 : Int32} {p1 : Int64} {K : Int32 → (Nat → UInt32) → Prop} (hlt : l.stackTraces = false) (h : wX6_put p0 p1 ln am K) : SMi1 l D ta yX6_put cX6_put 5 FieldType.boolean 3 [.ref h0, .int p0, .long p1] [(h0, .inr (5, [.ref h0a, .ref h0d, .ref h0g, .int gc, .ref h0m])), (h0m, .inl (ta 4, ln, .inr (.inr (.inl am))))] (fun (am' : Nat → UInt32) => [(h0, .inr (5, [.ref h0a, .ref h0d, .ref h0g, .int gc, .ref h0m])), (h0m, .inl (ta 4, ln, .inr (.inr (.inl am'))))]) 0 0 K := by
  refine x_sti1 hlt (plainFor_of_name (by decide +kernel)) (Nat.le_of_ble_eq_true rfl) (fun g G hl hD hT Q => ?_)
  subst hl; subst hD; subst hT
  unfold wX6_put at h
  show X g 5 0 [(0, .ref h0), (1, .int p0), (2, .long p1)] [] [(h0, .inr (5, [.ref h0a, .ref h0d, .ref h0g, .int gc, .ref h0m])), (h0m, .inl ((xT g) 4, ln, .inr (.inr (.inl am))))] 0 0
  refine x_aload_n G rfl dX6_put_0 0 rfl ?_
  refine x_get G in_X6 0 rfl rfl 4 (by decide) q536 (fun _ h => h) rfl dX6_put_1 ?_
  refine x_iload_n G rfl dX6_put_4 1 rfl ?_
  obtain ⟨hz, h⟩ := h
  refine x_fald G 1 rfl hz dX6_put_5 ?_
  refine x_topf (fun u_1 eu_1 => ?_)
  replace h := h u_1 eu_1
  refine x_fstore (lv' := [(4, .float u_1), (0, .ref h0), (1, .int p0), (2, .long p1)]) G dX6_put_6 (by decide) rfl ?_
  refine x_lload_n G rfl dX6_put_8 3 rfl ?_
  refine x_l2i G dX6_put_9 ?_
  refine x_ldc G q583 dX6_put_10 ?_
  refine x_iand G dX6_put_12 ?_
  refine x_ldcf G q584 dX6_put_13 ?_
  refine x_cPi (As := [.float (1904214016 : UInt32)]) (rest := [.int (p1.toInt32 &&& (2147483647 : Int32))]) G (tJ11_floatToIntBits G.noTraces h) (lw_S q585 q237 q83 q238) cdJ11_floatToIntBits (by decide) (by decide) rfl (Nat.le_of_ble_eq_true rfl) (Nat.zero_le _) (Nat.zero_le _) dX6_put_15 (fun r_2 h => ?_)
  refine x_icmp_le (tgt := 23) G dX6_put_18 rfl (fun c => ?_) (fun c => ?_)
  · replace h := h.1 c
    refine x_aload_n G rfl dX6_put_23 1 rfl ?_
    refine x_get G in_X6 0 rfl rfl 4 (by decide) q536 (fun _ h => h) rfl dX6_put_24 ?_
    refine x_iload_n G rfl dX6_put_27 2 rfl ?_
    refine x_lload_n G rfl dX6_put_28 3 rfl ?_
    refine x_l2i G dX6_put_29 ?_
    obtain ⟨hz, h⟩ := h
    refine x_ni2f G q586 q588 q587 q83 hz (by decide) (Nat.le_of_ble_eq_true rfl) dX6_put_30 ?_
    refine x_topf (fun u_3 eu_3 => ?_)
    replace h := h u_3 eu_3
    obtain ⟨hz, h⟩ := h
    obtain ⟨f_4, ef_4⟩ : ∃ z : Nat → UInt32, z = vf_upd am p0.toNatClampNeg u_3 := ⟨_, rfl⟩
    replace h := h f_4 ef_4
    refine x_fast G 1 rfl hz (by rw [← ef_4]) dX6_put_33 ?_
    show X g 5 34 [(4, .float u_1), (0, .ref h0), (1, .int p0), (2, .long p1)] [] [(h0, .inr (5, [.ref h0a, .ref h0d, .ref h0g, .int gc, .ref h0m])), (h0m, .inl ((xT g) 4, ln, .inr (.inr (.inl f_4))))] 0 0
    refine x_iconst (v := (1 : Int32)) G dX6_put_34 (by decide) ?_
    exact x_reti1 G Q dX6_put_35 rfl f_4 h XSub.rf (Nat.le_of_ble_eq_true rfl) (Nat.le_of_ble_eq_true rfl)
  · replace h := h.2 c
    refine x_iconst (v := (0 : Int32)) G dX6_put_21 (by decide) ?_
    exact x_reti1 G Q dX6_put_22 rfl am h XSub.rf (Nat.le_of_ble_eq_true rfl) (Nat.le_of_ble_eq_true rfl)
def wX6_put_X (p0 : Int32) (p1 : Int64) (ln : Nat) (am : Nat → UInt32) (K : Int32 → (Nat → UInt32) → Prop) (E : String → (Nat → UInt32) → Prop) : Prop := (ln ≤ 1000 ∧ ((¬ vp_in p0 ln → E "java/lang/ArrayIndexOutOfBoundsException" am) ∧ (vp_in p0 ln → (∀ u_1 : UInt32, u_1 = (am p0.toNatClampNeg) → (wJ11_floatToIntBits (1904214016 : UInt32) (fun (r_2 : Int32) => (((p1.toInt32 &&& (2147483647 : Int32)) ≤ r_2 → (vn_sni2f p1.toInt32 = false ∧ (∀ u_3 : UInt32, u_3 = p1.toInt32.toUInt32 → (ln ≤ 1000 ∧ ((¬ vp_in p0 ln → E "java/lang/ArrayIndexOutOfBoundsException" am) ∧ (vp_in p0 ln → (∀ f_4 : Nat → UInt32, f_4 = vf_upd am p0.toNatClampNeg u_3 → K (1 : Int32) f_4))))))) ∧ (¬ (p1.toInt32 &&& (2147483647 : Int32)) ≤ r_2 → K (0 : Int32) am))))))))
set_option maxRecDepth 20000 in
theorem tX6_put_X {l : Launch} {D : va_G} {ta : Nat → ClassId} {h0 : Nat} {h0a : Nat} {h0d : Nat} {h0g : Nat} {gc : Int32} {h0m : Nat} {ln : Nat} {am : Nat → UInt32} {p0 : Int32} {p1 : Int64} {K : Int32 → (Nat → UInt32) → Prop} {E : String → (Nat → UInt32) → Prop} (hlt : l.stackTraces = false) (h : wX6_put_X p0 p1 ln am K E) : SXi1 l D ta yX6_put cX6_put 5 FieldType.boolean 3 [.ref h0, .int p0, .long p1] [(h0, .inr (5, [.ref h0a, .ref h0d, .ref h0g, .int gc, .ref h0m])), (h0m, .inl (ta 4, ln, .inr (.inr (.inl am))))] (fun (am' : Nat → UInt32) => [(h0, .inr (5, [.ref h0a, .ref h0d, .ref h0g, .int gc, .ref h0m])), (h0m, .inl (ta 4, ln, .inr (.inr (.inl am'))))]) 3 222 K E := by
  refine x_sxi1 hlt (by decide +kernel) (Nat.le_of_ble_eq_true rfl) (fun g G hl hD hT hN Q => ?_)
  subst hl; subst hD; subst hT
  unfold wX6_put_X at h
  show X g 5 0 [(0, .ref h0), (1, .int p0), (2, .long p1)] [] [(h0, .inr (5, [.ref h0a, .ref h0d, .ref h0g, .int gc, .ref h0m])), (h0m, .inl ((xT g) 4, ln, .inr (.inr (.inl am))))] 0 0
  refine x_aload_n G rfl dX6_put_0 0 rfl ?_
  refine x_get G in_X6 0 rfl rfl 4 (by decide) q536 (fun _ h => h) rfl dX6_put_1 ?_
  refine x_iload_n G rfl dX6_put_4 1 rfl ?_
  obtain ⟨hb, h⟩ := h
  by_cases hz : vp_in p0 ln
  case neg =>
    replace h := h.1 hz
    refine x_faldZ G 1 rfl hb hz (Nat.le_of_ble_eq_true rfl) (Nat.le_of_ble_eq_true rfl) (Nat.le_of_ble_eq_true rfl) dX6_put_5 ?_
    exact x_oi1 G Q am h XSub.rf (Nat.le_of_ble_eq_true rfl) (Nat.le_of_ble_eq_true rfl)
  replace h := h.2 hz
  refine x_fald G 1 rfl hz dX6_put_5 ?_
  refine x_topf (fun u_1 eu_1 => ?_)
  replace h := h u_1 eu_1
  refine x_fstore (lv' := [(4, .float u_1), (0, .ref h0), (1, .int p0), (2, .long p1)]) G dX6_put_6 (by decide) rfl ?_
  refine x_lload_n G rfl dX6_put_8 3 rfl ?_
  refine x_l2i G dX6_put_9 ?_
  refine x_ldc G q583 dX6_put_10 ?_
  refine x_iand G dX6_put_12 ?_
  refine x_ldcf G q584 dX6_put_13 ?_
  refine x_cPi (As := [.float (1904214016 : UInt32)]) (rest := [.int (p1.toInt32 &&& (2147483647 : Int32))]) G (tJ11_floatToIntBits G.noTraces h) (lw_S q585 q237 q83 q238) cdJ11_floatToIntBits (by decide) (by decide) rfl (Nat.le_of_ble_eq_true rfl) (Nat.zero_le _) (Nat.zero_le _) dX6_put_15 (fun r_2 h => ?_)
  refine x_icmp_le (tgt := 23) G dX6_put_18 rfl (fun c => ?_) (fun c => ?_)
  · replace h := h.1 c
    refine x_aload_n G rfl dX6_put_23 1 rfl ?_
    refine x_get G in_X6 0 rfl rfl 4 (by decide) q536 (fun _ h => h) rfl dX6_put_24 ?_
    refine x_iload_n G rfl dX6_put_27 2 rfl ?_
    refine x_lload_n G rfl dX6_put_28 3 rfl ?_
    refine x_l2i G dX6_put_29 ?_
    obtain ⟨hz, h⟩ := h
    refine x_ni2f G q586 q588 q587 q83 hz (by decide) (Nat.le_of_ble_eq_true rfl) dX6_put_30 ?_
    refine x_topf (fun u_3 eu_3 => ?_)
    replace h := h u_3 eu_3
    obtain ⟨hb, h⟩ := h
    by_cases hz : vp_in p0 ln
    case neg =>
      replace h := h.1 hz
      refine x_fastZ G 1 rfl hb hz (Nat.le_of_ble_eq_true rfl) (Nat.le_of_ble_eq_true rfl) (Nat.le_of_ble_eq_true rfl) dX6_put_33 ?_
      exact x_oi1 G Q am h XSub.rf (Nat.le_of_ble_eq_true rfl) (Nat.le_of_ble_eq_true rfl)
    replace h := h.2 hz
    obtain ⟨f_4, ef_4⟩ : ∃ z : Nat → UInt32, z = vf_upd am p0.toNatClampNeg u_3 := ⟨_, rfl⟩
    replace h := h f_4 ef_4
    refine x_fast G 1 rfl hz (by rw [← ef_4]) dX6_put_33 ?_
    show X g 5 34 [(4, .float u_1), (0, .ref h0), (1, .int p0), (2, .long p1)] [] [(h0, .inr (5, [.ref h0a, .ref h0d, .ref h0g, .int gc, .ref h0m])), (h0m, .inl ((xT g) 4, ln, .inr (.inr (.inl f_4))))] 0 0
    refine x_iconst (v := (1 : Int32)) G dX6_put_34 (by decide) ?_
    exact x_yi1 G Q dX6_put_35 rfl f_4 h XSub.rf (Nat.le_of_ble_eq_true rfl) (Nat.le_of_ble_eq_true rfl)
  · replace h := h.2 c
    refine x_iconst (v := (0 : Int32)) G dX6_put_21 (by decide) ?_
    exact x_yi1 G Q dX6_put_22 rfl am h XSub.rf (Nat.le_of_ble_eq_true rfl) (Nat.le_of_ble_eq_true rfl)
theorem cdX6_bits : yX6_bits.cls = RX6 ∧ yX6_bits.cls ≠ "java/lang/invoke/MethodHandle" ∧ yX6_bits.cls ≠ "java/lang/invoke/VarHandle" ∧ (parseMethodDescriptor yX6_bits.desc).map (fun d => d.parameters.length) = some 1 := by decide +kernel
def wX6_bits (p0 : UInt64) (K : Int64 → Prop) : Prop := (vf_n32 (FP.d2f p0) ∧ (wJ11_floatToIntBits (FP.d2f p0) (fun (r_1 : Int32) => K r_1.toInt64)))
set_option maxRecDepth 20000 in
theorem tX6_bits {l : Launch} {D : va_G} {ta : Nat → ClassId} {h0 : Nat} {p0 : UInt64} {K : Int64 → Prop} (hlt : l.stackTraces = false) (h : wX6_bits p0 K) : SMl0 l D ta yX6_bits cX6_bits 3 FieldType.long 3 [.ref h0, .double p0] [] ([]) 0 0 K := by
  refine x_stl0 hlt (plainFor_of_name (by decide +kernel)) (Nat.le_of_ble_eq_true rfl) (fun g G hl hD hT Q => ?_)
  subst hl; subst hD; subst hT
  unfold wX6_bits at h
  show X g 3 0 [(0, .ref h0), (1, .double p0)] [] [] 0 0
  refine x_dload_n G rfl dX6_bits_0 1 rfl ?_
  obtain ⟨hz, h⟩ := h
  refine x_d2f G dX6_bits_1 hz ?_
  refine x_cPi (As := [.float (FP.d2f p0)]) (rest := []) G (tJ11_floatToIntBits G.noTraces h) (lw_S q585 q237 q83 q238) cdJ11_floatToIntBits (by decide) (by decide) rfl (Nat.le_of_ble_eq_true rfl) (Nat.zero_le _) (Nat.zero_le _) dX6_bits_2 (fun r_1 h => ?_)
  refine x_i2l G dX6_bits_5 ?_
  exact x_retl0 G Q dX6_bits_6  h XSub.rf (Nat.le_of_ble_eq_true rfl) (Nat.le_of_ble_eq_true rfl)
theorem cdX6_isWide : yX6_isWide.cls = RX6 ∧ yX6_isWide.cls ≠ "java/lang/invoke/MethodHandle" ∧ yX6_isWide.cls ≠ "java/lang/invoke/VarHandle" ∧ (parseMethodDescriptor yX6_isWide.desc).map (fun d => d.parameters.length) = some 0 := by decide +kernel
def wX6_isWide (K : Int32 → Prop) : Prop := K (0 : Int32)
set_option maxRecDepth 20000 in
theorem tX6_isWide {l : Launch} {D : va_G} {ta : Nat → ClassId} {h0 : Nat} {K : Int32 → Prop} (hlt : l.stackTraces = false) (h : wX6_isWide K) : SMi0 l D ta yX6_isWide cX6_isWide 1 FieldType.boolean 1 [.ref h0] [] ([]) 0 0 K := by
  refine x_sti0 hlt (plainFor_of_name (by decide +kernel)) (Nat.le_of_ble_eq_true rfl) (fun g G hl hD hT Q => ?_)
  subst hl; subst hD; subst hT
  unfold wX6_isWide at h
  show X g 1 0 [(0, .ref h0)] [] [] 0 0
  refine x_iconst (v := (0 : Int32)) G dX6_isWide_0 (by decide) ?_
  exact x_reti0 G Q dX6_isWide_1 rfl  h XSub.rf (Nat.le_of_ble_eq_true rfl) (Nat.le_of_ble_eq_true rfl)
theorem cdX6_least : yX6_least.cls = RX6 ∧ yX6_least.cls ≠ "java/lang/invoke/MethodHandle" ∧ yX6_least.cls ≠ "java/lang/invoke/VarHandle" ∧ (parseMethodDescriptor yX6_least.desc).map (fun d => d.parameters.length) = some 0 := by decide +kernel
def wX6_least (K : UInt64 → Prop) : Prop := K (4039728865751334912 : UInt64)
set_option maxRecDepth 20000 in
theorem tX6_least {l : Launch} {D : va_G} {ta : Nat → ClassId} {h0 : Nat} {K : UInt64 → Prop} (hlt : l.stackTraces = false) (h : wX6_least K) : SMd0 l D ta yX6_least cX6_least 1 FieldType.double 1 [.ref h0] [] ([]) 0 0 K := by
  refine x_std0 hlt (plainFor_of_name (by decide +kernel)) (Nat.le_of_ble_eq_true rfl) (fun g G hl hD hT Q => ?_)
  subst hl; subst hD; subst hT
  unfold wX6_least at h
  show X g 1 0 [(0, .ref h0)] [] [] 0 0
  refine x_ldc2d G q698 dX6_least_0 ?_
  exact x_retd0 G Q dX6_least_3  h XSub.rf (Nat.le_of_ble_eq_true rfl) (Nat.le_of_ble_eq_true rfl)
theorem cdX6_worked : yX6_worked.cls = RX6 ∧ yX6_worked.cls ≠ "java/lang/invoke/MethodHandle" ∧ yX6_worked.cls ≠ "java/lang/invoke/VarHandle" ∧ (parseMethodDescriptor yX6_worked.desc).map (fun d => d.parameters.length) = some 3 := by decide +kernel
def wX6_worked (p0 : UInt64) (p1 : UInt64) (p2 : Int32) (K : UInt64 → Prop) : Prop := (vf_n32 (FP.d2f p0) ∧ (∀ u_1 : UInt32, u_1 = (FP.d2f p0) → (vf_n32 (FP.d2f p1) ∧ (∀ u_2 : UInt32, u_2 = (FP.d2f p1) → ((p2 = (0 : Int32) → (wJ14_floor p0 (fun (r_3 : UInt64) => vf_n64 r_3 ∧ K r_3))) ∧ (¬ p2 = (0 : Int32) → ((p2 = (1 : Int32) → (wJ14_ceil p0 (fun (r_4 : UInt64) => vf_n64 r_4 ∧ K r_4))) ∧ (¬ p2 = (1 : Int32) → ((p2 = (2 : Int32) → (wJ14_rint p0 (fun (r_5 : UInt64) => vf_n64 r_5 ∧ K r_5))) ∧ (¬ p2 = (2 : Int32) → ((p2 = (3 : Int32) → (vf_n32 u_1 ∧ (vf_n64 (FP.f2d (mAbsF u_1)) ∧ K (FP.f2d (mAbsF u_1))))) ∧ (¬ p2 = (3 : Int32) → ((p2 = (4 : Int32) → (FP.fIsNaN u_1 = false ∧ (vf_n64 (FP.f2d (mSigF u_1)) ∧ K (FP.f2d (mSigF u_1))))) ∧ (¬ p2 = (4 : Int32) → ((p2 = (5 : Int32) → (FP.fIsNaN u_2 = false ∧ (vf_n64 (FP.f2d (mCpsF u_1 u_2)) ∧ K (FP.f2d (mCpsF u_1 u_2))))) ∧ (¬ p2 = (5 : Int32) → ((p2 = (6 : Int32) → (FP.fIsNaN u_1 = false ∧ (FP.fIsNaN u_2 = false ∧ (vf_n64 (FP.f2d (mMinF u_1 u_2)) ∧ K (FP.f2d (mMinF u_1 u_2)))))) ∧ (¬ p2 = (6 : Int32) → ((p2 = (7 : Int32) → (FP.fIsNaN u_1 = false ∧ (FP.fIsNaN u_2 = false ∧ (vf_n64 (FP.f2d (mMaxF u_1 u_2)) ∧ K (FP.f2d (mMaxF u_1 u_2)))))) ∧ (¬ p2 = (7 : Int32) → (vf_n32 (FP.frem u_1 u_2) ∧ (vf_n64 (FP.f2d (FP.frem u_1 u_2)) ∧ K (FP.f2d (FP.frem u_1 u_2))))))))))))))))))))))))
set_option maxRecDepth 20000 in
theorem tX6_worked {l : Launch} {D : va_G} {ta : Nat → ClassId} {h0 : Nat} {p0 : UInt64} {p1 : UInt64} {p2 : Int32} {K : UInt64 → Prop} (hlt : l.stackTraces = false) (h : wX6_worked p0 p1 p2 K) : SMd0 l D ta yX6_worked cX6_worked 8 FieldType.double 20 [.ref h0, .double p0, .double p1, .int p2] [] ([]) 0 0 K := by
  refine x_std0 hlt (plainFor_of_name (by decide +kernel)) (Nat.le_of_ble_eq_true rfl) (fun g G hl hD hT Q => ?_)
  subst hl; subst hD; subst hT
  unfold wX6_worked at h
  show X g 8 0 [(0, .ref h0), (1, .double p0), (3, .double p1), (5, .int p2)] [] [] 0 0
  refine x_dload_n G rfl dX6_worked_0 1 rfl ?_
  obtain ⟨hz, h⟩ := h
  refine x_d2f G dX6_worked_1 hz ?_
  refine x_topf (fun u_1 eu_1 => ?_)
  replace h := h u_1 eu_1
  refine x_fstore (lv' := [(6, .float u_1), (0, .ref h0), (1, .double p0), (3, .double p1), (5, .int p2)]) G dX6_worked_2 (by decide) rfl ?_
  refine x_dload_n G rfl dX6_worked_4 3 rfl ?_
  obtain ⟨hz, h⟩ := h
  refine x_d2f G dX6_worked_5 hz ?_
  refine x_topf (fun u_2 eu_2 => ?_)
  replace h := h u_2 eu_2
  refine x_fstore (lv' := [(7, .float u_2), (6, .float u_1), (0, .ref h0), (1, .double p0), (3, .double p1), (5, .int p2)]) G dX6_worked_6 (by decide) rfl ?_
  refine x_iload G dX6_worked_8 5 rfl ?_
  by_cases c0 : p2 = (0 : Int32)
  · replace h := h.1 c0
    refine x_tableAt (off := 46) (tgt := 56) G dX6_worked_10 c0 (by decide) rfl ?_
    refine x_dload_n G rfl dX6_worked_56 3 rfl ?_
    refine x_ovQ G (tJ14_floor G.noTraces h) q791 q792 q85 q793 q86 q796 rmFloor_row rmFloor_sem rmFloor_res (by decide) (by decide) (by decide) (Nat.le_of_ble_eq_true rfl) (Nat.le_of_ble_eq_true rfl) (Nat.le_of_ble_eq_true rfl) dX6_worked_57 (fun r_3 h => ?_)
    exact x_retd0 G Q dX6_worked_60  h XSub.rf (Nat.le_of_ble_eq_true rfl) (Nat.le_of_ble_eq_true rfl)
  replace h := h.2 c0
  by_cases c1 : p2 = (1 : Int32)
  · replace h := h.1 c1
    refine x_tableAt (off := 51) (tgt := 61) G dX6_worked_10 c1 (by decide) rfl ?_
    refine x_dload_n G rfl dX6_worked_61 3 rfl ?_
    refine x_ovQ G (tJ14_ceil G.noTraces h) q812 q813 q85 q814 q86 q817 rmCeil_row rmCeil_sem rmCeil_res (by decide) (by decide) (by decide) (Nat.le_of_ble_eq_true rfl) (Nat.le_of_ble_eq_true rfl) (Nat.le_of_ble_eq_true rfl) dX6_worked_62 (fun r_4 h => ?_)
    exact x_retd0 G Q dX6_worked_65  h XSub.rf (Nat.le_of_ble_eq_true rfl) (Nat.le_of_ble_eq_true rfl)
  replace h := h.2 c1
  by_cases c2 : p2 = (2 : Int32)
  · replace h := h.1 c2
    refine x_tableAt (off := 56) (tgt := 66) G dX6_worked_10 c2 (by decide) rfl ?_
    refine x_dload_n G rfl dX6_worked_66 3 rfl ?_
    refine x_ovQ G (tJ14_rint G.noTraces h) q819 q684 q85 q685 q86 q688 rmRint_row rmRint_sem rmRint_res (by decide) (by decide) (by decide) (Nat.le_of_ble_eq_true rfl) (Nat.le_of_ble_eq_true rfl) (Nat.le_of_ble_eq_true rfl) dX6_worked_67 (fun r_5 h => ?_)
    exact x_retd0 G Q dX6_worked_70  h XSub.rf (Nat.le_of_ble_eq_true rfl) (Nat.le_of_ble_eq_true rfl)
  replace h := h.2 c2
  by_cases c3 : p2 = (3 : Int32)
  · replace h := h.1 c3
    refine x_tableAt (off := 61) (tgt := 71) G dX6_worked_10 c3 (by decide) rfl ?_
    refine x_fload G dX6_worked_71 1 rfl ?_
    obtain ⟨hz0, h⟩ := h
    refine x_ovF1 G q820 q821 q85 q822 rfl rfl rmAbsF_row (rmAbsF_run hz0) (by decide) (Nat.le_of_ble_eq_true rfl) dX6_worked_73 ?_
    obtain ⟨hz, h⟩ := h
    refine x_f2d G dX6_worked_76 hz ?_
    exact x_retd0 G Q dX6_worked_77  h XSub.rf (Nat.le_of_ble_eq_true rfl) (Nat.le_of_ble_eq_true rfl)
  replace h := h.2 c3
  by_cases c4 : p2 = (4 : Int32)
  · replace h := h.1 c4
    refine x_tableAt (off := 68) (tgt := 78) G dX6_worked_10 c4 (by decide) rfl ?_
    refine x_fload G dX6_worked_78 1 rfl ?_
    obtain ⟨hz0, h⟩ := h
    refine x_ovF1 G q826 q827 q85 q828 rfl rfl rmSigF_row (rmSigF_run hz0) (by decide) (Nat.le_of_ble_eq_true rfl) dX6_worked_80 ?_
    obtain ⟨hz, h⟩ := h
    refine x_f2d G dX6_worked_83 hz ?_
    exact x_retd0 G Q dX6_worked_84  h XSub.rf (Nat.le_of_ble_eq_true rfl) (Nat.le_of_ble_eq_true rfl)
  replace h := h.2 c4
  by_cases c5 : p2 = (5 : Int32)
  · replace h := h.1 c5
    refine x_tableAt (off := 75) (tgt := 85) G dX6_worked_10 c5 (by decide) rfl ?_
    refine x_fload G dX6_worked_85 1 rfl ?_
    refine x_fload G dX6_worked_87 0 rfl ?_
    obtain ⟨hz0, h⟩ := h
    refine x_ovF2 G q834 q831 q85 q832 rfl rfl rmCpsF_row (rmCpsF_run hz0) (by decide) (Nat.le_of_ble_eq_true rfl) dX6_worked_89 ?_
    obtain ⟨hz, h⟩ := h
    refine x_f2d G dX6_worked_92 hz ?_
    exact x_retd0 G Q dX6_worked_93  h XSub.rf (Nat.le_of_ble_eq_true rfl) (Nat.le_of_ble_eq_true rfl)
  replace h := h.2 c5
  by_cases c6 : p2 = (6 : Int32)
  · replace h := h.1 c6
    refine x_tableAt (off := 84) (tgt := 94) G dX6_worked_10 c6 (by decide) rfl ?_
    refine x_fload G dX6_worked_94 1 rfl ?_
    refine x_fload G dX6_worked_96 0 rfl ?_
    obtain ⟨hz0, hz1, h⟩ := h
    refine x_ovF2 G q835 q836 q85 q837 rfl rfl rmMinF_row (rmMinF_run hz0 hz1) (by decide) (Nat.le_of_ble_eq_true rfl) dX6_worked_98 ?_
    obtain ⟨hz, h⟩ := h
    refine x_f2d G dX6_worked_101 hz ?_
    exact x_retd0 G Q dX6_worked_102  h XSub.rf (Nat.le_of_ble_eq_true rfl) (Nat.le_of_ble_eq_true rfl)
  replace h := h.2 c6
  by_cases c7 : p2 = (7 : Int32)
  · replace h := h.1 c7
    refine x_tableAt (off := 93) (tgt := 103) G dX6_worked_10 c7 (by decide) rfl ?_
    refine x_fload G dX6_worked_103 1 rfl ?_
    refine x_fload G dX6_worked_105 0 rfl ?_
    obtain ⟨hz0, hz1, h⟩ := h
    refine x_ovF2 G q840 q841 q85 q842 rfl rfl rmMaxF_row (rmMaxF_run hz0 hz1) (by decide) (Nat.le_of_ble_eq_true rfl) dX6_worked_107 ?_
    obtain ⟨hz, h⟩ := h
    refine x_f2d G dX6_worked_110 hz ?_
    exact x_retd0 G Q dX6_worked_111  h XSub.rf (Nat.le_of_ble_eq_true rfl) (Nat.le_of_ble_eq_true rfl)
  replace h := h.2 c7
  refine x_tableNo (tgt := 112) G dX6_worked_10 [(0 : Int32), (1 : Int32), (2 : Int32), (3 : Int32), (4 : Int32), (5 : Int32), (6 : Int32), (7 : Int32)] (by decide) (by decide) (List.forall_mem_cons.mpr ⟨c0, (List.forall_mem_cons.mpr ⟨c1, (List.forall_mem_cons.mpr ⟨c2, (List.forall_mem_cons.mpr ⟨c3, (List.forall_mem_cons.mpr ⟨c4, (List.forall_mem_cons.mpr ⟨c5, (List.forall_mem_cons.mpr ⟨c6, (List.forall_mem_cons.mpr ⟨c7, (fun _ h => absurd h List.not_mem_nil)⟩)⟩)⟩)⟩)⟩)⟩)⟩)⟩) rfl ?_
  refine x_fload G dX6_worked_112 1 rfl ?_
  refine x_fload G dX6_worked_114 0 rfl ?_
  obtain ⟨hz, h⟩ := h
  refine x_frem G dX6_worked_116 hz ?_
  obtain ⟨hz, h⟩ := h
  refine x_f2d G dX6_worked_117 hz ?_
  exact x_retd0 G Q dX6_worked_118  h XSub.rf (Nat.le_of_ble_eq_true rfl) (Nat.le_of_ble_eq_true rfl)
theorem cdX6_whole : yX6_whole.cls = RX6 ∧ yX6_whole.cls ≠ "java/lang/invoke/MethodHandle" ∧ yX6_whole.cls ≠ "java/lang/invoke/VarHandle" ∧ (parseMethodDescriptor yX6_whole.desc).map (fun d => d.parameters.length) = some 2 := by decide +kernel
def wX6_whole (p0 : UInt64) (p1 : Int32) (K : Int64 → Prop) : Prop := (vf_n32 (FP.d2f p0) ∧ (∀ u_1 : UInt32, u_1 = (FP.d2f p0) → ((¬ p1 = (1 : Int32) → ((¬ p1 = (2 : Int32) → K (FP.f2l u_1)) ∧ (p1 = (2 : Int32) → K ((FP.f2i u_1).toInt16.toInt32.toInt64)))) ∧ (p1 = (1 : Int32) → K ((FP.f2i u_1).toInt64)))))
set_option maxRecDepth 20000 in
theorem tX6_whole {l : Launch} {D : va_G} {ta : Nat → ClassId} {h0 : Nat} {p0 : UInt64} {p1 : Int32} {K : Int64 → Prop} (hlt : l.stackTraces = false) (h : wX6_whole p0 p1 K) : SMl0 l D ta yX6_whole cX6_whole 5 FieldType.long 1 [.ref h0, .double p0, .int p1] [] ([]) 0 0 K := by
  refine x_stl0 hlt (plainFor_of_name (by decide +kernel)) (Nat.le_of_ble_eq_true rfl) (fun g G hl hD hT Q => ?_)
  subst hl; subst hD; subst hT
  unfold wX6_whole at h
  show X g 5 0 [(0, .ref h0), (1, .double p0), (3, .int p1)] [] [] 0 0
  refine x_dload_n G rfl dX6_whole_0 1 rfl ?_
  obtain ⟨hz, h⟩ := h
  refine x_d2f G dX6_whole_1 hz ?_
  refine x_topf (fun u_1 eu_1 => ?_)
  replace h := h u_1 eu_1
  refine x_fstore (lv' := [(4, .float u_1), (0, .ref h0), (1, .double p0), (3, .int p1)]) G dX6_whole_2 (by decide) rfl ?_
  refine x_iload_n G rfl dX6_whole_4 3 rfl ?_
  refine x_iconst (v := (1 : Int32)) G dX6_whole_5 (by decide) ?_
  refine x_icmp_ne (tgt := 16) G dX6_whole_6 rfl (fun c => ?_) (fun c => ?_)
  · replace h := h.1 c
    refine x_iload_n G rfl dX6_whole_16 3 rfl ?_
    refine x_iconst (v := (2 : Int32)) G dX6_whole_17 (by decide) ?_
    refine x_icmp_ne (tgt := 29) G dX6_whole_18 rfl (fun c => ?_) (fun c => ?_)
    · replace h := h.1 c
      refine x_fload G dX6_whole_29 0 rfl ?_
      refine x_f2l G dX6_whole_31 ?_
      exact x_retl0 G Q dX6_whole_32  h XSub.rf (Nat.le_of_ble_eq_true rfl) (Nat.le_of_ble_eq_true rfl)
    · replace h := h.2 c
      refine x_fload G dX6_whole_21 0 rfl ?_
      refine x_f2i G dX6_whole_23 ?_
      refine x_i2s G dX6_whole_24 ?_
      refine x_i2l G dX6_whole_25 ?_
      refine x_goto (tgt := 32) G dX6_whole_26 rfl ?_
      exact x_retl0 G Q dX6_whole_32  h XSub.rf (Nat.le_of_ble_eq_true rfl) (Nat.le_of_ble_eq_true rfl)
  · replace h := h.2 c
    refine x_fload G dX6_whole_9 0 rfl ?_
    refine x_f2i G dX6_whole_11 ?_
    refine x_i2l G dX6_whole_12 ?_
    refine x_goto (tgt := 32) G dX6_whole_13 rfl ?_
    exact x_retl0 G Q dX6_whole_32  h XSub.rf (Nat.le_of_ble_eq_true rfl) (Nat.le_of_ble_eq_true rfl)
theorem cdX6_add : yX6_add.cls = RX6 ∧ yX6_add.cls ≠ "java/lang/invoke/MethodHandle" ∧ yX6_add.cls ≠ "java/lang/invoke/VarHandle" ∧ (parseMethodDescriptor yX6_add.desc).map (fun d => d.parameters.length) = some 2 := by decide +kernel
def wX6_add (p0 : UInt64) (p1 : UInt64) (K : UInt64 → Prop) : Prop := (vf_n32 (FP.d2f p0) ∧ (vf_n32 (FP.d2f p1) ∧ (vf_n32 (FP.fadd (FP.d2f p0) (FP.d2f p1)) ∧ (vf_n64 (FP.f2d (FP.fadd (FP.d2f p0) (FP.d2f p1))) ∧ K (FP.f2d (FP.fadd (FP.d2f p0) (FP.d2f p1)))))))
set_option maxRecDepth 20000 in
theorem tX6_add {l : Launch} {D : va_G} {ta : Nat → ClassId} {h0 : Nat} {p0 : UInt64} {p1 : UInt64} {K : UInt64 → Prop} (hlt : l.stackTraces = false) (h : wX6_add p0 p1 K) : SMd0 l D ta yX6_add cX6_add 5 FieldType.double 1 [.ref h0, .double p0, .double p1] [] ([]) 0 0 K := by
  refine x_std0 hlt (plainFor_of_name (by decide +kernel)) (Nat.le_of_ble_eq_true rfl) (fun g G hl hD hT Q => ?_)
  subst hl; subst hD; subst hT
  unfold wX6_add at h
  show X g 5 0 [(0, .ref h0), (1, .double p0), (3, .double p1)] [] [] 0 0
  refine x_dload_n G rfl dX6_add_0 1 rfl ?_
  obtain ⟨hz, h⟩ := h
  refine x_d2f G dX6_add_1 hz ?_
  refine x_dload_n G rfl dX6_add_2 2 rfl ?_
  obtain ⟨hz, h⟩ := h
  refine x_d2f G dX6_add_3 hz ?_
  obtain ⟨hz, h⟩ := h
  refine x_fadd G dX6_add_4 hz ?_
  obtain ⟨hz, h⟩ := h
  refine x_f2d G dX6_add_5 hz ?_
  exact x_retd0 G Q dX6_add_6  h XSub.rf (Nat.le_of_ble_eq_true rfl) (Nat.le_of_ble_eq_true rfl)
theorem cdX6_nearest : yX6_nearest.cls = RX6 ∧ yX6_nearest.cls ≠ "java/lang/invoke/MethodHandle" ∧ yX6_nearest.cls ≠ "java/lang/invoke/VarHandle" ∧ (parseMethodDescriptor yX6_nearest.desc).map (fun d => d.parameters.length) = some 1 := by decide +kernel
def wX6_nearest (w : Nat → Int32) (K : UInt64 → (Nat → Int32) → Prop) : Prop := (wX2_toFloat w (fun (r_1 : UInt32) (w_2 : Nat → Int32) => (vf_n64 (FP.f2d r_1) ∧ K (FP.f2d r_1) w_2)))
set_option maxRecDepth 20000 in
theorem tX6_nearest {l : Launch} {D : va_G} {ta : Nat → ClassId} {q0 : Nat} {q0w : Nat} {w : Nat → Int32} {h0 : Nat} {K : UInt64 → (Nat → Int32) → Prop} (hlt : l.stackTraces = false) (h : wX6_nearest w K) : SMd1 l D ta yX6_nearest cX6_nearest 2 FieldType.double 6 [.ref h0, .ref q0] [(q0, .inr (1, [.ref q0w])), (q0w, .inl (ta 2, 40, .inl w))] (fun (w' : Nat → Int32) => [(q0, .inr (1, [.ref q0w])), (q0w, .inl (ta 2, 40, .inl w'))]) 0 0 K := by
  refine x_std1 hlt (plainFor_of_name (by decide +kernel)) (Nat.le_of_ble_eq_true rfl) (fun g G hl hD hT Q => ?_)
  subst hl; subst hD; subst hT
  unfold wX6_nearest at h
  show X g 2 0 [(0, .ref h0), (1, .ref q0)] [] [(q0, .inr (1, [.ref q0w])), (q0w, .inl ((xT g) 2, 40, .inl w))] 0 0
  refine x_aload_n G rfl dX6_nearest_0 1 rfl ?_
  refine x_cVf1 (wc := [(q0, .inr (1, [.ref q0w])), (q0w, .inl ((xT g) 2, 40, .inl w))]) (As := []) (rest := []) G [] (XSub.of [0, 1] rfl (by decide)) (tX2_toFloat G.noTraces h) (lw_V q1396 q1397 q1398 q66 q1399) cdX2_toFloat 1 0 rfl rfl rfl (by decide) (by decide) rfl (Nat.le_of_ble_eq_true rfl) (Nat.le_of_ble_eq_true rfl) (Nat.le_of_ble_eq_true rfl) dX6_nearest_1 (fun r_1 w_2 h => ?_)
  show X g 2 4 [(0, .ref h0), (1, .ref q0)] [.float r_1] [(q0, .inr (1, [.ref q0w])), (q0w, .inl ((xT g) 2, 40, .inl w_2))] 0 0
  obtain ⟨hz, h⟩ := h
  refine x_f2d G dX6_nearest_4 hz ?_
  exact x_retd1 G Q dX6_nearest_5 w_2 h XSub.rf (Nat.le_of_ble_eq_true rfl) (Nat.le_of_ble_eq_true rfl)
theorem cdX4_length : yX4_length.cls = RX4 ∧ yX4_length.cls ≠ "java/lang/invoke/MethodHandle" ∧ yX4_length.cls ≠ "java/lang/invoke/VarHandle" ∧ (parseMethodDescriptor yX4_length.desc).map (fun d => d.parameters.length) = some 0 := by decide +kernel
def wX4_length (ln : Nat) (K : Int32 → Prop) : Prop := K (Int32.ofNat ln)
set_option maxRecDepth 20000 in
theorem tX4_length {l : Launch} {D : va_G} {ta : Nat → ClassId} {h0 : Nat} {kd : Bool} {h0a : Nat} {h0d : Nat} {h0g : Nat} {gc : Int32} {h0m : Nat} {ln : Nat} {acc : Nat → Int32} {K : Int32 → Prop} (hlt : l.stackTraces = false) (h : wX4_length ln K) : SMi0 l D ta yX4_length cX4_length 1 FieldType.int 1 [.ref h0] [(h0, .inr (lci kd, [.ref h0a, .ref h0d, .ref h0g, .int gc, .ref h0m])), (h0a, .inl (ta 1, ln, .inl acc))] ([(h0, .inr (lci kd, [.ref h0a, .ref h0d, .ref h0g, .int gc, .ref h0m])), (h0a, .inl (ta 1, ln, .inl acc))]) 0 0 K := by
  refine x_sti0 hlt (plainFor_of_name (by decide +kernel)) (Nat.le_of_ble_eq_true rfl) (fun g G hl hD hT Q => ?_)
  subst hl; subst hD; subst hT
  unfold wX4_length at h
  show X g 1 0 [(0, .ref h0)] [] [(h0, .inr (lci kd, [.ref h0a, .ref h0d, .ref h0g, .int gc, .ref h0m])), (h0a, .inl ((xT g) 1, ln, .inl acc))] 0 0
  refine x_aload_n G rfl dX4_length_0 0 rfl ?_
  refine x_getL kd G 0 rfl 0 (by decide) q514 rfl dX4_length_1 ?_
  refine x_alen G 1 1 rfl rfl rfl dX4_length_4 ?_
  exact x_reti0 G Q dX4_length_5 rfl  h XSub.rf (Nat.le_of_ble_eq_true rfl) (Nat.le_of_ble_eq_true rfl)
theorem cdX4_givenCount : yX4_givenCount.cls = RX4 ∧ yX4_givenCount.cls ≠ "java/lang/invoke/MethodHandle" ∧ yX4_givenCount.cls ≠ "java/lang/invoke/VarHandle" ∧ (parseMethodDescriptor yX4_givenCount.desc).map (fun d => d.parameters.length) = some 0 := by decide +kernel
def wX4_givenCount (gc : Int32) (K : Int32 → Prop) : Prop := K gc
set_option maxRecDepth 20000 in
theorem tX4_givenCount {l : Launch} {D : va_G} {ta : Nat → ClassId} {h0 : Nat} {kd : Bool} {h0a : Nat} {h0d : Nat} {h0g : Nat} {gc : Int32} {h0m : Nat} {K : Int32 → Prop} (hlt : l.stackTraces = false) (h : wX4_givenCount gc K) : SMi0 l D ta yX4_givenCount cX4_givenCount 1 FieldType.int 1 [.ref h0] [(h0, .inr (lci kd, [.ref h0a, .ref h0d, .ref h0g, .int gc, .ref h0m]))] ([(h0, .inr (lci kd, [.ref h0a, .ref h0d, .ref h0g, .int gc, .ref h0m]))]) 0 0 K := by
  refine x_sti0 hlt (plainFor_of_name (by decide +kernel)) (Nat.le_of_ble_eq_true rfl) (fun g G hl hD hT Q => ?_)
  subst hl; subst hD; subst hT
  unfold wX4_givenCount at h
  show X g 1 0 [(0, .ref h0)] [] [(h0, .inr (lci kd, [.ref h0a, .ref h0d, .ref h0g, .int gc, .ref h0m]))] 0 0
  refine x_aload_n G rfl dX4_givenCount_0 0 rfl ?_
  refine x_getL kd G 0 rfl 3 (by decide) q517 rfl dX4_givenCount_1 ?_
  exact x_reti0 G Q dX4_givenCount_4 rfl  h XSub.rf (Nat.le_of_ble_eq_true rfl) (Nat.le_of_ble_eq_true rfl)
theorem cdX4_given : yX4_given.cls = RX4 ∧ yX4_given.cls ≠ "java/lang/invoke/MethodHandle" ∧ yX4_given.cls ≠ "java/lang/invoke/VarHandle" ∧ (parseMethodDescriptor yX4_given.desc).map (fun d => d.parameters.length) = some 1 := by decide +kernel
def wX4_given (p0 : Int32) (ln : Nat) (giv : Nat → Int32) (K : Int32 → Prop) : Prop := (vp_in p0 ln ∧ K (giv p0.toNatClampNeg))
set_option maxRecDepth 20000 in
theorem tX4_given {l : Launch} {D : va_G} {ta : Nat → ClassId} {h0 : Nat} {kd : Bool} {h0a : Nat} {h0d : Nat} {h0g : Nat} {gc : Int32} {h0m : Nat} {ln : Nat} {giv : Nat → Int32} {p0 : Int32} {K : Int32 → Prop} (hlt : l.stackTraces = false) (h : wX4_given p0 ln giv K) : SMi0 l D ta yX4_given cX4_given 2 FieldType.int 1 [.ref h0, .int p0] [(h0, .inr (lci kd, [.ref h0a, .ref h0d, .ref h0g, .int gc, .ref h0m])), (h0g, .inl (ta 1, ln, .inl giv))] ([(h0, .inr (lci kd, [.ref h0a, .ref h0d, .ref h0g, .int gc, .ref h0m])), (h0g, .inl (ta 1, ln, .inl giv))]) 0 0 K := by
  refine x_sti0 hlt (plainFor_of_name (by decide +kernel)) (Nat.le_of_ble_eq_true rfl) (fun g G hl hD hT Q => ?_)
  subst hl; subst hD; subst hT
  unfold wX4_given at h
  show X g 2 0 [(0, .ref h0), (1, .int p0)] [] [(h0, .inr (lci kd, [.ref h0a, .ref h0d, .ref h0g, .int gc, .ref h0m])), (h0g, .inl ((xT g) 1, ln, .inl giv))] 0 0
  refine x_aload_n G rfl dX4_given_0 0 rfl ?_
  refine x_getL kd G 0 rfl 2 (by decide) q516 rfl dX4_given_1 ?_
  refine x_iload_n G rfl dX4_given_4 1 rfl ?_
  obtain ⟨hz, h⟩ := h
  refine x_bald G 1 rfl hz dX4_given_5 ?_
  exact x_reti0 G Q dX4_given_6 rfl  h XSub.rf (Nat.le_of_ble_eq_true rfl) (Nat.le_of_ble_eq_true rfl)
theorem cdX4_give : yX4_give.cls = RX4 ∧ yX4_give.cls ≠ "java/lang/invoke/MethodHandle" ∧ yX4_give.cls ≠ "java/lang/invoke/VarHandle" ∧ (parseMethodDescriptor yX4_give.desc).map (fun d => d.parameters.length) = some 1 := by decide +kernel
def wX4_give_L2 (gc : Int32) (ln : Nat) (giv : Nat → Int32) (p0 : Int32) (X20 : Int32 → Prop) (X28 : Int32 → Prop) : Nat → Int32 → Prop
  | 0, _ => False
  | n + 1, v2_1 => ((gc ≤ v2_1 → X28 v2_1) ∧ (¬ gc ≤ v2_1 → (vp_in v2_1 ln ∧ ((¬ (giv v2_1.toNatClampNeg) = p0 → (∀ x_2 : Int32, x_2 = (v2_1 + (1 : Int32)) → wX4_give_L2 gc ln giv p0 X20 X28 n x_2)) ∧ ((giv v2_1.toNatClampNeg) = p0 → X20 v2_1)))))
def wX4_give (p0 : Int32) (gc : Int32) (ln : Nat) (giv : Nat → Int32) (K : Int32 → Int32 → (Nat → Int32) → Prop) : Prop := (∃ m2 : Nat, wX4_give_L2 gc ln giv p0 (fun (v2_5 : Int32) => K (0 : Int32) gc giv) (fun (v2_6 : Int32) => (∀ x_7 : Int32, x_7 = p0.toInt8.toInt32 → (vp_in gc ln ∧ (∀ f_8 : Nat → Int32, f_8 = upd giv gc.toNatClampNeg (vp_nar .byte x_7) → (∀ x_9 : Int32, x_9 = (gc + (1 : Int32)) → K (1 : Int32) x_9 f_8))))) m2 (0 : Int32))
set_option maxRecDepth 20000 in
theorem kX4_give_L2 {g : XG} {h0 : Nat} {kd : Bool} {h0a : Nat} {h0d : Nat} {h0g : Nat} {gc : Int32} {h0m : Nat} {ln : Nat} {giv : Nat → Int32} {p0 : Int32} {X20 : Int32 → Prop} {X28 : Int32 → Prop} (G : XO g RX4 cX4_give 3 1 0 0) (hX20 : ∀ (v2_3 : Int32), X20 v2_3 → X g 3 20 [(2, .int v2_3), (0, .ref h0), (1, .int p0)] [] [(h0, .inr (lci kd, [.ref h0a, .ref h0d, .ref h0g, .int gc, .ref h0m])), (h0g, .inl ((xT g) 1, ln, .inl giv))] 0 0) (hX28 : ∀ (v2_4 : Int32), X28 v2_4 → X g 3 28 [(2, .int v2_4), (0, .ref h0), (1, .int p0)] [] [(h0, .inr (lci kd, [.ref h0a, .ref h0d, .ref h0g, .int gc, .ref h0m])), (h0g, .inl ((xT g) 1, ln, .inl giv))] 0 0) : ∀ (n : Nat) (v2_1 : Int32), wX4_give_L2 gc ln giv p0 X20 X28 n v2_1 → X g 3 2 [(2, .int v2_1), (0, .ref h0), (1, .int p0)] [] [(h0, .inr (lci kd, [.ref h0a, .ref h0d, .ref h0g, .int gc, .ref h0m])), (h0g, .inl ((xT g) 1, ln, .inl giv))] 0 0 := by
  intro n
  induction n with
  | zero => intro _ h; exact h.elim
  | succ n ih =>
    intro v2_1 h
    unfold wX4_give_L2 at h
    refine x_iload_n G rfl dX4_give_2 0 rfl ?_
    refine x_aload_n G rfl dX4_give_3 1 rfl ?_
    refine x_getL kd G 0 rfl 3 (by decide) q517 rfl dX4_give_4 ?_
    refine x_icmp_ge (tgt := 28) G dX4_give_7 rfl (fun c => ?_) (fun c => ?_)
    · replace h := h.1 c
      exact hX28 v2_1 h
    · replace h := h.2 c
      refine x_aload_n G rfl dX4_give_10 1 rfl ?_
      refine x_getL kd G 0 rfl 2 (by decide) q516 rfl dX4_give_11 ?_
      refine x_iload_n G rfl dX4_give_14 0 rfl ?_
      obtain ⟨hz, h⟩ := h
      refine x_bald G 1 rfl hz dX4_give_15 ?_
      refine x_iload_n G rfl dX4_give_16 2 rfl ?_
      refine x_icmp_ne (tgt := 22) G dX4_give_17 rfl (fun c => ?_) (fun c => ?_)
      · replace h := h.1 c
        obtain ⟨x_2, ex_2⟩ : ∃ z : Int32, z = (v2_1 + (1 : Int32)) := ⟨_, rfl⟩
        replace h := h x_2 ex_2
        refine x_iinc (v := x_2) (lv' := [(2, .int x_2), (0, .ref h0), (1, .int p0)]) G dX4_give_22 0 rfl (by rw [ex_2]; rfl) (by decide) rfl ?_
        refine x_goto (tgt := 2) G dX4_give_25 rfl ?_
        exact ih x_2 h
      · replace h := h.2 c
        exact hX20 v2_1 h
set_option maxRecDepth 20000 in
theorem tX4_give {l : Launch} {D : va_G} {ta : Nat → ClassId} {h0 : Nat} {kd : Bool} {h0a : Nat} {h0d : Nat} {h0g : Nat} {gc : Int32} {h0m : Nat} {ln : Nat} {giv : Nat → Int32} {p0 : Int32} {K : Int32 → Int32 → (Nat → Int32) → Prop} (hlt : l.stackTraces = false) (h : wX4_give p0 gc ln giv K) : SMi2 l D ta yX4_give cX4_give 3 FieldType.boolean 1 [.ref h0, .int p0] [(h0, .inr (lci kd, [.ref h0a, .ref h0d, .ref h0g, .int gc, .ref h0m])), (h0g, .inl (ta 1, ln, .inl giv))] (fun (gc' : Int32) (giv' : Nat → Int32) => [(h0, .inr (lci kd, [.ref h0a, .ref h0d, .ref h0g, .int gc', .ref h0m])), (h0g, .inl (ta 1, ln, .inl giv'))]) 0 0 K := by
  refine x_sti2 hlt (plainFor_of_name (by decide +kernel)) (Nat.le_of_ble_eq_true rfl) (fun g G hl hD hT Q => ?_)
  subst hl; subst hD; subst hT
  unfold wX4_give at h
  show X g 3 0 [(0, .ref h0), (1, .int p0)] [] [(h0, .inr (lci kd, [.ref h0a, .ref h0d, .ref h0g, .int gc, .ref h0m])), (h0g, .inl ((xT g) 1, ln, .inl giv))] 0 0
  refine x_iconst (v := (0 : Int32)) G dX4_give_0 (by decide) ?_
  refine x_istore_n (lv' := [(2, .int (0 : Int32)), (0, .ref h0), (1, .int p0)]) G rfl dX4_give_1 (by decide) rfl ?_
  obtain ⟨n0, h⟩ := h
  refine kX4_give_L2 G (fun v2_5 h => ?_) (fun v2_6 h => ?_) n0 _ h
  · refine x_iconst (v := (0 : Int32)) G dX4_give_20 (by decide) ?_
    exact x_reti2 G Q dX4_give_21 rfl gc giv h XSub.rf (Nat.le_of_ble_eq_true rfl) (Nat.le_of_ble_eq_true rfl)
  · refine x_aload_n G rfl dX4_give_28 1 rfl ?_
    refine x_getL kd G 0 rfl 2 (by decide) q516 rfl dX4_give_29 ?_
    refine x_aload_n G rfl dX4_give_32 1 rfl ?_
    refine x_getL kd G 0 rfl 3 (by decide) q517 rfl dX4_give_33 ?_
    refine x_iload_n G rfl dX4_give_36 2 rfl ?_
    refine x_i2b G dX4_give_37 ?_
    refine x_topi (fun x_7 ex_7 => ?_)
    replace h := h x_7 ex_7
    obtain ⟨hz, h⟩ := h
    obtain ⟨f_8, ef_8⟩ : ∃ z : Nat → Int32, z = upd giv gc.toNatClampNeg (vp_nar .byte x_7) := ⟨_, rfl⟩
    replace h := h f_8 ef_8
    refine x_bast G 1 rfl hz (by rw [← ef_8]) dX4_give_38 ?_
    show X g 3 39 [(2, .int v2_6), (0, .ref h0), (1, .int p0)] [] [(h0, .inr (lci kd, [.ref h0a, .ref h0d, .ref h0g, .int gc, .ref h0m])), (h0g, .inl ((xT g) 1, ln, .inl f_8))] 0 0
    refine x_aload_n G rfl dX4_give_39 1 rfl ?_
    refine x_dup G dX4_give_40 rfl ?_
    refine x_getL kd G 0 rfl 3 (by decide) q517 rfl dX4_give_41 ?_
    refine x_iconst (v := (1 : Int32)) G dX4_give_44 (by decide) ?_
    refine x_iadd G dX4_give_45 ?_
    refine x_topi (fun x_9 ex_9 => ?_)
    replace h := h x_9 ex_9
    refine x_putL kd G 0 rfl 3 (by decide) q517 rfl rfl rfl (Nat.le_of_ble_eq_true rfl) rfl dX4_give_46 ?_
    show X g 3 49 [(2, .int v2_6), (0, .ref h0), (1, .int p0)] [] [(h0, .inr (lci kd, [.ref h0a, .ref h0d, .ref h0g, .int x_9, .ref h0m])), (h0g, .inl ((xT g) 1, ln, .inl f_8))] 0 0
    refine x_iconst (v := (1 : Int32)) G dX4_give_49 (by decide) ?_
    exact x_reti2 G Q dX4_give_50 rfl x_9 f_8 h XSub.rf (Nat.le_of_ble_eq_true rfl) (Nat.le_of_ble_eq_true rfl)
theorem cdX4_book : yX4_book.cls = RX4 ∧ yX4_book.cls ≠ "java/lang/invoke/MethodHandle" ∧ yX4_book.cls ≠ "java/lang/invoke/VarHandle" ∧ (parseMethodDescriptor yX4_book.desc).map (fun d => d.parameters.length) = some 3 := by decide +kernel
def wX4_book (p0 : Int32) (p1 : Int32) (p2 : Int32) (ln : Nat) (acc : Nat → Int32) (day : Nat → Int32) (K : (Nat → Int32) → (Nat → Int32) → Prop) : Prop := (∀ x_1 : Int32, x_1 = p1.toInt8.toInt32 → (vp_in p0 ln ∧ (∀ f_2 : Nat → Int32, f_2 = upd acc p0.toNatClampNeg (vp_nar .byte x_1) → (∀ x_3 : Int32, x_3 = p2.toInt8.toInt32 → (vp_in p0 ln ∧ (∀ f_4 : Nat → Int32, f_4 = upd day p0.toNatClampNeg (vp_nar .byte x_3) → K f_2 f_4))))))
set_option maxRecDepth 20000 in
theorem tX4_book {l : Launch} {D : va_G} {ta : Nat → ClassId} {h0 : Nat} {kd : Bool} {h0a : Nat} {h0d : Nat} {h0g : Nat} {gc : Int32} {h0m : Nat} {ln : Nat} {acc : Nat → Int32} {day : Nat → Int32} {p0 : Int32} {p1 : Int32} {p2 : Int32} {K : (Nat → Int32) → (Nat → Int32) → Prop} (hlt : l.stackTraces = false) (h : wX4_book p0 p1 p2 ln acc day K) : SMv2 l D ta yX4_book cX4_book 4 1 [.ref h0, .int p0, .int p1, .int p2] [(h0, .inr (lci kd, [.ref h0a, .ref h0d, .ref h0g, .int gc, .ref h0m])), (h0a, .inl (ta 1, ln, .inl acc)), (h0d, .inl (ta 1, ln, .inl day))] (fun (acc' : Nat → Int32) (day' : Nat → Int32) => [(h0, .inr (lci kd, [.ref h0a, .ref h0d, .ref h0g, .int gc, .ref h0m])), (h0a, .inl (ta 1, ln, .inl acc')), (h0d, .inl (ta 1, ln, .inl day'))]) 0 0 K := by
  refine x_stv2 hlt (plainFor_of_name (by decide +kernel)) (Nat.le_of_ble_eq_true rfl) (fun g G hl hD hT Q => ?_)
  subst hl; subst hD; subst hT
  unfold wX4_book at h
  show X g 4 0 [(0, .ref h0), (1, .int p0), (2, .int p1), (3, .int p2)] [] [(h0, .inr (lci kd, [.ref h0a, .ref h0d, .ref h0g, .int gc, .ref h0m])), (h0a, .inl ((xT g) 1, ln, .inl acc)), (h0d, .inl ((xT g) 1, ln, .inl day))] 0 0
  refine x_aload_n G rfl dX4_book_0 0 rfl ?_
  refine x_getL kd G 0 rfl 0 (by decide) q514 rfl dX4_book_1 ?_
  refine x_iload_n G rfl dX4_book_4 1 rfl ?_
  refine x_iload_n G rfl dX4_book_5 2 rfl ?_
  refine x_i2b G dX4_book_6 ?_
  refine x_topi (fun x_1 ex_1 => ?_)
  replace h := h x_1 ex_1
  obtain ⟨hz, h⟩ := h
  obtain ⟨f_2, ef_2⟩ : ∃ z : Nat → Int32, z = upd acc p0.toNatClampNeg (vp_nar .byte x_1) := ⟨_, rfl⟩
  replace h := h f_2 ef_2
  refine x_bast G 1 rfl hz (by rw [← ef_2]) dX4_book_7 ?_
  show X g 4 8 [(0, .ref h0), (1, .int p0), (2, .int p1), (3, .int p2)] [] [(h0, .inr (lci kd, [.ref h0a, .ref h0d, .ref h0g, .int gc, .ref h0m])), (h0a, .inl ((xT g) 1, ln, .inl f_2)), (h0d, .inl ((xT g) 1, ln, .inl day))] 0 0
  refine x_aload_n G rfl dX4_book_8 0 rfl ?_
  refine x_getL kd G 0 rfl 1 (by decide) q515 rfl dX4_book_9 ?_
  refine x_iload_n G rfl dX4_book_12 1 rfl ?_
  refine x_iload_n G rfl dX4_book_13 3 rfl ?_
  refine x_i2b G dX4_book_14 ?_
  refine x_topi (fun x_3 ex_3 => ?_)
  replace h := h x_3 ex_3
  obtain ⟨hz, h⟩ := h
  obtain ⟨f_4, ef_4⟩ : ∃ z : Nat → Int32, z = upd day p0.toNatClampNeg (vp_nar .byte x_3) := ⟨_, rfl⟩
  replace h := h f_4 ef_4
  refine x_bast G 2 rfl hz (by rw [← ef_4]) dX4_book_15 ?_
  show X g 4 16 [(0, .ref h0), (1, .int p0), (2, .int p1), (3, .int p2)] [] [(h0, .inr (lci kd, [.ref h0a, .ref h0d, .ref h0g, .int gc, .ref h0m])), (h0a, .inl ((xT g) 1, ln, .inl f_2)), (h0d, .inl ((xT g) 1, ln, .inl f_4))] 0 0
  exact x_retv2 G Q dX4_book_16 f_2 f_4 h XSub.rf (Nat.le_of_ble_eq_true rfl) (Nat.le_of_ble_eq_true rfl)
def wX4_book_X (p0 : Int32) (p1 : Int32) (p2 : Int32) (ln : Nat) (acc : Nat → Int32) (day : Nat → Int32) (K : (Nat → Int32) → (Nat → Int32) → Prop) (E : String → (Nat → Int32) → (Nat → Int32) → Prop) : Prop := (∀ x_1 : Int32, x_1 = p1.toInt8.toInt32 → (ln ≤ 1000 ∧ ((¬ vp_in p0 ln → E "java/lang/ArrayIndexOutOfBoundsException" acc day) ∧ (vp_in p0 ln → (∀ f_2 : Nat → Int32, f_2 = upd acc p0.toNatClampNeg (vp_nar .byte x_1) → (∀ x_3 : Int32, x_3 = p2.toInt8.toInt32 → (ln ≤ 1000 ∧ ((¬ vp_in p0 ln → E "java/lang/ArrayIndexOutOfBoundsException" f_2 day) ∧ (vp_in p0 ln → (∀ f_4 : Nat → Int32, f_4 = upd day p0.toNatClampNeg (vp_nar .byte x_3) → K f_2 f_4))))))))))
set_option maxRecDepth 20000 in
theorem tX4_book_X {l : Launch} {D : va_G} {ta : Nat → ClassId} {h0 : Nat} {kd : Bool} {h0a : Nat} {h0d : Nat} {h0g : Nat} {gc : Int32} {h0m : Nat} {ln : Nat} {acc : Nat → Int32} {day : Nat → Int32} {p0 : Int32} {p1 : Int32} {p2 : Int32} {K : (Nat → Int32) → (Nat → Int32) → Prop} {E : String → (Nat → Int32) → (Nat → Int32) → Prop} (hlt : l.stackTraces = false) (h : wX4_book_X p0 p1 p2 ln acc day K E) : SXv2 l D ta yX4_book cX4_book 4 1 [.ref h0, .int p0, .int p1, .int p2] [(h0, .inr (lci kd, [.ref h0a, .ref h0d, .ref h0g, .int gc, .ref h0m])), (h0a, .inl (ta 1, ln, .inl acc)), (h0d, .inl (ta 1, ln, .inl day))] (fun (acc' : Nat → Int32) (day' : Nat → Int32) => [(h0, .inr (lci kd, [.ref h0a, .ref h0d, .ref h0g, .int gc, .ref h0m])), (h0a, .inl (ta 1, ln, .inl acc')), (h0d, .inl (ta 1, ln, .inl day'))]) 3 222 K E := by
  refine x_sxv2 hlt (by decide +kernel) (Nat.le_of_ble_eq_true rfl) (fun g G hl hD hT hN Q => ?_)
  subst hl; subst hD; subst hT
  unfold wX4_book_X at h
  show X g 4 0 [(0, .ref h0), (1, .int p0), (2, .int p1), (3, .int p2)] [] [(h0, .inr (lci kd, [.ref h0a, .ref h0d, .ref h0g, .int gc, .ref h0m])), (h0a, .inl ((xT g) 1, ln, .inl acc)), (h0d, .inl ((xT g) 1, ln, .inl day))] 0 0
  refine x_aload_n G rfl dX4_book_0 0 rfl ?_
  refine x_getL kd G 0 rfl 0 (by decide) q514 rfl dX4_book_1 ?_
  refine x_iload_n G rfl dX4_book_4 1 rfl ?_
  refine x_iload_n G rfl dX4_book_5 2 rfl ?_
  refine x_i2b G dX4_book_6 ?_
  refine x_topi (fun x_1 ex_1 => ?_)
  replace h := h x_1 ex_1
  obtain ⟨hb, h⟩ := h
  by_cases hz : vp_in p0 ln
  case neg =>
    replace h := h.1 hz
    refine x_bastZ G 1 rfl hb hz (Nat.le_of_ble_eq_true rfl) (Nat.le_of_ble_eq_true rfl) (Nat.le_of_ble_eq_true rfl) dX4_book_7 ?_
    exact x_ov2 G Q acc day h XSub.rf (Nat.le_of_ble_eq_true rfl) (Nat.le_of_ble_eq_true rfl)
  replace h := h.2 hz
  obtain ⟨f_2, ef_2⟩ : ∃ z : Nat → Int32, z = upd acc p0.toNatClampNeg (vp_nar .byte x_1) := ⟨_, rfl⟩
  replace h := h f_2 ef_2
  refine x_bast G 1 rfl hz (by rw [← ef_2]) dX4_book_7 ?_
  show X g 4 8 [(0, .ref h0), (1, .int p0), (2, .int p1), (3, .int p2)] [] [(h0, .inr (lci kd, [.ref h0a, .ref h0d, .ref h0g, .int gc, .ref h0m])), (h0a, .inl ((xT g) 1, ln, .inl f_2)), (h0d, .inl ((xT g) 1, ln, .inl day))] 0 0
  refine x_aload_n G rfl dX4_book_8 0 rfl ?_
  refine x_getL kd G 0 rfl 1 (by decide) q515 rfl dX4_book_9 ?_
  refine x_iload_n G rfl dX4_book_12 1 rfl ?_
  refine x_iload_n G rfl dX4_book_13 3 rfl ?_
  refine x_i2b G dX4_book_14 ?_
  refine x_topi (fun x_3 ex_3 => ?_)
  replace h := h x_3 ex_3
  obtain ⟨hb, h⟩ := h
  by_cases hz : vp_in p0 ln
  case neg =>
    replace h := h.1 hz
    refine x_bastZ G 2 rfl hb hz (Nat.le_of_ble_eq_true rfl) (Nat.le_of_ble_eq_true rfl) (Nat.le_of_ble_eq_true rfl) dX4_book_15 ?_
    exact x_ov2 G Q f_2 day h XSub.rf (Nat.le_of_ble_eq_true rfl) (Nat.le_of_ble_eq_true rfl)
  replace h := h.2 hz
  obtain ⟨f_4, ef_4⟩ : ∃ z : Nat → Int32, z = upd day p0.toNatClampNeg (vp_nar .byte x_3) := ⟨_, rfl⟩
  replace h := h f_4 ef_4
  refine x_bast G 2 rfl hz (by rw [← ef_4]) dX4_book_15 ?_
  show X g 4 16 [(0, .ref h0), (1, .int p0), (2, .int p1), (3, .int p2)] [] [(h0, .inr (lci kd, [.ref h0a, .ref h0d, .ref h0g, .int gc, .ref h0m])), (h0a, .inl ((xT g) 1, ln, .inl f_2)), (h0d, .inl ((xT g) 1, ln, .inl f_4))] 0 0
  exact x_yv2 G Q dX4_book_16 f_2 f_4 h XSub.rf (Nat.le_of_ble_eq_true rfl) (Nat.le_of_ble_eq_true rfl)
theorem cdX4_account : yX4_account.cls = RX4 ∧ yX4_account.cls ≠ "java/lang/invoke/MethodHandle" ∧ yX4_account.cls ≠ "java/lang/invoke/VarHandle" ∧ (parseMethodDescriptor yX4_account.desc).map (fun d => d.parameters.length) = some 1 := by decide +kernel
def wX4_account (p0 : Int32) (ln : Nat) (acc : Nat → Int32) (K : Int32 → Prop) : Prop := (vp_in p0 ln ∧ K (acc p0.toNatClampNeg))
set_option maxRecDepth 20000 in
theorem tX4_account {l : Launch} {D : va_G} {ta : Nat → ClassId} {h0 : Nat} {kd : Bool} {h0a : Nat} {h0d : Nat} {h0g : Nat} {gc : Int32} {h0m : Nat} {ln : Nat} {acc : Nat → Int32} {p0 : Int32} {K : Int32 → Prop} (hlt : l.stackTraces = false) (h : wX4_account p0 ln acc K) : SMi0 l D ta yX4_account cX4_account 2 FieldType.int 1 [.ref h0, .int p0] [(h0, .inr (lci kd, [.ref h0a, .ref h0d, .ref h0g, .int gc, .ref h0m])), (h0a, .inl (ta 1, ln, .inl acc))] ([(h0, .inr (lci kd, [.ref h0a, .ref h0d, .ref h0g, .int gc, .ref h0m])), (h0a, .inl (ta 1, ln, .inl acc))]) 0 0 K := by
  refine x_sti0 hlt (plainFor_of_name (by decide +kernel)) (Nat.le_of_ble_eq_true rfl) (fun g G hl hD hT Q => ?_)
  subst hl; subst hD; subst hT
  unfold wX4_account at h
  show X g 2 0 [(0, .ref h0), (1, .int p0)] [] [(h0, .inr (lci kd, [.ref h0a, .ref h0d, .ref h0g, .int gc, .ref h0m])), (h0a, .inl ((xT g) 1, ln, .inl acc))] 0 0
  refine x_aload_n G rfl dX4_account_0 0 rfl ?_
  refine x_getL kd G 0 rfl 0 (by decide) q514 rfl dX4_account_1 ?_
  refine x_iload_n G rfl dX4_account_4 1 rfl ?_
  obtain ⟨hz, h⟩ := h
  refine x_bald G 1 rfl hz dX4_account_5 ?_
  exact x_reti0 G Q dX4_account_6 rfl  h XSub.rf (Nat.le_of_ble_eq_true rfl) (Nat.le_of_ble_eq_true rfl)
def wX4_account_X (p0 : Int32) (ln : Nat) (acc : Nat → Int32) (K : Int32 → Prop) (E : String → Prop) : Prop := (ln ≤ 1000 ∧ ((¬ vp_in p0 ln → E "java/lang/ArrayIndexOutOfBoundsException") ∧ (vp_in p0 ln → K (acc p0.toNatClampNeg))))
set_option maxRecDepth 20000 in
theorem tX4_account_X {l : Launch} {D : va_G} {ta : Nat → ClassId} {h0 : Nat} {kd : Bool} {h0a : Nat} {h0d : Nat} {h0g : Nat} {gc : Int32} {h0m : Nat} {ln : Nat} {acc : Nat → Int32} {p0 : Int32} {K : Int32 → Prop} {E : String → Prop} (hlt : l.stackTraces = false) (h : wX4_account_X p0 ln acc K E) : SXi0 l D ta yX4_account cX4_account 2 FieldType.int 1 [.ref h0, .int p0] [(h0, .inr (lci kd, [.ref h0a, .ref h0d, .ref h0g, .int gc, .ref h0m])), (h0a, .inl (ta 1, ln, .inl acc))] ([(h0, .inr (lci kd, [.ref h0a, .ref h0d, .ref h0g, .int gc, .ref h0m])), (h0a, .inl (ta 1, ln, .inl acc))]) 3 222 K E := by
  refine x_sxi0 hlt (by decide +kernel) (Nat.le_of_ble_eq_true rfl) (fun g G hl hD hT hN Q => ?_)
  subst hl; subst hD; subst hT
  unfold wX4_account_X at h
  show X g 2 0 [(0, .ref h0), (1, .int p0)] [] [(h0, .inr (lci kd, [.ref h0a, .ref h0d, .ref h0g, .int gc, .ref h0m])), (h0a, .inl ((xT g) 1, ln, .inl acc))] 0 0
  refine x_aload_n G rfl dX4_account_0 0 rfl ?_
  refine x_getL kd G 0 rfl 0 (by decide) q514 rfl dX4_account_1 ?_
  refine x_iload_n G rfl dX4_account_4 1 rfl ?_
  obtain ⟨hb, h⟩ := h
  by_cases hz : vp_in p0 ln
  case neg =>
    replace h := h.1 hz
    refine x_baldZ G 1 rfl hb hz (Nat.le_of_ble_eq_true rfl) (Nat.le_of_ble_eq_true rfl) (Nat.le_of_ble_eq_true rfl) dX4_account_5 ?_
    exact x_oi0 G Q h XSub.rf (Nat.le_of_ble_eq_true rfl) (Nat.le_of_ble_eq_true rfl)
  replace h := h.2 hz
  refine x_bald G 1 rfl hz dX4_account_5 ?_
  exact x_yi0 G Q dX4_account_6 rfl  h XSub.rf (Nat.le_of_ble_eq_true rfl) (Nat.le_of_ble_eq_true rfl)
theorem cdX4_day : yX4_day.cls = RX4 ∧ yX4_day.cls ≠ "java/lang/invoke/MethodHandle" ∧ yX4_day.cls ≠ "java/lang/invoke/VarHandle" ∧ (parseMethodDescriptor yX4_day.desc).map (fun d => d.parameters.length) = some 1 := by decide +kernel
def wX4_day (p0 : Int32) (ln : Nat) (day : Nat → Int32) (K : Int32 → Prop) : Prop := (vp_in p0 ln ∧ K (day p0.toNatClampNeg))
set_option maxRecDepth 20000 in
theorem tX4_day {l : Launch} {D : va_G} {ta : Nat → ClassId} {h0 : Nat} {kd : Bool} {h0a : Nat} {h0d : Nat} {h0g : Nat} {gc : Int32} {h0m : Nat} {ln : Nat} {day : Nat → Int32} {p0 : Int32} {K : Int32 → Prop} (hlt : l.stackTraces = false) (h : wX4_day p0 ln day K) : SMi0 l D ta yX4_day cX4_day 2 FieldType.int 1 [.ref h0, .int p0] [(h0, .inr (lci kd, [.ref h0a, .ref h0d, .ref h0g, .int gc, .ref h0m])), (h0d, .inl (ta 1, ln, .inl day))] ([(h0, .inr (lci kd, [.ref h0a, .ref h0d, .ref h0g, .int gc, .ref h0m])), (h0d, .inl (ta 1, ln, .inl day))]) 0 0 K := by
  refine x_sti0 hlt (plainFor_of_name (by decide +kernel)) (Nat.le_of_ble_eq_true rfl) (fun g G hl hD hT Q => ?_)
  subst hl; subst hD; subst hT
  unfold wX4_day at h
  show X g 2 0 [(0, .ref h0), (1, .int p0)] [] [(h0, .inr (lci kd, [.ref h0a, .ref h0d, .ref h0g, .int gc, .ref h0m])), (h0d, .inl ((xT g) 1, ln, .inl day))] 0 0
  refine x_aload_n G rfl dX4_day_0 0 rfl ?_
  refine x_getL kd G 0 rfl 1 (by decide) q515 rfl dX4_day_1 ?_
  refine x_iload_n G rfl dX4_day_4 1 rfl ?_
  obtain ⟨hz, h⟩ := h
  refine x_bald G 1 rfl hz dX4_day_5 ?_
  exact x_reti0 G Q dX4_day_6 rfl  h XSub.rf (Nat.le_of_ble_eq_true rfl) (Nat.le_of_ble_eq_true rfl)
def wX4_day_X (p0 : Int32) (ln : Nat) (day : Nat → Int32) (K : Int32 → Prop) (E : String → Prop) : Prop := (ln ≤ 1000 ∧ ((¬ vp_in p0 ln → E "java/lang/ArrayIndexOutOfBoundsException") ∧ (vp_in p0 ln → K (day p0.toNatClampNeg))))
set_option maxRecDepth 20000 in
theorem tX4_day_X {l : Launch} {D : va_G} {ta : Nat → ClassId} {h0 : Nat} {kd : Bool} {h0a : Nat} {h0d : Nat} {h0g : Nat} {gc : Int32} {h0m : Nat} {ln : Nat} {day : Nat → Int32} {p0 : Int32} {K : Int32 → Prop} {E : String → Prop} (hlt : l.stackTraces = false) (h : wX4_day_X p0 ln day K E) : SXi0 l D ta yX4_day cX4_day 2 FieldType.int 1 [.ref h0, .int p0] [(h0, .inr (lci kd, [.ref h0a, .ref h0d, .ref h0g, .int gc, .ref h0m])), (h0d, .inl (ta 1, ln, .inl day))] ([(h0, .inr (lci kd, [.ref h0a, .ref h0d, .ref h0g, .int gc, .ref h0m])), (h0d, .inl (ta 1, ln, .inl day))]) 3 222 K E := by
  refine x_sxi0 hlt (by decide +kernel) (Nat.le_of_ble_eq_true rfl) (fun g G hl hD hT hN Q => ?_)
  subst hl; subst hD; subst hT
  unfold wX4_day_X at h
  show X g 2 0 [(0, .ref h0), (1, .int p0)] [] [(h0, .inr (lci kd, [.ref h0a, .ref h0d, .ref h0g, .int gc, .ref h0m])), (h0d, .inl ((xT g) 1, ln, .inl day))] 0 0
  refine x_aload_n G rfl dX4_day_0 0 rfl ?_
  refine x_getL kd G 0 rfl 1 (by decide) q515 rfl dX4_day_1 ?_
  refine x_iload_n G rfl dX4_day_4 1 rfl ?_
  obtain ⟨hb, h⟩ := h
  by_cases hz : vp_in p0 ln
  case neg =>
    replace h := h.1 hz
    refine x_baldZ G 1 rfl hb hz (Nat.le_of_ble_eq_true rfl) (Nat.le_of_ble_eq_true rfl) (Nat.le_of_ble_eq_true rfl) dX4_day_5 ?_
    exact x_oi0 G Q h XSub.rf (Nat.le_of_ble_eq_true rfl) (Nat.le_of_ble_eq_true rfl)
  replace h := h.2 hz
  refine x_bald G 1 rfl hz dX4_day_5 ?_
  exact x_yi0 G Q dX4_day_6 rfl  h XSub.rf (Nat.le_of_ble_eq_true rfl) (Nat.le_of_ble_eq_true rfl)
