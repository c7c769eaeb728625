/-! the law's callers. Printed by gen/x0.py -/
theorem cdX0_ledger : yX0_ledger.cls ≠ "java/lang/invoke/MethodHandle" ∧ yX0_ledger.cls ≠ "java/lang/invoke/VarHandle" ∧ (parseMethodDescriptor yX0_ledger.desc).map (fun d => d.parameters.length) = some 5 := by decide +kernel
def wX0_ledger (p1 : Int32) (p2 : Int32) (p3 : Int32) (of : Nat → Int64) (cur : Int32) (ta : Nat → ClassId) (cs : CS) (K : Int32 → (Nat → Int64) → Int32 → CS → Prop) (E : String → (Nat → Int64) → Int32 → CS → Prop) : Prop := (bX1_ledger ta p1 p2 p3 cur cs (fun (r_1 : Int32) (cur_2 : Int32) (cs_3 : CS) => (∀ y_6 : Int64, y_6 = r_1.toInt64 → (vp_in (0 : Int32) 1 ∧ (∀ f_7 : Nat → Int64, f_7 = vp_updL of (0 : Int32).toNatClampNeg y_6 → K (0 : Int32) f_7 cur_2 cs_3)))) (fun (En : String) (cur_2 : Int32) (cs_3 : CS) => ((En = "java/lang/ArrayIndexOutOfBoundsException" ∧ K (1 : Int32) of cur_2 cs_3) ∨ (En = "java/lang/NegativeArraySizeException" ∧ K (2 : Int32) of cur_2 cs_3))))
set_option maxRecDepth 20000 in
theorem tX0_ledger {l : Launch} {D : va_G} {ta : Nat → ClassId} {q4 : Nat} {of : Nat → Int64} {q0 : Nat} {cur : Int32} {ca : Nat → Nat} {cs : CS} {p1 : Int32} {p2 : Int32} {p3 : Int32} {K : Int32 → (Nat → Int64) → Int32 → CS → Prop} {E : String → (Nat → Int64) → Int32 → CS → Prop} (hlt : l.stackTraces = false) (h : wX0_ledger p1 p2 p3 of cur ta cs K E) : SHi3 l D ta yX0_ledger cX0_ledger 6 FieldType.int  [(0, 12, 15, 13), (0, 12, 19, 15)] 6 [.ref q0, .int p1, .int p2, .int p3, .ref q4] ([(q4, .inl (ta 3, 1, .inr (.inl of))), (q0, .inr (0, [.ref (ca 0), .ref (ca 1), .ref (ca 2), .ref (ca 3), .ref (ca 4), .int cur, .ref (ca 5)]))] ++ CR ca ta cs) (fun (of' : Nat → Int64) (cur' : Int32) (cs' : CS) => ([(q4, .inl (ta 3, 1, .inr (.inl of'))), (q0, .inr (0, [.ref (ca 0), .ref (ca 1), .ref (ca 2), .ref (ca 3), .ref (ca 4), .int cur', .ref (ca 5)]))] ++ CR ca ta cs')) 5 245 K E := by
  refine x_shi3 hlt (by decide +kernel) (Nat.le_of_ble_eq_true rfl) (fun g G hl hD hT Q => ?_)
  subst hl; subst hD; subst hT
  unfold wX0_ledger at h
  show X g 6 0 [(0, .ref q0), (1, .int p1), (2, .int p2), (3, .int p3), (4, .ref q4)] [] ([(q4, .inl ((xT g) 3, 1, .inr (.inl of))), (q0, .inr (0, [.ref (ca 0), .ref (ca 1), .ref (ca 2), .ref (ca 3), .ref (ca 4), .int cur, .ref (ca 5)]))] ++ CR ca (xT g) cs) 0 0
  refine x_aload G dX0_ledger_0 4 rfl ?_
  refine x_iconst (v := (0 : Int32)) G dX0_ledger_2 (by decide) ?_
  refine x_aload_n G rfl dX0_ledger_3 0 rfl ?_
  refine x_iload_n G rfl dX0_ledger_4 1 rfl ?_
  refine x_iload_n G rfl dX0_ledger_5 2 rfl ?_
  refine x_iload_n G rfl dX0_ledger_6 3 rfl ?_
  refine x_cXVi2 (wc := (CW q0 ca (xT g) cur cs)) (As := [.int p1, .int p2, .int p3]) (rest := [.int (0 : Int32), .ref q4]) G [(q4, .inl ((xT g) 3, 1, .inr (.inl of)))] XSub.rf (uX1_ledger G.noTraces h) (lw_V q497 q498 q499 q65 q500) cdX1_ledger 0 1 rfl rfl rfl (by decide) (by decide) rfl (Nat.le_of_ble_eq_true rfl) (Nat.le_of_ble_eq_true rfl) (Nat.le_of_ble_eq_true rfl) dX0_ledger_7 (fun En cur_2 cs_3 h => ?_) (fun r_1 cur_2 cs_3 h => ?_)
  · rcases h with ⟨rfl, h⟩ | ⟨rfl, h⟩
    · refine x_catch G Q.2 (tableOf []) ⟨0, 12, 15, 13⟩ (tableOf [(0, 12, 19, 15)]) rfl (fun _ h => absurd h List.not_mem_nil) (by decide) (by decide) q392 (by decide) rfl (fun q_4 => ?_)
      refine x_astore (lv' := [(5, .ref q_4), (0, .ref q0), (1, .int p1), (2, .int p2), (3, .int p3), (4, .ref q4)]) G dX0_ledger_15 (by decide) rfl ?_
      refine x_iconst (v := (1 : Int32)) G dX0_ledger_17 (by decide) ?_
      exact x_hi3 G Q dX0_ledger_18 rfl of cur_2 cs_3 h XSub.rf (Nat.le_of_ble_eq_true rfl) (Nat.le_of_ble_eq_true rfl)
    · refine x_catch G Q.2 (tableOf [(0, 12, 15, 13)]) ⟨0, 12, 19, 15⟩ (tableOf []) rfl (by intro z hz; simp only [tableOf, List.map_cons, List.map_nil, List.mem_cons, List.not_mem_nil, or_false] at hz; rcases hz with rfl <;> refine Or.inr ⟨by decide, ?_⟩ <;> first | exact ⟨_, q392, by decide⟩ | skip) (by decide) (by decide) q483 (by decide) rfl (fun q_5 => ?_)
      refine x_astore (lv' := [(5, .ref q_5), (0, .ref q0), (1, .int p1), (2, .int p2), (3, .int p3), (4, .ref q4)]) G dX0_ledger_19 (by decide) rfl ?_
      refine x_iconst (v := (2 : Int32)) G dX0_ledger_21 (by decide) ?_
      exact x_hi3 G Q dX0_ledger_22 rfl of cur_2 cs_3 h XSub.rf (Nat.le_of_ble_eq_true rfl) (Nat.le_of_ble_eq_true rfl)
  show X g 6 10 [(0, .ref q0), (1, .int p1), (2, .int p2), (3, .int p3), (4, .ref q4)] [.int r_1, .int (0 : Int32), .ref q4] ([(q4, .inl ((xT g) 3, 1, .inr (.inl of))), (q0, .inr (0, [.ref (ca 0), .ref (ca 1), .ref (ca 2), .ref (ca 3), .ref (ca 4), .int cur_2, .ref (ca 5)]))] ++ CR ca (xT g) cs_3) 5 245
  refine x_i2l G dX0_ledger_10 ?_
  refine x_topl (fun y_6 ey_6 => ?_)
  replace h := h y_6 ey_6
  obtain ⟨hz, h⟩ := h
  obtain ⟨f_7, ef_7⟩ : ∃ z : Nat → Int64, z = vp_updL of (0 : Int32).toNatClampNeg y_6 := ⟨_, rfl⟩
  replace h := h f_7 ef_7
  refine x_last G 0 rfl hz (by rw [← ef_7]) dX0_ledger_11 ?_
  show X g 6 12 [(0, .ref q0), (1, .int p1), (2, .int p2), (3, .int p3), (4, .ref q4)] [] ([(q4, .inl ((xT g) 3, 1, .inr (.inl f_7))), (q0, .inr (0, [.ref (ca 0), .ref (ca 1), .ref (ca 2), .ref (ca 3), .ref (ca 4), .int cur_2, .ref (ca 5)]))] ++ CR ca (xT g) cs_3) 5 245
  refine x_goto (tgt := 23) G dX0_ledger_12 rfl ?_
  refine x_iconst (v := (0 : Int32)) G dX0_ledger_23 (by decide) ?_
  exact x_hi3 G Q dX0_ledger_24 rfl f_7 cur_2 cs_3 h XSub.rf (Nat.le_of_ble_eq_true rfl) (Nat.le_of_ble_eq_true rfl)
theorem cdX0_set : yX0_set.cls ≠ "java/lang/invoke/MethodHandle" ∧ yX0_set.cls ≠ "java/lang/invoke/VarHandle" ∧ (parseMethodDescriptor yX0_set.desc).map (fun d => d.parameters.length) = some 5 := by decide +kernel
def wX0_set (p1 : Int32) (p2 : Int32) (p3 : Int64) (of : Nat → Int64) (cur : Int32) (ta : Nat → ClassId) (cs : CS) (K : Int32 → (Nat → Int64) → Int32 → CS → Prop) (E : String → (Nat → Int64) → Int32 → CS → Prop) : Prop := (bX1_set ta p1 p2 p3 cur cs (fun (r_1 : Int32) (cur_2 : Int32) (cs_3 : CS) => (∀ y_6 : Int64, y_6 = r_1.toInt64 → (vp_in (0 : Int32) 1 ∧ (∀ f_7 : Nat → Int64, f_7 = vp_updL of (0 : Int32).toNatClampNeg y_6 → K (0 : Int32) f_7 cur_2 cs_3)))) (fun (En : String) (cur_2 : Int32) (cs_3 : CS) => ((En = "java/lang/NullPointerException" ∧ K (1 : Int32) of cur_2 cs_3) ∨ (En = "java/lang/ArrayIndexOutOfBoundsException" ∧ K (2 : Int32) of cur_2 cs_3))))
set_option maxRecDepth 20000 in
theorem tX0_set {l : Launch} {D : va_G} {ta : Nat → ClassId} {q4 : Nat} {of : Nat → Int64} {q0 : Nat} {cur : Int32} {ca : Nat → Nat} {cs : CS} {p1 : Int32} {p2 : Int32} {p3 : Int64} {K : Int32 → (Nat → Int64) → Int32 → CS → Prop} {E : String → (Nat → Int64) → Int32 → CS → Prop} (hlt : l.stackTraces = false) (h : wX0_set p1 p2 p3 of cur ta cs K E) : SHi3 l D ta yX0_set cX0_set 7 FieldType.int  [(0, 12, 15, 21), (0, 12, 19, 13)] 5 [.ref q0, .int p1, .int p2, .long p3, .ref q4] ([(q4, .inl (ta 3, 1, .inr (.inl of))), (q0, .inr (0, [.ref (ca 0), .ref (ca 1), .ref (ca 2), .ref (ca 3), .ref (ca 4), .int cur, .ref (ca 5)]))] ++ CR ca ta cs) (fun (of' : Nat → Int64) (cur' : Int32) (cs' : CS) => ([(q4, .inl (ta 3, 1, .inr (.inl of'))), (q0, .inr (0, [.ref (ca 0), .ref (ca 1), .ref (ca 2), .ref (ca 3), .ref (ca 4), .int cur', .ref (ca 5)]))] ++ CR ca ta cs')) 3 222 K E := by
  refine x_shi3 hlt (by decide +kernel) (Nat.le_of_ble_eq_true rfl) (fun g G hl hD hT Q => ?_)
  subst hl; subst hD; subst hT
  unfold wX0_set at h
  show X g 7 0 [(0, .ref q0), (1, .int p1), (2, .int p2), (3, .long p3), (5, .ref q4)] [] ([(q4, .inl ((xT g) 3, 1, .inr (.inl of))), (q0, .inr (0, [.ref (ca 0), .ref (ca 1), .ref (ca 2), .ref (ca 3), .ref (ca 4), .int cur, .ref (ca 5)]))] ++ CR ca (xT g) cs) 0 0
  refine x_aload G dX0_set_0 4 rfl ?_
  refine x_iconst (v := (0 : Int32)) G dX0_set_2 (by decide) ?_
  refine x_aload_n G rfl dX0_set_3 0 rfl ?_
  refine x_iload_n G rfl dX0_set_4 1 rfl ?_
  refine x_iload_n G rfl dX0_set_5 2 rfl ?_
  refine x_lload_n G rfl dX0_set_6 3 rfl ?_
  refine x_cXVi2 (wc := (CW q0 ca (xT g) cur cs)) (As := [.int p1, .int p2, .long p3]) (rest := [.int (0 : Int32), .ref q4]) G [(q4, .inl ((xT g) 3, 1, .inr (.inl of)))] XSub.rf (uX1_set G.noTraces h) (lw_V q573 q574 q575 q65 q576) cdX1_set 0 1 rfl rfl rfl (by decide) (by decide) rfl (Nat.le_of_ble_eq_true rfl) (Nat.le_of_ble_eq_true rfl) (Nat.le_of_ble_eq_true rfl) dX0_set_7 (fun En cur_2 cs_3 h => ?_) (fun r_1 cur_2 cs_3 h => ?_)
  · rcases h with ⟨rfl, h⟩ | ⟨rfl, h⟩
    · refine x_catch G Q.2 (tableOf []) ⟨0, 12, 15, 21⟩ (tableOf [(0, 12, 19, 13)]) rfl (fun _ h => absurd h List.not_mem_nil) (by decide) (by decide) q548 (by decide) rfl (fun q_4 => ?_)
      refine x_astore (lv' := [(6, .ref q_4), (0, .ref q0), (1, .int p1), (2, .int p2), (3, .long p3), (5, .ref q4)]) G dX0_set_15 (by decide) rfl ?_
      refine x_iconst (v := (1 : Int32)) G dX0_set_17 (by decide) ?_
      exact x_hi3 G Q dX0_set_18 rfl of cur_2 cs_3 h XSub.rf (Nat.le_of_ble_eq_true rfl) (Nat.le_of_ble_eq_true rfl)
    · refine x_catch G Q.2 (tableOf [(0, 12, 15, 21)]) ⟨0, 12, 19, 13⟩ (tableOf []) rfl (by intro z hz; simp only [tableOf, List.map_cons, List.map_nil, List.mem_cons, List.not_mem_nil, or_false] at hz; rcases hz with rfl <;> refine Or.inr ⟨by decide, ?_⟩ <;> first | exact ⟨_, q548, by decide⟩ | skip) (by decide) (by decide) q392 (by decide) rfl (fun q_5 => ?_)
      refine x_astore (lv' := [(6, .ref q_5), (0, .ref q0), (1, .int p1), (2, .int p2), (3, .long p3), (5, .ref q4)]) G dX0_set_19 (by decide) rfl ?_
      refine x_iconst (v := (2 : Int32)) G dX0_set_21 (by decide) ?_
      exact x_hi3 G Q dX0_set_22 rfl of cur_2 cs_3 h XSub.rf (Nat.le_of_ble_eq_true rfl) (Nat.le_of_ble_eq_true rfl)
  show X g 7 10 [(0, .ref q0), (1, .int p1), (2, .int p2), (3, .long p3), (5, .ref q4)] [.int r_1, .int (0 : Int32), .ref q4] ([(q4, .inl ((xT g) 3, 1, .inr (.inl of))), (q0, .inr (0, [.ref (ca 0), .ref (ca 1), .ref (ca 2), .ref (ca 3), .ref (ca 4), .int cur_2, .ref (ca 5)]))] ++ CR ca (xT g) cs_3) 3 222
  refine x_i2l G dX0_set_10 ?_
  refine x_topl (fun y_6 ey_6 => ?_)
  replace h := h y_6 ey_6
  obtain ⟨hz, h⟩ := h
  obtain ⟨f_7, ef_7⟩ : ∃ z : Nat → Int64, z = vp_updL of (0 : Int32).toNatClampNeg y_6 := ⟨_, rfl⟩
  replace h := h f_7 ef_7
  refine x_last G 0 rfl hz (by rw [← ef_7]) dX0_set_11 ?_
  show X g 7 12 [(0, .ref q0), (1, .int p1), (2, .int p2), (3, .long p3), (5, .ref q4)] [] ([(q4, .inl ((xT g) 3, 1, .inr (.inl f_7))), (q0, .inr (0, [.ref (ca 0), .ref (ca 1), .ref (ca 2), .ref (ca 3), .ref (ca 4), .int cur_2, .ref (ca 5)]))] ++ CR ca (xT g) cs_3) 3 222
  refine x_goto (tgt := 23) G dX0_set_12 rfl ?_
  refine x_iconst (v := (0 : Int32)) G dX0_set_23 (by decide) ?_
  exact x_hi3 G Q dX0_set_24 rfl f_7 cur_2 cs_3 h XSub.rf (Nat.le_of_ble_eq_true rfl) (Nat.le_of_ble_eq_true rfl)
theorem cdX0_book : yX0_book.cls ≠ "java/lang/invoke/MethodHandle" ∧ yX0_book.cls ≠ "java/lang/invoke/VarHandle" ∧ (parseMethodDescriptor yX0_book.desc).map (fun d => d.parameters.length) = some 6 := by decide +kernel
def wX0_book (p1 : Int32) (p2 : Int32) (p3 : Int32) (p4 : Int32) (of : Nat → Int64) (cur : Int32) (ta : Nat → ClassId) (cs : CS) (K : Int32 → (Nat → Int64) → Int32 → CS → Prop) (E : String → (Nat → Int64) → Int32 → CS → Prop) : Prop := (bX1_book ta p1 p2 p3 p4 cur cs (fun (r_1 : Int32) (cur_2 : Int32) (cs_3 : CS) => (∀ y_6 : Int64, y_6 = r_1.toInt64 → (vp_in (0 : Int32) 1 ∧ (∀ f_7 : Nat → Int64, f_7 = vp_updL of (0 : Int32).toNatClampNeg y_6 → K (0 : Int32) f_7 cur_2 cs_3)))) (fun (En : String) (cur_2 : Int32) (cs_3 : CS) => ((En = "java/lang/NullPointerException" ∧ K (1 : Int32) of cur_2 cs_3) ∨ (En = "java/lang/ArrayIndexOutOfBoundsException" ∧ K (2 : Int32) of cur_2 cs_3))))
set_option maxRecDepth 20000 in
theorem tX0_book {l : Launch} {D : va_G} {ta : Nat → ClassId} {q5 : Nat} {of : Nat → Int64} {q0 : Nat} {cur : Int32} {ca : Nat → Nat} {cs : CS} {p1 : Int32} {p2 : Int32} {p3 : Int32} {p4 : Int32} {K : Int32 → (Nat → Int64) → Int32 → CS → Prop} {E : String → (Nat → Int64) → Int32 → CS → Prop} (hlt : l.stackTraces = false) (h : wX0_book p1 p2 p3 p4 of cur ta cs K E) : SHi3 l D ta yX0_book cX0_book 7 FieldType.int  [(0, 14, 17, 21), (0, 14, 21, 13)] 3 [.ref q0, .int p1, .int p2, .int p3, .int p4, .ref q5] ([(q5, .inl (ta 3, 1, .inr (.inl of))), (q0, .inr (0, [.ref (ca 0), .ref (ca 1), .ref (ca 2), .ref (ca 3), .ref (ca 4), .int cur, .ref (ca 5)]))] ++ CR ca ta cs) (fun (of' : Nat → Int64) (cur' : Int32) (cs' : CS) => ([(q5, .inl (ta 3, 1, .inr (.inl of'))), (q0, .inr (0, [.ref (ca 0), .ref (ca 1), .ref (ca 2), .ref (ca 3), .ref (ca 4), .int cur', .ref (ca 5)]))] ++ CR ca ta cs')) 3 222 K E := by
  refine x_shi3 hlt (by decide +kernel) (Nat.le_of_ble_eq_true rfl) (fun g G hl hD hT Q => ?_)
  subst hl; subst hD; subst hT
  unfold wX0_book at h
  show X g 7 0 [(0, .ref q0), (1, .int p1), (2, .int p2), (3, .int p3), (4, .int p4), (5, .ref q5)] [] ([(q5, .inl ((xT g) 3, 1, .inr (.inl of))), (q0, .inr (0, [.ref (ca 0), .ref (ca 1), .ref (ca 2), .ref (ca 3), .ref (ca 4), .int cur, .ref (ca 5)]))] ++ CR ca (xT g) cs) 0 0
  refine x_aload G dX0_book_0 5 rfl ?_
  refine x_iconst (v := (0 : Int32)) G dX0_book_2 (by decide) ?_
  refine x_aload_n G rfl dX0_book_3 0 rfl ?_
  refine x_iload_n G rfl dX0_book_4 1 rfl ?_
  refine x_iload_n G rfl dX0_book_5 2 rfl ?_
  refine x_iload_n G rfl dX0_book_6 3 rfl ?_
  refine x_iload G dX0_book_7 4 rfl ?_
  refine x_cXVi2 (wc := (CW q0 ca (xT g) cur cs)) (As := [.int p1, .int p2, .int p3, .int p4]) (rest := [.int (0 : Int32), .ref q5]) G [(q5, .inl ((xT g) 3, 1, .inr (.inl of)))] XSub.rf (uX1_book G.noTraces h) (lw_V q599 q600 q601 q65 q602) cdX1_book 0 1 rfl rfl rfl (by decide) (by decide) rfl (Nat.le_of_ble_eq_true rfl) (Nat.le_of_ble_eq_true rfl) (Nat.le_of_ble_eq_true rfl) dX0_book_9 (fun En cur_2 cs_3 h => ?_) (fun r_1 cur_2 cs_3 h => ?_)
  · rcases h with ⟨rfl, h⟩ | ⟨rfl, h⟩
    · refine x_catch G Q.2 (tableOf []) ⟨0, 14, 17, 21⟩ (tableOf [(0, 14, 21, 13)]) rfl (fun _ h => absurd h List.not_mem_nil) (by decide) (by decide) q548 (by decide) rfl (fun q_4 => ?_)
      refine x_astore (lv' := [(6, .ref q_4), (0, .ref q0), (1, .int p1), (2, .int p2), (3, .int p3), (4, .int p4), (5, .ref q5)]) G dX0_book_17 (by decide) rfl ?_
      refine x_iconst (v := (1 : Int32)) G dX0_book_19 (by decide) ?_
      exact x_hi3 G Q dX0_book_20 rfl of cur_2 cs_3 h XSub.rf (Nat.le_of_ble_eq_true rfl) (Nat.le_of_ble_eq_true rfl)
    · refine x_catch G Q.2 (tableOf [(0, 14, 17, 21)]) ⟨0, 14, 21, 13⟩ (tableOf []) rfl (by intro z hz; simp only [tableOf, List.map_cons, List.map_nil, List.mem_cons, List.not_mem_nil, or_false] at hz; rcases hz with rfl <;> refine Or.inr ⟨by decide, ?_⟩ <;> first | exact ⟨_, q548, by decide⟩ | skip) (by decide) (by decide) q392 (by decide) rfl (fun q_5 => ?_)
      refine x_astore (lv' := [(6, .ref q_5), (0, .ref q0), (1, .int p1), (2, .int p2), (3, .int p3), (4, .int p4), (5, .ref q5)]) G dX0_book_21 (by decide) rfl ?_
      refine x_iconst (v := (2 : Int32)) G dX0_book_23 (by decide) ?_
      exact x_hi3 G Q dX0_book_24 rfl of cur_2 cs_3 h XSub.rf (Nat.le_of_ble_eq_true rfl) (Nat.le_of_ble_eq_true rfl)
  show X g 7 12 [(0, .ref q0), (1, .int p1), (2, .int p2), (3, .int p3), (4, .int p4), (5, .ref q5)] [.int r_1, .int (0 : Int32), .ref q5] ([(q5, .inl ((xT g) 3, 1, .inr (.inl of))), (q0, .inr (0, [.ref (ca 0), .ref (ca 1), .ref (ca 2), .ref (ca 3), .ref (ca 4), .int cur_2, .ref (ca 5)]))] ++ CR ca (xT g) cs_3) 3 222
  refine x_i2l G dX0_book_12 ?_
  refine x_topl (fun y_6 ey_6 => ?_)
  replace h := h y_6 ey_6
  obtain ⟨hz, h⟩ := h
  obtain ⟨f_7, ef_7⟩ : ∃ z : Nat → Int64, z = vp_updL of (0 : Int32).toNatClampNeg y_6 := ⟨_, rfl⟩
  replace h := h f_7 ef_7
  refine x_last G 0 rfl hz (by rw [← ef_7]) dX0_book_13 ?_
  show X g 7 14 [(0, .ref q0), (1, .int p1), (2, .int p2), (3, .int p3), (4, .int p4), (5, .ref q5)] [] ([(q5, .inl ((xT g) 3, 1, .inr (.inl f_7))), (q0, .inr (0, [.ref (ca 0), .ref (ca 1), .ref (ca 2), .ref (ca 3), .ref (ca 4), .int cur_2, .ref (ca 5)]))] ++ CR ca (xT g) cs_3) 3 222
  refine x_goto (tgt := 25) G dX0_book_14 rfl ?_
  refine x_iconst (v := (0 : Int32)) G dX0_book_25 (by decide) ?_
  exact x_hi3 G Q dX0_book_26 rfl f_7 cur_2 cs_3 h XSub.rf (Nat.le_of_ble_eq_true rfl) (Nat.le_of_ble_eq_true rfl)
theorem cdX0_amount : yX0_amount.cls ≠ "java/lang/invoke/MethodHandle" ∧ yX0_amount.cls ≠ "java/lang/invoke/VarHandle" ∧ (parseMethodDescriptor yX0_amount.desc).map (fun d => d.parameters.length) = some 4 := by decide +kernel
def wX0_amount (p1 : Int32) (p2 : Int32) (of : Nat → Int64) (cur : Int32) (ta : Nat → ClassId) (cs : CS) (K : Int32 → (Nat → Int64) → Int32 → CS → Prop) (E : String → (Nat → Int64) → Int32 → CS → Prop) : Prop := (bX1_amount ta p1 p2 cur cs (fun (r_1 : Int64) (cur_2 : Int32) (cs_3 : CS) => (vp_in (0 : Int32) 1 ∧ (∀ f_6 : Nat → Int64, f_6 = vp_updL of (0 : Int32).toNatClampNeg r_1 → K (0 : Int32) f_6 cur_2 cs_3))) (fun (En : String) (cur_2 : Int32) (cs_3 : CS) => ((En = "java/lang/NullPointerException" ∧ K (1 : Int32) of cur_2 cs_3) ∨ (En = "java/lang/ArrayIndexOutOfBoundsException" ∧ K (2 : Int32) of cur_2 cs_3))))
set_option maxRecDepth 20000 in
theorem tX0_amount {l : Launch} {D : va_G} {ta : Nat → ClassId} {q3 : Nat} {of : Nat → Int64} {q0 : Nat} {cur : Int32} {ca : Nat → Nat} {cs : CS} {p1 : Int32} {p2 : Int32} {K : Int32 → (Nat → Int64) → Int32 → CS → Prop} {E : String → (Nat → Int64) → Int32 → CS → Prop} (hlt : l.stackTraces = false) (h : wX0_amount p1 p2 of cur ta cs K E) : SHi3 l D ta yX0_amount cX0_amount 5 FieldType.int  [(0, 9, 12, 21), (0, 9, 16, 13)] 5 [.ref q0, .int p1, .int p2, .ref q3] ([(q3, .inl (ta 3, 1, .inr (.inl of))), (q0, .inr (0, [.ref (ca 0), .ref (ca 1), .ref (ca 2), .ref (ca 3), .ref (ca 4), .int cur, .ref (ca 5)]))] ++ CR ca ta cs) (fun (of' : Nat → Int64) (cur' : Int32) (cs' : CS) => ([(q3, .inl (ta 3, 1, .inr (.inl of'))), (q0, .inr (0, [.ref (ca 0), .ref (ca 1), .ref (ca 2), .ref (ca 3), .ref (ca 4), .int cur', .ref (ca 5)]))] ++ CR ca ta cs')) 3 222 K E := by
  refine x_shi3 hlt (by decide +kernel) (Nat.le_of_ble_eq_true rfl) (fun g G hl hD hT Q => ?_)
  subst hl; subst hD; subst hT
  unfold wX0_amount at h
  show X g 5 0 [(0, .ref q0), (1, .int p1), (2, .int p2), (3, .ref q3)] [] ([(q3, .inl ((xT g) 3, 1, .inr (.inl of))), (q0, .inr (0, [.ref (ca 0), .ref (ca 1), .ref (ca 2), .ref (ca 3), .ref (ca 4), .int cur, .ref (ca 5)]))] ++ CR ca (xT g) cs) 0 0
  refine x_aload_n G rfl dX0_amount_0 3 rfl ?_
  refine x_iconst (v := (0 : Int32)) G dX0_amount_1 (by decide) ?_
  refine x_aload_n G rfl dX0_amount_2 0 rfl ?_
  refine x_iload_n G rfl dX0_amount_3 1 rfl ?_
  refine x_iload_n G rfl dX0_amount_4 2 rfl ?_
  refine x_cXVl2 (wc := (CW q0 ca (xT g) cur cs)) (As := [.int p1, .int p2]) (rest := [.int (0 : Int32), .ref q3]) G [(q3, .inl ((xT g) 3, 1, .inr (.inl of)))] XSub.rf (uX1_amount G.noTraces h) (lw_V q613 q614 q615 q65 q616) cdX1_amount 0 1 rfl rfl rfl (by decide) (by decide) rfl (Nat.le_of_ble_eq_true rfl) (Nat.le_of_ble_eq_true rfl) (Nat.le_of_ble_eq_true rfl) dX0_amount_5 (fun En cur_2 cs_3 h => ?_) (fun r_1 cur_2 cs_3 h => ?_)
  · rcases h with ⟨rfl, h⟩ | ⟨rfl, h⟩
    · refine x_catch G Q.2 (tableOf []) ⟨0, 9, 12, 21⟩ (tableOf [(0, 9, 16, 13)]) rfl (fun _ h => absurd h List.not_mem_nil) (by decide) (by decide) q548 (by decide) rfl (fun q_4 => ?_)
      refine x_astore (lv' := [(4, .ref q_4), (0, .ref q0), (1, .int p1), (2, .int p2), (3, .ref q3)]) G dX0_amount_12 (by decide) rfl ?_
      refine x_iconst (v := (1 : Int32)) G dX0_amount_14 (by decide) ?_
      exact x_hi3 G Q dX0_amount_15 rfl of cur_2 cs_3 h XSub.rf (Nat.le_of_ble_eq_true rfl) (Nat.le_of_ble_eq_true rfl)
    · refine x_catch G Q.2 (tableOf [(0, 9, 12, 21)]) ⟨0, 9, 16, 13⟩ (tableOf []) rfl (by intro z hz; simp only [tableOf, List.map_cons, List.map_nil, List.mem_cons, List.not_mem_nil, or_false] at hz; rcases hz with rfl <;> refine Or.inr ⟨by decide, ?_⟩ <;> first | exact ⟨_, q548, by decide⟩ | skip) (by decide) (by decide) q392 (by decide) rfl (fun q_5 => ?_)
      refine x_astore (lv' := [(4, .ref q_5), (0, .ref q0), (1, .int p1), (2, .int p2), (3, .ref q3)]) G dX0_amount_16 (by decide) rfl ?_
      refine x_iconst (v := (2 : Int32)) G dX0_amount_18 (by decide) ?_
      exact x_hi3 G Q dX0_amount_19 rfl of cur_2 cs_3 h XSub.rf (Nat.le_of_ble_eq_true rfl) (Nat.le_of_ble_eq_true rfl)
  show X g 5 8 [(0, .ref q0), (1, .int p1), (2, .int p2), (3, .ref q3)] [.long r_1, .int (0 : Int32), .ref q3] ([(q3, .inl ((xT g) 3, 1, .inr (.inl of))), (q0, .inr (0, [.ref (ca 0), .ref (ca 1), .ref (ca 2), .ref (ca 3), .ref (ca 4), .int cur_2, .ref (ca 5)]))] ++ CR ca (xT g) cs_3) 3 222
  obtain ⟨hz, h⟩ := h
  obtain ⟨f_6, ef_6⟩ : ∃ z : Nat → Int64, z = vp_updL of (0 : Int32).toNatClampNeg r_1 := ⟨_, rfl⟩
  replace h := h f_6 ef_6
  refine x_last G 0 rfl hz (by rw [← ef_6]) dX0_amount_8 ?_
  show X g 5 9 [(0, .ref q0), (1, .int p1), (2, .int p2), (3, .ref q3)] [] ([(q3, .inl ((xT g) 3, 1, .inr (.inl f_6))), (q0, .inr (0, [.ref (ca 0), .ref (ca 1), .ref (ca 2), .ref (ca 3), .ref (ca 4), .int cur_2, .ref (ca 5)]))] ++ CR ca (xT g) cs_3) 3 222
  refine x_goto (tgt := 20) G dX0_amount_9 rfl ?_
  refine x_iconst (v := (0 : Int32)) G dX0_amount_20 (by decide) ?_
  exact x_hi3 G Q dX0_amount_21 rfl f_6 cur_2 cs_3 h XSub.rf (Nat.le_of_ble_eq_true rfl) (Nat.le_of_ble_eq_true rfl)
theorem cdX0_entry : yX0_entry.cls ≠ "java/lang/invoke/MethodHandle" ∧ yX0_entry.cls ≠ "java/lang/invoke/VarHandle" ∧ (parseMethodDescriptor yX0_entry.desc).map (fun d => d.parameters.length) = some 5 := by decide +kernel
def wX0_entry (p1 : Int32) (p2 : Int32) (p3 : Int32) (of : Nat → Int64) (cur : Int32) (ta : Nat → ClassId) (cs : CS) (K : Int32 → (Nat → Int64) → Int32 → CS → Prop) (E : String → (Nat → Int64) → Int32 → CS → Prop) : Prop := (bX1_entry ta p1 p2 p3 cur cs (fun (r_1 : Int32) (cur_2 : Int32) (cs_3 : CS) => (∀ y_6 : Int64, y_6 = r_1.toInt64 → (vp_in (0 : Int32) 1 ∧ (∀ f_7 : Nat → Int64, f_7 = vp_updL of (0 : Int32).toNatClampNeg y_6 → K (0 : Int32) f_7 cur_2 cs_3)))) (fun (En : String) (cur_2 : Int32) (cs_3 : CS) => ((En = "java/lang/NullPointerException" ∧ K (1 : Int32) of cur_2 cs_3) ∨ (En = "java/lang/ArrayIndexOutOfBoundsException" ∧ K (2 : Int32) of cur_2 cs_3))))
set_option maxRecDepth 20000 in
theorem tX0_entry {l : Launch} {D : va_G} {ta : Nat → ClassId} {q4 : Nat} {of : Nat → Int64} {q0 : Nat} {cur : Int32} {ca : Nat → Nat} {cs : CS} {p1 : Int32} {p2 : Int32} {p3 : Int32} {K : Int32 → (Nat → Int64) → Int32 → CS → Prop} {E : String → (Nat → Int64) → Int32 → CS → Prop} (hlt : l.stackTraces = false) (h : wX0_entry p1 p2 p3 of cur ta cs K E) : SHi3 l D ta yX0_entry cX0_entry 6 FieldType.int  [(0, 12, 15, 21), (0, 12, 19, 13)] 3 [.ref q0, .int p1, .int p2, .int p3, .ref q4] ([(q4, .inl (ta 3, 1, .inr (.inl of))), (q0, .inr (0, [.ref (ca 0), .ref (ca 1), .ref (ca 2), .ref (ca 3), .ref (ca 4), .int cur, .ref (ca 5)]))] ++ CR ca ta cs) (fun (of' : Nat → Int64) (cur' : Int32) (cs' : CS) => ([(q4, .inl (ta 3, 1, .inr (.inl of'))), (q0, .inr (0, [.ref (ca 0), .ref (ca 1), .ref (ca 2), .ref (ca 3), .ref (ca 4), .int cur', .ref (ca 5)]))] ++ CR ca ta cs')) 6 444 K E := by
  refine x_shi3 hlt (by decide +kernel) (Nat.le_of_ble_eq_true rfl) (fun g G hl hD hT Q => ?_)
  subst hl; subst hD; subst hT
  unfold wX0_entry at h
  show X g 6 0 [(0, .ref q0), (1, .int p1), (2, .int p2), (3, .int p3), (4, .ref q4)] [] ([(q4, .inl ((xT g) 3, 1, .inr (.inl of))), (q0, .inr (0, [.ref (ca 0), .ref (ca 1), .ref (ca 2), .ref (ca 3), .ref (ca 4), .int cur, .ref (ca 5)]))] ++ CR ca (xT g) cs) 0 0
  refine x_aload G dX0_entry_0 4 rfl ?_
  refine x_iconst (v := (0 : Int32)) G dX0_entry_2 (by decide) ?_
  refine x_aload_n G rfl dX0_entry_3 0 rfl ?_
  refine x_iload_n G rfl dX0_entry_4 1 rfl ?_
  refine x_iload_n G rfl dX0_entry_5 2 rfl ?_
  refine x_iload_n G rfl dX0_entry_6 3 rfl ?_
  refine x_cXVi2 (wc := (CW q0 ca (xT g) cur cs)) (As := [.int p1, .int p2, .int p3]) (rest := [.int (0 : Int32), .ref q4]) G [(q4, .inl ((xT g) 3, 1, .inr (.inl of)))] XSub.rf (uX1_entry G.noTraces h) (lw_V q638 q639 q640 q65 q641) cdX1_entry 0 1 rfl rfl rfl (by decide) (by decide) rfl (Nat.le_of_ble_eq_true rfl) (Nat.le_of_ble_eq_true rfl) (Nat.le_of_ble_eq_true rfl) dX0_entry_7 (fun En cur_2 cs_3 h => ?_) (fun r_1 cur_2 cs_3 h => ?_)
  · rcases h with ⟨rfl, h⟩ | ⟨rfl, h⟩
    · refine x_catch G Q.2 (tableOf []) ⟨0, 12, 15, 21⟩ (tableOf [(0, 12, 19, 13)]) rfl (fun _ h => absurd h List.not_mem_nil) (by decide) (by decide) q548 (by decide) rfl (fun q_4 => ?_)
      refine x_astore (lv' := [(5, .ref q_4), (0, .ref q0), (1, .int p1), (2, .int p2), (3, .int p3), (4, .ref q4)]) G dX0_entry_15 (by decide) rfl ?_
      refine x_iconst (v := (1 : Int32)) G dX0_entry_17 (by decide) ?_
      exact x_hi3 G Q dX0_entry_18 rfl of cur_2 cs_3 h XSub.rf (Nat.le_of_ble_eq_true rfl) (Nat.le_of_ble_eq_true rfl)
    · refine x_catch G Q.2 (tableOf [(0, 12, 15, 21)]) ⟨0, 12, 19, 13⟩ (tableOf []) rfl (by intro z hz; simp only [tableOf, List.map_cons, List.map_nil, List.mem_cons, List.not_mem_nil, or_false] at hz; rcases hz with rfl <;> refine Or.inr ⟨by decide, ?_⟩ <;> first | exact ⟨_, q548, by decide⟩ | skip) (by decide) (by decide) q392 (by decide) rfl (fun q_5 => ?_)
      refine x_astore (lv' := [(5, .ref q_5), (0, .ref q0), (1, .int p1), (2, .int p2), (3, .int p3), (4, .ref q4)]) G dX0_entry_19 (by decide) rfl ?_
      refine x_iconst (v := (2 : Int32)) G dX0_entry_21 (by decide) ?_
      exact x_hi3 G Q dX0_entry_22 rfl of cur_2 cs_3 h XSub.rf (Nat.le_of_ble_eq_true rfl) (Nat.le_of_ble_eq_true rfl)
  show X g 6 10 [(0, .ref q0), (1, .int p1), (2, .int p2), (3, .int p3), (4, .ref q4)] [.int r_1, .int (0 : Int32), .ref q4] ([(q4, .inl ((xT g) 3, 1, .inr (.inl of))), (q0, .inr (0, [.ref (ca 0), .ref (ca 1), .ref (ca 2), .ref (ca 3), .ref (ca 4), .int cur_2, .ref (ca 5)]))] ++ CR ca (xT g) cs_3) 6 444
  refine x_i2l G dX0_entry_10 ?_
  refine x_topl (fun y_6 ey_6 => ?_)
  replace h := h y_6 ey_6
  obtain ⟨hz, h⟩ := h
  obtain ⟨f_7, ef_7⟩ : ∃ z : Nat → Int64, z = vp_updL of (0 : Int32).toNatClampNeg y_6 := ⟨_, rfl⟩
  replace h := h f_7 ef_7
  refine x_last G 0 rfl hz (by rw [← ef_7]) dX0_entry_11 ?_
  show X g 6 12 [(0, .ref q0), (1, .int p1), (2, .int p2), (3, .int p3), (4, .ref q4)] [] ([(q4, .inl ((xT g) 3, 1, .inr (.inl f_7))), (q0, .inr (0, [.ref (ca 0), .ref (ca 1), .ref (ca 2), .ref (ca 3), .ref (ca 4), .int cur_2, .ref (ca 5)]))] ++ CR ca (xT g) cs_3) 6 444
  refine x_goto (tgt := 23) G dX0_entry_12 rfl ?_
  refine x_iconst (v := (0 : Int32)) G dX0_entry_23 (by decide) ?_
  exact x_hi3 G Q dX0_entry_24 rfl f_7 cur_2 cs_3 h XSub.rf (Nat.le_of_ble_eq_true rfl) (Nat.le_of_ble_eq_true rfl)
theorem cdX0_about : yX0_about.cls ≠ "java/lang/invoke/MethodHandle" ∧ yX0_about.cls ≠ "java/lang/invoke/VarHandle" ∧ (parseMethodDescriptor yX0_about.desc).map (fun d => d.parameters.length) = some 4 := by decide +kernel
def wX0_about (p1 : Int32) (p2 : Int32) (of : Nat → Int64) (cur : Int32) (ta : Nat → ClassId) (cs : CS) (K : Int32 → (Nat → Int64) → Int32 → CS → Prop) (E : String → (Nat → Int64) → Int32 → CS → Prop) : Prop := (bX1_about ta p1 p2 cur cs (fun (r_1 : Int32) (cur_2 : Int32) (cs_3 : CS) => (∀ y_6 : Int64, y_6 = r_1.toInt64 → (vp_in (0 : Int32) 1 ∧ (∀ f_7 : Nat → Int64, f_7 = vp_updL of (0 : Int32).toNatClampNeg y_6 → K (0 : Int32) f_7 cur_2 cs_3)))) (fun (En : String) (cur_2 : Int32) (cs_3 : CS) => ((En = "java/lang/NullPointerException" ∧ K (1 : Int32) of cur_2 cs_3) ∨ (En = "java/lang/ArrayIndexOutOfBoundsException" ∧ K (2 : Int32) of cur_2 cs_3))))
set_option maxRecDepth 20000 in
theorem tX0_about {l : Launch} {D : va_G} {ta : Nat → ClassId} {q3 : Nat} {of : Nat → Int64} {q0 : Nat} {cur : Int32} {ca : Nat → Nat} {cs : CS} {p1 : Int32} {p2 : Int32} {K : Int32 → (Nat → Int64) → Int32 → CS → Prop} {E : String → (Nat → Int64) → Int32 → CS → Prop} (hlt : l.stackTraces = false) (h : wX0_about p1 p2 of cur ta cs K E) : SHi3 l D ta yX0_about cX0_about 5 FieldType.int  [(0, 10, 13, 21), (0, 10, 17, 13)] 20 [.ref q0, .int p1, .int p2, .ref q3] ([(q3, .inl (ta 3, 1, .inr (.inl of))), (q0, .inr (0, [.ref (ca 0), .ref (ca 1), .ref (ca 2), .ref (ca 3), .ref (ca 4), .int cur, .ref (ca 5)]))] ++ CR ca ta cs) (fun (of' : Nat → Int64) (cur' : Int32) (cs' : CS) => ([(q3, .inl (ta 3, 1, .inr (.inl of'))), (q0, .inr (0, [.ref (ca 0), .ref (ca 1), .ref (ca 2), .ref (ca 3), .ref (ca 4), .int cur', .ref (ca 5)]))] ++ CR ca ta cs')) 3 222 K E := by
  refine x_shi3 hlt (by decide +kernel) (Nat.le_of_ble_eq_true rfl) (fun g G hl hD hT Q => ?_)
  subst hl; subst hD; subst hT
  unfold wX0_about at h
  show X g 5 0 [(0, .ref q0), (1, .int p1), (2, .int p2), (3, .ref q3)] [] ([(q3, .inl ((xT g) 3, 1, .inr (.inl of))), (q0, .inr (0, [.ref (ca 0), .ref (ca 1), .ref (ca 2), .ref (ca 3), .ref (ca 4), .int cur, .ref (ca 5)]))] ++ CR ca (xT g) cs) 0 0
  refine x_aload_n G rfl dX0_about_0 3 rfl ?_
  refine x_iconst (v := (0 : Int32)) G dX0_about_1 (by decide) ?_
  refine x_aload_n G rfl dX0_about_2 0 rfl ?_
  refine x_iload_n G rfl dX0_about_3 1 rfl ?_
  refine x_iload_n G rfl dX0_about_4 2 rfl ?_
  refine x_cXVi2 (wc := (CW q0 ca (xT g) cur cs)) (As := [.int p1, .int p2]) (rest := [.int (0 : Int32), .ref q3]) G [(q3, .inl ((xT g) 3, 1, .inr (.inl of)))] XSub.rf (uX1_about G.noTraces h) (lw_V q657 q658 q659 q65 q660) cdX1_about 0 1 rfl rfl rfl (by decide) (by decide) rfl (Nat.le_of_ble_eq_true rfl) (Nat.le_of_ble_eq_true rfl) (Nat.le_of_ble_eq_true rfl) dX0_about_5 (fun En cur_2 cs_3 h => ?_) (fun r_1 cur_2 cs_3 h => ?_)
  · rcases h with ⟨rfl, h⟩ | ⟨rfl, h⟩
    · refine x_catch G Q.2 (tableOf []) ⟨0, 10, 13, 21⟩ (tableOf [(0, 10, 17, 13)]) rfl (fun _ h => absurd h List.not_mem_nil) (by decide) (by decide) q548 (by decide) rfl (fun q_4 => ?_)
      refine x_astore (lv' := [(4, .ref q_4), (0, .ref q0), (1, .int p1), (2, .int p2), (3, .ref q3)]) G dX0_about_13 (by decide) rfl ?_
      refine x_iconst (v := (1 : Int32)) G dX0_about_15 (by decide) ?_
      exact x_hi3 G Q dX0_about_16 rfl of cur_2 cs_3 h XSub.rf (Nat.le_of_ble_eq_true rfl) (Nat.le_of_ble_eq_true rfl)
    · refine x_catch G Q.2 (tableOf [(0, 10, 13, 21)]) ⟨0, 10, 17, 13⟩ (tableOf []) rfl (by intro z hz; simp only [tableOf, List.map_cons, List.map_nil, List.mem_cons, List.not_mem_nil, or_false] at hz; rcases hz with rfl <;> refine Or.inr ⟨by decide, ?_⟩ <;> first | exact ⟨_, q548, by decide⟩ | skip) (by decide) (by decide) q392 (by decide) rfl (fun q_5 => ?_)
      refine x_astore (lv' := [(4, .ref q_5), (0, .ref q0), (1, .int p1), (2, .int p2), (3, .ref q3)]) G dX0_about_17 (by decide) rfl ?_
      refine x_iconst (v := (2 : Int32)) G dX0_about_19 (by decide) ?_
      exact x_hi3 G Q dX0_about_20 rfl of cur_2 cs_3 h XSub.rf (Nat.le_of_ble_eq_true rfl) (Nat.le_of_ble_eq_true rfl)
  show X g 5 8 [(0, .ref q0), (1, .int p1), (2, .int p2), (3, .ref q3)] [.int r_1, .int (0 : Int32), .ref q3] ([(q3, .inl ((xT g) 3, 1, .inr (.inl of))), (q0, .inr (0, [.ref (ca 0), .ref (ca 1), .ref (ca 2), .ref (ca 3), .ref (ca 4), .int cur_2, .ref (ca 5)]))] ++ CR ca (xT g) cs_3) 3 222
  refine x_i2l G dX0_about_8 ?_
  refine x_topl (fun y_6 ey_6 => ?_)
  replace h := h y_6 ey_6
  obtain ⟨hz, h⟩ := h
  obtain ⟨f_7, ef_7⟩ : ∃ z : Nat → Int64, z = vp_updL of (0 : Int32).toNatClampNeg y_6 := ⟨_, rfl⟩
  replace h := h f_7 ef_7
  refine x_last G 0 rfl hz (by rw [← ef_7]) dX0_about_9 ?_
  show X g 5 10 [(0, .ref q0), (1, .int p1), (2, .int p2), (3, .ref q3)] [] ([(q3, .inl ((xT g) 3, 1, .inr (.inl f_7))), (q0, .inr (0, [.ref (ca 0), .ref (ca 1), .ref (ca 2), .ref (ca 3), .ref (ca 4), .int cur_2, .ref (ca 5)]))] ++ CR ca (xT g) cs_3) 3 222
  refine x_goto (tgt := 21) G dX0_about_10 rfl ?_
  refine x_iconst (v := (0 : Int32)) G dX0_about_21 (by decide) ?_
  exact x_hi3 G Q dX0_about_22 rfl f_7 cur_2 cs_3 h XSub.rf (Nat.le_of_ble_eq_true rfl) (Nat.le_of_ble_eq_true rfl)
theorem cdX0_filter : yX0_filter.cls ≠ "java/lang/invoke/MethodHandle" ∧ yX0_filter.cls ≠ "java/lang/invoke/VarHandle" ∧ (parseMethodDescriptor yX0_filter.desc).map (fun d => d.parameters.length) = some 5 := by decide +kernel
def wX0_filter (p1 : Int32) (p2 : Int32) (p3 : Int32) (of : Nat → Int64) (cur : Int32) (ta : Nat → ClassId) (cs : CS) (K : Int32 → (Nat → Int64) → Int32 → CS → Prop) (E : String → (Nat → Int64) → Int32 → CS → Prop) : Prop := (bX1_filter ta p1 p2 p3 cur cs (fun (r_1 : Int32) (cur_2 : Int32) (cs_3 : CS) => (∀ y_6 : Int64, y_6 = r_1.toInt64 → (vp_in (0 : Int32) 1 ∧ (∀ f_7 : Nat → Int64, f_7 = vp_updL of (0 : Int32).toNatClampNeg y_6 → K (0 : Int32) f_7 cur_2 cs_3)))) (fun (En : String) (cur_2 : Int32) (cs_3 : CS) => ((En = "java/lang/NullPointerException" ∧ K (1 : Int32) of cur_2 cs_3) ∨ (En = "java/lang/ArrayIndexOutOfBoundsException" ∧ K (2 : Int32) of cur_2 cs_3))))
set_option maxRecDepth 20000 in
theorem tX0_filter {l : Launch} {D : va_G} {ta : Nat → ClassId} {q4 : Nat} {of : Nat → Int64} {q0 : Nat} {cur : Int32} {ca : Nat → Nat} {cs : CS} {p1 : Int32} {p2 : Int32} {p3 : Int32} {K : Int32 → (Nat → Int64) → Int32 → CS → Prop} {E : String → (Nat → Int64) → Int32 → CS → Prop} (hlt : l.stackTraces = false) (h : wX0_filter p1 p2 p3 of cur ta cs K E) : SHi3 l D ta yX0_filter cX0_filter 6 FieldType.int  [(0, 12, 15, 21), (0, 12, 19, 13)] 6 [.ref q0, .int p1, .int p2, .int p3, .ref q4] ([(q4, .inl (ta 3, 1, .inr (.inl of))), (q0, .inr (0, [.ref (ca 0), .ref (ca 1), .ref (ca 2), .ref (ca 3), .ref (ca 4), .int cur, .ref (ca 5)]))] ++ CR ca ta cs) (fun (of' : Nat → Int64) (cur' : Int32) (cs' : CS) => ([(q4, .inl (ta 3, 1, .inr (.inl of'))), (q0, .inr (0, [.ref (ca 0), .ref (ca 1), .ref (ca 2), .ref (ca 3), .ref (ca 4), .int cur', .ref (ca 5)]))] ++ CR ca ta cs')) 5 245 K E := by
  refine x_shi3 hlt (by decide +kernel) (Nat.le_of_ble_eq_true rfl) (fun g G hl hD hT Q => ?_)
  subst hl; subst hD; subst hT
  unfold wX0_filter at h
  show X g 6 0 [(0, .ref q0), (1, .int p1), (2, .int p2), (3, .int p3), (4, .ref q4)] [] ([(q4, .inl ((xT g) 3, 1, .inr (.inl of))), (q0, .inr (0, [.ref (ca 0), .ref (ca 1), .ref (ca 2), .ref (ca 3), .ref (ca 4), .int cur, .ref (ca 5)]))] ++ CR ca (xT g) cs) 0 0
  refine x_aload G dX0_filter_0 4 rfl ?_
  refine x_iconst (v := (0 : Int32)) G dX0_filter_2 (by decide) ?_
  refine x_aload_n G rfl dX0_filter_3 0 rfl ?_
  refine x_iload_n G rfl dX0_filter_4 1 rfl ?_
  refine x_iload_n G rfl dX0_filter_5 2 rfl ?_
  refine x_iload_n G rfl dX0_filter_6 3 rfl ?_
  refine x_cXVi2 (wc := (CW q0 ca (xT g) cur cs)) (As := [.int p1, .int p2, .int p3]) (rest := [.int (0 : Int32), .ref q4]) G [(q4, .inl ((xT g) 3, 1, .inr (.inl of)))] XSub.rf (uX1_filter G.noTraces h) (lw_V q706 q707 q708 q65 q709) cdX1_filter 0 1 rfl rfl rfl (by decide) (by decide) rfl (Nat.le_of_ble_eq_true rfl) (Nat.le_of_ble_eq_true rfl) (Nat.le_of_ble_eq_true rfl) dX0_filter_7 (fun En cur_2 cs_3 h => ?_) (fun r_1 cur_2 cs_3 h => ?_)
  · rcases h with ⟨rfl, h⟩ | ⟨rfl, h⟩
    · refine x_catch G Q.2 (tableOf []) ⟨0, 12, 15, 21⟩ (tableOf [(0, 12, 19, 13)]) rfl (fun _ h => absurd h List.not_mem_nil) (by decide) (by decide) q548 (by decide) rfl (fun q_4 => ?_)
      refine x_astore (lv' := [(5, .ref q_4), (0, .ref q0), (1, .int p1), (2, .int p2), (3, .int p3), (4, .ref q4)]) G dX0_filter_15 (by decide) rfl ?_
      refine x_iconst (v := (1 : Int32)) G dX0_filter_17 (by decide) ?_
      exact x_hi3 G Q dX0_filter_18 rfl of cur_2 cs_3 h XSub.rf (Nat.le_of_ble_eq_true rfl) (Nat.le_of_ble_eq_true rfl)
    · refine x_catch G Q.2 (tableOf [(0, 12, 15, 21)]) ⟨0, 12, 19, 13⟩ (tableOf []) rfl (by intro z hz; simp only [tableOf, List.map_cons, List.map_nil, List.mem_cons, List.not_mem_nil, or_false] at hz; rcases hz with rfl <;> refine Or.inr ⟨by decide, ?_⟩ <;> first | exact ⟨_, q548, by decide⟩ | skip) (by decide) (by decide) q392 (by decide) rfl (fun q_5 => ?_)
      refine x_astore (lv' := [(5, .ref q_5), (0, .ref q0), (1, .int p1), (2, .int p2), (3, .int p3), (4, .ref q4)]) G dX0_filter_19 (by decide) rfl ?_
      refine x_iconst (v := (2 : Int32)) G dX0_filter_21 (by decide) ?_
      exact x_hi3 G Q dX0_filter_22 rfl of cur_2 cs_3 h XSub.rf (Nat.le_of_ble_eq_true rfl) (Nat.le_of_ble_eq_true rfl)
  show X g 6 10 [(0, .ref q0), (1, .int p1), (2, .int p2), (3, .int p3), (4, .ref q4)] [.int r_1, .int (0 : Int32), .ref q4] ([(q4, .inl ((xT g) 3, 1, .inr (.inl of))), (q0, .inr (0, [.ref (ca 0), .ref (ca 1), .ref (ca 2), .ref (ca 3), .ref (ca 4), .int cur_2, .ref (ca 5)]))] ++ CR ca (xT g) cs_3) 5 245
  refine x_i2l G dX0_filter_10 ?_
  refine x_topl (fun y_6 ey_6 => ?_)
  replace h := h y_6 ey_6
  obtain ⟨hz, h⟩ := h
  obtain ⟨f_7, ef_7⟩ : ∃ z : Nat → Int64, z = vp_updL of (0 : Int32).toNatClampNeg y_6 := ⟨_, rfl⟩
  replace h := h f_7 ef_7
  refine x_last G 0 rfl hz (by rw [← ef_7]) dX0_filter_11 ?_
  show X g 6 12 [(0, .ref q0), (1, .int p1), (2, .int p2), (3, .int p3), (4, .ref q4)] [] ([(q4, .inl ((xT g) 3, 1, .inr (.inl f_7))), (q0, .inr (0, [.ref (ca 0), .ref (ca 1), .ref (ca 2), .ref (ca 3), .ref (ca 4), .int cur_2, .ref (ca 5)]))] ++ CR ca (xT g) cs_3) 5 245
  refine x_goto (tgt := 23) G dX0_filter_12 rfl ?_
  refine x_iconst (v := (0 : Int32)) G dX0_filter_23 (by decide) ?_
  exact x_hi3 G Q dX0_filter_24 rfl f_7 cur_2 cs_3 h XSub.rf (Nat.le_of_ble_eq_true rfl) (Nat.le_of_ble_eq_true rfl)
theorem cdX0_mix : yX0_mix.cls ≠ "java/lang/invoke/MethodHandle" ∧ yX0_mix.cls ≠ "java/lang/invoke/VarHandle" ∧ (parseMethodDescriptor yX0_mix.desc).map (fun d => d.parameters.length) = some 5 := by decide +kernel
def wX0_mix (p1 : Int32) (p2 : Int32) (p3 : Int32) (of : Nat → Int64) (cur : Int32) (ta : Nat → ClassId) (cs : CS) (K : Int32 → (Nat → Int64) → Int32 → CS → Prop) (E : String → (Nat → Int64) → Int32 → CS → Prop) : Prop := (bX1_mix ta p1 p2 p3 cur cs (fun (r_1 : Int32) (cur_2 : Int32) (cs_3 : CS) => (∀ y_6 : Int64, y_6 = r_1.toInt64 → (vp_in (0 : Int32) 1 ∧ (∀ f_7 : Nat → Int64, f_7 = vp_updL of (0 : Int32).toNatClampNeg y_6 → K (0 : Int32) f_7 cur_2 cs_3)))) (fun (En : String) (cur_2 : Int32) (cs_3 : CS) => ((En = "java/lang/NullPointerException" ∧ K (1 : Int32) of cur_2 cs_3) ∨ (En = "java/lang/ArrayIndexOutOfBoundsException" ∧ K (2 : Int32) of cur_2 cs_3))))
set_option maxRecDepth 20000 in
theorem tX0_mix {l : Launch} {D : va_G} {ta : Nat → ClassId} {q4 : Nat} {of : Nat → Int64} {q0 : Nat} {cur : Int32} {ca : Nat → Nat} {cs : CS} {p1 : Int32} {p2 : Int32} {p3 : Int32} {K : Int32 → (Nat → Int64) → Int32 → CS → Prop} {E : String → (Nat → Int64) → Int32 → CS → Prop} (hlt : l.stackTraces = false) (h : wX0_mix p1 p2 p3 of cur ta cs K E) : SHi3 l D ta yX0_mix cX0_mix 6 FieldType.int  [(0, 12, 15, 21), (0, 12, 19, 13)] 6 [.ref q0, .int p1, .int p2, .int p3, .ref q4] ([(q4, .inl (ta 3, 1, .inr (.inl of))), (q0, .inr (0, [.ref (ca 0), .ref (ca 1), .ref (ca 2), .ref (ca 3), .ref (ca 4), .int cur, .ref (ca 5)]))] ++ CR ca ta cs) (fun (of' : Nat → Int64) (cur' : Int32) (cs' : CS) => ([(q4, .inl (ta 3, 1, .inr (.inl of'))), (q0, .inr (0, [.ref (ca 0), .ref (ca 1), .ref (ca 2), .ref (ca 3), .ref (ca 4), .int cur', .ref (ca 5)]))] ++ CR ca ta cs')) 5 245 K E := by
  refine x_shi3 hlt (by decide +kernel) (Nat.le_of_ble_eq_true rfl) (fun g G hl hD hT Q => ?_)
  subst hl; subst hD; subst hT
  unfold wX0_mix at h
  show X g 6 0 [(0, .ref q0), (1, .int p1), (2, .int p2), (3, .int p3), (4, .ref q4)] [] ([(q4, .inl ((xT g) 3, 1, .inr (.inl of))), (q0, .inr (0, [.ref (ca 0), .ref (ca 1), .ref (ca 2), .ref (ca 3), .ref (ca 4), .int cur, .ref (ca 5)]))] ++ CR ca (xT g) cs) 0 0
  refine x_aload G dX0_mix_0 4 rfl ?_
  refine x_iconst (v := (0 : Int32)) G dX0_mix_2 (by decide) ?_
  refine x_aload_n G rfl dX0_mix_3 0 rfl ?_
  refine x_iload_n G rfl dX0_mix_4 1 rfl ?_
  refine x_iload_n G rfl dX0_mix_5 2 rfl ?_
  refine x_iload_n G rfl dX0_mix_6 3 rfl ?_
  refine x_cXVi2 (wc := (CW q0 ca (xT g) cur cs)) (As := [.int p1, .int p2, .int p3]) (rest := [.int (0 : Int32), .ref q4]) G [(q4, .inl ((xT g) 3, 1, .inr (.inl of)))] XSub.rf (uX1_mix G.noTraces h) (lw_V q739 q740 q741 q65 q742) cdX1_mix 0 1 rfl rfl rfl (by decide) (by decide) rfl (Nat.le_of_ble_eq_true rfl) (Nat.le_of_ble_eq_true rfl) (Nat.le_of_ble_eq_true rfl) dX0_mix_7 (fun En cur_2 cs_3 h => ?_) (fun r_1 cur_2 cs_3 h => ?_)
  · rcases h with ⟨rfl, h⟩ | ⟨rfl, h⟩
    · refine x_catch G Q.2 (tableOf []) ⟨0, 12, 15, 21⟩ (tableOf [(0, 12, 19, 13)]) rfl (fun _ h => absurd h List.not_mem_nil) (by decide) (by decide) q548 (by decide) rfl (fun q_4 => ?_)
      refine x_astore (lv' := [(5, .ref q_4), (0, .ref q0), (1, .int p1), (2, .int p2), (3, .int p3), (4, .ref q4)]) G dX0_mix_15 (by decide) rfl ?_
      refine x_iconst (v := (1 : Int32)) G dX0_mix_17 (by decide) ?_
      exact x_hi3 G Q dX0_mix_18 rfl of cur_2 cs_3 h XSub.rf (Nat.le_of_ble_eq_true rfl) (Nat.le_of_ble_eq_true rfl)
    · refine x_catch G Q.2 (tableOf [(0, 12, 15, 21)]) ⟨0, 12, 19, 13⟩ (tableOf []) rfl (by intro z hz; simp only [tableOf, List.map_cons, List.map_nil, List.mem_cons, List.not_mem_nil, or_false] at hz; rcases hz with rfl <;> refine Or.inr ⟨by decide, ?_⟩ <;> first | exact ⟨_, q548, by decide⟩ | skip) (by decide) (by decide) q392 (by decide) rfl (fun q_5 => ?_)
      refine x_astore (lv' := [(5, .ref q_5), (0, .ref q0), (1, .int p1), (2, .int p2), (3, .int p3), (4, .ref q4)]) G dX0_mix_19 (by decide) rfl ?_
      refine x_iconst (v := (2 : Int32)) G dX0_mix_21 (by decide) ?_
      exact x_hi3 G Q dX0_mix_22 rfl of cur_2 cs_3 h XSub.rf (Nat.le_of_ble_eq_true rfl) (Nat.le_of_ble_eq_true rfl)
  show X g 6 10 [(0, .ref q0), (1, .int p1), (2, .int p2), (3, .int p3), (4, .ref q4)] [.int r_1, .int (0 : Int32), .ref q4] ([(q4, .inl ((xT g) 3, 1, .inr (.inl of))), (q0, .inr (0, [.ref (ca 0), .ref (ca 1), .ref (ca 2), .ref (ca 3), .ref (ca 4), .int cur_2, .ref (ca 5)]))] ++ CR ca (xT g) cs_3) 5 245
  refine x_i2l G dX0_mix_10 ?_
  refine x_topl (fun y_6 ey_6 => ?_)
  replace h := h y_6 ey_6
  obtain ⟨hz, h⟩ := h
  obtain ⟨f_7, ef_7⟩ : ∃ z : Nat → Int64, z = vp_updL of (0 : Int32).toNatClampNeg y_6 := ⟨_, rfl⟩
  replace h := h f_7 ef_7
  refine x_last G 0 rfl hz (by rw [← ef_7]) dX0_mix_11 ?_
  show X g 6 12 [(0, .ref q0), (1, .int p1), (2, .int p2), (3, .int p3), (4, .ref q4)] [] ([(q4, .inl ((xT g) 3, 1, .inr (.inl f_7))), (q0, .inr (0, [.ref (ca 0), .ref (ca 1), .ref (ca 2), .ref (ca 3), .ref (ca 4), .int cur_2, .ref (ca 5)]))] ++ CR ca (xT g) cs_3) 5 245
  refine x_goto (tgt := 23) G dX0_mix_12 rfl ?_
  refine x_iconst (v := (0 : Int32)) G dX0_mix_23 (by decide) ?_
  exact x_hi3 G Q dX0_mix_24 rfl f_7 cur_2 cs_3 h XSub.rf (Nat.le_of_ble_eq_true rfl) (Nat.le_of_ble_eq_true rfl)
theorem cdX0_same : yX0_same.cls ≠ "java/lang/invoke/MethodHandle" ∧ yX0_same.cls ≠ "java/lang/invoke/VarHandle" ∧ (parseMethodDescriptor yX0_same.desc).map (fun d => d.parameters.length) = some 4 := by decide +kernel
def wX0_same (p1 : Int32) (p2 : Int32) (of : Nat → Int64) (cur : Int32) (ta : Nat → ClassId) (cs : CS) (K : Int32 → (Nat → Int64) → Int32 → CS → Prop) (E : String → (Nat → Int64) → Int32 → CS → Prop) : Prop := (bX1_same ta p1 p2 cur cs (fun (r_1 : Int32) (cur_2 : Int32) (cs_3 : CS) => (∀ y_6 : Int64, y_6 = r_1.toInt64 → (vp_in (0 : Int32) 1 ∧ (∀ f_7 : Nat → Int64, f_7 = vp_updL of (0 : Int32).toNatClampNeg y_6 → K (0 : Int32) f_7 cur_2 cs_3)))) (fun (En : String) (cur_2 : Int32) (cs_3 : CS) => ((En = "java/lang/NullPointerException" ∧ K (1 : Int32) of cur_2 cs_3) ∨ (En = "java/lang/ArrayIndexOutOfBoundsException" ∧ K (2 : Int32) of cur_2 cs_3))))
set_option maxRecDepth 20000 in
theorem tX0_same {l : Launch} {D : va_G} {ta : Nat → ClassId} {q3 : Nat} {of : Nat → Int64} {q0 : Nat} {cur : Int32} {ca : Nat → Nat} {cs : CS} {p1 : Int32} {p2 : Int32} {K : Int32 → (Nat → Int64) → Int32 → CS → Prop} {E : String → (Nat → Int64) → Int32 → CS → Prop} (hlt : l.stackTraces = false) (h : wX0_same p1 p2 of cur ta cs K E) : SHi3 l D ta yX0_same cX0_same 5 FieldType.int  [(0, 10, 13, 21), (0, 10, 17, 13)] 6 [.ref q0, .int p1, .int p2, .ref q3] ([(q3, .inl (ta 3, 1, .inr (.inl of))), (q0, .inr (0, [.ref (ca 0), .ref (ca 1), .ref (ca 2), .ref (ca 3), .ref (ca 4), .int cur, .ref (ca 5)]))] ++ CR ca ta cs) (fun (of' : Nat → Int64) (cur' : Int32) (cs' : CS) => ([(q3, .inl (ta 3, 1, .inr (.inl of'))), (q0, .inr (0, [.ref (ca 0), .ref (ca 1), .ref (ca 2), .ref (ca 3), .ref (ca 4), .int cur', .ref (ca 5)]))] ++ CR ca ta cs')) 3 222 K E := by
  refine x_shi3 hlt (by decide +kernel) (Nat.le_of_ble_eq_true rfl) (fun g G hl hD hT Q => ?_)
  subst hl; subst hD; subst hT
  unfold wX0_same at h
  show X g 5 0 [(0, .ref q0), (1, .int p1), (2, .int p2), (3, .ref q3)] [] ([(q3, .inl ((xT g) 3, 1, .inr (.inl of))), (q0, .inr (0, [.ref (ca 0), .ref (ca 1), .ref (ca 2), .ref (ca 3), .ref (ca 4), .int cur, .ref (ca 5)]))] ++ CR ca (xT g) cs) 0 0
  refine x_aload_n G rfl dX0_same_0 3 rfl ?_
  refine x_iconst (v := (0 : Int32)) G dX0_same_1 (by decide) ?_
  refine x_aload_n G rfl dX0_same_2 0 rfl ?_
  refine x_iload_n G rfl dX0_same_3 1 rfl ?_
  refine x_iload_n G rfl dX0_same_4 2 rfl ?_
  refine x_cXVi2 (wc := (CW q0 ca (xT g) cur cs)) (As := [.int p1, .int p2]) (rest := [.int (0 : Int32), .ref q3]) G [(q3, .inl ((xT g) 3, 1, .inr (.inl of)))] XSub.rf (uX1_same G.noTraces h) (lw_V q746 q747 q748 q65 q749) cdX1_same 0 1 rfl rfl rfl (by decide) (by decide) rfl (Nat.le_of_ble_eq_true rfl) (Nat.le_of_ble_eq_true rfl) (Nat.le_of_ble_eq_true rfl) dX0_same_5 (fun En cur_2 cs_3 h => ?_) (fun r_1 cur_2 cs_3 h => ?_)
  · rcases h with ⟨rfl, h⟩ | ⟨rfl, h⟩
    · refine x_catch G Q.2 (tableOf []) ⟨0, 10, 13, 21⟩ (tableOf [(0, 10, 17, 13)]) rfl (fun _ h => absurd h List.not_mem_nil) (by decide) (by decide) q548 (by decide) rfl (fun q_4 => ?_)
      refine x_astore (lv' := [(4, .ref q_4), (0, .ref q0), (1, .int p1), (2, .int p2), (3, .ref q3)]) G dX0_same_13 (by decide) rfl ?_
      refine x_iconst (v := (1 : Int32)) G dX0_same_15 (by decide) ?_
      exact x_hi3 G Q dX0_same_16 rfl of cur_2 cs_3 h XSub.rf (Nat.le_of_ble_eq_true rfl) (Nat.le_of_ble_eq_true rfl)
    · refine x_catch G Q.2 (tableOf [(0, 10, 13, 21)]) ⟨0, 10, 17, 13⟩ (tableOf []) rfl (by intro z hz; simp only [tableOf, List.map_cons, List.map_nil, List.mem_cons, List.not_mem_nil, or_false] at hz; rcases hz with rfl <;> refine Or.inr ⟨by decide, ?_⟩ <;> first | exact ⟨_, q548, by decide⟩ | skip) (by decide) (by decide) q392 (by decide) rfl (fun q_5 => ?_)
      refine x_astore (lv' := [(4, .ref q_5), (0, .ref q0), (1, .int p1), (2, .int p2), (3, .ref q3)]) G dX0_same_17 (by decide) rfl ?_
      refine x_iconst (v := (2 : Int32)) G dX0_same_19 (by decide) ?_
      exact x_hi3 G Q dX0_same_20 rfl of cur_2 cs_3 h XSub.rf (Nat.le_of_ble_eq_true rfl) (Nat.le_of_ble_eq_true rfl)
  show X g 5 8 [(0, .ref q0), (1, .int p1), (2, .int p2), (3, .ref q3)] [.int r_1, .int (0 : Int32), .ref q3] ([(q3, .inl ((xT g) 3, 1, .inr (.inl of))), (q0, .inr (0, [.ref (ca 0), .ref (ca 1), .ref (ca 2), .ref (ca 3), .ref (ca 4), .int cur_2, .ref (ca 5)]))] ++ CR ca (xT g) cs_3) 3 222
  refine x_i2l G dX0_same_8 ?_
  refine x_topl (fun y_6 ey_6 => ?_)
  replace h := h y_6 ey_6
  obtain ⟨hz, h⟩ := h
  obtain ⟨f_7, ef_7⟩ : ∃ z : Nat → Int64, z = vp_updL of (0 : Int32).toNatClampNeg y_6 := ⟨_, rfl⟩
  replace h := h f_7 ef_7
  refine x_last G 0 rfl hz (by rw [← ef_7]) dX0_same_9 ?_
  show X g 5 10 [(0, .ref q0), (1, .int p1), (2, .int p2), (3, .ref q3)] [] ([(q3, .inl ((xT g) 3, 1, .inr (.inl f_7))), (q0, .inr (0, [.ref (ca 0), .ref (ca 1), .ref (ca 2), .ref (ca 3), .ref (ca 4), .int cur_2, .ref (ca 5)]))] ++ CR ca (xT g) cs_3) 3 222
  refine x_goto (tgt := 21) G dX0_same_10 rfl ?_
  refine x_iconst (v := (0 : Int32)) G dX0_same_21 (by decide) ?_
  exact x_hi3 G Q dX0_same_22 rfl f_7 cur_2 cs_3 h XSub.rf (Nat.le_of_ble_eq_true rfl) (Nat.le_of_ble_eq_true rfl)
theorem cdX0_worked : yX0_worked.cls ≠ "java/lang/invoke/MethodHandle" ∧ yX0_worked.cls ≠ "java/lang/invoke/VarHandle" ∧ (parseMethodDescriptor yX0_worked.desc).map (fun d => d.parameters.length) = some 6 := by decide +kernel
def wX0_worked (p1 : Int32) (p2 : Int32) (p3 : Int32) (p4 : Int32) (of : Nat → Int64) (cur : Int32) (ta : Nat → ClassId) (cs : CS) (K : Int32 → (Nat → Int64) → Int32 → CS → Prop) (E : String → (Nat → Int64) → Int32 → CS → Prop) : Prop := (bX1_worked ta p1 p2 p3 p4 cur cs (fun (r_1 : Int64) (cur_2 : Int32) (cs_3 : CS) => (vp_in (0 : Int32) 1 ∧ (∀ f_7 : Nat → Int64, f_7 = vp_updL of (0 : Int32).toNatClampNeg r_1 → K (0 : Int32) f_7 cur_2 cs_3))) (fun (En : String) (cur_2 : Int32) (cs_3 : CS) => ((En = "java/lang/NullPointerException" ∧ K (1 : Int32) of cur_2 cs_3) ∨ (En = "java/lang/ArrayIndexOutOfBoundsException" ∧ K (2 : Int32) of cur_2 cs_3) ∨ (En = "java/lang/ArithmeticException" ∧ K (3 : Int32) of cur_2 cs_3))))
set_option maxRecDepth 20000 in
theorem tX0_worked {l : Launch} {D : va_G} {ta : Nat → ClassId} {q5 : Nat} {of : Nat → Int64} {q0 : Nat} {cur : Int32} {ca : Nat → Nat} {cs : CS} {p1 : Int32} {p2 : Int32} {p3 : Int32} {p4 : Int32} {K : Int32 → (Nat → Int64) → Int32 → CS → Prop} {E : String → (Nat → Int64) → Int32 → CS → Prop} (hlt : l.stackTraces = false) (h : wX0_worked p1 p2 p3 p4 of cur ta cs K E) : SHi3 l D ta yX0_worked cX0_worked 7 FieldType.int  [(0, 13, 16, 21), (0, 13, 20, 13), (0, 13, 24, 52)] 22 [.ref q0, .int p1, .int p2, .int p3, .int p4, .ref q5] ([(q5, .inl (ta 3, 1, .inr (.inl of))), (q0, .inr (0, [.ref (ca 0), .ref (ca 1), .ref (ca 2), .ref (ca 3), .ref (ca 4), .int cur, .ref (ca 5)]))] ++ CR ca ta cs) (fun (of' : Nat → Int64) (cur' : Int32) (cs' : CS) => ([(q5, .inl (ta 3, 1, .inr (.inl of'))), (q0, .inr (0, [.ref (ca 0), .ref (ca 1), .ref (ca 2), .ref (ca 3), .ref (ca 4), .int cur', .ref (ca 5)]))] ++ CR ca ta cs')) 7 450 K E := by
  refine x_shi3 hlt (by decide +kernel) (Nat.le_of_ble_eq_true rfl) (fun g G hl hD hT Q => ?_)
  subst hl; subst hD; subst hT
  unfold wX0_worked at h
  show X g 7 0 [(0, .ref q0), (1, .int p1), (2, .int p2), (3, .int p3), (4, .int p4), (5, .ref q5)] [] ([(q5, .inl ((xT g) 3, 1, .inr (.inl of))), (q0, .inr (0, [.ref (ca 0), .ref (ca 1), .ref (ca 2), .ref (ca 3), .ref (ca 4), .int cur, .ref (ca 5)]))] ++ CR ca (xT g) cs) 0 0
  refine x_aload G dX0_worked_0 5 rfl ?_
  refine x_iconst (v := (0 : Int32)) G dX0_worked_2 (by decide) ?_
  refine x_aload_n G rfl dX0_worked_3 0 rfl ?_
  refine x_iload_n G rfl dX0_worked_4 1 rfl ?_
  refine x_iload_n G rfl dX0_worked_5 2 rfl ?_
  refine x_iload_n G rfl dX0_worked_6 3 rfl ?_
  refine x_iload G dX0_worked_7 4 rfl ?_
  refine x_cXVl2 (wc := (CW q0 ca (xT g) cur cs)) (As := [.int p1, .int p2, .int p3, .int p4]) (rest := [.int (0 : Int32), .ref q5]) G [(q5, .inl ((xT g) 3, 1, .inr (.inl of)))] XSub.rf (uX1_worked G.noTraces h) (lw_V q775 q776 q777 q65 q778) cdX1_worked 0 1 rfl rfl rfl (by decide) (by decide) rfl (Nat.le_of_ble_eq_true rfl) (Nat.le_of_ble_eq_true rfl) (Nat.le_of_ble_eq_true rfl) dX0_worked_9 (fun En cur_2 cs_3 h => ?_) (fun r_1 cur_2 cs_3 h => ?_)
  · rcases h with ⟨rfl, h⟩ | ⟨rfl, h⟩ | ⟨rfl, h⟩
    · refine x_catch G Q.2 (tableOf []) ⟨0, 13, 16, 21⟩ (tableOf [(0, 13, 20, 13), (0, 13, 24, 52)]) rfl (fun _ h => absurd h List.not_mem_nil) (by decide) (by decide) q548 (by decide) rfl (fun q_4 => ?_)
      refine x_astore (lv' := [(6, .ref q_4), (0, .ref q0), (1, .int p1), (2, .int p2), (3, .int p3), (4, .int p4), (5, .ref q5)]) G dX0_worked_16 (by decide) rfl ?_
      refine x_iconst (v := (1 : Int32)) G dX0_worked_18 (by decide) ?_
      exact x_hi3 G Q dX0_worked_19 rfl of cur_2 cs_3 h XSub.rf (Nat.le_of_ble_eq_true rfl) (Nat.le_of_ble_eq_true rfl)
    · refine x_catch G Q.2 (tableOf [(0, 13, 16, 21)]) ⟨0, 13, 20, 13⟩ (tableOf [(0, 13, 24, 52)]) rfl (by intro z hz; simp only [tableOf, List.map_cons, List.map_nil, List.mem_cons, List.not_mem_nil, or_false] at hz; rcases hz with rfl <;> refine Or.inr ⟨by decide, ?_⟩ <;> first | exact ⟨_, q548, by decide⟩ | skip) (by decide) (by decide) q392 (by decide) rfl (fun q_5 => ?_)
      refine x_astore (lv' := [(6, .ref q_5), (0, .ref q0), (1, .int p1), (2, .int p2), (3, .int p3), (4, .int p4), (5, .ref q5)]) G dX0_worked_20 (by decide) rfl ?_
      refine x_iconst (v := (2 : Int32)) G dX0_worked_22 (by decide) ?_
      exact x_hi3 G Q dX0_worked_23 rfl of cur_2 cs_3 h XSub.rf (Nat.le_of_ble_eq_true rfl) (Nat.le_of_ble_eq_true rfl)
    · refine x_catch G Q.2 (tableOf [(0, 13, 16, 21), (0, 13, 20, 13)]) ⟨0, 13, 24, 52⟩ (tableOf []) rfl (by intro z hz; simp only [tableOf, List.map_cons, List.map_nil, List.mem_cons, List.not_mem_nil, or_false] at hz; rcases hz with rfl | rfl <;> refine Or.inr ⟨by decide, ?_⟩ <;> first | exact ⟨_, q548, by decide⟩ | first | exact ⟨_, q392, by decide⟩ | skip) (by decide) (by decide) q761 (by decide) rfl (fun q_6 => ?_)
      refine x_astore (lv' := [(6, .ref q_6), (0, .ref q0), (1, .int p1), (2, .int p2), (3, .int p3), (4, .int p4), (5, .ref q5)]) G dX0_worked_24 (by decide) rfl ?_
      refine x_iconst (v := (3 : Int32)) G dX0_worked_26 (by decide) ?_
      exact x_hi3 G Q dX0_worked_27 rfl of cur_2 cs_3 h XSub.rf (Nat.le_of_ble_eq_true rfl) (Nat.le_of_ble_eq_true rfl)
  show X g 7 12 [(0, .ref q0), (1, .int p1), (2, .int p2), (3, .int p3), (4, .int p4), (5, .ref q5)] [.long r_1, .int (0 : Int32), .ref q5] ([(q5, .inl ((xT g) 3, 1, .inr (.inl of))), (q0, .inr (0, [.ref (ca 0), .ref (ca 1), .ref (ca 2), .ref (ca 3), .ref (ca 4), .int cur_2, .ref (ca 5)]))] ++ CR ca (xT g) cs_3) 7 450
  obtain ⟨hz, h⟩ := h
  obtain ⟨f_7, ef_7⟩ : ∃ z : Nat → Int64, z = vp_updL of (0 : Int32).toNatClampNeg r_1 := ⟨_, rfl⟩
  replace h := h f_7 ef_7
  refine x_last G 0 rfl hz (by rw [← ef_7]) dX0_worked_12 ?_
  show X g 7 13 [(0, .ref q0), (1, .int p1), (2, .int p2), (3, .int p3), (4, .int p4), (5, .ref q5)] [] ([(q5, .inl ((xT g) 3, 1, .inr (.inl f_7))), (q0, .inr (0, [.ref (ca 0), .ref (ca 1), .ref (ca 2), .ref (ca 3), .ref (ca 4), .int cur_2, .ref (ca 5)]))] ++ CR ca (xT g) cs_3) 7 450
  refine x_goto (tgt := 28) G dX0_worked_13 rfl ?_
  refine x_iconst (v := (0 : Int32)) G dX0_worked_28 (by decide) ?_
  exact x_hi3 G Q dX0_worked_29 rfl f_7 cur_2 cs_3 h XSub.rf (Nat.le_of_ble_eq_true rfl) (Nat.le_of_ble_eq_true rfl)
theorem cdX0_whole : yX0_whole.cls ≠ "java/lang/invoke/MethodHandle" ∧ yX0_whole.cls ≠ "java/lang/invoke/VarHandle" ∧ (parseMethodDescriptor yX0_whole.desc).map (fun d => d.parameters.length) = some 5 := by decide +kernel
def wX0_whole (p1 : Int32) (p2 : Int32) (p3 : Int32) (of : Nat → Int64) (cur : Int32) (ta : Nat → ClassId) (cs : CS) (K : Int32 → (Nat → Int64) → Int32 → CS → Prop) (E : String → (Nat → Int64) → Int32 → CS → Prop) : Prop := (bX1_whole ta p1 p2 p3 cur cs (fun (r_1 : Int64) (cur_2 : Int32) (cs_3 : CS) => (vp_in (0 : Int32) 1 ∧ (∀ f_6 : Nat → Int64, f_6 = vp_updL of (0 : Int32).toNatClampNeg r_1 → K (0 : Int32) f_6 cur_2 cs_3))) (fun (En : String) (cur_2 : Int32) (cs_3 : CS) => ((En = "java/lang/NullPointerException" ∧ K (1 : Int32) of cur_2 cs_3) ∨ (En = "java/lang/ArrayIndexOutOfBoundsException" ∧ K (2 : Int32) of cur_2 cs_3))))
set_option maxRecDepth 20000 in
theorem tX0_whole {l : Launch} {D : va_G} {ta : Nat → ClassId} {q4 : Nat} {of : Nat → Int64} {q0 : Nat} {cur : Int32} {ca : Nat → Nat} {cs : CS} {p1 : Int32} {p2 : Int32} {p3 : Int32} {K : Int32 → (Nat → Int64) → Int32 → CS → Prop} {E : String → (Nat → Int64) → Int32 → CS → Prop} (hlt : l.stackTraces = false) (h : wX0_whole p1 p2 p3 of cur ta cs K E) : SHi3 l D ta yX0_whole cX0_whole 6 FieldType.int  [(0, 11, 14, 21), (0, 11, 18, 13)] 3 [.ref q0, .int p1, .int p2, .int p3, .ref q4] ([(q4, .inl (ta 3, 1, .inr (.inl of))), (q0, .inr (0, [.ref (ca 0), .ref (ca 1), .ref (ca 2), .ref (ca 3), .ref (ca 4), .int cur, .ref (ca 5)]))] ++ CR ca ta cs) (fun (of' : Nat → Int64) (cur' : Int32) (cs' : CS) => ([(q4, .inl (ta 3, 1, .inr (.inl of'))), (q0, .inr (0, [.ref (ca 0), .ref (ca 1), .ref (ca 2), .ref (ca 3), .ref (ca 4), .int cur', .ref (ca 5)]))] ++ CR ca ta cs')) 3 222 K E := by
  refine x_shi3 hlt (by decide +kernel) (Nat.le_of_ble_eq_true rfl) (fun g G hl hD hT Q => ?_)
  subst hl; subst hD; subst hT
  unfold wX0_whole at h
  show X g 6 0 [(0, .ref q0), (1, .int p1), (2, .int p2), (3, .int p3), (4, .ref q4)] [] ([(q4, .inl ((xT g) 3, 1, .inr (.inl of))), (q0, .inr (0, [.ref (ca 0), .ref (ca 1), .ref (ca 2), .ref (ca 3), .ref (ca 4), .int cur, .ref (ca 5)]))] ++ CR ca (xT g) cs) 0 0
  refine x_aload G dX0_whole_0 4 rfl ?_
  refine x_iconst (v := (0 : Int32)) G dX0_whole_2 (by decide) ?_
  refine x_aload_n G rfl dX0_whole_3 0 rfl ?_
  refine x_iload_n G rfl dX0_whole_4 1 rfl ?_
  refine x_iload_n G rfl dX0_whole_5 2 rfl ?_
  refine x_iload_n G rfl dX0_whole_6 3 rfl ?_
  refine x_cXVl2 (wc := (CW q0 ca (xT g) cur cs)) (As := [.int p1, .int p2, .int p3]) (rest := [.int (0 : Int32), .ref q4]) G [(q4, .inl ((xT g) 3, 1, .inr (.inl of)))] XSub.rf (uX1_whole G.noTraces h) (lw_V q863 q864 q865 q65 q866) cdX1_whole 0 1 rfl rfl rfl (by decide) (by decide) rfl (Nat.le_of_ble_eq_true rfl) (Nat.le_of_ble_eq_true rfl) (Nat.le_of_ble_eq_true rfl) dX0_whole_7 (fun En cur_2 cs_3 h => ?_) (fun r_1 cur_2 cs_3 h => ?_)
  · rcases h with ⟨rfl, h⟩ | ⟨rfl, h⟩
    · refine x_catch G Q.2 (tableOf []) ⟨0, 11, 14, 21⟩ (tableOf [(0, 11, 18, 13)]) rfl (fun _ h => absurd h List.not_mem_nil) (by decide) (by decide) q548 (by decide) rfl (fun q_4 => ?_)
      refine x_astore (lv' := [(5, .ref q_4), (0, .ref q0), (1, .int p1), (2, .int p2), (3, .int p3), (4, .ref q4)]) G dX0_whole_14 (by decide) rfl ?_
      refine x_iconst (v := (1 : Int32)) G dX0_whole_16 (by decide) ?_
      exact x_hi3 G Q dX0_whole_17 rfl of cur_2 cs_3 h XSub.rf (Nat.le_of_ble_eq_true rfl) (Nat.le_of_ble_eq_true rfl)
    · refine x_catch G Q.2 (tableOf [(0, 11, 14, 21)]) ⟨0, 11, 18, 13⟩ (tableOf []) rfl (by intro z hz; simp only [tableOf, List.map_cons, List.map_nil, List.mem_cons, List.not_mem_nil, or_false] at hz; rcases hz with rfl <;> refine Or.inr ⟨by decide, ?_⟩ <;> first | exact ⟨_, q548, by decide⟩ | skip) (by decide) (by decide) q392 (by decide) rfl (fun q_5 => ?_)
      refine x_astore (lv' := [(5, .ref q_5), (0, .ref q0), (1, .int p1), (2, .int p2), (3, .int p3), (4, .ref q4)]) G dX0_whole_18 (by decide) rfl ?_
      refine x_iconst (v := (2 : Int32)) G dX0_whole_20 (by decide) ?_
      exact x_hi3 G Q dX0_whole_21 rfl of cur_2 cs_3 h XSub.rf (Nat.le_of_ble_eq_true rfl) (Nat.le_of_ble_eq_true rfl)
  show X g 6 10 [(0, .ref q0), (1, .int p1), (2, .int p2), (3, .int p3), (4, .ref q4)] [.long r_1, .int (0 : Int32), .ref q4] ([(q4, .inl ((xT g) 3, 1, .inr (.inl of))), (q0, .inr (0, [.ref (ca 0), .ref (ca 1), .ref (ca 2), .ref (ca 3), .ref (ca 4), .int cur_2, .ref (ca 5)]))] ++ CR ca (xT g) cs_3) 3 222
  obtain ⟨hz, h⟩ := h
  obtain ⟨f_6, ef_6⟩ : ∃ z : Nat → Int64, z = vp_updL of (0 : Int32).toNatClampNeg r_1 := ⟨_, rfl⟩
  replace h := h f_6 ef_6
  refine x_last G 0 rfl hz (by rw [← ef_6]) dX0_whole_10 ?_
  show X g 6 11 [(0, .ref q0), (1, .int p1), (2, .int p2), (3, .int p3), (4, .ref q4)] [] ([(q4, .inl ((xT g) 3, 1, .inr (.inl f_6))), (q0, .inr (0, [.ref (ca 0), .ref (ca 1), .ref (ca 2), .ref (ca 3), .ref (ca 4), .int cur_2, .ref (ca 5)]))] ++ CR ca (xT g) cs_3) 3 222
  refine x_goto (tgt := 22) G dX0_whole_11 rfl ?_
  refine x_iconst (v := (0 : Int32)) G dX0_whole_22 (by decide) ?_
  exact x_hi3 G Q dX0_whole_23 rfl f_6 cur_2 cs_3 h XSub.rf (Nat.le_of_ble_eq_true rfl) (Nat.le_of_ble_eq_true rfl)
theorem cdX0_units : yX0_units.cls ≠ "java/lang/invoke/MethodHandle" ∧ yX0_units.cls ≠ "java/lang/invoke/VarHandle" ∧ (parseMethodDescriptor yX0_units.desc).map (fun d => d.parameters.length) = some 5 := by decide +kernel
def wX0_units (p1 : Int32) (p2 : Int32) (p3 : Int32) (of : Nat → Int64) (cur : Int32) (ta : Nat → ClassId) (cs : CS) (K : Int32 → (Nat → Int64) → Int32 → CS → Prop) (E : String → (Nat → Int64) → Int32 → CS → Prop) : Prop := (bX1_units ta p1 p2 p3 cur cs (fun (r_1 : Int64) (cur_2 : Int32) (cs_3 : CS) => (vp_in (0 : Int32) 1 ∧ (∀ f_6 : Nat → Int64, f_6 = vp_updL of (0 : Int32).toNatClampNeg r_1 → K (0 : Int32) f_6 cur_2 cs_3))) (fun (En : String) (cur_2 : Int32) (cs_3 : CS) => ((En = "java/lang/NullPointerException" ∧ K (1 : Int32) of cur_2 cs_3) ∨ (En = "java/lang/ArrayIndexOutOfBoundsException" ∧ K (2 : Int32) of cur_2 cs_3))))
set_option maxRecDepth 20000 in
theorem tX0_units {l : Launch} {D : va_G} {ta : Nat → ClassId} {q4 : Nat} {of : Nat → Int64} {q0 : Nat} {cur : Int32} {ca : Nat → Nat} {cs : CS} {p1 : Int32} {p2 : Int32} {p3 : Int32} {K : Int32 → (Nat → Int64) → Int32 → CS → Prop} {E : String → (Nat → Int64) → Int32 → CS → Prop} (hlt : l.stackTraces = false) (h : wX0_units p1 p2 p3 of cur ta cs K E) : SHi3 l D ta yX0_units cX0_units 6 FieldType.int  [(0, 11, 14, 21), (0, 11, 18, 13)] 7 [.ref q0, .int p1, .int p2, .int p3, .ref q4] ([(q4, .inl (ta 3, 1, .inr (.inl of))), (q0, .inr (0, [.ref (ca 0), .ref (ca 1), .ref (ca 2), .ref (ca 3), .ref (ca 4), .int cur, .ref (ca 5)]))] ++ CR ca ta cs) (fun (of' : Nat → Int64) (cur' : Int32) (cs' : CS) => ([(q4, .inl (ta 3, 1, .inr (.inl of'))), (q0, .inr (0, [.ref (ca 0), .ref (ca 1), .ref (ca 2), .ref (ca 3), .ref (ca 4), .int cur', .ref (ca 5)]))] ++ CR ca ta cs')) 4 228 K E := by
  refine x_shi3 hlt (by decide +kernel) (Nat.le_of_ble_eq_true rfl) (fun g G hl hD hT Q => ?_)
  subst hl; subst hD; subst hT
  unfold wX0_units at h
  show X g 6 0 [(0, .ref q0), (1, .int p1), (2, .int p2), (3, .int p3), (4, .ref q4)] [] ([(q4, .inl ((xT g) 3, 1, .inr (.inl of))), (q0, .inr (0, [.ref (ca 0), .ref (ca 1), .ref (ca 2), .ref (ca 3), .ref (ca 4), .int cur, .ref (ca 5)]))] ++ CR ca (xT g) cs) 0 0
  refine x_aload G dX0_units_0 4 rfl ?_
  refine x_iconst (v := (0 : Int32)) G dX0_units_2 (by decide) ?_
  refine x_aload_n G rfl dX0_units_3 0 rfl ?_
  refine x_iload_n G rfl dX0_units_4 1 rfl ?_
  refine x_iload_n G rfl dX0_units_5 2 rfl ?_
  refine x_iload_n G rfl dX0_units_6 3 rfl ?_
  refine x_cHVl2 (wc := (CW q0 ca (xT g) cur cs)) (As := [.int p1, .int p2, .int p3]) (rest := [.int (0 : Int32), .ref q4]) G [(q4, .inl ((xT g) 3, 1, .inr (.inl of)))] XSub.rf (uX1_units G.noTraces h) (lw_VW q880 q881 q882 q65 q883) cdX1_units 0 1 rfl rfl rfl (by decide) (by decide) rfl (Nat.le_of_ble_eq_true rfl) (Nat.le_of_ble_eq_true rfl) (Nat.le_of_ble_eq_true rfl) dX0_units_7 (fun En cur_2 cs_3 h => ?_) (fun r_1 cur_2 cs_3 h => ?_)
  · rcases h with ⟨rfl, h⟩ | ⟨rfl, h⟩
    · refine x_catch G Q.2 (tableOf []) ⟨0, 11, 14, 21⟩ (tableOf [(0, 11, 18, 13)]) rfl (fun _ h => absurd h List.not_mem_nil) (by decide) (by decide) q548 (by decide) rfl (fun q_4 => ?_)
      refine x_astore (lv' := [(5, .ref q_4), (0, .ref q0), (1, .int p1), (2, .int p2), (3, .int p3), (4, .ref q4)]) G dX0_units_14 (by decide) rfl ?_
      refine x_iconst (v := (1 : Int32)) G dX0_units_16 (by decide) ?_
      exact x_hi3 G Q dX0_units_17 rfl of cur_2 cs_3 h XSub.rf (Nat.le_of_ble_eq_true rfl) (Nat.le_of_ble_eq_true rfl)
    · refine x_catch G Q.2 (tableOf [(0, 11, 14, 21)]) ⟨0, 11, 18, 13⟩ (tableOf []) rfl (by intro z hz; simp only [tableOf, List.map_cons, List.map_nil, List.mem_cons, List.not_mem_nil, or_false] at hz; rcases hz with rfl <;> refine Or.inr ⟨by decide, ?_⟩ <;> first | exact ⟨_, q548, by decide⟩ | skip) (by decide) (by decide) q392 (by decide) rfl (fun q_5 => ?_)
      refine x_astore (lv' := [(5, .ref q_5), (0, .ref q0), (1, .int p1), (2, .int p2), (3, .int p3), (4, .ref q4)]) G dX0_units_18 (by decide) rfl ?_
      refine x_iconst (v := (2 : Int32)) G dX0_units_20 (by decide) ?_
      exact x_hi3 G Q dX0_units_21 rfl of cur_2 cs_3 h XSub.rf (Nat.le_of_ble_eq_true rfl) (Nat.le_of_ble_eq_true rfl)
  show X g 6 10 [(0, .ref q0), (1, .int p1), (2, .int p2), (3, .int p3), (4, .ref q4)] [.long r_1, .int (0 : Int32), .ref q4] ([(q4, .inl ((xT g) 3, 1, .inr (.inl of))), (q0, .inr (0, [.ref (ca 0), .ref (ca 1), .ref (ca 2), .ref (ca 3), .ref (ca 4), .int cur_2, .ref (ca 5)]))] ++ CR ca (xT g) cs_3) 4 228
  obtain ⟨hz, h⟩ := h
  obtain ⟨f_6, ef_6⟩ : ∃ z : Nat → Int64, z = vp_updL of (0 : Int32).toNatClampNeg r_1 := ⟨_, rfl⟩
  replace h := h f_6 ef_6
  refine x_last G 0 rfl hz (by rw [← ef_6]) dX0_units_10 ?_
  show X g 6 11 [(0, .ref q0), (1, .int p1), (2, .int p2), (3, .int p3), (4, .ref q4)] [] ([(q4, .inl ((xT g) 3, 1, .inr (.inl f_6))), (q0, .inr (0, [.ref (ca 0), .ref (ca 1), .ref (ca 2), .ref (ca 3), .ref (ca 4), .int cur_2, .ref (ca 5)]))] ++ CR ca (xT g) cs_3) 4 228
  refine x_goto (tgt := 22) G dX0_units_11 rfl ?_
  refine x_iconst (v := (0 : Int32)) G dX0_units_22 (by decide) ?_
  exact x_hi3 G Q dX0_units_23 rfl f_6 cur_2 cs_3 h XSub.rf (Nat.le_of_ble_eq_true rfl) (Nat.le_of_ble_eq_true rfl)
theorem cdX0_give : yX0_give.cls ≠ "java/lang/invoke/MethodHandle" ∧ yX0_give.cls ≠ "java/lang/invoke/VarHandle" ∧ (parseMethodDescriptor yX0_give.desc).map (fun d => d.parameters.length) = some 4 := by decide +kernel
def wX0_give (p1 : Int32) (p2 : Int32) (of : Nat → Int64) (cur : Int32) (ta : Nat → ClassId) (cs : CS) (K : Int32 → (Nat → Int64) → Int32 → CS → Prop) (E : String → (Nat → Int64) → Int32 → CS → Prop) : Prop := (bX1_give ta p1 p2 cur cs (fun (r_1 : Int32) (cur_2 : Int32) (cs_3 : CS) => (∀ y_6 : Int64, y_6 = r_1.toInt64 → (vp_in (0 : Int32) 1 ∧ (∀ f_7 : Nat → Int64, f_7 = vp_updL of (0 : Int32).toNatClampNeg y_6 → K (0 : Int32) f_7 cur_2 cs_3)))) (fun (En : String) (cur_2 : Int32) (cs_3 : CS) => ((En = "java/lang/NullPointerException" ∧ K (1 : Int32) of cur_2 cs_3) ∨ (En = "java/lang/ArrayIndexOutOfBoundsException" ∧ K (2 : Int32) of cur_2 cs_3))))
set_option maxRecDepth 20000 in
theorem tX0_give {l : Launch} {D : va_G} {ta : Nat → ClassId} {q3 : Nat} {of : Nat → Int64} {q0 : Nat} {cur : Int32} {ca : Nat → Nat} {cs : CS} {p1 : Int32} {p2 : Int32} {K : Int32 → (Nat → Int64) → Int32 → CS → Prop} {E : String → (Nat → Int64) → Int32 → CS → Prop} (hlt : l.stackTraces = false) (h : wX0_give p1 p2 of cur ta cs K E) : SHi3 l D ta yX0_give cX0_give 5 FieldType.int  [(0, 10, 13, 21), (0, 10, 17, 13)] 3 [.ref q0, .int p1, .int p2, .ref q3] ([(q3, .inl (ta 3, 1, .inr (.inl of))), (q0, .inr (0, [.ref (ca 0), .ref (ca 1), .ref (ca 2), .ref (ca 3), .ref (ca 4), .int cur, .ref (ca 5)]))] ++ CR ca ta cs) (fun (of' : Nat → Int64) (cur' : Int32) (cs' : CS) => ([(q3, .inl (ta 3, 1, .inr (.inl of'))), (q0, .inr (0, [.ref (ca 0), .ref (ca 1), .ref (ca 2), .ref (ca 3), .ref (ca 4), .int cur', .ref (ca 5)]))] ++ CR ca ta cs')) 3 222 K E := by
  refine x_shi3 hlt (by decide +kernel) (Nat.le_of_ble_eq_true rfl) (fun g G hl hD hT Q => ?_)
  subst hl; subst hD; subst hT
  unfold wX0_give at h
  show X g 5 0 [(0, .ref q0), (1, .int p1), (2, .int p2), (3, .ref q3)] [] ([(q3, .inl ((xT g) 3, 1, .inr (.inl of))), (q0, .inr (0, [.ref (ca 0), .ref (ca 1), .ref (ca 2), .ref (ca 3), .ref (ca 4), .int cur, .ref (ca 5)]))] ++ CR ca (xT g) cs) 0 0
  refine x_aload_n G rfl dX0_give_0 3 rfl ?_
  refine x_iconst (v := (0 : Int32)) G dX0_give_1 (by decide) ?_
  refine x_aload_n G rfl dX0_give_2 0 rfl ?_
  refine x_iload_n G rfl dX0_give_3 1 rfl ?_
  refine x_iload_n G rfl dX0_give_4 2 rfl ?_
  refine x_cXVi2 (wc := (CW q0 ca (xT g) cur cs)) (As := [.int p1, .int p2]) (rest := [.int (0 : Int32), .ref q3]) G [(q3, .inl ((xT g) 3, 1, .inr (.inl of)))] XSub.rf (uX1_give G.noTraces h) (lw_V q915 q916 q917 q65 q918) cdX1_give 0 1 rfl rfl rfl (by decide) (by decide) rfl (Nat.le_of_ble_eq_true rfl) (Nat.le_of_ble_eq_true rfl) (Nat.le_of_ble_eq_true rfl) dX0_give_5 (fun En cur_2 cs_3 h => ?_) (fun r_1 cur_2 cs_3 h => ?_)
  · rcases h with ⟨rfl, h⟩ | ⟨rfl, h⟩
    · refine x_catch G Q.2 (tableOf []) ⟨0, 10, 13, 21⟩ (tableOf [(0, 10, 17, 13)]) rfl (fun _ h => absurd h List.not_mem_nil) (by decide) (by decide) q548 (by decide) rfl (fun q_4 => ?_)
      refine x_astore (lv' := [(4, .ref q_4), (0, .ref q0), (1, .int p1), (2, .int p2), (3, .ref q3)]) G dX0_give_13 (by decide) rfl ?_
      refine x_iconst (v := (1 : Int32)) G dX0_give_15 (by decide) ?_
      exact x_hi3 G Q dX0_give_16 rfl of cur_2 cs_3 h XSub.rf (Nat.le_of_ble_eq_true rfl) (Nat.le_of_ble_eq_true rfl)
    · refine x_catch G Q.2 (tableOf [(0, 10, 13, 21)]) ⟨0, 10, 17, 13⟩ (tableOf []) rfl (by intro z hz; simp only [tableOf, List.map_cons, List.map_nil, List.mem_cons, List.not_mem_nil, or_false] at hz; rcases hz with rfl <;> refine Or.inr ⟨by decide, ?_⟩ <;> first | exact ⟨_, q548, by decide⟩ | skip) (by decide) (by decide) q392 (by decide) rfl (fun q_5 => ?_)
      refine x_astore (lv' := [(4, .ref q_5), (0, .ref q0), (1, .int p1), (2, .int p2), (3, .ref q3)]) G dX0_give_17 (by decide) rfl ?_
      refine x_iconst (v := (2 : Int32)) G dX0_give_19 (by decide) ?_
      exact x_hi3 G Q dX0_give_20 rfl of cur_2 cs_3 h XSub.rf (Nat.le_of_ble_eq_true rfl) (Nat.le_of_ble_eq_true rfl)
  show X g 5 8 [(0, .ref q0), (1, .int p1), (2, .int p2), (3, .ref q3)] [.int r_1, .int (0 : Int32), .ref q3] ([(q3, .inl ((xT g) 3, 1, .inr (.inl of))), (q0, .inr (0, [.ref (ca 0), .ref (ca 1), .ref (ca 2), .ref (ca 3), .ref (ca 4), .int cur_2, .ref (ca 5)]))] ++ CR ca (xT g) cs_3) 3 222
  refine x_i2l G dX0_give_8 ?_
  refine x_topl (fun y_6 ey_6 => ?_)
  replace h := h y_6 ey_6
  obtain ⟨hz, h⟩ := h
  obtain ⟨f_7, ef_7⟩ : ∃ z : Nat → Int64, z = vp_updL of (0 : Int32).toNatClampNeg y_6 := ⟨_, rfl⟩
  replace h := h f_7 ef_7
  refine x_last G 0 rfl hz (by rw [← ef_7]) dX0_give_9 ?_
  show X g 5 10 [(0, .ref q0), (1, .int p1), (2, .int p2), (3, .ref q3)] [] ([(q3, .inl ((xT g) 3, 1, .inr (.inl f_7))), (q0, .inr (0, [.ref (ca 0), .ref (ca 1), .ref (ca 2), .ref (ca 3), .ref (ca 4), .int cur_2, .ref (ca 5)]))] ++ CR ca (xT g) cs_3) 3 222
  refine x_goto (tgt := 21) G dX0_give_10 rfl ?_
  refine x_iconst (v := (0 : Int32)) G dX0_give_21 (by decide) ?_
  exact x_hi3 G Q dX0_give_22 rfl f_7 cur_2 cs_3 h XSub.rf (Nat.le_of_ble_eq_true rfl) (Nat.le_of_ble_eq_true rfl)
theorem cdX0_run : yX0_run.cls ≠ "java/lang/invoke/MethodHandle" ∧ yX0_run.cls ≠ "java/lang/invoke/VarHandle" ∧ (parseMethodDescriptor yX0_run.desc).map (fun d => d.parameters.length) = some 5 := by decide +kernel
def wX0_run (p1 : Int32) (p2 : Int32) (p3 : Int32) (of : Nat → Int64) (cur : Int32) (ta : Nat → ClassId) (cs : CS) (K : Int32 → (Nat → Int64) → Int32 → CS → Prop) (E : String → (Nat → Int64) → Int32 → CS → Prop) : Prop := (bX1_run ta p1 p2 p3 cur cs (fun (r_1 : Int32) (cur_2 : Int32) (cs_3 : CS) => (∀ y_6 : Int64, y_6 = r_1.toInt64 → (vp_in (0 : Int32) 1 ∧ (∀ f_7 : Nat → Int64, f_7 = vp_updL of (0 : Int32).toNatClampNeg y_6 → K (0 : Int32) f_7 cur_2 cs_3)))) (fun (En : String) (cur_2 : Int32) (cs_3 : CS) => ((En = "java/lang/NullPointerException" ∧ K (1 : Int32) of cur_2 cs_3) ∨ (En = "java/lang/ArrayIndexOutOfBoundsException" ∧ K (2 : Int32) of cur_2 cs_3))))
set_option maxRecDepth 20000 in
theorem tX0_run {l : Launch} {D : va_G} {ta : Nat → ClassId} {q4 : Nat} {of : Nat → Int64} {q0 : Nat} {cur : Int32} {ca : Nat → Nat} {cs : CS} {p1 : Int32} {p2 : Int32} {p3 : Int32} {K : Int32 → (Nat → Int64) → Int32 → CS → Prop} {E : String → (Nat → Int64) → Int32 → CS → Prop} (hlt : l.stackTraces = false) (h : wX0_run p1 p2 p3 of cur ta cs K E) : SHi3 l D ta yX0_run cX0_run 6 FieldType.int  [(0, 12, 15, 21), (0, 12, 19, 13)] 19 [.ref q0, .int p1, .int p2, .int p3, .ref q4] ([(q4, .inl (ta 3, 1, .inr (.inl of))), (q0, .inr (0, [.ref (ca 0), .ref (ca 1), .ref (ca 2), .ref (ca 3), .ref (ca 4), .int cur, .ref (ca 5)]))] ++ CR ca ta cs) (fun (of' : Nat → Int64) (cur' : Int32) (cs' : CS) => ([(q4, .inl (ta 3, 1, .inr (.inl of'))), (q0, .inr (0, [.ref (ca 0), .ref (ca 1), .ref (ca 2), .ref (ca 3), .ref (ca 4), .int cur', .ref (ca 5)]))] ++ CR ca ta cs')) 8 502 K E := by
  refine x_shi3 hlt (by decide +kernel) (Nat.le_of_ble_eq_true rfl) (fun g G hl hD hT Q => ?_)
  subst hl; subst hD; subst hT
  unfold wX0_run at h
  show X g 6 0 [(0, .ref q0), (1, .int p1), (2, .int p2), (3, .int p3), (4, .ref q4)] [] ([(q4, .inl ((xT g) 3, 1, .inr (.inl of))), (q0, .inr (0, [.ref (ca 0), .ref (ca 1), .ref (ca 2), .ref (ca 3), .ref (ca 4), .int cur, .ref (ca 5)]))] ++ CR ca (xT g) cs) 0 0
  refine x_aload G dX0_run_0 4 rfl ?_
  refine x_iconst (v := (0 : Int32)) G dX0_run_2 (by decide) ?_
  refine x_aload_n G rfl dX0_run_3 0 rfl ?_
  refine x_iload_n G rfl dX0_run_4 1 rfl ?_
  refine x_iload_n G rfl dX0_run_5 2 rfl ?_
  refine x_iload_n G rfl dX0_run_6 3 rfl ?_
  refine x_cHVi2 (wc := (CW q0 ca (xT g) cur cs)) (As := [.int p1, .int p2, .int p3]) (rest := [.int (0 : Int32), .ref q4]) G [(q4, .inl ((xT g) 3, 1, .inr (.inl of)))] XSub.rf (uX1_run G.noTraces h) (lw_VW q934 q935 q936 q65 q937) cdX1_run 0 1 rfl rfl rfl (by decide) (by decide) rfl (Nat.le_of_ble_eq_true rfl) (Nat.le_of_ble_eq_true rfl) (Nat.le_of_ble_eq_true rfl) dX0_run_7 (fun En cur_2 cs_3 h => ?_) (fun r_1 cur_2 cs_3 h => ?_)
  · rcases h with ⟨rfl, h⟩ | ⟨rfl, h⟩
    · refine x_catch G Q.2 (tableOf []) ⟨0, 12, 15, 21⟩ (tableOf [(0, 12, 19, 13)]) rfl (fun _ h => absurd h List.not_mem_nil) (by decide) (by decide) q548 (by decide) rfl (fun q_4 => ?_)
      refine x_astore (lv' := [(5, .ref q_4), (0, .ref q0), (1, .int p1), (2, .int p2), (3, .int p3), (4, .ref q4)]) G dX0_run_15 (by decide) rfl ?_
      refine x_iconst (v := (1 : Int32)) G dX0_run_17 (by decide) ?_
      exact x_hi3 G Q dX0_run_18 rfl of cur_2 cs_3 h XSub.rf (Nat.le_of_ble_eq_true rfl) (Nat.le_of_ble_eq_true rfl)
    · refine x_catch G Q.2 (tableOf [(0, 12, 15, 21)]) ⟨0, 12, 19, 13⟩ (tableOf []) rfl (by intro z hz; simp only [tableOf, List.map_cons, List.map_nil, List.mem_cons, List.not_mem_nil, or_false] at hz; rcases hz with rfl <;> refine Or.inr ⟨by decide, ?_⟩ <;> first | exact ⟨_, q548, by decide⟩ | skip) (by decide) (by decide) q392 (by decide) rfl (fun q_5 => ?_)
      refine x_astore (lv' := [(5, .ref q_5), (0, .ref q0), (1, .int p1), (2, .int p2), (3, .int p3), (4, .ref q4)]) G dX0_run_19 (by decide) rfl ?_
      refine x_iconst (v := (2 : Int32)) G dX0_run_21 (by decide) ?_
      exact x_hi3 G Q dX0_run_22 rfl of cur_2 cs_3 h XSub.rf (Nat.le_of_ble_eq_true rfl) (Nat.le_of_ble_eq_true rfl)
  show X g 6 10 [(0, .ref q0), (1, .int p1), (2, .int p2), (3, .int p3), (4, .ref q4)] [.int r_1, .int (0 : Int32), .ref q4] ([(q4, .inl ((xT g) 3, 1, .inr (.inl of))), (q0, .inr (0, [.ref (ca 0), .ref (ca 1), .ref (ca 2), .ref (ca 3), .ref (ca 4), .int cur_2, .ref (ca 5)]))] ++ CR ca (xT g) cs_3) 8 502
  refine x_i2l G dX0_run_10 ?_
  refine x_topl (fun y_6 ey_6 => ?_)
  replace h := h y_6 ey_6
  obtain ⟨hz, h⟩ := h
  obtain ⟨f_7, ef_7⟩ : ∃ z : Nat → Int64, z = vp_updL of (0 : Int32).toNatClampNeg y_6 := ⟨_, rfl⟩
  replace h := h f_7 ef_7
  refine x_last G 0 rfl hz (by rw [← ef_7]) dX0_run_11 ?_
  show X g 6 12 [(0, .ref q0), (1, .int p1), (2, .int p2), (3, .int p3), (4, .ref q4)] [] ([(q4, .inl ((xT g) 3, 1, .inr (.inl f_7))), (q0, .inr (0, [.ref (ca 0), .ref (ca 1), .ref (ca 2), .ref (ca 3), .ref (ca 4), .int cur_2, .ref (ca 5)]))] ++ CR ca (xT g) cs_3) 8 502
  refine x_goto (tgt := 23) G dX0_run_12 rfl ?_
  refine x_iconst (v := (0 : Int32)) G dX0_run_23 (by decide) ?_
  exact x_hi3 G Q dX0_run_24 rfl f_7 cur_2 cs_3 h XSub.rf (Nat.le_of_ble_eq_true rfl) (Nat.le_of_ble_eq_true rfl)
theorem cdX0_compare : yX0_compare.cls ≠ "java/lang/invoke/MethodHandle" ∧ yX0_compare.cls ≠ "java/lang/invoke/VarHandle" ∧ (parseMethodDescriptor yX0_compare.desc).map (fun d => d.parameters.length) = some 4 := by decide +kernel
def wX0_compare (p1 : Int32) (p2 : Int64) (of : Nat → Int64) (cur : Int32) (ta : Nat → ClassId) (cs : CS) (K : Int32 → (Nat → Int64) → Int32 → CS → Prop) (E : String → (Nat → Int64) → Int32 → CS → Prop) : Prop := (bX1_compare ta p1 p2 cur cs (fun (r_1 : Int32) (cur_2 : Int32) (cs_3 : CS) => (∀ y_6 : Int64, y_6 = r_1.toInt64 → (vp_in (0 : Int32) 1 ∧ (∀ f_7 : Nat → Int64, f_7 = vp_updL of (0 : Int32).toNatClampNeg y_6 → K (0 : Int32) f_7 cur_2 cs_3)))) (fun (En : String) (cur_2 : Int32) (cs_3 : CS) => ((En = "java/lang/NullPointerException" ∧ K (1 : Int32) of cur_2 cs_3) ∨ (En = "java/lang/ArrayIndexOutOfBoundsException" ∧ K (2 : Int32) of cur_2 cs_3))))
set_option maxRecDepth 20000 in
theorem tX0_compare {l : Launch} {D : va_G} {ta : Nat → ClassId} {q3 : Nat} {of : Nat → Int64} {q0 : Nat} {cur : Int32} {ca : Nat → Nat} {cs : CS} {p1 : Int32} {p2 : Int64} {K : Int32 → (Nat → Int64) → Int32 → CS → Prop} {E : String → (Nat → Int64) → Int32 → CS → Prop} (hlt : l.stackTraces = false) (h : wX0_compare p1 p2 of cur ta cs K E) : SHi3 l D ta yX0_compare cX0_compare 6 FieldType.int  [(0, 11, 14, 21), (0, 11, 18, 13)] 6 [.ref q0, .int p1, .long p2, .ref q3] ([(q3, .inl (ta 3, 1, .inr (.inl of))), (q0, .inr (0, [.ref (ca 0), .ref (ca 1), .ref (ca 2), .ref (ca 3), .ref (ca 4), .int cur, .ref (ca 5)]))] ++ CR ca ta cs) (fun (of' : Nat → Int64) (cur' : Int32) (cs' : CS) => ([(q3, .inl (ta 3, 1, .inr (.inl of'))), (q0, .inr (0, [.ref (ca 0), .ref (ca 1), .ref (ca 2), .ref (ca 3), .ref (ca 4), .int cur', .ref (ca 5)]))] ++ CR ca ta cs')) 3 222 K E := by
  refine x_shi3 hlt (by decide +kernel) (Nat.le_of_ble_eq_true rfl) (fun g G hl hD hT Q => ?_)
  subst hl; subst hD; subst hT
  unfold wX0_compare at h
  show X g 6 0 [(0, .ref q0), (1, .int p1), (2, .long p2), (4, .ref q3)] [] ([(q3, .inl ((xT g) 3, 1, .inr (.inl of))), (q0, .inr (0, [.ref (ca 0), .ref (ca 1), .ref (ca 2), .ref (ca 3), .ref (ca 4), .int cur, .ref (ca 5)]))] ++ CR ca (xT g) cs) 0 0
  refine x_aload G dX0_compare_0 3 rfl ?_
  refine x_iconst (v := (0 : Int32)) G dX0_compare_2 (by decide) ?_
  refine x_aload_n G rfl dX0_compare_3 0 rfl ?_
  refine x_iload_n G rfl dX0_compare_4 1 rfl ?_
  refine x_lload_n G rfl dX0_compare_5 2 rfl ?_
  refine x_cXVi2 (wc := (CW q0 ca (xT g) cur cs)) (As := [.int p1, .long p2]) (rest := [.int (0 : Int32), .ref q3]) G [(q3, .inl ((xT g) 3, 1, .inr (.inl of)))] XSub.rf (uX1_compare G.noTraces h) (lw_V q1369 q1370 q1371 q65 q1372) cdX1_compare 0 1 rfl rfl rfl (by decide) (by decide) rfl (Nat.le_of_ble_eq_true rfl) (Nat.le_of_ble_eq_true rfl) (Nat.le_of_ble_eq_true rfl) dX0_compare_6 (fun En cur_2 cs_3 h => ?_) (fun r_1 cur_2 cs_3 h => ?_)
  · rcases h with ⟨rfl, h⟩ | ⟨rfl, h⟩
    · refine x_catch G Q.2 (tableOf []) ⟨0, 11, 14, 21⟩ (tableOf [(0, 11, 18, 13)]) rfl (fun _ h => absurd h List.not_mem_nil) (by decide) (by decide) q548 (by decide) rfl (fun q_4 => ?_)
      refine x_astore (lv' := [(5, .ref q_4), (0, .ref q0), (1, .int p1), (2, .long p2), (4, .ref q3)]) G dX0_compare_14 (by decide) rfl ?_
      refine x_iconst (v := (1 : Int32)) G dX0_compare_16 (by decide) ?_
      exact x_hi3 G Q dX0_compare_17 rfl of cur_2 cs_3 h XSub.rf (Nat.le_of_ble_eq_true rfl) (Nat.le_of_ble_eq_true rfl)
    · refine x_catch G Q.2 (tableOf [(0, 11, 14, 21)]) ⟨0, 11, 18, 13⟩ (tableOf []) rfl (by intro z hz; simp only [tableOf, List.map_cons, List.map_nil, List.mem_cons, List.not_mem_nil, or_false] at hz; rcases hz with rfl <;> refine Or.inr ⟨by decide, ?_⟩ <;> first | exact ⟨_, q548, by decide⟩ | skip) (by decide) (by decide) q392 (by decide) rfl (fun q_5 => ?_)
      refine x_astore (lv' := [(5, .ref q_5), (0, .ref q0), (1, .int p1), (2, .long p2), (4, .ref q3)]) G dX0_compare_18 (by decide) rfl ?_
      refine x_iconst (v := (2 : Int32)) G dX0_compare_20 (by decide) ?_
      exact x_hi3 G Q dX0_compare_21 rfl of cur_2 cs_3 h XSub.rf (Nat.le_of_ble_eq_true rfl) (Nat.le_of_ble_eq_true rfl)
  show X g 6 9 [(0, .ref q0), (1, .int p1), (2, .long p2), (4, .ref q3)] [.int r_1, .int (0 : Int32), .ref q3] ([(q3, .inl ((xT g) 3, 1, .inr (.inl of))), (q0, .inr (0, [.ref (ca 0), .ref (ca 1), .ref (ca 2), .ref (ca 3), .ref (ca 4), .int cur_2, .ref (ca 5)]))] ++ CR ca (xT g) cs_3) 3 222
  refine x_i2l G dX0_compare_9 ?_
  refine x_topl (fun y_6 ey_6 => ?_)
  replace h := h y_6 ey_6
  obtain ⟨hz, h⟩ := h
  obtain ⟨f_7, ef_7⟩ : ∃ z : Nat → Int64, z = vp_updL of (0 : Int32).toNatClampNeg y_6 := ⟨_, rfl⟩
  replace h := h f_7 ef_7
  refine x_last G 0 rfl hz (by rw [← ef_7]) dX0_compare_10 ?_
  show X g 6 11 [(0, .ref q0), (1, .int p1), (2, .long p2), (4, .ref q3)] [] ([(q3, .inl ((xT g) 3, 1, .inr (.inl f_7))), (q0, .inr (0, [.ref (ca 0), .ref (ca 1), .ref (ca 2), .ref (ca 3), .ref (ca 4), .int cur_2, .ref (ca 5)]))] ++ CR ca (xT g) cs_3) 3 222
  refine x_goto (tgt := 22) G dX0_compare_11 rfl ?_
  refine x_iconst (v := (0 : Int32)) G dX0_compare_22 (by decide) ?_
  exact x_hi3 G Q dX0_compare_23 rfl f_7 cur_2 cs_3 h XSub.rf (Nat.le_of_ble_eq_true rfl) (Nat.le_of_ble_eq_true rfl)
theorem cdX0_rounded : yX0_rounded.cls ≠ "java/lang/invoke/MethodHandle" ∧ yX0_rounded.cls ≠ "java/lang/invoke/VarHandle" ∧ (parseMethodDescriptor yX0_rounded.desc).map (fun d => d.parameters.length) = some 3 := by decide +kernel
def wX0_rounded (p1 : Int32) (of : Nat → Int64) (cur : Int32) (ta : Nat → ClassId) (cs : CS) (K : Int32 → (Nat → Int64) → Int32 → CS → Prop) (E : String → (Nat → Int64) → Int32 → CS → Prop) : Prop := (bX1_rounded ta p1 cur cs (fun (r_1 : Int64) (cur_2 : Int32) (cs_3 : CS) => (vp_in (0 : Int32) 1 ∧ (∀ f_6 : Nat → Int64, f_6 = vp_updL of (0 : Int32).toNatClampNeg r_1 → K (0 : Int32) f_6 cur_2 cs_3))) (fun (En : String) (cur_2 : Int32) (cs_3 : CS) => ((En = "java/lang/NullPointerException" ∧ K (1 : Int32) of cur_2 cs_3) ∨ (En = "java/lang/ArrayIndexOutOfBoundsException" ∧ K (2 : Int32) of cur_2 cs_3))))
set_option maxRecDepth 20000 in
theorem tX0_rounded {l : Launch} {D : va_G} {ta : Nat → ClassId} {q2 : Nat} {of : Nat → Int64} {q0 : Nat} {cur : Int32} {ca : Nat → Nat} {cs : CS} {p1 : Int32} {K : Int32 → (Nat → Int64) → Int32 → CS → Prop} {E : String → (Nat → Int64) → Int32 → CS → Prop} (hlt : l.stackTraces = false) (h : wX0_rounded p1 of cur ta cs K E) : SHi3 l D ta yX0_rounded cX0_rounded 4 FieldType.int  [(0, 8, 11, 21), (0, 8, 14, 13)] 9 [.ref q0, .int p1, .ref q2] ([(q2, .inl (ta 3, 1, .inr (.inl of))), (q0, .inr (0, [.ref (ca 0), .ref (ca 1), .ref (ca 2), .ref (ca 3), .ref (ca 4), .int cur, .ref (ca 5)]))] ++ CR ca ta cs) (fun (of' : Nat → Int64) (cur' : Int32) (cs' : CS) => ([(q2, .inl (ta 3, 1, .inr (.inl of'))), (q0, .inr (0, [.ref (ca 0), .ref (ca 1), .ref (ca 2), .ref (ca 3), .ref (ca 4), .int cur', .ref (ca 5)]))] ++ CR ca ta cs')) 3 222 K E := by
  refine x_shi3 hlt (by decide +kernel) (Nat.le_of_ble_eq_true rfl) (fun g G hl hD hT Q => ?_)
  subst hl; subst hD; subst hT
  unfold wX0_rounded at h
  show X g 4 0 [(0, .ref q0), (1, .int p1), (2, .ref q2)] [] ([(q2, .inl ((xT g) 3, 1, .inr (.inl of))), (q0, .inr (0, [.ref (ca 0), .ref (ca 1), .ref (ca 2), .ref (ca 3), .ref (ca 4), .int cur, .ref (ca 5)]))] ++ CR ca (xT g) cs) 0 0
  refine x_aload_n G rfl dX0_rounded_0 2 rfl ?_
  refine x_iconst (v := (0 : Int32)) G dX0_rounded_1 (by decide) ?_
  refine x_aload_n G rfl dX0_rounded_2 0 rfl ?_
  refine x_iload_n G rfl dX0_rounded_3 1 rfl ?_
  refine x_cXVl2 (wc := (CW q0 ca (xT g) cur cs)) (As := [.int p1]) (rest := [.int (0 : Int32), .ref q2]) G [(q2, .inl ((xT g) 3, 1, .inr (.inl of)))] XSub.rf (uX1_rounded G.noTraces h) (lw_V q1382 q1383 q1384 q65 q1385) cdX1_rounded 0 1 rfl rfl rfl (by decide) (by decide) rfl (Nat.le_of_ble_eq_true rfl) (Nat.le_of_ble_eq_true rfl) (Nat.le_of_ble_eq_true rfl) dX0_rounded_4 (fun En cur_2 cs_3 h => ?_) (fun r_1 cur_2 cs_3 h => ?_)
  · rcases h with ⟨rfl, h⟩ | ⟨rfl, h⟩
    · refine x_catch G Q.2 (tableOf []) ⟨0, 8, 11, 21⟩ (tableOf [(0, 8, 14, 13)]) rfl (fun _ h => absurd h List.not_mem_nil) (by decide) (by decide) q548 (by decide) rfl (fun q_4 => ?_)
      refine x_astore_n (lv' := [(3, .ref q_4), (0, .ref q0), (1, .int p1), (2, .ref q2)]) G rfl dX0_rounded_11 (by decide) rfl ?_
      refine x_iconst (v := (1 : Int32)) G dX0_rounded_12 (by decide) ?_
      exact x_hi3 G Q dX0_rounded_13 rfl of cur_2 cs_3 h XSub.rf (Nat.le_of_ble_eq_true rfl) (Nat.le_of_ble_eq_true rfl)
    · refine x_catch G Q.2 (tableOf [(0, 8, 11, 21)]) ⟨0, 8, 14, 13⟩ (tableOf []) rfl (by intro z hz; simp only [tableOf, List.map_cons, List.map_nil, List.mem_cons, List.not_mem_nil, or_false] at hz; rcases hz with rfl <;> refine Or.inr ⟨by decide, ?_⟩ <;> first | exact ⟨_, q548, by decide⟩ | skip) (by decide) (by decide) q392 (by decide) rfl (fun q_5 => ?_)
      refine x_astore_n (lv' := [(3, .ref q_5), (0, .ref q0), (1, .int p1), (2, .ref q2)]) G rfl dX0_rounded_14 (by decide) rfl ?_
      refine x_iconst (v := (2 : Int32)) G dX0_rounded_15 (by decide) ?_
      exact x_hi3 G Q dX0_rounded_16 rfl of cur_2 cs_3 h XSub.rf (Nat.le_of_ble_eq_true rfl) (Nat.le_of_ble_eq_true rfl)
  show X g 4 7 [(0, .ref q0), (1, .int p1), (2, .ref q2)] [.long r_1, .int (0 : Int32), .ref q2] ([(q2, .inl ((xT g) 3, 1, .inr (.inl of))), (q0, .inr (0, [.ref (ca 0), .ref (ca 1), .ref (ca 2), .ref (ca 3), .ref (ca 4), .int cur_2, .ref (ca 5)]))] ++ CR ca (xT g) cs_3) 3 222
  obtain ⟨hz, h⟩ := h
  obtain ⟨f_6, ef_6⟩ : ∃ z : Nat → Int64, z = vp_updL of (0 : Int32).toNatClampNeg r_1 := ⟨_, rfl⟩
  replace h := h f_6 ef_6
  refine x_last G 0 rfl hz (by rw [← ef_6]) dX0_rounded_7 ?_
  show X g 4 8 [(0, .ref q0), (1, .int p1), (2, .ref q2)] [] ([(q2, .inl ((xT g) 3, 1, .inr (.inl f_6))), (q0, .inr (0, [.ref (ca 0), .ref (ca 1), .ref (ca 2), .ref (ca 3), .ref (ca 4), .int cur_2, .ref (ca 5)]))] ++ CR ca (xT g) cs_3) 3 222
  refine x_goto (tgt := 17) G dX0_rounded_8 rfl ?_
  refine x_iconst (v := (0 : Int32)) G dX0_rounded_17 (by decide) ?_
  exact x_hi3 G Q dX0_rounded_18 rfl f_6 cur_2 cs_3 h XSub.rf (Nat.le_of_ble_eq_true rfl) (Nat.le_of_ble_eq_true rfl)
theorem cdX0_word : yX0_word.cls ≠ "java/lang/invoke/MethodHandle" ∧ yX0_word.cls ≠ "java/lang/invoke/VarHandle" ∧ (parseMethodDescriptor yX0_word.desc).map (fun d => d.parameters.length) = some 4 := by decide +kernel
def wX0_word (p1 : Int32) (p2 : Int32) (of : Nat → Int64) (cur : Int32) (ta : Nat → ClassId) (cs : CS) (K : Int32 → (Nat → Int64) → Int32 → CS → Prop) (E : String → (Nat → Int64) → Int32 → CS → Prop) : Prop := (bX1_word ta p1 p2 cur cs (fun (r_1 : Int32) (cur_2 : Int32) (cs_3 : CS) => (∀ y_6 : Int64, y_6 = r_1.toInt64 → (vp_in (0 : Int32) 1 ∧ (∀ f_7 : Nat → Int64, f_7 = vp_updL of (0 : Int32).toNatClampNeg y_6 → K (0 : Int32) f_7 cur_2 cs_3)))) (fun (En : String) (cur_2 : Int32) (cs_3 : CS) => ((En = "java/lang/NullPointerException" ∧ K (1 : Int32) of cur_2 cs_3) ∨ (En = "java/lang/ArrayIndexOutOfBoundsException" ∧ K (2 : Int32) of cur_2 cs_3))))
set_option maxRecDepth 20000 in
theorem tX0_word {l : Launch} {D : va_G} {ta : Nat → ClassId} {q3 : Nat} {of : Nat → Int64} {q0 : Nat} {cur : Int32} {ca : Nat → Nat} {cs : CS} {p1 : Int32} {p2 : Int32} {K : Int32 → (Nat → Int64) → Int32 → CS → Prop} {E : String → (Nat → Int64) → Int32 → CS → Prop} (hlt : l.stackTraces = false) (h : wX0_word p1 p2 of cur ta cs K E) : SHi3 l D ta yX0_word cX0_word 5 FieldType.int  [(0, 10, 13, 21), (0, 10, 17, 13)] 6 [.ref q0, .int p1, .int p2, .ref q3] ([(q3, .inl (ta 3, 1, .inr (.inl of))), (q0, .inr (0, [.ref (ca 0), .ref (ca 1), .ref (ca 2), .ref (ca 3), .ref (ca 4), .int cur, .ref (ca 5)]))] ++ CR ca ta cs) (fun (of' : Nat → Int64) (cur' : Int32) (cs' : CS) => ([(q3, .inl (ta 3, 1, .inr (.inl of'))), (q0, .inr (0, [.ref (ca 0), .ref (ca 1), .ref (ca 2), .ref (ca 3), .ref (ca 4), .int cur', .ref (ca 5)]))] ++ CR ca ta cs')) 3 222 K E := by
  refine x_shi3 hlt (by decide +kernel) (Nat.le_of_ble_eq_true rfl) (fun g G hl hD hT Q => ?_)
  subst hl; subst hD; subst hT
  unfold wX0_word at h
  show X g 5 0 [(0, .ref q0), (1, .int p1), (2, .int p2), (3, .ref q3)] [] ([(q3, .inl ((xT g) 3, 1, .inr (.inl of))), (q0, .inr (0, [.ref (ca 0), .ref (ca 1), .ref (ca 2), .ref (ca 3), .ref (ca 4), .int cur, .ref (ca 5)]))] ++ CR ca (xT g) cs) 0 0
  refine x_aload_n G rfl dX0_word_0 3 rfl ?_
  refine x_iconst (v := (0 : Int32)) G dX0_word_1 (by decide) ?_
  refine x_aload_n G rfl dX0_word_2 0 rfl ?_
  refine x_iload_n G rfl dX0_word_3 1 rfl ?_
  refine x_iload_n G rfl dX0_word_4 2 rfl ?_
  refine x_cXVi2 (wc := (CW q0 ca (xT g) cur cs)) (As := [.int p1, .int p2]) (rest := [.int (0 : Int32), .ref q3]) G [(q3, .inl ((xT g) 3, 1, .inr (.inl of)))] XSub.rf (uX1_word G.noTraces h) (lw_V q1412 q1413 q1414 q65 q1415) cdX1_word 0 1 rfl rfl rfl (by decide) (by decide) rfl (Nat.le_of_ble_eq_true rfl) (Nat.le_of_ble_eq_true rfl) (Nat.le_of_ble_eq_true rfl) dX0_word_5 (fun En cur_2 cs_3 h => ?_) (fun r_1 cur_2 cs_3 h => ?_)
  · rcases h with ⟨rfl, h⟩ | ⟨rfl, h⟩
    · refine x_catch G Q.2 (tableOf []) ⟨0, 10, 13, 21⟩ (tableOf [(0, 10, 17, 13)]) rfl (fun _ h => absurd h List.not_mem_nil) (by decide) (by decide) q548 (by decide) rfl (fun q_4 => ?_)
      refine x_astore (lv' := [(4, .ref q_4), (0, .ref q0), (1, .int p1), (2, .int p2), (3, .ref q3)]) G dX0_word_13 (by decide) rfl ?_
      refine x_iconst (v := (1 : Int32)) G dX0_word_15 (by decide) ?_
      exact x_hi3 G Q dX0_word_16 rfl of cur_2 cs_3 h XSub.rf (Nat.le_of_ble_eq_true rfl) (Nat.le_of_ble_eq_true rfl)
    · refine x_catch G Q.2 (tableOf [(0, 10, 13, 21)]) ⟨0, 10, 17, 13⟩ (tableOf []) rfl (by intro z hz; simp only [tableOf, List.map_cons, List.map_nil, List.mem_cons, List.not_mem_nil, or_false] at hz; rcases hz with rfl <;> refine Or.inr ⟨by decide, ?_⟩ <;> first | exact ⟨_, q548, by decide⟩ | skip) (by decide) (by decide) q392 (by decide) rfl (fun q_5 => ?_)
      refine x_astore (lv' := [(4, .ref q_5), (0, .ref q0), (1, .int p1), (2, .int p2), (3, .ref q3)]) G dX0_word_17 (by decide) rfl ?_
      refine x_iconst (v := (2 : Int32)) G dX0_word_19 (by decide) ?_
      exact x_hi3 G Q dX0_word_20 rfl of cur_2 cs_3 h XSub.rf (Nat.le_of_ble_eq_true rfl) (Nat.le_of_ble_eq_true rfl)
  show X g 5 8 [(0, .ref q0), (1, .int p1), (2, .int p2), (3, .ref q3)] [.int r_1, .int (0 : Int32), .ref q3] ([(q3, .inl ((xT g) 3, 1, .inr (.inl of))), (q0, .inr (0, [.ref (ca 0), .ref (ca 1), .ref (ca 2), .ref (ca 3), .ref (ca 4), .int cur_2, .ref (ca 5)]))] ++ CR ca (xT g) cs_3) 3 222
  refine x_i2l G dX0_word_8 ?_
  refine x_topl (fun y_6 ey_6 => ?_)
  replace h := h y_6 ey_6
  obtain ⟨hz, h⟩ := h
  obtain ⟨f_7, ef_7⟩ : ∃ z : Nat → Int64, z = vp_updL of (0 : Int32).toNatClampNeg y_6 := ⟨_, rfl⟩
  replace h := h f_7 ef_7
  refine x_last G 0 rfl hz (by rw [← ef_7]) dX0_word_9 ?_
  show X g 5 10 [(0, .ref q0), (1, .int p1), (2, .int p2), (3, .ref q3)] [] ([(q3, .inl ((xT g) 3, 1, .inr (.inl f_7))), (q0, .inr (0, [.ref (ca 0), .ref (ca 1), .ref (ca 2), .ref (ca 3), .ref (ca 4), .int cur_2, .ref (ca 5)]))] ++ CR ca (xT g) cs_3) 3 222
  refine x_goto (tgt := 21) G dX0_word_10 rfl ?_
  refine x_iconst (v := (0 : Int32)) G dX0_word_21 (by decide) ?_
  exact x_hi3 G Q dX0_word_22 rfl f_7 cur_2 cs_3 h XSub.rf (Nat.le_of_ble_eq_true rfl) (Nat.le_of_ble_eq_true rfl)
theorem cdX0_extreme : yX0_extreme.cls ≠ "java/lang/invoke/MethodHandle" ∧ yX0_extreme.cls ≠ "java/lang/invoke/VarHandle" ∧ (parseMethodDescriptor yX0_extreme.desc).map (fun d => d.parameters.length) = some 4 := by decide +kernel
def wX0_extreme (p1 : Int32) (p2 : Int32) (of : Nat → Int64) (cur : Int32) (ta : Nat → ClassId) (cs : CS) (K : Int32 → (Nat → Int64) → Int32 → CS → Prop) (E : String → (Nat → Int64) → Int32 → CS → Prop) : Prop := (bX1_extreme ta p1 p2 cur cs (fun (r_1 : Int64) (cur_2 : Int32) (cs_3 : CS) => (vp_in (0 : Int32) 1 ∧ (∀ f_6 : Nat → Int64, f_6 = vp_updL of (0 : Int32).toNatClampNeg r_1 → K (0 : Int32) f_6 cur_2 cs_3))) (fun (En : String) (cur_2 : Int32) (cs_3 : CS) => ((En = "java/lang/NullPointerException" ∧ K (1 : Int32) of cur_2 cs_3) ∨ (En = "java/lang/ArrayIndexOutOfBoundsException" ∧ K (2 : Int32) of cur_2 cs_3))))
set_option maxRecDepth 20000 in
theorem tX0_extreme {l : Launch} {D : va_G} {ta : Nat → ClassId} {q3 : Nat} {of : Nat → Int64} {q0 : Nat} {cur : Int32} {ca : Nat → Nat} {cs : CS} {p1 : Int32} {p2 : Int32} {K : Int32 → (Nat → Int64) → Int32 → CS → Prop} {E : String → (Nat → Int64) → Int32 → CS → Prop} (hlt : l.stackTraces = false) (h : wX0_extreme p1 p2 of cur ta cs K E) : SHi3 l D ta yX0_extreme cX0_extreme 5 FieldType.int  [(0, 9, 12, 21), (0, 9, 16, 13)] 19 [.ref q0, .int p1, .int p2, .ref q3] ([(q3, .inl (ta 3, 1, .inr (.inl of))), (q0, .inr (0, [.ref (ca 0), .ref (ca 1), .ref (ca 2), .ref (ca 3), .ref (ca 4), .int cur, .ref (ca 5)]))] ++ CR ca ta cs) (fun (of' : Nat → Int64) (cur' : Int32) (cs' : CS) => ([(q3, .inl (ta 3, 1, .inr (.inl of'))), (q0, .inr (0, [.ref (ca 0), .ref (ca 1), .ref (ca 2), .ref (ca 3), .ref (ca 4), .int cur', .ref (ca 5)]))] ++ CR ca ta cs')) 3 222 K E := by
  refine x_shi3 hlt (by decide +kernel) (Nat.le_of_ble_eq_true rfl) (fun g G hl hD hT Q => ?_)
  subst hl; subst hD; subst hT
  unfold wX0_extreme at h
  show X g 5 0 [(0, .ref q0), (1, .int p1), (2, .int p2), (3, .ref q3)] [] ([(q3, .inl ((xT g) 3, 1, .inr (.inl of))), (q0, .inr (0, [.ref (ca 0), .ref (ca 1), .ref (ca 2), .ref (ca 3), .ref (ca 4), .int cur, .ref (ca 5)]))] ++ CR ca (xT g) cs) 0 0
  refine x_aload_n G rfl dX0_extreme_0 3 rfl ?_
  refine x_iconst (v := (0 : Int32)) G dX0_extreme_1 (by decide) ?_
  refine x_aload_n G rfl dX0_extreme_2 0 rfl ?_
  refine x_iload_n G rfl dX0_extreme_3 1 rfl ?_
  refine x_iload_n G rfl dX0_extreme_4 2 rfl ?_
  refine x_cXVl2 (wc := (CW q0 ca (xT g) cur cs)) (As := [.int p1, .int p2]) (rest := [.int (0 : Int32), .ref q3]) G [(q3, .inl ((xT g) 3, 1, .inr (.inl of)))] XSub.rf (uX1_extreme G.noTraces h) (lw_V q1424 q1425 q1426 q65 q1427) cdX1_extreme 0 1 rfl rfl rfl (by decide) (by decide) rfl (Nat.le_of_ble_eq_true rfl) (Nat.le_of_ble_eq_true rfl) (Nat.le_of_ble_eq_true rfl) dX0_extreme_5 (fun En cur_2 cs_3 h => ?_) (fun r_1 cur_2 cs_3 h => ?_)
  · rcases h with ⟨rfl, h⟩ | ⟨rfl, h⟩
    · refine x_catch G Q.2 (tableOf []) ⟨0, 9, 12, 21⟩ (tableOf [(0, 9, 16, 13)]) rfl (fun _ h => absurd h List.not_mem_nil) (by decide) (by decide) q548 (by decide) rfl (fun q_4 => ?_)
      refine x_astore (lv' := [(4, .ref q_4), (0, .ref q0), (1, .int p1), (2, .int p2), (3, .ref q3)]) G dX0_extreme_12 (by decide) rfl ?_
      refine x_iconst (v := (1 : Int32)) G dX0_extreme_14 (by decide) ?_
      exact x_hi3 G Q dX0_extreme_15 rfl of cur_2 cs_3 h XSub.rf (Nat.le_of_ble_eq_true rfl) (Nat.le_of_ble_eq_true rfl)
    · refine x_catch G Q.2 (tableOf [(0, 9, 12, 21)]) ⟨0, 9, 16, 13⟩ (tableOf []) rfl (by intro z hz; simp only [tableOf, List.map_cons, List.map_nil, List.mem_cons, List.not_mem_nil, or_false] at hz; rcases hz with rfl <;> refine Or.inr ⟨by decide, ?_⟩ <;> first | exact ⟨_, q548, by decide⟩ | skip) (by decide) (by decide) q392 (by decide) rfl (fun q_5 => ?_)
      refine x_astore (lv' := [(4, .ref q_5), (0, .ref q0), (1, .int p1), (2, .int p2), (3, .ref q3)]) G dX0_extreme_16 (by decide) rfl ?_
      refine x_iconst (v := (2 : Int32)) G dX0_extreme_18 (by decide) ?_
      exact x_hi3 G Q dX0_extreme_19 rfl of cur_2 cs_3 h XSub.rf (Nat.le_of_ble_eq_true rfl) (Nat.le_of_ble_eq_true rfl)
  show X g 5 8 [(0, .ref q0), (1, .int p1), (2, .int p2), (3, .ref q3)] [.long r_1, .int (0 : Int32), .ref q3] ([(q3, .inl ((xT g) 3, 1, .inr (.inl of))), (q0, .inr (0, [.ref (ca 0), .ref (ca 1), .ref (ca 2), .ref (ca 3), .ref (ca 4), .int cur_2, .ref (ca 5)]))] ++ CR ca (xT g) cs_3) 3 222
  obtain ⟨hz, h⟩ := h
  obtain ⟨f_6, ef_6⟩ : ∃ z : Nat → Int64, z = vp_updL of (0 : Int32).toNatClampNeg r_1 := ⟨_, rfl⟩
  replace h := h f_6 ef_6
  refine x_last G 0 rfl hz (by rw [← ef_6]) dX0_extreme_8 ?_
  show X g 5 9 [(0, .ref q0), (1, .int p1), (2, .int p2), (3, .ref q3)] [] ([(q3, .inl ((xT g) 3, 1, .inr (.inl f_6))), (q0, .inr (0, [.ref (ca 0), .ref (ca 1), .ref (ca 2), .ref (ca 3), .ref (ca 4), .int cur_2, .ref (ca 5)]))] ++ CR ca (xT g) cs_3) 3 222
  refine x_goto (tgt := 20) G dX0_extreme_9 rfl ?_
  refine x_iconst (v := (0 : Int32)) G dX0_extreme_20 (by decide) ?_
  exact x_hi3 G Q dX0_extreme_21 rfl f_6 cur_2 cs_3 h XSub.rf (Nat.le_of_ble_eq_true rfl) (Nat.le_of_ble_eq_true rfl)
theorem cdX0_reach : yX0_reach.cls ≠ "java/lang/invoke/MethodHandle" ∧ yX0_reach.cls ≠ "java/lang/invoke/VarHandle" ∧ (parseMethodDescriptor yX0_reach.desc).map (fun d => d.parameters.length) = some 3 := by decide +kernel
def wX0_reach (p1 : Int32) (of : Nat → Int64) (cur : Int32) (ta : Nat → ClassId) (cs : CS) (K : Int32 → (Nat → Int64) → Int32 → CS → Prop) (E : String → (Nat → Int64) → Int32 → CS → Prop) : Prop := (bX1_reach ta p1 cur cs (fun (r_1 : Int32) (cur_2 : Int32) (cs_3 : CS) => (∀ y_6 : Int64, y_6 = r_1.toInt64 → (vp_in (0 : Int32) 1 ∧ (∀ f_7 : Nat → Int64, f_7 = vp_updL of (0 : Int32).toNatClampNeg y_6 → K (0 : Int32) f_7 cur_2 cs_3)))) (fun (En : String) (cur_2 : Int32) (cs_3 : CS) => ((En = "java/lang/NullPointerException" ∧ K (1 : Int32) of cur_2 cs_3) ∨ (En = "java/lang/ArrayIndexOutOfBoundsException" ∧ K (2 : Int32) of cur_2 cs_3))))
set_option maxRecDepth 20000 in
theorem tX0_reach {l : Launch} {D : va_G} {ta : Nat → ClassId} {q2 : Nat} {of : Nat → Int64} {q0 : Nat} {cur : Int32} {ca : Nat → Nat} {cs : CS} {p1 : Int32} {K : Int32 → (Nat → Int64) → Int32 → CS → Prop} {E : String → (Nat → Int64) → Int32 → CS → Prop} (hlt : l.stackTraces = false) (h : wX0_reach p1 of cur ta cs K E) : SHi3 l D ta yX0_reach cX0_reach 4 FieldType.int  [(0, 9, 12, 21), (0, 9, 15, 13)] 19 [.ref q0, .int p1, .ref q2] ([(q2, .inl (ta 3, 1, .inr (.inl of))), (q0, .inr (0, [.ref (ca 0), .ref (ca 1), .ref (ca 2), .ref (ca 3), .ref (ca 4), .int cur, .ref (ca 5)]))] ++ CR ca ta cs) (fun (of' : Nat → Int64) (cur' : Int32) (cs' : CS) => ([(q2, .inl (ta 3, 1, .inr (.inl of'))), (q0, .inr (0, [.ref (ca 0), .ref (ca 1), .ref (ca 2), .ref (ca 3), .ref (ca 4), .int cur', .ref (ca 5)]))] ++ CR ca ta cs')) 3 222 K E := by
  refine x_shi3 hlt (by decide +kernel) (Nat.le_of_ble_eq_true rfl) (fun g G hl hD hT Q => ?_)
  subst hl; subst hD; subst hT
  unfold wX0_reach at h
  show X g 4 0 [(0, .ref q0), (1, .int p1), (2, .ref q2)] [] ([(q2, .inl ((xT g) 3, 1, .inr (.inl of))), (q0, .inr (0, [.ref (ca 0), .ref (ca 1), .ref (ca 2), .ref (ca 3), .ref (ca 4), .int cur, .ref (ca 5)]))] ++ CR ca (xT g) cs) 0 0
  refine x_aload_n G rfl dX0_reach_0 2 rfl ?_
  refine x_iconst (v := (0 : Int32)) G dX0_reach_1 (by decide) ?_
  refine x_aload_n G rfl dX0_reach_2 0 rfl ?_
  refine x_iload_n G rfl dX0_reach_3 1 rfl ?_
  refine x_cXVi2 (wc := (CW q0 ca (xT g) cur cs)) (As := [.int p1]) (rest := [.int (0 : Int32), .ref q2]) G [(q2, .inl ((xT g) 3, 1, .inr (.inl of)))] XSub.rf (uX1_reach G.noTraces h) (lw_V q1475 q1476 q1477 q65 q1478) cdX1_reach 0 1 rfl rfl rfl (by decide) (by decide) rfl (Nat.le_of_ble_eq_true rfl) (Nat.le_of_ble_eq_true rfl) (Nat.le_of_ble_eq_true rfl) dX0_reach_4 (fun En cur_2 cs_3 h => ?_) (fun r_1 cur_2 cs_3 h => ?_)
  · rcases h with ⟨rfl, h⟩ | ⟨rfl, h⟩
    · refine x_catch G Q.2 (tableOf []) ⟨0, 9, 12, 21⟩ (tableOf [(0, 9, 15, 13)]) rfl (fun _ h => absurd h List.not_mem_nil) (by decide) (by decide) q548 (by decide) rfl (fun q_4 => ?_)
      refine x_astore_n (lv' := [(3, .ref q_4), (0, .ref q0), (1, .int p1), (2, .ref q2)]) G rfl dX0_reach_12 (by decide) rfl ?_
      refine x_iconst (v := (1 : Int32)) G dX0_reach_13 (by decide) ?_
      exact x_hi3 G Q dX0_reach_14 rfl of cur_2 cs_3 h XSub.rf (Nat.le_of_ble_eq_true rfl) (Nat.le_of_ble_eq_true rfl)
    · refine x_catch G Q.2 (tableOf [(0, 9, 12, 21)]) ⟨0, 9, 15, 13⟩ (tableOf []) rfl (by intro z hz; simp only [tableOf, List.map_cons, List.map_nil, List.mem_cons, List.not_mem_nil, or_false] at hz; rcases hz with rfl <;> refine Or.inr ⟨by decide, ?_⟩ <;> first | exact ⟨_, q548, by decide⟩ | skip) (by decide) (by decide) q392 (by decide) rfl (fun q_5 => ?_)
      refine x_astore_n (lv' := [(3, .ref q_5), (0, .ref q0), (1, .int p1), (2, .ref q2)]) G rfl dX0_reach_15 (by decide) rfl ?_
      refine x_iconst (v := (2 : Int32)) G dX0_reach_16 (by decide) ?_
      exact x_hi3 G Q dX0_reach_17 rfl of cur_2 cs_3 h XSub.rf (Nat.le_of_ble_eq_true rfl) (Nat.le_of_ble_eq_true rfl)
  show X g 4 7 [(0, .ref q0), (1, .int p1), (2, .ref q2)] [.int r_1, .int (0 : Int32), .ref q2] ([(q2, .inl ((xT g) 3, 1, .inr (.inl of))), (q0, .inr (0, [.ref (ca 0), .ref (ca 1), .ref (ca 2), .ref (ca 3), .ref (ca 4), .int cur_2, .ref (ca 5)]))] ++ CR ca (xT g) cs_3) 3 222
  refine x_i2l G dX0_reach_7 ?_
  refine x_topl (fun y_6 ey_6 => ?_)
  replace h := h y_6 ey_6
  obtain ⟨hz, h⟩ := h
  obtain ⟨f_7, ef_7⟩ : ∃ z : Nat → Int64, z = vp_updL of (0 : Int32).toNatClampNeg y_6 := ⟨_, rfl⟩
  replace h := h f_7 ef_7
  refine x_last G 0 rfl hz (by rw [← ef_7]) dX0_reach_8 ?_
  show X g 4 9 [(0, .ref q0), (1, .int p1), (2, .ref q2)] [] ([(q2, .inl ((xT g) 3, 1, .inr (.inl f_7))), (q0, .inr (0, [.ref (ca 0), .ref (ca 1), .ref (ca 2), .ref (ca 3), .ref (ca 4), .int cur_2, .ref (ca 5)]))] ++ CR ca (xT g) cs_3) 3 222
  refine x_goto (tgt := 18) G dX0_reach_9 rfl ?_
  refine x_iconst (v := (0 : Int32)) G dX0_reach_18 (by decide) ?_
  exact x_hi3 G Q dX0_reach_19 rfl f_7 cur_2 cs_3 h XSub.rf (Nat.le_of_ble_eq_true rfl) (Nat.le_of_ble_eq_true rfl)
theorem cdX0_cure : yX0_cure.cls ≠ "java/lang/invoke/MethodHandle" ∧ yX0_cure.cls ≠ "java/lang/invoke/VarHandle" ∧ (parseMethodDescriptor yX0_cure.desc).map (fun d => d.parameters.length) = some 3 := by decide +kernel
def wX0_cure (p1 : Int32) (of : Nat → Int64) (cur : Int32) (ta : Nat → ClassId) (cs : CS) (K : Int32 → (Nat → Int64) → Int32 → CS → Prop) (E : String → (Nat → Int64) → Int32 → CS → Prop) : Prop := (bX1_cure ta p1 cur cs (fun (r_1 : Int32) (cur_2 : Int32) (cs_3 : CS) => (∀ y_6 : Int64, y_6 = r_1.toInt64 → (vp_in (0 : Int32) 1 ∧ (∀ f_7 : Nat → Int64, f_7 = vp_updL of (0 : Int32).toNatClampNeg y_6 → K (0 : Int32) f_7 cur_2 cs_3)))) (fun (En : String) (cur_2 : Int32) (cs_3 : CS) => ((En = "java/lang/NullPointerException" ∧ K (1 : Int32) of cur_2 cs_3) ∨ (En = "java/lang/ArrayIndexOutOfBoundsException" ∧ K (2 : Int32) of cur_2 cs_3))))
set_option maxRecDepth 20000 in
theorem tX0_cure {l : Launch} {D : va_G} {ta : Nat → ClassId} {q2 : Nat} {of : Nat → Int64} {q0 : Nat} {cur : Int32} {ca : Nat → Nat} {cs : CS} {p1 : Int32} {K : Int32 → (Nat → Int64) → Int32 → CS → Prop} {E : String → (Nat → Int64) → Int32 → CS → Prop} (hlt : l.stackTraces = false) (h : wX0_cure p1 of cur ta cs K E) : SHi3 l D ta yX0_cure cX0_cure 4 FieldType.int  [(0, 9, 12, 21), (0, 9, 15, 13)] 9 [.ref q0, .int p1, .ref q2] ([(q2, .inl (ta 3, 1, .inr (.inl of))), (q0, .inr (0, [.ref (ca 0), .ref (ca 1), .ref (ca 2), .ref (ca 3), .ref (ca 4), .int cur, .ref (ca 5)]))] ++ CR ca ta cs) (fun (of' : Nat → Int64) (cur' : Int32) (cs' : CS) => ([(q2, .inl (ta 3, 1, .inr (.inl of'))), (q0, .inr (0, [.ref (ca 0), .ref (ca 1), .ref (ca 2), .ref (ca 3), .ref (ca 4), .int cur', .ref (ca 5)]))] ++ CR ca ta cs')) 3 222 K E := by
  refine x_shi3 hlt (by decide +kernel) (Nat.le_of_ble_eq_true rfl) (fun g G hl hD hT Q => ?_)
  subst hl; subst hD; subst hT
  unfold wX0_cure at h
  show X g 4 0 [(0, .ref q0), (1, .int p1), (2, .ref q2)] [] ([(q2, .inl ((xT g) 3, 1, .inr (.inl of))), (q0, .inr (0, [.ref (ca 0), .ref (ca 1), .ref (ca 2), .ref (ca 3), .ref (ca 4), .int cur, .ref (ca 5)]))] ++ CR ca (xT g) cs) 0 0
  refine x_aload_n G rfl dX0_cure_0 2 rfl ?_
  refine x_iconst (v := (0 : Int32)) G dX0_cure_1 (by decide) ?_
  refine x_aload_n G rfl dX0_cure_2 0 rfl ?_
  refine x_iload_n G rfl dX0_cure_3 1 rfl ?_
  refine x_cXVi2 (wc := (CW q0 ca (xT g) cur cs)) (As := [.int p1]) (rest := [.int (0 : Int32), .ref q2]) G [(q2, .inl ((xT g) 3, 1, .inr (.inl of)))] XSub.rf (uX1_cure G.noTraces h) (lw_V q1482 q1483 q1484 q65 q1485) cdX1_cure 0 1 rfl rfl rfl (by decide) (by decide) rfl (Nat.le_of_ble_eq_true rfl) (Nat.le_of_ble_eq_true rfl) (Nat.le_of_ble_eq_true rfl) dX0_cure_4 (fun En cur_2 cs_3 h => ?_) (fun r_1 cur_2 cs_3 h => ?_)
  · rcases h with ⟨rfl, h⟩ | ⟨rfl, h⟩
    · refine x_catch G Q.2 (tableOf []) ⟨0, 9, 12, 21⟩ (tableOf [(0, 9, 15, 13)]) rfl (fun _ h => absurd h List.not_mem_nil) (by decide) (by decide) q548 (by decide) rfl (fun q_4 => ?_)
      refine x_astore_n (lv' := [(3, .ref q_4), (0, .ref q0), (1, .int p1), (2, .ref q2)]) G rfl dX0_cure_12 (by decide) rfl ?_
      refine x_iconst (v := (1 : Int32)) G dX0_cure_13 (by decide) ?_
      exact x_hi3 G Q dX0_cure_14 rfl of cur_2 cs_3 h XSub.rf (Nat.le_of_ble_eq_true rfl) (Nat.le_of_ble_eq_true rfl)
    · refine x_catch G Q.2 (tableOf [(0, 9, 12, 21)]) ⟨0, 9, 15, 13⟩ (tableOf []) rfl (by intro z hz; simp only [tableOf, List.map_cons, List.map_nil, List.mem_cons, List.not_mem_nil, or_false] at hz; rcases hz with rfl <;> refine Or.inr ⟨by decide, ?_⟩ <;> first | exact ⟨_, q548, by decide⟩ | skip) (by decide) (by decide) q392 (by decide) rfl (fun q_5 => ?_)
      refine x_astore_n (lv' := [(3, .ref q_5), (0, .ref q0), (1, .int p1), (2, .ref q2)]) G rfl dX0_cure_15 (by decide) rfl ?_
      refine x_iconst (v := (2 : Int32)) G dX0_cure_16 (by decide) ?_
      exact x_hi3 G Q dX0_cure_17 rfl of cur_2 cs_3 h XSub.rf (Nat.le_of_ble_eq_true rfl) (Nat.le_of_ble_eq_true rfl)
  show X g 4 7 [(0, .ref q0), (1, .int p1), (2, .ref q2)] [.int r_1, .int (0 : Int32), .ref q2] ([(q2, .inl ((xT g) 3, 1, .inr (.inl of))), (q0, .inr (0, [.ref (ca 0), .ref (ca 1), .ref (ca 2), .ref (ca 3), .ref (ca 4), .int cur_2, .ref (ca 5)]))] ++ CR ca (xT g) cs_3) 3 222
  refine x_i2l G dX0_cure_7 ?_
  refine x_topl (fun y_6 ey_6 => ?_)
  replace h := h y_6 ey_6
  obtain ⟨hz, h⟩ := h
  obtain ⟨f_7, ef_7⟩ : ∃ z : Nat → Int64, z = vp_updL of (0 : Int32).toNatClampNeg y_6 := ⟨_, rfl⟩
  replace h := h f_7 ef_7
  refine x_last G 0 rfl hz (by rw [← ef_7]) dX0_cure_8 ?_
  show X g 4 9 [(0, .ref q0), (1, .int p1), (2, .ref q2)] [] ([(q2, .inl ((xT g) 3, 1, .inr (.inl f_7))), (q0, .inr (0, [.ref (ca 0), .ref (ca 1), .ref (ca 2), .ref (ca 3), .ref (ca 4), .int cur_2, .ref (ca 5)]))] ++ CR ca (xT g) cs_3) 3 222
  refine x_goto (tgt := 18) G dX0_cure_9 rfl ?_
  refine x_iconst (v := (0 : Int32)) G dX0_cure_18 (by decide) ?_
  exact x_hi3 G Q dX0_cure_19 rfl f_7 cur_2 cs_3 h XSub.rf (Nat.le_of_ble_eq_true rfl) (Nat.le_of_ble_eq_true rfl)
theorem cdX0_statement : yX0_statement.cls ≠ "java/lang/invoke/MethodHandle" ∧ yX0_statement.cls ≠ "java/lang/invoke/VarHandle" ∧ (parseMethodDescriptor yX0_statement.desc).map (fun d => d.parameters.length) = some 5 := by decide +kernel
def wX0_statement (p1 : Int32) (p2 : Int64) (p3 : Int32) (of : Nat → Int64) (cur : Int32) (ta : Nat → ClassId) (cs : CS) (K : Int32 → (Nat → Int64) → Int32 → CS → Prop) (E : String → (Nat → Int64) → Int32 → CS → Prop) : Prop := (bX1_statement ta p1 p2 p3 cur cs (fun (r_1 : Int32) (cur_2 : Int32) (cs_3 : CS) => (∀ y_6 : Int64, y_6 = r_1.toInt64 → (vp_in (0 : Int32) 1 ∧ (∀ f_7 : Nat → Int64, f_7 = vp_updL of (0 : Int32).toNatClampNeg y_6 → K (0 : Int32) f_7 cur_2 cs_3)))) (fun (En : String) (cur_2 : Int32) (cs_3 : CS) => ((En = "java/lang/NullPointerException" ∧ K (1 : Int32) of cur_2 cs_3) ∨ (En = "java/lang/ArrayIndexOutOfBoundsException" ∧ K (2 : Int32) of cur_2 cs_3))))
set_option maxRecDepth 20000 in
theorem tX0_statement {l : Launch} {D : va_G} {ta : Nat → ClassId} {q4 : Nat} {of : Nat → Int64} {q0 : Nat} {cur : Int32} {ca : Nat → Nat} {cs : CS} {p1 : Int32} {p2 : Int64} {p3 : Int32} {K : Int32 → (Nat → Int64) → Int32 → CS → Prop} {E : String → (Nat → Int64) → Int32 → CS → Prop} (hlt : l.stackTraces = false) (h : wX0_statement p1 p2 p3 of cur ta cs K E) : SHi3 l D ta yX0_statement cX0_statement 7 FieldType.int  [(0, 13, 16, 21), (0, 13, 20, 13)] 19 [.ref q0, .int p1, .long p2, .int p3, .ref q4] ([(q4, .inl (ta 3, 1, .inr (.inl of))), (q0, .inr (0, [.ref (ca 0), .ref (ca 1), .ref (ca 2), .ref (ca 3), .ref (ca 4), .int cur, .ref (ca 5)]))] ++ CR ca ta cs) (fun (of' : Nat → Int64) (cur' : Int32) (cs' : CS) => ([(q4, .inl (ta 3, 1, .inr (.inl of'))), (q0, .inr (0, [.ref (ca 0), .ref (ca 1), .ref (ca 2), .ref (ca 3), .ref (ca 4), .int cur', .ref (ca 5)]))] ++ CR ca ta cs')) 75 2792 K E := by
  refine x_shi3 hlt (by decide +kernel) (Nat.le_of_ble_eq_true rfl) (fun g G hl hD hT Q => ?_)
  subst hl; subst hD; subst hT
  unfold wX0_statement at h
  show X g 7 0 [(0, .ref q0), (1, .int p1), (2, .long p2), (4, .int p3), (5, .ref q4)] [] ([(q4, .inl ((xT g) 3, 1, .inr (.inl of))), (q0, .inr (0, [.ref (ca 0), .ref (ca 1), .ref (ca 2), .ref (ca 3), .ref (ca 4), .int cur, .ref (ca 5)]))] ++ CR ca (xT g) cs) 0 0
  refine x_aload G dX0_statement_0 4 rfl ?_
  refine x_iconst (v := (0 : Int32)) G dX0_statement_2 (by decide) ?_
  refine x_aload_n G rfl dX0_statement_3 0 rfl ?_
  refine x_iload_n G rfl dX0_statement_4 1 rfl ?_
  refine x_lload_n G rfl dX0_statement_5 2 rfl ?_
  refine x_iload G dX0_statement_6 3 rfl ?_
  refine x_cHVi2 (wc := (CW q0 ca (xT g) cur cs)) (As := [.int p1, .long p2, .int p3]) (rest := [.int (0 : Int32), .ref q4]) G [(q4, .inl ((xT g) 3, 1, .inr (.inl of)))] XSub.rf (uX1_statement G.noTraces h) (lw_VW q1498 q1499 q1500 q65 q1501) cdX1_statement 0 1 rfl rfl rfl (by decide) (by decide) rfl (Nat.le_of_ble_eq_true rfl) (Nat.le_of_ble_eq_true rfl) (Nat.le_of_ble_eq_true rfl) dX0_statement_8 (fun En cur_2 cs_3 h => ?_) (fun r_1 cur_2 cs_3 h => ?_)
  · rcases h with ⟨rfl, h⟩ | ⟨rfl, h⟩
    · refine x_catch G Q.2 (tableOf []) ⟨0, 13, 16, 21⟩ (tableOf [(0, 13, 20, 13)]) rfl (fun _ h => absurd h List.not_mem_nil) (by decide) (by decide) q548 (by decide) rfl (fun q_4 => ?_)
      refine x_astore (lv' := [(6, .ref q_4), (0, .ref q0), (1, .int p1), (2, .long p2), (4, .int p3), (5, .ref q4)]) G dX0_statement_16 (by decide) rfl ?_
      refine x_iconst (v := (1 : Int32)) G dX0_statement_18 (by decide) ?_
      exact x_hi3 G Q dX0_statement_19 rfl of cur_2 cs_3 h XSub.rf (Nat.le_of_ble_eq_true rfl) (Nat.le_of_ble_eq_true rfl)
    · refine x_catch G Q.2 (tableOf [(0, 13, 16, 21)]) ⟨0, 13, 20, 13⟩ (tableOf []) rfl (by intro z hz; simp only [tableOf, List.map_cons, List.map_nil, List.mem_cons, List.not_mem_nil, or_false] at hz; rcases hz with rfl <;> refine Or.inr ⟨by decide, ?_⟩ <;> first | exact ⟨_, q548, by decide⟩ | skip) (by decide) (by decide) q392 (by decide) rfl (fun q_5 => ?_)
      refine x_astore (lv' := [(6, .ref q_5), (0, .ref q0), (1, .int p1), (2, .long p2), (4, .int p3), (5, .ref q4)]) G dX0_statement_20 (by decide) rfl ?_
      refine x_iconst (v := (2 : Int32)) G dX0_statement_22 (by decide) ?_
      exact x_hi3 G Q dX0_statement_23 rfl of cur_2 cs_3 h XSub.rf (Nat.le_of_ble_eq_true rfl) (Nat.le_of_ble_eq_true rfl)
  show X g 7 11 [(0, .ref q0), (1, .int p1), (2, .long p2), (4, .int p3), (5, .ref q4)] [.int r_1, .int (0 : Int32), .ref q4] ([(q4, .inl ((xT g) 3, 1, .inr (.inl of))), (q0, .inr (0, [.ref (ca 0), .ref (ca 1), .ref (ca 2), .ref (ca 3), .ref (ca 4), .int cur_2, .ref (ca 5)]))] ++ CR ca (xT g) cs_3) 75 2792
  refine x_i2l G dX0_statement_11 ?_
  refine x_topl (fun y_6 ey_6 => ?_)
  replace h := h y_6 ey_6
  obtain ⟨hz, h⟩ := h
  obtain ⟨f_7, ef_7⟩ : ∃ z : Nat → Int64, z = vp_updL of (0 : Int32).toNatClampNeg y_6 := ⟨_, rfl⟩
  replace h := h f_7 ef_7
  refine x_last G 0 rfl hz (by rw [← ef_7]) dX0_statement_12 ?_
  show X g 7 13 [(0, .ref q0), (1, .int p1), (2, .long p2), (4, .int p3), (5, .ref q4)] [] ([(q4, .inl ((xT g) 3, 1, .inr (.inl f_7))), (q0, .inr (0, [.ref (ca 0), .ref (ca 1), .ref (ca 2), .ref (ca 3), .ref (ca 4), .int cur_2, .ref (ca 5)]))] ++ CR ca (xT g) cs_3) 75 2792
  refine x_goto (tgt := 24) G dX0_statement_13 rfl ?_
  refine x_iconst (v := (0 : Int32)) G dX0_statement_24 (by decide) ?_
  exact x_hi3 G Q dX0_statement_25 rfl f_7 cur_2 cs_3 h XSub.rf (Nat.le_of_ble_eq_true rfl) (Nat.le_of_ble_eq_true rfl)
theorem cdX0_split : yX0_split.cls ≠ "java/lang/invoke/MethodHandle" ∧ yX0_split.cls ≠ "java/lang/invoke/VarHandle" ∧ (parseMethodDescriptor yX0_split.desc).map (fun d => d.parameters.length) = some 4 := by decide +kernel
def wX0_split (p1 : Int32) (p2 : Int32) (of : Nat → Int64) (cur : Int32) (ta : Nat → ClassId) (cs : CS) (K : Int32 → (Nat → Int64) → Int32 → CS → Prop) (E : String → (Nat → Int64) → Int32 → CS → Prop) : Prop := (bX1_split ta p1 p2 cur cs (fun (r_1 : Int32) (cur_2 : Int32) (cs_3 : CS) => (∀ y_6 : Int64, y_6 = r_1.toInt64 → (vp_in (0 : Int32) 1 ∧ (∀ f_7 : Nat → Int64, f_7 = vp_updL of (0 : Int32).toNatClampNeg y_6 → K (0 : Int32) f_7 cur_2 cs_3)))) (fun (En : String) (cur_2 : Int32) (cs_3 : CS) => ((En = "java/lang/NullPointerException" ∧ K (1 : Int32) of cur_2 cs_3) ∨ (En = "java/lang/ArrayIndexOutOfBoundsException" ∧ K (2 : Int32) of cur_2 cs_3))))
set_option maxRecDepth 20000 in
theorem tX0_split {l : Launch} {D : va_G} {ta : Nat → ClassId} {q3 : Nat} {of : Nat → Int64} {q0 : Nat} {cur : Int32} {ca : Nat → Nat} {cs : CS} {p1 : Int32} {p2 : Int32} {K : Int32 → (Nat → Int64) → Int32 → CS → Prop} {E : String → (Nat → Int64) → Int32 → CS → Prop} (hlt : l.stackTraces = false) (h : wX0_split p1 p2 of cur ta cs K E) : SHi3 l D ta yX0_split cX0_split 5 FieldType.int  [(0, 10, 13, 21), (0, 10, 17, 13)] 7 [.ref q0, .int p1, .int p2, .ref q3] ([(q3, .inl (ta 3, 1, .inr (.inl of))), (q0, .inr (0, [.ref (ca 0), .ref (ca 1), .ref (ca 2), .ref (ca 3), .ref (ca 4), .int cur, .ref (ca 5)]))] ++ CR ca ta cs) (fun (of' : Nat → Int64) (cur' : Int32) (cs' : CS) => ([(q3, .inl (ta 3, 1, .inr (.inl of'))), (q0, .inr (0, [.ref (ca 0), .ref (ca 1), .ref (ca 2), .ref (ca 3), .ref (ca 4), .int cur', .ref (ca 5)]))] ++ CR ca ta cs')) 21 420 K E := by
  refine x_shi3 hlt (by decide +kernel) (Nat.le_of_ble_eq_true rfl) (fun g G hl hD hT Q => ?_)
  subst hl; subst hD; subst hT
  unfold wX0_split at h
  show X g 5 0 [(0, .ref q0), (1, .int p1), (2, .int p2), (3, .ref q3)] [] ([(q3, .inl ((xT g) 3, 1, .inr (.inl of))), (q0, .inr (0, [.ref (ca 0), .ref (ca 1), .ref (ca 2), .ref (ca 3), .ref (ca 4), .int cur, .ref (ca 5)]))] ++ CR ca (xT g) cs) 0 0
  refine x_aload_n G rfl dX0_split_0 3 rfl ?_
  refine x_iconst (v := (0 : Int32)) G dX0_split_1 (by decide) ?_
  refine x_aload_n G rfl dX0_split_2 0 rfl ?_
  refine x_iload_n G rfl dX0_split_3 1 rfl ?_
  refine x_iload_n G rfl dX0_split_4 2 rfl ?_
  refine x_cXVi2 (wc := (CW q0 ca (xT g) cur cs)) (As := [.int p1, .int p2]) (rest := [.int (0 : Int32), .ref q3]) G [(q3, .inl ((xT g) 3, 1, .inr (.inl of)))] XSub.rf (uX1_split G.noTraces h) (lw_V q1505 q1506 q1507 q65 q1508) cdX1_split 0 1 rfl rfl rfl (by decide) (by decide) rfl (Nat.le_of_ble_eq_true rfl) (Nat.le_of_ble_eq_true rfl) (Nat.le_of_ble_eq_true rfl) dX0_split_5 (fun En cur_2 cs_3 h => ?_) (fun r_1 cur_2 cs_3 h => ?_)
  · rcases h with ⟨rfl, h⟩ | ⟨rfl, h⟩
    · refine x_catch G Q.2 (tableOf []) ⟨0, 10, 13, 21⟩ (tableOf [(0, 10, 17, 13)]) rfl (fun _ h => absurd h List.not_mem_nil) (by decide) (by decide) q548 (by decide) rfl (fun q_4 => ?_)
      refine x_astore (lv' := [(4, .ref q_4), (0, .ref q0), (1, .int p1), (2, .int p2), (3, .ref q3)]) G dX0_split_13 (by decide) rfl ?_
      refine x_iconst (v := (1 : Int32)) G dX0_split_15 (by decide) ?_
      exact x_hi3 G Q dX0_split_16 rfl of cur_2 cs_3 h XSub.rf (Nat.le_of_ble_eq_true rfl) (Nat.le_of_ble_eq_true rfl)
    · refine x_catch G Q.2 (tableOf [(0, 10, 13, 21)]) ⟨0, 10, 17, 13⟩ (tableOf []) rfl (by intro z hz; simp only [tableOf, List.map_cons, List.map_nil, List.mem_cons, List.not_mem_nil, or_false] at hz; rcases hz with rfl <;> refine Or.inr ⟨by decide, ?_⟩ <;> first | exact ⟨_, q548, by decide⟩ | skip) (by decide) (by decide) q392 (by decide) rfl (fun q_5 => ?_)
      refine x_astore (lv' := [(4, .ref q_5), (0, .ref q0), (1, .int p1), (2, .int p2), (3, .ref q3)]) G dX0_split_17 (by decide) rfl ?_
      refine x_iconst (v := (2 : Int32)) G dX0_split_19 (by decide) ?_
      exact x_hi3 G Q dX0_split_20 rfl of cur_2 cs_3 h XSub.rf (Nat.le_of_ble_eq_true rfl) (Nat.le_of_ble_eq_true rfl)
  show X g 5 8 [(0, .ref q0), (1, .int p1), (2, .int p2), (3, .ref q3)] [.int r_1, .int (0 : Int32), .ref q3] ([(q3, .inl ((xT g) 3, 1, .inr (.inl of))), (q0, .inr (0, [.ref (ca 0), .ref (ca 1), .ref (ca 2), .ref (ca 3), .ref (ca 4), .int cur_2, .ref (ca 5)]))] ++ CR ca (xT g) cs_3) 21 420
  refine x_i2l G dX0_split_8 ?_
  refine x_topl (fun y_6 ey_6 => ?_)
  replace h := h y_6 ey_6
  obtain ⟨hz, h⟩ := h
  obtain ⟨f_7, ef_7⟩ : ∃ z : Nat → Int64, z = vp_updL of (0 : Int32).toNatClampNeg y_6 := ⟨_, rfl⟩
  replace h := h f_7 ef_7
  refine x_last G 0 rfl hz (by rw [← ef_7]) dX0_split_9 ?_
  show X g 5 10 [(0, .ref q0), (1, .int p1), (2, .int p2), (3, .ref q3)] [] ([(q3, .inl ((xT g) 3, 1, .inr (.inl f_7))), (q0, .inr (0, [.ref (ca 0), .ref (ca 1), .ref (ca 2), .ref (ca 3), .ref (ca 4), .int cur_2, .ref (ca 5)]))] ++ CR ca (xT g) cs_3) 21 420
  refine x_goto (tgt := 21) G dX0_split_10 rfl ?_
  refine x_iconst (v := (0 : Int32)) G dX0_split_21 (by decide) ?_
  exact x_hi3 G Q dX0_split_22 rfl f_7 cur_2 cs_3 h XSub.rf (Nat.le_of_ble_eq_true rfl) (Nat.le_of_ble_eq_true rfl)
theorem cdX0_sign : yX0_sign.cls ≠ "java/lang/invoke/MethodHandle" ∧ yX0_sign.cls ≠ "java/lang/invoke/VarHandle" ∧ (parseMethodDescriptor yX0_sign.desc).map (fun d => d.parameters.length) = some 5 := by decide +kernel
def wX0_sign (p1 : Int32) (p2 : Int32) (p3 : Int32) (of : Nat → Int64) (cur : Int32) (ta : Nat → ClassId) (cs : CS) (K : Int32 → (Nat → Int64) → Int32 → CS → Prop) (E : String → (Nat → Int64) → Int32 → CS → Prop) : Prop := (bX1_sign ta p1 p2 p3 cur cs (fun (r_1 : Int32) (cur_2 : Int32) (cs_3 : CS) => (∀ y_6 : Int64, y_6 = r_1.toInt64 → (vp_in (0 : Int32) 1 ∧ (∀ f_7 : Nat → Int64, f_7 = vp_updL of (0 : Int32).toNatClampNeg y_6 → K (0 : Int32) f_7 cur_2 cs_3)))) (fun (En : String) (cur_2 : Int32) (cs_3 : CS) => ((En = "java/lang/NullPointerException" ∧ K (1 : Int32) of cur_2 cs_3) ∨ (En = "java/lang/ArrayIndexOutOfBoundsException" ∧ K (2 : Int32) of cur_2 cs_3))))
set_option maxRecDepth 20000 in
theorem tX0_sign {l : Launch} {D : va_G} {ta : Nat → ClassId} {q4 : Nat} {of : Nat → Int64} {q0 : Nat} {cur : Int32} {ca : Nat → Nat} {cs : CS} {p1 : Int32} {p2 : Int32} {p3 : Int32} {K : Int32 → (Nat → Int64) → Int32 → CS → Prop} {E : String → (Nat → Int64) → Int32 → CS → Prop} (hlt : l.stackTraces = false) (h : wX0_sign p1 p2 p3 of cur ta cs K E) : SHi3 l D ta yX0_sign cX0_sign 6 FieldType.int  [(0, 12, 15, 21), (0, 12, 19, 13)] 6 [.ref q0, .int p1, .int p2, .int p3, .ref q4] ([(q4, .inl (ta 3, 1, .inr (.inl of))), (q0, .inr (0, [.ref (ca 0), .ref (ca 1), .ref (ca 2), .ref (ca 3), .ref (ca 4), .int cur, .ref (ca 5)]))] ++ CR ca ta cs) (fun (of' : Nat → Int64) (cur' : Int32) (cs' : CS) => ([(q4, .inl (ta 3, 1, .inr (.inl of'))), (q0, .inr (0, [.ref (ca 0), .ref (ca 1), .ref (ca 2), .ref (ca 3), .ref (ca 4), .int cur', .ref (ca 5)]))] ++ CR ca ta cs')) 3 222 K E := by
  refine x_shi3 hlt (by decide +kernel) (Nat.le_of_ble_eq_true rfl) (fun g G hl hD hT Q => ?_)
  subst hl; subst hD; subst hT
  unfold wX0_sign at h
  show X g 6 0 [(0, .ref q0), (1, .int p1), (2, .int p2), (3, .int p3), (4, .ref q4)] [] ([(q4, .inl ((xT g) 3, 1, .inr (.inl of))), (q0, .inr (0, [.ref (ca 0), .ref (ca 1), .ref (ca 2), .ref (ca 3), .ref (ca 4), .int cur, .ref (ca 5)]))] ++ CR ca (xT g) cs) 0 0
  refine x_aload G dX0_sign_0 4 rfl ?_
  refine x_iconst (v := (0 : Int32)) G dX0_sign_2 (by decide) ?_
  refine x_aload_n G rfl dX0_sign_3 0 rfl ?_
  refine x_iload_n G rfl dX0_sign_4 1 rfl ?_
  refine x_iload_n G rfl dX0_sign_5 2 rfl ?_
  refine x_iload_n G rfl dX0_sign_6 3 rfl ?_
  refine x_cXVi2 (wc := (CW q0 ca (xT g) cur cs)) (As := [.int p1, .int p2, .int p3]) (rest := [.int (0 : Int32), .ref q4]) G [(q4, .inl ((xT g) 3, 1, .inr (.inl of)))] XSub.rf (uX1_sign G.noTraces h) (lw_V q1522 q1523 q1524 q65 q1525) cdX1_sign 0 1 rfl rfl rfl (by decide) (by decide) rfl (Nat.le_of_ble_eq_true rfl) (Nat.le_of_ble_eq_true rfl) (Nat.le_of_ble_eq_true rfl) dX0_sign_7 (fun En cur_2 cs_3 h => ?_) (fun r_1 cur_2 cs_3 h => ?_)
  · rcases h with ⟨rfl, h⟩ | ⟨rfl, h⟩
    · refine x_catch G Q.2 (tableOf []) ⟨0, 12, 15, 21⟩ (tableOf [(0, 12, 19, 13)]) rfl (fun _ h => absurd h List.not_mem_nil) (by decide) (by decide) q548 (by decide) rfl (fun q_4 => ?_)
      refine x_astore (lv' := [(5, .ref q_4), (0, .ref q0), (1, .int p1), (2, .int p2), (3, .int p3), (4, .ref q4)]) G dX0_sign_15 (by decide) rfl ?_
      refine x_iconst (v := (1 : Int32)) G dX0_sign_17 (by decide) ?_
      exact x_hi3 G Q dX0_sign_18 rfl of cur_2 cs_3 h XSub.rf (Nat.le_of_ble_eq_true rfl) (Nat.le_of_ble_eq_true rfl)
    · refine x_catch G Q.2 (tableOf [(0, 12, 15, 21)]) ⟨0, 12, 19, 13⟩ (tableOf []) rfl (by intro z hz; simp only [tableOf, List.map_cons, List.map_nil, List.mem_cons, List.not_mem_nil, or_false] at hz; rcases hz with rfl <;> refine Or.inr ⟨by decide, ?_⟩ <;> first | exact ⟨_, q548, by decide⟩ | skip) (by decide) (by decide) q392 (by decide) rfl (fun q_5 => ?_)
      refine x_astore (lv' := [(5, .ref q_5), (0, .ref q0), (1, .int p1), (2, .int p2), (3, .int p3), (4, .ref q4)]) G dX0_sign_19 (by decide) rfl ?_
      refine x_iconst (v := (2 : Int32)) G dX0_sign_21 (by decide) ?_
      exact x_hi3 G Q dX0_sign_22 rfl of cur_2 cs_3 h XSub.rf (Nat.le_of_ble_eq_true rfl) (Nat.le_of_ble_eq_true rfl)
  show X g 6 10 [(0, .ref q0), (1, .int p1), (2, .int p2), (3, .int p3), (4, .ref q4)] [.int r_1, .int (0 : Int32), .ref q4] ([(q4, .inl ((xT g) 3, 1, .inr (.inl of))), (q0, .inr (0, [.ref (ca 0), .ref (ca 1), .ref (ca 2), .ref (ca 3), .ref (ca 4), .int cur_2, .ref (ca 5)]))] ++ CR ca (xT g) cs_3) 3 222
  refine x_i2l G dX0_sign_10 ?_
  refine x_topl (fun y_6 ey_6 => ?_)
  replace h := h y_6 ey_6
  obtain ⟨hz, h⟩ := h
  obtain ⟨f_7, ef_7⟩ : ∃ z : Nat → Int64, z = vp_updL of (0 : Int32).toNatClampNeg y_6 := ⟨_, rfl⟩
  replace h := h f_7 ef_7
  refine x_last G 0 rfl hz (by rw [← ef_7]) dX0_sign_11 ?_
  show X g 6 12 [(0, .ref q0), (1, .int p1), (2, .int p2), (3, .int p3), (4, .ref q4)] [] ([(q4, .inl ((xT g) 3, 1, .inr (.inl f_7))), (q0, .inr (0, [.ref (ca 0), .ref (ca 1), .ref (ca 2), .ref (ca 3), .ref (ca 4), .int cur_2, .ref (ca 5)]))] ++ CR ca (xT g) cs_3) 3 222
  refine x_goto (tgt := 23) G dX0_sign_12 rfl ?_
  refine x_iconst (v := (0 : Int32)) G dX0_sign_23 (by decide) ?_
  exact x_hi3 G Q dX0_sign_24 rfl f_7 cur_2 cs_3 h XSub.rf (Nat.le_of_ble_eq_true rfl) (Nat.le_of_ble_eq_true rfl)
