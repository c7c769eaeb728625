/-! contracts of methods that may throw, their ends, their calls. Printed by gen/throws2.py -/
def xAI : String := "java/lang/ArrayIndexOutOfBoundsException"
def xNA : String := "java/lang/NegativeArraySizeException"
def xNP : String := "java/lang/NullPointerException"
def xAR : String := "java/lang/ArithmeticException"
def xXC (D : va_G) {S : Type} (wout : S → va_W) (A : Nat → Prop) (PX : String → S → Prop) : String → State → State → Prop := vx_X (fun _ : S => True) (fun E u t => PX E u ∧ xB D wout A u t) A
/-- the frame at pc, an exception of class E thrown over it -/
def XT (g : XG) (nL pc : Nat) (lv : List (Nat × Value)) (rest : List Value) (ws : va_W) (k n : Nat) (E : String) : Prop := va_D (xA g) ws → ∀ (H : Heap) (locs : List Loc) (ls : Array Slot), lv_has ls nL lv → va_P (xD g) xCl ws H → va_S (xA g) (xs g).heap H locs → ∀ (q : Nat) (ce : Cell), H[q]? = some ce → ce.vm = .none → (xs g).vm.findClass E = some ce.cls → vx_W (xp g) (xl g) (xe g) (xr g) (xs g) (xm g) (xa g) (xb g) (xh g) (xc g) H locs k n (xq g) (F0 (xm g) pc ls rest) q
def XRunX (g : XG) (nL pc : Nat) (lv : List (Nat × Value)) (st0 rest : List Value) (ws wc : va_W) (k n mc ms : Nat) (Qc : Nat → Array Value → State → Outcome → State → Prop) (XCc : Nat → String → State → State → Prop) : Prop := ∀ (H : Heap) (locs : List Loc) (ls : Array Slot), va_D (xA g) ws → lv_has ls nL lv → va_P (xD g) xCl ws H → va_S (xA g) (xs g).heap H locs → ∃ a : Array Value, vx_Run (xp g) (xl g) (xe g) (xr g) (xs g) (xm g) (xa g) (xb g) (xh g) (xc g) H locs k n mc ms (F0 (xm g) pc ls st0) rest (Qc H.size a) (XCc H.size) (va_A wc H.size)
def SXi (l : Launch) (D : va_G) (ta : Nat → ClassId) (y : MethodName) (cc : ByteArray) (nL : Nat) (ret : FieldType) (d : Nat) (av : List Value) (wc : va_W) {S : Type} (wout : S → va_W) (mc ms : Nat) (post : Int32 → S → Prop) (PX : String → S → Prop) : Prop := ∀ sz : Nat, vx_Met l y (ws_ y cc nL (some ret)) (xR d mc ms) (xPc D ta av wc sz) (va_Qi post (xB D wout (va_A wc sz)) (va_A wc sz)) (xXC D wout (va_A wc sz) PX) mc ms (va_A wc sz)
def XYi (g : XG) (ret : FieldType) (mc ms : Nat) {S : Type} (wout : S → va_W) (post : Int32 → S → Prop) (PX : String → S → Prop) : Prop := ((xh g).sig.returnType = some ret ∧ xq g = vx_MQ (xb g) (va_Qi post (xB (xD g) wout (xA g)) (xA g)) (xXC (xD g) wout (xA g) PX) (xa g) (xs g) mc ms (xA g)) ∧ ∀ x ∈ (xc g).exceptionTable.toList, False
def SXl (l : Launch) (D : va_G) (ta : Nat → ClassId) (y : MethodName) (cc : ByteArray) (nL : Nat) (ret : FieldType) (d : Nat) (av : List Value) (wc : va_W) {S : Type} (wout : S → va_W) (mc ms : Nat) (post : Int64 → S → Prop) (PX : String → S → Prop) : Prop := ∀ sz : Nat, vx_Met l y (ws_ y cc nL (some ret)) (xR d mc ms) (xPc D ta av wc sz) (va_Ql post (xB D wout (va_A wc sz)) (va_A wc sz)) (xXC D wout (va_A wc sz) PX) mc ms (va_A wc sz)
def XYl (g : XG) (ret : FieldType) (mc ms : Nat) {S : Type} (wout : S → va_W) (post : Int64 → S → Prop) (PX : String → S → Prop) : Prop := ((xh g).sig.returnType = some ret ∧ xq g = vx_MQ (xb g) (va_Ql post (xB (xD g) wout (xA g)) (xA g)) (xXC (xD g) wout (xA g) PX) (xa g) (xs g) mc ms (xA g)) ∧ ∀ x ∈ (xc g).exceptionTable.toList, False
def SXf (l : Launch) (D : va_G) (ta : Nat → ClassId) (y : MethodName) (cc : ByteArray) (nL : Nat) (ret : FieldType) (d : Nat) (av : List Value) (wc : va_W) {S : Type} (wout : S → va_W) (mc ms : Nat) (post : UInt32 → S → Prop) (PX : String → S → Prop) : Prop := ∀ sz : Nat, vx_Met l y (ws_ y cc nL (some ret)) (xR d mc ms) (xPc D ta av wc sz) (va_Qf post (xB D wout (va_A wc sz)) (va_A wc sz)) (xXC D wout (va_A wc sz) PX) mc ms (va_A wc sz)
def XYf (g : XG) (ret : FieldType) (mc ms : Nat) {S : Type} (wout : S → va_W) (post : UInt32 → S → Prop) (PX : String → S → Prop) : Prop := ((xh g).sig.returnType = some ret ∧ xq g = vx_MQ (xb g) (va_Qf post (xB (xD g) wout (xA g)) (xA g)) (xXC (xD g) wout (xA g) PX) (xa g) (xs g) mc ms (xA g)) ∧ ∀ x ∈ (xc g).exceptionTable.toList, False
def SXd (l : Launch) (D : va_G) (ta : Nat → ClassId) (y : MethodName) (cc : ByteArray) (nL : Nat) (ret : FieldType) (d : Nat) (av : List Value) (wc : va_W) {S : Type} (wout : S → va_W) (mc ms : Nat) (post : UInt64 → S → Prop) (PX : String → S → Prop) : Prop := ∀ sz : Nat, vx_Met l y (ws_ y cc nL (some ret)) (xR d mc ms) (xPc D ta av wc sz) (va_Qd post (xB D wout (va_A wc sz)) (va_A wc sz)) (xXC D wout (va_A wc sz) PX) mc ms (va_A wc sz)
def XYd (g : XG) (ret : FieldType) (mc ms : Nat) {S : Type} (wout : S → va_W) (post : UInt64 → S → Prop) (PX : String → S → Prop) : Prop := ((xh g).sig.returnType = some ret ∧ xq g = vx_MQ (xb g) (va_Qd post (xB (xD g) wout (xA g)) (xA g)) (xXC (xD g) wout (xA g) PX) (xa g) (xs g) mc ms (xA g)) ∧ ∀ x ∈ (xc g).exceptionTable.toList, False
def SXq (l : Launch) (D : va_G) (ta : Nat → ClassId) (y : MethodName) (cc : ByteArray) (nL : Nat) (ret : FieldType) (d : Nat) (av : List Value) (wc : va_W) {S : Type} (wout : S → va_W) (mc ms : Nat) (post : Option Nat → S → Prop) (PX : String → S → Prop) : Prop := ∀ sz : Nat, vx_Met l y (ws_ y cc nL (some ret)) (xR d mc ms) (xPc D ta av wc sz) (va_Qq post (xB D wout (va_A wc sz)) (va_A wc sz)) (xXC D wout (va_A wc sz) PX) mc ms (va_A wc sz)
def XYq (g : XG) (ret : FieldType) (mc ms : Nat) {S : Type} (wout : S → va_W) (post : Option Nat → S → Prop) (PX : String → S → Prop) : Prop := ((xh g).sig.returnType = some ret ∧ xq g = vx_MQ (xb g) (va_Qq post (xB (xD g) wout (xA g)) (xA g)) (xXC (xD g) wout (xA g) PX) (xa g) (xs g) mc ms (xA g)) ∧ ∀ x ∈ (xc g).exceptionTable.toList, False
def SXv (l : Launch) (D : va_G) (ta : Nat → ClassId) (y : MethodName) (cc : ByteArray) (nL : Nat) (d : Nat) (av : List Value) (wc : va_W) {S : Type} (wout : S → va_W) (mc ms : Nat) (post : S → Prop) (PX : String → S → Prop) : Prop := ∀ sz : Nat, vx_Met l y (ws_ y cc nL none) (xR d mc ms) (xPc D ta av wc sz) (va_Qv post (xB D wout (va_A wc sz)) (va_A wc sz)) (xXC D wout (va_A wc sz) PX) mc ms (va_A wc sz)
def XYv (g : XG) (mc ms : Nat) {S : Type} (wout : S → va_W) (post : S → Prop) (PX : String → S → Prop) : Prop := ((xh g).sig.returnType = none ∧ xq g = vx_MQ (xb g) (va_Qv post (xB (xD g) wout (xA g)) (xA g)) (xXC (xD g) wout (xA g) PX) (xa g) (xs g) mc ms (xA g)) ∧ ∀ x ∈ (xc g).exceptionTable.toList, False
theorem vx_sure {l : Launch} {y : MethodName} {ws : List Cond} {rm : Room} {Pc : Array Value → State → Prop} {Qc : Array Value → State → Outcome → State → Prop} {XC : String → State → State → Prop} {mc ms : Nat} {free : Addr → Prop} (hM : vx_Met l y ws rm Pc Qc XC mc ms free) (hn : ∀ E s t, ¬ XC E s t) : Met l y ws rm Pc Qc mc ms free := by
  intro p e ha hc hk s m args below hf happ hP hK
  obtain ⟨n, o, h1, h2, h3, h4⟩ := hM p e ha hc hk s m args below hf happ hP hK
  refine ⟨n, o, h1, h2, h3, ?_⟩
  rcases h4 with h4 | ⟨q, -, E, ce, L, hx, -⟩
  · exact h4
  · exact absurd hx (hn _ _ _)
theorem SMi.sure {l : Launch} {D : va_G} {ta : Nat → ClassId} {y : MethodName} {cc : ByteArray} {nL : Nat} {ret : FieldType} {d : Nat} {av : List Value} {wc : va_W} {S : Type} {wout : S → va_W} {mc ms : Nat} {post : Int32 → S → Prop} {PX : String → S → Prop} (h : SXi l D ta y cc nL ret d av wc wout mc ms post PX) (hn : ∀ E u, ¬ PX E u) : SMi l D ta y cc nL ret d av wc wout mc ms post := fun sz => vx_sure (h sz) (fun _ _ _ ⟨u, _, h, _⟩ => hn _ u h.1)
theorem x_sxi {l : Launch} {D : va_G} {ta : Nat → ClassId} {y : MethodName} {cc : ByteArray} {nL : Nat} {ret : FieldType} {d : Nat} {av : List Value} {wc : va_W} {S : Type} {wout : S → va_W} {mc ms : Nat} {post : Int32 → S → Prop} {PX : String → S → Prop} (hlt : l.stackTraces = false) (hy : plainName y.cls = true) (hav : (lg_sl av).length ≤ nL) (body : ∀ g : XG, XO g y.cls cc nL d mc ms → xl g = l → xD g = D → xT g = ta → (xh g).name = y.name → XYi g ret mc ms wout post PX → X g nL 0 (lv_args 0 av) [] wc 0 0) : SXi l D ta y cc nL ret d av wc wout mc ms post PX := by
  intro sz
  refine vx_ofW (cc := cc) (maxL := nL) (ret := some ret) hy rfl ?_
  intro p e s m args below meth c s₁ B hml ht hv
  obtain ⟨rfl, hsz, hP, hE, hD0⟩ := hv
  have hl := lv_entry av hav
  rw [lg_entry_eq]
  generalize (lg_sl av ++ List.replicate (nL - (lg_sl av).length) Slot.unset).toArray = ls at hl ⊢
  subst hsz
  have hts := atoms_spec (ws := ws_ y cc nL (some ret)) B.pre
  exact body (p, l, e, xR d mc ms, s, m, av.toArray, below, meth, c, _, va_A wc s.heap.size, D, ta) ⟨B.exec, B.bytes, hml, findClass_of_methodNamed B.named, fun w h => hts w (List.mem_cons_of_mem _ h), rfl, B.notSynchronized, hE, fun q h => Or.inr h, hlt⟩ rfl rfl rfl (name_of_methodNamed B.named B.method).1 ⟨⟨B.returns, rfl⟩, ht⟩ (hD0.self) s.heap [] ls hl hP va_S.rf
theorem SMl.sure {l : Launch} {D : va_G} {ta : Nat → ClassId} {y : MethodName} {cc : ByteArray} {nL : Nat} {ret : FieldType} {d : Nat} {av : List Value} {wc : va_W} {S : Type} {wout : S → va_W} {mc ms : Nat} {post : Int64 → S → Prop} {PX : String → S → Prop} (h : SXl l D ta y cc nL ret d av wc wout mc ms post PX) (hn : ∀ E u, ¬ PX E u) : SMl l D ta y cc nL ret d av wc wout mc ms post := fun sz => vx_sure (h sz) (fun _ _ _ ⟨u, _, h, _⟩ => hn _ u h.1)
theorem x_sxl {l : Launch} {D : va_G} {ta : Nat → ClassId} {y : MethodName} {cc : ByteArray} {nL : Nat} {ret : FieldType} {d : Nat} {av : List Value} {wc : va_W} {S : Type} {wout : S → va_W} {mc ms : Nat} {post : Int64 → S → Prop} {PX : String → S → Prop} (hlt : l.stackTraces = false) (hy : plainName y.cls = true) (hav : (lg_sl av).length ≤ nL) (body : ∀ g : XG, XO g y.cls cc nL d mc ms → xl g = l → xD g = D → xT g = ta → (xh g).name = y.name → XYl g ret mc ms wout post PX → X g nL 0 (lv_args 0 av) [] wc 0 0) : SXl l D ta y cc nL ret d av wc wout mc ms post PX := by
  intro sz
  refine vx_ofW (cc := cc) (maxL := nL) (ret := some ret) hy rfl ?_
  intro p e s m args below meth c s₁ B hml ht hv
  obtain ⟨rfl, hsz, hP, hE, hD0⟩ := hv
  have hl := lv_entry av hav
  rw [lg_entry_eq]
  generalize (lg_sl av ++ List.replicate (nL - (lg_sl av).length) Slot.unset).toArray = ls at hl ⊢
  subst hsz
  have hts := atoms_spec (ws := ws_ y cc nL (some ret)) B.pre
  exact body (p, l, e, xR d mc ms, s, m, av.toArray, below, meth, c, _, va_A wc s.heap.size, D, ta) ⟨B.exec, B.bytes, hml, findClass_of_methodNamed B.named, fun w h => hts w (List.mem_cons_of_mem _ h), rfl, B.notSynchronized, hE, fun q h => Or.inr h, hlt⟩ rfl rfl rfl (name_of_methodNamed B.named B.method).1 ⟨⟨B.returns, rfl⟩, ht⟩ (hD0.self) s.heap [] ls hl hP va_S.rf
theorem SMf.sure {l : Launch} {D : va_G} {ta : Nat → ClassId} {y : MethodName} {cc : ByteArray} {nL : Nat} {ret : FieldType} {d : Nat} {av : List Value} {wc : va_W} {S : Type} {wout : S → va_W} {mc ms : Nat} {post : UInt32 → S → Prop} {PX : String → S → Prop} (h : SXf l D ta y cc nL ret d av wc wout mc ms post PX) (hn : ∀ E u, ¬ PX E u) : SMf l D ta y cc nL ret d av wc wout mc ms post := fun sz => vx_sure (h sz) (fun _ _ _ ⟨u, _, h, _⟩ => hn _ u h.1)
theorem x_sxf {l : Launch} {D : va_G} {ta : Nat → ClassId} {y : MethodName} {cc : ByteArray} {nL : Nat} {ret : FieldType} {d : Nat} {av : List Value} {wc : va_W} {S : Type} {wout : S → va_W} {mc ms : Nat} {post : UInt32 → S → Prop} {PX : String → S → Prop} (hlt : l.stackTraces = false) (hy : plainName y.cls = true) (hav : (lg_sl av).length ≤ nL) (body : ∀ g : XG, XO g y.cls cc nL d mc ms → xl g = l → xD g = D → xT g = ta → (xh g).name = y.name → XYf g ret mc ms wout post PX → X g nL 0 (lv_args 0 av) [] wc 0 0) : SXf l D ta y cc nL ret d av wc wout mc ms post PX := by
  intro sz
  refine vx_ofW (cc := cc) (maxL := nL) (ret := some ret) hy rfl ?_
  intro p e s m args below meth c s₁ B hml ht hv
  obtain ⟨rfl, hsz, hP, hE, hD0⟩ := hv
  have hl := lv_entry av hav
  rw [lg_entry_eq]
  generalize (lg_sl av ++ List.replicate (nL - (lg_sl av).length) Slot.unset).toArray = ls at hl ⊢
  subst hsz
  have hts := atoms_spec (ws := ws_ y cc nL (some ret)) B.pre
  exact body (p, l, e, xR d mc ms, s, m, av.toArray, below, meth, c, _, va_A wc s.heap.size, D, ta) ⟨B.exec, B.bytes, hml, findClass_of_methodNamed B.named, fun w h => hts w (List.mem_cons_of_mem _ h), rfl, B.notSynchronized, hE, fun q h => Or.inr h, hlt⟩ rfl rfl rfl (name_of_methodNamed B.named B.method).1 ⟨⟨B.returns, rfl⟩, ht⟩ (hD0.self) s.heap [] ls hl hP va_S.rf
theorem SMd.sure {l : Launch} {D : va_G} {ta : Nat → ClassId} {y : MethodName} {cc : ByteArray} {nL : Nat} {ret : FieldType} {d : Nat} {av : List Value} {wc : va_W} {S : Type} {wout : S → va_W} {mc ms : Nat} {post : UInt64 → S → Prop} {PX : String → S → Prop} (h : SXd l D ta y cc nL ret d av wc wout mc ms post PX) (hn : ∀ E u, ¬ PX E u) : SMd l D ta y cc nL ret d av wc wout mc ms post := fun sz => vx_sure (h sz) (fun _ _ _ ⟨u, _, h, _⟩ => hn _ u h.1)
theorem x_sxd {l : Launch} {D : va_G} {ta : Nat → ClassId} {y : MethodName} {cc : ByteArray} {nL : Nat} {ret : FieldType} {d : Nat} {av : List Value} {wc : va_W} {S : Type} {wout : S → va_W} {mc ms : Nat} {post : UInt64 → S → Prop} {PX : String → S → Prop} (hlt : l.stackTraces = false) (hy : plainName y.cls = true) (hav : (lg_sl av).length ≤ nL) (body : ∀ g : XG, XO g y.cls cc nL d mc ms → xl g = l → xD g = D → xT g = ta → (xh g).name = y.name → XYd g ret mc ms wout post PX → X g nL 0 (lv_args 0 av) [] wc 0 0) : SXd l D ta y cc nL ret d av wc wout mc ms post PX := by
  intro sz
  refine vx_ofW (cc := cc) (maxL := nL) (ret := some ret) hy rfl ?_
  intro p e s m args below meth c s₁ B hml ht hv
  obtain ⟨rfl, hsz, hP, hE, hD0⟩ := hv
  have hl := lv_entry av hav
  rw [lg_entry_eq]
  generalize (lg_sl av ++ List.replicate (nL - (lg_sl av).length) Slot.unset).toArray = ls at hl ⊢
  subst hsz
  have hts := atoms_spec (ws := ws_ y cc nL (some ret)) B.pre
  exact body (p, l, e, xR d mc ms, s, m, av.toArray, below, meth, c, _, va_A wc s.heap.size, D, ta) ⟨B.exec, B.bytes, hml, findClass_of_methodNamed B.named, fun w h => hts w (List.mem_cons_of_mem _ h), rfl, B.notSynchronized, hE, fun q h => Or.inr h, hlt⟩ rfl rfl rfl (name_of_methodNamed B.named B.method).1 ⟨⟨B.returns, rfl⟩, ht⟩ (hD0.self) s.heap [] ls hl hP va_S.rf
theorem SMq.sure {l : Launch} {D : va_G} {ta : Nat → ClassId} {y : MethodName} {cc : ByteArray} {nL : Nat} {ret : FieldType} {d : Nat} {av : List Value} {wc : va_W} {S : Type} {wout : S → va_W} {mc ms : Nat} {post : Option Nat → S → Prop} {PX : String → S → Prop} (h : SXq l D ta y cc nL ret d av wc wout mc ms post PX) (hn : ∀ E u, ¬ PX E u) : SMq l D ta y cc nL ret d av wc wout mc ms post := fun sz => vx_sure (h sz) (fun _ _ _ ⟨u, _, h, _⟩ => hn _ u h.1)
theorem x_sxq {l : Launch} {D : va_G} {ta : Nat → ClassId} {y : MethodName} {cc : ByteArray} {nL : Nat} {ret : FieldType} {d : Nat} {av : List Value} {wc : va_W} {S : Type} {wout : S → va_W} {mc ms : Nat} {post : Option Nat → S → Prop} {PX : String → S → Prop} (hlt : l.stackTraces = false) (hy : plainName y.cls = true) (hav : (lg_sl av).length ≤ nL) (body : ∀ g : XG, XO g y.cls cc nL d mc ms → xl g = l → xD g = D → xT g = ta → (xh g).name = y.name → XYq g ret mc ms wout post PX → X g nL 0 (lv_args 0 av) [] wc 0 0) : SXq l D ta y cc nL ret d av wc wout mc ms post PX := by
  intro sz
  refine vx_ofW (cc := cc) (maxL := nL) (ret := some ret) hy rfl ?_
  intro p e s m args below meth c s₁ B hml ht hv
  obtain ⟨rfl, hsz, hP, hE, hD0⟩ := hv
  have hl := lv_entry av hav
  rw [lg_entry_eq]
  generalize (lg_sl av ++ List.replicate (nL - (lg_sl av).length) Slot.unset).toArray = ls at hl ⊢
  subst hsz
  have hts := atoms_spec (ws := ws_ y cc nL (some ret)) B.pre
  exact body (p, l, e, xR d mc ms, s, m, av.toArray, below, meth, c, _, va_A wc s.heap.size, D, ta) ⟨B.exec, B.bytes, hml, findClass_of_methodNamed B.named, fun w h => hts w (List.mem_cons_of_mem _ h), rfl, B.notSynchronized, hE, fun q h => Or.inr h, hlt⟩ rfl rfl rfl (name_of_methodNamed B.named B.method).1 ⟨⟨B.returns, rfl⟩, ht⟩ (hD0.self) s.heap [] ls hl hP va_S.rf
theorem SMv.sure {l : Launch} {D : va_G} {ta : Nat → ClassId} {y : MethodName} {cc : ByteArray} {nL : Nat} {d : Nat} {av : List Value} {wc : va_W} {S : Type} {wout : S → va_W} {mc ms : Nat} {post : S → Prop} {PX : String → S → Prop} (h : SXv l D ta y cc nL d av wc wout mc ms post PX) (hn : ∀ E u, ¬ PX E u) : SMv l D ta y cc nL d av wc wout mc ms post := fun sz => vx_sure (h sz) (fun _ _ _ ⟨u, _, h, _⟩ => hn _ u h.1)
theorem x_sxv {l : Launch} {D : va_G} {ta : Nat → ClassId} {y : MethodName} {cc : ByteArray} {nL : Nat} {d : Nat} {av : List Value} {wc : va_W} {S : Type} {wout : S → va_W} {mc ms : Nat} {post : S → Prop} {PX : String → S → Prop} (hlt : l.stackTraces = false) (hy : plainName y.cls = true) (hav : (lg_sl av).length ≤ nL) (body : ∀ g : XG, XO g y.cls cc nL d mc ms → xl g = l → xD g = D → xT g = ta → (xh g).name = y.name → XYv g mc ms wout post PX → X g nL 0 (lv_args 0 av) [] wc 0 0) : SXv l D ta y cc nL d av wc wout mc ms post PX := by
  intro sz
  refine vx_ofW (cc := cc) (maxL := nL) (ret := none) hy rfl ?_
  intro p e s m args below meth c s₁ B hml ht hv
  obtain ⟨rfl, hsz, hP, hE, hD0⟩ := hv
  have hl := lv_entry av hav
  rw [lg_entry_eq]
  generalize (lg_sl av ++ List.replicate (nL - (lg_sl av).length) Slot.unset).toArray = ls at hl ⊢
  subst hsz
  have hts := atoms_spec (ws := ws_ y cc nL (none)) B.pre
  exact body (p, l, e, xR d mc ms, s, m, av.toArray, below, meth, c, _, va_A wc s.heap.size, D, ta) ⟨B.exec, B.bytes, hml, findClass_of_methodNamed B.named, fun w h => hts w (List.mem_cons_of_mem _ h), rfl, B.notSynchronized, hE, fun q h => Or.inr h, hlt⟩ rfl rfl rfl (name_of_methodNamed B.named B.method).1 ⟨⟨B.returns, rfl⟩, ht⟩ (hD0.self) s.heap [] ls hl hP va_S.rf
section
variable {g : XG} {own : String} {cc : ByteArray} {nL d mc ms pc : Nat} {lv lv' : List (Nat × Value)} {st : List Value} {ws ws' : va_W} {k n : Nat} {S : Type} {wout : S → va_W} {PX : String → S → Prop}
theorem x_yi {ret : FieldType} {post : Int32 → S → Prop} {v : Int32} (G : XO g own cc nL d mc ms) (Q : XYi g ret mc ms wout post PX) (dg : decode cc pc = .ok (.ireturn, 1)) (hn : narrow ret (.int v) = .int v) (u : S) (hp : post v u) (hw : XSub ws (wout u)) (hk : k ≤ mc) (hs : n ≤ ms) : X g nL pc lv [.int v] ws k n := by
  refine x_mono hk hs (x_ws hw fun hD H locs ls hl hP hS => ?_)
  show W _ _ _ _ _ _ _ _ _ _ H locs mc ms (xq g) _
  rw [Q.1.2]
  exact vx_ret (W.zret G.exec G.code Q.1.1 hn (fun t ht hW => ⟨⟨v, u, rfl, hp, by rw [ht]; exact hP, hD⟩, hS.F ht⟩) hS.2.2 dg G.locks)
theorem x_yl {post : Int64 → S → Prop} {v : Int64} (G : XO g own cc nL d mc ms) (Q : XYl g .long mc ms wout post PX) (dg : decode cc pc = .ok (.lreturn, 1)) (u : S) (hp : post v u) (hw : XSub ws (wout u)) (hk : k ≤ mc) (hs : n ≤ ms) : X g nL pc lv [.long v] ws k n := by
  refine x_mono hk hs (x_ws hw fun hD H locs ls hl hP hS => ?_)
  show W _ _ _ _ _ _ _ _ _ _ H locs mc ms (xq g) _
  rw [Q.1.2]
  exact vx_ret (W.lret G.exec G.code Q.1.1 (fun t ht hW => ⟨⟨v, u, rfl, hp, by rw [ht]; exact hP, hD⟩, hS.F ht⟩) hS.2.2 dg G.locks)
theorem x_yf {post : UInt32 → S → Prop} {v : UInt32} (G : XO g own cc nL d mc ms) (Q : XYf g .float mc ms wout post PX) (dg : decode cc pc = .ok (.freturn, 1)) (u : S) (hp : post v u) (hw : XSub ws (wout u)) (hk : k ≤ mc) (hs : n ≤ ms) : X g nL pc lv [.float v] ws k n := by
  refine x_mono hk hs (x_ws hw fun hD H locs ls hl hP hS => ?_)
  show W _ _ _ _ _ _ _ _ _ _ H locs mc ms (xq g) _
  rw [Q.1.2]
  exact vx_ret (W.fret G.exec G.code Q.1.1 (fun t ht hW => ⟨⟨v, u, rfl, hp, by rw [ht]; exact hP, hD⟩, hS.F ht⟩) hS.2.2 dg G.locks)
theorem x_yd {post : UInt64 → S → Prop} {v : UInt64} (G : XO g own cc nL d mc ms) (Q : XYd g .double mc ms wout post PX) (dg : decode cc pc = .ok (.dreturn, 1)) (u : S) (hp : post v u) (hw : XSub ws (wout u)) (hk : k ≤ mc) (hs : n ≤ ms) : X g nL pc lv [.double v] ws k n := by
  refine x_mono hk hs (x_ws hw fun hD H locs ls hl hP hS => ?_)
  show W _ _ _ _ _ _ _ _ _ _ H locs mc ms (xq g) _
  rw [Q.1.2]
  exact vx_ret (W.dret G.exec G.code Q.1.1 (fun t ht hW => ⟨⟨v, u, rfl, hp, by rw [ht]; exact hP, hD⟩, hS.F ht⟩) hS.2.2 dg G.locks)
theorem x_yv {post : S → Prop} (G : XO g own cc nL d mc ms) (Q : XYv g  mc ms wout post PX) (dg : decode cc pc = .ok (.return_, 1)) (u : S) (hp : post u) (hw : XSub ws (wout u)) (hk : k ≤ mc) (hs : n ≤ ms) : X g nL pc lv [] ws k n := by
  refine x_mono hk hs (x_ws hw fun hD H locs ls hl hP hS => ?_)
  show W _ _ _ _ _ _ _ _ _ _ H locs mc ms (xq g) _
  rw [Q.1.2]
  exact vx_ret (W.vret G.exec G.code Q.1.1 (fun t ht hW => ⟨⟨u, rfl, hp, by rw [ht]; exact hP, hD⟩, hS.F ht⟩) hS.2.2 dg G.locks)
theorem x_yq {ret : FieldType} {post : Option Nat → S → Prop} {v : Option Nat} (G : XO g own cc nL d mc ms) (Q : XYq g ret mc ms wout post PX) (hrt : (∃ n, ret = .object n) ∨ ∃ t, ret = .array t) (dg : decode cc pc = .ok (.areturn, 1)) (u : S) (hp : post v u) (hw : XSub ws (wout u)) (hk : k ≤ mc) (hs : n ≤ ms) : X g nL pc lv [va_rf v] ws k n := by
  refine x_mono hk hs (x_ws hw fun hD H locs ls hl hP hS => ?_)
  show W _ _ _ _ _ _ _ _ _ _ H locs mc ms (xq g) _
  rw [Q.1.2]
  exact vx_ret (W.aret G.exec G.code Q.1.1 hrt (by cases v with | none => exact Or.inl rfl | some a => exact Or.inr ⟨a, rfl⟩) (fun t ht hW => ⟨⟨v, u, rfl, hp, by rw [ht]; exact hP, hD⟩, hS.F ht⟩) hS.2.2 dg G.locks)
/-- thrown out of the method: it has no handlers -/
theorem x_out {E : String} {Qc : Array Value → State → Outcome → State → Prop} (G : XO g own cc nL d mc ms) (hq : xq g = vx_MQ (xb g) Qc (xXC (xD g) wout (xA g) PX) (xa g) (xs g) mc ms (xA g)) (hT : ∀ x ∈ (xc g).exceptionTable.toList, False) (u : S) (hp : PX E u) (hw : XSub ws (wout u)) (hk : k ≤ mc) (hs : n ≤ ms) : XT g nL pc lv st ws k n E := by
  intro hD H locs ls hl hP hS q ce hce hv hcl
  rw [hq]
  exact vx_out (fun x hx => (hT x hx).elim) G.locks hce hv hcl (fun t ht _ => ⟨u, trivial, ⟨hp, by rw [ht]; exact hw.P hP, hw.2 _ hD⟩, hS.F ht⟩) hS.2.2 hk hs
theorem x_tmono {E : String} {k' n' : Nat} (h1 : k ≤ k') (h2 : n ≤ n') (kk : XT g nL pc lv st ws k' n' E) : XT g nL pc lv st ws k n E := fun hD H locs ls hl hP hS q ce hce hv hcl => vx_widen h1 h2 (kk hD H locs ls hl hP hS q ce hce hv hcl)
theorem x_tws {E : String} (h : XSub ws ws') (kk : XT g nL pc lv st ws' k n E) : XT g nL pc lv st ws k n E := fun hD H locs ls hl hP hS => kk (h.2 _ hD) H locs ls hl (h.P hP) hS
theorem x_noteAI {tx : String} (G : XO g own cc nL d mc ms) (htx : (tx == notModelled) = false) (hsz : (stringBytes (stringToUtf16 tx)).size ≤ 212) (hcat : (st.map fun v => v.category).sum ≤ 8) (hk : k + 3 ≤ mc) (hn : n + 222 ≤ ms) (kk : XT g nL pc lv st ws (k + 3) (n + 222) "java/lang/ArrayIndexOutOfBoundsException") (hD : va_D (xA g) ws) {H : Heap} {locs : List Loc} {ls : Array Slot} (hl : lv_has ls nL lv) (hP : va_P (xD g) xCl ws H) (hS : va_S (xA g) (xs g).heap H locs) : vx_Note (xp g) (xl g) (xe g) (xr g) (xs g) (xm g) (xa g) (xb g) (xh g) (xc g) H locs k n (xq g) (F0 (xm g) pc ls st) "java/lang/ArrayIndexOutOfBoundsException" tx :=
  vx_vm (names := ["java/lang/IndexOutOfBoundsException", "java/lang/RuntimeException", "java/lang/Exception"]) (nb := 212) G.exec G.noTraces (by decide +kernel) (by decide +kernel) (by decide +kernel) (by decide +kernel) (hw_ai G.hts G.E.2.1) ho_ai G.E.2.2.2.2.2.2.2.1 G.E.2.2.2.2.2.2.2.2 hS (hl.1.trans G.maxL.symm) htx hsz (by decide) (by rw [G.room]; show _ < 10 + d; simp only [List.length_cons, List.length_nil]; omega) (by rw [G.room]; show _ ≤ 11000 + 64 * d; omega) (by decide) (by rw [G.room]; exact hk) (by rw [G.room]; exact hn) G.locks (fun H1 q9 ce hz hf hS1 hce hv hcl => kk hD H1 locs ls hl (hP.kept fun i x hx => hf x.1 (hP i x hx).lt) hS1 q9 ce hce hv hcl)
theorem x_noteNA {tx : String} (G : XO g own cc nL d mc ms) (htx : (tx == notModelled) = false) (hsz : (stringBytes (stringToUtf16 tx)).size ≤ 44) (hcat : (st.map fun v => v.category).sum ≤ 8) (hk : k + 3 ≤ mc) (hn : n + 54 ≤ ms) (kk : XT g nL pc lv st ws (k + 3) (n + 54) "java/lang/NegativeArraySizeException") (hD : va_D (xA g) ws) {H : Heap} {locs : List Loc} {ls : Array Slot} (hl : lv_has ls nL lv) (hP : va_P (xD g) xCl ws H) (hS : va_S (xA g) (xs g).heap H locs) : vx_Note (xp g) (xl g) (xe g) (xr g) (xs g) (xm g) (xa g) (xb g) (xh g) (xc g) H locs k n (xq g) (F0 (xm g) pc ls st) "java/lang/NegativeArraySizeException" tx :=
  vx_vm (names := ["java/lang/RuntimeException", "java/lang/Exception"]) (nb := 44) G.exec G.noTraces (by decide +kernel) (by decide +kernel) (by decide +kernel) (by decide +kernel) (hw_na G.hts G.E.2.1) ho_na G.E.2.2.2.2.2.2.2.1 G.E.2.2.2.2.2.2.2.2 hS (hl.1.trans G.maxL.symm) htx hsz (by decide) (by rw [G.room]; show _ < 10 + d; simp only [List.length_cons, List.length_nil]; omega) (by rw [G.room]; show _ ≤ 11000 + 64 * d; omega) (by decide) (by rw [G.room]; exact hk) (by rw [G.room]; exact hn) G.locks (fun H1 q9 ce hz hf hS1 hce hv hcl => kk hD H1 locs ls hl (hP.kept fun i x hx => hf x.1 (hP i x hx).lt) hS1 q9 ce hce hv hcl)
theorem x_noteNP (G : XO g own cc nL d mc ms) (hcat : (st.map fun v => v.category).sum ≤ 8) (hk : k + 1 ≤ mc) (hn : n + 8 ≤ ms) (kk : XT g nL pc lv st ws (k + 1) (n + 8) "java/lang/NullPointerException") (hD : va_D (xA g) ws) {H : Heap} {locs : List Loc} {ls : Array Slot} (hl : lv_has ls nL lv) (hP : va_P (xD g) xCl ws H) (hS : va_S (xA g) (xs g).heap H locs) : vx_NoteN (xp g) (xl g) (xe g) (xr g) (xs g) (xm g) (xa g) (xb g) (xh g) (xc g) H locs k n (xq g) (F0 (xm g) pc ls st) :=
  vx_npe (nb := 8) G.exec G.noTraces (hw_np G.hts G.E.2.1) ho_np G.E.2.2.2.2.2.2.2.1 G.E.2.2.2.2.2.2.2.2 hS (hl.1.trans G.maxL.symm) (by rw [G.room]; show 7 < 10 + d; omega) (by rw [G.room]; show _ ≤ 11000 + 64 * d; omega) (by rw [G.room]; exact hk) (by rw [G.room]; exact hn) G.locks (fun H1 q9 ce hz hf hS1 hce hv hcl => kk hD H1 locs ls hl (hP.kept fun i x hx => hf x.1 (hP i x hx).lt) hS1 q9 ce hce hv hcl)
theorem x_ialdZ (G : XO g own cc nL d mc ms) {a N : Nat} {f : Nat → Int32} {i : Int32} (q0 : Nat) (ha : ws[q0]? = some (a, .inl (xT g 2, N, .inl f))) (hN : N ≤ 1000) (hout : ¬ vp_in i N) (hcat : (st.map fun v => v.category).sum ≤ 8) (hk : k + 3 ≤ mc) (hn : n + 222 ≤ ms) (dg : decode cc pc = .ok (.iaload, 1)) (kk : XT g nL pc lv st ws (k + 3) (n + 222) "java/lang/ArrayIndexOutOfBoundsException") : X g nL pc lv (.int i :: .ref a :: st) ws k n := fun hD H locs ls hl hP hS => vx_ialdZ G.exec G.code G.K hP q0 2 ha rfl hout dg (fun tx htx => by subst htx; exact x_noteAI G (index_text_modelled i N) (index_text_bytes i (by omega)) hcat hk hn kk hD hl hP hS)
theorem x_baldZ (G : XO g own cc nL d mc ms) {a N : Nat} {f : Nat → Int32} {i : Int32} (q0 : Nat) (ha : ws[q0]? = some (a, .inl (xT g 1, N, .inl f))) (hN : N ≤ 1000) (hout : ¬ vp_in i N) (hcat : (st.map fun v => v.category).sum ≤ 8) (hk : k + 3 ≤ mc) (hn : n + 222 ≤ ms) (dg : decode cc pc = .ok (.baload, 1)) (kk : XT g nL pc lv st ws (k + 3) (n + 222) "java/lang/ArrayIndexOutOfBoundsException") : X g nL pc lv (.int i :: .ref a :: st) ws k n := fun hD H locs ls hl hP hS => vx_baldZ G.exec G.code G.K hP q0 1 ha rfl hout dg (fun tx htx => by subst htx; exact x_noteAI G (index_text_modelled i N) (index_text_bytes i (by omega)) hcat hk hn kk hD hl hP hS)
theorem x_daldZ (G : XO g own cc nL d mc ms) {a N : Nat} {f : Nat → UInt64} {i : Int32} (q0 : Nat) (ha : ws[q0]? = some (a, .inl (xT g 5, N, .inr (.inr (.inr (.inl f)))))) (hN : N ≤ 1000) (hout : ¬ vp_in i N) (hcat : (st.map fun v => v.category).sum ≤ 8) (hk : k + 3 ≤ mc) (hn : n + 222 ≤ ms) (dg : decode cc pc = .ok (.daload, 1)) (kk : XT g nL pc lv st ws (k + 3) (n + 222) "java/lang/ArrayIndexOutOfBoundsException") : X g nL pc lv (.int i :: .ref a :: st) ws k n := fun hD H locs ls hl hP hS => vx_daldZ G.exec G.code G.K hP q0 5 ha rfl hout dg (fun tx htx => by subst htx; exact x_noteAI G (index_text_modelled i N) (index_text_bytes i (by omega)) hcat hk hn kk hD hl hP hS)
theorem x_faldZ (G : XO g own cc nL d mc ms) {a N : Nat} {f : Nat → UInt32} {i : Int32} (q0 : Nat) (ha : ws[q0]? = some (a, .inl (xT g 4, N, .inr (.inr (.inl f))))) (hN : N ≤ 1000) (hout : ¬ vp_in i N) (hcat : (st.map fun v => v.category).sum ≤ 8) (hk : k + 3 ≤ mc) (hn : n + 222 ≤ ms) (dg : decode cc pc = .ok (.faload, 1)) (kk : XT g nL pc lv st ws (k + 3) (n + 222) "java/lang/ArrayIndexOutOfBoundsException") : X g nL pc lv (.int i :: .ref a :: st) ws k n := fun hD H locs ls hl hP hS => vx_faldZ G.exec G.code G.K hP q0 4 ha rfl hout dg (fun tx htx => by subst htx; exact x_noteAI G (index_text_modelled i N) (index_text_bytes i (by omega)) hcat hk hn kk hD hl hP hS)
theorem x_bastZ (G : XO g own cc nL d mc ms) {a N : Nat} {f : Nat → Int32} {i : Int32} {x : Int32} (q0 : Nat) (ha : ws[q0]? = some (a, .inl (xT g 1, N, .inl f))) (hN : N ≤ 1000) (hout : ¬ vp_in i N) (hcat : (st.map fun v => v.category).sum ≤ 8) (hk : k + 3 ≤ mc) (hn : n + 222 ≤ ms) (dg : decode cc pc = .ok (.bastore, 1)) (kk : XT g nL pc lv st ws (k + 3) (n + 222) "java/lang/ArrayIndexOutOfBoundsException") : X g nL pc lv (.int x :: .int i :: .ref a :: st) ws k n := fun hD H locs ls hl hP hS => vx_bastZ G.exec G.code G.K hP q0 1 ha rfl hout dg (fun tx htx => by subst htx; exact x_noteAI G (index_text_modelled i N) (index_text_bytes i (by omega)) hcat hk hn kk hD hl hP hS)
theorem x_dastZ (G : XO g own cc nL d mc ms) {a N : Nat} {f : Nat → UInt64} {i : Int32} {x : UInt64} (q0 : Nat) (ha : ws[q0]? = some (a, .inl (xT g 5, N, .inr (.inr (.inr (.inl f)))))) (hN : N ≤ 1000) (hout : ¬ vp_in i N) (hcat : (st.map fun v => v.category).sum ≤ 8) (hk : k + 3 ≤ mc) (hn : n + 222 ≤ ms) (dg : decode cc pc = .ok (.dastore, 1)) (kk : XT g nL pc lv st ws (k + 3) (n + 222) "java/lang/ArrayIndexOutOfBoundsException") : X g nL pc lv (.double x :: .int i :: .ref a :: st) ws k n := fun hD H locs ls hl hP hS => vx_dastZ G.exec G.code G.K hP q0 5 ha rfl hout dg (fun tx htx => by subst htx; exact x_noteAI G (index_text_modelled i N) (index_text_bytes i (by omega)) hcat hk hn kk hD hl hP hS)
theorem x_fastZ (G : XO g own cc nL d mc ms) {a N : Nat} {f : Nat → UInt32} {i : Int32} {x : UInt32} (q0 : Nat) (ha : ws[q0]? = some (a, .inl (xT g 4, N, .inr (.inr (.inl f))))) (hN : N ≤ 1000) (hout : ¬ vp_in i N) (hcat : (st.map fun v => v.category).sum ≤ 8) (hk : k + 3 ≤ mc) (hn : n + 222 ≤ ms) (dg : decode cc pc = .ok (.fastore, 1)) (kk : XT g nL pc lv st ws (k + 3) (n + 222) "java/lang/ArrayIndexOutOfBoundsException") : X g nL pc lv (.float x :: .int i :: .ref a :: st) ws k n := fun hD H locs ls hl hP hS => vx_fastZ G.exec G.code G.K hP q0 4 ha rfl hout dg (fun tx htx => by subst htx; exact x_noteAI G (index_text_modelled i N) (index_text_bytes i (by omega)) hcat hk hn kk hD hl hP hS)
theorem x_aaldZ (G : XO g own cc nL d mc ms) {a N ti : Nat} {C : String} {f : Nat → Option Nat} {i : Int32} (q0 : Nat) (ha : ws[q0]? = some (a, .inl (xT g ti, N, .inr (.inr (.inr (.inr f)))))) (ht : (xTy (xT g))[ti]? = some (xT g ti, .object C)) (hN : N ≤ 1000) (hout : ¬ vp_in i N) (hcat : (st.map fun v => v.category).sum ≤ 8) (hk : k + 3 ≤ mc) (hn : n + 222 ≤ ms) (dg : decode cc pc = .ok (.aaload, 1)) (kk : XT g nL pc lv st ws (k + 3) (n + 222) "java/lang/ArrayIndexOutOfBoundsException") : X g nL pc lv (.int i :: .ref a :: st) ws k n := fun hD H locs ls hl hP hS => by
  intro T hT Y
  obtain ⟨t, st1, q⟩ := x_noteAI G (index_text_modelled i N) (index_text_bytes i (by omega)) hcat hk hn kk hD hl hP hS T hT Y
  refine ⟨t, ?_, q⟩
  have h1 := Y.aaloadOut G.exec (by rw [hT]; exact hP q0 _ ha) ((G.K.2 ti _ ht).1 N (fun j => va_rf (f j))) (j := i) (by show (i < 0 ∨ (arrV _ _ _).slots.size ≤ _); rw [arrV_size]; exact Classical.byContradiction hout) (g := F0 (xm g) pc ls (.int i :: .ref a :: st)) rfl (rest := st) rfl (by rw [G.code]; exact dg) t
  simp only [arrV_size] at h1
  exact h1 st1
theorem x_newarrayZ (G : XO g own cc nL d mc ms) {atype : ArrayType} {i : Int32} (h0 : i < 0) (hcat : (st.map fun v => v.category).sum ≤ 8) (hk : k + 3 ≤ mc) (hn : n + 54 ≤ ms) (dg : decode cc pc = .ok (.newarray atype, 2)) (kk : XT g nL pc lv st ws (k + 3) (n + 54) "java/lang/NegativeArraySizeException") : X g nL pc lv (.int i :: st) ws k n := fun hD H locs ls hl hP hS => vx_newarrayZ G.exec G.code h0 dg (fun tx htx => by subst htx; exact x_noteNA G (negative_text_modelled h0) (negative_text_bytes i) hcat hk hn kk hD hl hP hS)
end
section
variable {g : XG} {own : String} {cc : ByteArray} {nL d mc ms pc : Nat} {lv lv' : List (Nat × Value)} {st : List Value} {ws ws' : va_W} {k n : Nat} {S : Type} {wout : S → va_W} {PX : String → S → Prop}
theorem x_callXi {wc wr : va_W} {rest : List Value} {mc' ms' : Nat} {post : Int32 → S → Prop} (G : XO g own cc nL d mc ms) (hsub : XSub ws (wr ++ wc)) (hrun : XRunX g nL pc lv st rest ws wc k n mc' ms' (fun sz => va_Qi post (xB (xD g) wout (va_A wc sz)) (va_A wc sz)) (fun sz => xXC (xD g) wout (va_A wc sz) PX)) (kx : ∀ (E : String) (u : S), PX E u → XT g nL pc lv rest (wr ++ wout u) (k + mc') (n + ms') E) (kk : ∀ (r : Int32) (u : S), post r u → X g nL (pc + 3) lv (.int r :: rest) (wr ++ wout u) (k + mc') (n + ms')) : X g nL pc lv st ws k n := by
  intro hD H locs ls hl hP hS
  obtain ⟨a, hr⟩ := hrun H locs ls hD hl hP hS
  have hF := x_freeA G hsub hD hS
  refine vx_calli hr hS (fun q _ h => hF q h) hF (fun q _ h => hF q h) (fun E ce q9 u t H1 locs1 ht hvm _ hB hz hk hS1 hce hv hcl => ?_) (fun r u t H1 locs1 ht hvm hp hB hz hk hS1 => ?_)
  · obtain ⟨hpx, hP1, hD1⟩ := hB
    rw [ht] at hP1
    obtain ⟨hP2, hD2⟩ := x_join G hsub hD hP hS hk hP1 hD1
    exact kx E u hpx hD2 H1 locs1 ls hl hP2 hS1 q9 ce hce hv hcl
  · obtain ⟨hP1, hD1⟩ := hB
    rw [ht] at hP1
    obtain ⟨hP2, hD2⟩ := x_join G hsub hD hP hS hk hP1 hD1
    exact kk r u hp hD2 H1 locs1 ls hl hP2 hS1
theorem x_callXl {wc wr : va_W} {rest : List Value} {mc' ms' : Nat} {post : Int64 → S → Prop} (G : XO g own cc nL d mc ms) (hsub : XSub ws (wr ++ wc)) (hrun : XRunX g nL pc lv st rest ws wc k n mc' ms' (fun sz => va_Ql post (xB (xD g) wout (va_A wc sz)) (va_A wc sz)) (fun sz => xXC (xD g) wout (va_A wc sz) PX)) (kx : ∀ (E : String) (u : S), PX E u → XT g nL pc lv rest (wr ++ wout u) (k + mc') (n + ms') E) (kk : ∀ (r : Int64) (u : S), post r u → X g nL (pc + 3) lv (.long r :: rest) (wr ++ wout u) (k + mc') (n + ms')) : X g nL pc lv st ws k n := by
  intro hD H locs ls hl hP hS
  obtain ⟨a, hr⟩ := hrun H locs ls hD hl hP hS
  have hF := x_freeA G hsub hD hS
  refine vx_calll hr hS (fun q _ h => hF q h) hF (fun q _ h => hF q h) (fun E ce q9 u t H1 locs1 ht hvm _ hB hz hk hS1 hce hv hcl => ?_) (fun r u t H1 locs1 ht hvm hp hB hz hk hS1 => ?_)
  · obtain ⟨hpx, hP1, hD1⟩ := hB
    rw [ht] at hP1
    obtain ⟨hP2, hD2⟩ := x_join G hsub hD hP hS hk hP1 hD1
    exact kx E u hpx hD2 H1 locs1 ls hl hP2 hS1 q9 ce hce hv hcl
  · obtain ⟨hP1, hD1⟩ := hB
    rw [ht] at hP1
    obtain ⟨hP2, hD2⟩ := x_join G hsub hD hP hS hk hP1 hD1
    exact kk r u hp hD2 H1 locs1 ls hl hP2 hS1
theorem x_callXf {wc wr : va_W} {rest : List Value} {mc' ms' : Nat} {post : UInt32 → S → Prop} (G : XO g own cc nL d mc ms) (hsub : XSub ws (wr ++ wc)) (hrun : XRunX g nL pc lv st rest ws wc k n mc' ms' (fun sz => va_Qf post (xB (xD g) wout (va_A wc sz)) (va_A wc sz)) (fun sz => xXC (xD g) wout (va_A wc sz) PX)) (kx : ∀ (E : String) (u : S), PX E u → XT g nL pc lv rest (wr ++ wout u) (k + mc') (n + ms') E) (kk : ∀ (r : UInt32) (u : S), post r u → X g nL (pc + 3) lv (.float r :: rest) (wr ++ wout u) (k + mc') (n + ms')) : X g nL pc lv st ws k n := by
  intro hD H locs ls hl hP hS
  obtain ⟨a, hr⟩ := hrun H locs ls hD hl hP hS
  have hF := x_freeA G hsub hD hS
  refine vx_callf hr hS (fun q _ h => hF q h) hF (fun q _ h => hF q h) (fun E ce q9 u t H1 locs1 ht hvm _ hB hz hk hS1 hce hv hcl => ?_) (fun r u t H1 locs1 ht hvm hp hB hz hk hS1 => ?_)
  · obtain ⟨hpx, hP1, hD1⟩ := hB
    rw [ht] at hP1
    obtain ⟨hP2, hD2⟩ := x_join G hsub hD hP hS hk hP1 hD1
    exact kx E u hpx hD2 H1 locs1 ls hl hP2 hS1 q9 ce hce hv hcl
  · obtain ⟨hP1, hD1⟩ := hB
    rw [ht] at hP1
    obtain ⟨hP2, hD2⟩ := x_join G hsub hD hP hS hk hP1 hD1
    exact kk r u hp hD2 H1 locs1 ls hl hP2 hS1
theorem x_callXd {wc wr : va_W} {rest : List Value} {mc' ms' : Nat} {post : UInt64 → S → Prop} (G : XO g own cc nL d mc ms) (hsub : XSub ws (wr ++ wc)) (hrun : XRunX g nL pc lv st rest ws wc k n mc' ms' (fun sz => va_Qd post (xB (xD g) wout (va_A wc sz)) (va_A wc sz)) (fun sz => xXC (xD g) wout (va_A wc sz) PX)) (kx : ∀ (E : String) (u : S), PX E u → XT g nL pc lv rest (wr ++ wout u) (k + mc') (n + ms') E) (kk : ∀ (r : UInt64) (u : S), post r u → X g nL (pc + 3) lv (.double r :: rest) (wr ++ wout u) (k + mc') (n + ms')) : X g nL pc lv st ws k n := by
  intro hD H locs ls hl hP hS
  obtain ⟨a, hr⟩ := hrun H locs ls hD hl hP hS
  have hF := x_freeA G hsub hD hS
  refine vx_calld hr hS (fun q _ h => hF q h) hF (fun q _ h => hF q h) (fun E ce q9 u t H1 locs1 ht hvm _ hB hz hk hS1 hce hv hcl => ?_) (fun r u t H1 locs1 ht hvm hp hB hz hk hS1 => ?_)
  · obtain ⟨hpx, hP1, hD1⟩ := hB
    rw [ht] at hP1
    obtain ⟨hP2, hD2⟩ := x_join G hsub hD hP hS hk hP1 hD1
    exact kx E u hpx hD2 H1 locs1 ls hl hP2 hS1 q9 ce hce hv hcl
  · obtain ⟨hP1, hD1⟩ := hB
    rw [ht] at hP1
    obtain ⟨hP2, hD2⟩ := x_join G hsub hD hP hS hk hP1 hD1
    exact kk r u hp hD2 H1 locs1 ls hl hP2 hS1
theorem x_callXq {wc wr : va_W} {rest : List Value} {mc' ms' : Nat} {post : Option Nat → S → Prop} (G : XO g own cc nL d mc ms) (hsub : XSub ws (wr ++ wc)) (hrun : XRunX g nL pc lv st rest ws wc k n mc' ms' (fun sz => va_Qq post (xB (xD g) wout (va_A wc sz)) (va_A wc sz)) (fun sz => xXC (xD g) wout (va_A wc sz) PX)) (kx : ∀ (E : String) (u : S), PX E u → XT g nL pc lv rest (wr ++ wout u) (k + mc') (n + ms') E) (kk : ∀ (r : Option Nat) (u : S), post r u → X g nL (pc + 3) lv (va_rf r :: rest) (wr ++ wout u) (k + mc') (n + ms')) : X g nL pc lv st ws k n := by
  intro hD H locs ls hl hP hS
  obtain ⟨a, hr⟩ := hrun H locs ls hD hl hP hS
  have hF := x_freeA G hsub hD hS
  refine vx_callq hr hS (fun q _ h => hF q h) hF (fun q _ h => hF q h) (fun E ce q9 u t H1 locs1 ht hvm _ hB hz hk hS1 hce hv hcl => ?_) (fun r u t H1 locs1 ht hvm hp hB hz hk hS1 => ?_)
  · obtain ⟨hpx, hP1, hD1⟩ := hB
    rw [ht] at hP1
    obtain ⟨hP2, hD2⟩ := x_join G hsub hD hP hS hk hP1 hD1
    exact kx E u hpx hD2 H1 locs1 ls hl hP2 hS1 q9 ce hce hv hcl
  · obtain ⟨hP1, hD1⟩ := hB
    rw [ht] at hP1
    obtain ⟨hP2, hD2⟩ := x_join G hsub hD hP hS hk hP1 hD1
    exact kk r u hp hD2 H1 locs1 ls hl hP2 hS1
theorem x_callXv {wc wr : va_W} {rest : List Value} {mc' ms' : Nat} {post : S → Prop} (G : XO g own cc nL d mc ms) (hsub : XSub ws (wr ++ wc)) (hrun : XRunX g nL pc lv st rest ws wc k n mc' ms' (fun sz => va_Qv post (xB (xD g) wout (va_A wc sz)) (va_A wc sz)) (fun sz => xXC (xD g) wout (va_A wc sz) PX)) (kx : ∀ (E : String) (u : S), PX E u → XT g nL pc lv rest (wr ++ wout u) (k + mc') (n + ms') E) (kk : ∀ u : S, post u → X g nL (pc + 3) lv rest (wr ++ wout u) (k + mc') (n + ms')) : X g nL pc lv st ws k n := by
  intro hD H locs ls hl hP hS
  obtain ⟨a, hr⟩ := hrun H locs ls hD hl hP hS
  have hF := x_freeA G hsub hD hS
  refine vx_callv hr hS (fun q _ h => hF q h) hF (fun q _ h => hF q h) (fun E ce q9 u t H1 locs1 ht hvm _ hB hz hk hS1 hce hv hcl => ?_) (fun u t H1 locs1 ht hvm hp hB hz hk hS1 => ?_)
  · obtain ⟨hpx, hP1, hD1⟩ := hB
    rw [ht] at hP1
    obtain ⟨hP2, hD2⟩ := x_join G hsub hD hP hS hk hP1 hD1
    exact kx E u hpx hD2 H1 locs1 ls hl hP2 hS1 q9 ce hce hv hcl
  · obtain ⟨hP1, hD1⟩ := hB
    rw [ht] at hP1
    obtain ⟨hP2, hD2⟩ := x_join G hsub hD hP hS hk hP1 hD1
    exact kk u hp hD2 H1 locs1 ls hl hP2 hS1
variable {y : MethodName} {bytes : ByteArray} {maxL d' mc' ms' i : Nat} {ret : Option FieldType} {wc wr : va_W} {Qc : Nat → Array Value → State → Outcome → State → Prop} {XCc : Nat → String → State → State → Prop} {b : Nat} {As rest : List Value}
theorem x_runXV (G : XO g own cc nL d mc ms) {C : String} (hsub : XSub ws (wr ++ wc)) (hM : ∀ sz, vx_Met (xl g) y (ws_ y bytes maxL ret) (xR d' mc' ms') (xPc (xD g) (xT g) (.ref b :: As) wc sz) (Qc sz) (XCc sz) mc' ms' (va_A wc sz)) (hV : GoodIn lw_all (wsV own i C y (ws_ y bytes maxL ret))) (hd : y.cls = C ∧ y.cls ≠ "java/lang/invoke/MethodHandle" ∧ y.cls ≠ "java/lang/invoke/VarHandle" ∧ (parseMethodDescriptor y.desc).map (fun d => d.parameters.length) = some As.length) (ci q0 : Nat) {q : vw_C} {fs : List Value} (hc : xCl[ci]? = some q) (he : ws[q0]? = some (b, .inr (ci, fs))) (hCq : q.1 = C) (hdep : d' + 1 ≤ d) (hmax : maxL ≤ 45) (hst : st = As.reverse ++ .ref b :: rest) (hcat : (rest.map fun v => v.category).sum ≤ 8) (hk : k + mc' ≤ mc) (hn : n + ms' ≤ ms) (dg : decode cc pc = .ok (.invokevirtual i, 3)) : XRunX g nL pc lv st rest ws wc k n mc' ms' Qc XCc := by
  intro H locs ls hD hl hP hS
  refine ⟨_, vx_runV (As := As) (rest := rest) ⟨G.exec, G.code, G.maxL, G.cls, G.hts⟩ (hM H.size) (cwV As.length G.hts hV rfl rfl rfl hd (by rw [G.room]; exact ⟨by show 10 + d' + 1 ≤ 10 + d; omega, by show 8 + (maxL + 11) + (11000 + 64 * d') ≤ 11000 + 64 * d; omega⟩)) ⟨xPc_blind, by rw [← hCq]; exact va_recv G.K hP hc he, fun U hU hW => xPc_at G hsub hD hP hS U hU hW⟩ rfl rfl hl.1 hst (lv_room hcat) dg (by rw [G.room]; exact ⟨hk, hn⟩)⟩
theorem x_runXS (G : XO g own cc nL d mc ms) (hsub : XSub ws (wr ++ wc)) (hM : ∀ sz, vx_Met (xl g) y (ws_ y bytes maxL ret) (xR d' mc' ms') (xPc (xD g) (xT g) As wc sz) (Qc sz) (XCc sz) mc' ms' (va_A wc sz)) (hV : GoodIn lw_all (va_wsS own i y (ws_ y bytes maxL ret))) (hd : y.cls ≠ "java/lang/invoke/MethodHandle" ∧ y.cls ≠ "java/lang/invoke/VarHandle" ∧ (parseMethodDescriptor y.desc).map (fun d => d.parameters.length) = some As.length) (hdep : d' + 1 ≤ d) (hmax : maxL ≤ 45) (hst : st = As.reverse ++ rest) (hcat : (rest.map fun v => v.category).sum ≤ 8) (hk : k + mc' ≤ mc) (hn : n + ms' ≤ ms) (dg : decode cc pc = .ok (.invokestatic i, 3)) : XRunX g nL pc lv st rest ws wc k n mc' ms' Qc XCc := by
  intro H locs ls hD hl hP hS
  refine ⟨_, vx_runS (As := As) (rest := rest) ⟨G.exec, G.code, G.maxL, G.cls, G.hts⟩ (hM H.size) (va_cwS As.length G.hts hV rfl rfl rfl hd (by rw [G.room]; exact ⟨by show 10 + d' + 1 ≤ 10 + d; omega, by show 8 + (maxL + 11) + (11000 + 64 * d') ≤ 11000 + 64 * d; omega⟩)) ⟨xPc_blind, fun U hU hW => xPc_at G hsub hD hP hS U hU hW⟩ rfl rfl hl.1 hst (lv_room hcat) dg (by rw [G.room]; exact ⟨hk, hn⟩)⟩
theorem x_runXI (G : XO g own cc nL d mc ms) (hsub : XSub ws (wr ++ wc)) (hM : ∀ sz, vx_Met (xl g) y (ws_ y bytes maxL none) (xR d' mc' ms') (xPc (xD g) (xT g) (.ref b :: As) wc sz) (Qc sz) (XCc sz) mc' ms' (va_A wc sz)) (hV : GoodIn lw_all (ws_ y bytes maxL none)) (hini : Cond.initialized y.cls ∈ lw_all) (hlk : Cond.methodLink own i y ∈ lw_all) (hin : Cond.instanceMethod y ∈ lw_all) (hy1 : y.name = "<init>") (hd : y.cls ≠ "java/lang/invoke/MethodHandle" ∧ y.cls ≠ "java/lang/invoke/VarHandle" ∧ (parseMethodDescriptor y.desc).map (fun d => d.parameters.length) = some As.length) (hdep : d' + 1 ≤ d) (hmax : maxL ≤ 45) (hst : st = As.reverse ++ .ref b :: rest) (hcat : (rest.map fun v => v.category).sum ≤ 8) (hk : k + mc' ≤ mc) (hn : n + ms' ≤ ms) (dg : decode cc pc = .ok (.invokespecial i, 3)) : XRunX g nL pc lv st rest ws wc k n mc' ms' Qc XCc := by
  intro H locs ls hD hl hP hS
  refine ⟨_, vx_runI (As := As) (rest := rest) ⟨G.exec, G.code, G.maxL, G.cls, G.hts⟩ (hM H.size) (cwI As.length G.hts hV rfl rfl rfl (G.hts _ hini) (G.hts _ hlk) (G.hts _ hin) hy1 hd (by rw [G.room]; exact ⟨by show 10 + d' + 1 ≤ 10 + d; omega, by show 8 + (maxL + 11) + (11000 + 64 * d') ≤ 11000 + 64 * d; omega⟩)) ⟨xPc_blind, fun U hU hW => xPc_at G hsub hD hP hS U hU hW⟩ rfl rfl hl.1 hst (lv_room hcat) dg (by rw [G.room]; exact ⟨hk, hn⟩)⟩
theorem x_runXU (G : XO g own cc nL d mc ms) {C owner : String} {x : MethodName} (hsub : XSub ws (wr ++ wc)) (hM : ∀ sz, vx_Met (xl g) y (ws_ y bytes maxL ret) (xR d' mc' ms') (xPc (xD g) (xT g) (.ref b :: As) wc sz) (Qc sz) (XCc sz) mc' ms' (va_A wc sz)) (hlk : Cond.methodLink own i x ∈ lw_all) (hsame : Cond.sameMethod x.cls owner x.name x.desc ∈ lw_all) (hdecl : va_Decl (xs g) ⟨owner, x.name, x.desc⟩) (hsel : Cond.selects C x y ∈ lw_all) (hinst : Cond.instanceMethod y ∈ lw_all) (hini : Cond.initialized y.cls ∈ lw_all) (hcode : Cond.code y bytes maxL ret ∈ lw_all) (hd : owner ≠ "java/lang/invoke/MethodHandle" ∧ owner ≠ "java/lang/invoke/VarHandle" ∧ (parseMethodDescriptor x.desc).map (fun d => d.parameters.length) = some As.length) (ci q0 : Nat) {q : vw_C} {fs : List Value} (hc : xCl[ci]? = some q) (he : ws[q0]? = some (b, .inr (ci, fs))) (hCq : q.1 = C) (hdep : d' + 1 ≤ d) (hmax : maxL ≤ 45) (hst : st = As.reverse ++ .ref b :: rest) (hcat : (rest.map fun v => v.category).sum ≤ 8) (hk : k + mc' ≤ mc) (hn : n + ms' ≤ ms) (dg : decode cc pc = .ok (.invokevirtual i, 3)) : XRunX g nL pc lv st rest ws wc k n mc' ms' Qc XCc := by
  intro H locs ls hD hl hP hS
  refine ⟨_, vx_runU (C := C) (owner := owner) (As := As) (rest := rest) ⟨G.exec, G.code, G.maxL, G.cls, G.hts⟩ (hM H.size) ⟨⟨rfl, rfl, by rw [G.room]; show 10 + d' + 1 ≤ 10 + d; omega, by rw [G.room]; show 8 + (maxL + 11) + (11000 + 64 * d') ≤ 11000 + 64 * d; omega, pay_in G.hts (lw_meth hcode), List.mem_cons_self⟩, G.hts _ hcode, G.hts _ hini, ⟨hd.1, hd.2.1⟩, fun sig h => ?_, G.hts _ hlk, G.hts _ hsame, hdecl, G.hts _ hsel, G.hts _ hinst⟩ ⟨xPc_blind, by rw [← hCq]; exact va_recv G.K hP hc he, fun U hU hW => xPc_at G hsub hD hP hS U hU hW⟩ rfl rfl hl.1 hst (lv_room hcat) dg (by rw [G.room]; exact ⟨hk, hn⟩)⟩
  have h2 := hd.2.2
  rw [h] at h2
  exact (Option.some.inj h2).symm
theorem x_runXSU (G : XO g own cc nL d mc ms) (hsub : XSub ws (wr ++ wc)) (hM : ∀ sz, vx_Met (xl g) y (ws_ y bytes maxL ret) (xR d' mc' ms') (xPc (xD g) (xT g) (.ref b :: As) wc sz) (Qc sz) (XCc sz) mc' ms' (va_A wc sz)) (hlk : Cond.methodLink own i y ∈ lw_all) (hsame : Cond.sameMethod y.cls y.cls y.name y.desc ∈ lw_all) (hsup : Cond.superclass own y.cls ∈ lw_all) (hinst : Cond.instanceMethod y ∈ lw_all) (hini : Cond.initialized y.cls ∈ lw_all) (hcode : Cond.code y bytes maxL ret ∈ lw_all) (hd : y.name ≠ "<init>" ∧ (parseMethodDescriptor y.desc).map (fun d => d.parameters.length) = some As.length) (ci q0 : Nat) {q : vw_C} {fs : List Value} (hc : xCl[ci]? = some q) (he : ws[q0]? = some (b, .inr (ci, fs))) (hdep : d' + 1 ≤ d) (hmax : maxL ≤ 45) (hst : st = As.reverse ++ .ref b :: rest) (hcat : (rest.map fun v => v.category).sum ≤ 8) (hk : k + mc' ≤ mc) (hn : n + ms' ≤ ms) (dg : decode cc pc = .ok (.invokespecial i, 3)) : XRunX g nL pc lv st rest ws wc k n mc' ms' Qc XCc := by
  intro H locs ls hD hl hP hS
  refine ⟨_, vx_runSU (C := q.1) (As := As) (rest := rest) (G.K.1 ci _ hc).2 ⟨G.exec, G.code, G.maxL, G.cls, G.hts⟩ (hM H.size) ⟨⟨rfl, rfl, by rw [G.room]; show 10 + d' + 1 ≤ 10 + d; omega, by rw [G.room]; show 8 + (maxL + 11) + (11000 + 64 * d') ≤ 11000 + 64 * d; omega, pay_in G.hts (lw_meth hcode), List.mem_cons_self⟩, G.hts _ hlk, G.hts _ hsame, G.hts _ hsup, G.hts _ hinst, G.hts _ hini, G.hts _ hcode, hd.1, fun sig h => ?_⟩ ⟨xPc_blind, va_recv G.K hP hc he, fun U hU hW => xPc_at G hsub hD hP hS U hU hW⟩ rfl rfl hl.1 hst (lv_room hcat) dg (by rw [G.room]; exact ⟨hk, hn⟩)⟩
  have h2 := hd.2
  rw [h] at h2
  exact (Option.some.inj h2).symm
theorem x_runXIN (G : XO g own cc nL d mc ms) {host : String} (hsub : XSub ws (wr ++ wc)) (hM : ∀ sz, vx_Met (xl g) y (ws_ y bytes maxL none) (xR d' mc' ms') (xPc (xD g) (xT g) (.ref b :: As) wc sz) (Qc sz) (XCc sz) mc' ms' (va_A wc sz)) (hlk : (own, i, y, host) ∈ xNM) (hinst : Cond.instanceMethod y ∈ lw_all) (hini : Cond.initialized y.cls ∈ lw_all) (hcode : Cond.code y bytes maxL none ∈ lw_all) (hy1 : y.name = "<init>") (hd : y.cls ≠ "java/lang/invoke/MethodHandle" ∧ y.cls ≠ "java/lang/invoke/VarHandle" ∧ (parseMethodDescriptor y.desc).map (fun d => d.parameters.length) = some As.length) (hdep : d' + 1 ≤ d) (hmax : maxL ≤ 45) (hst : st = As.reverse ++ .ref b :: rest) (hcat : (rest.map fun v => v.category).sum ≤ 8) (hk : k + mc' ≤ mc) (hn : n + ms' ≤ ms) (dg : decode cc pc = .ok (.invokespecial i, 3)) : XRunX g nL pc lv st rest ws wc k n mc' ms' Qc XCc := by
  intro H locs ls hD hl hP hS
  refine ⟨_, vx_runIN (As := As) (rest := rest) ⟨G.exec, G.code, G.maxL, G.cls, G.hts⟩ (hM H.size) ⟨va_cnB As.length G.hts (lw_meth hcode) rfl rfl rfl (G.E.2.1.2.1 _ hlk) (G.hts _ hini) hd (by rw [G.room]; exact ⟨by show 10 + d' + 1 ≤ 10 + d; omega, by show 8 + (maxL + 11) + (11000 + 64 * d') ≤ 11000 + 64 * d; omega⟩), hy1, G.hts _ hinst⟩ ⟨xPc_blind, fun U hU hW => xPc_at G hsub hD hP hS U hU hW⟩ rfl rfl hl.1 hst (lv_room hcat) dg (by rw [G.room]; exact ⟨hk, hn⟩)⟩
end
